theorem q125 : (Jvm.Cond.initialized "AskedNamesLaw") ∈ lw_all := lw_g (lw_at lw_m1 0 rfl) rfl
set_option maxRecDepth 100000
theorem q174 : (Jvm.Cond.classLink "AskedNamesLaw" (7 : Nat) "AskedNames") ∈ lw_all := lw_g (lw_at lw_m1 49 rfl) rfl
theorem q176 : (Jvm.Cond.methodLink "AskedNamesLaw" (9 : Nat) ({ cls := "AskedNames", name := "<init>", desc := "()V" } : Jvm.MethodName)) ∈ lw_all := lw_g (lw_at lw_m1 51 rfl) rfl
theorem q257 : (Jvm.Cond.methodLink "AskedNamesLaw" (13 : Nat) ({ cls := "AskedNames", name := "feed", desc := "(IIIII)I" } : Jvm.MethodName)) ∈ lw_all := lw_g (lw_at lw_m1 132 rfl) rfl
theorem q261 : (Jvm.Cond.methodLink "AskedNamesLaw" (18 : Nat) ({ cls := "AskedNames", name := "end", desc := "(I)I" } : Jvm.MethodName)) ∈ lw_all := lw_g (lw_at lw_m1 136 rfl) rfl
theorem q265 : (Jvm.Cond.methodLink "AskedNamesLaw" (23 : Nat) ({ cls := "AskedNames", name := "text", desc := "(II)I" } : Jvm.MethodName)) ∈ lw_all := lw_g (lw_at lw_m1 140 rfl) rfl
theorem q1025 : (Jvm.Cond.methodLink "AskedNamesLaw" (28 : Nat) ({ cls := "AskedNames", name := "fault", desc := "(I)I" } : Jvm.MethodName)) ∈ lw_all := lw_g (lw_at lw_m4 180 rfl) rfl
theorem q1029 : (Jvm.Cond.methodLink "AskedNamesLaw" (32 : Nat) ({ cls := "AskedNames", name := "net", desc := "(II)I" } : Jvm.MethodName)) ∈ lw_all := lw_g (lw_at lw_m4 184 rfl) rfl
theorem q1076 : (Jvm.Cond.methodLink "AskedNamesLaw" (67 : Nat) ({ cls := "AskedNames", name := "table", desc := "(III)I" } : Jvm.MethodName)) ∈ lw_all := lw_g (lw_at lw_m4 231 rfl) rfl
theorem q1288 : (Jvm.Cond.methodLink "AskedNamesLaw" (71 : Nat) ({ cls := "AskedNames", name := "ways", desc := "(IIIZ)I" } : Jvm.MethodName)) ∈ lw_all := lw_g (lw_at lw_m5 203 rfl) rfl
theorem q1415 : (Jvm.Cond.methodLink "AskedNamesLaw" (76 : Nat) ({ cls := "AskedNames", name := "trail", desc := "(IIII)I" } : Jvm.MethodName)) ∈ lw_all := lw_g (lw_at lw_m6 90 rfl) rfl
theorem q1446 : (Jvm.Cond.methodLink "AskedNamesLaw" (80 : Nat) ({ cls := "AskedNames", name := "far", desc := "(III)I" } : Jvm.MethodName)) ∈ lw_all := lw_g (lw_at lw_m6 121 rfl) rfl
theorem q1461 : (Jvm.Cond.methodLink "AskedNamesLaw" (100 : Nat) ({ cls := "AskedNames", name := "edges", desc := "(II)I" } : Jvm.MethodName)) ∈ lw_all := lw_g (lw_at lw_m6 136 rfl) rfl
theorem q1490 : (Jvm.Cond.methodLink "AskedNamesLaw" (36 : Nat) ({ cls := "AskedNames", name := "deed", desc := "(III)I" } : Jvm.MethodName)) ∈ lw_all := lw_g (lw_at lw_m6 165 rfl) rfl
theorem q1508 : (Jvm.Cond.methodLink "AskedNamesLaw" (41 : Nat) ({ cls := "AskedNames", name := "stop", desc := "(II)I" } : Jvm.MethodName)) ∈ lw_all := lw_g (lw_at lw_m6 183 rfl) rfl
theorem q1916 : (Jvm.Cond.methodLink "AskedNamesLaw" (45 : Nat) ({ cls := "AskedNames", name := "state", desc := "(IIII)I" } : Jvm.MethodName)) ∈ lw_all := lw_g (lw_at lw_m8 111 rfl) rfl
theorem q1941 : (Jvm.Cond.methodLink "AskedNamesLaw" (50 : Nat) ({ cls := "AskedNames", name := "stored", desc := "(IIIIII)I" } : Jvm.MethodName)) ∈ lw_all := lw_g (lw_at lw_m8 136 rfl) rfl
theorem q1947 : (Jvm.Cond.methodLink "AskedNamesLaw" (55 : Nat) ({ cls := "AskedNames", name := "entry", desc := "(IIIIII)I" } : Jvm.MethodName)) ∈ lw_all := lw_g (lw_at lw_m8 142 rfl) rfl
theorem q1952 : (Jvm.Cond.methodLink "AskedNamesLaw" (59 : Nat) ({ cls := "AskedNames", name := "why", desc := "(IIII)I" } : Jvm.MethodName)) ∈ lw_all := lw_g (lw_at lw_m8 147 rfl) rfl
theorem q1956 : (Jvm.Cond.methodLink "AskedNamesLaw" (96 : Nat) ({ cls := "AskedNames", name := "after", desc := "(III)I" } : Jvm.MethodName)) ∈ lw_all := lw_g (lw_at lw_m8 151 rfl) rfl
theorem q1972 : (Jvm.Cond.methodLink "AskedNamesLaw" (63 : Nat) ({ cls := "AskedNames", name := "alone", desc := "(IIIII)I" } : Jvm.MethodName)) ∈ lw_all := lw_g (lw_at lw_m8 167 rfl) rfl
theorem q1978 : (Jvm.Cond.methodLink "AskedNamesLaw" (84 : Nat) ({ cls := "AskedNames", name := "fact", desc := "(III)I" } : Jvm.MethodName)) ∈ lw_all := lw_g (lw_at lw_m8 173 rfl) rfl
theorem q1983 : (Jvm.Cond.methodLink "AskedNamesLaw" (88 : Nat) ({ cls := "AskedNames", name := "fits", desc := "(IIII)I" } : Jvm.MethodName)) ∈ lw_all := lw_g (lw_at lw_m8 178 rfl) rfl
theorem q2036 : (Jvm.Cond.methodLink "AskedNamesLaw" (92 : Nat) ({ cls := "AskedNames", name := "drawn", desc := "(IIII)I" } : Jvm.MethodName)) ∈ lw_all := lw_g (lw_at lw_m8 231 rfl) rfl
theorem q2129 : (Jvm.Cond.methodLink "AskedNamesLaw" (104 : Nat) ({ cls := "AskedNames", name := "count", desc := "(I)I" } : Jvm.MethodName)) ∈ lw_all := lw_g (lw_at lw_m9 84 rfl) rfl
theorem q2133 : (Jvm.Cond.methodLink "AskedNamesLaw" (108 : Nat) ({ cls := "AskedNames", name := "image", desc := "(I)Z" } : Jvm.MethodName)) ∈ lw_all := lw_g (lw_at lw_m9 88 rfl) rfl
theorem q2160 : (Jvm.Cond.methodLink "AskedNamesLaw" (113 : Nat) ({ cls := "AskedNames", name := "again", desc := "(I)Z" } : Jvm.MethodName)) ∈ lw_all := lw_g (lw_at lw_m9 115 rfl) rfl
theorem q2164 : (Jvm.Cond.classLink "AskedNamesLaw" (10 : Nat) "AskedNamesModel") ∈ lw_all := lw_g (lw_at lw_m9 119 rfl) rfl
theorem q2166 : (Jvm.Cond.methodLink "AskedNamesLaw" (12 : Nat) ({ cls := "AskedNamesModel", name := "<init>", desc := "()V" } : Jvm.MethodName)) ∈ lw_all := lw_g (lw_at lw_m9 121 rfl) rfl
theorem q2433 : (Jvm.Cond.methodLink "AskedNamesLaw" (17 : Nat) ({ cls := "AskedNamesModel", name := "feed", desc := "(IIIII)I" } : Jvm.MethodName)) ∈ lw_all := lw_g (lw_at lw_m10 148 rfl) rfl
theorem q2441 : (Jvm.Cond.methodLink "AskedNamesLaw" (22 : Nat) ({ cls := "AskedNamesModel", name := "end", desc := "(I)I" } : Jvm.MethodName)) ∈ lw_all := lw_g (lw_at lw_m10 156 rfl) rfl
theorem q2448 : (Jvm.Cond.methodLink "AskedNamesLaw" (27 : Nat) ({ cls := "AskedNamesModel", name := "text", desc := "(II)I" } : Jvm.MethodName)) ∈ lw_all := lw_g (lw_at lw_m10 163 rfl) rfl
theorem q2555 : (Jvm.Cond.methodLink "AskedNamesLaw" (31 : Nat) ({ cls := "AskedNamesModel", name := "fault", desc := "(I)I" } : Jvm.MethodName)) ∈ lw_all := lw_g (lw_at lw_m11 30 rfl) rfl
theorem q2559 : (Jvm.Cond.methodLink "AskedNamesLaw" (35 : Nat) ({ cls := "AskedNamesModel", name := "net", desc := "(II)I" } : Jvm.MethodName)) ∈ lw_all := lw_g (lw_at lw_m11 34 rfl) rfl
theorem q2607 : (Jvm.Cond.methodLink "AskedNamesLaw" (40 : Nat) ({ cls := "AskedNamesModel", name := "deed", desc := "(III)I" } : Jvm.MethodName)) ∈ lw_all := lw_g (lw_at lw_m11 82 rfl) rfl
theorem q2623 : (Jvm.Cond.methodLink "AskedNamesLaw" (44 : Nat) ({ cls := "AskedNamesModel", name := "stop", desc := "(II)I" } : Jvm.MethodName)) ∈ lw_all := lw_g (lw_at lw_m11 98 rfl) rfl
theorem q2792 : (Jvm.Cond.methodLink "AskedNamesLaw" (49 : Nat) ({ cls := "AskedNamesModel", name := "state", desc := "(IIII)I" } : Jvm.MethodName)) ∈ lw_all := lw_g (lw_at lw_m12 27 rfl) rfl
theorem q2810 : (Jvm.Cond.methodLink "AskedNamesLaw" (54 : Nat) ({ cls := "AskedNamesModel", name := "stored", desc := "(IIIIII)I" } : Jvm.MethodName)) ∈ lw_all := lw_g (lw_at lw_m12 45 rfl) rfl
theorem q2814 : (Jvm.Cond.methodLink "AskedNamesLaw" (58 : Nat) ({ cls := "AskedNamesModel", name := "entry", desc := "(IIIIII)I" } : Jvm.MethodName)) ∈ lw_all := lw_g (lw_at lw_m12 49 rfl) rfl
theorem q2818 : (Jvm.Cond.methodLink "AskedNamesLaw" (62 : Nat) ({ cls := "AskedNamesModel", name := "why", desc := "(IIII)I" } : Jvm.MethodName)) ∈ lw_all := lw_g (lw_at lw_m12 53 rfl) rfl
theorem q2826 : (Jvm.Cond.methodLink "AskedNamesLaw" (66 : Nat) ({ cls := "AskedNamesModel", name := "alone", desc := "(IIIII)I" } : Jvm.MethodName)) ∈ lw_all := lw_g (lw_at lw_m12 61 rfl) rfl
theorem q2833 : (Jvm.Cond.methodLink "AskedNamesLaw" (70 : Nat) ({ cls := "AskedNamesModel", name := "table", desc := "(III)I" } : Jvm.MethodName)) ∈ lw_all := lw_g (lw_at lw_m12 68 rfl) rfl
theorem q2841 : (Jvm.Cond.methodLink "AskedNamesLaw" (75 : Nat) ({ cls := "AskedNamesModel", name := "ways", desc := "(IIIZ)I" } : Jvm.MethodName)) ∈ lw_all := lw_g (lw_at lw_m12 76 rfl) rfl
theorem q2845 : (Jvm.Cond.methodLink "AskedNamesLaw" (79 : Nat) ({ cls := "AskedNamesModel", name := "trail", desc := "(IIII)I" } : Jvm.MethodName)) ∈ lw_all := lw_g (lw_at lw_m12 80 rfl) rfl
theorem q2853 : (Jvm.Cond.methodLink "AskedNamesLaw" (83 : Nat) ({ cls := "AskedNamesModel", name := "far", desc := "(III)I" } : Jvm.MethodName)) ∈ lw_all := lw_g (lw_at lw_m12 88 rfl) rfl
theorem q2857 : (Jvm.Cond.methodLink "AskedNamesLaw" (87 : Nat) ({ cls := "AskedNamesModel", name := "fact", desc := "(III)I" } : Jvm.MethodName)) ∈ lw_all := lw_g (lw_at lw_m12 92 rfl) rfl
theorem q2873 : (Jvm.Cond.methodLink "AskedNamesLaw" (91 : Nat) ({ cls := "AskedNamesModel", name := "fits", desc := "(IIII)I" } : Jvm.MethodName)) ∈ lw_all := lw_g (lw_at lw_m12 108 rfl) rfl
theorem q2889 : (Jvm.Cond.methodLink "AskedNamesLaw" (95 : Nat) ({ cls := "AskedNamesModel", name := "drawn", desc := "(IIII)I" } : Jvm.MethodName)) ∈ lw_all := lw_g (lw_at lw_m12 124 rfl) rfl
theorem q2902 : (Jvm.Cond.methodLink "AskedNamesLaw" (99 : Nat) ({ cls := "AskedNamesModel", name := "after", desc := "(III)I" } : Jvm.MethodName)) ∈ lw_all := lw_g (lw_at lw_m12 137 rfl) rfl
theorem q2913 : (Jvm.Cond.methodLink "AskedNamesLaw" (103 : Nat) ({ cls := "AskedNamesModel", name := "edges", desc := "(II)I" } : Jvm.MethodName)) ∈ lw_all := lw_g (lw_at lw_m12 148 rfl) rfl
theorem q2929 : (Jvm.Cond.methodLink "AskedNamesLaw" (107 : Nat) ({ cls := "AskedNamesModel", name := "count", desc := "(I)I" } : Jvm.MethodName)) ∈ lw_all := lw_g (lw_at lw_m12 164 rfl) rfl
theorem q2933 : (Jvm.Cond.methodLink "AskedNamesLaw" (112 : Nat) ({ cls := "AskedNamesModel", name := "image", desc := "(I)Z" } : Jvm.MethodName)) ∈ lw_all := lw_g (lw_at lw_m12 168 rfl) rfl
theorem q2944 : (Jvm.Cond.methodLink "AskedNamesLaw" (116 : Nat) ({ cls := "AskedNamesModel", name := "again", desc := "(I)Z" } : Jvm.MethodName)) ∈ lw_all := lw_g (lw_at lw_m12 179 rfl) rfl

theorem q153 : (Jvm.Cond.initialized "AskedNames$Doing") ∈ lw_all := lw_g (lw_at lw_m1 28 rfl) rfl
set_option maxRecDepth 100000
theorem q759 : (Jvm.Cond.selects "AskedNames$Doing" ({ cls := "java/lang/Object", name := "getClass", desc := "()Ljava/lang/Class;" } : Jvm.MethodName) ({ cls := "java/lang/Object", name := "getClass", desc := "()Ljava/lang/Class;" } : Jvm.MethodName)) ∈ lw_all := lw_g (lw_at lw_m3 154 rfl) rfl
theorem q899 : (Jvm.Cond.laysStatic "AskedNames$Doing" "WAIT" "LAskedNames$Doing;") ∈ lw_tbl := lw_at lw_m4 54 rfl
theorem q908 : (Jvm.Cond.laysStatic "AskedNames$Doing" "ASK" "LAskedNames$Doing;") ∈ lw_tbl := lw_at lw_m4 63 rfl
theorem q910 : (Jvm.Cond.laysStatic "AskedNames$Doing" "FRESH" "LAskedNames$Doing;") ∈ lw_tbl := lw_at lw_m4 65 rfl
theorem q1497 : (Jvm.Cond.sameMethod "AskedNames$Doing" "java/lang/Enum" "ordinal" "()I") ∈ lw_all := lw_g (lw_at lw_m6 172 rfl) rfl
theorem q1499 : (Jvm.Cond.selects "AskedNames$Doing" ({ cls := "AskedNames$Doing", name := "ordinal", desc := "()I" } : Jvm.MethodName) ({ cls := "java/lang/Enum", name := "ordinal", desc := "()I" } : Jvm.MethodName)) ∈ lw_all := lw_g (lw_at lw_m6 174 rfl) rfl
theorem q2116 : (Jvm.Cond.laysStatic "AskedNames$Doing" "CUT" "LAskedNames$Doing;") ∈ lw_tbl := lw_at lw_m9 71 rfl
theorem q2118 : (Jvm.Cond.laysStatic "AskedNames$Doing" "MEND" "LAskedNames$Doing;") ∈ lw_tbl := lw_at lw_m9 73 rfl
theorem q2975 : (Jvm.Cond.castable "AskedNames$Doing" "java/lang/Object") ∈ lw_tbl := lw_at lw_m12 210 rfl

theorem q135 : (Jvm.Cond.initialized "AskedNames$Token") ∈ lw_all := lw_g (lw_at lw_m1 10 rfl) rfl
set_option maxRecDepth 100000
theorem q310 : (Jvm.Cond.laysStatic "AskedNames$Token" "END" "LAskedNames$Token;") ∈ lw_tbl := lw_at lw_m1 185 rfl
theorem q502 : (Jvm.Cond.laysStatic "AskedNames$Token" "WORD" "LAskedNames$Token;") ∈ lw_tbl := lw_at lw_m2 137 rfl
theorem q507 : (Jvm.Cond.laysStatic "AskedNames$Token" "BAD" "LAskedNames$Token;") ∈ lw_tbl := lw_at lw_m2 142 rfl
theorem q509 : (Jvm.Cond.laysStatic "AskedNames$Token" "NUMBER" "LAskedNames$Token;") ∈ lw_tbl := lw_at lw_m2 144 rfl
theorem q511 : (Jvm.Cond.laysStatic "AskedNames$Token" "SIGN" "LAskedNames$Token;") ∈ lw_tbl := lw_at lw_m2 146 rfl
theorem q777 : (Jvm.Cond.selects "AskedNames$Token" ({ cls := "java/lang/Object", name := "getClass", desc := "()Ljava/lang/Class;" } : Jvm.MethodName) ({ cls := "java/lang/Object", name := "getClass", desc := "()Ljava/lang/Class;" } : Jvm.MethodName)) ∈ lw_all := lw_g (lw_at lw_m3 172 rfl) rfl
theorem q2980 : (Jvm.Cond.castable "AskedNames$Token" "java/lang/Object") ∈ lw_tbl := lw_at lw_m12 215 rfl

theorem q382 : (Jvm.Cond.sameMethod "[B" "java/lang/Object" "clone" "()Ljava/lang/Object;") ∈ lw_all := lw_g (lw_at lw_m2 17 rfl) rfl
set_option maxRecDepth 100000
theorem q385 : (Jvm.Cond.selects "[B" ({ cls := "[B", name := "clone", desc := "()Ljava/lang/Object;" } : Jvm.MethodName) ({ cls := "java/lang/Object", name := "clone", desc := "()Ljava/lang/Object;" } : Jvm.MethodName)) ∈ lw_all := lw_g (lw_at lw_m2 20 rfl) rfl
theorem q386 : (Jvm.Cond.castable "[B" "java/lang/Cloneable") ∈ lw_tbl := lw_at lw_m2 21 rfl
theorem q3007 : (Jvm.Cond.castable "[B" "java/lang/Object") ∈ lw_tbl := lw_at lw_m13 2 rfl

theorem q1442 : (Jvm.Cond.sameMethod "[I" "java/lang/Object" "clone" "()Ljava/lang/Object;") ∈ lw_all := lw_g (lw_at lw_m6 117 rfl) rfl
set_option maxRecDepth 100000
theorem q1443 : (Jvm.Cond.selects "[I" ({ cls := "[I", name := "clone", desc := "()Ljava/lang/Object;" } : Jvm.MethodName) ({ cls := "java/lang/Object", name := "clone", desc := "()Ljava/lang/Object;" } : Jvm.MethodName)) ∈ lw_all := lw_g (lw_at lw_m6 118 rfl) rfl
theorem q1444 : (Jvm.Cond.castable "[I" "java/lang/Cloneable") ∈ lw_tbl := lw_at lw_m6 119 rfl
theorem q3009 : (Jvm.Cond.castable "[I" "java/lang/Object") ∈ lw_tbl := lw_at lw_m13 4 rfl

theorem q3012 : (Jvm.Cond.castable "[J" "java/lang/Object") ∈ lw_tbl := lw_at lw_m13 7 rfl
set_option maxRecDepth 100000

theorem q3014 : (Jvm.Cond.castable "[LAskedNames$Doing;" "java/lang/Object") ∈ lw_tbl := lw_at lw_m13 9 rfl
set_option maxRecDepth 100000

theorem q3008 : (Jvm.Cond.castable "[LAskedNames$State;" "java/lang/Object") ∈ lw_tbl := lw_at lw_m13 3 rfl
set_option maxRecDepth 100000

theorem q3003 : (Jvm.Cond.sameMethod "[Ljava/lang/Object;" "java/lang/Object" "getClass" "()Ljava/lang/Class;") ∈ lw_all := lw_g (lw_at lw_m12 238 rfl) rfl
set_option maxRecDepth 100000
theorem q3004 : (Jvm.Cond.selects "[Ljava/lang/Object;" ({ cls := "java/lang/Object", name := "getClass", desc := "()Ljava/lang/Class;" } : Jvm.MethodName) ({ cls := "java/lang/Object", name := "getClass", desc := "()Ljava/lang/Class;" } : Jvm.MethodName)) ∈ lw_all := lw_g (lw_at lw_m12 239 rfl) rfl
theorem q3006 : (Jvm.Cond.castable "[Ljava/lang/Object;" "java/lang/Object") ∈ lw_tbl := lw_at lw_m13 1 rfl

theorem q3013 : (Jvm.Cond.castable "[Ljava/lang/String;" "java/lang/Object") ∈ lw_tbl := lw_at lw_m13 8 rfl
set_option maxRecDepth 100000

theorem q3011 : (Jvm.Cond.castable "[Z" "java/lang/Object") ∈ lw_tbl := lw_at lw_m13 6 rfl
set_option maxRecDepth 100000

theorem q3010 : (Jvm.Cond.castable "[[I" "java/lang/Object") ∈ lw_tbl := lw_at lw_m13 5 rfl
set_option maxRecDepth 100000

theorem q167 : (Jvm.Cond.initialized "java/lang/Integer$IntegerCache") ∈ lw_all := lw_g (lw_at lw_m1 42 rfl) rfl
set_option maxRecDepth 100000
theorem q1717 : (Jvm.Cond.laysStatic "java/lang/Integer$IntegerCache" "high" "I") ∈ lw_tbl := lw_at lw_m7 152 rfl
theorem q1719 : (Jvm.Cond.laysStatic "java/lang/Integer$IntegerCache" "cache" "[Ljava/lang/Integer;") ∈ lw_tbl := lw_at lw_m7 154 rfl

theorem q143 : (Jvm.Cond.initialized "java/lang/System") ∈ lw_all := lw_g (lw_at lw_m1 18 rfl) rfl
set_option maxRecDepth 100000
theorem q392 : (Jvm.Cond.static ({ cls := "java/lang/System", name := "arraycopy", desc := "(Ljava/lang/Object;ILjava/lang/Object;II)V" } : Jvm.MethodName)) ∈ lw_all := lw_g (lw_at lw_m2 27 rfl) rfl
theorem q393 : (Jvm.Cond.native ({ cls := "java/lang/System", name := "arraycopy", desc := "(Ljava/lang/Object;ILjava/lang/Object;II)V" } : Jvm.MethodName)) ∈ lw_all := lw_g (lw_at lw_m2 28 rfl) rfl

theorem q2152 : (Jvm.Cond.interfaceMethod "java/util/Collection" "java/util/Collection" "toArray" "()[Ljava/lang/Object;") ∈ lw_tbl := lw_at lw_m9 107 rfl
set_option maxRecDepth 100000
theorem q2153 : (Jvm.Cond.declares ({ cls := "java/util/Collection", name := "toArray", desc := "()[Ljava/lang/Object;" } : Jvm.MethodName)) ∈ lw_tbl := lw_at lw_m9 108 rfl

theorem q1267 : (Jvm.Cond.interfaceMethod "java/util/Iterator" "java/util/Iterator" "hasNext" "()Z") ∈ lw_tbl := lw_at lw_m5 182 rfl
set_option maxRecDepth 100000
theorem q1268 : (Jvm.Cond.declares ({ cls := "java/util/Iterator", name := "hasNext", desc := "()Z" } : Jvm.MethodName)) ∈ lw_tbl := lw_at lw_m5 183 rfl
theorem q1277 : (Jvm.Cond.interfaceMethod "java/util/Iterator" "java/util/Iterator" "next" "()Ljava/lang/Object;") ∈ lw_tbl := lw_at lw_m5 192 rfl
theorem q1278 : (Jvm.Cond.declares ({ cls := "java/util/Iterator", name := "next", desc := "()Ljava/lang/Object;" } : Jvm.MethodName)) ∈ lw_tbl := lw_at lw_m5 193 rfl

theorem q161 : (Jvm.Cond.initialized "jdk/internal/misc/UnsafeConstants") ∈ lw_all := lw_g (lw_at lw_m1 36 rfl) rfl
set_option maxRecDepth 100000
theorem q1173 : (Jvm.Cond.laysStatic "jdk/internal/misc/UnsafeConstants" "BIG_ENDIAN" "Z") ∈ lw_tbl := lw_at lw_m5 88 rfl

theorem q201 : (Jvm.Cond.arrayOver (Jvm.ClassFile.FieldType.object "java/lang/Object")) ∈ lw_tbl := lw_at lw_m1 76 rfl
set_option maxRecDepth 100000
theorem q219 : (Jvm.Cond.arrayClass Jvm.ClassFile.FieldType.byte) ∈ lw_all := lw_g (lw_at lw_m1 94 rfl) rfl
theorem q249 : (Jvm.Cond.arrayOver (Jvm.ClassFile.FieldType.object "AskedNames$State")) ∈ lw_tbl := lw_at lw_m1 124 rfl
theorem q571 : (Jvm.Cond.arrayClass Jvm.ClassFile.FieldType.int) ∈ lw_all := lw_g (lw_at lw_m2 206 rfl) rfl
theorem q1314 : (Jvm.Cond.arrayOver (Jvm.ClassFile.FieldType.array Jvm.ClassFile.FieldType.int)) ∈ lw_tbl := lw_at lw_m5 229 rfl
theorem q1343 : (Jvm.Cond.arrayClass Jvm.ClassFile.FieldType.boolean) ∈ lw_all := lw_g (lw_at lw_m6 18 rfl) rfl
theorem q2432 : (Jvm.Cond.arrayClass Jvm.ClassFile.FieldType.long) ∈ lw_all := lw_g (lw_at lw_m10 147 rfl) rfl
theorem q3018 : (Jvm.Cond.arrayOver (Jvm.ClassFile.FieldType.object "java/lang/String")) ∈ lw_tbl := lw_at lw_m13 13 rfl

/-! AskedNames$State -/
set_option maxRecDepth 100000
def RX1 : String := "AskedNames$State"
def TX1 : u_T := fun k => match k with
  | 0 => ("AskedNames$State", "tape", "[B", true)
  | 1 => ("AskedNames$State", "taped", "I", false)
  | 2 => ("AskedNames$State", "faultKind", "I", false)
  | 3 => ("AskedNames$State", "faultPlace", "I", false)
  | 4 => ("AskedNames$State", "nets", "Ljava/util/ArrayList;", true)
  | 5 => ("AskedNames$State", "runs", "Ljava/util/ArrayList;", true)
  | _ => ("AskedNames$State", "logs", "Ljava/util/ArrayList;", true)
def tyX1 : Nat → FieldType := fun k => match k with
  | 0 => .array .byte
  | 1 => .int
  | 2 => .int
  | 3 => .int
  | 4 => .object "java/util/ArrayList"
  | 5 => .object "java/util/ArrayList"
  | _ => .object "java/util/ArrayList"
abbrev wsX10 : List Cond := u_ws RX1 TX1 7
theorem nmX1 : ∀ a, a < 7 → ∀ b, b < 7 → a ≠ b → (TX1 a).2.1 ≠ (TX1 b).2.1 := by decide +kernel
theorem tyX1_ok : ∀ k, k < 7 → parseFieldDescriptor (TX1 k).2.2.1 = some (tyX1 k) := by decide +kernel
abbrev cX1_init : ByteArray := prog_22_method_1_code
def yX1_init : MethodName := ⟨RX1, "<init>", "()V"⟩
def dkwX1_init_2 : List UInt8 := [183, 0, 21, 181, 0, 31, 177]
abbrev dktX1_init_2 : List UInt8 := dkwX1_init_2 ++ []
def dkwX1_init_1 : List UInt8 := [183, 0, 21, 181, 0, 24, 42, 187, 0, 19, 89, 5, 183, 0, 21, 181, 0, 28, 42, 187, 0, 19, 89, 5]
abbrev dktX1_init_1 : List UInt8 := dkwX1_init_1 ++ dktX1_init_2
def dkwX1_init_0 : List UInt8 := [42, 183, 0, 3, 42, 17, 2, 88, 188, 8, 181, 0, 9, 42, 2, 181, 0, 15, 42, 187, 0, 19, 89, 5]
abbrev dktX1_init_0 : List UInt8 := dkwX1_init_0 ++ dktX1_init_1
theorem dksX1_init_0 : cX1_init.data.toList.drop 0 = dktX1_init_0 := by decide +kernel
theorem dksX1_init_1 : cX1_init.data.toList.drop 24 = dktX1_init_1 := dk_seg dksX1_init_0 24 rfl rfl
theorem dksX1_init_2 : cX1_init.data.toList.drop 48 = dktX1_init_2 := dk_seg dksX1_init_1 24 rfl rfl
theorem dX1_init_0 : decode cX1_init 0 = .ok (.aload_n 0, 1) := dk_42 (dk_at dksX1_init_0 0 rfl rfl)
theorem dX1_init_1 : decode cX1_init 1 = .ok (.invokespecial 3, 3) := dk_183 0 3 (dk_at dksX1_init_0 1 rfl rfl)
theorem dX1_init_4 : decode cX1_init 4 = .ok (.aload_n 0, 1) := dk_42 (dk_at dksX1_init_0 4 rfl rfl)
theorem dX1_init_5 : decode cX1_init 5 = .ok (.sipush 600, 3) := dk_17 2 88 (dk_at dksX1_init_0 5 rfl rfl)
theorem dX1_init_8 : decode cX1_init 8 = .ok (.newarray .byte, 2) := dk_188_8 (dk_at dksX1_init_0 8 rfl rfl)
theorem dX1_init_10 : decode cX1_init 10 = .ok (.putfield 9, 3) := dk_181 0 9 (dk_at dksX1_init_0 10 rfl rfl)
theorem dX1_init_13 : decode cX1_init 13 = .ok (.aload_n 0, 1) := dk_42 (dk_at dksX1_init_0 13 rfl rfl)
theorem dX1_init_14 : decode cX1_init 14 = .ok (.iconst (-1), 1) := dk_2 (dk_at dksX1_init_0 14 rfl rfl)
theorem dX1_init_15 : decode cX1_init 15 = .ok (.putfield 15, 3) := dk_181 0 15 (dk_at dksX1_init_0 15 rfl rfl)
theorem dX1_init_18 : decode cX1_init 18 = .ok (.aload_n 0, 1) := dk_42 (dk_at dksX1_init_0 18 rfl rfl)
theorem dX1_init_19 : decode cX1_init 19 = .ok (.new 19, 3) := dk_187 0 19 (dk_at dksX1_init_0 19 rfl rfl)
theorem dX1_init_22 : decode cX1_init 22 = .ok (.dup, 1) := dk_89 (dk_at dksX1_init_0 22 rfl rfl)
theorem dX1_init_23 : decode cX1_init 23 = .ok (.iconst 2, 1) := dk_5 (dk_at dksX1_init_0 23 rfl rfl)
theorem dX1_init_24 : decode cX1_init 24 = .ok (.invokespecial 21, 3) := dk_183 0 21 (dk_at dksX1_init_1 0 rfl rfl)
theorem dX1_init_27 : decode cX1_init 27 = .ok (.putfield 24, 3) := dk_181 0 24 (dk_at dksX1_init_1 3 rfl rfl)
theorem dX1_init_30 : decode cX1_init 30 = .ok (.aload_n 0, 1) := dk_42 (dk_at dksX1_init_1 6 rfl rfl)
theorem dX1_init_31 : decode cX1_init 31 = .ok (.new 19, 3) := dk_187 0 19 (dk_at dksX1_init_1 7 rfl rfl)
theorem dX1_init_34 : decode cX1_init 34 = .ok (.dup, 1) := dk_89 (dk_at dksX1_init_1 10 rfl rfl)
theorem dX1_init_35 : decode cX1_init 35 = .ok (.iconst 2, 1) := dk_5 (dk_at dksX1_init_1 11 rfl rfl)
theorem dX1_init_36 : decode cX1_init 36 = .ok (.invokespecial 21, 3) := dk_183 0 21 (dk_at dksX1_init_1 12 rfl rfl)
theorem dX1_init_39 : decode cX1_init 39 = .ok (.putfield 28, 3) := dk_181 0 28 (dk_at dksX1_init_1 15 rfl rfl)
theorem dX1_init_42 : decode cX1_init 42 = .ok (.aload_n 0, 1) := dk_42 (dk_at dksX1_init_1 18 rfl rfl)
theorem dX1_init_43 : decode cX1_init 43 = .ok (.new 19, 3) := dk_187 0 19 (dk_at dksX1_init_1 19 rfl rfl)
theorem dX1_init_46 : decode cX1_init 46 = .ok (.dup, 1) := dk_89 (dk_at dksX1_init_1 22 rfl rfl)
theorem dX1_init_47 : decode cX1_init 47 = .ok (.iconst 2, 1) := dk_5 (dk_at dksX1_init_1 23 rfl rfl)
theorem dX1_init_48 : decode cX1_init 48 = .ok (.invokespecial 21, 3) := dk_183 0 21 (dk_at dksX1_init_2 0 rfl rfl)
theorem dX1_init_51 : decode cX1_init 51 = .ok (.putfield 31, 3) := dk_181 0 31 (dk_at dksX1_init_2 3 rfl rfl)
theorem dX1_init_54 : decode cX1_init 54 = .ok (.return_, 1) := dk_177 (dk_at dksX1_init_2 6 rfl rfl)
abbrev cX1_many : ByteArray := prog_22_method_3_code
def yX1_many : MethodName := ⟨RX1, "many", "(I)I"⟩
def dkwX1_many_1 : List UInt8 := [182, 0, 53, 167, 0, 10, 42, 180, 0, 31, 182, 0, 53, 172]
abbrev dktX1_many_1 : List UInt8 := dkwX1_many_1 ++ []
def dkwX1_many_0 : List UInt8 := [27, 154, 0, 13, 42, 180, 0, 24, 182, 0, 53, 167, 0, 25, 27, 4, 160, 0, 13, 42, 180, 0, 28]
abbrev dktX1_many_0 : List UInt8 := dkwX1_many_0 ++ dktX1_many_1
theorem dksX1_many_0 : cX1_many.data.toList.drop 0 = dktX1_many_0 := by decide +kernel
theorem dksX1_many_1 : cX1_many.data.toList.drop 23 = dktX1_many_1 := dk_seg dksX1_many_0 23 rfl rfl
theorem dX1_many_0 : decode cX1_many 0 = .ok (.iload_n 1, 1) := dk_27 (dk_at dksX1_many_0 0 rfl rfl)
theorem dX1_many_1 : decode cX1_many 1 = .ok (.ifCond .ne 13, 3) := dk_154 0 13 (dk_at dksX1_many_0 1 rfl rfl)
theorem dX1_many_4 : decode cX1_many 4 = .ok (.aload_n 0, 1) := dk_42 (dk_at dksX1_many_0 4 rfl rfl)
theorem dX1_many_5 : decode cX1_many 5 = .ok (.getfield 24, 3) := dk_180 0 24 (dk_at dksX1_many_0 5 rfl rfl)
theorem dX1_many_8 : decode cX1_many 8 = .ok (.invokevirtual 53, 3) := dk_182 0 53 (dk_at dksX1_many_0 8 rfl rfl)
theorem dX1_many_11 : decode cX1_many 11 = .ok (.goto 25, 3) := dk_167 0 25 (dk_at dksX1_many_0 11 rfl rfl)
theorem dX1_many_14 : decode cX1_many 14 = .ok (.iload_n 1, 1) := dk_27 (dk_at dksX1_many_0 14 rfl rfl)
theorem dX1_many_15 : decode cX1_many 15 = .ok (.iconst 1, 1) := dk_4 (dk_at dksX1_many_0 15 rfl rfl)
theorem dX1_many_16 : decode cX1_many 16 = .ok (.if_icmp .ne 13, 3) := dk_160 0 13 (dk_at dksX1_many_0 16 rfl rfl)
theorem dX1_many_19 : decode cX1_many 19 = .ok (.aload_n 0, 1) := dk_42 (dk_at dksX1_many_0 19 rfl rfl)
theorem dX1_many_20 : decode cX1_many 20 = .ok (.getfield 28, 3) := dk_180 0 28 (dk_at dksX1_many_0 20 rfl rfl)
theorem dX1_many_23 : decode cX1_many 23 = .ok (.invokevirtual 53, 3) := dk_182 0 53 (dk_at dksX1_many_1 0 rfl rfl)
theorem dX1_many_26 : decode cX1_many 26 = .ok (.goto 10, 3) := dk_167 0 10 (dk_at dksX1_many_1 3 rfl rfl)
theorem dX1_many_29 : decode cX1_many 29 = .ok (.aload_n 0, 1) := dk_42 (dk_at dksX1_many_1 6 rfl rfl)
theorem dX1_many_30 : decode cX1_many 30 = .ok (.getfield 31, 3) := dk_180 0 31 (dk_at dksX1_many_1 7 rfl rfl)
theorem dX1_many_33 : decode cX1_many 33 = .ok (.invokevirtual 53, 3) := dk_182 0 53 (dk_at dksX1_many_1 10 rfl rfl)
theorem dX1_many_36 : decode cX1_many 36 = .ok (.ireturn, 1) := dk_172 (dk_at dksX1_many_1 13 rfl rfl)
abbrev cX1_be : ByteArray := prog_22_method_2_code
def yX1_be : MethodName := ⟨RX1, "be", "(LAskedNames$State;)V"⟩
def dkwX1_be_4 : List UInt8 := [182, 0, 49, 87, 177]
abbrev dktX1_be_4 : List UInt8 := dkwX1_be_4 ++ []
def dkwX1_be_3 : List UInt8 := [180, 0, 28, 182, 0, 49, 87, 42, 180, 0, 31, 182, 0, 46, 42, 180, 0, 31, 43, 180, 0, 31]
abbrev dktX1_be_3 : List UInt8 := dkwX1_be_3 ++ dktX1_be_4
def dkwX1_be_2 : List UInt8 := [180, 0, 24, 43, 180, 0, 24, 182, 0, 49, 87, 42, 180, 0, 28, 182, 0, 46, 42, 180, 0, 28, 43]
abbrev dktX1_be_2 : List UInt8 := dkwX1_be_2 ++ dktX1_be_3
def dkwX1_be_1 : List UInt8 := [42, 43, 180, 0, 43, 181, 0, 43, 42, 43, 180, 0, 15, 181, 0, 15, 42, 180, 0, 24, 182, 0, 46, 42]
abbrev dktX1_be_1 : List UInt8 := dkwX1_be_1 ++ dktX1_be_2
def dkwX1_be_0 : List UInt8 := [43, 180, 0, 9, 3, 42, 180, 0, 9, 3, 17, 2, 88, 184, 0, 34, 42, 43, 180, 0, 40, 181, 0, 40]
abbrev dktX1_be_0 : List UInt8 := dkwX1_be_0 ++ dktX1_be_1
theorem dksX1_be_0 : cX1_be.data.toList.drop 0 = dktX1_be_0 := by decide +kernel
theorem dksX1_be_1 : cX1_be.data.toList.drop 24 = dktX1_be_1 := dk_seg dksX1_be_0 24 rfl rfl
theorem dksX1_be_2 : cX1_be.data.toList.drop 48 = dktX1_be_2 := dk_seg dksX1_be_1 24 rfl rfl
theorem dksX1_be_3 : cX1_be.data.toList.drop 71 = dktX1_be_3 := dk_seg dksX1_be_2 23 rfl rfl
theorem dksX1_be_4 : cX1_be.data.toList.drop 93 = dktX1_be_4 := dk_seg dksX1_be_3 22 rfl rfl
theorem dX1_be_0 : decode cX1_be 0 = .ok (.aload_n 1, 1) := dk_43 (dk_at dksX1_be_0 0 rfl rfl)
theorem dX1_be_1 : decode cX1_be 1 = .ok (.getfield 9, 3) := dk_180 0 9 (dk_at dksX1_be_0 1 rfl rfl)
theorem dX1_be_4 : decode cX1_be 4 = .ok (.iconst 0, 1) := dk_3 (dk_at dksX1_be_0 4 rfl rfl)
theorem dX1_be_5 : decode cX1_be 5 = .ok (.aload_n 0, 1) := dk_42 (dk_at dksX1_be_0 5 rfl rfl)
theorem dX1_be_6 : decode cX1_be 6 = .ok (.getfield 9, 3) := dk_180 0 9 (dk_at dksX1_be_0 6 rfl rfl)
theorem dX1_be_9 : decode cX1_be 9 = .ok (.iconst 0, 1) := dk_3 (dk_at dksX1_be_0 9 rfl rfl)
theorem dX1_be_10 : decode cX1_be 10 = .ok (.sipush 600, 3) := dk_17 2 88 (dk_at dksX1_be_0 10 rfl rfl)
theorem dX1_be_13 : decode cX1_be 13 = .ok (.invokestatic 34, 3) := dk_184 0 34 (dk_at dksX1_be_0 13 rfl rfl)
theorem dX1_be_16 : decode cX1_be 16 = .ok (.aload_n 0, 1) := dk_42 (dk_at dksX1_be_0 16 rfl rfl)
theorem dX1_be_17 : decode cX1_be 17 = .ok (.aload_n 1, 1) := dk_43 (dk_at dksX1_be_0 17 rfl rfl)
theorem dX1_be_18 : decode cX1_be 18 = .ok (.getfield 40, 3) := dk_180 0 40 (dk_at dksX1_be_0 18 rfl rfl)
theorem dX1_be_21 : decode cX1_be 21 = .ok (.putfield 40, 3) := dk_181 0 40 (dk_at dksX1_be_0 21 rfl rfl)
theorem dX1_be_24 : decode cX1_be 24 = .ok (.aload_n 0, 1) := dk_42 (dk_at dksX1_be_1 0 rfl rfl)
theorem dX1_be_25 : decode cX1_be 25 = .ok (.aload_n 1, 1) := dk_43 (dk_at dksX1_be_1 1 rfl rfl)
theorem dX1_be_26 : decode cX1_be 26 = .ok (.getfield 43, 3) := dk_180 0 43 (dk_at dksX1_be_1 2 rfl rfl)
theorem dX1_be_29 : decode cX1_be 29 = .ok (.putfield 43, 3) := dk_181 0 43 (dk_at dksX1_be_1 5 rfl rfl)
theorem dX1_be_32 : decode cX1_be 32 = .ok (.aload_n 0, 1) := dk_42 (dk_at dksX1_be_1 8 rfl rfl)
theorem dX1_be_33 : decode cX1_be 33 = .ok (.aload_n 1, 1) := dk_43 (dk_at dksX1_be_1 9 rfl rfl)
theorem dX1_be_34 : decode cX1_be 34 = .ok (.getfield 15, 3) := dk_180 0 15 (dk_at dksX1_be_1 10 rfl rfl)
theorem dX1_be_37 : decode cX1_be 37 = .ok (.putfield 15, 3) := dk_181 0 15 (dk_at dksX1_be_1 13 rfl rfl)
theorem dX1_be_40 : decode cX1_be 40 = .ok (.aload_n 0, 1) := dk_42 (dk_at dksX1_be_1 16 rfl rfl)
theorem dX1_be_41 : decode cX1_be 41 = .ok (.getfield 24, 3) := dk_180 0 24 (dk_at dksX1_be_1 17 rfl rfl)
theorem dX1_be_44 : decode cX1_be 44 = .ok (.invokevirtual 46, 3) := dk_182 0 46 (dk_at dksX1_be_1 20 rfl rfl)
theorem dX1_be_47 : decode cX1_be 47 = .ok (.aload_n 0, 1) := dk_42 (dk_at dksX1_be_1 23 rfl rfl)
theorem dX1_be_48 : decode cX1_be 48 = .ok (.getfield 24, 3) := dk_180 0 24 (dk_at dksX1_be_2 0 rfl rfl)
theorem dX1_be_51 : decode cX1_be 51 = .ok (.aload_n 1, 1) := dk_43 (dk_at dksX1_be_2 3 rfl rfl)
theorem dX1_be_52 : decode cX1_be 52 = .ok (.getfield 24, 3) := dk_180 0 24 (dk_at dksX1_be_2 4 rfl rfl)
theorem dX1_be_55 : decode cX1_be 55 = .ok (.invokevirtual 49, 3) := dk_182 0 49 (dk_at dksX1_be_2 7 rfl rfl)
theorem dX1_be_58 : decode cX1_be 58 = .ok (.pop, 1) := dk_87 (dk_at dksX1_be_2 10 rfl rfl)
theorem dX1_be_59 : decode cX1_be 59 = .ok (.aload_n 0, 1) := dk_42 (dk_at dksX1_be_2 11 rfl rfl)
theorem dX1_be_60 : decode cX1_be 60 = .ok (.getfield 28, 3) := dk_180 0 28 (dk_at dksX1_be_2 12 rfl rfl)
theorem dX1_be_63 : decode cX1_be 63 = .ok (.invokevirtual 46, 3) := dk_182 0 46 (dk_at dksX1_be_2 15 rfl rfl)
theorem dX1_be_66 : decode cX1_be 66 = .ok (.aload_n 0, 1) := dk_42 (dk_at dksX1_be_2 18 rfl rfl)
theorem dX1_be_67 : decode cX1_be 67 = .ok (.getfield 28, 3) := dk_180 0 28 (dk_at dksX1_be_2 19 rfl rfl)
theorem dX1_be_70 : decode cX1_be 70 = .ok (.aload_n 1, 1) := dk_43 (dk_at dksX1_be_2 22 rfl rfl)
theorem dX1_be_71 : decode cX1_be 71 = .ok (.getfield 28, 3) := dk_180 0 28 (dk_at dksX1_be_3 0 rfl rfl)
theorem dX1_be_74 : decode cX1_be 74 = .ok (.invokevirtual 49, 3) := dk_182 0 49 (dk_at dksX1_be_3 3 rfl rfl)
theorem dX1_be_77 : decode cX1_be 77 = .ok (.pop, 1) := dk_87 (dk_at dksX1_be_3 6 rfl rfl)
theorem dX1_be_78 : decode cX1_be 78 = .ok (.aload_n 0, 1) := dk_42 (dk_at dksX1_be_3 7 rfl rfl)
theorem dX1_be_79 : decode cX1_be 79 = .ok (.getfield 31, 3) := dk_180 0 31 (dk_at dksX1_be_3 8 rfl rfl)
theorem dX1_be_82 : decode cX1_be 82 = .ok (.invokevirtual 46, 3) := dk_182 0 46 (dk_at dksX1_be_3 11 rfl rfl)
theorem dX1_be_85 : decode cX1_be 85 = .ok (.aload_n 0, 1) := dk_42 (dk_at dksX1_be_3 14 rfl rfl)
theorem dX1_be_86 : decode cX1_be 86 = .ok (.getfield 31, 3) := dk_180 0 31 (dk_at dksX1_be_3 15 rfl rfl)
theorem dX1_be_89 : decode cX1_be 89 = .ok (.aload_n 1, 1) := dk_43 (dk_at dksX1_be_3 18 rfl rfl)
theorem dX1_be_90 : decode cX1_be 90 = .ok (.getfield 31, 3) := dk_180 0 31 (dk_at dksX1_be_3 19 rfl rfl)
theorem dX1_be_93 : decode cX1_be 93 = .ok (.invokevirtual 49, 3) := dk_182 0 49 (dk_at dksX1_be_4 0 rfl rfl)
theorem dX1_be_96 : decode cX1_be 96 = .ok (.pop, 1) := dk_87 (dk_at dksX1_be_4 3 rfl rfl)
theorem dX1_be_97 : decode cX1_be 97 = .ok (.return_, 1) := dk_177 (dk_at dksX1_be_4 4 rfl rfl)
theorem q127 : (Jvm.Cond.initialized "AskedNames$State") ∈ lw_all := lw_g (lw_at lw_m1 2 rfl) rfl
theorem q183 : (Jvm.Cond.instantiable "AskedNames$State" (7 : Nat)) ∈ lw_all := lw_g (lw_at lw_m1 58 rfl) rfl
theorem q185 : (Jvm.Cond.instanceMethod ({ cls := "AskedNames$State", name := "<init>", desc := "()V" } : Jvm.MethodName)) ∈ lw_all := lw_g (lw_at lw_m1 60 rfl) rfl
theorem q186 : (Jvm.Cond.code ({ cls := "AskedNames$State", name := "<init>", desc := "()V" } : Jvm.MethodName) prog_22_method_1_code (1 : Nat) (Option.none : Option Jvm.ClassFile.FieldType)) ∈ lw_all := lw_g (lw_at lw_m1 61 rfl) rfl
theorem q187 : (Jvm.Cond.methodLink "AskedNames$State" (3 : Nat) ({ cls := "java/lang/Object", name := "<init>", desc := "()V" } : Jvm.MethodName)) ∈ lw_all := lw_g (lw_at lw_m1 62 rfl) rfl
theorem q188 : (Jvm.Cond.classLink "AskedNames$State" (19 : Nat) "java/util/ArrayList") ∈ lw_all := lw_g (lw_at lw_m1 63 rfl) rfl
theorem q190 : (Jvm.Cond.methodLink "AskedNames$State" (21 : Nat) ({ cls := "java/util/ArrayList", name := "<init>", desc := "(I)V" } : Jvm.MethodName)) ∈ lw_all := lw_g (lw_at lw_m1 65 rfl) rfl
theorem q220 : (Jvm.Cond.fieldLink "AskedNames$State" (9 : Nat) "AskedNames$State" "tape" "[B") ∈ lw_all := lw_g (lw_at lw_m1 95 rfl) rfl
theorem q222 : (Jvm.Cond.fieldLink "AskedNames$State" (40 : Nat) "AskedNames$State" "taped" "I") ∈ lw_all := lw_g (lw_at lw_m1 97 rfl) rfl
theorem q224 : (Jvm.Cond.fieldLink "AskedNames$State" (43 : Nat) "AskedNames$State" "faultKind" "I") ∈ lw_all := lw_g (lw_at lw_m1 99 rfl) rfl
theorem q226 : (Jvm.Cond.fieldLink "AskedNames$State" (15 : Nat) "AskedNames$State" "faultPlace" "I") ∈ lw_all := lw_g (lw_at lw_m1 101 rfl) rfl
theorem q228 : (Jvm.Cond.fieldLink "AskedNames$State" (24 : Nat) "AskedNames$State" "nets" "Ljava/util/ArrayList;") ∈ lw_all := lw_g (lw_at lw_m1 103 rfl) rfl
theorem q230 : (Jvm.Cond.fieldLink "AskedNames$State" (28 : Nat) "AskedNames$State" "runs" "Ljava/util/ArrayList;") ∈ lw_all := lw_g (lw_at lw_m1 105 rfl) rfl
theorem q232 : (Jvm.Cond.fieldLink "AskedNames$State" (31 : Nat) "AskedNames$State" "logs" "Ljava/util/ArrayList;") ∈ lw_all := lw_g (lw_at lw_m1 107 rfl) rfl
theorem q234 : (Jvm.Cond.laysFinal "AskedNames$State" "AskedNames$State" "tape" "[B") ∈ lw_all := lw_g (lw_at lw_m1 109 rfl) rfl
theorem q235 : (Jvm.Cond.soleField "AskedNames$State" "tape") ∈ lw_all := lw_g (lw_at lw_m1 110 rfl) rfl
theorem q236 : (Jvm.Cond.lays "AskedNames$State" "AskedNames$State" "taped" "I") ∈ lw_all := lw_g (lw_at lw_m1 111 rfl) rfl
theorem q237 : (Jvm.Cond.soleField "AskedNames$State" "taped") ∈ lw_all := lw_g (lw_at lw_m1 112 rfl) rfl
theorem q238 : (Jvm.Cond.lays "AskedNames$State" "AskedNames$State" "faultKind" "I") ∈ lw_all := lw_g (lw_at lw_m1 113 rfl) rfl
theorem q239 : (Jvm.Cond.soleField "AskedNames$State" "faultKind") ∈ lw_all := lw_g (lw_at lw_m1 114 rfl) rfl
theorem q240 : (Jvm.Cond.lays "AskedNames$State" "AskedNames$State" "faultPlace" "I") ∈ lw_all := lw_g (lw_at lw_m1 115 rfl) rfl
theorem q241 : (Jvm.Cond.soleField "AskedNames$State" "faultPlace") ∈ lw_all := lw_g (lw_at lw_m1 116 rfl) rfl
theorem q242 : (Jvm.Cond.laysFinal "AskedNames$State" "AskedNames$State" "nets" "Ljava/util/ArrayList;") ∈ lw_all := lw_g (lw_at lw_m1 117 rfl) rfl
theorem q243 : (Jvm.Cond.soleField "AskedNames$State" "nets") ∈ lw_all := lw_g (lw_at lw_m1 118 rfl) rfl
theorem q244 : (Jvm.Cond.laysFinal "AskedNames$State" "AskedNames$State" "runs" "Ljava/util/ArrayList;") ∈ lw_all := lw_g (lw_at lw_m1 119 rfl) rfl
theorem q245 : (Jvm.Cond.soleField "AskedNames$State" "runs") ∈ lw_all := lw_g (lw_at lw_m1 120 rfl) rfl
theorem q246 : (Jvm.Cond.laysFinal "AskedNames$State" "AskedNames$State" "logs" "Ljava/util/ArrayList;") ∈ lw_all := lw_g (lw_at lw_m1 121 rfl) rfl
theorem q247 : (Jvm.Cond.soleField "AskedNames$State" "logs") ∈ lw_all := lw_g (lw_at lw_m1 122 rfl) rfl
theorem q248 : (Jvm.Cond.superclass "AskedNames$State" "java/lang/Object") ∈ lw_all := lw_g (lw_at lw_m1 123 rfl) rfl
theorem q274 : (Jvm.Cond.instanceMethod ({ cls := "AskedNames$State", name := "many", desc := "(I)I" } : Jvm.MethodName)) ∈ lw_all := lw_g (lw_at lw_m1 149 rfl) rfl
theorem q275 : (Jvm.Cond.selects "AskedNames$State" ({ cls := "AskedNames$State", name := "many", desc := "(I)I" } : Jvm.MethodName) ({ cls := "AskedNames$State", name := "many", desc := "(I)I" } : Jvm.MethodName)) ∈ lw_all := lw_g (lw_at lw_m1 150 rfl) rfl
theorem q276 : (Jvm.Cond.code ({ cls := "AskedNames$State", name := "many", desc := "(I)I" } : Jvm.MethodName) prog_22_method_3_code (2 : Nat) (Option.some Jvm.ClassFile.FieldType.int)) ∈ lw_all := lw_g (lw_at lw_m1 151 rfl) rfl
theorem q277 : (Jvm.Cond.methodLink "AskedNames$State" (53 : Nat) ({ cls := "java/util/ArrayList", name := "size", desc := "()I" } : Jvm.MethodName)) ∈ lw_all := lw_g (lw_at lw_m1 152 rfl) rfl
theorem q776 : (Jvm.Cond.selects "AskedNames$State" ({ cls := "java/lang/Object", name := "getClass", desc := "()Ljava/lang/Class;" } : Jvm.MethodName) ({ cls := "java/lang/Object", name := "getClass", desc := "()Ljava/lang/Class;" } : Jvm.MethodName)) ∈ lw_all := lw_g (lw_at lw_m3 171 rfl) rfl
theorem q2138 : (Jvm.Cond.instanceMethod ({ cls := "AskedNames$State", name := "be", desc := "(LAskedNames$State;)V" } : Jvm.MethodName)) ∈ lw_all := lw_g (lw_at lw_m9 93 rfl) rfl
theorem q2139 : (Jvm.Cond.selects "AskedNames$State" ({ cls := "AskedNames$State", name := "be", desc := "(LAskedNames$State;)V" } : Jvm.MethodName) ({ cls := "AskedNames$State", name := "be", desc := "(LAskedNames$State;)V" } : Jvm.MethodName)) ∈ lw_all := lw_g (lw_at lw_m9 94 rfl) rfl
theorem q2140 : (Jvm.Cond.code ({ cls := "AskedNames$State", name := "be", desc := "(LAskedNames$State;)V" } : Jvm.MethodName) prog_22_method_2_code (2 : Nat) (Option.none : Option Jvm.ClassFile.FieldType)) ∈ lw_all := lw_g (lw_at lw_m9 95 rfl) rfl
theorem q2141 : (Jvm.Cond.methodLink "AskedNames$State" (34 : Nat) ({ cls := "java/lang/System", name := "arraycopy", desc := "(Ljava/lang/Object;ILjava/lang/Object;II)V" } : Jvm.MethodName)) ∈ lw_all := lw_g (lw_at lw_m9 96 rfl) rfl
theorem q2142 : (Jvm.Cond.methodLink "AskedNames$State" (46 : Nat) ({ cls := "java/util/ArrayList", name := "clear", desc := "()V" } : Jvm.MethodName)) ∈ lw_all := lw_g (lw_at lw_m9 97 rfl) rfl
theorem q2146 : (Jvm.Cond.methodLink "AskedNames$State" (49 : Nat) ({ cls := "java/util/ArrayList", name := "addAll", desc := "(Ljava/util/Collection;)Z" } : Jvm.MethodName)) ∈ lw_all := lw_g (lw_at lw_m9 101 rfl) rfl
theorem q2973 : (Jvm.Cond.castable "AskedNames$State" "java/lang/Object") ∈ lw_tbl := lw_at lw_m12 208 rfl
theorem in_X1 : ∀ w ∈ wsX10, w ∈ lw_all := lw_in wsX10 [234, 236, 238, 240, 242, 244, 246] (by decide +kernel) (by decide +kernel)

/-! AskedNames$Deed -/
set_option maxRecDepth 100000
def RX10 : String := "AskedNames$Deed"
def TX10 : u_T := fun k => match k with
  | 0 => ("AskedNames$Deed", "doing", "LAskedNames$Doing;", true)
  | 1 => ("AskedNames$Deed", "a", "I", true)
  | 2 => ("AskedNames$Deed", "b", "I", true)
  | _ => ("AskedNames$Deed", "name", "Ljava/lang/String;", true)
def tyX10 : Nat → FieldType := fun k => match k with
  | 0 => .object "AskedNames$Doing"
  | 1 => .int
  | 2 => .int
  | _ => .object "java/lang/String"
abbrev wsX100 : List Cond := u_ws RX10 TX10 4
theorem nmX10 : ∀ a, a < 4 → ∀ b, b < 4 → a ≠ b → (TX10 a).2.1 ≠ (TX10 b).2.1 := by decide +kernel
theorem tyX10_ok : ∀ k, k < 4 → parseFieldDescriptor (TX10 k).2.2.1 = some (tyX10 k) := by decide +kernel
abbrev cX10_init : ByteArray := prog_3_method_1_code
def yX10_init : MethodName := ⟨RX10, "<init>", "(LAskedNames$Doing;IILjava/lang/String;)V"⟩
def dkwX10_init_1 : List UInt8 := [181, 0, 20, 177]
abbrev dktX10_init_1 : List UInt8 := dkwX10_init_1 ++ []
def dkwX10_init_0 : List UInt8 := [42, 183, 0, 1, 42, 43, 181, 0, 7, 42, 28, 181, 0, 13, 42, 29, 181, 0, 17, 42, 25, 4]
abbrev dktX10_init_0 : List UInt8 := dkwX10_init_0 ++ dktX10_init_1
theorem dksX10_init_0 : cX10_init.data.toList.drop 0 = dktX10_init_0 := by decide +kernel
theorem dksX10_init_1 : cX10_init.data.toList.drop 22 = dktX10_init_1 := dk_seg dksX10_init_0 22 rfl rfl
theorem dX10_init_0 : decode cX10_init 0 = .ok (.aload_n 0, 1) := dk_42 (dk_at dksX10_init_0 0 rfl rfl)
theorem dX10_init_1 : decode cX10_init 1 = .ok (.invokespecial 1, 3) := dk_183 0 1 (dk_at dksX10_init_0 1 rfl rfl)
theorem dX10_init_4 : decode cX10_init 4 = .ok (.aload_n 0, 1) := dk_42 (dk_at dksX10_init_0 4 rfl rfl)
theorem dX10_init_5 : decode cX10_init 5 = .ok (.aload_n 1, 1) := dk_43 (dk_at dksX10_init_0 5 rfl rfl)
theorem dX10_init_6 : decode cX10_init 6 = .ok (.putfield 7, 3) := dk_181 0 7 (dk_at dksX10_init_0 6 rfl rfl)
theorem dX10_init_9 : decode cX10_init 9 = .ok (.aload_n 0, 1) := dk_42 (dk_at dksX10_init_0 9 rfl rfl)
theorem dX10_init_10 : decode cX10_init 10 = .ok (.iload_n 2, 1) := dk_28 (dk_at dksX10_init_0 10 rfl rfl)
theorem dX10_init_11 : decode cX10_init 11 = .ok (.putfield 13, 3) := dk_181 0 13 (dk_at dksX10_init_0 11 rfl rfl)
theorem dX10_init_14 : decode cX10_init 14 = .ok (.aload_n 0, 1) := dk_42 (dk_at dksX10_init_0 14 rfl rfl)
theorem dX10_init_15 : decode cX10_init 15 = .ok (.iload_n 3, 1) := dk_29 (dk_at dksX10_init_0 15 rfl rfl)
theorem dX10_init_16 : decode cX10_init 16 = .ok (.putfield 17, 3) := dk_181 0 17 (dk_at dksX10_init_0 16 rfl rfl)
theorem dX10_init_19 : decode cX10_init 19 = .ok (.aload_n 0, 1) := dk_42 (dk_at dksX10_init_0 19 rfl rfl)
theorem dX10_init_20 : decode cX10_init 20 = .ok (.aload 4, 2) := dk_25 4 (dk_at dksX10_init_0 20 rfl rfl)
theorem dX10_init_22 : decode cX10_init 22 = .ok (.putfield 20, 3) := dk_181 0 20 (dk_at dksX10_init_1 0 rfl rfl)
theorem dX10_init_25 : decode cX10_init 25 = .ok (.return_, 1) := dk_177 (dk_at dksX10_init_1 3 rfl rfl)
abbrev cX10_isAsk : ByteArray := prog_3_method_2_code
def yX10_isAsk : MethodName := ⟨RX10, "isAsk", "()Z"⟩
def dkwX10_isAsk_1 : List UInt8 := [3, 172]
abbrev dktX10_isAsk_1 : List UInt8 := dkwX10_isAsk_1 ++ []
def dkwX10_isAsk_0 : List UInt8 := [42, 180, 0, 7, 178, 0, 24, 165, 0, 13, 42, 180, 0, 7, 178, 0, 29, 166, 0, 7, 4, 167, 0, 4]
abbrev dktX10_isAsk_0 : List UInt8 := dkwX10_isAsk_0 ++ dktX10_isAsk_1
theorem dksX10_isAsk_0 : cX10_isAsk.data.toList.drop 0 = dktX10_isAsk_0 := by decide +kernel
theorem dksX10_isAsk_1 : cX10_isAsk.data.toList.drop 24 = dktX10_isAsk_1 := dk_seg dksX10_isAsk_0 24 rfl rfl
theorem dX10_isAsk_0 : decode cX10_isAsk 0 = .ok (.aload_n 0, 1) := dk_42 (dk_at dksX10_isAsk_0 0 rfl rfl)
theorem dX10_isAsk_1 : decode cX10_isAsk 1 = .ok (.getfield 7, 3) := dk_180 0 7 (dk_at dksX10_isAsk_0 1 rfl rfl)
theorem dX10_isAsk_4 : decode cX10_isAsk 4 = .ok (.getstatic 24, 3) := dk_178 0 24 (dk_at dksX10_isAsk_0 4 rfl rfl)
theorem dX10_isAsk_7 : decode cX10_isAsk 7 = .ok (.if_acmp .eq 13, 3) := dk_165 0 13 (dk_at dksX10_isAsk_0 7 rfl rfl)
theorem dX10_isAsk_10 : decode cX10_isAsk 10 = .ok (.aload_n 0, 1) := dk_42 (dk_at dksX10_isAsk_0 10 rfl rfl)
theorem dX10_isAsk_11 : decode cX10_isAsk 11 = .ok (.getfield 7, 3) := dk_180 0 7 (dk_at dksX10_isAsk_0 11 rfl rfl)
theorem dX10_isAsk_14 : decode cX10_isAsk 14 = .ok (.getstatic 29, 3) := dk_178 0 29 (dk_at dksX10_isAsk_0 14 rfl rfl)
theorem dX10_isAsk_17 : decode cX10_isAsk 17 = .ok (.if_acmp .ne 7, 3) := dk_166 0 7 (dk_at dksX10_isAsk_0 17 rfl rfl)
theorem dX10_isAsk_20 : decode cX10_isAsk 20 = .ok (.iconst 1, 1) := dk_4 (dk_at dksX10_isAsk_0 20 rfl rfl)
theorem dX10_isAsk_21 : decode cX10_isAsk 21 = .ok (.goto 4, 3) := dk_167 0 4 (dk_at dksX10_isAsk_0 21 rfl rfl)
theorem dX10_isAsk_24 : decode cX10_isAsk 24 = .ok (.iconst 0, 1) := dk_3 (dk_at dksX10_isAsk_1 0 rfl rfl)
theorem dX10_isAsk_25 : decode cX10_isAsk 25 = .ok (.ireturn, 1) := dk_172 (dk_at dksX10_isAsk_1 1 rfl rfl)
theorem q154 : (Jvm.Cond.initialized "AskedNames$Deed") ∈ lw_all := lw_g (lw_at lw_m1 29 rfl) rfl
theorem q758 : (Jvm.Cond.selects "AskedNames$Deed" ({ cls := "java/lang/Object", name := "getClass", desc := "()Ljava/lang/Class;" } : Jvm.MethodName) ({ cls := "java/lang/Object", name := "getClass", desc := "()Ljava/lang/Class;" } : Jvm.MethodName)) ∈ lw_all := lw_g (lw_at lw_m3 153 rfl) rfl
theorem q915 : (Jvm.Cond.instantiable "AskedNames$Deed" (4 : Nat)) ∈ lw_all := lw_g (lw_at lw_m4 70 rfl) rfl
theorem q920 : (Jvm.Cond.instanceMethod ({ cls := "AskedNames$Deed", name := "<init>", desc := "(LAskedNames$Doing;IILjava/lang/String;)V" } : Jvm.MethodName)) ∈ lw_all := lw_g (lw_at lw_m4 75 rfl) rfl
theorem q921 : (Jvm.Cond.code ({ cls := "AskedNames$Deed", name := "<init>", desc := "(LAskedNames$Doing;IILjava/lang/String;)V" } : Jvm.MethodName) prog_3_method_1_code (5 : Nat) (Option.none : Option Jvm.ClassFile.FieldType)) ∈ lw_all := lw_g (lw_at lw_m4 76 rfl) rfl
theorem q922 : (Jvm.Cond.methodLink "AskedNames$Deed" (1 : Nat) ({ cls := "java/lang/Object", name := "<init>", desc := "()V" } : Jvm.MethodName)) ∈ lw_all := lw_g (lw_at lw_m4 77 rfl) rfl
theorem q923 : (Jvm.Cond.fieldLink "AskedNames$Deed" (7 : Nat) "AskedNames$Deed" "doing" "LAskedNames$Doing;") ∈ lw_all := lw_g (lw_at lw_m4 78 rfl) rfl
theorem q926 : (Jvm.Cond.fieldLink "AskedNames$Deed" (13 : Nat) "AskedNames$Deed" "a" "I") ∈ lw_all := lw_g (lw_at lw_m4 81 rfl) rfl
theorem q929 : (Jvm.Cond.fieldLink "AskedNames$Deed" (17 : Nat) "AskedNames$Deed" "b" "I") ∈ lw_all := lw_g (lw_at lw_m4 84 rfl) rfl
theorem q932 : (Jvm.Cond.fieldLink "AskedNames$Deed" (20 : Nat) "AskedNames$Deed" "name" "Ljava/lang/String;") ∈ lw_all := lw_g (lw_at lw_m4 87 rfl) rfl
theorem q935 : (Jvm.Cond.laysFinal "AskedNames$Deed" "AskedNames$Deed" "doing" "LAskedNames$Doing;") ∈ lw_all := lw_g (lw_at lw_m4 90 rfl) rfl
theorem q936 : (Jvm.Cond.soleField "AskedNames$Deed" "doing") ∈ lw_all := lw_g (lw_at lw_m4 91 rfl) rfl
theorem q937 : (Jvm.Cond.laysFinal "AskedNames$Deed" "AskedNames$Deed" "a" "I") ∈ lw_all := lw_g (lw_at lw_m4 92 rfl) rfl
theorem q938 : (Jvm.Cond.soleField "AskedNames$Deed" "a") ∈ lw_all := lw_g (lw_at lw_m4 93 rfl) rfl
theorem q939 : (Jvm.Cond.laysFinal "AskedNames$Deed" "AskedNames$Deed" "b" "I") ∈ lw_all := lw_g (lw_at lw_m4 94 rfl) rfl
theorem q940 : (Jvm.Cond.soleField "AskedNames$Deed" "b") ∈ lw_all := lw_g (lw_at lw_m4 95 rfl) rfl
theorem q941 : (Jvm.Cond.laysFinal "AskedNames$Deed" "AskedNames$Deed" "name" "Ljava/lang/String;") ∈ lw_all := lw_g (lw_at lw_m4 96 rfl) rfl
theorem q942 : (Jvm.Cond.soleField "AskedNames$Deed" "name") ∈ lw_all := lw_g (lw_at lw_m4 97 rfl) rfl
theorem q943 : (Jvm.Cond.superclass "AskedNames$Deed" "java/lang/Object") ∈ lw_all := lw_g (lw_at lw_m4 98 rfl) rfl
theorem q1503 : (Jvm.Cond.instanceMethod ({ cls := "AskedNames$Deed", name := "isAsk", desc := "()Z" } : Jvm.MethodName)) ∈ lw_all := lw_g (lw_at lw_m6 178 rfl) rfl
theorem q1504 : (Jvm.Cond.selects "AskedNames$Deed" ({ cls := "AskedNames$Deed", name := "isAsk", desc := "()Z" } : Jvm.MethodName) ({ cls := "AskedNames$Deed", name := "isAsk", desc := "()Z" } : Jvm.MethodName)) ∈ lw_all := lw_g (lw_at lw_m6 179 rfl) rfl
theorem q1505 : (Jvm.Cond.code ({ cls := "AskedNames$Deed", name := "isAsk", desc := "()Z" } : Jvm.MethodName) prog_3_method_2_code (1 : Nat) (Option.some Jvm.ClassFile.FieldType.boolean)) ∈ lw_all := lw_g (lw_at lw_m6 180 rfl) rfl
theorem q1506 : (Jvm.Cond.fieldLink "AskedNames$Deed" (24 : Nat) "AskedNames$Doing" "ASK" "LAskedNames$Doing;") ∈ lw_all := lw_g (lw_at lw_m6 181 rfl) rfl
theorem q1507 : (Jvm.Cond.fieldLink "AskedNames$Deed" (29 : Nat) "AskedNames$Doing" "FRESH" "LAskedNames$Doing;") ∈ lw_all := lw_g (lw_at lw_m6 182 rfl) rfl
theorem q3001 : (Jvm.Cond.castable "AskedNames$Deed" "java/lang/Object") ∈ lw_tbl := lw_at lw_m12 236 rfl
theorem in_X10 : ∀ w ∈ wsX100, w ∈ lw_all := lw_in wsX100 [935, 937, 939, 941] (by decide +kernel) (by decide +kernel)

/-! AskedNames$Run -/
set_option maxRecDepth 100000
def RX11 : String := "AskedNames$Run"
def TX11 : u_T := fun k => match k with
  | 0 => ("AskedNames$Run", "going", "LAskedNames$Going;", true)
  | 1 => ("AskedNames$Run", "asked", "[I", true)
  | 2 => ("AskedNames$Run", "done", "I", false)
  | 3 => ("AskedNames$Run", "acts", "I", false)
  | _ => ("AskedNames$Run", "widest", "I", false)
def tyX11 : Nat → FieldType := fun k => match k with
  | 0 => .object "AskedNames$Going"
  | 1 => .array .int
  | 2 => .int
  | 3 => .int
  | _ => .int
abbrev wsX110 : List Cond := u_ws RX11 TX11 5
theorem nmX11 : ∀ a, a < 5 → ∀ b, b < 5 → a ≠ b → (TX11 a).2.1 ≠ (TX11 b).2.1 := by decide +kernel
theorem tyX11_ok : ∀ k, k < 5 → parseFieldDescriptor (TX11 k).2.2.1 = some (tyX11 k) := by decide +kernel
abbrev cX11_init : ByteArray := prog_20_method_1_code
def yX11_init : MethodName := ⟨RX11, "<init>", "(LAskedNames$Net;)V"⟩
def dkwX11_init_1 : List UInt8 := [177]
abbrev dktX11_init_1 : List UInt8 := dkwX11_init_1 ++ []
def dkwX11_init_0 : List UInt8 := [42, 183, 0, 3, 42, 16, 61, 188, 10, 181, 0, 9, 42, 187, 0, 15, 89, 43, 183, 0, 17, 181, 0, 20]
abbrev dktX11_init_0 : List UInt8 := dkwX11_init_0 ++ dktX11_init_1
theorem dksX11_init_0 : cX11_init.data.toList.drop 0 = dktX11_init_0 := by decide +kernel
theorem dksX11_init_1 : cX11_init.data.toList.drop 24 = dktX11_init_1 := dk_seg dksX11_init_0 24 rfl rfl
theorem dX11_init_0 : decode cX11_init 0 = .ok (.aload_n 0, 1) := dk_42 (dk_at dksX11_init_0 0 rfl rfl)
theorem dX11_init_1 : decode cX11_init 1 = .ok (.invokespecial 3, 3) := dk_183 0 3 (dk_at dksX11_init_0 1 rfl rfl)
theorem dX11_init_4 : decode cX11_init 4 = .ok (.aload_n 0, 1) := dk_42 (dk_at dksX11_init_0 4 rfl rfl)
theorem dX11_init_5 : decode cX11_init 5 = .ok (.bipush 61, 2) := dk_16 61 (dk_at dksX11_init_0 5 rfl rfl)
theorem dX11_init_7 : decode cX11_init 7 = .ok (.newarray .int, 2) := dk_188_10 (dk_at dksX11_init_0 7 rfl rfl)
theorem dX11_init_9 : decode cX11_init 9 = .ok (.putfield 9, 3) := dk_181 0 9 (dk_at dksX11_init_0 9 rfl rfl)
theorem dX11_init_12 : decode cX11_init 12 = .ok (.aload_n 0, 1) := dk_42 (dk_at dksX11_init_0 12 rfl rfl)
theorem dX11_init_13 : decode cX11_init 13 = .ok (.new 15, 3) := dk_187 0 15 (dk_at dksX11_init_0 13 rfl rfl)
theorem dX11_init_16 : decode cX11_init 16 = .ok (.dup, 1) := dk_89 (dk_at dksX11_init_0 16 rfl rfl)
theorem dX11_init_17 : decode cX11_init 17 = .ok (.aload_n 1, 1) := dk_43 (dk_at dksX11_init_0 17 rfl rfl)
theorem dX11_init_18 : decode cX11_init 18 = .ok (.invokespecial 17, 3) := dk_183 0 17 (dk_at dksX11_init_0 18 rfl rfl)
theorem dX11_init_21 : decode cX11_init 21 = .ok (.putfield 20, 3) := dk_181 0 20 (dk_at dksX11_init_0 21 rfl rfl)
theorem dX11_init_24 : decode cX11_init 24 = .ok (.return_, 1) := dk_177 (dk_at dksX11_init_1 0 rfl rfl)
abbrev cX11_goes : ByteArray := prog_20_method_4_code
def yX11_goes : MethodName := ⟨RX11, "goes", "(Ljava/util/ArrayList;I)LAskedNames$Run;"⟩
def dkwX11_goes_2 : List UInt8 := [192, 0, 25, 182, 0, 111, 42, 89, 180, 0, 95, 4, 96, 181, 0, 95, 167, 255, 194, 42, 176]
abbrev dktX11_goes_2 : List UInt8 := dkwX11_goes_2 ++ []
def dkwX11_goes_1 : List UInt8 := [180, 0, 95, 182, 0, 103, 192, 0, 25, 182, 0, 107, 153, 0, 31, 42, 43, 42, 180, 0, 95, 182, 0, 103]
abbrev dktX11_goes_1 : List UInt8 := dkwX11_goes_1 ++ dktX11_goes_2
def dkwX11_goes_0 : List UInt8 := [42, 180, 0, 95, 28, 162, 0, 60, 42, 180, 0, 95, 43, 182, 0, 98, 162, 0, 49, 42, 43, 42]
abbrev dktX11_goes_0 : List UInt8 := dkwX11_goes_0 ++ dktX11_goes_1
theorem dksX11_goes_0 : cX11_goes.data.toList.drop 0 = dktX11_goes_0 := by decide +kernel
theorem dksX11_goes_1 : cX11_goes.data.toList.drop 22 = dktX11_goes_1 := dk_seg dksX11_goes_0 22 rfl rfl
theorem dksX11_goes_2 : cX11_goes.data.toList.drop 46 = dktX11_goes_2 := dk_seg dksX11_goes_1 24 rfl rfl
theorem dX11_goes_0 : decode cX11_goes 0 = .ok (.aload_n 0, 1) := dk_42 (dk_at dksX11_goes_0 0 rfl rfl)
theorem dX11_goes_1 : decode cX11_goes 1 = .ok (.getfield 95, 3) := dk_180 0 95 (dk_at dksX11_goes_0 1 rfl rfl)
theorem dX11_goes_4 : decode cX11_goes 4 = .ok (.iload_n 2, 1) := dk_28 (dk_at dksX11_goes_0 4 rfl rfl)
theorem dX11_goes_5 : decode cX11_goes 5 = .ok (.if_icmp .ge 60, 3) := dk_162 0 60 (dk_at dksX11_goes_0 5 rfl rfl)
theorem dX11_goes_8 : decode cX11_goes 8 = .ok (.aload_n 0, 1) := dk_42 (dk_at dksX11_goes_0 8 rfl rfl)
theorem dX11_goes_9 : decode cX11_goes 9 = .ok (.getfield 95, 3) := dk_180 0 95 (dk_at dksX11_goes_0 9 rfl rfl)
theorem dX11_goes_12 : decode cX11_goes 12 = .ok (.aload_n 1, 1) := dk_43 (dk_at dksX11_goes_0 12 rfl rfl)
theorem dX11_goes_13 : decode cX11_goes 13 = .ok (.invokevirtual 98, 3) := dk_182 0 98 (dk_at dksX11_goes_0 13 rfl rfl)
theorem dX11_goes_16 : decode cX11_goes 16 = .ok (.if_icmp .ge 49, 3) := dk_162 0 49 (dk_at dksX11_goes_0 16 rfl rfl)
theorem dX11_goes_19 : decode cX11_goes 19 = .ok (.aload_n 0, 1) := dk_42 (dk_at dksX11_goes_0 19 rfl rfl)
theorem dX11_goes_20 : decode cX11_goes 20 = .ok (.aload_n 1, 1) := dk_43 (dk_at dksX11_goes_0 20 rfl rfl)
theorem dX11_goes_21 : decode cX11_goes 21 = .ok (.aload_n 0, 1) := dk_42 (dk_at dksX11_goes_0 21 rfl rfl)
theorem dX11_goes_22 : decode cX11_goes 22 = .ok (.getfield 95, 3) := dk_180 0 95 (dk_at dksX11_goes_1 0 rfl rfl)
theorem dX11_goes_25 : decode cX11_goes 25 = .ok (.invokevirtual 103, 3) := dk_182 0 103 (dk_at dksX11_goes_1 3 rfl rfl)
theorem dX11_goes_28 : decode cX11_goes 28 = .ok (.checkcast 25, 3) := dk_192 0 25 (dk_at dksX11_goes_1 6 rfl rfl)
theorem dX11_goes_31 : decode cX11_goes 31 = .ok (.invokevirtual 107, 3) := dk_182 0 107 (dk_at dksX11_goes_1 9 rfl rfl)
theorem dX11_goes_34 : decode cX11_goes 34 = .ok (.ifCond .eq 31, 3) := dk_153 0 31 (dk_at dksX11_goes_1 12 rfl rfl)
theorem dX11_goes_37 : decode cX11_goes 37 = .ok (.aload_n 0, 1) := dk_42 (dk_at dksX11_goes_1 15 rfl rfl)
theorem dX11_goes_38 : decode cX11_goes 38 = .ok (.aload_n 1, 1) := dk_43 (dk_at dksX11_goes_1 16 rfl rfl)
theorem dX11_goes_39 : decode cX11_goes 39 = .ok (.aload_n 0, 1) := dk_42 (dk_at dksX11_goes_1 17 rfl rfl)
theorem dX11_goes_40 : decode cX11_goes 40 = .ok (.getfield 95, 3) := dk_180 0 95 (dk_at dksX11_goes_1 18 rfl rfl)
theorem dX11_goes_43 : decode cX11_goes 43 = .ok (.invokevirtual 103, 3) := dk_182 0 103 (dk_at dksX11_goes_1 21 rfl rfl)
theorem dX11_goes_46 : decode cX11_goes 46 = .ok (.checkcast 25, 3) := dk_192 0 25 (dk_at dksX11_goes_2 0 rfl rfl)
theorem dX11_goes_49 : decode cX11_goes 49 = .ok (.invokevirtual 111, 3) := dk_182 0 111 (dk_at dksX11_goes_2 3 rfl rfl)
theorem dX11_goes_52 : decode cX11_goes 52 = .ok (.aload_n 0, 1) := dk_42 (dk_at dksX11_goes_2 6 rfl rfl)
theorem dX11_goes_53 : decode cX11_goes 53 = .ok (.dup, 1) := dk_89 (dk_at dksX11_goes_2 7 rfl rfl)
theorem dX11_goes_54 : decode cX11_goes 54 = .ok (.getfield 95, 3) := dk_180 0 95 (dk_at dksX11_goes_2 8 rfl rfl)
theorem dX11_goes_57 : decode cX11_goes 57 = .ok (.iconst 1, 1) := dk_4 (dk_at dksX11_goes_2 11 rfl rfl)
theorem dX11_goes_58 : decode cX11_goes 58 = .ok (.iadd, 1) := dk_96 (dk_at dksX11_goes_2 12 rfl rfl)
theorem dX11_goes_59 : decode cX11_goes 59 = .ok (.putfield 95, 3) := dk_181 0 95 (dk_at dksX11_goes_2 13 rfl rfl)
theorem dX11_goes_62 : decode cX11_goes 62 = .ok (.goto (-62), 3) := dk_167 255 194 (dk_at dksX11_goes_2 16 rfl rfl)
theorem dX11_goes_65 : decode cX11_goes 65 = .ok (.aload_n 0, 1) := dk_42 (dk_at dksX11_goes_2 19 rfl rfl)
theorem dX11_goes_66 : decode cX11_goes 66 = .ok (.areturn, 1) := dk_176 (dk_at dksX11_goes_2 20 rfl rfl)
abbrev cX11_can : ByteArray := prog_20_method_2_code
def yX11_can : MethodName := ⟨RX11, "can", "(LAskedNames$Deed;)Z"⟩
def dkwX11_can_6 : List UInt8 := [4, 167, 0, 4, 3, 172]
abbrev dktX11_can_6 : List UInt8 := dkwX11_can_6 ++ []
def dkwX11_can_5 : List UInt8 := [182, 0, 60, 153, 0, 25, 42, 180, 0, 20, 43, 180, 0, 40, 43, 180, 0, 53, 182, 0, 56, 154, 0, 7]
abbrev dktX11_can_5 : List UInt8 := dkwX11_can_5 ++ dktX11_can_6
def dkwX11_can_4 : List UInt8 := [180, 0, 53, 182, 0, 56, 172, 42, 180, 0, 20, 180, 0, 36, 43, 180, 0, 40, 43, 180, 0, 53]
abbrev dktX11_can_4 : List UInt8 := dkwX11_can_4 ++ dktX11_can_5
def dkwX11_can_3 : List UInt8 := [180, 0, 40, 96, 16, 99, 163, 0, 7, 4, 167, 0, 4, 3, 172, 42, 180, 0, 20, 43, 180, 0, 40, 43]
abbrev dktX11_can_3 : List UInt8 := dkwX11_can_3 ++ dktX11_can_4
def dkwX11_can_2 : List UInt8 := [42, 180, 0, 20, 180, 0, 36, 43, 180, 0, 40, 182, 0, 44, 172, 42, 180, 0, 20, 180, 0, 50, 43]
abbrev dktX11_can_2 : List UInt8 := dkwX11_can_2 ++ dktX11_can_3
def dkwX11_can_1 : List UInt8 := [170, 0, 0, 0, 83, 0, 0, 0, 0, 0, 0, 0, 3, 0, 0, 0, 29, 0, 0, 0, 29, 0, 0, 0, 44, 0, 0, 0, 67]
abbrev dktX11_can_1 : List UInt8 := dkwX11_can_1 ++ dktX11_can_2
def dkwX11_can_0 : List UInt8 := [43, 180, 0, 24, 182, 0, 30]
abbrev dktX11_can_0 : List UInt8 := dkwX11_can_0 ++ dktX11_can_1
theorem dksX11_can_0 : cX11_can.data.toList.drop 0 = dktX11_can_0 := by decide +kernel
theorem dksX11_can_1 : cX11_can.data.toList.drop 7 = dktX11_can_1 := dk_seg dksX11_can_0 7 rfl rfl
theorem dksX11_can_2 : cX11_can.data.toList.drop 36 = dktX11_can_2 := dk_seg dksX11_can_1 29 rfl rfl
theorem dksX11_can_3 : cX11_can.data.toList.drop 59 = dktX11_can_3 := dk_seg dksX11_can_2 23 rfl rfl
theorem dksX11_can_4 : cX11_can.data.toList.drop 83 = dktX11_can_4 := dk_seg dksX11_can_3 24 rfl rfl
theorem dksX11_can_5 : cX11_can.data.toList.drop 105 = dktX11_can_5 := dk_seg dksX11_can_4 22 rfl rfl
theorem dksX11_can_6 : cX11_can.data.toList.drop 129 = dktX11_can_6 := dk_seg dksX11_can_5 24 rfl rfl
theorem dX11_can_0 : decode cX11_can 0 = .ok (.aload_n 1, 1) := dk_43 (dk_at dksX11_can_0 0 rfl rfl)
theorem dX11_can_1 : decode cX11_can 1 = .ok (.getfield 24, 3) := dk_180 0 24 (dk_at dksX11_can_0 1 rfl rfl)
theorem dX11_can_4 : decode cX11_can 4 = .ok (.invokevirtual 30, 3) := dk_182 0 30 (dk_at dksX11_can_0 4 rfl rfl)
theorem dX11_can_7 : decode cX11_can 7 = .ok (.tableswitch 83 0 3 #[29, 29, 44, 67], 29) := by decide +kernel
theorem dX11_can_36 : decode cX11_can 36 = .ok (.aload_n 0, 1) := dk_42 (dk_at dksX11_can_2 0 rfl rfl)
theorem dX11_can_37 : decode cX11_can 37 = .ok (.getfield 20, 3) := dk_180 0 20 (dk_at dksX11_can_2 1 rfl rfl)
theorem dX11_can_40 : decode cX11_can 40 = .ok (.getfield 36, 3) := dk_180 0 36 (dk_at dksX11_can_2 4 rfl rfl)
theorem dX11_can_43 : decode cX11_can 43 = .ok (.aload_n 1, 1) := dk_43 (dk_at dksX11_can_2 7 rfl rfl)
theorem dX11_can_44 : decode cX11_can 44 = .ok (.getfield 40, 3) := dk_180 0 40 (dk_at dksX11_can_2 8 rfl rfl)
theorem dX11_can_47 : decode cX11_can 47 = .ok (.invokevirtual 44, 3) := dk_182 0 44 (dk_at dksX11_can_2 11 rfl rfl)
theorem dX11_can_50 : decode cX11_can 50 = .ok (.ireturn, 1) := dk_172 (dk_at dksX11_can_2 14 rfl rfl)
theorem dX11_can_51 : decode cX11_can 51 = .ok (.aload_n 0, 1) := dk_42 (dk_at dksX11_can_2 15 rfl rfl)
theorem dX11_can_52 : decode cX11_can 52 = .ok (.getfield 20, 3) := dk_180 0 20 (dk_at dksX11_can_2 16 rfl rfl)
theorem dX11_can_55 : decode cX11_can 55 = .ok (.getfield 50, 3) := dk_180 0 50 (dk_at dksX11_can_2 19 rfl rfl)
theorem dX11_can_58 : decode cX11_can 58 = .ok (.aload_n 1, 1) := dk_43 (dk_at dksX11_can_2 22 rfl rfl)
theorem dX11_can_59 : decode cX11_can 59 = .ok (.getfield 40, 3) := dk_180 0 40 (dk_at dksX11_can_3 0 rfl rfl)
theorem dX11_can_62 : decode cX11_can 62 = .ok (.iadd, 1) := dk_96 (dk_at dksX11_can_3 3 rfl rfl)
theorem dX11_can_63 : decode cX11_can 63 = .ok (.bipush 99, 2) := dk_16 99 (dk_at dksX11_can_3 4 rfl rfl)
theorem dX11_can_65 : decode cX11_can 65 = .ok (.if_icmp .gt 7, 3) := dk_163 0 7 (dk_at dksX11_can_3 6 rfl rfl)
theorem dX11_can_68 : decode cX11_can 68 = .ok (.iconst 1, 1) := dk_4 (dk_at dksX11_can_3 9 rfl rfl)
theorem dX11_can_69 : decode cX11_can 69 = .ok (.goto 4, 3) := dk_167 0 4 (dk_at dksX11_can_3 10 rfl rfl)
theorem dX11_can_72 : decode cX11_can 72 = .ok (.iconst 0, 1) := dk_3 (dk_at dksX11_can_3 13 rfl rfl)
theorem dX11_can_73 : decode cX11_can 73 = .ok (.ireturn, 1) := dk_172 (dk_at dksX11_can_3 14 rfl rfl)
theorem dX11_can_74 : decode cX11_can 74 = .ok (.aload_n 0, 1) := dk_42 (dk_at dksX11_can_3 15 rfl rfl)
theorem dX11_can_75 : decode cX11_can 75 = .ok (.getfield 20, 3) := dk_180 0 20 (dk_at dksX11_can_3 16 rfl rfl)
theorem dX11_can_78 : decode cX11_can 78 = .ok (.aload_n 1, 1) := dk_43 (dk_at dksX11_can_3 19 rfl rfl)
theorem dX11_can_79 : decode cX11_can 79 = .ok (.getfield 40, 3) := dk_180 0 40 (dk_at dksX11_can_3 20 rfl rfl)
theorem dX11_can_82 : decode cX11_can 82 = .ok (.aload_n 1, 1) := dk_43 (dk_at dksX11_can_3 23 rfl rfl)
theorem dX11_can_83 : decode cX11_can 83 = .ok (.getfield 53, 3) := dk_180 0 53 (dk_at dksX11_can_4 0 rfl rfl)
theorem dX11_can_86 : decode cX11_can 86 = .ok (.invokevirtual 56, 3) := dk_182 0 56 (dk_at dksX11_can_4 3 rfl rfl)
theorem dX11_can_89 : decode cX11_can 89 = .ok (.ireturn, 1) := dk_172 (dk_at dksX11_can_4 6 rfl rfl)
theorem dX11_can_90 : decode cX11_can 90 = .ok (.aload_n 0, 1) := dk_42 (dk_at dksX11_can_4 7 rfl rfl)
theorem dX11_can_91 : decode cX11_can 91 = .ok (.getfield 20, 3) := dk_180 0 20 (dk_at dksX11_can_4 8 rfl rfl)
theorem dX11_can_94 : decode cX11_can 94 = .ok (.getfield 36, 3) := dk_180 0 36 (dk_at dksX11_can_4 11 rfl rfl)
theorem dX11_can_97 : decode cX11_can 97 = .ok (.aload_n 1, 1) := dk_43 (dk_at dksX11_can_4 14 rfl rfl)
theorem dX11_can_98 : decode cX11_can 98 = .ok (.getfield 40, 3) := dk_180 0 40 (dk_at dksX11_can_4 15 rfl rfl)
theorem dX11_can_101 : decode cX11_can 101 = .ok (.aload_n 1, 1) := dk_43 (dk_at dksX11_can_4 18 rfl rfl)
theorem dX11_can_102 : decode cX11_can 102 = .ok (.getfield 53, 3) := dk_180 0 53 (dk_at dksX11_can_4 19 rfl rfl)
theorem dX11_can_105 : decode cX11_can 105 = .ok (.invokevirtual 60, 3) := dk_182 0 60 (dk_at dksX11_can_5 0 rfl rfl)
theorem dX11_can_108 : decode cX11_can 108 = .ok (.ifCond .eq 25, 3) := dk_153 0 25 (dk_at dksX11_can_5 3 rfl rfl)
theorem dX11_can_111 : decode cX11_can 111 = .ok (.aload_n 0, 1) := dk_42 (dk_at dksX11_can_5 6 rfl rfl)
theorem dX11_can_112 : decode cX11_can 112 = .ok (.getfield 20, 3) := dk_180 0 20 (dk_at dksX11_can_5 7 rfl rfl)
theorem dX11_can_115 : decode cX11_can 115 = .ok (.aload_n 1, 1) := dk_43 (dk_at dksX11_can_5 10 rfl rfl)
theorem dX11_can_116 : decode cX11_can 116 = .ok (.getfield 40, 3) := dk_180 0 40 (dk_at dksX11_can_5 11 rfl rfl)
theorem dX11_can_119 : decode cX11_can 119 = .ok (.aload_n 1, 1) := dk_43 (dk_at dksX11_can_5 14 rfl rfl)
theorem dX11_can_120 : decode cX11_can 120 = .ok (.getfield 53, 3) := dk_180 0 53 (dk_at dksX11_can_5 15 rfl rfl)
theorem dX11_can_123 : decode cX11_can 123 = .ok (.invokevirtual 56, 3) := dk_182 0 56 (dk_at dksX11_can_5 18 rfl rfl)
theorem dX11_can_126 : decode cX11_can 126 = .ok (.ifCond .ne 7, 3) := dk_154 0 7 (dk_at dksX11_can_5 21 rfl rfl)
theorem dX11_can_129 : decode cX11_can 129 = .ok (.iconst 1, 1) := dk_4 (dk_at dksX11_can_6 0 rfl rfl)
theorem dX11_can_130 : decode cX11_can 130 = .ok (.goto 4, 3) := dk_167 0 4 (dk_at dksX11_can_6 1 rfl rfl)
theorem dX11_can_133 : decode cX11_can 133 = .ok (.iconst 0, 1) := dk_3 (dk_at dksX11_can_6 4 rfl rfl)
theorem dX11_can_134 : decode cX11_can 134 = .ok (.ireturn, 1) := dk_172 (dk_at dksX11_can_6 5 rfl rfl)
abbrev cX11_does : ByteArray := prog_20_method_3_code
def yX11_does : MethodName := ⟨RX11, "does", "(LAskedNames$Deed;)V"⟩
def dkwX11_does_7 : List UInt8 := [184, 0, 89, 181, 0, 83, 177]
abbrev dktX11_does_7 : List UInt8 := dkwX11_does_7 ++ []
def dkwX11_does_6 : List UInt8 := [42, 89, 180, 0, 63, 4, 96, 181, 0, 63, 42, 42, 180, 0, 83, 42, 180, 0, 20, 182, 0, 86]
abbrev dktX11_does_6 : List UInt8 := dkwX11_does_6 ++ dktX11_does_7
def dkwX11_does_5 : List UInt8 := [132, 2, 1, 167, 255, 238, 167, 0, 18, 42, 180, 0, 20, 43, 180, 0, 40, 43, 180, 0, 53, 182, 0, 79]
abbrev dktX11_does_5 : List UInt8 := dkwX11_does_5 ++ dktX11_does_6
def dkwX11_does_4 : List UInt8 := [182, 0, 73, 167, 0, 44, 3, 61, 28, 43, 180, 0, 40, 162, 0, 16, 42, 180, 0, 20, 182, 0, 77]
abbrev dktX11_does_4 : List UInt8 := dkwX11_does_4 ++ dktX11_does_5
def dkwX11_does_3 : List UInt8 := [2, 43, 180, 0, 66, 43, 180, 0, 24, 178, 0, 70, 166, 0, 7, 4, 167, 0, 4, 3, 42, 180, 0, 63]
abbrev dktX11_does_3 : List UInt8 := dkwX11_does_3 ++ dktX11_does_4
def dkwX11_does_2 : List UInt8 := [42, 180, 0, 9, 42, 180, 0, 63, 42, 180, 0, 20, 180, 0, 50, 79, 42, 180, 0, 20, 43, 180, 0, 40]
abbrev dktX11_does_2 : List UInt8 := dkwX11_does_2 ++ dktX11_does_3
def dkwX11_does_1 : List UInt8 := [170, 0, 0, 0, 105, 0, 0, 0, 0, 0, 0, 0, 2, 0, 0, 0, 25, 0, 0, 0, 25, 0, 0, 0, 79]
abbrev dktX11_does_1 : List UInt8 := dkwX11_does_1 ++ dktX11_does_2
def dkwX11_does_0 : List UInt8 := [43, 180, 0, 24, 182, 0, 30]
abbrev dktX11_does_0 : List UInt8 := dkwX11_does_0 ++ dktX11_does_1
theorem dksX11_does_0 : cX11_does.data.toList.drop 0 = dktX11_does_0 := by decide +kernel
theorem dksX11_does_1 : cX11_does.data.toList.drop 7 = dktX11_does_1 := dk_seg dksX11_does_0 7 rfl rfl
theorem dksX11_does_2 : cX11_does.data.toList.drop 32 = dktX11_does_2 := dk_seg dksX11_does_1 25 rfl rfl
theorem dksX11_does_3 : cX11_does.data.toList.drop 56 = dktX11_does_3 := dk_seg dksX11_does_2 24 rfl rfl
theorem dksX11_does_4 : cX11_does.data.toList.drop 80 = dktX11_does_4 := dk_seg dksX11_does_3 24 rfl rfl
theorem dksX11_does_5 : cX11_does.data.toList.drop 103 = dktX11_does_5 := dk_seg dksX11_does_4 23 rfl rfl
theorem dksX11_does_6 : cX11_does.data.toList.drop 127 = dktX11_does_6 := dk_seg dksX11_does_5 24 rfl rfl
theorem dksX11_does_7 : cX11_does.data.toList.drop 149 = dktX11_does_7 := dk_seg dksX11_does_6 22 rfl rfl
theorem dX11_does_0 : decode cX11_does 0 = .ok (.aload_n 1, 1) := dk_43 (dk_at dksX11_does_0 0 rfl rfl)
theorem dX11_does_1 : decode cX11_does 1 = .ok (.getfield 24, 3) := dk_180 0 24 (dk_at dksX11_does_0 1 rfl rfl)
theorem dX11_does_4 : decode cX11_does 4 = .ok (.invokevirtual 30, 3) := dk_182 0 30 (dk_at dksX11_does_0 4 rfl rfl)
theorem dX11_does_7 : decode cX11_does 7 = .ok (.tableswitch 105 0 2 #[25, 25, 79], 25) := by decide +kernel
theorem dX11_does_32 : decode cX11_does 32 = .ok (.aload_n 0, 1) := dk_42 (dk_at dksX11_does_2 0 rfl rfl)
theorem dX11_does_33 : decode cX11_does 33 = .ok (.getfield 9, 3) := dk_180 0 9 (dk_at dksX11_does_2 1 rfl rfl)
theorem dX11_does_36 : decode cX11_does 36 = .ok (.aload_n 0, 1) := dk_42 (dk_at dksX11_does_2 4 rfl rfl)
theorem dX11_does_37 : decode cX11_does 37 = .ok (.getfield 63, 3) := dk_180 0 63 (dk_at dksX11_does_2 5 rfl rfl)
theorem dX11_does_40 : decode cX11_does 40 = .ok (.aload_n 0, 1) := dk_42 (dk_at dksX11_does_2 8 rfl rfl)
theorem dX11_does_41 : decode cX11_does 41 = .ok (.getfield 20, 3) := dk_180 0 20 (dk_at dksX11_does_2 9 rfl rfl)
theorem dX11_does_44 : decode cX11_does 44 = .ok (.getfield 50, 3) := dk_180 0 50 (dk_at dksX11_does_2 12 rfl rfl)
theorem dX11_does_47 : decode cX11_does 47 = .ok (.iastore, 1) := dk_79 (dk_at dksX11_does_2 15 rfl rfl)
theorem dX11_does_48 : decode cX11_does 48 = .ok (.aload_n 0, 1) := dk_42 (dk_at dksX11_does_2 16 rfl rfl)
theorem dX11_does_49 : decode cX11_does 49 = .ok (.getfield 20, 3) := dk_180 0 20 (dk_at dksX11_does_2 17 rfl rfl)
theorem dX11_does_52 : decode cX11_does 52 = .ok (.aload_n 1, 1) := dk_43 (dk_at dksX11_does_2 20 rfl rfl)
theorem dX11_does_53 : decode cX11_does 53 = .ok (.getfield 40, 3) := dk_180 0 40 (dk_at dksX11_does_2 21 rfl rfl)
theorem dX11_does_56 : decode cX11_does 56 = .ok (.iconst (-1), 1) := dk_2 (dk_at dksX11_does_3 0 rfl rfl)
theorem dX11_does_57 : decode cX11_does 57 = .ok (.aload_n 1, 1) := dk_43 (dk_at dksX11_does_3 1 rfl rfl)
theorem dX11_does_58 : decode cX11_does 58 = .ok (.getfield 66, 3) := dk_180 0 66 (dk_at dksX11_does_3 2 rfl rfl)
theorem dX11_does_61 : decode cX11_does 61 = .ok (.aload_n 1, 1) := dk_43 (dk_at dksX11_does_3 5 rfl rfl)
theorem dX11_does_62 : decode cX11_does 62 = .ok (.getfield 24, 3) := dk_180 0 24 (dk_at dksX11_does_3 6 rfl rfl)
theorem dX11_does_65 : decode cX11_does 65 = .ok (.getstatic 70, 3) := dk_178 0 70 (dk_at dksX11_does_3 9 rfl rfl)
theorem dX11_does_68 : decode cX11_does 68 = .ok (.if_acmp .ne 7, 3) := dk_166 0 7 (dk_at dksX11_does_3 12 rfl rfl)
theorem dX11_does_71 : decode cX11_does 71 = .ok (.iconst 1, 1) := dk_4 (dk_at dksX11_does_3 15 rfl rfl)
theorem dX11_does_72 : decode cX11_does 72 = .ok (.goto 4, 3) := dk_167 0 4 (dk_at dksX11_does_3 16 rfl rfl)
theorem dX11_does_75 : decode cX11_does 75 = .ok (.iconst 0, 1) := dk_3 (dk_at dksX11_does_3 19 rfl rfl)
theorem dX11_does_76 : decode cX11_does 76 = .ok (.aload_n 0, 1) := dk_42 (dk_at dksX11_does_3 20 rfl rfl)
theorem dX11_does_77 : decode cX11_does 77 = .ok (.getfield 63, 3) := dk_180 0 63 (dk_at dksX11_does_3 21 rfl rfl)
theorem dX11_does_80 : decode cX11_does 80 = .ok (.invokevirtual 73, 3) := dk_182 0 73 (dk_at dksX11_does_4 0 rfl rfl)
theorem dX11_does_83 : decode cX11_does 83 = .ok (.goto 44, 3) := dk_167 0 44 (dk_at dksX11_does_4 3 rfl rfl)
theorem dX11_does_86 : decode cX11_does 86 = .ok (.iconst 0, 1) := dk_3 (dk_at dksX11_does_4 6 rfl rfl)
theorem dX11_does_87 : decode cX11_does 87 = .ok (.istore_n 2, 1) := dk_61 (dk_at dksX11_does_4 7 rfl rfl)
theorem dX11_does_88 : decode cX11_does 88 = .ok (.iload_n 2, 1) := dk_28 (dk_at dksX11_does_4 8 rfl rfl)
theorem dX11_does_89 : decode cX11_does 89 = .ok (.aload_n 1, 1) := dk_43 (dk_at dksX11_does_4 9 rfl rfl)
theorem dX11_does_90 : decode cX11_does 90 = .ok (.getfield 40, 3) := dk_180 0 40 (dk_at dksX11_does_4 10 rfl rfl)
theorem dX11_does_93 : decode cX11_does 93 = .ok (.if_icmp .ge 16, 3) := dk_162 0 16 (dk_at dksX11_does_4 13 rfl rfl)
theorem dX11_does_96 : decode cX11_does 96 = .ok (.aload_n 0, 1) := dk_42 (dk_at dksX11_does_4 16 rfl rfl)
theorem dX11_does_97 : decode cX11_does 97 = .ok (.getfield 20, 3) := dk_180 0 20 (dk_at dksX11_does_4 17 rfl rfl)
theorem dX11_does_100 : decode cX11_does 100 = .ok (.invokevirtual 77, 3) := dk_182 0 77 (dk_at dksX11_does_4 20 rfl rfl)
theorem dX11_does_103 : decode cX11_does 103 = .ok (.iinc 2 1, 3) := dk_132 2 1 (dk_at dksX11_does_5 0 rfl rfl)
theorem dX11_does_106 : decode cX11_does 106 = .ok (.goto (-18), 3) := dk_167 255 238 (dk_at dksX11_does_5 3 rfl rfl)
theorem dX11_does_109 : decode cX11_does 109 = .ok (.goto 18, 3) := dk_167 0 18 (dk_at dksX11_does_5 6 rfl rfl)
theorem dX11_does_112 : decode cX11_does 112 = .ok (.aload_n 0, 1) := dk_42 (dk_at dksX11_does_5 9 rfl rfl)
theorem dX11_does_113 : decode cX11_does 113 = .ok (.getfield 20, 3) := dk_180 0 20 (dk_at dksX11_does_5 10 rfl rfl)
theorem dX11_does_116 : decode cX11_does 116 = .ok (.aload_n 1, 1) := dk_43 (dk_at dksX11_does_5 13 rfl rfl)
theorem dX11_does_117 : decode cX11_does 117 = .ok (.getfield 40, 3) := dk_180 0 40 (dk_at dksX11_does_5 14 rfl rfl)
theorem dX11_does_120 : decode cX11_does 120 = .ok (.aload_n 1, 1) := dk_43 (dk_at dksX11_does_5 17 rfl rfl)
theorem dX11_does_121 : decode cX11_does 121 = .ok (.getfield 53, 3) := dk_180 0 53 (dk_at dksX11_does_5 18 rfl rfl)
theorem dX11_does_124 : decode cX11_does 124 = .ok (.invokevirtual 79, 3) := dk_182 0 79 (dk_at dksX11_does_5 21 rfl rfl)
theorem dX11_does_127 : decode cX11_does 127 = .ok (.aload_n 0, 1) := dk_42 (dk_at dksX11_does_6 0 rfl rfl)
theorem dX11_does_128 : decode cX11_does 128 = .ok (.dup, 1) := dk_89 (dk_at dksX11_does_6 1 rfl rfl)
theorem dX11_does_129 : decode cX11_does 129 = .ok (.getfield 63, 3) := dk_180 0 63 (dk_at dksX11_does_6 2 rfl rfl)
theorem dX11_does_132 : decode cX11_does 132 = .ok (.iconst 1, 1) := dk_4 (dk_at dksX11_does_6 5 rfl rfl)
theorem dX11_does_133 : decode cX11_does 133 = .ok (.iadd, 1) := dk_96 (dk_at dksX11_does_6 6 rfl rfl)
theorem dX11_does_134 : decode cX11_does 134 = .ok (.putfield 63, 3) := dk_181 0 63 (dk_at dksX11_does_6 7 rfl rfl)
theorem dX11_does_137 : decode cX11_does 137 = .ok (.aload_n 0, 1) := dk_42 (dk_at dksX11_does_6 10 rfl rfl)
theorem dX11_does_138 : decode cX11_does 138 = .ok (.aload_n 0, 1) := dk_42 (dk_at dksX11_does_6 11 rfl rfl)
theorem dX11_does_139 : decode cX11_does 139 = .ok (.getfield 83, 3) := dk_180 0 83 (dk_at dksX11_does_6 12 rfl rfl)
theorem dX11_does_142 : decode cX11_does 142 = .ok (.aload_n 0, 1) := dk_42 (dk_at dksX11_does_6 15 rfl rfl)
theorem dX11_does_143 : decode cX11_does 143 = .ok (.getfield 20, 3) := dk_180 0 20 (dk_at dksX11_does_6 16 rfl rfl)
theorem dX11_does_146 : decode cX11_does 146 = .ok (.invokevirtual 86, 3) := dk_182 0 86 (dk_at dksX11_does_6 19 rfl rfl)
theorem dX11_does_149 : decode cX11_does 149 = .ok (.invokestatic 89, 3) := dk_184 0 89 (dk_at dksX11_does_7 0 rfl rfl)
theorem dX11_does_152 : decode cX11_does 152 = .ok (.putfield 83, 3) := dk_181 0 83 (dk_at dksX11_does_7 3 rfl rfl)
theorem dX11_does_155 : decode cX11_does 155 = .ok (.return_, 1) := dk_177 (dk_at dksX11_does_7 6 rfl rfl)
abbrev cX11_after : ByteArray := prog_20_method_6_code
def yX11_after : MethodName := ⟨RX11, "after", "(I)I"⟩
def dkwX11_after_4 : List UInt8 := [167, 0, 19, 45, 27, 16, 7, 100, 46, 45, 3, 46, 45, 4, 46, 184, 0, 141, 108, 172]
abbrev dktX11_after_4 : List UInt8 := dkwX11_after_4 ++ []
def dkwX11_after_3 : List UInt8 := [79, 77, 27, 16, 7, 162, 0, 7, 44, 27, 46, 172, 42, 182, 0, 137, 78, 45, 4, 46, 154, 0, 7, 2]
abbrev dktX11_after_3 : List UInt8 := dkwX11_after_3 ++ dktX11_after_4
def dkwX11_after_2 : List UInt8 := [180, 0, 20, 180, 0, 131, 79, 89, 8, 42, 180, 0, 20, 180, 0, 134, 79, 89, 16, 6, 42, 180, 0, 83]
abbrev dktX11_after_2 : List UInt8 := dkwX11_after_2 ++ dktX11_after_3
def dkwX11_after_1 : List UInt8 := [89, 5, 42, 180, 0, 20, 180, 0, 125, 79, 89, 6, 42, 180, 0, 20, 180, 0, 128, 79, 89, 7, 42]
abbrev dktX11_after_1 : List UInt8 := dkwX11_after_1 ++ dktX11_after_2
def dkwX11_after_0 : List UInt8 := [16, 7, 188, 10, 89, 3, 42, 180, 0, 20, 180, 0, 119, 79, 89, 4, 42, 180, 0, 20, 180, 0, 122, 79]
abbrev dktX11_after_0 : List UInt8 := dkwX11_after_0 ++ dktX11_after_1
theorem dksX11_after_0 : cX11_after.data.toList.drop 0 = dktX11_after_0 := by decide +kernel
theorem dksX11_after_1 : cX11_after.data.toList.drop 24 = dktX11_after_1 := dk_seg dksX11_after_0 24 rfl rfl
theorem dksX11_after_2 : cX11_after.data.toList.drop 47 = dktX11_after_2 := dk_seg dksX11_after_1 23 rfl rfl
theorem dksX11_after_3 : cX11_after.data.toList.drop 71 = dktX11_after_3 := dk_seg dksX11_after_2 24 rfl rfl
theorem dksX11_after_4 : cX11_after.data.toList.drop 95 = dktX11_after_4 := dk_seg dksX11_after_3 24 rfl rfl
theorem dX11_after_0 : decode cX11_after 0 = .ok (.bipush 7, 2) := dk_16 7 (dk_at dksX11_after_0 0 rfl rfl)
theorem dX11_after_2 : decode cX11_after 2 = .ok (.newarray .int, 2) := dk_188_10 (dk_at dksX11_after_0 2 rfl rfl)
theorem dX11_after_4 : decode cX11_after 4 = .ok (.dup, 1) := dk_89 (dk_at dksX11_after_0 4 rfl rfl)
theorem dX11_after_5 : decode cX11_after 5 = .ok (.iconst 0, 1) := dk_3 (dk_at dksX11_after_0 5 rfl rfl)
theorem dX11_after_6 : decode cX11_after 6 = .ok (.aload_n 0, 1) := dk_42 (dk_at dksX11_after_0 6 rfl rfl)
theorem dX11_after_7 : decode cX11_after 7 = .ok (.getfield 20, 3) := dk_180 0 20 (dk_at dksX11_after_0 7 rfl rfl)
theorem dX11_after_10 : decode cX11_after 10 = .ok (.getfield 119, 3) := dk_180 0 119 (dk_at dksX11_after_0 10 rfl rfl)
theorem dX11_after_13 : decode cX11_after 13 = .ok (.iastore, 1) := dk_79 (dk_at dksX11_after_0 13 rfl rfl)
theorem dX11_after_14 : decode cX11_after 14 = .ok (.dup, 1) := dk_89 (dk_at dksX11_after_0 14 rfl rfl)
theorem dX11_after_15 : decode cX11_after 15 = .ok (.iconst 1, 1) := dk_4 (dk_at dksX11_after_0 15 rfl rfl)
theorem dX11_after_16 : decode cX11_after 16 = .ok (.aload_n 0, 1) := dk_42 (dk_at dksX11_after_0 16 rfl rfl)
theorem dX11_after_17 : decode cX11_after 17 = .ok (.getfield 20, 3) := dk_180 0 20 (dk_at dksX11_after_0 17 rfl rfl)
theorem dX11_after_20 : decode cX11_after 20 = .ok (.getfield 122, 3) := dk_180 0 122 (dk_at dksX11_after_0 20 rfl rfl)
theorem dX11_after_23 : decode cX11_after 23 = .ok (.iastore, 1) := dk_79 (dk_at dksX11_after_0 23 rfl rfl)
theorem dX11_after_24 : decode cX11_after 24 = .ok (.dup, 1) := dk_89 (dk_at dksX11_after_1 0 rfl rfl)
theorem dX11_after_25 : decode cX11_after 25 = .ok (.iconst 2, 1) := dk_5 (dk_at dksX11_after_1 1 rfl rfl)
theorem dX11_after_26 : decode cX11_after 26 = .ok (.aload_n 0, 1) := dk_42 (dk_at dksX11_after_1 2 rfl rfl)
theorem dX11_after_27 : decode cX11_after 27 = .ok (.getfield 20, 3) := dk_180 0 20 (dk_at dksX11_after_1 3 rfl rfl)
theorem dX11_after_30 : decode cX11_after 30 = .ok (.getfield 125, 3) := dk_180 0 125 (dk_at dksX11_after_1 6 rfl rfl)
theorem dX11_after_33 : decode cX11_after 33 = .ok (.iastore, 1) := dk_79 (dk_at dksX11_after_1 9 rfl rfl)
theorem dX11_after_34 : decode cX11_after 34 = .ok (.dup, 1) := dk_89 (dk_at dksX11_after_1 10 rfl rfl)
theorem dX11_after_35 : decode cX11_after 35 = .ok (.iconst 3, 1) := dk_6 (dk_at dksX11_after_1 11 rfl rfl)
theorem dX11_after_36 : decode cX11_after 36 = .ok (.aload_n 0, 1) := dk_42 (dk_at dksX11_after_1 12 rfl rfl)
theorem dX11_after_37 : decode cX11_after 37 = .ok (.getfield 20, 3) := dk_180 0 20 (dk_at dksX11_after_1 13 rfl rfl)
theorem dX11_after_40 : decode cX11_after 40 = .ok (.getfield 128, 3) := dk_180 0 128 (dk_at dksX11_after_1 16 rfl rfl)
theorem dX11_after_43 : decode cX11_after 43 = .ok (.iastore, 1) := dk_79 (dk_at dksX11_after_1 19 rfl rfl)
theorem dX11_after_44 : decode cX11_after 44 = .ok (.dup, 1) := dk_89 (dk_at dksX11_after_1 20 rfl rfl)
theorem dX11_after_45 : decode cX11_after 45 = .ok (.iconst 4, 1) := dk_7 (dk_at dksX11_after_1 21 rfl rfl)
theorem dX11_after_46 : decode cX11_after 46 = .ok (.aload_n 0, 1) := dk_42 (dk_at dksX11_after_1 22 rfl rfl)
theorem dX11_after_47 : decode cX11_after 47 = .ok (.getfield 20, 3) := dk_180 0 20 (dk_at dksX11_after_2 0 rfl rfl)
theorem dX11_after_50 : decode cX11_after 50 = .ok (.getfield 131, 3) := dk_180 0 131 (dk_at dksX11_after_2 3 rfl rfl)
theorem dX11_after_53 : decode cX11_after 53 = .ok (.iastore, 1) := dk_79 (dk_at dksX11_after_2 6 rfl rfl)
theorem dX11_after_54 : decode cX11_after 54 = .ok (.dup, 1) := dk_89 (dk_at dksX11_after_2 7 rfl rfl)
theorem dX11_after_55 : decode cX11_after 55 = .ok (.iconst 5, 1) := dk_8 (dk_at dksX11_after_2 8 rfl rfl)
theorem dX11_after_56 : decode cX11_after 56 = .ok (.aload_n 0, 1) := dk_42 (dk_at dksX11_after_2 9 rfl rfl)
theorem dX11_after_57 : decode cX11_after 57 = .ok (.getfield 20, 3) := dk_180 0 20 (dk_at dksX11_after_2 10 rfl rfl)
theorem dX11_after_60 : decode cX11_after 60 = .ok (.getfield 134, 3) := dk_180 0 134 (dk_at dksX11_after_2 13 rfl rfl)
theorem dX11_after_63 : decode cX11_after 63 = .ok (.iastore, 1) := dk_79 (dk_at dksX11_after_2 16 rfl rfl)
theorem dX11_after_64 : decode cX11_after 64 = .ok (.dup, 1) := dk_89 (dk_at dksX11_after_2 17 rfl rfl)
theorem dX11_after_65 : decode cX11_after 65 = .ok (.bipush 6, 2) := dk_16 6 (dk_at dksX11_after_2 18 rfl rfl)
theorem dX11_after_67 : decode cX11_after 67 = .ok (.aload_n 0, 1) := dk_42 (dk_at dksX11_after_2 20 rfl rfl)
theorem dX11_after_68 : decode cX11_after 68 = .ok (.getfield 83, 3) := dk_180 0 83 (dk_at dksX11_after_2 21 rfl rfl)
theorem dX11_after_71 : decode cX11_after 71 = .ok (.iastore, 1) := dk_79 (dk_at dksX11_after_3 0 rfl rfl)
theorem dX11_after_72 : decode cX11_after 72 = .ok (.astore_n 2, 1) := dk_77 (dk_at dksX11_after_3 1 rfl rfl)
theorem dX11_after_73 : decode cX11_after 73 = .ok (.iload_n 1, 1) := dk_27 (dk_at dksX11_after_3 2 rfl rfl)
theorem dX11_after_74 : decode cX11_after 74 = .ok (.bipush 7, 2) := dk_16 7 (dk_at dksX11_after_3 3 rfl rfl)
theorem dX11_after_76 : decode cX11_after 76 = .ok (.if_icmp .ge 7, 3) := dk_162 0 7 (dk_at dksX11_after_3 5 rfl rfl)
theorem dX11_after_79 : decode cX11_after 79 = .ok (.aload_n 2, 1) := dk_44 (dk_at dksX11_after_3 8 rfl rfl)
theorem dX11_after_80 : decode cX11_after 80 = .ok (.iload_n 1, 1) := dk_27 (dk_at dksX11_after_3 9 rfl rfl)
theorem dX11_after_81 : decode cX11_after 81 = .ok (.iaload, 1) := dk_46 (dk_at dksX11_after_3 10 rfl rfl)
theorem dX11_after_82 : decode cX11_after 82 = .ok (.ireturn, 1) := dk_172 (dk_at dksX11_after_3 11 rfl rfl)
theorem dX11_after_83 : decode cX11_after 83 = .ok (.aload_n 0, 1) := dk_42 (dk_at dksX11_after_3 12 rfl rfl)
theorem dX11_after_84 : decode cX11_after 84 = .ok (.invokevirtual 137, 3) := dk_182 0 137 (dk_at dksX11_after_3 13 rfl rfl)
theorem dX11_after_87 : decode cX11_after 87 = .ok (.astore_n 3, 1) := dk_78 (dk_at dksX11_after_3 16 rfl rfl)
theorem dX11_after_88 : decode cX11_after 88 = .ok (.aload_n 3, 1) := dk_45 (dk_at dksX11_after_3 17 rfl rfl)
theorem dX11_after_89 : decode cX11_after 89 = .ok (.iconst 1, 1) := dk_4 (dk_at dksX11_after_3 18 rfl rfl)
theorem dX11_after_90 : decode cX11_after 90 = .ok (.iaload, 1) := dk_46 (dk_at dksX11_after_3 19 rfl rfl)
theorem dX11_after_91 : decode cX11_after 91 = .ok (.ifCond .ne 7, 3) := dk_154 0 7 (dk_at dksX11_after_3 20 rfl rfl)
theorem dX11_after_94 : decode cX11_after 94 = .ok (.iconst (-1), 1) := dk_2 (dk_at dksX11_after_3 23 rfl rfl)
theorem dX11_after_95 : decode cX11_after 95 = .ok (.goto 19, 3) := dk_167 0 19 (dk_at dksX11_after_4 0 rfl rfl)
theorem dX11_after_98 : decode cX11_after 98 = .ok (.aload_n 3, 1) := dk_45 (dk_at dksX11_after_4 3 rfl rfl)
theorem dX11_after_99 : decode cX11_after 99 = .ok (.iload_n 1, 1) := dk_27 (dk_at dksX11_after_4 4 rfl rfl)
theorem dX11_after_100 : decode cX11_after 100 = .ok (.bipush 7, 2) := dk_16 7 (dk_at dksX11_after_4 5 rfl rfl)
theorem dX11_after_102 : decode cX11_after 102 = .ok (.isub, 1) := dk_100 (dk_at dksX11_after_4 7 rfl rfl)
theorem dX11_after_103 : decode cX11_after 103 = .ok (.iaload, 1) := dk_46 (dk_at dksX11_after_4 8 rfl rfl)
theorem dX11_after_104 : decode cX11_after 104 = .ok (.aload_n 3, 1) := dk_45 (dk_at dksX11_after_4 9 rfl rfl)
theorem dX11_after_105 : decode cX11_after 105 = .ok (.iconst 0, 1) := dk_3 (dk_at dksX11_after_4 10 rfl rfl)
theorem dX11_after_106 : decode cX11_after 106 = .ok (.iaload, 1) := dk_46 (dk_at dksX11_after_4 11 rfl rfl)
theorem dX11_after_107 : decode cX11_after 107 = .ok (.aload_n 3, 1) := dk_45 (dk_at dksX11_after_4 12 rfl rfl)
theorem dX11_after_108 : decode cX11_after 108 = .ok (.iconst 1, 1) := dk_4 (dk_at dksX11_after_4 13 rfl rfl)
theorem dX11_after_109 : decode cX11_after 109 = .ok (.iaload, 1) := dk_46 (dk_at dksX11_after_4 14 rfl rfl)
theorem dX11_after_110 : decode cX11_after 110 = .ok (.invokestatic 141, 3) := dk_184 0 141 (dk_at dksX11_after_4 15 rfl rfl)
theorem dX11_after_113 : decode cX11_after 113 = .ok (.idiv, 1) := dk_108 (dk_at dksX11_after_4 18 rfl rfl)
theorem dX11_after_114 : decode cX11_after 114 = .ok (.ireturn, 1) := dk_172 (dk_at dksX11_after_4 19 rfl rfl)
abbrev cX11_got : ByteArray := prog_20_method_5_code
def yX11_got : MethodName := ⟨RX11, "got", "()[I"⟩
def dkwX11_got_3 : List UInt8 := [180, 0, 9, 28, 46, 100, 96, 79, 43, 4, 92, 46, 4, 96, 79, 132, 2, 1, 167, 255, 184, 43, 176]
abbrev dktX11_got_3 : List UInt8 := dkwX11_got_3 ++ []
def dkwX11_got_2 : List UInt8 := [159, 0, 6, 167, 0, 34, 43, 3, 92, 46, 42, 180, 0, 20, 180, 0, 115, 28, 50, 4, 46, 42]
abbrev dktX11_got_2 : List UInt8 := dkwX11_got_2 ++ dktX11_got_3
def dkwX11_got_1 : List UInt8 := [180, 0, 20, 180, 0, 115, 28, 50, 198, 0, 52, 42, 180, 0, 20, 180, 0, 115, 28, 50, 3, 46, 4]
abbrev dktX11_got_1 : List UInt8 := dkwX11_got_1 ++ dktX11_got_2
def dkwX11_got_0 : List UInt8 := [5, 188, 10, 89, 3, 3, 79, 89, 4, 3, 79, 76, 3, 61, 28, 42, 180, 0, 63, 162, 0, 70, 42]
abbrev dktX11_got_0 : List UInt8 := dkwX11_got_0 ++ dktX11_got_1
theorem dksX11_got_0 : cX11_got.data.toList.drop 0 = dktX11_got_0 := by decide +kernel
theorem dksX11_got_1 : cX11_got.data.toList.drop 23 = dktX11_got_1 := dk_seg dksX11_got_0 23 rfl rfl
theorem dksX11_got_2 : cX11_got.data.toList.drop 46 = dktX11_got_2 := dk_seg dksX11_got_1 23 rfl rfl
theorem dksX11_got_3 : cX11_got.data.toList.drop 68 = dktX11_got_3 := dk_seg dksX11_got_2 22 rfl rfl
theorem dX11_got_0 : decode cX11_got 0 = .ok (.iconst 2, 1) := dk_5 (dk_at dksX11_got_0 0 rfl rfl)
theorem dX11_got_1 : decode cX11_got 1 = .ok (.newarray .int, 2) := dk_188_10 (dk_at dksX11_got_0 1 rfl rfl)
theorem dX11_got_3 : decode cX11_got 3 = .ok (.dup, 1) := dk_89 (dk_at dksX11_got_0 3 rfl rfl)
theorem dX11_got_4 : decode cX11_got 4 = .ok (.iconst 0, 1) := dk_3 (dk_at dksX11_got_0 4 rfl rfl)
theorem dX11_got_5 : decode cX11_got 5 = .ok (.iconst 0, 1) := dk_3 (dk_at dksX11_got_0 5 rfl rfl)
theorem dX11_got_6 : decode cX11_got 6 = .ok (.iastore, 1) := dk_79 (dk_at dksX11_got_0 6 rfl rfl)
theorem dX11_got_7 : decode cX11_got 7 = .ok (.dup, 1) := dk_89 (dk_at dksX11_got_0 7 rfl rfl)
theorem dX11_got_8 : decode cX11_got 8 = .ok (.iconst 1, 1) := dk_4 (dk_at dksX11_got_0 8 rfl rfl)
theorem dX11_got_9 : decode cX11_got 9 = .ok (.iconst 0, 1) := dk_3 (dk_at dksX11_got_0 9 rfl rfl)
theorem dX11_got_10 : decode cX11_got 10 = .ok (.iastore, 1) := dk_79 (dk_at dksX11_got_0 10 rfl rfl)
theorem dX11_got_11 : decode cX11_got 11 = .ok (.astore_n 1, 1) := dk_76 (dk_at dksX11_got_0 11 rfl rfl)
theorem dX11_got_12 : decode cX11_got 12 = .ok (.iconst 0, 1) := dk_3 (dk_at dksX11_got_0 12 rfl rfl)
theorem dX11_got_13 : decode cX11_got 13 = .ok (.istore_n 2, 1) := dk_61 (dk_at dksX11_got_0 13 rfl rfl)
theorem dX11_got_14 : decode cX11_got 14 = .ok (.iload_n 2, 1) := dk_28 (dk_at dksX11_got_0 14 rfl rfl)
theorem dX11_got_15 : decode cX11_got 15 = .ok (.aload_n 0, 1) := dk_42 (dk_at dksX11_got_0 15 rfl rfl)
theorem dX11_got_16 : decode cX11_got 16 = .ok (.getfield 63, 3) := dk_180 0 63 (dk_at dksX11_got_0 16 rfl rfl)
theorem dX11_got_19 : decode cX11_got 19 = .ok (.if_icmp .ge 70, 3) := dk_162 0 70 (dk_at dksX11_got_0 19 rfl rfl)
theorem dX11_got_22 : decode cX11_got 22 = .ok (.aload_n 0, 1) := dk_42 (dk_at dksX11_got_0 22 rfl rfl)
theorem dX11_got_23 : decode cX11_got 23 = .ok (.getfield 20, 3) := dk_180 0 20 (dk_at dksX11_got_1 0 rfl rfl)
theorem dX11_got_26 : decode cX11_got 26 = .ok (.getfield 115, 3) := dk_180 0 115 (dk_at dksX11_got_1 3 rfl rfl)
theorem dX11_got_29 : decode cX11_got 29 = .ok (.iload_n 2, 1) := dk_28 (dk_at dksX11_got_1 6 rfl rfl)
theorem dX11_got_30 : decode cX11_got 30 = .ok (.aaload, 1) := dk_50 (dk_at dksX11_got_1 7 rfl rfl)
theorem dX11_got_31 : decode cX11_got 31 = .ok (.ifnull 52, 3) := dk_198 0 52 (dk_at dksX11_got_1 8 rfl rfl)
theorem dX11_got_34 : decode cX11_got 34 = .ok (.aload_n 0, 1) := dk_42 (dk_at dksX11_got_1 11 rfl rfl)
theorem dX11_got_35 : decode cX11_got 35 = .ok (.getfield 20, 3) := dk_180 0 20 (dk_at dksX11_got_1 12 rfl rfl)
theorem dX11_got_38 : decode cX11_got 38 = .ok (.getfield 115, 3) := dk_180 0 115 (dk_at dksX11_got_1 15 rfl rfl)
theorem dX11_got_41 : decode cX11_got 41 = .ok (.iload_n 2, 1) := dk_28 (dk_at dksX11_got_1 18 rfl rfl)
theorem dX11_got_42 : decode cX11_got 42 = .ok (.aaload, 1) := dk_50 (dk_at dksX11_got_1 19 rfl rfl)
theorem dX11_got_43 : decode cX11_got 43 = .ok (.iconst 0, 1) := dk_3 (dk_at dksX11_got_1 20 rfl rfl)
theorem dX11_got_44 : decode cX11_got 44 = .ok (.iaload, 1) := dk_46 (dk_at dksX11_got_1 21 rfl rfl)
theorem dX11_got_45 : decode cX11_got 45 = .ok (.iconst 1, 1) := dk_4 (dk_at dksX11_got_1 22 rfl rfl)
theorem dX11_got_46 : decode cX11_got 46 = .ok (.if_icmp .eq 6, 3) := dk_159 0 6 (dk_at dksX11_got_2 0 rfl rfl)
theorem dX11_got_49 : decode cX11_got 49 = .ok (.goto 34, 3) := dk_167 0 34 (dk_at dksX11_got_2 3 rfl rfl)
theorem dX11_got_52 : decode cX11_got 52 = .ok (.aload_n 1, 1) := dk_43 (dk_at dksX11_got_2 6 rfl rfl)
theorem dX11_got_53 : decode cX11_got 53 = .ok (.iconst 0, 1) := dk_3 (dk_at dksX11_got_2 7 rfl rfl)
theorem dX11_got_54 : decode cX11_got 54 = .ok (.dup2, 1) := dk_92 (dk_at dksX11_got_2 8 rfl rfl)
theorem dX11_got_55 : decode cX11_got 55 = .ok (.iaload, 1) := dk_46 (dk_at dksX11_got_2 9 rfl rfl)
theorem dX11_got_56 : decode cX11_got 56 = .ok (.aload_n 0, 1) := dk_42 (dk_at dksX11_got_2 10 rfl rfl)
theorem dX11_got_57 : decode cX11_got 57 = .ok (.getfield 20, 3) := dk_180 0 20 (dk_at dksX11_got_2 11 rfl rfl)
theorem dX11_got_60 : decode cX11_got 60 = .ok (.getfield 115, 3) := dk_180 0 115 (dk_at dksX11_got_2 14 rfl rfl)
theorem dX11_got_63 : decode cX11_got 63 = .ok (.iload_n 2, 1) := dk_28 (dk_at dksX11_got_2 17 rfl rfl)
theorem dX11_got_64 : decode cX11_got 64 = .ok (.aaload, 1) := dk_50 (dk_at dksX11_got_2 18 rfl rfl)
theorem dX11_got_65 : decode cX11_got 65 = .ok (.iconst 1, 1) := dk_4 (dk_at dksX11_got_2 19 rfl rfl)
theorem dX11_got_66 : decode cX11_got 66 = .ok (.iaload, 1) := dk_46 (dk_at dksX11_got_2 20 rfl rfl)
theorem dX11_got_67 : decode cX11_got 67 = .ok (.aload_n 0, 1) := dk_42 (dk_at dksX11_got_2 21 rfl rfl)
theorem dX11_got_68 : decode cX11_got 68 = .ok (.getfield 9, 3) := dk_180 0 9 (dk_at dksX11_got_3 0 rfl rfl)
theorem dX11_got_71 : decode cX11_got 71 = .ok (.iload_n 2, 1) := dk_28 (dk_at dksX11_got_3 3 rfl rfl)
theorem dX11_got_72 : decode cX11_got 72 = .ok (.iaload, 1) := dk_46 (dk_at dksX11_got_3 4 rfl rfl)
theorem dX11_got_73 : decode cX11_got 73 = .ok (.isub, 1) := dk_100 (dk_at dksX11_got_3 5 rfl rfl)
theorem dX11_got_74 : decode cX11_got 74 = .ok (.iadd, 1) := dk_96 (dk_at dksX11_got_3 6 rfl rfl)
theorem dX11_got_75 : decode cX11_got 75 = .ok (.iastore, 1) := dk_79 (dk_at dksX11_got_3 7 rfl rfl)
theorem dX11_got_76 : decode cX11_got 76 = .ok (.aload_n 1, 1) := dk_43 (dk_at dksX11_got_3 8 rfl rfl)
theorem dX11_got_77 : decode cX11_got 77 = .ok (.iconst 1, 1) := dk_4 (dk_at dksX11_got_3 9 rfl rfl)
theorem dX11_got_78 : decode cX11_got 78 = .ok (.dup2, 1) := dk_92 (dk_at dksX11_got_3 10 rfl rfl)
theorem dX11_got_79 : decode cX11_got 79 = .ok (.iaload, 1) := dk_46 (dk_at dksX11_got_3 11 rfl rfl)
theorem dX11_got_80 : decode cX11_got 80 = .ok (.iconst 1, 1) := dk_4 (dk_at dksX11_got_3 12 rfl rfl)
theorem dX11_got_81 : decode cX11_got 81 = .ok (.iadd, 1) := dk_96 (dk_at dksX11_got_3 13 rfl rfl)
theorem dX11_got_82 : decode cX11_got 82 = .ok (.iastore, 1) := dk_79 (dk_at dksX11_got_3 14 rfl rfl)
theorem dX11_got_83 : decode cX11_got 83 = .ok (.iinc 2 1, 3) := dk_132 2 1 (dk_at dksX11_got_3 15 rfl rfl)
theorem dX11_got_86 : decode cX11_got 86 = .ok (.goto (-72), 3) := dk_167 255 184 (dk_at dksX11_got_3 18 rfl rfl)
theorem dX11_got_89 : decode cX11_got 89 = .ok (.aload_n 1, 1) := dk_43 (dk_at dksX11_got_3 21 rfl rfl)
theorem dX11_got_90 : decode cX11_got 90 = .ok (.areturn, 1) := dk_176 (dk_at dksX11_got_3 22 rfl rfl)
theorem q156 : (Jvm.Cond.initialized "AskedNames$Run") ∈ lw_all := lw_g (lw_at lw_m1 31 rfl) rfl
theorem q774 : (Jvm.Cond.selects "AskedNames$Run" ({ cls := "java/lang/Object", name := "getClass", desc := "()Ljava/lang/Class;" } : Jvm.MethodName) ({ cls := "java/lang/Object", name := "getClass", desc := "()Ljava/lang/Class;" } : Jvm.MethodName)) ∈ lw_all := lw_g (lw_at lw_m3 169 rfl) rfl
theorem q924 : (Jvm.Cond.fieldLinkNest "AskedNames$Run" (24 : Nat) "AskedNames$Deed" "doing" "LAskedNames$Doing;" "AskedNames") ∈ lw_tbl := lw_at lw_m4 79 rfl
theorem q927 : (Jvm.Cond.fieldLinkNest "AskedNames$Run" (40 : Nat) "AskedNames$Deed" "a" "I" "AskedNames") ∈ lw_tbl := lw_at lw_m4 82 rfl
theorem q930 : (Jvm.Cond.fieldLinkNest "AskedNames$Run" (53 : Nat) "AskedNames$Deed" "b" "I" "AskedNames") ∈ lw_tbl := lw_at lw_m4 85 rfl
theorem q933 : (Jvm.Cond.fieldLinkNest "AskedNames$Run" (66 : Nat) "AskedNames$Deed" "name" "Ljava/lang/String;" "AskedNames") ∈ lw_tbl := lw_at lw_m4 88 rfl
theorem q1346 : (Jvm.Cond.fieldLinkNest "AskedNames$Run" (36 : Nat) "AskedNames$Going" "net" "LAskedNames$Net;" "AskedNames") ∈ lw_tbl := lw_at lw_m6 21 rfl
theorem q1354 : (Jvm.Cond.fieldLinkNest "AskedNames$Run" (115 : Nat) "AskedNames$Going" "ends" "[[I" "AskedNames") ∈ lw_tbl := lw_at lw_m6 29 rfl
theorem q1356 : (Jvm.Cond.fieldLinkNest "AskedNames$Run" (50 : Nat) "AskedNames$Going" "minute" "I" "AskedNames") ∈ lw_tbl := lw_at lw_m6 31 rfl
theorem q1359 : (Jvm.Cond.fieldLinkNest "AskedNames$Run" (119 : Nat) "AskedNames$Going" "sent" "I" "AskedNames") ∈ lw_tbl := lw_at lw_m6 34 rfl
theorem q1362 : (Jvm.Cond.fieldLinkNest "AskedNames$Run" (122 : Nat) "AskedNames$Going" "hits" "I" "AskedNames") ∈ lw_tbl := lw_at lw_m6 37 rfl
theorem q1364 : (Jvm.Cond.fieldLinkNest "AskedNames$Run" (125 : Nat) "AskedNames$Going" "joined" "I" "AskedNames") ∈ lw_tbl := lw_at lw_m6 39 rfl
theorem q1366 : (Jvm.Cond.fieldLinkNest "AskedNames$Run" (128 : Nat) "AskedNames$Going" "loops" "I" "AskedNames") ∈ lw_tbl := lw_at lw_m6 41 rfl
theorem q1368 : (Jvm.Cond.fieldLinkNest "AskedNames$Run" (131 : Nat) "AskedNames$Going" "dropped" "I" "AskedNames") ∈ lw_tbl := lw_at lw_m6 43 rfl
theorem q1370 : (Jvm.Cond.fieldLinkNest "AskedNames$Run" (134 : Nat) "AskedNames$Going" "missed" "I" "AskedNames") ∈ lw_tbl := lw_at lw_m6 45 rfl
theorem q1517 : (Jvm.Cond.instantiable "AskedNames$Run" (5 : Nat)) ∈ lw_all := lw_g (lw_at lw_m6 192 rfl) rfl
theorem q1519 : (Jvm.Cond.instanceMethod ({ cls := "AskedNames$Run", name := "<init>", desc := "(LAskedNames$Net;)V" } : Jvm.MethodName)) ∈ lw_all := lw_g (lw_at lw_m6 194 rfl) rfl
theorem q1520 : (Jvm.Cond.code ({ cls := "AskedNames$Run", name := "<init>", desc := "(LAskedNames$Net;)V" } : Jvm.MethodName) prog_20_method_1_code (2 : Nat) (Option.none : Option Jvm.ClassFile.FieldType)) ∈ lw_all := lw_g (lw_at lw_m6 195 rfl) rfl
theorem q1521 : (Jvm.Cond.methodLink "AskedNames$Run" (3 : Nat) ({ cls := "java/lang/Object", name := "<init>", desc := "()V" } : Jvm.MethodName)) ∈ lw_all := lw_g (lw_at lw_m6 196 rfl) rfl
theorem q1522 : (Jvm.Cond.classLink "AskedNames$Run" (15 : Nat) "AskedNames$Going") ∈ lw_all := lw_g (lw_at lw_m6 197 rfl) rfl
theorem q1523 : (Jvm.Cond.methodLink "AskedNames$Run" (17 : Nat) ({ cls := "AskedNames$Going", name := "<init>", desc := "(LAskedNames$Net;)V" } : Jvm.MethodName)) ∈ lw_all := lw_g (lw_at lw_m6 198 rfl) rfl
theorem q1524 : (Jvm.Cond.fieldLink "AskedNames$Run" (20 : Nat) "AskedNames$Run" "going" "LAskedNames$Going;") ∈ lw_all := lw_g (lw_at lw_m6 199 rfl) rfl
theorem q1528 : (Jvm.Cond.fieldLink "AskedNames$Run" (9 : Nat) "AskedNames$Run" "asked" "[I") ∈ lw_all := lw_g (lw_at lw_m6 203 rfl) rfl
theorem q1529 : (Jvm.Cond.fieldLink "AskedNames$Run" (95 : Nat) "AskedNames$Run" "done" "I") ∈ lw_all := lw_g (lw_at lw_m6 204 rfl) rfl
theorem q1532 : (Jvm.Cond.fieldLink "AskedNames$Run" (63 : Nat) "AskedNames$Run" "acts" "I") ∈ lw_all := lw_g (lw_at lw_m6 207 rfl) rfl
theorem q1533 : (Jvm.Cond.fieldLink "AskedNames$Run" (83 : Nat) "AskedNames$Run" "widest" "I") ∈ lw_all := lw_g (lw_at lw_m6 208 rfl) rfl
theorem q1534 : (Jvm.Cond.laysFinal "AskedNames$Run" "AskedNames$Run" "going" "LAskedNames$Going;") ∈ lw_all := lw_g (lw_at lw_m6 209 rfl) rfl
theorem q1535 : (Jvm.Cond.soleField "AskedNames$Run" "going") ∈ lw_all := lw_g (lw_at lw_m6 210 rfl) rfl
theorem q1536 : (Jvm.Cond.laysFinal "AskedNames$Run" "AskedNames$Run" "asked" "[I") ∈ lw_all := lw_g (lw_at lw_m6 211 rfl) rfl
theorem q1537 : (Jvm.Cond.soleField "AskedNames$Run" "asked") ∈ lw_all := lw_g (lw_at lw_m6 212 rfl) rfl
theorem q1538 : (Jvm.Cond.lays "AskedNames$Run" "AskedNames$Run" "done" "I") ∈ lw_all := lw_g (lw_at lw_m6 213 rfl) rfl
theorem q1539 : (Jvm.Cond.soleField "AskedNames$Run" "done") ∈ lw_all := lw_g (lw_at lw_m6 214 rfl) rfl
theorem q1540 : (Jvm.Cond.lays "AskedNames$Run" "AskedNames$Run" "acts" "I") ∈ lw_all := lw_g (lw_at lw_m6 215 rfl) rfl
theorem q1541 : (Jvm.Cond.soleField "AskedNames$Run" "acts") ∈ lw_all := lw_g (lw_at lw_m6 216 rfl) rfl
theorem q1542 : (Jvm.Cond.lays "AskedNames$Run" "AskedNames$Run" "widest" "I") ∈ lw_all := lw_g (lw_at lw_m6 217 rfl) rfl
theorem q1543 : (Jvm.Cond.soleField "AskedNames$Run" "widest") ∈ lw_all := lw_g (lw_at lw_m6 218 rfl) rfl
theorem q1544 : (Jvm.Cond.superclass "AskedNames$Run" "java/lang/Object") ∈ lw_all := lw_g (lw_at lw_m6 219 rfl) rfl
theorem q1546 : (Jvm.Cond.instanceMethod ({ cls := "AskedNames$Run", name := "goes", desc := "(Ljava/util/ArrayList;I)LAskedNames$Run;" } : Jvm.MethodName)) ∈ lw_all := lw_g (lw_at lw_m6 221 rfl) rfl
theorem q1547 : (Jvm.Cond.selects "AskedNames$Run" ({ cls := "AskedNames$Run", name := "goes", desc := "(Ljava/util/ArrayList;I)LAskedNames$Run;" } : Jvm.MethodName) ({ cls := "AskedNames$Run", name := "goes", desc := "(Ljava/util/ArrayList;I)LAskedNames$Run;" } : Jvm.MethodName)) ∈ lw_all := lw_g (lw_at lw_m6 222 rfl) rfl
theorem q1548 : (Jvm.Cond.code ({ cls := "AskedNames$Run", name := "goes", desc := "(Ljava/util/ArrayList;I)LAskedNames$Run;" } : Jvm.MethodName) prog_20_method_4_code (3 : Nat) (Option.some (Jvm.ClassFile.FieldType.object "AskedNames$Run"))) ∈ lw_all := lw_g (lw_at lw_m6 223 rfl) rfl
theorem q1549 : (Jvm.Cond.methodLink "AskedNames$Run" (98 : Nat) ({ cls := "java/util/ArrayList", name := "size", desc := "()I" } : Jvm.MethodName)) ∈ lw_all := lw_g (lw_at lw_m6 224 rfl) rfl
theorem q1550 : (Jvm.Cond.methodLink "AskedNames$Run" (103 : Nat) ({ cls := "java/util/ArrayList", name := "get", desc := "(I)Ljava/lang/Object;" } : Jvm.MethodName)) ∈ lw_all := lw_g (lw_at lw_m6 225 rfl) rfl
theorem q1551 : (Jvm.Cond.classLink "AskedNames$Run" (25 : Nat) "AskedNames$Deed") ∈ lw_all := lw_g (lw_at lw_m6 226 rfl) rfl
theorem q1552 : (Jvm.Cond.methodLink "AskedNames$Run" (107 : Nat) ({ cls := "AskedNames$Run", name := "can", desc := "(LAskedNames$Deed;)Z" } : Jvm.MethodName)) ∈ lw_all := lw_g (lw_at lw_m6 227 rfl) rfl
theorem q1553 : (Jvm.Cond.instanceMethod ({ cls := "AskedNames$Run", name := "can", desc := "(LAskedNames$Deed;)Z" } : Jvm.MethodName)) ∈ lw_all := lw_g (lw_at lw_m6 228 rfl) rfl
theorem q1554 : (Jvm.Cond.selects "AskedNames$Run" ({ cls := "AskedNames$Run", name := "can", desc := "(LAskedNames$Deed;)Z" } : Jvm.MethodName) ({ cls := "AskedNames$Run", name := "can", desc := "(LAskedNames$Deed;)Z" } : Jvm.MethodName)) ∈ lw_all := lw_g (lw_at lw_m6 229 rfl) rfl
theorem q1555 : (Jvm.Cond.code ({ cls := "AskedNames$Run", name := "can", desc := "(LAskedNames$Deed;)Z" } : Jvm.MethodName) prog_20_method_2_code (2 : Nat) (Option.some Jvm.ClassFile.FieldType.boolean)) ∈ lw_all := lw_g (lw_at lw_m6 230 rfl) rfl
theorem q1556 : (Jvm.Cond.methodLink "AskedNames$Run" (30 : Nat) ({ cls := "AskedNames$Doing", name := "ordinal", desc := "()I" } : Jvm.MethodName)) ∈ lw_all := lw_g (lw_at lw_m6 231 rfl) rfl
theorem q1557 : (Jvm.Cond.methodLink "AskedNames$Run" (44 : Nat) ({ cls := "AskedNames$Net", name := "isNode", desc := "(I)Z" } : Jvm.MethodName)) ∈ lw_all := lw_g (lw_at lw_m6 232 rfl) rfl
theorem q1558 : (Jvm.Cond.methodLink "AskedNames$Run" (56 : Nat) ({ cls := "AskedNames$Going", name := "isUp", desc := "(II)Z" } : Jvm.MethodName)) ∈ lw_all := lw_g (lw_at lw_m6 233 rfl) rfl
theorem q1559 : (Jvm.Cond.methodLink "AskedNames$Run" (60 : Nat) ({ cls := "AskedNames$Net", name := "isLink", desc := "(II)Z" } : Jvm.MethodName)) ∈ lw_all := lw_g (lw_at lw_m6 234 rfl) rfl
theorem q1560 : (Jvm.Cond.methodLink "AskedNames$Run" (111 : Nat) ({ cls := "AskedNames$Run", name := "does", desc := "(LAskedNames$Deed;)V" } : Jvm.MethodName)) ∈ lw_all := lw_g (lw_at lw_m6 235 rfl) rfl
theorem q1561 : (Jvm.Cond.instanceMethod ({ cls := "AskedNames$Run", name := "does", desc := "(LAskedNames$Deed;)V" } : Jvm.MethodName)) ∈ lw_all := lw_g (lw_at lw_m6 236 rfl) rfl
theorem q1562 : (Jvm.Cond.selects "AskedNames$Run" ({ cls := "AskedNames$Run", name := "does", desc := "(LAskedNames$Deed;)V" } : Jvm.MethodName) ({ cls := "AskedNames$Run", name := "does", desc := "(LAskedNames$Deed;)V" } : Jvm.MethodName)) ∈ lw_all := lw_g (lw_at lw_m6 237 rfl) rfl
theorem q1563 : (Jvm.Cond.code ({ cls := "AskedNames$Run", name := "does", desc := "(LAskedNames$Deed;)V" } : Jvm.MethodName) prog_20_method_3_code (3 : Nat) (Option.none : Option Jvm.ClassFile.FieldType)) ∈ lw_all := lw_g (lw_at lw_m6 238 rfl) rfl
theorem q1564 : (Jvm.Cond.fieldLink "AskedNames$Run" (70 : Nat) "AskedNames$Doing" "FRESH" "LAskedNames$Doing;") ∈ lw_all := lw_g (lw_at lw_m6 239 rfl) rfl
theorem q1565 : (Jvm.Cond.methodLink "AskedNames$Run" (73 : Nat) ({ cls := "AskedNames$Going", name := "asks", desc := "(IILjava/lang/String;II)V" } : Jvm.MethodName)) ∈ lw_all := lw_g (lw_at lw_m7 0 rfl) rfl
theorem q1861 : (Jvm.Cond.methodLink "AskedNames$Run" (77 : Nat) ({ cls := "AskedNames$Going", name := "minute", desc := "()V" } : Jvm.MethodName)) ∈ lw_all := lw_g (lw_at lw_m8 56 rfl) rfl
theorem q1907 : (Jvm.Cond.methodLink "AskedNames$Run" (79 : Nat) ({ cls := "AskedNames$Going", name := "turns", desc := "(II)V" } : Jvm.MethodName)) ∈ lw_all := lw_g (lw_at lw_m8 102 rfl) rfl
theorem q1911 : (Jvm.Cond.methodLink "AskedNames$Run" (86 : Nat) ({ cls := "AskedNames$Going", name := "entries", desc := "()I" } : Jvm.MethodName)) ∈ lw_all := lw_g (lw_at lw_m8 106 rfl) rfl
theorem q1915 : (Jvm.Cond.methodLink "AskedNames$Run" (89 : Nat) ({ cls := "java/lang/Math", name := "max", desc := "(II)I" } : Jvm.MethodName)) ∈ lw_all := lw_g (lw_at lw_m8 110 rfl) rfl
theorem q1961 : (Jvm.Cond.instanceMethod ({ cls := "AskedNames$Run", name := "after", desc := "(I)I" } : Jvm.MethodName)) ∈ lw_all := lw_g (lw_at lw_m8 156 rfl) rfl
theorem q1962 : (Jvm.Cond.selects "AskedNames$Run" ({ cls := "AskedNames$Run", name := "after", desc := "(I)I" } : Jvm.MethodName) ({ cls := "AskedNames$Run", name := "after", desc := "(I)I" } : Jvm.MethodName)) ∈ lw_all := lw_g (lw_at lw_m8 157 rfl) rfl
theorem q1963 : (Jvm.Cond.code ({ cls := "AskedNames$Run", name := "after", desc := "(I)I" } : Jvm.MethodName) prog_20_method_6_code (4 : Nat) (Option.some Jvm.ClassFile.FieldType.int)) ∈ lw_all := lw_g (lw_at lw_m8 158 rfl) rfl
theorem q1964 : (Jvm.Cond.methodLink "AskedNames$Run" (137 : Nat) ({ cls := "AskedNames$Run", name := "got", desc := "()[I" } : Jvm.MethodName)) ∈ lw_all := lw_g (lw_at lw_m8 159 rfl) rfl
theorem q1965 : (Jvm.Cond.privateMethod ({ cls := "AskedNames$Run", name := "got", desc := "()[I" } : Jvm.MethodName)) ∈ lw_tbl := lw_at lw_m8 160 rfl
theorem q1966 : (Jvm.Cond.instanceMethod ({ cls := "AskedNames$Run", name := "got", desc := "()[I" } : Jvm.MethodName)) ∈ lw_all := lw_g (lw_at lw_m8 161 rfl) rfl
theorem q1967 : (Jvm.Cond.code ({ cls := "AskedNames$Run", name := "got", desc := "()[I" } : Jvm.MethodName) prog_20_method_5_code (3 : Nat) (Option.some (Jvm.ClassFile.FieldType.array Jvm.ClassFile.FieldType.int))) ∈ lw_all := lw_g (lw_at lw_m8 162 rfl) rfl
theorem q1968 : (Jvm.Cond.methodLinkNest "AskedNames$Run" (141 : Nat) ({ cls := "AskedNames", name := "common", desc := "(II)I" } : Jvm.MethodName) "AskedNames") ∈ lw_tbl := lw_at lw_m8 163 rfl
theorem q2987 : (Jvm.Cond.castable "AskedNames$Run" "java/lang/Object") ∈ lw_tbl := lw_at lw_m12 222 rfl
theorem in_X11 : ∀ w ∈ wsX110, w ∈ lw_all := lw_in wsX110 [1534, 1536, 1538, 1540, 1542] (by decide +kernel) (by decide +kernel)

/-! AskedNames$Node -/
set_option maxRecDepth 100000
def RX13 : String := "AskedNames$Node"
def TX13 : u_T := fun k => match k with
  | 0 => ("AskedNames$Node", "store", "Ljava/util/ArrayList;", true)
  | 1 => ("AskedNames$Node", "entries", "Ljava/util/ArrayList;", true)
  | 2 => ("AskedNames$Node", "measured", "[I", true)
  | _ => ("AskedNames$Node", "dead", "J", false)
def tyX13 : Nat → FieldType := fun k => match k with
  | 0 => .object "java/util/ArrayList"
  | 1 => .object "java/util/ArrayList"
  | 2 => .array .int
  | _ => .long
abbrev wsX130 : List Cond := u_ws RX13 TX13 4
theorem nmX13 : ∀ a, a < 4 → ∀ b, b < 4 → a ≠ b → (TX13 a).2.1 ≠ (TX13 b).2.1 := by decide +kernel
theorem tyX13_ok : ∀ k, k < 4 → parseFieldDescriptor (TX13 k).2.2.1 = some (tyX13 k) := by decide +kernel
abbrev cX13_init : ByteArray := prog_16_method_1_code
def yX13_init : MethodName := ⟨RX13, "<init>", "()V"⟩
def dkwX13_init_1 : List UInt8 := [181, 0, 21, 42, 16, 6, 188, 10, 181, 0, 24, 42, 180, 0, 24, 2, 184, 0, 28, 177]
abbrev dktX13_init_1 : List UInt8 := dkwX13_init_1 ++ []
def dkwX13_init_0 : List UInt8 := [42, 183, 0, 3, 42, 187, 0, 9, 89, 8, 183, 0, 11, 181, 0, 14, 42, 187, 0, 9, 89, 183, 0, 20]
abbrev dktX13_init_0 : List UInt8 := dkwX13_init_0 ++ dktX13_init_1
theorem dksX13_init_0 : cX13_init.data.toList.drop 0 = dktX13_init_0 := by decide +kernel
theorem dksX13_init_1 : cX13_init.data.toList.drop 24 = dktX13_init_1 := dk_seg dksX13_init_0 24 rfl rfl
theorem dX13_init_0 : decode cX13_init 0 = .ok (.aload_n 0, 1) := dk_42 (dk_at dksX13_init_0 0 rfl rfl)
theorem dX13_init_1 : decode cX13_init 1 = .ok (.invokespecial 3, 3) := dk_183 0 3 (dk_at dksX13_init_0 1 rfl rfl)
theorem dX13_init_4 : decode cX13_init 4 = .ok (.aload_n 0, 1) := dk_42 (dk_at dksX13_init_0 4 rfl rfl)
theorem dX13_init_5 : decode cX13_init 5 = .ok (.new 9, 3) := dk_187 0 9 (dk_at dksX13_init_0 5 rfl rfl)
theorem dX13_init_8 : decode cX13_init 8 = .ok (.dup, 1) := dk_89 (dk_at dksX13_init_0 8 rfl rfl)
theorem dX13_init_9 : decode cX13_init 9 = .ok (.iconst 5, 1) := dk_8 (dk_at dksX13_init_0 9 rfl rfl)
theorem dX13_init_10 : decode cX13_init 10 = .ok (.invokespecial 11, 3) := dk_183 0 11 (dk_at dksX13_init_0 10 rfl rfl)
theorem dX13_init_13 : decode cX13_init 13 = .ok (.putfield 14, 3) := dk_181 0 14 (dk_at dksX13_init_0 13 rfl rfl)
theorem dX13_init_16 : decode cX13_init 16 = .ok (.aload_n 0, 1) := dk_42 (dk_at dksX13_init_0 16 rfl rfl)
theorem dX13_init_17 : decode cX13_init 17 = .ok (.new 9, 3) := dk_187 0 9 (dk_at dksX13_init_0 17 rfl rfl)
theorem dX13_init_20 : decode cX13_init 20 = .ok (.dup, 1) := dk_89 (dk_at dksX13_init_0 20 rfl rfl)
theorem dX13_init_21 : decode cX13_init 21 = .ok (.invokespecial 20, 3) := dk_183 0 20 (dk_at dksX13_init_0 21 rfl rfl)
theorem dX13_init_24 : decode cX13_init 24 = .ok (.putfield 21, 3) := dk_181 0 21 (dk_at dksX13_init_1 0 rfl rfl)
theorem dX13_init_27 : decode cX13_init 27 = .ok (.aload_n 0, 1) := dk_42 (dk_at dksX13_init_1 3 rfl rfl)
theorem dX13_init_28 : decode cX13_init 28 = .ok (.bipush 6, 2) := dk_16 6 (dk_at dksX13_init_1 4 rfl rfl)
theorem dX13_init_30 : decode cX13_init 30 = .ok (.newarray .int, 2) := dk_188_10 (dk_at dksX13_init_1 6 rfl rfl)
theorem dX13_init_32 : decode cX13_init 32 = .ok (.putfield 24, 3) := dk_181 0 24 (dk_at dksX13_init_1 8 rfl rfl)
theorem dX13_init_35 : decode cX13_init 35 = .ok (.aload_n 0, 1) := dk_42 (dk_at dksX13_init_1 11 rfl rfl)
theorem dX13_init_36 : decode cX13_init 36 = .ok (.getfield 24, 3) := dk_180 0 24 (dk_at dksX13_init_1 12 rfl rfl)
theorem dX13_init_39 : decode cX13_init 39 = .ok (.iconst (-1), 1) := dk_2 (dk_at dksX13_init_1 15 rfl rfl)
theorem dX13_init_40 : decode cX13_init 40 = .ok (.invokestatic 28, 3) := dk_184 0 28 (dk_at dksX13_init_1 16 rfl rfl)
theorem dX13_init_43 : decode cX13_init 43 = .ok (.return_, 1) := dk_177 (dk_at dksX13_init_1 19 rfl rfl)
abbrev cX13_entry : ByteArray := prog_16_method_2_code
def yX13_entry : MethodName := ⟨RX13, "entry", "(Ljava/lang/String;I)LAskedNames$Entry;"⟩
def dkwX13_entry_2 : List UInt8 := [167, 255, 211, 1, 176]
abbrev dktX13_entry_2 : List UInt8 := dkwX13_entry_2 ++ []
def dkwX13_entry_1 : List UInt8 := [43, 28, 182, 0, 44, 153, 0, 15, 42, 180, 0, 21, 29, 182, 0, 38, 192, 0, 42, 176, 132, 3, 1]
abbrev dktX13_entry_1 : List UInt8 := dkwX13_entry_1 ++ dktX13_entry_2
def dkwX13_entry_0 : List UInt8 := [3, 62, 29, 42, 180, 0, 21, 182, 0, 34, 162, 0, 40, 42, 180, 0, 21, 29, 182, 0, 38, 192, 0, 42]
abbrev dktX13_entry_0 : List UInt8 := dkwX13_entry_0 ++ dktX13_entry_1
theorem dksX13_entry_0 : cX13_entry.data.toList.drop 0 = dktX13_entry_0 := by decide +kernel
theorem dksX13_entry_1 : cX13_entry.data.toList.drop 24 = dktX13_entry_1 := dk_seg dksX13_entry_0 24 rfl rfl
theorem dksX13_entry_2 : cX13_entry.data.toList.drop 47 = dktX13_entry_2 := dk_seg dksX13_entry_1 23 rfl rfl
theorem dX13_entry_0 : decode cX13_entry 0 = .ok (.iconst 0, 1) := dk_3 (dk_at dksX13_entry_0 0 rfl rfl)
theorem dX13_entry_1 : decode cX13_entry 1 = .ok (.istore_n 3, 1) := dk_62 (dk_at dksX13_entry_0 1 rfl rfl)
theorem dX13_entry_2 : decode cX13_entry 2 = .ok (.iload_n 3, 1) := dk_29 (dk_at dksX13_entry_0 2 rfl rfl)
theorem dX13_entry_3 : decode cX13_entry 3 = .ok (.aload_n 0, 1) := dk_42 (dk_at dksX13_entry_0 3 rfl rfl)
theorem dX13_entry_4 : decode cX13_entry 4 = .ok (.getfield 21, 3) := dk_180 0 21 (dk_at dksX13_entry_0 4 rfl rfl)
theorem dX13_entry_7 : decode cX13_entry 7 = .ok (.invokevirtual 34, 3) := dk_182 0 34 (dk_at dksX13_entry_0 7 rfl rfl)
theorem dX13_entry_10 : decode cX13_entry 10 = .ok (.if_icmp .ge 40, 3) := dk_162 0 40 (dk_at dksX13_entry_0 10 rfl rfl)
theorem dX13_entry_13 : decode cX13_entry 13 = .ok (.aload_n 0, 1) := dk_42 (dk_at dksX13_entry_0 13 rfl rfl)
theorem dX13_entry_14 : decode cX13_entry 14 = .ok (.getfield 21, 3) := dk_180 0 21 (dk_at dksX13_entry_0 14 rfl rfl)
theorem dX13_entry_17 : decode cX13_entry 17 = .ok (.iload_n 3, 1) := dk_29 (dk_at dksX13_entry_0 17 rfl rfl)
theorem dX13_entry_18 : decode cX13_entry 18 = .ok (.invokevirtual 38, 3) := dk_182 0 38 (dk_at dksX13_entry_0 18 rfl rfl)
theorem dX13_entry_21 : decode cX13_entry 21 = .ok (.checkcast 42, 3) := dk_192 0 42 (dk_at dksX13_entry_0 21 rfl rfl)
theorem dX13_entry_24 : decode cX13_entry 24 = .ok (.aload_n 1, 1) := dk_43 (dk_at dksX13_entry_1 0 rfl rfl)
theorem dX13_entry_25 : decode cX13_entry 25 = .ok (.iload_n 2, 1) := dk_28 (dk_at dksX13_entry_1 1 rfl rfl)
theorem dX13_entry_26 : decode cX13_entry 26 = .ok (.invokevirtual 44, 3) := dk_182 0 44 (dk_at dksX13_entry_1 2 rfl rfl)
theorem dX13_entry_29 : decode cX13_entry 29 = .ok (.ifCond .eq 15, 3) := dk_153 0 15 (dk_at dksX13_entry_1 5 rfl rfl)
theorem dX13_entry_32 : decode cX13_entry 32 = .ok (.aload_n 0, 1) := dk_42 (dk_at dksX13_entry_1 8 rfl rfl)
theorem dX13_entry_33 : decode cX13_entry 33 = .ok (.getfield 21, 3) := dk_180 0 21 (dk_at dksX13_entry_1 9 rfl rfl)
theorem dX13_entry_36 : decode cX13_entry 36 = .ok (.iload_n 3, 1) := dk_29 (dk_at dksX13_entry_1 12 rfl rfl)
theorem dX13_entry_37 : decode cX13_entry 37 = .ok (.invokevirtual 38, 3) := dk_182 0 38 (dk_at dksX13_entry_1 13 rfl rfl)
theorem dX13_entry_40 : decode cX13_entry 40 = .ok (.checkcast 42, 3) := dk_192 0 42 (dk_at dksX13_entry_1 16 rfl rfl)
theorem dX13_entry_43 : decode cX13_entry 43 = .ok (.areturn, 1) := dk_176 (dk_at dksX13_entry_1 19 rfl rfl)
theorem dX13_entry_44 : decode cX13_entry 44 = .ok (.iinc 3 1, 3) := dk_132 3 1 (dk_at dksX13_entry_1 20 rfl rfl)
theorem dX13_entry_47 : decode cX13_entry 47 = .ok (.goto (-45), 3) := dk_167 255 211 (dk_at dksX13_entry_2 0 rfl rfl)
theorem dX13_entry_50 : decode cX13_entry 50 = .ok (.aconst_null, 1) := dk_1 (dk_at dksX13_entry_2 3 rfl rfl)
theorem dX13_entry_51 : decode cX13_entry 51 = .ok (.areturn, 1) := dk_176 (dk_at dksX13_entry_2 4 rfl rfl)
abbrev cX13_uses : ByteArray := prog_16_method_4_code
def yX13_uses : MethodName := ⟨RX13, "uses", "(Ljava/lang/String;II)LAskedNames$Data;"⟩
def dkwX13_uses_3 : List UInt8 := [25, 5, 182, 0, 67, 87, 25, 5, 176, 132, 4, 1, 167, 255, 175, 1, 176]
abbrev dktX13_uses_3 : List UInt8 := dkwX13_uses_3 ++ []
def dkwX13_uses_2 : List UInt8 := [180, 0, 63, 29, 162, 0, 6, 167, 0, 26, 42, 180, 0, 14, 21, 4, 182, 0, 48, 87, 42, 180, 0, 14]
abbrev dktX13_uses_2 : List UInt8 := dkwX13_uses_2 ++ dktX13_uses_3
def dkwX13_uses_1 : List UInt8 := [192, 0, 51, 58, 5, 25, 5, 180, 0, 53, 43, 182, 0, 57, 153, 0, 43, 28, 4, 160, 0, 15, 25, 5]
abbrev dktX13_uses_1 : List UInt8 := dkwX13_uses_1 ++ dktX13_uses_2
def dkwX13_uses_0 : List UInt8 := [3, 54, 4, 21, 4, 42, 180, 0, 14, 182, 0, 34, 162, 0, 75, 42, 180, 0, 14, 21, 4, 182, 0, 38]
abbrev dktX13_uses_0 : List UInt8 := dkwX13_uses_0 ++ dktX13_uses_1
theorem dksX13_uses_0 : cX13_uses.data.toList.drop 0 = dktX13_uses_0 := by decide +kernel
theorem dksX13_uses_1 : cX13_uses.data.toList.drop 24 = dktX13_uses_1 := dk_seg dksX13_uses_0 24 rfl rfl
theorem dksX13_uses_2 : cX13_uses.data.toList.drop 48 = dktX13_uses_2 := dk_seg dksX13_uses_1 24 rfl rfl
theorem dksX13_uses_3 : cX13_uses.data.toList.drop 72 = dktX13_uses_3 := dk_seg dksX13_uses_2 24 rfl rfl
theorem dX13_uses_0 : decode cX13_uses 0 = .ok (.iconst 0, 1) := dk_3 (dk_at dksX13_uses_0 0 rfl rfl)
theorem dX13_uses_1 : decode cX13_uses 1 = .ok (.istore 4, 2) := dk_54 4 (dk_at dksX13_uses_0 1 rfl rfl)
theorem dX13_uses_3 : decode cX13_uses 3 = .ok (.iload 4, 2) := dk_21 4 (dk_at dksX13_uses_0 3 rfl rfl)
theorem dX13_uses_5 : decode cX13_uses 5 = .ok (.aload_n 0, 1) := dk_42 (dk_at dksX13_uses_0 5 rfl rfl)
theorem dX13_uses_6 : decode cX13_uses 6 = .ok (.getfield 14, 3) := dk_180 0 14 (dk_at dksX13_uses_0 6 rfl rfl)
theorem dX13_uses_9 : decode cX13_uses 9 = .ok (.invokevirtual 34, 3) := dk_182 0 34 (dk_at dksX13_uses_0 9 rfl rfl)
theorem dX13_uses_12 : decode cX13_uses 12 = .ok (.if_icmp .ge 75, 3) := dk_162 0 75 (dk_at dksX13_uses_0 12 rfl rfl)
theorem dX13_uses_15 : decode cX13_uses 15 = .ok (.aload_n 0, 1) := dk_42 (dk_at dksX13_uses_0 15 rfl rfl)
theorem dX13_uses_16 : decode cX13_uses 16 = .ok (.getfield 14, 3) := dk_180 0 14 (dk_at dksX13_uses_0 16 rfl rfl)
theorem dX13_uses_19 : decode cX13_uses 19 = .ok (.iload 4, 2) := dk_21 4 (dk_at dksX13_uses_0 19 rfl rfl)
theorem dX13_uses_21 : decode cX13_uses 21 = .ok (.invokevirtual 38, 3) := dk_182 0 38 (dk_at dksX13_uses_0 21 rfl rfl)
theorem dX13_uses_24 : decode cX13_uses 24 = .ok (.checkcast 51, 3) := dk_192 0 51 (dk_at dksX13_uses_1 0 rfl rfl)
theorem dX13_uses_27 : decode cX13_uses 27 = .ok (.astore 5, 2) := dk_58 5 (dk_at dksX13_uses_1 3 rfl rfl)
theorem dX13_uses_29 : decode cX13_uses 29 = .ok (.aload 5, 2) := dk_25 5 (dk_at dksX13_uses_1 5 rfl rfl)
theorem dX13_uses_31 : decode cX13_uses 31 = .ok (.getfield 53, 3) := dk_180 0 53 (dk_at dksX13_uses_1 7 rfl rfl)
theorem dX13_uses_34 : decode cX13_uses 34 = .ok (.aload_n 1, 1) := dk_43 (dk_at dksX13_uses_1 10 rfl rfl)
theorem dX13_uses_35 : decode cX13_uses 35 = .ok (.invokevirtual 57, 3) := dk_182 0 57 (dk_at dksX13_uses_1 11 rfl rfl)
theorem dX13_uses_38 : decode cX13_uses 38 = .ok (.ifCond .eq 43, 3) := dk_153 0 43 (dk_at dksX13_uses_1 14 rfl rfl)
theorem dX13_uses_41 : decode cX13_uses 41 = .ok (.iload_n 2, 1) := dk_28 (dk_at dksX13_uses_1 17 rfl rfl)
theorem dX13_uses_42 : decode cX13_uses 42 = .ok (.iconst 1, 1) := dk_4 (dk_at dksX13_uses_1 18 rfl rfl)
theorem dX13_uses_43 : decode cX13_uses 43 = .ok (.if_icmp .ne 15, 3) := dk_160 0 15 (dk_at dksX13_uses_1 19 rfl rfl)
theorem dX13_uses_46 : decode cX13_uses 46 = .ok (.aload 5, 2) := dk_25 5 (dk_at dksX13_uses_1 22 rfl rfl)
theorem dX13_uses_48 : decode cX13_uses 48 = .ok (.getfield 63, 3) := dk_180 0 63 (dk_at dksX13_uses_2 0 rfl rfl)
theorem dX13_uses_51 : decode cX13_uses 51 = .ok (.iload_n 3, 1) := dk_29 (dk_at dksX13_uses_2 3 rfl rfl)
theorem dX13_uses_52 : decode cX13_uses 52 = .ok (.if_icmp .ge 6, 3) := dk_162 0 6 (dk_at dksX13_uses_2 4 rfl rfl)
theorem dX13_uses_55 : decode cX13_uses 55 = .ok (.goto 26, 3) := dk_167 0 26 (dk_at dksX13_uses_2 7 rfl rfl)
theorem dX13_uses_58 : decode cX13_uses 58 = .ok (.aload_n 0, 1) := dk_42 (dk_at dksX13_uses_2 10 rfl rfl)
theorem dX13_uses_59 : decode cX13_uses 59 = .ok (.getfield 14, 3) := dk_180 0 14 (dk_at dksX13_uses_2 11 rfl rfl)
theorem dX13_uses_62 : decode cX13_uses 62 = .ok (.iload 4, 2) := dk_21 4 (dk_at dksX13_uses_2 14 rfl rfl)
theorem dX13_uses_64 : decode cX13_uses 64 = .ok (.invokevirtual 48, 3) := dk_182 0 48 (dk_at dksX13_uses_2 16 rfl rfl)
theorem dX13_uses_67 : decode cX13_uses 67 = .ok (.pop, 1) := dk_87 (dk_at dksX13_uses_2 19 rfl rfl)
theorem dX13_uses_68 : decode cX13_uses 68 = .ok (.aload_n 0, 1) := dk_42 (dk_at dksX13_uses_2 20 rfl rfl)
theorem dX13_uses_69 : decode cX13_uses 69 = .ok (.getfield 14, 3) := dk_180 0 14 (dk_at dksX13_uses_2 21 rfl rfl)
theorem dX13_uses_72 : decode cX13_uses 72 = .ok (.aload 5, 2) := dk_25 5 (dk_at dksX13_uses_3 0 rfl rfl)
theorem dX13_uses_74 : decode cX13_uses 74 = .ok (.invokevirtual 67, 3) := dk_182 0 67 (dk_at dksX13_uses_3 2 rfl rfl)
theorem dX13_uses_77 : decode cX13_uses 77 = .ok (.pop, 1) := dk_87 (dk_at dksX13_uses_3 5 rfl rfl)
theorem dX13_uses_78 : decode cX13_uses 78 = .ok (.aload 5, 2) := dk_25 5 (dk_at dksX13_uses_3 6 rfl rfl)
theorem dX13_uses_80 : decode cX13_uses 80 = .ok (.areturn, 1) := dk_176 (dk_at dksX13_uses_3 8 rfl rfl)
theorem dX13_uses_81 : decode cX13_uses 81 = .ok (.iinc 4 1, 3) := dk_132 4 1 (dk_at dksX13_uses_3 9 rfl rfl)
theorem dX13_uses_84 : decode cX13_uses 84 = .ok (.goto (-81), 3) := dk_167 255 175 (dk_at dksX13_uses_3 12 rfl rfl)
theorem dX13_uses_87 : decode cX13_uses 87 = .ok (.aconst_null, 1) := dk_1 (dk_at dksX13_uses_3 15 rfl rfl)
theorem dX13_uses_88 : decode cX13_uses 88 = .ok (.areturn, 1) := dk_176 (dk_at dksX13_uses_3 16 rfl rfl)
abbrev cX13_loses : ByteArray := prog_16_method_3_code
def yX13_loses : MethodName := ⟨RX13, "loses", "(LAskedNames$Entry;)V"⟩
def dkwX13_loses_1 : List UInt8 := [28, 182, 0, 48, 87, 177]
abbrev dktX13_loses_1 : List UInt8 := dkwX13_loses_1 ++ []
def dkwX13_loses_0 : List UInt8 := [3, 61, 42, 180, 0, 21, 28, 182, 0, 38, 43, 165, 0, 9, 132, 2, 1, 167, 255, 241, 42, 180, 0, 21]
abbrev dktX13_loses_0 : List UInt8 := dkwX13_loses_0 ++ dktX13_loses_1
theorem dksX13_loses_0 : cX13_loses.data.toList.drop 0 = dktX13_loses_0 := by decide +kernel
theorem dksX13_loses_1 : cX13_loses.data.toList.drop 24 = dktX13_loses_1 := dk_seg dksX13_loses_0 24 rfl rfl
theorem dX13_loses_0 : decode cX13_loses 0 = .ok (.iconst 0, 1) := dk_3 (dk_at dksX13_loses_0 0 rfl rfl)
theorem dX13_loses_1 : decode cX13_loses 1 = .ok (.istore_n 2, 1) := dk_61 (dk_at dksX13_loses_0 1 rfl rfl)
theorem dX13_loses_2 : decode cX13_loses 2 = .ok (.aload_n 0, 1) := dk_42 (dk_at dksX13_loses_0 2 rfl rfl)
theorem dX13_loses_3 : decode cX13_loses 3 = .ok (.getfield 21, 3) := dk_180 0 21 (dk_at dksX13_loses_0 3 rfl rfl)
theorem dX13_loses_6 : decode cX13_loses 6 = .ok (.iload_n 2, 1) := dk_28 (dk_at dksX13_loses_0 6 rfl rfl)
theorem dX13_loses_7 : decode cX13_loses 7 = .ok (.invokevirtual 38, 3) := dk_182 0 38 (dk_at dksX13_loses_0 7 rfl rfl)
theorem dX13_loses_10 : decode cX13_loses 10 = .ok (.aload_n 1, 1) := dk_43 (dk_at dksX13_loses_0 10 rfl rfl)
theorem dX13_loses_11 : decode cX13_loses 11 = .ok (.if_acmp .eq 9, 3) := dk_165 0 9 (dk_at dksX13_loses_0 11 rfl rfl)
theorem dX13_loses_14 : decode cX13_loses 14 = .ok (.iinc 2 1, 3) := dk_132 2 1 (dk_at dksX13_loses_0 14 rfl rfl)
theorem dX13_loses_17 : decode cX13_loses 17 = .ok (.goto (-15), 3) := dk_167 255 241 (dk_at dksX13_loses_0 17 rfl rfl)
theorem dX13_loses_20 : decode cX13_loses 20 = .ok (.aload_n 0, 1) := dk_42 (dk_at dksX13_loses_0 20 rfl rfl)
theorem dX13_loses_21 : decode cX13_loses 21 = .ok (.getfield 21, 3) := dk_180 0 21 (dk_at dksX13_loses_0 21 rfl rfl)
theorem dX13_loses_24 : decode cX13_loses 24 = .ok (.iload_n 2, 1) := dk_28 (dk_at dksX13_loses_1 0 rfl rfl)
theorem dX13_loses_25 : decode cX13_loses 25 = .ok (.invokevirtual 48, 3) := dk_182 0 48 (dk_at dksX13_loses_1 1 rfl rfl)
theorem dX13_loses_28 : decode cX13_loses 28 = .ok (.pop, 1) := dk_87 (dk_at dksX13_loses_1 4 rfl rfl)
theorem dX13_loses_29 : decode cX13_loses 29 = .ok (.return_, 1) := dk_177 (dk_at dksX13_loses_1 5 rfl rfl)
abbrev cX13_keeps : ByteArray := prog_16_method_5_code
def yX13_keeps : MethodName := ⟨RX13, "keeps", "(LAskedNames$Data;I)V"⟩
def dkwX13_keeps_3 : List UInt8 := [164, 0, 15, 42, 180, 0, 14, 3, 182, 0, 48, 87, 167, 255, 236, 177]
abbrev dktX13_keeps_3 : List UInt8 := dkwX13_keeps_3 ++ []
def dkwX13_keeps_2 : List UInt8 := [87, 132, 3, 255, 167, 255, 216, 42, 180, 0, 14, 43, 182, 0, 67, 87, 42, 180, 0, 14, 182, 0, 34, 28]
abbrev dktX13_keeps_2 : List UInt8 := dkwX13_keeps_2 ++ dktX13_keeps_3
def dkwX13_keeps_1 : List UInt8 := [192, 0, 51, 180, 0, 53, 43, 180, 0, 53, 182, 0, 57, 153, 0, 12, 42, 180, 0, 14, 29, 182, 0, 48]
abbrev dktX13_keeps_1 : List UInt8 := dkwX13_keeps_1 ++ dktX13_keeps_2
def dkwX13_keeps_0 : List UInt8 := [42, 180, 0, 14, 182, 0, 34, 4, 100, 62, 29, 155, 0, 42, 42, 180, 0, 14, 29, 182, 0, 38]
abbrev dktX13_keeps_0 : List UInt8 := dkwX13_keeps_0 ++ dktX13_keeps_1
theorem dksX13_keeps_0 : cX13_keeps.data.toList.drop 0 = dktX13_keeps_0 := by decide +kernel
theorem dksX13_keeps_1 : cX13_keeps.data.toList.drop 22 = dktX13_keeps_1 := dk_seg dksX13_keeps_0 22 rfl rfl
theorem dksX13_keeps_2 : cX13_keeps.data.toList.drop 46 = dktX13_keeps_2 := dk_seg dksX13_keeps_1 24 rfl rfl
theorem dksX13_keeps_3 : cX13_keeps.data.toList.drop 70 = dktX13_keeps_3 := dk_seg dksX13_keeps_2 24 rfl rfl
theorem dX13_keeps_0 : decode cX13_keeps 0 = .ok (.aload_n 0, 1) := dk_42 (dk_at dksX13_keeps_0 0 rfl rfl)
theorem dX13_keeps_1 : decode cX13_keeps 1 = .ok (.getfield 14, 3) := dk_180 0 14 (dk_at dksX13_keeps_0 1 rfl rfl)
theorem dX13_keeps_4 : decode cX13_keeps 4 = .ok (.invokevirtual 34, 3) := dk_182 0 34 (dk_at dksX13_keeps_0 4 rfl rfl)
theorem dX13_keeps_7 : decode cX13_keeps 7 = .ok (.iconst 1, 1) := dk_4 (dk_at dksX13_keeps_0 7 rfl rfl)
theorem dX13_keeps_8 : decode cX13_keeps 8 = .ok (.isub, 1) := dk_100 (dk_at dksX13_keeps_0 8 rfl rfl)
theorem dX13_keeps_9 : decode cX13_keeps 9 = .ok (.istore_n 3, 1) := dk_62 (dk_at dksX13_keeps_0 9 rfl rfl)
theorem dX13_keeps_10 : decode cX13_keeps 10 = .ok (.iload_n 3, 1) := dk_29 (dk_at dksX13_keeps_0 10 rfl rfl)
theorem dX13_keeps_11 : decode cX13_keeps 11 = .ok (.ifCond .lt 42, 3) := dk_155 0 42 (dk_at dksX13_keeps_0 11 rfl rfl)
theorem dX13_keeps_14 : decode cX13_keeps 14 = .ok (.aload_n 0, 1) := dk_42 (dk_at dksX13_keeps_0 14 rfl rfl)
theorem dX13_keeps_15 : decode cX13_keeps 15 = .ok (.getfield 14, 3) := dk_180 0 14 (dk_at dksX13_keeps_0 15 rfl rfl)
theorem dX13_keeps_18 : decode cX13_keeps 18 = .ok (.iload_n 3, 1) := dk_29 (dk_at dksX13_keeps_0 18 rfl rfl)
theorem dX13_keeps_19 : decode cX13_keeps 19 = .ok (.invokevirtual 38, 3) := dk_182 0 38 (dk_at dksX13_keeps_0 19 rfl rfl)
theorem dX13_keeps_22 : decode cX13_keeps 22 = .ok (.checkcast 51, 3) := dk_192 0 51 (dk_at dksX13_keeps_1 0 rfl rfl)
theorem dX13_keeps_25 : decode cX13_keeps 25 = .ok (.getfield 53, 3) := dk_180 0 53 (dk_at dksX13_keeps_1 3 rfl rfl)
theorem dX13_keeps_28 : decode cX13_keeps 28 = .ok (.aload_n 1, 1) := dk_43 (dk_at dksX13_keeps_1 6 rfl rfl)
theorem dX13_keeps_29 : decode cX13_keeps 29 = .ok (.getfield 53, 3) := dk_180 0 53 (dk_at dksX13_keeps_1 7 rfl rfl)
theorem dX13_keeps_32 : decode cX13_keeps 32 = .ok (.invokevirtual 57, 3) := dk_182 0 57 (dk_at dksX13_keeps_1 10 rfl rfl)
theorem dX13_keeps_35 : decode cX13_keeps 35 = .ok (.ifCond .eq 12, 3) := dk_153 0 12 (dk_at dksX13_keeps_1 13 rfl rfl)
theorem dX13_keeps_38 : decode cX13_keeps 38 = .ok (.aload_n 0, 1) := dk_42 (dk_at dksX13_keeps_1 16 rfl rfl)
theorem dX13_keeps_39 : decode cX13_keeps 39 = .ok (.getfield 14, 3) := dk_180 0 14 (dk_at dksX13_keeps_1 17 rfl rfl)
theorem dX13_keeps_42 : decode cX13_keeps 42 = .ok (.iload_n 3, 1) := dk_29 (dk_at dksX13_keeps_1 20 rfl rfl)
theorem dX13_keeps_43 : decode cX13_keeps 43 = .ok (.invokevirtual 48, 3) := dk_182 0 48 (dk_at dksX13_keeps_1 21 rfl rfl)
theorem dX13_keeps_46 : decode cX13_keeps 46 = .ok (.pop, 1) := dk_87 (dk_at dksX13_keeps_2 0 rfl rfl)
theorem dX13_keeps_47 : decode cX13_keeps 47 = .ok (.iinc 3 (-1), 3) := dk_132 3 255 (dk_at dksX13_keeps_2 1 rfl rfl)
theorem dX13_keeps_50 : decode cX13_keeps 50 = .ok (.goto (-40), 3) := dk_167 255 216 (dk_at dksX13_keeps_2 4 rfl rfl)
theorem dX13_keeps_53 : decode cX13_keeps 53 = .ok (.aload_n 0, 1) := dk_42 (dk_at dksX13_keeps_2 7 rfl rfl)
theorem dX13_keeps_54 : decode cX13_keeps 54 = .ok (.getfield 14, 3) := dk_180 0 14 (dk_at dksX13_keeps_2 8 rfl rfl)
theorem dX13_keeps_57 : decode cX13_keeps 57 = .ok (.aload_n 1, 1) := dk_43 (dk_at dksX13_keeps_2 11 rfl rfl)
theorem dX13_keeps_58 : decode cX13_keeps 58 = .ok (.invokevirtual 67, 3) := dk_182 0 67 (dk_at dksX13_keeps_2 12 rfl rfl)
theorem dX13_keeps_61 : decode cX13_keeps 61 = .ok (.pop, 1) := dk_87 (dk_at dksX13_keeps_2 15 rfl rfl)
theorem dX13_keeps_62 : decode cX13_keeps 62 = .ok (.aload_n 0, 1) := dk_42 (dk_at dksX13_keeps_2 16 rfl rfl)
theorem dX13_keeps_63 : decode cX13_keeps 63 = .ok (.getfield 14, 3) := dk_180 0 14 (dk_at dksX13_keeps_2 17 rfl rfl)
theorem dX13_keeps_66 : decode cX13_keeps 66 = .ok (.invokevirtual 34, 3) := dk_182 0 34 (dk_at dksX13_keeps_2 20 rfl rfl)
theorem dX13_keeps_69 : decode cX13_keeps 69 = .ok (.iload_n 2, 1) := dk_28 (dk_at dksX13_keeps_2 23 rfl rfl)
theorem dX13_keeps_70 : decode cX13_keeps 70 = .ok (.if_icmp .le 15, 3) := dk_164 0 15 (dk_at dksX13_keeps_3 0 rfl rfl)
theorem dX13_keeps_73 : decode cX13_keeps 73 = .ok (.aload_n 0, 1) := dk_42 (dk_at dksX13_keeps_3 3 rfl rfl)
theorem dX13_keeps_74 : decode cX13_keeps 74 = .ok (.getfield 14, 3) := dk_180 0 14 (dk_at dksX13_keeps_3 4 rfl rfl)
theorem dX13_keeps_77 : decode cX13_keeps 77 = .ok (.iconst 0, 1) := dk_3 (dk_at dksX13_keeps_3 7 rfl rfl)
theorem dX13_keeps_78 : decode cX13_keeps 78 = .ok (.invokevirtual 48, 3) := dk_182 0 48 (dk_at dksX13_keeps_3 8 rfl rfl)
theorem dX13_keeps_81 : decode cX13_keeps 81 = .ok (.pop, 1) := dk_87 (dk_at dksX13_keeps_3 11 rfl rfl)
theorem dX13_keeps_82 : decode cX13_keeps 82 = .ok (.goto (-20), 3) := dk_167 255 236 (dk_at dksX13_keeps_3 12 rfl rfl)
theorem dX13_keeps_85 : decode cX13_keeps 85 = .ok (.return_, 1) := dk_177 (dk_at dksX13_keeps_3 15 rfl rfl)
theorem q158 : (Jvm.Cond.initialized "AskedNames$Node") ∈ lw_all := lw_g (lw_at lw_m1 33 rfl) rfl
theorem q771 : (Jvm.Cond.selects "AskedNames$Node" ({ cls := "java/lang/Object", name := "getClass", desc := "()Ljava/lang/Class;" } : Jvm.MethodName) ({ cls := "java/lang/Object", name := "getClass", desc := "()Ljava/lang/Class;" } : Jvm.MethodName)) ∈ lw_all := lw_g (lw_at lw_m3 166 rfl) rfl
theorem q1316 : (Jvm.Cond.instantiable "AskedNames$Node" (4 : Nat)) ∈ lw_all := lw_g (lw_at lw_m5 231 rfl) rfl
theorem q1318 : (Jvm.Cond.instanceMethod ({ cls := "AskedNames$Node", name := "<init>", desc := "()V" } : Jvm.MethodName)) ∈ lw_all := lw_g (lw_at lw_m5 233 rfl) rfl
theorem q1319 : (Jvm.Cond.code ({ cls := "AskedNames$Node", name := "<init>", desc := "()V" } : Jvm.MethodName) prog_16_method_1_code (1 : Nat) (Option.none : Option Jvm.ClassFile.FieldType)) ∈ lw_all := lw_g (lw_at lw_m5 234 rfl) rfl
theorem q1320 : (Jvm.Cond.methodLink "AskedNames$Node" (3 : Nat) ({ cls := "java/lang/Object", name := "<init>", desc := "()V" } : Jvm.MethodName)) ∈ lw_all := lw_g (lw_at lw_m5 235 rfl) rfl
theorem q1321 : (Jvm.Cond.classLink "AskedNames$Node" (9 : Nat) "java/util/ArrayList") ∈ lw_all := lw_g (lw_at lw_m5 236 rfl) rfl
theorem q1322 : (Jvm.Cond.methodLink "AskedNames$Node" (11 : Nat) ({ cls := "java/util/ArrayList", name := "<init>", desc := "(I)V" } : Jvm.MethodName)) ∈ lw_all := lw_g (lw_at lw_m5 237 rfl) rfl
theorem q1323 : (Jvm.Cond.methodLink "AskedNames$Node" (20 : Nat) ({ cls := "java/util/ArrayList", name := "<init>", desc := "()V" } : Jvm.MethodName)) ∈ lw_all := lw_g (lw_at lw_m5 238 rfl) rfl
theorem q1324 : (Jvm.Cond.methodLink "AskedNames$Node" (28 : Nat) ({ cls := "java/util/Arrays", name := "fill", desc := "([II)V" } : Jvm.MethodName)) ∈ lw_all := lw_g (lw_at lw_m5 239 rfl) rfl
theorem q1325 : (Jvm.Cond.fieldLink "AskedNames$Node" (14 : Nat) "AskedNames$Node" "store" "Ljava/util/ArrayList;") ∈ lw_all := lw_g (lw_at lw_m6 0 rfl) rfl
theorem q1328 : (Jvm.Cond.fieldLink "AskedNames$Node" (21 : Nat) "AskedNames$Node" "entries" "Ljava/util/ArrayList;") ∈ lw_all := lw_g (lw_at lw_m6 3 rfl) rfl
theorem q1331 : (Jvm.Cond.fieldLink "AskedNames$Node" (24 : Nat) "AskedNames$Node" "measured" "[I") ∈ lw_all := lw_g (lw_at lw_m6 6 rfl) rfl
theorem q1334 : (Jvm.Cond.laysFinal "AskedNames$Node" "AskedNames$Node" "store" "Ljava/util/ArrayList;") ∈ lw_all := lw_g (lw_at lw_m6 9 rfl) rfl
theorem q1335 : (Jvm.Cond.soleField "AskedNames$Node" "store") ∈ lw_all := lw_g (lw_at lw_m6 10 rfl) rfl
theorem q1336 : (Jvm.Cond.laysFinal "AskedNames$Node" "AskedNames$Node" "entries" "Ljava/util/ArrayList;") ∈ lw_all := lw_g (lw_at lw_m6 11 rfl) rfl
theorem q1337 : (Jvm.Cond.soleField "AskedNames$Node" "entries") ∈ lw_all := lw_g (lw_at lw_m6 12 rfl) rfl
theorem q1338 : (Jvm.Cond.laysFinal "AskedNames$Node" "AskedNames$Node" "measured" "[I") ∈ lw_all := lw_g (lw_at lw_m6 13 rfl) rfl
theorem q1339 : (Jvm.Cond.soleField "AskedNames$Node" "measured") ∈ lw_all := lw_g (lw_at lw_m6 14 rfl) rfl
theorem q1340 : (Jvm.Cond.lays "AskedNames$Node" "AskedNames$Node" "dead" "J") ∈ lw_all := lw_g (lw_at lw_m6 15 rfl) rfl
theorem q1341 : (Jvm.Cond.soleField "AskedNames$Node" "dead") ∈ lw_all := lw_g (lw_at lw_m6 16 rfl) rfl
theorem q1342 : (Jvm.Cond.superclass "AskedNames$Node" "java/lang/Object") ∈ lw_all := lw_g (lw_at lw_m6 17 rfl) rfl
theorem q1576 : (Jvm.Cond.instanceMethod ({ cls := "AskedNames$Node", name := "entry", desc := "(Ljava/lang/String;I)LAskedNames$Entry;" } : Jvm.MethodName)) ∈ lw_all := lw_g (lw_at lw_m7 11 rfl) rfl
theorem q1577 : (Jvm.Cond.selects "AskedNames$Node" ({ cls := "AskedNames$Node", name := "entry", desc := "(Ljava/lang/String;I)LAskedNames$Entry;" } : Jvm.MethodName) ({ cls := "AskedNames$Node", name := "entry", desc := "(Ljava/lang/String;I)LAskedNames$Entry;" } : Jvm.MethodName)) ∈ lw_all := lw_g (lw_at lw_m7 12 rfl) rfl
theorem q1578 : (Jvm.Cond.code ({ cls := "AskedNames$Node", name := "entry", desc := "(Ljava/lang/String;I)LAskedNames$Entry;" } : Jvm.MethodName) prog_16_method_2_code (4 : Nat) (Option.some (Jvm.ClassFile.FieldType.object "AskedNames$Entry"))) ∈ lw_all := lw_g (lw_at lw_m7 13 rfl) rfl
theorem q1579 : (Jvm.Cond.methodLink "AskedNames$Node" (34 : Nat) ({ cls := "java/util/ArrayList", name := "size", desc := "()I" } : Jvm.MethodName)) ∈ lw_all := lw_g (lw_at lw_m7 14 rfl) rfl
theorem q1580 : (Jvm.Cond.methodLink "AskedNames$Node" (38 : Nat) ({ cls := "java/util/ArrayList", name := "get", desc := "(I)Ljava/lang/Object;" } : Jvm.MethodName)) ∈ lw_all := lw_g (lw_at lw_m7 15 rfl) rfl
theorem q1581 : (Jvm.Cond.classLink "AskedNames$Node" (42 : Nat) "AskedNames$Entry") ∈ lw_all := lw_g (lw_at lw_m7 16 rfl) rfl
theorem q1582 : (Jvm.Cond.methodLink "AskedNames$Node" (44 : Nat) ({ cls := "AskedNames$Entry", name := "is", desc := "(Ljava/lang/String;I)Z" } : Jvm.MethodName)) ∈ lw_all := lw_g (lw_at lw_m7 17 rfl) rfl
theorem q1611 : (Jvm.Cond.instanceMethod ({ cls := "AskedNames$Node", name := "uses", desc := "(Ljava/lang/String;II)LAskedNames$Data;" } : Jvm.MethodName)) ∈ lw_all := lw_g (lw_at lw_m7 46 rfl) rfl
theorem q1612 : (Jvm.Cond.selects "AskedNames$Node" ({ cls := "AskedNames$Node", name := "uses", desc := "(Ljava/lang/String;II)LAskedNames$Data;" } : Jvm.MethodName) ({ cls := "AskedNames$Node", name := "uses", desc := "(Ljava/lang/String;II)LAskedNames$Data;" } : Jvm.MethodName)) ∈ lw_all := lw_g (lw_at lw_m7 47 rfl) rfl
theorem q1613 : (Jvm.Cond.code ({ cls := "AskedNames$Node", name := "uses", desc := "(Ljava/lang/String;II)LAskedNames$Data;" } : Jvm.MethodName) prog_16_method_4_code (6 : Nat) (Option.some (Jvm.ClassFile.FieldType.object "AskedNames$Data"))) ∈ lw_all := lw_g (lw_at lw_m7 48 rfl) rfl
theorem q1614 : (Jvm.Cond.classLink "AskedNames$Node" (51 : Nat) "AskedNames$Data") ∈ lw_all := lw_g (lw_at lw_m7 49 rfl) rfl
theorem q1615 : (Jvm.Cond.methodLink "AskedNames$Node" (57 : Nat) ({ cls := "java/lang/String", name := "equals", desc := "(Ljava/lang/Object;)Z" } : Jvm.MethodName)) ∈ lw_all := lw_g (lw_at lw_m7 50 rfl) rfl
theorem q1616 : (Jvm.Cond.methodLink "AskedNames$Node" (48 : Nat) ({ cls := "java/util/ArrayList", name := "remove", desc := "(I)Ljava/lang/Object;" } : Jvm.MethodName)) ∈ lw_all := lw_g (lw_at lw_m7 51 rfl) rfl
theorem q1625 : (Jvm.Cond.methodLink "AskedNames$Node" (67 : Nat) ({ cls := "java/util/ArrayList", name := "add", desc := "(Ljava/lang/Object;)Z" } : Jvm.MethodName)) ∈ lw_all := lw_g (lw_at lw_m7 60 rfl) rfl
theorem q1693 : (Jvm.Cond.fieldLinkNest "AskedNames$Node" (53 : Nat) "AskedNames$Data" "name" "Ljava/lang/String;" "AskedNames") ∈ lw_tbl := lw_at lw_m7 128 rfl
theorem q1697 : (Jvm.Cond.fieldLinkNest "AskedNames$Node" (63 : Nat) "AskedNames$Data" "until" "I" "AskedNames") ∈ lw_tbl := lw_at lw_m7 132 rfl
theorem q1794 : (Jvm.Cond.instanceMethod ({ cls := "AskedNames$Node", name := "loses", desc := "(LAskedNames$Entry;)V" } : Jvm.MethodName)) ∈ lw_all := lw_g (lw_at lw_m7 229 rfl) rfl
theorem q1795 : (Jvm.Cond.selects "AskedNames$Node" ({ cls := "AskedNames$Node", name := "loses", desc := "(LAskedNames$Entry;)V" } : Jvm.MethodName) ({ cls := "AskedNames$Node", name := "loses", desc := "(LAskedNames$Entry;)V" } : Jvm.MethodName)) ∈ lw_all := lw_g (lw_at lw_m7 230 rfl) rfl
theorem q1796 : (Jvm.Cond.code ({ cls := "AskedNames$Node", name := "loses", desc := "(LAskedNames$Entry;)V" } : Jvm.MethodName) prog_16_method_3_code (3 : Nat) (Option.none : Option Jvm.ClassFile.FieldType)) ∈ lw_all := lw_g (lw_at lw_m7 231 rfl) rfl
theorem q1899 : (Jvm.Cond.instanceMethod ({ cls := "AskedNames$Node", name := "keeps", desc := "(LAskedNames$Data;I)V" } : Jvm.MethodName)) ∈ lw_all := lw_g (lw_at lw_m8 94 rfl) rfl
theorem q1900 : (Jvm.Cond.selects "AskedNames$Node" ({ cls := "AskedNames$Node", name := "keeps", desc := "(LAskedNames$Data;I)V" } : Jvm.MethodName) ({ cls := "AskedNames$Node", name := "keeps", desc := "(LAskedNames$Data;I)V" } : Jvm.MethodName)) ∈ lw_all := lw_g (lw_at lw_m8 95 rfl) rfl
theorem q1901 : (Jvm.Cond.code ({ cls := "AskedNames$Node", name := "keeps", desc := "(LAskedNames$Data;I)V" } : Jvm.MethodName) prog_16_method_5_code (4 : Nat) (Option.none : Option Jvm.ClassFile.FieldType)) ∈ lw_all := lw_g (lw_at lw_m8 96 rfl) rfl
theorem q2989 : (Jvm.Cond.castable "AskedNames$Node" "java/lang/Object") ∈ lw_tbl := lw_at lw_m12 224 rfl
theorem in_X13 : ∀ w ∈ wsX130, w ∈ lw_all := lw_in wsX130 [1334, 1336, 1338, 1340] (by decide +kernel) (by decide +kernel)

/-! AskedNames$Loop -/
set_option maxRecDepth 100000
def RX14 : String := "AskedNames$Loop"
def TX14 : u_T := fun k => match k with
  | 0 => ("java/lang/Throwable", "cause", "Ljava/lang/Throwable;", false)
  | 1 => ("java/lang/Throwable", "stackTrace", "[Ljava/lang/StackTraceElement;", false)
  | 2 => ("java/lang/Throwable", "suppressedExceptions", "Ljava/util/List;", false)
  | 3 => ("java/lang/Throwable", "detailMessage", "Ljava/lang/String;", false)
  | 4 => ("java/lang/Throwable", "backtrace", "Ljava/lang/Object;", false)
  | 5 => ("java/lang/Throwable", "depth", "I", false)
  | _ => ("AskedNames$Loop", "node", "I", true)
def tyX14 : Nat → FieldType := fun k => match k with
  | 0 => .object "java/lang/Throwable"
  | 1 => .array (.object "java/lang/StackTraceElement")
  | 2 => .object "java/util/List"
  | 3 => .object "java/lang/String"
  | 4 => .object "java/lang/Object"
  | 5 => .int
  | _ => .int
abbrev wsX140 : List Cond := u_ws RX14 TX14 7
theorem nmX14 : ∀ a, a < 7 → ∀ b, b < 7 → a ≠ b → (TX14 a).2.1 ≠ (TX14 b).2.1 := by decide +kernel
theorem tyX14_ok : ∀ k, k < 7 → parseFieldDescriptor (TX14 k).2.2.1 = some (tyX14 k) := by decide +kernel
abbrev cX14_init : ByteArray := prog_11_method_1_code
def yX14_init : MethodName := ⟨RX14, "<init>", "(I)V"⟩
def dkwX14_init_0 : List UInt8 := [42, 1, 1, 3, 3, 183, 0, 1, 42, 27, 181, 0, 7, 177]
abbrev dktX14_init_0 : List UInt8 := dkwX14_init_0 ++ []
theorem dksX14_init_0 : cX14_init.data.toList.drop 0 = dktX14_init_0 := by decide +kernel
theorem dX14_init_0 : decode cX14_init 0 = .ok (.aload_n 0, 1) := dk_42 (dk_at dksX14_init_0 0 rfl rfl)
theorem dX14_init_1 : decode cX14_init 1 = .ok (.aconst_null, 1) := dk_1 (dk_at dksX14_init_0 1 rfl rfl)
theorem dX14_init_2 : decode cX14_init 2 = .ok (.aconst_null, 1) := dk_1 (dk_at dksX14_init_0 2 rfl rfl)
theorem dX14_init_3 : decode cX14_init 3 = .ok (.iconst 0, 1) := dk_3 (dk_at dksX14_init_0 3 rfl rfl)
theorem dX14_init_4 : decode cX14_init 4 = .ok (.iconst 0, 1) := dk_3 (dk_at dksX14_init_0 4 rfl rfl)
theorem dX14_init_5 : decode cX14_init 5 = .ok (.invokespecial 1, 3) := dk_183 0 1 (dk_at dksX14_init_0 5 rfl rfl)
theorem dX14_init_8 : decode cX14_init 8 = .ok (.aload_n 0, 1) := dk_42 (dk_at dksX14_init_0 8 rfl rfl)
theorem dX14_init_9 : decode cX14_init 9 = .ok (.iload_n 1, 1) := dk_27 (dk_at dksX14_init_0 9 rfl rfl)
theorem dX14_init_10 : decode cX14_init 10 = .ok (.putfield 7, 3) := dk_181 0 7 (dk_at dksX14_init_0 10 rfl rfl)
theorem dX14_init_13 : decode cX14_init 13 = .ok (.return_, 1) := dk_177 (dk_at dksX14_init_0 13 rfl rfl)
theorem q159 : (Jvm.Cond.initialized "AskedNames$Loop") ∈ lw_all := lw_g (lw_at lw_m1 34 rfl) rfl
theorem q679 : (Jvm.Cond.selects "AskedNames$Loop" ({ cls := "java/lang/Throwable", name := "fillInStackTrace", desc := "()Ljava/lang/Throwable;" } : Jvm.MethodName) ({ cls := "java/lang/Throwable", name := "fillInStackTrace", desc := "()Ljava/lang/Throwable;" } : Jvm.MethodName)) ∈ lw_all := lw_g (lw_at lw_m3 74 rfl) rfl
theorem q766 : (Jvm.Cond.selects "AskedNames$Loop" ({ cls := "java/lang/Object", name := "getClass", desc := "()Ljava/lang/Class;" } : Jvm.MethodName) ({ cls := "java/lang/Object", name := "getClass", desc := "()Ljava/lang/Class;" } : Jvm.MethodName)) ∈ lw_all := lw_g (lw_at lw_m3 161 rfl) rfl
theorem q1587 : (Jvm.Cond.instantiable "AskedNames$Loop" (7 : Nat)) ∈ lw_all := lw_g (lw_at lw_m7 22 rfl) rfl
theorem q1588 : (Jvm.Cond.castable "AskedNames$Loop" "AskedNames$Loop") ∈ lw_tbl := lw_at lw_m7 23 rfl
theorem q1589 : (Jvm.Cond.selects "AskedNames$Loop" ({ cls := "java/lang/Throwable", name := "fillInStackTrace", desc := "(I)Ljava/lang/Throwable;" } : Jvm.MethodName) ({ cls := "java/lang/Throwable", name := "fillInStackTrace", desc := "(I)Ljava/lang/Throwable;" } : Jvm.MethodName)) ∈ lw_all := lw_g (lw_at lw_m7 24 rfl) rfl
theorem q1590 : (Jvm.Cond.lays "AskedNames$Loop" "java/lang/Throwable" "cause" "Ljava/lang/Throwable;") ∈ lw_all := lw_g (lw_at lw_m7 25 rfl) rfl
theorem q1591 : (Jvm.Cond.lays "AskedNames$Loop" "java/lang/Throwable" "stackTrace" "[Ljava/lang/StackTraceElement;") ∈ lw_all := lw_g (lw_at lw_m7 26 rfl) rfl
theorem q1592 : (Jvm.Cond.lays "AskedNames$Loop" "java/lang/Throwable" "suppressedExceptions" "Ljava/util/List;") ∈ lw_all := lw_g (lw_at lw_m7 27 rfl) rfl
theorem q1593 : (Jvm.Cond.lays "AskedNames$Loop" "java/lang/Throwable" "detailMessage" "Ljava/lang/String;") ∈ lw_all := lw_g (lw_at lw_m7 28 rfl) rfl
theorem q1594 : (Jvm.Cond.lays "AskedNames$Loop" "java/lang/Throwable" "backtrace" "Ljava/lang/Object;") ∈ lw_all := lw_g (lw_at lw_m7 29 rfl) rfl
theorem q1596 : (Jvm.Cond.instanceMethod ({ cls := "AskedNames$Loop", name := "<init>", desc := "(I)V" } : Jvm.MethodName)) ∈ lw_all := lw_g (lw_at lw_m7 31 rfl) rfl
theorem q1597 : (Jvm.Cond.code ({ cls := "AskedNames$Loop", name := "<init>", desc := "(I)V" } : Jvm.MethodName) prog_11_method_1_code (2 : Nat) (Option.none : Option Jvm.ClassFile.FieldType)) ∈ lw_all := lw_g (lw_at lw_m7 32 rfl) rfl
theorem q1598 : (Jvm.Cond.methodLink "AskedNames$Loop" (1 : Nat) ({ cls := "java/lang/Exception", name := "<init>", desc := "(Ljava/lang/String;Ljava/lang/Throwable;ZZ)V" } : Jvm.MethodName)) ∈ lw_all := lw_g (lw_at lw_m7 33 rfl) rfl
theorem q1604 : (Jvm.Cond.fieldLink "AskedNames$Loop" (7 : Nat) "AskedNames$Loop" "node" "I") ∈ lw_all := lw_g (lw_at lw_m7 39 rfl) rfl
theorem q1606 : (Jvm.Cond.laysFinal "AskedNames$Loop" "AskedNames$Loop" "node" "I") ∈ lw_all := lw_g (lw_at lw_m7 41 rfl) rfl
theorem q1607 : (Jvm.Cond.soleField "AskedNames$Loop" "node") ∈ lw_all := lw_g (lw_at lw_m7 42 rfl) rfl
theorem q1608 : (Jvm.Cond.lays "AskedNames$Loop" "java/lang/Throwable" "depth" "I") ∈ lw_all := lw_g (lw_at lw_m7 43 rfl) rfl
theorem q1609 : (Jvm.Cond.superclass "AskedNames$Loop" "java/lang/Exception") ∈ lw_all := lw_g (lw_at lw_m7 44 rfl) rfl
theorem q1843 : (Jvm.Cond.selects "AskedNames$Loop" ({ cls := "java/lang/Throwable", name := "getCause", desc := "()Ljava/lang/Throwable;" } : Jvm.MethodName) ({ cls := "java/lang/Throwable", name := "getCause", desc := "()Ljava/lang/Throwable;" } : Jvm.MethodName)) ∈ lw_all := lw_g (lw_at lw_m8 38 rfl) rfl
theorem q2990 : (Jvm.Cond.castable "AskedNames$Loop" "java/lang/Object") ∈ lw_tbl := lw_at lw_m12 225 rfl
theorem in_X14 : ∀ w ∈ wsX140, w ∈ lw_all := lw_in wsX140 [1590, 1591, 1592, 1593, 1594, 1608, 1606] (by decide +kernel) (by decide +kernel)

/-! AskedNames$Message -/
set_option maxRecDepth 100000
def RX15 : String := "AskedNames$Message"
def TX15 : u_T := fun k => match k with
  | 0 => ("AskedNames$Message", "from", "I", true)
  | 1 => ("AskedNames$Message", "to", "I", true)
  | 2 => ("AskedNames$Message", "at", "I", true)
  | 3 => ("AskedNames$Message", "wish", "I", true)
  | 4 => ("AskedNames$Message", "nonce", "I", true)
  | 5 => ("AskedNames$Message", "source", "I", true)
  | 6 => ("AskedNames$Message", "name", "Ljava/lang/String;", true)
  | 7 => ("AskedNames$Message", "data", "LAskedNames$Data;", true)
  | _ => ("AskedNames$Message", "why", "LAskedNames$Refused;", true)
def tyX15 : Nat → FieldType := fun k => match k with
  | 0 => .int
  | 1 => .int
  | 2 => .int
  | 3 => .int
  | 4 => .int
  | 5 => .int
  | 6 => .object "java/lang/String"
  | 7 => .object "AskedNames$Data"
  | _ => .object "AskedNames$Refused"
abbrev wsX150 : List Cond := u_ws RX15 TX15 9
theorem nmX15 : ∀ a, a < 9 → ∀ b, b < 9 → a ≠ b → (TX15 a).2.1 ≠ (TX15 b).2.1 := by decide +kernel
theorem tyX15_ok : ∀ k, k < 9 → parseFieldDescriptor (TX15 k).2.2.1 = some (tyX15 k) := by decide +kernel
abbrev cX15_init : ByteArray := prog_12_method_1_code
def yX15_init : MethodName := ⟨RX15, "<init>", "(IIILjava/lang/String;IILAskedNames$Data;ILAskedNames$Refused;)V"⟩
def dkwX15_init_2 : List UInt8 := [181, 0, 33, 42, 25, 9, 181, 0, 36, 177]
abbrev dktX15_init_2 : List UInt8 := dkwX15_init_2 ++ []
def dkwX15_init_1 : List UInt8 := [181, 0, 19, 42, 21, 5, 181, 0, 23, 42, 21, 6, 181, 0, 26, 42, 25, 7, 181, 0, 29, 42, 21, 8]
abbrev dktX15_init_1 : List UInt8 := dkwX15_init_1 ++ dktX15_init_2
def dkwX15_init_0 : List UInt8 := [42, 183, 0, 1, 42, 27, 181, 0, 7, 42, 28, 181, 0, 13, 42, 29, 181, 0, 16, 42, 25, 4]
abbrev dktX15_init_0 : List UInt8 := dkwX15_init_0 ++ dktX15_init_1
theorem dksX15_init_0 : cX15_init.data.toList.drop 0 = dktX15_init_0 := by decide +kernel
theorem dksX15_init_1 : cX15_init.data.toList.drop 22 = dktX15_init_1 := dk_seg dksX15_init_0 22 rfl rfl
theorem dksX15_init_2 : cX15_init.data.toList.drop 46 = dktX15_init_2 := dk_seg dksX15_init_1 24 rfl rfl
theorem dX15_init_0 : decode cX15_init 0 = .ok (.aload_n 0, 1) := dk_42 (dk_at dksX15_init_0 0 rfl rfl)
theorem dX15_init_1 : decode cX15_init 1 = .ok (.invokespecial 1, 3) := dk_183 0 1 (dk_at dksX15_init_0 1 rfl rfl)
theorem dX15_init_4 : decode cX15_init 4 = .ok (.aload_n 0, 1) := dk_42 (dk_at dksX15_init_0 4 rfl rfl)
theorem dX15_init_5 : decode cX15_init 5 = .ok (.iload_n 1, 1) := dk_27 (dk_at dksX15_init_0 5 rfl rfl)
theorem dX15_init_6 : decode cX15_init 6 = .ok (.putfield 7, 3) := dk_181 0 7 (dk_at dksX15_init_0 6 rfl rfl)
theorem dX15_init_9 : decode cX15_init 9 = .ok (.aload_n 0, 1) := dk_42 (dk_at dksX15_init_0 9 rfl rfl)
theorem dX15_init_10 : decode cX15_init 10 = .ok (.iload_n 2, 1) := dk_28 (dk_at dksX15_init_0 10 rfl rfl)
theorem dX15_init_11 : decode cX15_init 11 = .ok (.putfield 13, 3) := dk_181 0 13 (dk_at dksX15_init_0 11 rfl rfl)
theorem dX15_init_14 : decode cX15_init 14 = .ok (.aload_n 0, 1) := dk_42 (dk_at dksX15_init_0 14 rfl rfl)
theorem dX15_init_15 : decode cX15_init 15 = .ok (.iload_n 3, 1) := dk_29 (dk_at dksX15_init_0 15 rfl rfl)
theorem dX15_init_16 : decode cX15_init 16 = .ok (.putfield 16, 3) := dk_181 0 16 (dk_at dksX15_init_0 16 rfl rfl)
theorem dX15_init_19 : decode cX15_init 19 = .ok (.aload_n 0, 1) := dk_42 (dk_at dksX15_init_0 19 rfl rfl)
theorem dX15_init_20 : decode cX15_init 20 = .ok (.aload 4, 2) := dk_25 4 (dk_at dksX15_init_0 20 rfl rfl)
theorem dX15_init_22 : decode cX15_init 22 = .ok (.putfield 19, 3) := dk_181 0 19 (dk_at dksX15_init_1 0 rfl rfl)
theorem dX15_init_25 : decode cX15_init 25 = .ok (.aload_n 0, 1) := dk_42 (dk_at dksX15_init_1 3 rfl rfl)
theorem dX15_init_26 : decode cX15_init 26 = .ok (.iload 5, 2) := dk_21 5 (dk_at dksX15_init_1 4 rfl rfl)
theorem dX15_init_28 : decode cX15_init 28 = .ok (.putfield 23, 3) := dk_181 0 23 (dk_at dksX15_init_1 6 rfl rfl)
theorem dX15_init_31 : decode cX15_init 31 = .ok (.aload_n 0, 1) := dk_42 (dk_at dksX15_init_1 9 rfl rfl)
theorem dX15_init_32 : decode cX15_init 32 = .ok (.iload 6, 2) := dk_21 6 (dk_at dksX15_init_1 10 rfl rfl)
theorem dX15_init_34 : decode cX15_init 34 = .ok (.putfield 26, 3) := dk_181 0 26 (dk_at dksX15_init_1 12 rfl rfl)
theorem dX15_init_37 : decode cX15_init 37 = .ok (.aload_n 0, 1) := dk_42 (dk_at dksX15_init_1 15 rfl rfl)
theorem dX15_init_38 : decode cX15_init 38 = .ok (.aload 7, 2) := dk_25 7 (dk_at dksX15_init_1 16 rfl rfl)
theorem dX15_init_40 : decode cX15_init 40 = .ok (.putfield 29, 3) := dk_181 0 29 (dk_at dksX15_init_1 18 rfl rfl)
theorem dX15_init_43 : decode cX15_init 43 = .ok (.aload_n 0, 1) := dk_42 (dk_at dksX15_init_1 21 rfl rfl)
theorem dX15_init_44 : decode cX15_init 44 = .ok (.iload 8, 2) := dk_21 8 (dk_at dksX15_init_1 22 rfl rfl)
theorem dX15_init_46 : decode cX15_init 46 = .ok (.putfield 33, 3) := dk_181 0 33 (dk_at dksX15_init_2 0 rfl rfl)
theorem dX15_init_49 : decode cX15_init 49 = .ok (.aload_n 0, 1) := dk_42 (dk_at dksX15_init_2 3 rfl rfl)
theorem dX15_init_50 : decode cX15_init 50 = .ok (.aload 9, 2) := dk_25 9 (dk_at dksX15_init_2 4 rfl rfl)
theorem dX15_init_52 : decode cX15_init 52 = .ok (.putfield 36, 3) := dk_181 0 36 (dk_at dksX15_init_2 6 rfl rfl)
theorem dX15_init_55 : decode cX15_init 55 = .ok (.return_, 1) := dk_177 (dk_at dksX15_init_2 9 rfl rfl)
theorem q165 : (Jvm.Cond.initialized "AskedNames$Message") ∈ lw_all := lw_g (lw_at lw_m1 40 rfl) rfl
theorem q767 : (Jvm.Cond.selects "AskedNames$Message" ({ cls := "java/lang/Object", name := "getClass", desc := "()Ljava/lang/Class;" } : Jvm.MethodName) ({ cls := "java/lang/Object", name := "getClass", desc := "()Ljava/lang/Class;" } : Jvm.MethodName)) ∈ lw_all := lw_g (lw_at lw_m3 162 rfl) rfl
theorem q1635 : (Jvm.Cond.instantiable "AskedNames$Message" (9 : Nat)) ∈ lw_all := lw_g (lw_at lw_m7 70 rfl) rfl
theorem q1642 : (Jvm.Cond.instanceMethod ({ cls := "AskedNames$Message", name := "<init>", desc := "(IIILjava/lang/String;IILAskedNames$Data;ILAskedNames$Refused;)V" } : Jvm.MethodName)) ∈ lw_all := lw_g (lw_at lw_m7 77 rfl) rfl
theorem q1643 : (Jvm.Cond.code ({ cls := "AskedNames$Message", name := "<init>", desc := "(IIILjava/lang/String;IILAskedNames$Data;ILAskedNames$Refused;)V" } : Jvm.MethodName) prog_12_method_1_code (10 : Nat) (Option.none : Option Jvm.ClassFile.FieldType)) ∈ lw_all := lw_g (lw_at lw_m7 78 rfl) rfl
theorem q1644 : (Jvm.Cond.methodLink "AskedNames$Message" (1 : Nat) ({ cls := "java/lang/Object", name := "<init>", desc := "()V" } : Jvm.MethodName)) ∈ lw_all := lw_g (lw_at lw_m7 79 rfl) rfl
theorem q1645 : (Jvm.Cond.fieldLink "AskedNames$Message" (7 : Nat) "AskedNames$Message" "from" "I") ∈ lw_all := lw_g (lw_at lw_m7 80 rfl) rfl
theorem q1647 : (Jvm.Cond.fieldLink "AskedNames$Message" (13 : Nat) "AskedNames$Message" "to" "I") ∈ lw_all := lw_g (lw_at lw_m7 82 rfl) rfl
theorem q1649 : (Jvm.Cond.fieldLink "AskedNames$Message" (16 : Nat) "AskedNames$Message" "at" "I") ∈ lw_all := lw_g (lw_at lw_m7 84 rfl) rfl
theorem q1651 : (Jvm.Cond.fieldLink "AskedNames$Message" (23 : Nat) "AskedNames$Message" "wish" "I") ∈ lw_all := lw_g (lw_at lw_m7 86 rfl) rfl
theorem q1653 : (Jvm.Cond.fieldLink "AskedNames$Message" (26 : Nat) "AskedNames$Message" "nonce" "I") ∈ lw_all := lw_g (lw_at lw_m7 88 rfl) rfl
theorem q1655 : (Jvm.Cond.fieldLink "AskedNames$Message" (33 : Nat) "AskedNames$Message" "source" "I") ∈ lw_all := lw_g (lw_at lw_m7 90 rfl) rfl
theorem q1657 : (Jvm.Cond.fieldLink "AskedNames$Message" (19 : Nat) "AskedNames$Message" "name" "Ljava/lang/String;") ∈ lw_all := lw_g (lw_at lw_m7 92 rfl) rfl
theorem q1659 : (Jvm.Cond.fieldLink "AskedNames$Message" (29 : Nat) "AskedNames$Message" "data" "LAskedNames$Data;") ∈ lw_all := lw_g (lw_at lw_m7 94 rfl) rfl
theorem q1661 : (Jvm.Cond.fieldLink "AskedNames$Message" (36 : Nat) "AskedNames$Message" "why" "LAskedNames$Refused;") ∈ lw_all := lw_g (lw_at lw_m7 96 rfl) rfl
theorem q1663 : (Jvm.Cond.laysFinal "AskedNames$Message" "AskedNames$Message" "from" "I") ∈ lw_all := lw_g (lw_at lw_m7 98 rfl) rfl
theorem q1664 : (Jvm.Cond.soleField "AskedNames$Message" "from") ∈ lw_all := lw_g (lw_at lw_m7 99 rfl) rfl
theorem q1665 : (Jvm.Cond.laysFinal "AskedNames$Message" "AskedNames$Message" "to" "I") ∈ lw_all := lw_g (lw_at lw_m7 100 rfl) rfl
theorem q1666 : (Jvm.Cond.soleField "AskedNames$Message" "to") ∈ lw_all := lw_g (lw_at lw_m7 101 rfl) rfl
theorem q1667 : (Jvm.Cond.laysFinal "AskedNames$Message" "AskedNames$Message" "at" "I") ∈ lw_all := lw_g (lw_at lw_m7 102 rfl) rfl
theorem q1668 : (Jvm.Cond.soleField "AskedNames$Message" "at") ∈ lw_all := lw_g (lw_at lw_m7 103 rfl) rfl
theorem q1669 : (Jvm.Cond.laysFinal "AskedNames$Message" "AskedNames$Message" "wish" "I") ∈ lw_all := lw_g (lw_at lw_m7 104 rfl) rfl
theorem q1670 : (Jvm.Cond.soleField "AskedNames$Message" "wish") ∈ lw_all := lw_g (lw_at lw_m7 105 rfl) rfl
theorem q1671 : (Jvm.Cond.laysFinal "AskedNames$Message" "AskedNames$Message" "nonce" "I") ∈ lw_all := lw_g (lw_at lw_m7 106 rfl) rfl
theorem q1672 : (Jvm.Cond.soleField "AskedNames$Message" "nonce") ∈ lw_all := lw_g (lw_at lw_m7 107 rfl) rfl
theorem q1673 : (Jvm.Cond.laysFinal "AskedNames$Message" "AskedNames$Message" "source" "I") ∈ lw_all := lw_g (lw_at lw_m7 108 rfl) rfl
theorem q1674 : (Jvm.Cond.soleField "AskedNames$Message" "source") ∈ lw_all := lw_g (lw_at lw_m7 109 rfl) rfl
theorem q1675 : (Jvm.Cond.laysFinal "AskedNames$Message" "AskedNames$Message" "name" "Ljava/lang/String;") ∈ lw_all := lw_g (lw_at lw_m7 110 rfl) rfl
theorem q1676 : (Jvm.Cond.soleField "AskedNames$Message" "name") ∈ lw_all := lw_g (lw_at lw_m7 111 rfl) rfl
theorem q1677 : (Jvm.Cond.laysFinal "AskedNames$Message" "AskedNames$Message" "data" "LAskedNames$Data;") ∈ lw_all := lw_g (lw_at lw_m7 112 rfl) rfl
theorem q1678 : (Jvm.Cond.soleField "AskedNames$Message" "data") ∈ lw_all := lw_g (lw_at lw_m7 113 rfl) rfl
theorem q1679 : (Jvm.Cond.laysFinal "AskedNames$Message" "AskedNames$Message" "why" "LAskedNames$Refused;") ∈ lw_all := lw_g (lw_at lw_m7 114 rfl) rfl
theorem q1680 : (Jvm.Cond.soleField "AskedNames$Message" "why") ∈ lw_all := lw_g (lw_at lw_m7 115 rfl) rfl
theorem q1681 : (Jvm.Cond.superclass "AskedNames$Message" "java/lang/Object") ∈ lw_all := lw_g (lw_at lw_m7 116 rfl) rfl
theorem q2992 : (Jvm.Cond.castable "AskedNames$Message" "java/lang/Object") ∈ lw_tbl := lw_at lw_m12 227 rfl
theorem in_X15 : ∀ w ∈ wsX150, w ∈ lw_all := lw_in wsX150 [1663, 1665, 1667, 1669, 1671, 1673, 1675, 1677, 1679] (by decide +kernel) (by decide +kernel)

/-! AskedNames$Data -/
set_option maxRecDepth 100000
def RX16 : String := "AskedNames$Data"
def TX16 : u_T := fun k => match k with
  | 0 => ("AskedNames$Data", "name", "Ljava/lang/String;", true)
  | 1 => ("AskedNames$Data", "until", "I", true)
  | _ => ("AskedNames$Data", "by", "I", true)
def tyX16 : Nat → FieldType := fun k => match k with
  | 0 => .object "java/lang/String"
  | 1 => .int
  | _ => .int
abbrev wsX160 : List Cond := u_ws RX16 TX16 3
theorem nmX16 : ∀ a, a < 3 → ∀ b, b < 3 → a ≠ b → (TX16 a).2.1 ≠ (TX16 b).2.1 := by decide +kernel
theorem tyX16_ok : ∀ k, k < 3 → parseFieldDescriptor (TX16 k).2.2.1 = some (tyX16 k) := by decide +kernel
abbrev cX16_init : ByteArray := prog_2_method_1_code
def yX16_init : MethodName := ⟨RX16, "<init>", "(Ljava/lang/String;II)V"⟩
def dkwX16_init_0 : List UInt8 := [42, 183, 0, 1, 42, 43, 181, 0, 7, 42, 28, 181, 0, 13, 42, 29, 181, 0, 17, 177]
abbrev dktX16_init_0 : List UInt8 := dkwX16_init_0 ++ []
theorem dksX16_init_0 : cX16_init.data.toList.drop 0 = dktX16_init_0 := by decide +kernel
theorem dX16_init_0 : decode cX16_init 0 = .ok (.aload_n 0, 1) := dk_42 (dk_at dksX16_init_0 0 rfl rfl)
theorem dX16_init_1 : decode cX16_init 1 = .ok (.invokespecial 1, 3) := dk_183 0 1 (dk_at dksX16_init_0 1 rfl rfl)
theorem dX16_init_4 : decode cX16_init 4 = .ok (.aload_n 0, 1) := dk_42 (dk_at dksX16_init_0 4 rfl rfl)
theorem dX16_init_5 : decode cX16_init 5 = .ok (.aload_n 1, 1) := dk_43 (dk_at dksX16_init_0 5 rfl rfl)
theorem dX16_init_6 : decode cX16_init 6 = .ok (.putfield 7, 3) := dk_181 0 7 (dk_at dksX16_init_0 6 rfl rfl)
theorem dX16_init_9 : decode cX16_init 9 = .ok (.aload_n 0, 1) := dk_42 (dk_at dksX16_init_0 9 rfl rfl)
theorem dX16_init_10 : decode cX16_init 10 = .ok (.iload_n 2, 1) := dk_28 (dk_at dksX16_init_0 10 rfl rfl)
theorem dX16_init_11 : decode cX16_init 11 = .ok (.putfield 13, 3) := dk_181 0 13 (dk_at dksX16_init_0 11 rfl rfl)
theorem dX16_init_14 : decode cX16_init 14 = .ok (.aload_n 0, 1) := dk_42 (dk_at dksX16_init_0 14 rfl rfl)
theorem dX16_init_15 : decode cX16_init 15 = .ok (.iload_n 3, 1) := dk_29 (dk_at dksX16_init_0 15 rfl rfl)
theorem dX16_init_16 : decode cX16_init 16 = .ok (.putfield 17, 3) := dk_181 0 17 (dk_at dksX16_init_0 16 rfl rfl)
theorem dX16_init_19 : decode cX16_init 19 = .ok (.return_, 1) := dk_177 (dk_at dksX16_init_0 19 rfl rfl)
theorem q166 : (Jvm.Cond.initialized "AskedNames$Data") ∈ lw_all := lw_g (lw_at lw_m1 41 rfl) rfl
theorem q757 : (Jvm.Cond.selects "AskedNames$Data" ({ cls := "java/lang/Object", name := "getClass", desc := "()Ljava/lang/Class;" } : Jvm.MethodName) ({ cls := "java/lang/Object", name := "getClass", desc := "()Ljava/lang/Class;" } : Jvm.MethodName)) ∈ lw_all := lw_g (lw_at lw_m3 152 rfl) rfl
theorem q1687 : (Jvm.Cond.instantiable "AskedNames$Data" (3 : Nat)) ∈ lw_all := lw_g (lw_at lw_m7 122 rfl) rfl
theorem q1689 : (Jvm.Cond.instanceMethod ({ cls := "AskedNames$Data", name := "<init>", desc := "(Ljava/lang/String;II)V" } : Jvm.MethodName)) ∈ lw_all := lw_g (lw_at lw_m7 124 rfl) rfl
theorem q1690 : (Jvm.Cond.code ({ cls := "AskedNames$Data", name := "<init>", desc := "(Ljava/lang/String;II)V" } : Jvm.MethodName) prog_2_method_1_code (4 : Nat) (Option.none : Option Jvm.ClassFile.FieldType)) ∈ lw_all := lw_g (lw_at lw_m7 125 rfl) rfl
theorem q1691 : (Jvm.Cond.methodLink "AskedNames$Data" (1 : Nat) ({ cls := "java/lang/Object", name := "<init>", desc := "()V" } : Jvm.MethodName)) ∈ lw_all := lw_g (lw_at lw_m7 126 rfl) rfl
theorem q1692 : (Jvm.Cond.fieldLink "AskedNames$Data" (7 : Nat) "AskedNames$Data" "name" "Ljava/lang/String;") ∈ lw_all := lw_g (lw_at lw_m7 127 rfl) rfl
theorem q1696 : (Jvm.Cond.fieldLink "AskedNames$Data" (13 : Nat) "AskedNames$Data" "until" "I") ∈ lw_all := lw_g (lw_at lw_m7 131 rfl) rfl
theorem q1700 : (Jvm.Cond.fieldLink "AskedNames$Data" (17 : Nat) "AskedNames$Data" "by" "I") ∈ lw_all := lw_g (lw_at lw_m7 135 rfl) rfl
theorem q1702 : (Jvm.Cond.laysFinal "AskedNames$Data" "AskedNames$Data" "name" "Ljava/lang/String;") ∈ lw_all := lw_g (lw_at lw_m7 137 rfl) rfl
theorem q1703 : (Jvm.Cond.soleField "AskedNames$Data" "name") ∈ lw_all := lw_g (lw_at lw_m7 138 rfl) rfl
theorem q1704 : (Jvm.Cond.laysFinal "AskedNames$Data" "AskedNames$Data" "until" "I") ∈ lw_all := lw_g (lw_at lw_m7 139 rfl) rfl
theorem q1705 : (Jvm.Cond.soleField "AskedNames$Data" "until") ∈ lw_all := lw_g (lw_at lw_m7 140 rfl) rfl
theorem q1706 : (Jvm.Cond.laysFinal "AskedNames$Data" "AskedNames$Data" "by" "I") ∈ lw_all := lw_g (lw_at lw_m7 141 rfl) rfl
theorem q1707 : (Jvm.Cond.soleField "AskedNames$Data" "by") ∈ lw_all := lw_g (lw_at lw_m7 142 rfl) rfl
theorem q1708 : (Jvm.Cond.superclass "AskedNames$Data" "java/lang/Object") ∈ lw_all := lw_g (lw_at lw_m7 143 rfl) rfl
theorem q2993 : (Jvm.Cond.castable "AskedNames$Data" "java/lang/Object") ∈ lw_tbl := lw_at lw_m12 228 rfl
theorem in_X16 : ∀ w ∈ wsX160, w ∈ lw_all := lw_in wsX160 [1702, 1704, 1706] (by decide +kernel) (by decide +kernel)

/-! AskedNames$Entry -/
set_option maxRecDepth 100000
def RX17 : String := "AskedNames$Entry"
def TX17 : u_T := fun k => match k with
  | 0 => ("AskedNames$Entry", "name", "Ljava/lang/String;", true)
  | 1 => ("AskedNames$Entry", "wish", "I", true)
  | 2 => ("AskedNames$Entry", "ends", "I", true)
  | 3 => ("AskedNames$Entry", "first", "I", true)
  | 4 => ("AskedNames$Entry", "asks", "Ljava/util/ArrayList;", true)
  | 5 => ("AskedNames$Entry", "nonces", "J", false)
  | 6 => ("AskedNames$Entry", "in", "I", false)
  | 7 => ("AskedNames$Entry", "out", "I", false)
  | 8 => ("AskedNames$Entry", "tried", "I", false)
  | _ => ("AskedNames$Entry", "sent", "I", false)
def tyX17 : Nat → FieldType := fun k => match k with
  | 0 => .object "java/lang/String"
  | 1 => .int
  | 2 => .int
  | 3 => .int
  | 4 => .object "java/util/ArrayList"
  | 5 => .long
  | 6 => .int
  | 7 => .int
  | 8 => .int
  | _ => .int
abbrev wsX170 : List Cond := u_ws RX17 TX17 10
theorem nmX17 : ∀ a, a < 10 → ∀ b, b < 10 → a ≠ b → (TX17 a).2.1 ≠ (TX17 b).2.1 := by decide +kernel
theorem tyX17_ok : ∀ k, k < 10 → parseFieldDescriptor (TX17 k).2.2.1 = some (tyX17 k) := by decide +kernel
abbrev cX17_is : ByteArray := prog_6_method_2_code
def yX17_is : MethodName := ⟨RX17, "is", "(Ljava/lang/String;I)Z"⟩
def dkwX17_is_1 : List UInt8 := [172]
abbrev dktX17_is_1 : List UInt8 := dkwX17_is_1 ++ []
def dkwX17_is_0 : List UInt8 := [42, 180, 0, 26, 28, 160, 0, 18, 42, 180, 0, 22, 43, 182, 0, 35, 153, 0, 7, 4, 167, 0, 4, 3]
abbrev dktX17_is_0 : List UInt8 := dkwX17_is_0 ++ dktX17_is_1
theorem dksX17_is_0 : cX17_is.data.toList.drop 0 = dktX17_is_0 := by decide +kernel
theorem dksX17_is_1 : cX17_is.data.toList.drop 24 = dktX17_is_1 := dk_seg dksX17_is_0 24 rfl rfl
theorem dX17_is_0 : decode cX17_is 0 = .ok (.aload_n 0, 1) := dk_42 (dk_at dksX17_is_0 0 rfl rfl)
theorem dX17_is_1 : decode cX17_is 1 = .ok (.getfield 26, 3) := dk_180 0 26 (dk_at dksX17_is_0 1 rfl rfl)
theorem dX17_is_4 : decode cX17_is 4 = .ok (.iload_n 2, 1) := dk_28 (dk_at dksX17_is_0 4 rfl rfl)
theorem dX17_is_5 : decode cX17_is 5 = .ok (.if_icmp .ne 18, 3) := dk_160 0 18 (dk_at dksX17_is_0 5 rfl rfl)
theorem dX17_is_8 : decode cX17_is 8 = .ok (.aload_n 0, 1) := dk_42 (dk_at dksX17_is_0 8 rfl rfl)
theorem dX17_is_9 : decode cX17_is 9 = .ok (.getfield 22, 3) := dk_180 0 22 (dk_at dksX17_is_0 9 rfl rfl)
theorem dX17_is_12 : decode cX17_is 12 = .ok (.aload_n 1, 1) := dk_43 (dk_at dksX17_is_0 12 rfl rfl)
theorem dX17_is_13 : decode cX17_is 13 = .ok (.invokevirtual 35, 3) := dk_182 0 35 (dk_at dksX17_is_0 13 rfl rfl)
theorem dX17_is_16 : decode cX17_is 16 = .ok (.ifCond .eq 7, 3) := dk_153 0 7 (dk_at dksX17_is_0 16 rfl rfl)
theorem dX17_is_19 : decode cX17_is 19 = .ok (.iconst 1, 1) := dk_4 (dk_at dksX17_is_0 19 rfl rfl)
theorem dX17_is_20 : decode cX17_is 20 = .ok (.goto 4, 3) := dk_167 0 4 (dk_at dksX17_is_0 20 rfl rfl)
theorem dX17_is_23 : decode cX17_is 23 = .ok (.iconst 0, 1) := dk_3 (dk_at dksX17_is_0 23 rfl rfl)
theorem dX17_is_24 : decode cX17_is 24 = .ok (.ireturn, 1) := dk_172 (dk_at dksX17_is_1 0 rfl rfl)
abbrev cX17_takes : ByteArray := prog_6_method_3_code
def yX17_takes : MethodName := ⟨RX17, "takes", "(II)V"⟩
def dkwX17_takes_1 : List UInt8 := [184, 0, 45, 182, 0, 51, 87, 167, 0, 15, 42, 89, 180, 0, 54, 4, 27, 120, 128, 181, 0, 54, 177]
abbrev dktX17_takes_1 : List UInt8 := dkwX17_takes_1 ++ []
def dkwX17_takes_0 : List UInt8 := [42, 89, 180, 0, 41, 10, 28, 121, 129, 181, 0, 41, 27, 2, 160, 0, 18, 42, 180, 0, 12, 28]
abbrev dktX17_takes_0 : List UInt8 := dkwX17_takes_0 ++ dktX17_takes_1
theorem dksX17_takes_0 : cX17_takes.data.toList.drop 0 = dktX17_takes_0 := by decide +kernel
theorem dksX17_takes_1 : cX17_takes.data.toList.drop 22 = dktX17_takes_1 := dk_seg dksX17_takes_0 22 rfl rfl
theorem dX17_takes_0 : decode cX17_takes 0 = .ok (.aload_n 0, 1) := dk_42 (dk_at dksX17_takes_0 0 rfl rfl)
theorem dX17_takes_1 : decode cX17_takes 1 = .ok (.dup, 1) := dk_89 (dk_at dksX17_takes_0 1 rfl rfl)
theorem dX17_takes_2 : decode cX17_takes 2 = .ok (.getfield 41, 3) := dk_180 0 41 (dk_at dksX17_takes_0 2 rfl rfl)
theorem dX17_takes_5 : decode cX17_takes 5 = .ok (.lconst 1, 1) := dk_10 (dk_at dksX17_takes_0 5 rfl rfl)
theorem dX17_takes_6 : decode cX17_takes 6 = .ok (.iload_n 2, 1) := dk_28 (dk_at dksX17_takes_0 6 rfl rfl)
theorem dX17_takes_7 : decode cX17_takes 7 = .ok (.lshl, 1) := dk_121 (dk_at dksX17_takes_0 7 rfl rfl)
theorem dX17_takes_8 : decode cX17_takes 8 = .ok (.lor, 1) := dk_129 (dk_at dksX17_takes_0 8 rfl rfl)
theorem dX17_takes_9 : decode cX17_takes 9 = .ok (.putfield 41, 3) := dk_181 0 41 (dk_at dksX17_takes_0 9 rfl rfl)
theorem dX17_takes_12 : decode cX17_takes 12 = .ok (.iload_n 1, 1) := dk_27 (dk_at dksX17_takes_0 12 rfl rfl)
theorem dX17_takes_13 : decode cX17_takes 13 = .ok (.iconst (-1), 1) := dk_2 (dk_at dksX17_takes_0 13 rfl rfl)
theorem dX17_takes_14 : decode cX17_takes 14 = .ok (.if_icmp .ne 18, 3) := dk_160 0 18 (dk_at dksX17_takes_0 14 rfl rfl)
theorem dX17_takes_17 : decode cX17_takes 17 = .ok (.aload_n 0, 1) := dk_42 (dk_at dksX17_takes_0 17 rfl rfl)
theorem dX17_takes_18 : decode cX17_takes 18 = .ok (.getfield 12, 3) := dk_180 0 12 (dk_at dksX17_takes_0 18 rfl rfl)
theorem dX17_takes_21 : decode cX17_takes 21 = .ok (.iload_n 2, 1) := dk_28 (dk_at dksX17_takes_0 21 rfl rfl)
theorem dX17_takes_22 : decode cX17_takes 22 = .ok (.invokestatic 45, 3) := dk_184 0 45 (dk_at dksX17_takes_1 0 rfl rfl)
theorem dX17_takes_25 : decode cX17_takes 25 = .ok (.invokevirtual 51, 3) := dk_182 0 51 (dk_at dksX17_takes_1 3 rfl rfl)
theorem dX17_takes_28 : decode cX17_takes 28 = .ok (.pop, 1) := dk_87 (dk_at dksX17_takes_1 6 rfl rfl)
theorem dX17_takes_29 : decode cX17_takes 29 = .ok (.goto 15, 3) := dk_167 0 15 (dk_at dksX17_takes_1 7 rfl rfl)
theorem dX17_takes_32 : decode cX17_takes 32 = .ok (.aload_n 0, 1) := dk_42 (dk_at dksX17_takes_1 10 rfl rfl)
theorem dX17_takes_33 : decode cX17_takes 33 = .ok (.dup, 1) := dk_89 (dk_at dksX17_takes_1 11 rfl rfl)
theorem dX17_takes_34 : decode cX17_takes 34 = .ok (.getfield 54, 3) := dk_180 0 54 (dk_at dksX17_takes_1 12 rfl rfl)
theorem dX17_takes_37 : decode cX17_takes 37 = .ok (.iconst 1, 1) := dk_4 (dk_at dksX17_takes_1 15 rfl rfl)
theorem dX17_takes_38 : decode cX17_takes 38 = .ok (.iload_n 1, 1) := dk_27 (dk_at dksX17_takes_1 16 rfl rfl)
theorem dX17_takes_39 : decode cX17_takes 39 = .ok (.ishl, 1) := dk_120 (dk_at dksX17_takes_1 17 rfl rfl)
theorem dX17_takes_40 : decode cX17_takes 40 = .ok (.ior, 1) := dk_128 (dk_at dksX17_takes_1 18 rfl rfl)
theorem dX17_takes_41 : decode cX17_takes 41 = .ok (.putfield 54, 3) := dk_181 0 54 (dk_at dksX17_takes_1 19 rfl rfl)
theorem dX17_takes_44 : decode cX17_takes 44 = .ok (.return_, 1) := dk_177 (dk_at dksX17_takes_1 22 rfl rfl)
abbrev cX17_init : ByteArray := prog_6_method_1_code
def yX17_init : MethodName := ⟨RX17, "<init>", "(Ljava/lang/String;III)V"⟩
def dkwX17_init_1 : List UInt8 := [181, 0, 22, 42, 28, 181, 0, 26, 42, 29, 181, 0, 29, 42, 21, 4, 181, 0, 32, 177]
abbrev dktX17_init_1 : List UInt8 := dkwX17_init_1 ++ []
def dkwX17_init_0 : List UInt8 := [42, 183, 0, 3, 42, 187, 0, 9, 89, 183, 0, 11, 181, 0, 12, 42, 2, 181, 0, 18, 42, 43]
abbrev dktX17_init_0 : List UInt8 := dkwX17_init_0 ++ dktX17_init_1
theorem dksX17_init_0 : cX17_init.data.toList.drop 0 = dktX17_init_0 := by decide +kernel
theorem dksX17_init_1 : cX17_init.data.toList.drop 22 = dktX17_init_1 := dk_seg dksX17_init_0 22 rfl rfl
theorem dX17_init_0 : decode cX17_init 0 = .ok (.aload_n 0, 1) := dk_42 (dk_at dksX17_init_0 0 rfl rfl)
theorem dX17_init_1 : decode cX17_init 1 = .ok (.invokespecial 3, 3) := dk_183 0 3 (dk_at dksX17_init_0 1 rfl rfl)
theorem dX17_init_4 : decode cX17_init 4 = .ok (.aload_n 0, 1) := dk_42 (dk_at dksX17_init_0 4 rfl rfl)
theorem dX17_init_5 : decode cX17_init 5 = .ok (.new 9, 3) := dk_187 0 9 (dk_at dksX17_init_0 5 rfl rfl)
theorem dX17_init_8 : decode cX17_init 8 = .ok (.dup, 1) := dk_89 (dk_at dksX17_init_0 8 rfl rfl)
theorem dX17_init_9 : decode cX17_init 9 = .ok (.invokespecial 11, 3) := dk_183 0 11 (dk_at dksX17_init_0 9 rfl rfl)
theorem dX17_init_12 : decode cX17_init 12 = .ok (.putfield 12, 3) := dk_181 0 12 (dk_at dksX17_init_0 12 rfl rfl)
theorem dX17_init_15 : decode cX17_init 15 = .ok (.aload_n 0, 1) := dk_42 (dk_at dksX17_init_0 15 rfl rfl)
theorem dX17_init_16 : decode cX17_init 16 = .ok (.iconst (-1), 1) := dk_2 (dk_at dksX17_init_0 16 rfl rfl)
theorem dX17_init_17 : decode cX17_init 17 = .ok (.putfield 18, 3) := dk_181 0 18 (dk_at dksX17_init_0 17 rfl rfl)
theorem dX17_init_20 : decode cX17_init 20 = .ok (.aload_n 0, 1) := dk_42 (dk_at dksX17_init_0 20 rfl rfl)
theorem dX17_init_21 : decode cX17_init 21 = .ok (.aload_n 1, 1) := dk_43 (dk_at dksX17_init_0 21 rfl rfl)
theorem dX17_init_22 : decode cX17_init 22 = .ok (.putfield 22, 3) := dk_181 0 22 (dk_at dksX17_init_1 0 rfl rfl)
theorem dX17_init_25 : decode cX17_init 25 = .ok (.aload_n 0, 1) := dk_42 (dk_at dksX17_init_1 3 rfl rfl)
theorem dX17_init_26 : decode cX17_init 26 = .ok (.iload_n 2, 1) := dk_28 (dk_at dksX17_init_1 4 rfl rfl)
theorem dX17_init_27 : decode cX17_init 27 = .ok (.putfield 26, 3) := dk_181 0 26 (dk_at dksX17_init_1 5 rfl rfl)
theorem dX17_init_30 : decode cX17_init 30 = .ok (.aload_n 0, 1) := dk_42 (dk_at dksX17_init_1 8 rfl rfl)
theorem dX17_init_31 : decode cX17_init 31 = .ok (.iload_n 3, 1) := dk_29 (dk_at dksX17_init_1 9 rfl rfl)
theorem dX17_init_32 : decode cX17_init 32 = .ok (.putfield 29, 3) := dk_181 0 29 (dk_at dksX17_init_1 10 rfl rfl)
theorem dX17_init_35 : decode cX17_init 35 = .ok (.aload_n 0, 1) := dk_42 (dk_at dksX17_init_1 13 rfl rfl)
theorem dX17_init_36 : decode cX17_init 36 = .ok (.iload 4, 2) := dk_21 4 (dk_at dksX17_init_1 14 rfl rfl)
theorem dX17_init_38 : decode cX17_init 38 = .ok (.putfield 32, 3) := dk_181 0 32 (dk_at dksX17_init_1 16 rfl rfl)
theorem dX17_init_41 : decode cX17_init 41 = .ok (.return_, 1) := dk_177 (dk_at dksX17_init_1 19 rfl rfl)
theorem q168 : (Jvm.Cond.initialized "AskedNames$Entry") ∈ lw_all := lw_g (lw_at lw_m1 43 rfl) rfl
theorem q761 : (Jvm.Cond.selects "AskedNames$Entry" ({ cls := "java/lang/Object", name := "getClass", desc := "()Ljava/lang/Class;" } : Jvm.MethodName) ({ cls := "java/lang/Object", name := "getClass", desc := "()Ljava/lang/Class;" } : Jvm.MethodName)) ∈ lw_all := lw_g (lw_at lw_m3 156 rfl) rfl
theorem q1583 : (Jvm.Cond.instanceMethod ({ cls := "AskedNames$Entry", name := "is", desc := "(Ljava/lang/String;I)Z" } : Jvm.MethodName)) ∈ lw_all := lw_g (lw_at lw_m7 18 rfl) rfl
theorem q1584 : (Jvm.Cond.selects "AskedNames$Entry" ({ cls := "AskedNames$Entry", name := "is", desc := "(Ljava/lang/String;I)Z" } : Jvm.MethodName) ({ cls := "AskedNames$Entry", name := "is", desc := "(Ljava/lang/String;I)Z" } : Jvm.MethodName)) ∈ lw_all := lw_g (lw_at lw_m7 19 rfl) rfl
theorem q1585 : (Jvm.Cond.code ({ cls := "AskedNames$Entry", name := "is", desc := "(Ljava/lang/String;I)Z" } : Jvm.MethodName) prog_6_method_2_code (3 : Nat) (Option.some Jvm.ClassFile.FieldType.boolean)) ∈ lw_all := lw_g (lw_at lw_m7 20 rfl) rfl
theorem q1586 : (Jvm.Cond.methodLink "AskedNames$Entry" (35 : Nat) ({ cls := "java/lang/String", name := "equals", desc := "(Ljava/lang/Object;)Z" } : Jvm.MethodName)) ∈ lw_all := lw_g (lw_at lw_m7 21 rfl) rfl
theorem q1710 : (Jvm.Cond.instanceMethod ({ cls := "AskedNames$Entry", name := "takes", desc := "(II)V" } : Jvm.MethodName)) ∈ lw_all := lw_g (lw_at lw_m7 145 rfl) rfl
theorem q1711 : (Jvm.Cond.selects "AskedNames$Entry" ({ cls := "AskedNames$Entry", name := "takes", desc := "(II)V" } : Jvm.MethodName) ({ cls := "AskedNames$Entry", name := "takes", desc := "(II)V" } : Jvm.MethodName)) ∈ lw_all := lw_g (lw_at lw_m7 146 rfl) rfl
theorem q1712 : (Jvm.Cond.code ({ cls := "AskedNames$Entry", name := "takes", desc := "(II)V" } : Jvm.MethodName) prog_6_method_3_code (3 : Nat) (Option.none : Option Jvm.ClassFile.FieldType)) ∈ lw_all := lw_g (lw_at lw_m7 147 rfl) rfl
theorem q1713 : (Jvm.Cond.methodLink "AskedNames$Entry" (45 : Nat) ({ cls := "java/lang/Integer", name := "valueOf", desc := "(I)Ljava/lang/Integer;" } : Jvm.MethodName)) ∈ lw_all := lw_g (lw_at lw_m7 148 rfl) rfl
theorem q1733 : (Jvm.Cond.methodLink "AskedNames$Entry" (51 : Nat) ({ cls := "java/util/ArrayList", name := "add", desc := "(Ljava/lang/Object;)Z" } : Jvm.MethodName)) ∈ lw_all := lw_g (lw_at lw_m7 168 rfl) rfl
theorem q1735 : (Jvm.Cond.instantiable "AskedNames$Entry" (10 : Nat)) ∈ lw_all := lw_g (lw_at lw_m7 170 rfl) rfl
theorem q1737 : (Jvm.Cond.instanceMethod ({ cls := "AskedNames$Entry", name := "<init>", desc := "(Ljava/lang/String;III)V" } : Jvm.MethodName)) ∈ lw_all := lw_g (lw_at lw_m7 172 rfl) rfl
theorem q1738 : (Jvm.Cond.code ({ cls := "AskedNames$Entry", name := "<init>", desc := "(Ljava/lang/String;III)V" } : Jvm.MethodName) prog_6_method_1_code (5 : Nat) (Option.none : Option Jvm.ClassFile.FieldType)) ∈ lw_all := lw_g (lw_at lw_m7 173 rfl) rfl
theorem q1739 : (Jvm.Cond.methodLink "AskedNames$Entry" (3 : Nat) ({ cls := "java/lang/Object", name := "<init>", desc := "()V" } : Jvm.MethodName)) ∈ lw_all := lw_g (lw_at lw_m7 174 rfl) rfl
theorem q1740 : (Jvm.Cond.classLink "AskedNames$Entry" (9 : Nat) "java/util/ArrayList") ∈ lw_all := lw_g (lw_at lw_m7 175 rfl) rfl
theorem q1741 : (Jvm.Cond.methodLink "AskedNames$Entry" (11 : Nat) ({ cls := "java/util/ArrayList", name := "<init>", desc := "()V" } : Jvm.MethodName)) ∈ lw_all := lw_g (lw_at lw_m7 176 rfl) rfl
theorem q1742 : (Jvm.Cond.fieldLink "AskedNames$Entry" (22 : Nat) "AskedNames$Entry" "name" "Ljava/lang/String;") ∈ lw_all := lw_g (lw_at lw_m7 177 rfl) rfl
theorem q1745 : (Jvm.Cond.fieldLink "AskedNames$Entry" (26 : Nat) "AskedNames$Entry" "wish" "I") ∈ lw_all := lw_g (lw_at lw_m7 180 rfl) rfl
theorem q1748 : (Jvm.Cond.fieldLink "AskedNames$Entry" (29 : Nat) "AskedNames$Entry" "ends" "I") ∈ lw_all := lw_g (lw_at lw_m7 183 rfl) rfl
theorem q1751 : (Jvm.Cond.fieldLink "AskedNames$Entry" (32 : Nat) "AskedNames$Entry" "first" "I") ∈ lw_all := lw_g (lw_at lw_m7 186 rfl) rfl
theorem q1753 : (Jvm.Cond.fieldLink "AskedNames$Entry" (12 : Nat) "AskedNames$Entry" "asks" "Ljava/util/ArrayList;") ∈ lw_all := lw_g (lw_at lw_m7 188 rfl) rfl
theorem q1756 : (Jvm.Cond.fieldLink "AskedNames$Entry" (41 : Nat) "AskedNames$Entry" "nonces" "J") ∈ lw_all := lw_g (lw_at lw_m7 191 rfl) rfl
theorem q1758 : (Jvm.Cond.fieldLink "AskedNames$Entry" (54 : Nat) "AskedNames$Entry" "in" "I") ∈ lw_all := lw_g (lw_at lw_m7 193 rfl) rfl
theorem q1761 : (Jvm.Cond.fieldLink "AskedNames$Entry" (18 : Nat) "AskedNames$Entry" "out" "I") ∈ lw_all := lw_g (lw_at lw_m7 196 rfl) rfl
theorem q1768 : (Jvm.Cond.laysFinal "AskedNames$Entry" "AskedNames$Entry" "name" "Ljava/lang/String;") ∈ lw_all := lw_g (lw_at lw_m7 203 rfl) rfl
theorem q1769 : (Jvm.Cond.soleField "AskedNames$Entry" "name") ∈ lw_all := lw_g (lw_at lw_m7 204 rfl) rfl
theorem q1770 : (Jvm.Cond.laysFinal "AskedNames$Entry" "AskedNames$Entry" "wish" "I") ∈ lw_all := lw_g (lw_at lw_m7 205 rfl) rfl
theorem q1771 : (Jvm.Cond.soleField "AskedNames$Entry" "wish") ∈ lw_all := lw_g (lw_at lw_m7 206 rfl) rfl
theorem q1772 : (Jvm.Cond.laysFinal "AskedNames$Entry" "AskedNames$Entry" "ends" "I") ∈ lw_all := lw_g (lw_at lw_m7 207 rfl) rfl
theorem q1773 : (Jvm.Cond.soleField "AskedNames$Entry" "ends") ∈ lw_all := lw_g (lw_at lw_m7 208 rfl) rfl
theorem q1774 : (Jvm.Cond.laysFinal "AskedNames$Entry" "AskedNames$Entry" "first" "I") ∈ lw_all := lw_g (lw_at lw_m7 209 rfl) rfl
theorem q1775 : (Jvm.Cond.soleField "AskedNames$Entry" "first") ∈ lw_all := lw_g (lw_at lw_m7 210 rfl) rfl
theorem q1776 : (Jvm.Cond.laysFinal "AskedNames$Entry" "AskedNames$Entry" "asks" "Ljava/util/ArrayList;") ∈ lw_all := lw_g (lw_at lw_m7 211 rfl) rfl
theorem q1777 : (Jvm.Cond.soleField "AskedNames$Entry" "asks") ∈ lw_all := lw_g (lw_at lw_m7 212 rfl) rfl
theorem q1778 : (Jvm.Cond.lays "AskedNames$Entry" "AskedNames$Entry" "nonces" "J") ∈ lw_all := lw_g (lw_at lw_m7 213 rfl) rfl
theorem q1779 : (Jvm.Cond.soleField "AskedNames$Entry" "nonces") ∈ lw_all := lw_g (lw_at lw_m7 214 rfl) rfl
theorem q1780 : (Jvm.Cond.lays "AskedNames$Entry" "AskedNames$Entry" "in" "I") ∈ lw_all := lw_g (lw_at lw_m7 215 rfl) rfl
theorem q1781 : (Jvm.Cond.soleField "AskedNames$Entry" "in") ∈ lw_all := lw_g (lw_at lw_m7 216 rfl) rfl
theorem q1782 : (Jvm.Cond.lays "AskedNames$Entry" "AskedNames$Entry" "out" "I") ∈ lw_all := lw_g (lw_at lw_m7 217 rfl) rfl
theorem q1783 : (Jvm.Cond.soleField "AskedNames$Entry" "out") ∈ lw_all := lw_g (lw_at lw_m7 218 rfl) rfl
theorem q1784 : (Jvm.Cond.lays "AskedNames$Entry" "AskedNames$Entry" "tried" "I") ∈ lw_all := lw_g (lw_at lw_m7 219 rfl) rfl
theorem q1785 : (Jvm.Cond.soleField "AskedNames$Entry" "tried") ∈ lw_all := lw_g (lw_at lw_m7 220 rfl) rfl
theorem q1786 : (Jvm.Cond.lays "AskedNames$Entry" "AskedNames$Entry" "sent" "I") ∈ lw_all := lw_g (lw_at lw_m7 221 rfl) rfl
theorem q1787 : (Jvm.Cond.soleField "AskedNames$Entry" "sent") ∈ lw_all := lw_g (lw_at lw_m7 222 rfl) rfl
theorem q1788 : (Jvm.Cond.superclass "AskedNames$Entry" "java/lang/Object") ∈ lw_all := lw_g (lw_at lw_m7 223 rfl) rfl
theorem q2995 : (Jvm.Cond.castable "AskedNames$Entry" "java/lang/Object") ∈ lw_tbl := lw_at lw_m12 230 rfl
theorem in_X17 : ∀ w ∈ wsX170, w ∈ lw_all := lw_in wsX170 [1768, 1770, 1772, 1774, 1776, 1778, 1780, 1782, 1784, 1786] (by decide +kernel) (by decide +kernel)

/-! AskedNames$NoWay -/
set_option maxRecDepth 100000
def RX18 : String := "AskedNames$NoWay"
def TX18 : u_T := fun k => match k with
  | 0 => ("java/lang/Throwable", "cause", "Ljava/lang/Throwable;", false)
  | 1 => ("java/lang/Throwable", "stackTrace", "[Ljava/lang/StackTraceElement;", false)
  | 2 => ("java/lang/Throwable", "suppressedExceptions", "Ljava/util/List;", false)
  | 3 => ("java/lang/Throwable", "detailMessage", "Ljava/lang/String;", false)
  | 4 => ("java/lang/Throwable", "backtrace", "Ljava/lang/Object;", false)
  | 5 => ("java/lang/Throwable", "depth", "I", false)
  | _ => ("AskedNames$NoWay", "node", "I", true)
def tyX18 : Nat → FieldType := fun k => match k with
  | 0 => .object "java/lang/Throwable"
  | 1 => .array (.object "java/lang/StackTraceElement")
  | 2 => .object "java/util/List"
  | 3 => .object "java/lang/String"
  | 4 => .object "java/lang/Object"
  | 5 => .int
  | _ => .int
abbrev wsX180 : List Cond := u_ws RX18 TX18 7
theorem nmX18 : ∀ a, a < 7 → ∀ b, b < 7 → a ≠ b → (TX18 a).2.1 ≠ (TX18 b).2.1 := by decide +kernel
theorem tyX18_ok : ∀ k, k < 7 → parseFieldDescriptor (TX18 k).2.2.1 = some (tyX18 k) := by decide +kernel
abbrev cX18_init : ByteArray := prog_15_method_1_code
def yX18_init : MethodName := ⟨RX18, "<init>", "(I)V"⟩
def dkwX18_init_0 : List UInt8 := [42, 1, 1, 3, 3, 183, 0, 1, 42, 27, 181, 0, 7, 177]
abbrev dktX18_init_0 : List UInt8 := dkwX18_init_0 ++ []
theorem dksX18_init_0 : cX18_init.data.toList.drop 0 = dktX18_init_0 := by decide +kernel
theorem dX18_init_0 : decode cX18_init 0 = .ok (.aload_n 0, 1) := dk_42 (dk_at dksX18_init_0 0 rfl rfl)
theorem dX18_init_1 : decode cX18_init 1 = .ok (.aconst_null, 1) := dk_1 (dk_at dksX18_init_0 1 rfl rfl)
theorem dX18_init_2 : decode cX18_init 2 = .ok (.aconst_null, 1) := dk_1 (dk_at dksX18_init_0 2 rfl rfl)
theorem dX18_init_3 : decode cX18_init 3 = .ok (.iconst 0, 1) := dk_3 (dk_at dksX18_init_0 3 rfl rfl)
theorem dX18_init_4 : decode cX18_init 4 = .ok (.iconst 0, 1) := dk_3 (dk_at dksX18_init_0 4 rfl rfl)
theorem dX18_init_5 : decode cX18_init 5 = .ok (.invokespecial 1, 3) := dk_183 0 1 (dk_at dksX18_init_0 5 rfl rfl)
theorem dX18_init_8 : decode cX18_init 8 = .ok (.aload_n 0, 1) := dk_42 (dk_at dksX18_init_0 8 rfl rfl)
theorem dX18_init_9 : decode cX18_init 9 = .ok (.iload_n 1, 1) := dk_27 (dk_at dksX18_init_0 9 rfl rfl)
theorem dX18_init_10 : decode cX18_init 10 = .ok (.putfield 7, 3) := dk_181 0 7 (dk_at dksX18_init_0 10 rfl rfl)
theorem dX18_init_13 : decode cX18_init 13 = .ok (.return_, 1) := dk_177 (dk_at dksX18_init_0 13 rfl rfl)
theorem q169 : (Jvm.Cond.initialized "AskedNames$NoWay") ∈ lw_all := lw_g (lw_at lw_m1 44 rfl) rfl
theorem q680 : (Jvm.Cond.selects "AskedNames$NoWay" ({ cls := "java/lang/Throwable", name := "fillInStackTrace", desc := "()Ljava/lang/Throwable;" } : Jvm.MethodName) ({ cls := "java/lang/Throwable", name := "fillInStackTrace", desc := "()Ljava/lang/Throwable;" } : Jvm.MethodName)) ∈ lw_all := lw_g (lw_at lw_m3 75 rfl) rfl
theorem q770 : (Jvm.Cond.selects "AskedNames$NoWay" ({ cls := "java/lang/Object", name := "getClass", desc := "()Ljava/lang/Class;" } : Jvm.MethodName) ({ cls := "java/lang/Object", name := "getClass", desc := "()Ljava/lang/Class;" } : Jvm.MethodName)) ∈ lw_all := lw_g (lw_at lw_m3 165 rfl) rfl
theorem q1797 : (Jvm.Cond.instantiable "AskedNames$NoWay" (7 : Nat)) ∈ lw_all := lw_g (lw_at lw_m7 232 rfl) rfl
theorem q1798 : (Jvm.Cond.castable "AskedNames$NoWay" "AskedNames$NoWay") ∈ lw_tbl := lw_at lw_m7 233 rfl
theorem q1799 : (Jvm.Cond.selects "AskedNames$NoWay" ({ cls := "java/lang/Throwable", name := "fillInStackTrace", desc := "(I)Ljava/lang/Throwable;" } : Jvm.MethodName) ({ cls := "java/lang/Throwable", name := "fillInStackTrace", desc := "(I)Ljava/lang/Throwable;" } : Jvm.MethodName)) ∈ lw_all := lw_g (lw_at lw_m7 234 rfl) rfl
theorem q1800 : (Jvm.Cond.lays "AskedNames$NoWay" "java/lang/Throwable" "cause" "Ljava/lang/Throwable;") ∈ lw_all := lw_g (lw_at lw_m7 235 rfl) rfl
theorem q1801 : (Jvm.Cond.lays "AskedNames$NoWay" "java/lang/Throwable" "stackTrace" "[Ljava/lang/StackTraceElement;") ∈ lw_all := lw_g (lw_at lw_m7 236 rfl) rfl
theorem q1802 : (Jvm.Cond.lays "AskedNames$NoWay" "java/lang/Throwable" "suppressedExceptions" "Ljava/util/List;") ∈ lw_all := lw_g (lw_at lw_m7 237 rfl) rfl
theorem q1803 : (Jvm.Cond.lays "AskedNames$NoWay" "java/lang/Throwable" "detailMessage" "Ljava/lang/String;") ∈ lw_all := lw_g (lw_at lw_m7 238 rfl) rfl
theorem q1804 : (Jvm.Cond.lays "AskedNames$NoWay" "java/lang/Throwable" "backtrace" "Ljava/lang/Object;") ∈ lw_all := lw_g (lw_at lw_m7 239 rfl) rfl
theorem q1806 : (Jvm.Cond.instanceMethod ({ cls := "AskedNames$NoWay", name := "<init>", desc := "(I)V" } : Jvm.MethodName)) ∈ lw_all := lw_g (lw_at lw_m8 1 rfl) rfl
theorem q1807 : (Jvm.Cond.code ({ cls := "AskedNames$NoWay", name := "<init>", desc := "(I)V" } : Jvm.MethodName) prog_15_method_1_code (2 : Nat) (Option.none : Option Jvm.ClassFile.FieldType)) ∈ lw_all := lw_g (lw_at lw_m8 2 rfl) rfl
theorem q1808 : (Jvm.Cond.methodLink "AskedNames$NoWay" (1 : Nat) ({ cls := "java/lang/Exception", name := "<init>", desc := "(Ljava/lang/String;Ljava/lang/Throwable;ZZ)V" } : Jvm.MethodName)) ∈ lw_all := lw_g (lw_at lw_m8 3 rfl) rfl
theorem q1809 : (Jvm.Cond.fieldLink "AskedNames$NoWay" (7 : Nat) "AskedNames$NoWay" "node" "I") ∈ lw_all := lw_g (lw_at lw_m8 4 rfl) rfl
theorem q1811 : (Jvm.Cond.laysFinal "AskedNames$NoWay" "AskedNames$NoWay" "node" "I") ∈ lw_all := lw_g (lw_at lw_m8 6 rfl) rfl
theorem q1812 : (Jvm.Cond.soleField "AskedNames$NoWay" "node") ∈ lw_all := lw_g (lw_at lw_m8 7 rfl) rfl
theorem q1813 : (Jvm.Cond.lays "AskedNames$NoWay" "java/lang/Throwable" "depth" "I") ∈ lw_all := lw_g (lw_at lw_m8 8 rfl) rfl
theorem q1814 : (Jvm.Cond.superclass "AskedNames$NoWay" "java/lang/Exception") ∈ lw_all := lw_g (lw_at lw_m8 9 rfl) rfl
theorem q1844 : (Jvm.Cond.selects "AskedNames$NoWay" ({ cls := "java/lang/Throwable", name := "getCause", desc := "()Ljava/lang/Throwable;" } : Jvm.MethodName) ({ cls := "java/lang/Throwable", name := "getCause", desc := "()Ljava/lang/Throwable;" } : Jvm.MethodName)) ∈ lw_all := lw_g (lw_at lw_m8 39 rfl) rfl
theorem q2996 : (Jvm.Cond.castable "AskedNames$NoWay" "java/lang/Object") ∈ lw_tbl := lw_at lw_m12 231 rfl
theorem in_X18 : ∀ w ∈ wsX180, w ∈ lw_all := lw_in wsX180 [1800, 1801, 1802, 1803, 1804, 1813, 1811] (by decide +kernel) (by decide +kernel)

/-! AskedNames$Refused -/
set_option maxRecDepth 100000
def RX19 : String := "AskedNames$Refused"
def TX19 : u_T := fun k => match k with
  | 0 => ("java/lang/Throwable", "cause", "Ljava/lang/Throwable;", false)
  | 1 => ("java/lang/Throwable", "stackTrace", "[Ljava/lang/StackTraceElement;", false)
  | 2 => ("java/lang/Throwable", "suppressedExceptions", "Ljava/util/List;", false)
  | 3 => ("java/lang/Throwable", "detailMessage", "Ljava/lang/String;", false)
  | 4 => ("java/lang/Throwable", "backtrace", "Ljava/lang/Object;", false)
  | _ => ("java/lang/Throwable", "depth", "I", false)
def tyX19 : Nat → FieldType := fun k => match k with
  | 0 => .object "java/lang/Throwable"
  | 1 => .array (.object "java/lang/StackTraceElement")
  | 2 => .object "java/util/List"
  | 3 => .object "java/lang/String"
  | 4 => .object "java/lang/Object"
  | _ => .int
abbrev wsX190 : List Cond := u_ws RX19 TX19 6
theorem nmX19 : ∀ a, a < 6 → ∀ b, b < 6 → a ≠ b → (TX19 a).2.1 ≠ (TX19 b).2.1 := by decide +kernel
theorem tyX19_ok : ∀ k, k < 6 → parseFieldDescriptor (TX19 k).2.2.1 = some (tyX19 k) := by decide +kernel
abbrev cX19_init : ByteArray := prog_18_method_1_code
def yX19_init : MethodName := ⟨RX19, "<init>", "(Ljava/lang/Exception;)V"⟩
def dkwX19_init_0 : List UInt8 := [42, 1, 43, 3, 3, 183, 0, 3, 177]
abbrev dktX19_init_0 : List UInt8 := dkwX19_init_0 ++ []
theorem dksX19_init_0 : cX19_init.data.toList.drop 0 = dktX19_init_0 := by decide +kernel
theorem dX19_init_0 : decode cX19_init 0 = .ok (.aload_n 0, 1) := dk_42 (dk_at dksX19_init_0 0 rfl rfl)
theorem dX19_init_1 : decode cX19_init 1 = .ok (.aconst_null, 1) := dk_1 (dk_at dksX19_init_0 1 rfl rfl)
theorem dX19_init_2 : decode cX19_init 2 = .ok (.aload_n 1, 1) := dk_43 (dk_at dksX19_init_0 2 rfl rfl)
theorem dX19_init_3 : decode cX19_init 3 = .ok (.iconst 0, 1) := dk_3 (dk_at dksX19_init_0 3 rfl rfl)
theorem dX19_init_4 : decode cX19_init 4 = .ok (.iconst 0, 1) := dk_3 (dk_at dksX19_init_0 4 rfl rfl)
theorem dX19_init_5 : decode cX19_init 5 = .ok (.invokespecial 3, 3) := dk_183 0 3 (dk_at dksX19_init_0 5 rfl rfl)
theorem dX19_init_8 : decode cX19_init 8 = .ok (.return_, 1) := dk_177 (dk_at dksX19_init_0 8 rfl rfl)
abbrev cX19_depth : ByteArray := prog_18_method_2_code
def yX19_depth : MethodName := ⟨RX19, "depth", "()I"⟩
def dkwX19_depth_0 : List UInt8 := [3, 60, 42, 77, 44, 193, 0, 9, 153, 0, 14, 132, 1, 1, 44, 182, 0, 11, 77, 167, 255, 241, 27, 172]
abbrev dktX19_depth_0 : List UInt8 := dkwX19_depth_0 ++ []
theorem dksX19_depth_0 : cX19_depth.data.toList.drop 0 = dktX19_depth_0 := by decide +kernel
theorem dX19_depth_0 : decode cX19_depth 0 = .ok (.iconst 0, 1) := dk_3 (dk_at dksX19_depth_0 0 rfl rfl)
theorem dX19_depth_1 : decode cX19_depth 1 = .ok (.istore_n 1, 1) := dk_60 (dk_at dksX19_depth_0 1 rfl rfl)
theorem dX19_depth_2 : decode cX19_depth 2 = .ok (.aload_n 0, 1) := dk_42 (dk_at dksX19_depth_0 2 rfl rfl)
theorem dX19_depth_3 : decode cX19_depth 3 = .ok (.astore_n 2, 1) := dk_77 (dk_at dksX19_depth_0 3 rfl rfl)
theorem dX19_depth_4 : decode cX19_depth 4 = .ok (.aload_n 2, 1) := dk_44 (dk_at dksX19_depth_0 4 rfl rfl)
theorem dX19_depth_5 : decode cX19_depth 5 = .ok (.instanceof 9, 3) := dk_193 0 9 (dk_at dksX19_depth_0 5 rfl rfl)
theorem dX19_depth_8 : decode cX19_depth 8 = .ok (.ifCond .eq 14, 3) := dk_153 0 14 (dk_at dksX19_depth_0 8 rfl rfl)
theorem dX19_depth_11 : decode cX19_depth 11 = .ok (.iinc 1 1, 3) := dk_132 1 1 (dk_at dksX19_depth_0 11 rfl rfl)
theorem dX19_depth_14 : decode cX19_depth 14 = .ok (.aload_n 2, 1) := dk_44 (dk_at dksX19_depth_0 14 rfl rfl)
theorem dX19_depth_15 : decode cX19_depth 15 = .ok (.invokevirtual 11, 3) := dk_182 0 11 (dk_at dksX19_depth_0 15 rfl rfl)
theorem dX19_depth_18 : decode cX19_depth 18 = .ok (.astore_n 2, 1) := dk_77 (dk_at dksX19_depth_0 18 rfl rfl)
theorem dX19_depth_19 : decode cX19_depth 19 = .ok (.goto (-15), 3) := dk_167 255 241 (dk_at dksX19_depth_0 19 rfl rfl)
theorem dX19_depth_22 : decode cX19_depth 22 = .ok (.iload_n 1, 1) := dk_27 (dk_at dksX19_depth_0 22 rfl rfl)
theorem dX19_depth_23 : decode cX19_depth 23 = .ok (.ireturn, 1) := dk_172 (dk_at dksX19_depth_0 23 rfl rfl)
abbrev cX19_isLoop : ByteArray := prog_18_method_4_code
def yX19_isLoop : MethodName := ⟨RX19, "isLoop", "()Z"⟩
def dkwX19_isLoop_0 : List UInt8 := [42, 182, 0, 17, 193, 0, 20, 172]
abbrev dktX19_isLoop_0 : List UInt8 := dkwX19_isLoop_0 ++ []
theorem dksX19_isLoop_0 : cX19_isLoop.data.toList.drop 0 = dktX19_isLoop_0 := by decide +kernel
theorem dX19_isLoop_0 : decode cX19_isLoop 0 = .ok (.aload_n 0, 1) := dk_42 (dk_at dksX19_isLoop_0 0 rfl rfl)
theorem dX19_isLoop_1 : decode cX19_isLoop 1 = .ok (.invokevirtual 17, 3) := dk_182 0 17 (dk_at dksX19_isLoop_0 1 rfl rfl)
theorem dX19_isLoop_4 : decode cX19_isLoop 4 = .ok (.instanceof 20, 3) := dk_193 0 20 (dk_at dksX19_isLoop_0 4 rfl rfl)
theorem dX19_isLoop_7 : decode cX19_isLoop 7 = .ok (.ireturn, 1) := dk_172 (dk_at dksX19_isLoop_0 7 rfl rfl)
abbrev cX19_root : ByteArray := prog_18_method_3_code
def yX19_root : MethodName := ⟨RX19, "root", "()Ljava/lang/Throwable;"⟩
def dkwX19_root_0 : List UInt8 := [42, 76, 43, 193, 0, 9, 153, 0, 11, 43, 182, 0, 11, 76, 167, 255, 244, 43, 176]
abbrev dktX19_root_0 : List UInt8 := dkwX19_root_0 ++ []
theorem dksX19_root_0 : cX19_root.data.toList.drop 0 = dktX19_root_0 := by decide +kernel
theorem dX19_root_0 : decode cX19_root 0 = .ok (.aload_n 0, 1) := dk_42 (dk_at dksX19_root_0 0 rfl rfl)
theorem dX19_root_1 : decode cX19_root 1 = .ok (.astore_n 1, 1) := dk_76 (dk_at dksX19_root_0 1 rfl rfl)
theorem dX19_root_2 : decode cX19_root 2 = .ok (.aload_n 1, 1) := dk_43 (dk_at dksX19_root_0 2 rfl rfl)
theorem dX19_root_3 : decode cX19_root 3 = .ok (.instanceof 9, 3) := dk_193 0 9 (dk_at dksX19_root_0 3 rfl rfl)
theorem dX19_root_6 : decode cX19_root 6 = .ok (.ifCond .eq 11, 3) := dk_153 0 11 (dk_at dksX19_root_0 6 rfl rfl)
theorem dX19_root_9 : decode cX19_root 9 = .ok (.aload_n 1, 1) := dk_43 (dk_at dksX19_root_0 9 rfl rfl)
theorem dX19_root_10 : decode cX19_root 10 = .ok (.invokevirtual 11, 3) := dk_182 0 11 (dk_at dksX19_root_0 10 rfl rfl)
theorem dX19_root_13 : decode cX19_root 13 = .ok (.astore_n 1, 1) := dk_76 (dk_at dksX19_root_0 13 rfl rfl)
theorem dX19_root_14 : decode cX19_root 14 = .ok (.goto (-12), 3) := dk_167 255 244 (dk_at dksX19_root_0 14 rfl rfl)
theorem dX19_root_17 : decode cX19_root 17 = .ok (.aload_n 1, 1) := dk_43 (dk_at dksX19_root_0 17 rfl rfl)
theorem dX19_root_18 : decode cX19_root 18 = .ok (.areturn, 1) := dk_176 (dk_at dksX19_root_0 18 rfl rfl)
abbrev cX19_node : ByteArray := prog_18_method_5_code
def yX19_node : MethodName := ⟨RX19, "node", "()I"⟩
def dkwX19_node_1 : List UInt8 := [193, 0, 26, 153, 0, 15, 43, 192, 0, 26, 77, 44, 180, 0, 28, 167, 0, 4, 2, 172]
abbrev dktX19_node_1 : List UInt8 := dkwX19_node_1 ++ []
def dkwX19_node_0 : List UInt8 := [42, 182, 0, 17, 76, 43, 193, 0, 20, 153, 0, 13, 43, 192, 0, 20, 77, 44, 180, 0, 22, 172, 43]
abbrev dktX19_node_0 : List UInt8 := dkwX19_node_0 ++ dktX19_node_1
theorem dksX19_node_0 : cX19_node.data.toList.drop 0 = dktX19_node_0 := by decide +kernel
theorem dksX19_node_1 : cX19_node.data.toList.drop 23 = dktX19_node_1 := dk_seg dksX19_node_0 23 rfl rfl
theorem dX19_node_0 : decode cX19_node 0 = .ok (.aload_n 0, 1) := dk_42 (dk_at dksX19_node_0 0 rfl rfl)
theorem dX19_node_1 : decode cX19_node 1 = .ok (.invokevirtual 17, 3) := dk_182 0 17 (dk_at dksX19_node_0 1 rfl rfl)
theorem dX19_node_4 : decode cX19_node 4 = .ok (.astore_n 1, 1) := dk_76 (dk_at dksX19_node_0 4 rfl rfl)
theorem dX19_node_5 : decode cX19_node 5 = .ok (.aload_n 1, 1) := dk_43 (dk_at dksX19_node_0 5 rfl rfl)
theorem dX19_node_6 : decode cX19_node 6 = .ok (.instanceof 20, 3) := dk_193 0 20 (dk_at dksX19_node_0 6 rfl rfl)
theorem dX19_node_9 : decode cX19_node 9 = .ok (.ifCond .eq 13, 3) := dk_153 0 13 (dk_at dksX19_node_0 9 rfl rfl)
theorem dX19_node_12 : decode cX19_node 12 = .ok (.aload_n 1, 1) := dk_43 (dk_at dksX19_node_0 12 rfl rfl)
theorem dX19_node_13 : decode cX19_node 13 = .ok (.checkcast 20, 3) := dk_192 0 20 (dk_at dksX19_node_0 13 rfl rfl)
theorem dX19_node_16 : decode cX19_node 16 = .ok (.astore_n 2, 1) := dk_77 (dk_at dksX19_node_0 16 rfl rfl)
theorem dX19_node_17 : decode cX19_node 17 = .ok (.aload_n 2, 1) := dk_44 (dk_at dksX19_node_0 17 rfl rfl)
theorem dX19_node_18 : decode cX19_node 18 = .ok (.getfield 22, 3) := dk_180 0 22 (dk_at dksX19_node_0 18 rfl rfl)
theorem dX19_node_21 : decode cX19_node 21 = .ok (.ireturn, 1) := dk_172 (dk_at dksX19_node_0 21 rfl rfl)
theorem dX19_node_22 : decode cX19_node 22 = .ok (.aload_n 1, 1) := dk_43 (dk_at dksX19_node_0 22 rfl rfl)
theorem dX19_node_23 : decode cX19_node 23 = .ok (.instanceof 26, 3) := dk_193 0 26 (dk_at dksX19_node_1 0 rfl rfl)
theorem dX19_node_26 : decode cX19_node 26 = .ok (.ifCond .eq 15, 3) := dk_153 0 15 (dk_at dksX19_node_1 3 rfl rfl)
theorem dX19_node_29 : decode cX19_node 29 = .ok (.aload_n 1, 1) := dk_43 (dk_at dksX19_node_1 6 rfl rfl)
theorem dX19_node_30 : decode cX19_node 30 = .ok (.checkcast 26, 3) := dk_192 0 26 (dk_at dksX19_node_1 7 rfl rfl)
theorem dX19_node_33 : decode cX19_node 33 = .ok (.astore_n 2, 1) := dk_77 (dk_at dksX19_node_1 10 rfl rfl)
theorem dX19_node_34 : decode cX19_node 34 = .ok (.aload_n 2, 1) := dk_44 (dk_at dksX19_node_1 11 rfl rfl)
theorem dX19_node_35 : decode cX19_node 35 = .ok (.getfield 28, 3) := dk_180 0 28 (dk_at dksX19_node_1 12 rfl rfl)
theorem dX19_node_38 : decode cX19_node 38 = .ok (.goto 4, 3) := dk_167 0 4 (dk_at dksX19_node_1 15 rfl rfl)
theorem dX19_node_41 : decode cX19_node 41 = .ok (.iconst (-1), 1) := dk_2 (dk_at dksX19_node_1 18 rfl rfl)
theorem dX19_node_42 : decode cX19_node 42 = .ok (.ireturn, 1) := dk_172 (dk_at dksX19_node_1 19 rfl rfl)
theorem q170 : (Jvm.Cond.initialized "AskedNames$Refused") ∈ lw_all := lw_g (lw_at lw_m1 45 rfl) rfl
theorem q681 : (Jvm.Cond.selects "AskedNames$Refused" ({ cls := "java/lang/Throwable", name := "fillInStackTrace", desc := "()Ljava/lang/Throwable;" } : Jvm.MethodName) ({ cls := "java/lang/Throwable", name := "fillInStackTrace", desc := "()Ljava/lang/Throwable;" } : Jvm.MethodName)) ∈ lw_all := lw_g (lw_at lw_m3 76 rfl) rfl
theorem q772 : (Jvm.Cond.selects "AskedNames$Refused" ({ cls := "java/lang/Object", name := "getClass", desc := "()Ljava/lang/Class;" } : Jvm.MethodName) ({ cls := "java/lang/Object", name := "getClass", desc := "()Ljava/lang/Class;" } : Jvm.MethodName)) ∈ lw_all := lw_g (lw_at lw_m3 167 rfl) rfl
theorem q1605 : (Jvm.Cond.fieldLinkNest "AskedNames$Refused" (22 : Nat) "AskedNames$Loop" "node" "I" "AskedNames") ∈ lw_tbl := lw_at lw_m7 40 rfl
theorem q1810 : (Jvm.Cond.fieldLinkNest "AskedNames$Refused" (28 : Nat) "AskedNames$NoWay" "node" "I" "AskedNames") ∈ lw_tbl := lw_at lw_m8 5 rfl
theorem q1816 : (Jvm.Cond.instantiable "AskedNames$Refused" (6 : Nat)) ∈ lw_all := lw_g (lw_at lw_m8 11 rfl) rfl
theorem q1817 : (Jvm.Cond.castable "AskedNames$Refused" "AskedNames$Refused") ∈ lw_tbl := lw_at lw_m8 12 rfl
theorem q1818 : (Jvm.Cond.selects "AskedNames$Refused" ({ cls := "java/lang/Throwable", name := "fillInStackTrace", desc := "(I)Ljava/lang/Throwable;" } : Jvm.MethodName) ({ cls := "java/lang/Throwable", name := "fillInStackTrace", desc := "(I)Ljava/lang/Throwable;" } : Jvm.MethodName)) ∈ lw_all := lw_g (lw_at lw_m8 13 rfl) rfl
theorem q1819 : (Jvm.Cond.lays "AskedNames$Refused" "java/lang/Throwable" "cause" "Ljava/lang/Throwable;") ∈ lw_all := lw_g (lw_at lw_m8 14 rfl) rfl
theorem q1820 : (Jvm.Cond.lays "AskedNames$Refused" "java/lang/Throwable" "stackTrace" "[Ljava/lang/StackTraceElement;") ∈ lw_all := lw_g (lw_at lw_m8 15 rfl) rfl
theorem q1821 : (Jvm.Cond.lays "AskedNames$Refused" "java/lang/Throwable" "suppressedExceptions" "Ljava/util/List;") ∈ lw_all := lw_g (lw_at lw_m8 16 rfl) rfl
theorem q1822 : (Jvm.Cond.lays "AskedNames$Refused" "java/lang/Throwable" "detailMessage" "Ljava/lang/String;") ∈ lw_all := lw_g (lw_at lw_m8 17 rfl) rfl
theorem q1823 : (Jvm.Cond.lays "AskedNames$Refused" "java/lang/Throwable" "backtrace" "Ljava/lang/Object;") ∈ lw_all := lw_g (lw_at lw_m8 18 rfl) rfl
theorem q1825 : (Jvm.Cond.instanceMethod ({ cls := "AskedNames$Refused", name := "<init>", desc := "(Ljava/lang/Exception;)V" } : Jvm.MethodName)) ∈ lw_all := lw_g (lw_at lw_m8 20 rfl) rfl
theorem q1826 : (Jvm.Cond.code ({ cls := "AskedNames$Refused", name := "<init>", desc := "(Ljava/lang/Exception;)V" } : Jvm.MethodName) prog_18_method_1_code (2 : Nat) (Option.none : Option Jvm.ClassFile.FieldType)) ∈ lw_all := lw_g (lw_at lw_m8 21 rfl) rfl
theorem q1827 : (Jvm.Cond.methodLink "AskedNames$Refused" (3 : Nat) ({ cls := "java/lang/Exception", name := "<init>", desc := "(Ljava/lang/String;Ljava/lang/Throwable;ZZ)V" } : Jvm.MethodName)) ∈ lw_all := lw_g (lw_at lw_m8 22 rfl) rfl
theorem q1828 : (Jvm.Cond.lays "AskedNames$Refused" "java/lang/Throwable" "depth" "I") ∈ lw_all := lw_g (lw_at lw_m8 23 rfl) rfl
theorem q1829 : (Jvm.Cond.superclass "AskedNames$Refused" "java/lang/Exception") ∈ lw_all := lw_g (lw_at lw_m8 24 rfl) rfl
theorem q1835 : (Jvm.Cond.instanceMethod ({ cls := "AskedNames$Refused", name := "depth", desc := "()I" } : Jvm.MethodName)) ∈ lw_all := lw_g (lw_at lw_m8 30 rfl) rfl
theorem q1836 : (Jvm.Cond.selects "AskedNames$Refused" ({ cls := "AskedNames$Refused", name := "depth", desc := "()I" } : Jvm.MethodName) ({ cls := "AskedNames$Refused", name := "depth", desc := "()I" } : Jvm.MethodName)) ∈ lw_all := lw_g (lw_at lw_m8 31 rfl) rfl
theorem q1837 : (Jvm.Cond.code ({ cls := "AskedNames$Refused", name := "depth", desc := "()I" } : Jvm.MethodName) prog_18_method_2_code (3 : Nat) (Option.some Jvm.ClassFile.FieldType.int)) ∈ lw_all := lw_g (lw_at lw_m8 32 rfl) rfl
theorem q1838 : (Jvm.Cond.classLink "AskedNames$Refused" (9 : Nat) "AskedNames$Refused") ∈ lw_all := lw_g (lw_at lw_m8 33 rfl) rfl
theorem q1839 : (Jvm.Cond.methodLink "AskedNames$Refused" (11 : Nat) ({ cls := "java/lang/Throwable", name := "getCause", desc := "()Ljava/lang/Throwable;" } : Jvm.MethodName)) ∈ lw_all := lw_g (lw_at lw_m8 34 rfl) rfl
theorem q1845 : (Jvm.Cond.selects "AskedNames$Refused" ({ cls := "java/lang/Throwable", name := "getCause", desc := "()Ljava/lang/Throwable;" } : Jvm.MethodName) ({ cls := "java/lang/Throwable", name := "getCause", desc := "()Ljava/lang/Throwable;" } : Jvm.MethodName)) ∈ lw_all := lw_g (lw_at lw_m8 40 rfl) rfl
theorem q1848 : (Jvm.Cond.instanceMethod ({ cls := "AskedNames$Refused", name := "isLoop", desc := "()Z" } : Jvm.MethodName)) ∈ lw_all := lw_g (lw_at lw_m8 43 rfl) rfl
theorem q1849 : (Jvm.Cond.selects "AskedNames$Refused" ({ cls := "AskedNames$Refused", name := "isLoop", desc := "()Z" } : Jvm.MethodName) ({ cls := "AskedNames$Refused", name := "isLoop", desc := "()Z" } : Jvm.MethodName)) ∈ lw_all := lw_g (lw_at lw_m8 44 rfl) rfl
theorem q1850 : (Jvm.Cond.code ({ cls := "AskedNames$Refused", name := "isLoop", desc := "()Z" } : Jvm.MethodName) prog_18_method_4_code (1 : Nat) (Option.some Jvm.ClassFile.FieldType.boolean)) ∈ lw_all := lw_g (lw_at lw_m8 45 rfl) rfl
theorem q1851 : (Jvm.Cond.methodLink "AskedNames$Refused" (17 : Nat) ({ cls := "AskedNames$Refused", name := "root", desc := "()Ljava/lang/Throwable;" } : Jvm.MethodName)) ∈ lw_all := lw_g (lw_at lw_m8 46 rfl) rfl
theorem q1852 : (Jvm.Cond.privateMethod ({ cls := "AskedNames$Refused", name := "root", desc := "()Ljava/lang/Throwable;" } : Jvm.MethodName)) ∈ lw_tbl := lw_at lw_m8 47 rfl
theorem q1853 : (Jvm.Cond.instanceMethod ({ cls := "AskedNames$Refused", name := "root", desc := "()Ljava/lang/Throwable;" } : Jvm.MethodName)) ∈ lw_all := lw_g (lw_at lw_m8 48 rfl) rfl
theorem q1854 : (Jvm.Cond.code ({ cls := "AskedNames$Refused", name := "root", desc := "()Ljava/lang/Throwable;" } : Jvm.MethodName) prog_18_method_3_code (2 : Nat) (Option.some (Jvm.ClassFile.FieldType.object "java/lang/Throwable"))) ∈ lw_all := lw_g (lw_at lw_m8 49 rfl) rfl
theorem q1855 : (Jvm.Cond.classLink "AskedNames$Refused" (20 : Nat) "AskedNames$Loop") ∈ lw_all := lw_g (lw_at lw_m8 50 rfl) rfl
theorem q1857 : (Jvm.Cond.instanceMethod ({ cls := "AskedNames$Refused", name := "node", desc := "()I" } : Jvm.MethodName)) ∈ lw_all := lw_g (lw_at lw_m8 52 rfl) rfl
theorem q1858 : (Jvm.Cond.selects "AskedNames$Refused" ({ cls := "AskedNames$Refused", name := "node", desc := "()I" } : Jvm.MethodName) ({ cls := "AskedNames$Refused", name := "node", desc := "()I" } : Jvm.MethodName)) ∈ lw_all := lw_g (lw_at lw_m8 53 rfl) rfl
theorem q1859 : (Jvm.Cond.code ({ cls := "AskedNames$Refused", name := "node", desc := "()I" } : Jvm.MethodName) prog_18_method_5_code (3 : Nat) (Option.some Jvm.ClassFile.FieldType.int)) ∈ lw_all := lw_g (lw_at lw_m8 54 rfl) rfl
theorem q1860 : (Jvm.Cond.classLink "AskedNames$Refused" (26 : Nat) "AskedNames$NoWay") ∈ lw_all := lw_g (lw_at lw_m8 55 rfl) rfl
theorem q2997 : (Jvm.Cond.castable "AskedNames$Refused" "java/lang/Object") ∈ lw_tbl := lw_at lw_m12 232 rfl
theorem in_X19 : ∀ w ∈ wsX190, w ∈ lw_all := lw_in wsX190 [1819, 1820, 1821, 1822, 1823, 1828] (by decide +kernel) (by decide +kernel)

/-! AskedNames$Fits -/
set_option maxRecDepth 100000
def RX20 : String := "AskedNames$Fits"
def TX20 : u_T := fun k => match k with
  | 0 => ("AskedNames$Fits", "links", "Ljava/util/ArrayList;", true)
  | 1 => ("AskedNames$Fits", "deeds", "Ljava/util/ArrayList;", true)
  | _ => ("AskedNames$Fits", "got", "[I", true)
def tyX20 : Nat → FieldType := fun k => match k with
  | 0 => .object "java/util/ArrayList"
  | 1 => .object "java/util/ArrayList"
  | _ => .array .int
abbrev wsX200 : List Cond := u_ws RX20 TX20 3
theorem nmX20 : ∀ a, a < 3 → ∀ b, b < 3 → a ≠ b → (TX20 a).2.1 ≠ (TX20 b).2.1 := by decide +kernel
theorem tyX20_ok : ∀ k, k < 3 → parseFieldDescriptor (TX20 k).2.2.1 = some (tyX20 k) := by decide +kernel
abbrev cX20_init : ByteArray := prog_8_method_1_code
def yX20_init : MethodName := ⟨RX20, "<init>", "(LAskedNames$Net;Ljava/util/ArrayList;Ljava/util/ArrayList;)V"⟩
def dkwX20_init_2 : List UInt8 := [182, 0, 32, 132, 4, 1, 167, 255, 233, 177]
abbrev dktX20_init_2 : List UInt8 := dkwX20_init_2 ++ []
def dkwX20_init_1 : List UInt8 := [44, 181, 0, 22, 2, 54, 4, 21, 4, 43, 180, 0, 25, 182, 0, 28, 162, 0, 17, 42, 43, 21, 4, 45]
abbrev dktX20_init_1 : List UInt8 := dkwX20_init_1 ++ dktX20_init_2
def dkwX20_init_0 : List UInt8 := [42, 183, 0, 3, 42, 187, 0, 9, 89, 183, 0, 11, 181, 0, 12, 42, 16, 40, 188, 10, 181, 0, 18, 42]
abbrev dktX20_init_0 : List UInt8 := dkwX20_init_0 ++ dktX20_init_1
theorem dksX20_init_0 : cX20_init.data.toList.drop 0 = dktX20_init_0 := by decide +kernel
theorem dksX20_init_1 : cX20_init.data.toList.drop 24 = dktX20_init_1 := dk_seg dksX20_init_0 24 rfl rfl
theorem dksX20_init_2 : cX20_init.data.toList.drop 48 = dktX20_init_2 := dk_seg dksX20_init_1 24 rfl rfl
theorem dX20_init_0 : decode cX20_init 0 = .ok (.aload_n 0, 1) := dk_42 (dk_at dksX20_init_0 0 rfl rfl)
theorem dX20_init_1 : decode cX20_init 1 = .ok (.invokespecial 3, 3) := dk_183 0 3 (dk_at dksX20_init_0 1 rfl rfl)
theorem dX20_init_4 : decode cX20_init 4 = .ok (.aload_n 0, 1) := dk_42 (dk_at dksX20_init_0 4 rfl rfl)
theorem dX20_init_5 : decode cX20_init 5 = .ok (.new 9, 3) := dk_187 0 9 (dk_at dksX20_init_0 5 rfl rfl)
theorem dX20_init_8 : decode cX20_init 8 = .ok (.dup, 1) := dk_89 (dk_at dksX20_init_0 8 rfl rfl)
theorem dX20_init_9 : decode cX20_init 9 = .ok (.invokespecial 11, 3) := dk_183 0 11 (dk_at dksX20_init_0 9 rfl rfl)
theorem dX20_init_12 : decode cX20_init 12 = .ok (.putfield 12, 3) := dk_181 0 12 (dk_at dksX20_init_0 12 rfl rfl)
theorem dX20_init_15 : decode cX20_init 15 = .ok (.aload_n 0, 1) := dk_42 (dk_at dksX20_init_0 15 rfl rfl)
theorem dX20_init_16 : decode cX20_init 16 = .ok (.bipush 40, 2) := dk_16 40 (dk_at dksX20_init_0 16 rfl rfl)
theorem dX20_init_18 : decode cX20_init 18 = .ok (.newarray .int, 2) := dk_188_10 (dk_at dksX20_init_0 18 rfl rfl)
theorem dX20_init_20 : decode cX20_init 20 = .ok (.putfield 18, 3) := dk_181 0 18 (dk_at dksX20_init_0 20 rfl rfl)
theorem dX20_init_23 : decode cX20_init 23 = .ok (.aload_n 0, 1) := dk_42 (dk_at dksX20_init_0 23 rfl rfl)
theorem dX20_init_24 : decode cX20_init 24 = .ok (.aload_n 2, 1) := dk_44 (dk_at dksX20_init_1 0 rfl rfl)
theorem dX20_init_25 : decode cX20_init 25 = .ok (.putfield 22, 3) := dk_181 0 22 (dk_at dksX20_init_1 1 rfl rfl)
theorem dX20_init_28 : decode cX20_init 28 = .ok (.iconst (-1), 1) := dk_2 (dk_at dksX20_init_1 4 rfl rfl)
theorem dX20_init_29 : decode cX20_init 29 = .ok (.istore 4, 2) := dk_54 4 (dk_at dksX20_init_1 5 rfl rfl)
theorem dX20_init_31 : decode cX20_init 31 = .ok (.iload 4, 2) := dk_21 4 (dk_at dksX20_init_1 7 rfl rfl)
theorem dX20_init_33 : decode cX20_init 33 = .ok (.aload_n 1, 1) := dk_43 (dk_at dksX20_init_1 9 rfl rfl)
theorem dX20_init_34 : decode cX20_init 34 = .ok (.getfield 25, 3) := dk_180 0 25 (dk_at dksX20_init_1 10 rfl rfl)
theorem dX20_init_37 : decode cX20_init 37 = .ok (.invokevirtual 28, 3) := dk_182 0 28 (dk_at dksX20_init_1 13 rfl rfl)
theorem dX20_init_40 : decode cX20_init 40 = .ok (.if_icmp .ge 17, 3) := dk_162 0 17 (dk_at dksX20_init_1 16 rfl rfl)
theorem dX20_init_43 : decode cX20_init 43 = .ok (.aload_n 0, 1) := dk_42 (dk_at dksX20_init_1 19 rfl rfl)
theorem dX20_init_44 : decode cX20_init 44 = .ok (.aload_n 1, 1) := dk_43 (dk_at dksX20_init_1 20 rfl rfl)
theorem dX20_init_45 : decode cX20_init 45 = .ok (.iload 4, 2) := dk_21 4 (dk_at dksX20_init_1 21 rfl rfl)
theorem dX20_init_47 : decode cX20_init 47 = .ok (.aload_n 3, 1) := dk_45 (dk_at dksX20_init_1 23 rfl rfl)
theorem dX20_init_48 : decode cX20_init 48 = .ok (.invokevirtual 32, 3) := dk_182 0 32 (dk_at dksX20_init_2 0 rfl rfl)
theorem dX20_init_51 : decode cX20_init 51 = .ok (.iinc 4 1, 3) := dk_132 4 1 (dk_at dksX20_init_2 3 rfl rfl)
theorem dX20_init_54 : decode cX20_init 54 = .ok (.goto (-23), 3) := dk_167 255 233 (dk_at dksX20_init_2 6 rfl rfl)
theorem dX20_init_57 : decode cX20_init 57 = .ok (.return_, 1) := dk_177 (dk_at dksX20_init_2 9 rfl rfl)
abbrev cX20_tries : ByteArray := prog_8_method_2_code
def yX20_tries : MethodName := ⟨RX20, "tries", "(LAskedNames$Net;ILjava/util/ArrayList;)V"⟩
def dkwX20_tries_8 : List UInt8 := [153, 0, 7, 4, 167, 0, 4, 3, 96, 79, 132, 8, 1, 167, 255, 221, 177]
abbrev dktX20_tries_8 : List UInt8 := dkwX20_tries_8 ++ []
def dkwX20_tries_7 : List UInt8 := [21, 8, 16, 40, 162, 0, 34, 42, 180, 0, 18, 21, 8, 92, 46, 25, 7, 21, 8, 184, 0, 80]
abbrev dktX20_tries_7 : List UInt8 := dkwX20_tries_7 ++ dktX20_tries_8
def dkwX20_tries_6 : List UInt8 := [45, 184, 0, 66, 154, 0, 4, 177, 42, 180, 0, 12, 28, 184, 0, 70, 182, 0, 76, 87, 3, 54, 8]
abbrev dktX20_tries_6 : List UInt8 := dkwX20_tries_6 ++ dktX20_tries_7
def dkwX20_tries_5 : List UInt8 := [104, 21, 5, 96, 21, 6, 79, 43, 180, 0, 45, 16, 6, 21, 5, 104, 21, 4, 96, 21, 6, 79, 25, 7]
abbrev dktX20_tries_5 : List UInt8 := dkwX20_tries_5 ++ dktX20_tries_6
def dkwX20_tries_4 : List UInt8 := [180, 0, 22, 16, 40, 182, 0, 52, 180, 0, 56, 180, 0, 60, 58, 7, 43, 180, 0, 45, 16, 6, 21, 4]
abbrev dktX20_tries_4 : List UInt8 := dkwX20_tries_4 ++ dktX20_tries_5
def dkwX20_tries_3 : List UInt8 := [43, 180, 0, 45, 16, 6, 21, 5, 104, 21, 4, 96, 3, 79, 187, 0, 47, 89, 43, 183, 0, 49, 42]
abbrev dktX20_tries_3 : List UInt8 := dkwX20_tries_3 ++ dktX20_tries_4
def dkwX20_tries_2 : List UInt8 := [43, 21, 4, 21, 5, 182, 0, 41, 54, 6, 43, 180, 0, 45, 16, 6, 21, 4, 104, 21, 5, 96, 3, 79]
abbrev dktX20_tries_2 : List UInt8 := dkwX20_tries_2 ++ dktX20_tries_3
def dkwX20_tries_1 : List UInt8 := [28, 2, 160, 0, 7, 3, 167, 0, 16, 43, 180, 0, 25, 28, 182, 0, 36, 192, 0, 40, 4, 46, 54, 5]
abbrev dktX20_tries_1 : List UInt8 := dkwX20_tries_1 ++ dktX20_tries_2
def dkwX20_tries_0 : List UInt8 := [28, 2, 160, 0, 7, 3, 167, 0, 16, 43, 180, 0, 25, 28, 182, 0, 36, 192, 0, 40, 3, 46, 54, 4]
abbrev dktX20_tries_0 : List UInt8 := dkwX20_tries_0 ++ dktX20_tries_1
theorem dksX20_tries_0 : cX20_tries.data.toList.drop 0 = dktX20_tries_0 := by decide +kernel
theorem dksX20_tries_1 : cX20_tries.data.toList.drop 24 = dktX20_tries_1 := dk_seg dksX20_tries_0 24 rfl rfl
theorem dksX20_tries_2 : cX20_tries.data.toList.drop 48 = dktX20_tries_2 := dk_seg dksX20_tries_1 24 rfl rfl
theorem dksX20_tries_3 : cX20_tries.data.toList.drop 72 = dktX20_tries_3 := dk_seg dksX20_tries_2 24 rfl rfl
theorem dksX20_tries_4 : cX20_tries.data.toList.drop 95 = dktX20_tries_4 := dk_seg dksX20_tries_3 23 rfl rfl
theorem dksX20_tries_5 : cX20_tries.data.toList.drop 119 = dktX20_tries_5 := dk_seg dksX20_tries_4 24 rfl rfl
theorem dksX20_tries_6 : cX20_tries.data.toList.drop 143 = dktX20_tries_6 := dk_seg dksX20_tries_5 24 rfl rfl
theorem dksX20_tries_7 : cX20_tries.data.toList.drop 166 = dktX20_tries_7 := dk_seg dksX20_tries_6 23 rfl rfl
theorem dksX20_tries_8 : cX20_tries.data.toList.drop 188 = dktX20_tries_8 := dk_seg dksX20_tries_7 22 rfl rfl
theorem dX20_tries_0 : decode cX20_tries 0 = .ok (.iload_n 2, 1) := dk_28 (dk_at dksX20_tries_0 0 rfl rfl)
theorem dX20_tries_1 : decode cX20_tries 1 = .ok (.iconst (-1), 1) := dk_2 (dk_at dksX20_tries_0 1 rfl rfl)
theorem dX20_tries_2 : decode cX20_tries 2 = .ok (.if_icmp .ne 7, 3) := dk_160 0 7 (dk_at dksX20_tries_0 2 rfl rfl)
theorem dX20_tries_5 : decode cX20_tries 5 = .ok (.iconst 0, 1) := dk_3 (dk_at dksX20_tries_0 5 rfl rfl)
theorem dX20_tries_6 : decode cX20_tries 6 = .ok (.goto 16, 3) := dk_167 0 16 (dk_at dksX20_tries_0 6 rfl rfl)
theorem dX20_tries_9 : decode cX20_tries 9 = .ok (.aload_n 1, 1) := dk_43 (dk_at dksX20_tries_0 9 rfl rfl)
theorem dX20_tries_10 : decode cX20_tries 10 = .ok (.getfield 25, 3) := dk_180 0 25 (dk_at dksX20_tries_0 10 rfl rfl)
theorem dX20_tries_13 : decode cX20_tries 13 = .ok (.iload_n 2, 1) := dk_28 (dk_at dksX20_tries_0 13 rfl rfl)
theorem dX20_tries_14 : decode cX20_tries 14 = .ok (.invokevirtual 36, 3) := dk_182 0 36 (dk_at dksX20_tries_0 14 rfl rfl)
theorem dX20_tries_17 : decode cX20_tries 17 = .ok (.checkcast 40, 3) := dk_192 0 40 (dk_at dksX20_tries_0 17 rfl rfl)
theorem dX20_tries_20 : decode cX20_tries 20 = .ok (.iconst 0, 1) := dk_3 (dk_at dksX20_tries_0 20 rfl rfl)
theorem dX20_tries_21 : decode cX20_tries 21 = .ok (.iaload, 1) := dk_46 (dk_at dksX20_tries_0 21 rfl rfl)
theorem dX20_tries_22 : decode cX20_tries 22 = .ok (.istore 4, 2) := dk_54 4 (dk_at dksX20_tries_0 22 rfl rfl)
theorem dX20_tries_24 : decode cX20_tries 24 = .ok (.iload_n 2, 1) := dk_28 (dk_at dksX20_tries_1 0 rfl rfl)
theorem dX20_tries_25 : decode cX20_tries 25 = .ok (.iconst (-1), 1) := dk_2 (dk_at dksX20_tries_1 1 rfl rfl)
theorem dX20_tries_26 : decode cX20_tries 26 = .ok (.if_icmp .ne 7, 3) := dk_160 0 7 (dk_at dksX20_tries_1 2 rfl rfl)
theorem dX20_tries_29 : decode cX20_tries 29 = .ok (.iconst 0, 1) := dk_3 (dk_at dksX20_tries_1 5 rfl rfl)
theorem dX20_tries_30 : decode cX20_tries 30 = .ok (.goto 16, 3) := dk_167 0 16 (dk_at dksX20_tries_1 6 rfl rfl)
theorem dX20_tries_33 : decode cX20_tries 33 = .ok (.aload_n 1, 1) := dk_43 (dk_at dksX20_tries_1 9 rfl rfl)
theorem dX20_tries_34 : decode cX20_tries 34 = .ok (.getfield 25, 3) := dk_180 0 25 (dk_at dksX20_tries_1 10 rfl rfl)
theorem dX20_tries_37 : decode cX20_tries 37 = .ok (.iload_n 2, 1) := dk_28 (dk_at dksX20_tries_1 13 rfl rfl)
theorem dX20_tries_38 : decode cX20_tries 38 = .ok (.invokevirtual 36, 3) := dk_182 0 36 (dk_at dksX20_tries_1 14 rfl rfl)
theorem dX20_tries_41 : decode cX20_tries 41 = .ok (.checkcast 40, 3) := dk_192 0 40 (dk_at dksX20_tries_1 17 rfl rfl)
theorem dX20_tries_44 : decode cX20_tries 44 = .ok (.iconst 1, 1) := dk_4 (dk_at dksX20_tries_1 20 rfl rfl)
theorem dX20_tries_45 : decode cX20_tries 45 = .ok (.iaload, 1) := dk_46 (dk_at dksX20_tries_1 21 rfl rfl)
theorem dX20_tries_46 : decode cX20_tries 46 = .ok (.istore 5, 2) := dk_54 5 (dk_at dksX20_tries_1 22 rfl rfl)
theorem dX20_tries_48 : decode cX20_tries 48 = .ok (.aload_n 1, 1) := dk_43 (dk_at dksX20_tries_2 0 rfl rfl)
theorem dX20_tries_49 : decode cX20_tries 49 = .ok (.iload 4, 2) := dk_21 4 (dk_at dksX20_tries_2 1 rfl rfl)
theorem dX20_tries_51 : decode cX20_tries 51 = .ok (.iload 5, 2) := dk_21 5 (dk_at dksX20_tries_2 3 rfl rfl)
theorem dX20_tries_53 : decode cX20_tries 53 = .ok (.invokevirtual 41, 3) := dk_182 0 41 (dk_at dksX20_tries_2 5 rfl rfl)
theorem dX20_tries_56 : decode cX20_tries 56 = .ok (.istore 6, 2) := dk_54 6 (dk_at dksX20_tries_2 8 rfl rfl)
theorem dX20_tries_58 : decode cX20_tries 58 = .ok (.aload_n 1, 1) := dk_43 (dk_at dksX20_tries_2 10 rfl rfl)
theorem dX20_tries_59 : decode cX20_tries 59 = .ok (.getfield 45, 3) := dk_180 0 45 (dk_at dksX20_tries_2 11 rfl rfl)
theorem dX20_tries_62 : decode cX20_tries 62 = .ok (.bipush 6, 2) := dk_16 6 (dk_at dksX20_tries_2 14 rfl rfl)
theorem dX20_tries_64 : decode cX20_tries 64 = .ok (.iload 4, 2) := dk_21 4 (dk_at dksX20_tries_2 16 rfl rfl)
theorem dX20_tries_66 : decode cX20_tries 66 = .ok (.imul, 1) := dk_104 (dk_at dksX20_tries_2 18 rfl rfl)
theorem dX20_tries_67 : decode cX20_tries 67 = .ok (.iload 5, 2) := dk_21 5 (dk_at dksX20_tries_2 19 rfl rfl)
theorem dX20_tries_69 : decode cX20_tries 69 = .ok (.iadd, 1) := dk_96 (dk_at dksX20_tries_2 21 rfl rfl)
theorem dX20_tries_70 : decode cX20_tries 70 = .ok (.iconst 0, 1) := dk_3 (dk_at dksX20_tries_2 22 rfl rfl)
theorem dX20_tries_71 : decode cX20_tries 71 = .ok (.iastore, 1) := dk_79 (dk_at dksX20_tries_2 23 rfl rfl)
theorem dX20_tries_72 : decode cX20_tries 72 = .ok (.aload_n 1, 1) := dk_43 (dk_at dksX20_tries_3 0 rfl rfl)
theorem dX20_tries_73 : decode cX20_tries 73 = .ok (.getfield 45, 3) := dk_180 0 45 (dk_at dksX20_tries_3 1 rfl rfl)
theorem dX20_tries_76 : decode cX20_tries 76 = .ok (.bipush 6, 2) := dk_16 6 (dk_at dksX20_tries_3 4 rfl rfl)
theorem dX20_tries_78 : decode cX20_tries 78 = .ok (.iload 5, 2) := dk_21 5 (dk_at dksX20_tries_3 6 rfl rfl)
theorem dX20_tries_80 : decode cX20_tries 80 = .ok (.imul, 1) := dk_104 (dk_at dksX20_tries_3 8 rfl rfl)
theorem dX20_tries_81 : decode cX20_tries 81 = .ok (.iload 4, 2) := dk_21 4 (dk_at dksX20_tries_3 9 rfl rfl)
theorem dX20_tries_83 : decode cX20_tries 83 = .ok (.iadd, 1) := dk_96 (dk_at dksX20_tries_3 11 rfl rfl)
theorem dX20_tries_84 : decode cX20_tries 84 = .ok (.iconst 0, 1) := dk_3 (dk_at dksX20_tries_3 12 rfl rfl)
theorem dX20_tries_85 : decode cX20_tries 85 = .ok (.iastore, 1) := dk_79 (dk_at dksX20_tries_3 13 rfl rfl)
theorem dX20_tries_86 : decode cX20_tries 86 = .ok (.new 47, 3) := dk_187 0 47 (dk_at dksX20_tries_3 14 rfl rfl)
theorem dX20_tries_89 : decode cX20_tries 89 = .ok (.dup, 1) := dk_89 (dk_at dksX20_tries_3 17 rfl rfl)
theorem dX20_tries_90 : decode cX20_tries 90 = .ok (.aload_n 1, 1) := dk_43 (dk_at dksX20_tries_3 18 rfl rfl)
theorem dX20_tries_91 : decode cX20_tries 91 = .ok (.invokespecial 49, 3) := dk_183 0 49 (dk_at dksX20_tries_3 19 rfl rfl)
theorem dX20_tries_94 : decode cX20_tries 94 = .ok (.aload_n 0, 1) := dk_42 (dk_at dksX20_tries_3 22 rfl rfl)
theorem dX20_tries_95 : decode cX20_tries 95 = .ok (.getfield 22, 3) := dk_180 0 22 (dk_at dksX20_tries_4 0 rfl rfl)
theorem dX20_tries_98 : decode cX20_tries 98 = .ok (.bipush 40, 2) := dk_16 40 (dk_at dksX20_tries_4 3 rfl rfl)
theorem dX20_tries_100 : decode cX20_tries 100 = .ok (.invokevirtual 52, 3) := dk_182 0 52 (dk_at dksX20_tries_4 5 rfl rfl)
theorem dX20_tries_103 : decode cX20_tries 103 = .ok (.getfield 56, 3) := dk_180 0 56 (dk_at dksX20_tries_4 8 rfl rfl)
theorem dX20_tries_106 : decode cX20_tries 106 = .ok (.getfield 60, 3) := dk_180 0 60 (dk_at dksX20_tries_4 11 rfl rfl)
theorem dX20_tries_109 : decode cX20_tries 109 = .ok (.astore 7, 2) := dk_58 7 (dk_at dksX20_tries_4 14 rfl rfl)
theorem dX20_tries_111 : decode cX20_tries 111 = .ok (.aload_n 1, 1) := dk_43 (dk_at dksX20_tries_4 16 rfl rfl)
theorem dX20_tries_112 : decode cX20_tries 112 = .ok (.getfield 45, 3) := dk_180 0 45 (dk_at dksX20_tries_4 17 rfl rfl)
theorem dX20_tries_115 : decode cX20_tries 115 = .ok (.bipush 6, 2) := dk_16 6 (dk_at dksX20_tries_4 20 rfl rfl)
theorem dX20_tries_117 : decode cX20_tries 117 = .ok (.iload 4, 2) := dk_21 4 (dk_at dksX20_tries_4 22 rfl rfl)
theorem dX20_tries_119 : decode cX20_tries 119 = .ok (.imul, 1) := dk_104 (dk_at dksX20_tries_5 0 rfl rfl)
theorem dX20_tries_120 : decode cX20_tries 120 = .ok (.iload 5, 2) := dk_21 5 (dk_at dksX20_tries_5 1 rfl rfl)
theorem dX20_tries_122 : decode cX20_tries 122 = .ok (.iadd, 1) := dk_96 (dk_at dksX20_tries_5 3 rfl rfl)
theorem dX20_tries_123 : decode cX20_tries 123 = .ok (.iload 6, 2) := dk_21 6 (dk_at dksX20_tries_5 4 rfl rfl)
theorem dX20_tries_125 : decode cX20_tries 125 = .ok (.iastore, 1) := dk_79 (dk_at dksX20_tries_5 6 rfl rfl)
theorem dX20_tries_126 : decode cX20_tries 126 = .ok (.aload_n 1, 1) := dk_43 (dk_at dksX20_tries_5 7 rfl rfl)
theorem dX20_tries_127 : decode cX20_tries 127 = .ok (.getfield 45, 3) := dk_180 0 45 (dk_at dksX20_tries_5 8 rfl rfl)
theorem dX20_tries_130 : decode cX20_tries 130 = .ok (.bipush 6, 2) := dk_16 6 (dk_at dksX20_tries_5 11 rfl rfl)
theorem dX20_tries_132 : decode cX20_tries 132 = .ok (.iload 5, 2) := dk_21 5 (dk_at dksX20_tries_5 13 rfl rfl)
theorem dX20_tries_134 : decode cX20_tries 134 = .ok (.imul, 1) := dk_104 (dk_at dksX20_tries_5 15 rfl rfl)
theorem dX20_tries_135 : decode cX20_tries 135 = .ok (.iload 4, 2) := dk_21 4 (dk_at dksX20_tries_5 16 rfl rfl)
theorem dX20_tries_137 : decode cX20_tries 137 = .ok (.iadd, 1) := dk_96 (dk_at dksX20_tries_5 18 rfl rfl)
theorem dX20_tries_138 : decode cX20_tries 138 = .ok (.iload 6, 2) := dk_21 6 (dk_at dksX20_tries_5 19 rfl rfl)
theorem dX20_tries_140 : decode cX20_tries 140 = .ok (.iastore, 1) := dk_79 (dk_at dksX20_tries_5 21 rfl rfl)
theorem dX20_tries_141 : decode cX20_tries 141 = .ok (.aload 7, 2) := dk_25 7 (dk_at dksX20_tries_5 22 rfl rfl)
theorem dX20_tries_143 : decode cX20_tries 143 = .ok (.aload_n 3, 1) := dk_45 (dk_at dksX20_tries_6 0 rfl rfl)
theorem dX20_tries_144 : decode cX20_tries 144 = .ok (.invokestatic 66, 3) := dk_184 0 66 (dk_at dksX20_tries_6 1 rfl rfl)
theorem dX20_tries_147 : decode cX20_tries 147 = .ok (.ifCond .ne 4, 3) := dk_154 0 4 (dk_at dksX20_tries_6 4 rfl rfl)
theorem dX20_tries_150 : decode cX20_tries 150 = .ok (.return_, 1) := dk_177 (dk_at dksX20_tries_6 7 rfl rfl)
theorem dX20_tries_151 : decode cX20_tries 151 = .ok (.aload_n 0, 1) := dk_42 (dk_at dksX20_tries_6 8 rfl rfl)
theorem dX20_tries_152 : decode cX20_tries 152 = .ok (.getfield 12, 3) := dk_180 0 12 (dk_at dksX20_tries_6 9 rfl rfl)
theorem dX20_tries_155 : decode cX20_tries 155 = .ok (.iload_n 2, 1) := dk_28 (dk_at dksX20_tries_6 12 rfl rfl)
theorem dX20_tries_156 : decode cX20_tries 156 = .ok (.invokestatic 70, 3) := dk_184 0 70 (dk_at dksX20_tries_6 13 rfl rfl)
theorem dX20_tries_159 : decode cX20_tries 159 = .ok (.invokevirtual 76, 3) := dk_182 0 76 (dk_at dksX20_tries_6 16 rfl rfl)
theorem dX20_tries_162 : decode cX20_tries 162 = .ok (.pop, 1) := dk_87 (dk_at dksX20_tries_6 19 rfl rfl)
theorem dX20_tries_163 : decode cX20_tries 163 = .ok (.iconst 0, 1) := dk_3 (dk_at dksX20_tries_6 20 rfl rfl)
theorem dX20_tries_164 : decode cX20_tries 164 = .ok (.istore 8, 2) := dk_54 8 (dk_at dksX20_tries_6 21 rfl rfl)
theorem dX20_tries_166 : decode cX20_tries 166 = .ok (.iload 8, 2) := dk_21 8 (dk_at dksX20_tries_7 0 rfl rfl)
theorem dX20_tries_168 : decode cX20_tries 168 = .ok (.bipush 40, 2) := dk_16 40 (dk_at dksX20_tries_7 2 rfl rfl)
theorem dX20_tries_170 : decode cX20_tries 170 = .ok (.if_icmp .ge 34, 3) := dk_162 0 34 (dk_at dksX20_tries_7 4 rfl rfl)
theorem dX20_tries_173 : decode cX20_tries 173 = .ok (.aload_n 0, 1) := dk_42 (dk_at dksX20_tries_7 7 rfl rfl)
theorem dX20_tries_174 : decode cX20_tries 174 = .ok (.getfield 18, 3) := dk_180 0 18 (dk_at dksX20_tries_7 8 rfl rfl)
theorem dX20_tries_177 : decode cX20_tries 177 = .ok (.iload 8, 2) := dk_21 8 (dk_at dksX20_tries_7 11 rfl rfl)
theorem dX20_tries_179 : decode cX20_tries 179 = .ok (.dup2, 1) := dk_92 (dk_at dksX20_tries_7 13 rfl rfl)
theorem dX20_tries_180 : decode cX20_tries 180 = .ok (.iaload, 1) := dk_46 (dk_at dksX20_tries_7 14 rfl rfl)
theorem dX20_tries_181 : decode cX20_tries 181 = .ok (.aload 7, 2) := dk_25 7 (dk_at dksX20_tries_7 15 rfl rfl)
theorem dX20_tries_183 : decode cX20_tries 183 = .ok (.iload 8, 2) := dk_21 8 (dk_at dksX20_tries_7 17 rfl rfl)
theorem dX20_tries_185 : decode cX20_tries 185 = .ok (.invokestatic 80, 3) := dk_184 0 80 (dk_at dksX20_tries_7 19 rfl rfl)
theorem dX20_tries_188 : decode cX20_tries 188 = .ok (.ifCond .eq 7, 3) := dk_153 0 7 (dk_at dksX20_tries_8 0 rfl rfl)
theorem dX20_tries_191 : decode cX20_tries 191 = .ok (.iconst 1, 1) := dk_4 (dk_at dksX20_tries_8 3 rfl rfl)
theorem dX20_tries_192 : decode cX20_tries 192 = .ok (.goto 4, 3) := dk_167 0 4 (dk_at dksX20_tries_8 4 rfl rfl)
theorem dX20_tries_195 : decode cX20_tries 195 = .ok (.iconst 0, 1) := dk_3 (dk_at dksX20_tries_8 7 rfl rfl)
theorem dX20_tries_196 : decode cX20_tries 196 = .ok (.iadd, 1) := dk_96 (dk_at dksX20_tries_8 8 rfl rfl)
theorem dX20_tries_197 : decode cX20_tries 197 = .ok (.iastore, 1) := dk_79 (dk_at dksX20_tries_8 9 rfl rfl)
theorem dX20_tries_198 : decode cX20_tries 198 = .ok (.iinc 8 1, 3) := dk_132 8 1 (dk_at dksX20_tries_8 10 rfl rfl)
theorem dX20_tries_201 : decode cX20_tries 201 = .ok (.goto (-35), 3) := dk_167 255 221 (dk_at dksX20_tries_8 13 rfl rfl)
theorem dX20_tries_204 : decode cX20_tries 204 = .ok (.return_, 1) := dk_177 (dk_at dksX20_tries_8 16 rfl rfl)
abbrev cX20_isSo : ByteArray := prog_8_method_4_code
def yX20_isSo : MethodName := ⟨RX20, "isSo", "([[ILjava/util/ArrayList;)Z"⟩
def dkwX20_isSo_3 : List UInt8 := [4, 172]
abbrev dktX20_isSo_3 : List UInt8 := dkwX20_isSo_3 ++ []
def dkwX20_isSo_2 : List UInt8 := [153, 0, 16, 42, 45, 3, 46, 50, 4, 46, 45, 4, 46, 159, 0, 5, 3, 172, 132, 2, 1, 167, 255, 191]
abbrev dktX20_isSo_2 : List UInt8 := dkwX20_isSo_2 ++ dktX20_isSo_3
def dkwX20_isSo_1 : List UInt8 := [160, 0, 16, 42, 45, 3, 46, 184, 0, 80, 153, 0, 31, 167, 0, 26, 42, 45, 3, 46, 184, 0, 80]
abbrev dktX20_isSo_1 : List UInt8 := dkwX20_isSo_1 ++ dktX20_isSo_2
def dkwX20_isSo_0 : List UInt8 := [3, 61, 28, 43, 182, 0, 28, 162, 0, 63, 43, 28, 182, 0, 36, 192, 0, 40, 78, 45, 4, 46, 2]
abbrev dktX20_isSo_0 : List UInt8 := dkwX20_isSo_0 ++ dktX20_isSo_1
theorem dksX20_isSo_0 : cX20_isSo.data.toList.drop 0 = dktX20_isSo_0 := by decide +kernel
theorem dksX20_isSo_1 : cX20_isSo.data.toList.drop 23 = dktX20_isSo_1 := dk_seg dksX20_isSo_0 23 rfl rfl
theorem dksX20_isSo_2 : cX20_isSo.data.toList.drop 46 = dktX20_isSo_2 := dk_seg dksX20_isSo_1 23 rfl rfl
theorem dksX20_isSo_3 : cX20_isSo.data.toList.drop 70 = dktX20_isSo_3 := dk_seg dksX20_isSo_2 24 rfl rfl
theorem dX20_isSo_0 : decode cX20_isSo 0 = .ok (.iconst 0, 1) := dk_3 (dk_at dksX20_isSo_0 0 rfl rfl)
theorem dX20_isSo_1 : decode cX20_isSo 1 = .ok (.istore_n 2, 1) := dk_61 (dk_at dksX20_isSo_0 1 rfl rfl)
theorem dX20_isSo_2 : decode cX20_isSo 2 = .ok (.iload_n 2, 1) := dk_28 (dk_at dksX20_isSo_0 2 rfl rfl)
theorem dX20_isSo_3 : decode cX20_isSo 3 = .ok (.aload_n 1, 1) := dk_43 (dk_at dksX20_isSo_0 3 rfl rfl)
theorem dX20_isSo_4 : decode cX20_isSo 4 = .ok (.invokevirtual 28, 3) := dk_182 0 28 (dk_at dksX20_isSo_0 4 rfl rfl)
theorem dX20_isSo_7 : decode cX20_isSo 7 = .ok (.if_icmp .ge 63, 3) := dk_162 0 63 (dk_at dksX20_isSo_0 7 rfl rfl)
theorem dX20_isSo_10 : decode cX20_isSo 10 = .ok (.aload_n 1, 1) := dk_43 (dk_at dksX20_isSo_0 10 rfl rfl)
theorem dX20_isSo_11 : decode cX20_isSo 11 = .ok (.iload_n 2, 1) := dk_28 (dk_at dksX20_isSo_0 11 rfl rfl)
theorem dX20_isSo_12 : decode cX20_isSo 12 = .ok (.invokevirtual 36, 3) := dk_182 0 36 (dk_at dksX20_isSo_0 12 rfl rfl)
theorem dX20_isSo_15 : decode cX20_isSo 15 = .ok (.checkcast 40, 3) := dk_192 0 40 (dk_at dksX20_isSo_0 15 rfl rfl)
theorem dX20_isSo_18 : decode cX20_isSo 18 = .ok (.astore_n 3, 1) := dk_78 (dk_at dksX20_isSo_0 18 rfl rfl)
theorem dX20_isSo_19 : decode cX20_isSo 19 = .ok (.aload_n 3, 1) := dk_45 (dk_at dksX20_isSo_0 19 rfl rfl)
theorem dX20_isSo_20 : decode cX20_isSo 20 = .ok (.iconst 1, 1) := dk_4 (dk_at dksX20_isSo_0 20 rfl rfl)
theorem dX20_isSo_21 : decode cX20_isSo 21 = .ok (.iaload, 1) := dk_46 (dk_at dksX20_isSo_0 21 rfl rfl)
theorem dX20_isSo_22 : decode cX20_isSo 22 = .ok (.iconst (-1), 1) := dk_2 (dk_at dksX20_isSo_0 22 rfl rfl)
theorem dX20_isSo_23 : decode cX20_isSo 23 = .ok (.if_icmp .ne 16, 3) := dk_160 0 16 (dk_at dksX20_isSo_1 0 rfl rfl)
theorem dX20_isSo_26 : decode cX20_isSo 26 = .ok (.aload_n 0, 1) := dk_42 (dk_at dksX20_isSo_1 3 rfl rfl)
theorem dX20_isSo_27 : decode cX20_isSo 27 = .ok (.aload_n 3, 1) := dk_45 (dk_at dksX20_isSo_1 4 rfl rfl)
theorem dX20_isSo_28 : decode cX20_isSo 28 = .ok (.iconst 0, 1) := dk_3 (dk_at dksX20_isSo_1 5 rfl rfl)
theorem dX20_isSo_29 : decode cX20_isSo 29 = .ok (.iaload, 1) := dk_46 (dk_at dksX20_isSo_1 6 rfl rfl)
theorem dX20_isSo_30 : decode cX20_isSo 30 = .ok (.invokestatic 80, 3) := dk_184 0 80 (dk_at dksX20_isSo_1 7 rfl rfl)
theorem dX20_isSo_33 : decode cX20_isSo 33 = .ok (.ifCond .eq 31, 3) := dk_153 0 31 (dk_at dksX20_isSo_1 10 rfl rfl)
theorem dX20_isSo_36 : decode cX20_isSo 36 = .ok (.goto 26, 3) := dk_167 0 26 (dk_at dksX20_isSo_1 13 rfl rfl)
theorem dX20_isSo_39 : decode cX20_isSo 39 = .ok (.aload_n 0, 1) := dk_42 (dk_at dksX20_isSo_1 16 rfl rfl)
theorem dX20_isSo_40 : decode cX20_isSo 40 = .ok (.aload_n 3, 1) := dk_45 (dk_at dksX20_isSo_1 17 rfl rfl)
theorem dX20_isSo_41 : decode cX20_isSo 41 = .ok (.iconst 0, 1) := dk_3 (dk_at dksX20_isSo_1 18 rfl rfl)
theorem dX20_isSo_42 : decode cX20_isSo 42 = .ok (.iaload, 1) := dk_46 (dk_at dksX20_isSo_1 19 rfl rfl)
theorem dX20_isSo_43 : decode cX20_isSo 43 = .ok (.invokestatic 80, 3) := dk_184 0 80 (dk_at dksX20_isSo_1 20 rfl rfl)
theorem dX20_isSo_46 : decode cX20_isSo 46 = .ok (.ifCond .eq 16, 3) := dk_153 0 16 (dk_at dksX20_isSo_2 0 rfl rfl)
theorem dX20_isSo_49 : decode cX20_isSo 49 = .ok (.aload_n 0, 1) := dk_42 (dk_at dksX20_isSo_2 3 rfl rfl)
theorem dX20_isSo_50 : decode cX20_isSo 50 = .ok (.aload_n 3, 1) := dk_45 (dk_at dksX20_isSo_2 4 rfl rfl)
theorem dX20_isSo_51 : decode cX20_isSo 51 = .ok (.iconst 0, 1) := dk_3 (dk_at dksX20_isSo_2 5 rfl rfl)
theorem dX20_isSo_52 : decode cX20_isSo 52 = .ok (.iaload, 1) := dk_46 (dk_at dksX20_isSo_2 6 rfl rfl)
theorem dX20_isSo_53 : decode cX20_isSo 53 = .ok (.aaload, 1) := dk_50 (dk_at dksX20_isSo_2 7 rfl rfl)
theorem dX20_isSo_54 : decode cX20_isSo 54 = .ok (.iconst 1, 1) := dk_4 (dk_at dksX20_isSo_2 8 rfl rfl)
theorem dX20_isSo_55 : decode cX20_isSo 55 = .ok (.iaload, 1) := dk_46 (dk_at dksX20_isSo_2 9 rfl rfl)
theorem dX20_isSo_56 : decode cX20_isSo 56 = .ok (.aload_n 3, 1) := dk_45 (dk_at dksX20_isSo_2 10 rfl rfl)
theorem dX20_isSo_57 : decode cX20_isSo 57 = .ok (.iconst 1, 1) := dk_4 (dk_at dksX20_isSo_2 11 rfl rfl)
theorem dX20_isSo_58 : decode cX20_isSo 58 = .ok (.iaload, 1) := dk_46 (dk_at dksX20_isSo_2 12 rfl rfl)
theorem dX20_isSo_59 : decode cX20_isSo 59 = .ok (.if_icmp .eq 5, 3) := dk_159 0 5 (dk_at dksX20_isSo_2 13 rfl rfl)
theorem dX20_isSo_62 : decode cX20_isSo 62 = .ok (.iconst 0, 1) := dk_3 (dk_at dksX20_isSo_2 16 rfl rfl)
theorem dX20_isSo_63 : decode cX20_isSo 63 = .ok (.ireturn, 1) := dk_172 (dk_at dksX20_isSo_2 17 rfl rfl)
theorem dX20_isSo_64 : decode cX20_isSo 64 = .ok (.iinc 2 1, 3) := dk_132 2 1 (dk_at dksX20_isSo_2 18 rfl rfl)
theorem dX20_isSo_67 : decode cX20_isSo 67 = .ok (.goto (-65), 3) := dk_167 255 191 (dk_at dksX20_isSo_2 21 rfl rfl)
theorem dX20_isSo_70 : decode cX20_isSo 70 = .ok (.iconst 1, 1) := dk_4 (dk_at dksX20_isSo_3 0 rfl rfl)
theorem dX20_isSo_71 : decode cX20_isSo 71 = .ok (.ireturn, 1) := dk_172 (dk_at dksX20_isSo_3 1 rfl rfl)
abbrev cX20_isGot : ByteArray := prog_8_method_3_code
def yX20_isGot : MethodName := ⟨RX20, "isGot", "([[II)Z"⟩
def dkwX20_isGot_0 : List UInt8 := [42, 27, 50, 198, 0, 16, 42, 27, 50, 3, 46, 4, 160, 0, 7, 4, 167, 0, 4, 3, 172]
abbrev dktX20_isGot_0 : List UInt8 := dkwX20_isGot_0 ++ []
theorem dksX20_isGot_0 : cX20_isGot.data.toList.drop 0 = dktX20_isGot_0 := by decide +kernel
theorem dX20_isGot_0 : decode cX20_isGot 0 = .ok (.aload_n 0, 1) := dk_42 (dk_at dksX20_isGot_0 0 rfl rfl)
theorem dX20_isGot_1 : decode cX20_isGot 1 = .ok (.iload_n 1, 1) := dk_27 (dk_at dksX20_isGot_0 1 rfl rfl)
theorem dX20_isGot_2 : decode cX20_isGot 2 = .ok (.aaload, 1) := dk_50 (dk_at dksX20_isGot_0 2 rfl rfl)
theorem dX20_isGot_3 : decode cX20_isGot 3 = .ok (.ifnull 16, 3) := dk_198 0 16 (dk_at dksX20_isGot_0 3 rfl rfl)
theorem dX20_isGot_6 : decode cX20_isGot 6 = .ok (.aload_n 0, 1) := dk_42 (dk_at dksX20_isGot_0 6 rfl rfl)
theorem dX20_isGot_7 : decode cX20_isGot 7 = .ok (.iload_n 1, 1) := dk_27 (dk_at dksX20_isGot_0 7 rfl rfl)
theorem dX20_isGot_8 : decode cX20_isGot 8 = .ok (.aaload, 1) := dk_50 (dk_at dksX20_isGot_0 8 rfl rfl)
theorem dX20_isGot_9 : decode cX20_isGot 9 = .ok (.iconst 0, 1) := dk_3 (dk_at dksX20_isGot_0 9 rfl rfl)
theorem dX20_isGot_10 : decode cX20_isGot 10 = .ok (.iaload, 1) := dk_46 (dk_at dksX20_isGot_0 10 rfl rfl)
theorem dX20_isGot_11 : decode cX20_isGot 11 = .ok (.iconst 1, 1) := dk_4 (dk_at dksX20_isGot_0 11 rfl rfl)
theorem dX20_isGot_12 : decode cX20_isGot 12 = .ok (.if_icmp .ne 7, 3) := dk_160 0 7 (dk_at dksX20_isGot_0 12 rfl rfl)
theorem dX20_isGot_15 : decode cX20_isGot 15 = .ok (.iconst 1, 1) := dk_4 (dk_at dksX20_isGot_0 15 rfl rfl)
theorem dX20_isGot_16 : decode cX20_isGot 16 = .ok (.goto 4, 3) := dk_167 0 4 (dk_at dksX20_isGot_0 16 rfl rfl)
theorem dX20_isGot_19 : decode cX20_isGot 19 = .ok (.iconst 0, 1) := dk_3 (dk_at dksX20_isGot_0 19 rfl rfl)
theorem dX20_isGot_20 : decode cX20_isGot 20 = .ok (.ireturn, 1) := dk_172 (dk_at dksX20_isGot_0 20 rfl rfl)
abbrev cX20_ask : ByteArray := prog_8_method_5_code
def yX20_ask : MethodName := ⟨RX20, "ask", "()I"⟩
def dkwX20_ask_4 : List UInt8 := [167, 255, 170, 27, 172]
abbrev dktX20_ask_4 : List UInt8 := dkwX20_ask_4 ++ []
def dkwX20_ask_3 : List UInt8 := [182, 0, 96, 153, 0, 17, 21, 4, 28, 161, 0, 6, 167, 0, 8, 29, 60, 21, 4, 61, 132, 3, 1]
abbrev dktX20_ask_3 : List UInt8 := dkwX20_ask_3 ++ dktX20_ask_4
def dkwX20_ask_2 : List UInt8 := [180, 0, 18, 29, 46, 100, 184, 0, 89, 54, 4, 42, 180, 0, 22, 29, 182, 0, 36, 192, 0, 94]
abbrev dktX20_ask_2 : List UInt8 := dkwX20_ask_2 ++ dktX20_ask_3
def dkwX20_ask_1 : List UInt8 := [42, 180, 0, 12, 182, 0, 85, 154, 0, 65, 42, 180, 0, 18, 29, 46, 42, 180, 0, 12, 182, 0, 28, 42]
abbrev dktX20_ask_1 : List UInt8 := dkwX20_ask_1 ++ dktX20_ask_2
def dkwX20_ask_0 : List UInt8 := [2, 60, 18, 84, 61, 3, 62, 29, 42, 180, 0, 22, 182, 0, 28, 162, 0, 81, 29, 16, 40, 162, 0, 75]
abbrev dktX20_ask_0 : List UInt8 := dkwX20_ask_0 ++ dktX20_ask_1
theorem dksX20_ask_0 : cX20_ask.data.toList.drop 0 = dktX20_ask_0 := by decide +kernel
theorem dksX20_ask_1 : cX20_ask.data.toList.drop 24 = dktX20_ask_1 := dk_seg dksX20_ask_0 24 rfl rfl
theorem dksX20_ask_2 : cX20_ask.data.toList.drop 48 = dktX20_ask_2 := dk_seg dksX20_ask_1 24 rfl rfl
theorem dksX20_ask_3 : cX20_ask.data.toList.drop 70 = dktX20_ask_3 := dk_seg dksX20_ask_2 22 rfl rfl
theorem dksX20_ask_4 : cX20_ask.data.toList.drop 93 = dktX20_ask_4 := dk_seg dksX20_ask_3 23 rfl rfl
theorem dX20_ask_0 : decode cX20_ask 0 = .ok (.iconst (-1), 1) := dk_2 (dk_at dksX20_ask_0 0 rfl rfl)
theorem dX20_ask_1 : decode cX20_ask 1 = .ok (.istore_n 1, 1) := dk_60 (dk_at dksX20_ask_0 1 rfl rfl)
theorem dX20_ask_2 : decode cX20_ask 2 = .ok (.ldc 84, 2) := dk_18 84 (dk_at dksX20_ask_0 2 rfl rfl)
theorem dX20_ask_4 : decode cX20_ask 4 = .ok (.istore_n 2, 1) := dk_61 (dk_at dksX20_ask_0 4 rfl rfl)
theorem dX20_ask_5 : decode cX20_ask 5 = .ok (.iconst 0, 1) := dk_3 (dk_at dksX20_ask_0 5 rfl rfl)
theorem dX20_ask_6 : decode cX20_ask 6 = .ok (.istore_n 3, 1) := dk_62 (dk_at dksX20_ask_0 6 rfl rfl)
theorem dX20_ask_7 : decode cX20_ask 7 = .ok (.iload_n 3, 1) := dk_29 (dk_at dksX20_ask_0 7 rfl rfl)
theorem dX20_ask_8 : decode cX20_ask 8 = .ok (.aload_n 0, 1) := dk_42 (dk_at dksX20_ask_0 8 rfl rfl)
theorem dX20_ask_9 : decode cX20_ask 9 = .ok (.getfield 22, 3) := dk_180 0 22 (dk_at dksX20_ask_0 9 rfl rfl)
theorem dX20_ask_12 : decode cX20_ask 12 = .ok (.invokevirtual 28, 3) := dk_182 0 28 (dk_at dksX20_ask_0 12 rfl rfl)
theorem dX20_ask_15 : decode cX20_ask 15 = .ok (.if_icmp .ge 81, 3) := dk_162 0 81 (dk_at dksX20_ask_0 15 rfl rfl)
theorem dX20_ask_18 : decode cX20_ask 18 = .ok (.iload_n 3, 1) := dk_29 (dk_at dksX20_ask_0 18 rfl rfl)
theorem dX20_ask_19 : decode cX20_ask 19 = .ok (.bipush 40, 2) := dk_16 40 (dk_at dksX20_ask_0 19 rfl rfl)
theorem dX20_ask_21 : decode cX20_ask 21 = .ok (.if_icmp .ge 75, 3) := dk_162 0 75 (dk_at dksX20_ask_0 21 rfl rfl)
theorem dX20_ask_24 : decode cX20_ask 24 = .ok (.aload_n 0, 1) := dk_42 (dk_at dksX20_ask_1 0 rfl rfl)
theorem dX20_ask_25 : decode cX20_ask 25 = .ok (.getfield 12, 3) := dk_180 0 12 (dk_at dksX20_ask_1 1 rfl rfl)
theorem dX20_ask_28 : decode cX20_ask 28 = .ok (.invokevirtual 85, 3) := dk_182 0 85 (dk_at dksX20_ask_1 4 rfl rfl)
theorem dX20_ask_31 : decode cX20_ask 31 = .ok (.ifCond .ne 65, 3) := dk_154 0 65 (dk_at dksX20_ask_1 7 rfl rfl)
theorem dX20_ask_34 : decode cX20_ask 34 = .ok (.aload_n 0, 1) := dk_42 (dk_at dksX20_ask_1 10 rfl rfl)
theorem dX20_ask_35 : decode cX20_ask 35 = .ok (.getfield 18, 3) := dk_180 0 18 (dk_at dksX20_ask_1 11 rfl rfl)
theorem dX20_ask_38 : decode cX20_ask 38 = .ok (.iload_n 3, 1) := dk_29 (dk_at dksX20_ask_1 14 rfl rfl)
theorem dX20_ask_39 : decode cX20_ask 39 = .ok (.iaload, 1) := dk_46 (dk_at dksX20_ask_1 15 rfl rfl)
theorem dX20_ask_40 : decode cX20_ask 40 = .ok (.aload_n 0, 1) := dk_42 (dk_at dksX20_ask_1 16 rfl rfl)
theorem dX20_ask_41 : decode cX20_ask 41 = .ok (.getfield 12, 3) := dk_180 0 12 (dk_at dksX20_ask_1 17 rfl rfl)
theorem dX20_ask_44 : decode cX20_ask 44 = .ok (.invokevirtual 28, 3) := dk_182 0 28 (dk_at dksX20_ask_1 20 rfl rfl)
theorem dX20_ask_47 : decode cX20_ask 47 = .ok (.aload_n 0, 1) := dk_42 (dk_at dksX20_ask_1 23 rfl rfl)
theorem dX20_ask_48 : decode cX20_ask 48 = .ok (.getfield 18, 3) := dk_180 0 18 (dk_at dksX20_ask_2 0 rfl rfl)
theorem dX20_ask_51 : decode cX20_ask 51 = .ok (.iload_n 3, 1) := dk_29 (dk_at dksX20_ask_2 3 rfl rfl)
theorem dX20_ask_52 : decode cX20_ask 52 = .ok (.iaload, 1) := dk_46 (dk_at dksX20_ask_2 4 rfl rfl)
theorem dX20_ask_53 : decode cX20_ask 53 = .ok (.isub, 1) := dk_100 (dk_at dksX20_ask_2 5 rfl rfl)
theorem dX20_ask_54 : decode cX20_ask 54 = .ok (.invokestatic 89, 3) := dk_184 0 89 (dk_at dksX20_ask_2 6 rfl rfl)
theorem dX20_ask_57 : decode cX20_ask 57 = .ok (.istore 4, 2) := dk_54 4 (dk_at dksX20_ask_2 9 rfl rfl)
theorem dX20_ask_59 : decode cX20_ask 59 = .ok (.aload_n 0, 1) := dk_42 (dk_at dksX20_ask_2 11 rfl rfl)
theorem dX20_ask_60 : decode cX20_ask 60 = .ok (.getfield 22, 3) := dk_180 0 22 (dk_at dksX20_ask_2 12 rfl rfl)
theorem dX20_ask_63 : decode cX20_ask 63 = .ok (.iload_n 3, 1) := dk_29 (dk_at dksX20_ask_2 15 rfl rfl)
theorem dX20_ask_64 : decode cX20_ask 64 = .ok (.invokevirtual 36, 3) := dk_182 0 36 (dk_at dksX20_ask_2 16 rfl rfl)
theorem dX20_ask_67 : decode cX20_ask 67 = .ok (.checkcast 94, 3) := dk_192 0 94 (dk_at dksX20_ask_2 19 rfl rfl)
theorem dX20_ask_70 : decode cX20_ask 70 = .ok (.invokevirtual 96, 3) := dk_182 0 96 (dk_at dksX20_ask_3 0 rfl rfl)
theorem dX20_ask_73 : decode cX20_ask 73 = .ok (.ifCond .eq 17, 3) := dk_153 0 17 (dk_at dksX20_ask_3 3 rfl rfl)
theorem dX20_ask_76 : decode cX20_ask 76 = .ok (.iload 4, 2) := dk_21 4 (dk_at dksX20_ask_3 6 rfl rfl)
theorem dX20_ask_78 : decode cX20_ask 78 = .ok (.iload_n 2, 1) := dk_28 (dk_at dksX20_ask_3 8 rfl rfl)
theorem dX20_ask_79 : decode cX20_ask 79 = .ok (.if_icmp .lt 6, 3) := dk_161 0 6 (dk_at dksX20_ask_3 9 rfl rfl)
theorem dX20_ask_82 : decode cX20_ask 82 = .ok (.goto 8, 3) := dk_167 0 8 (dk_at dksX20_ask_3 12 rfl rfl)
theorem dX20_ask_85 : decode cX20_ask 85 = .ok (.iload_n 3, 1) := dk_29 (dk_at dksX20_ask_3 15 rfl rfl)
theorem dX20_ask_86 : decode cX20_ask 86 = .ok (.istore_n 1, 1) := dk_60 (dk_at dksX20_ask_3 16 rfl rfl)
theorem dX20_ask_87 : decode cX20_ask 87 = .ok (.iload 4, 2) := dk_21 4 (dk_at dksX20_ask_3 17 rfl rfl)
theorem dX20_ask_89 : decode cX20_ask 89 = .ok (.istore_n 2, 1) := dk_61 (dk_at dksX20_ask_3 19 rfl rfl)
theorem dX20_ask_90 : decode cX20_ask 90 = .ok (.iinc 3 1, 3) := dk_132 3 1 (dk_at dksX20_ask_3 20 rfl rfl)
theorem dX20_ask_93 : decode cX20_ask 93 = .ok (.goto (-86), 3) := dk_167 255 170 (dk_at dksX20_ask_4 0 rfl rfl)
theorem dX20_ask_96 : decode cX20_ask 96 = .ok (.iload_n 1, 1) := dk_27 (dk_at dksX20_ask_4 3 rfl rfl)
theorem dX20_ask_97 : decode cX20_ask 97 = .ok (.ireturn, 1) := dk_172 (dk_at dksX20_ask_4 4 rfl rfl)
theorem q172 : (Jvm.Cond.initialized "AskedNames$Fits") ∈ lw_all := lw_g (lw_at lw_m1 47 rfl) rfl
theorem q542 : (Jvm.Cond.fieldLinkNest "AskedNames$Fits" (45 : Nat) "AskedNames$Net" "delay" "[I" "AskedNames") ∈ lw_tbl := lw_at lw_m2 177 rfl
theorem q543 : (Jvm.Cond.fieldLinkNest "AskedNames$Fits" (25 : Nat) "AskedNames$Net" "links" "Ljava/util/ArrayList;" "AskedNames") ∈ lw_tbl := lw_at lw_m2 178 rfl
theorem q763 : (Jvm.Cond.selects "AskedNames$Fits" ({ cls := "java/lang/Object", name := "getClass", desc := "()Ljava/lang/Class;" } : Jvm.MethodName) ({ cls := "java/lang/Object", name := "getClass", desc := "()Ljava/lang/Class;" } : Jvm.MethodName)) ∈ lw_all := lw_g (lw_at lw_m3 158 rfl) rfl
theorem q1353 : (Jvm.Cond.fieldLinkNest "AskedNames$Fits" (60 : Nat) "AskedNames$Going" "ends" "[[I" "AskedNames") ∈ lw_tbl := lw_at lw_m6 28 rfl
theorem q1525 : (Jvm.Cond.fieldLinkNest "AskedNames$Fits" (56 : Nat) "AskedNames$Run" "going" "LAskedNames$Going;" "AskedNames") ∈ lw_tbl := lw_at lw_m6 200 rfl
theorem q1988 : (Jvm.Cond.instantiable "AskedNames$Fits" (3 : Nat)) ∈ lw_all := lw_g (lw_at lw_m8 183 rfl) rfl
theorem q1990 : (Jvm.Cond.instanceMethod ({ cls := "AskedNames$Fits", name := "<init>", desc := "(LAskedNames$Net;Ljava/util/ArrayList;Ljava/util/ArrayList;)V" } : Jvm.MethodName)) ∈ lw_all := lw_g (lw_at lw_m8 185 rfl) rfl
theorem q1991 : (Jvm.Cond.code ({ cls := "AskedNames$Fits", name := "<init>", desc := "(LAskedNames$Net;Ljava/util/ArrayList;Ljava/util/ArrayList;)V" } : Jvm.MethodName) prog_8_method_1_code (5 : Nat) (Option.none : Option Jvm.ClassFile.FieldType)) ∈ lw_all := lw_g (lw_at lw_m8 186 rfl) rfl
theorem q1992 : (Jvm.Cond.methodLink "AskedNames$Fits" (3 : Nat) ({ cls := "java/lang/Object", name := "<init>", desc := "()V" } : Jvm.MethodName)) ∈ lw_all := lw_g (lw_at lw_m8 187 rfl) rfl
theorem q1993 : (Jvm.Cond.classLink "AskedNames$Fits" (9 : Nat) "java/util/ArrayList") ∈ lw_all := lw_g (lw_at lw_m8 188 rfl) rfl
theorem q1994 : (Jvm.Cond.methodLink "AskedNames$Fits" (11 : Nat) ({ cls := "java/util/ArrayList", name := "<init>", desc := "()V" } : Jvm.MethodName)) ∈ lw_all := lw_g (lw_at lw_m8 189 rfl) rfl
theorem q1995 : (Jvm.Cond.methodLink "AskedNames$Fits" (28 : Nat) ({ cls := "java/util/ArrayList", name := "size", desc := "()I" } : Jvm.MethodName)) ∈ lw_all := lw_g (lw_at lw_m8 190 rfl) rfl
theorem q1996 : (Jvm.Cond.methodLink "AskedNames$Fits" (32 : Nat) ({ cls := "AskedNames$Fits", name := "tries", desc := "(LAskedNames$Net;ILjava/util/ArrayList;)V" } : Jvm.MethodName)) ∈ lw_all := lw_g (lw_at lw_m8 191 rfl) rfl
theorem q1997 : (Jvm.Cond.privateMethod ({ cls := "AskedNames$Fits", name := "tries", desc := "(LAskedNames$Net;ILjava/util/ArrayList;)V" } : Jvm.MethodName)) ∈ lw_tbl := lw_at lw_m8 192 rfl
theorem q1998 : (Jvm.Cond.instanceMethod ({ cls := "AskedNames$Fits", name := "tries", desc := "(LAskedNames$Net;ILjava/util/ArrayList;)V" } : Jvm.MethodName)) ∈ lw_all := lw_g (lw_at lw_m8 193 rfl) rfl
theorem q1999 : (Jvm.Cond.code ({ cls := "AskedNames$Fits", name := "tries", desc := "(LAskedNames$Net;ILjava/util/ArrayList;)V" } : Jvm.MethodName) prog_8_method_2_code (9 : Nat) (Option.none : Option Jvm.ClassFile.FieldType)) ∈ lw_all := lw_g (lw_at lw_m8 194 rfl) rfl
theorem q2000 : (Jvm.Cond.methodLink "AskedNames$Fits" (36 : Nat) ({ cls := "java/util/ArrayList", name := "get", desc := "(I)Ljava/lang/Object;" } : Jvm.MethodName)) ∈ lw_all := lw_g (lw_at lw_m8 195 rfl) rfl
theorem q2001 : (Jvm.Cond.classLink "AskedNames$Fits" (40 : Nat) "[I") ∈ lw_all := lw_g (lw_at lw_m8 196 rfl) rfl
theorem q2002 : (Jvm.Cond.methodLink "AskedNames$Fits" (41 : Nat) ({ cls := "AskedNames$Net", name := "delay", desc := "(II)I" } : Jvm.MethodName)) ∈ lw_all := lw_g (lw_at lw_m8 197 rfl) rfl
theorem q2003 : (Jvm.Cond.classLink "AskedNames$Fits" (47 : Nat) "AskedNames$Run") ∈ lw_all := lw_g (lw_at lw_m8 198 rfl) rfl
theorem q2004 : (Jvm.Cond.methodLink "AskedNames$Fits" (49 : Nat) ({ cls := "AskedNames$Run", name := "<init>", desc := "(LAskedNames$Net;)V" } : Jvm.MethodName)) ∈ lw_all := lw_g (lw_at lw_m8 199 rfl) rfl
theorem q2005 : (Jvm.Cond.methodLink "AskedNames$Fits" (52 : Nat) ({ cls := "AskedNames$Run", name := "goes", desc := "(Ljava/util/ArrayList;I)LAskedNames$Run;" } : Jvm.MethodName)) ∈ lw_all := lw_g (lw_at lw_m8 200 rfl) rfl
theorem q2006 : (Jvm.Cond.methodLink "AskedNames$Fits" (66 : Nat) ({ cls := "AskedNames$Fits", name := "isSo", desc := "([[ILjava/util/ArrayList;)Z" } : Jvm.MethodName)) ∈ lw_all := lw_g (lw_at lw_m8 201 rfl) rfl
theorem q2007 : (Jvm.Cond.static ({ cls := "AskedNames$Fits", name := "isSo", desc := "([[ILjava/util/ArrayList;)Z" } : Jvm.MethodName)) ∈ lw_all := lw_g (lw_at lw_m8 202 rfl) rfl
theorem q2008 : (Jvm.Cond.code ({ cls := "AskedNames$Fits", name := "isSo", desc := "([[ILjava/util/ArrayList;)Z" } : Jvm.MethodName) prog_8_method_4_code (4 : Nat) (Option.some Jvm.ClassFile.FieldType.boolean)) ∈ lw_all := lw_g (lw_at lw_m8 203 rfl) rfl
theorem q2009 : (Jvm.Cond.methodLink "AskedNames$Fits" (80 : Nat) ({ cls := "AskedNames$Fits", name := "isGot", desc := "([[II)Z" } : Jvm.MethodName)) ∈ lw_all := lw_g (lw_at lw_m8 204 rfl) rfl
theorem q2010 : (Jvm.Cond.static ({ cls := "AskedNames$Fits", name := "isGot", desc := "([[II)Z" } : Jvm.MethodName)) ∈ lw_all := lw_g (lw_at lw_m8 205 rfl) rfl
theorem q2011 : (Jvm.Cond.code ({ cls := "AskedNames$Fits", name := "isGot", desc := "([[II)Z" } : Jvm.MethodName) prog_8_method_3_code (2 : Nat) (Option.some Jvm.ClassFile.FieldType.boolean)) ∈ lw_all := lw_g (lw_at lw_m8 206 rfl) rfl
theorem q2012 : (Jvm.Cond.methodLink "AskedNames$Fits" (70 : Nat) ({ cls := "java/lang/Integer", name := "valueOf", desc := "(I)Ljava/lang/Integer;" } : Jvm.MethodName)) ∈ lw_all := lw_g (lw_at lw_m8 207 rfl) rfl
theorem q2013 : (Jvm.Cond.methodLink "AskedNames$Fits" (76 : Nat) ({ cls := "java/util/ArrayList", name := "add", desc := "(Ljava/lang/Object;)Z" } : Jvm.MethodName)) ∈ lw_all := lw_g (lw_at lw_m8 208 rfl) rfl
theorem q2014 : (Jvm.Cond.fieldLink "AskedNames$Fits" (12 : Nat) "AskedNames$Fits" "links" "Ljava/util/ArrayList;") ∈ lw_all := lw_g (lw_at lw_m8 209 rfl) rfl
theorem q2016 : (Jvm.Cond.fieldLink "AskedNames$Fits" (22 : Nat) "AskedNames$Fits" "deeds" "Ljava/util/ArrayList;") ∈ lw_all := lw_g (lw_at lw_m8 211 rfl) rfl
theorem q2017 : (Jvm.Cond.fieldLink "AskedNames$Fits" (18 : Nat) "AskedNames$Fits" "got" "[I") ∈ lw_all := lw_g (lw_at lw_m8 212 rfl) rfl
theorem q2018 : (Jvm.Cond.laysFinal "AskedNames$Fits" "AskedNames$Fits" "links" "Ljava/util/ArrayList;") ∈ lw_all := lw_g (lw_at lw_m8 213 rfl) rfl
theorem q2019 : (Jvm.Cond.soleField "AskedNames$Fits" "links") ∈ lw_all := lw_g (lw_at lw_m8 214 rfl) rfl
theorem q2020 : (Jvm.Cond.laysFinal "AskedNames$Fits" "AskedNames$Fits" "deeds" "Ljava/util/ArrayList;") ∈ lw_all := lw_g (lw_at lw_m8 215 rfl) rfl
theorem q2021 : (Jvm.Cond.soleField "AskedNames$Fits" "deeds") ∈ lw_all := lw_g (lw_at lw_m8 216 rfl) rfl
theorem q2022 : (Jvm.Cond.laysFinal "AskedNames$Fits" "AskedNames$Fits" "got" "[I") ∈ lw_all := lw_g (lw_at lw_m8 217 rfl) rfl
theorem q2023 : (Jvm.Cond.soleField "AskedNames$Fits" "got") ∈ lw_all := lw_g (lw_at lw_m8 218 rfl) rfl
theorem q2024 : (Jvm.Cond.superclass "AskedNames$Fits" "java/lang/Object") ∈ lw_all := lw_g (lw_at lw_m8 219 rfl) rfl
theorem q2026 : (Jvm.Cond.instanceMethod ({ cls := "AskedNames$Fits", name := "ask", desc := "()I" } : Jvm.MethodName)) ∈ lw_all := lw_g (lw_at lw_m8 221 rfl) rfl
theorem q2027 : (Jvm.Cond.selects "AskedNames$Fits" ({ cls := "AskedNames$Fits", name := "ask", desc := "()I" } : Jvm.MethodName) ({ cls := "AskedNames$Fits", name := "ask", desc := "()I" } : Jvm.MethodName)) ∈ lw_all := lw_g (lw_at lw_m8 222 rfl) rfl
theorem q2028 : (Jvm.Cond.code ({ cls := "AskedNames$Fits", name := "ask", desc := "()I" } : Jvm.MethodName) prog_8_method_5_code (5 : Nat) (Option.some Jvm.ClassFile.FieldType.int)) ∈ lw_all := lw_g (lw_at lw_m8 223 rfl) rfl
theorem q2029 : (Jvm.Cond.constant "AskedNames$Fits" (84 : Nat) (268435456 : Int32)) ∈ lw_all := lw_g (lw_at lw_m8 224 rfl) rfl
theorem q2030 : (Jvm.Cond.methodLink "AskedNames$Fits" (85 : Nat) ({ cls := "java/util/ArrayList", name := "isEmpty", desc := "()Z" } : Jvm.MethodName)) ∈ lw_all := lw_g (lw_at lw_m8 225 rfl) rfl
theorem q2031 : (Jvm.Cond.methodLink "AskedNames$Fits" (89 : Nat) ({ cls := "java/lang/Math", name := "max", desc := "(II)I" } : Jvm.MethodName)) ∈ lw_all := lw_g (lw_at lw_m8 226 rfl) rfl
theorem q2032 : (Jvm.Cond.classLink "AskedNames$Fits" (94 : Nat) "AskedNames$Deed") ∈ lw_all := lw_g (lw_at lw_m8 227 rfl) rfl
theorem q2033 : (Jvm.Cond.methodLink "AskedNames$Fits" (96 : Nat) ({ cls := "AskedNames$Deed", name := "isAsk", desc := "()Z" } : Jvm.MethodName)) ∈ lw_all := lw_g (lw_at lw_m8 228 rfl) rfl
theorem q2999 : (Jvm.Cond.castable "AskedNames$Fits" "java/lang/Object") ∈ lw_tbl := lw_at lw_m12 234 rfl
theorem in_X20 : ∀ w ∈ wsX200, w ∈ lw_all := lw_in wsX200 [2018, 2020, 2022] (by decide +kernel) (by decide +kernel)

/-! AskedNames$Drawn -/
set_option maxRecDepth 100000
def RX21 : String := "AskedNames$Drawn"
def TX21 : u_T := fun k => match k with
  | 0 => ("AskedNames$Drawn", "run", "LAskedNames$Run;", true)
  | _ => ("AskedNames$Drawn", "x", "I", false)
def tyX21 : Nat → FieldType := fun k => match k with
  | 0 => .object "AskedNames$Run"
  | _ => .int
abbrev wsX210 : List Cond := u_ws RX21 TX21 2
theorem nmX21 : ∀ a, a < 2 → ∀ b, b < 2 → a ≠ b → (TX21 a).2.1 ≠ (TX21 b).2.1 := by decide +kernel
theorem tyX21_ok : ∀ k, k < 2 → parseFieldDescriptor (TX21 k).2.2.1 = some (tyX21 k) := by decide +kernel
abbrev cX21_init : ByteArray := prog_5_method_1_code
def yX21_init : MethodName := ⟨RX21, "<init>", "(LAskedNames$Net;II)V"⟩
def dkwX21_init_2 : List UInt8 := [96, 181, 0, 32, 132, 4, 1, 167, 255, 225, 177]
abbrev dktX21_init_2 : List UInt8 := dkwX21_init_2 ++ []
def dkwX21_init_1 : List UInt8 := [21, 4, 29, 162, 0, 31, 42, 43, 42, 16, 10, 182, 0, 24, 182, 0, 28, 42, 180, 0, 14, 21, 4, 4]
abbrev dktX21_init_1 : List UInt8 := dkwX21_init_1 ++ dktX21_init_2
def dkwX21_init_0 : List UInt8 := [42, 183, 0, 3, 42, 187, 0, 9, 89, 43, 183, 0, 11, 181, 0, 14, 42, 28, 181, 0, 20, 3, 54, 4]
abbrev dktX21_init_0 : List UInt8 := dkwX21_init_0 ++ dktX21_init_1
theorem dksX21_init_0 : cX21_init.data.toList.drop 0 = dktX21_init_0 := by decide +kernel
theorem dksX21_init_1 : cX21_init.data.toList.drop 24 = dktX21_init_1 := dk_seg dksX21_init_0 24 rfl rfl
theorem dksX21_init_2 : cX21_init.data.toList.drop 48 = dktX21_init_2 := dk_seg dksX21_init_1 24 rfl rfl
theorem dX21_init_0 : decode cX21_init 0 = .ok (.aload_n 0, 1) := dk_42 (dk_at dksX21_init_0 0 rfl rfl)
theorem dX21_init_1 : decode cX21_init 1 = .ok (.invokespecial 3, 3) := dk_183 0 3 (dk_at dksX21_init_0 1 rfl rfl)
theorem dX21_init_4 : decode cX21_init 4 = .ok (.aload_n 0, 1) := dk_42 (dk_at dksX21_init_0 4 rfl rfl)
theorem dX21_init_5 : decode cX21_init 5 = .ok (.new 9, 3) := dk_187 0 9 (dk_at dksX21_init_0 5 rfl rfl)
theorem dX21_init_8 : decode cX21_init 8 = .ok (.dup, 1) := dk_89 (dk_at dksX21_init_0 8 rfl rfl)
theorem dX21_init_9 : decode cX21_init 9 = .ok (.aload_n 1, 1) := dk_43 (dk_at dksX21_init_0 9 rfl rfl)
theorem dX21_init_10 : decode cX21_init 10 = .ok (.invokespecial 11, 3) := dk_183 0 11 (dk_at dksX21_init_0 10 rfl rfl)
theorem dX21_init_13 : decode cX21_init 13 = .ok (.putfield 14, 3) := dk_181 0 14 (dk_at dksX21_init_0 13 rfl rfl)
theorem dX21_init_16 : decode cX21_init 16 = .ok (.aload_n 0, 1) := dk_42 (dk_at dksX21_init_0 16 rfl rfl)
theorem dX21_init_17 : decode cX21_init 17 = .ok (.iload_n 2, 1) := dk_28 (dk_at dksX21_init_0 17 rfl rfl)
theorem dX21_init_18 : decode cX21_init 18 = .ok (.putfield 20, 3) := dk_181 0 20 (dk_at dksX21_init_0 18 rfl rfl)
theorem dX21_init_21 : decode cX21_init 21 = .ok (.iconst 0, 1) := dk_3 (dk_at dksX21_init_0 21 rfl rfl)
theorem dX21_init_22 : decode cX21_init 22 = .ok (.istore 4, 2) := dk_54 4 (dk_at dksX21_init_0 22 rfl rfl)
theorem dX21_init_24 : decode cX21_init 24 = .ok (.iload 4, 2) := dk_21 4 (dk_at dksX21_init_1 0 rfl rfl)
theorem dX21_init_26 : decode cX21_init 26 = .ok (.iload_n 3, 1) := dk_29 (dk_at dksX21_init_1 2 rfl rfl)
theorem dX21_init_27 : decode cX21_init 27 = .ok (.if_icmp .ge 31, 3) := dk_162 0 31 (dk_at dksX21_init_1 3 rfl rfl)
theorem dX21_init_30 : decode cX21_init 30 = .ok (.aload_n 0, 1) := dk_42 (dk_at dksX21_init_1 6 rfl rfl)
theorem dX21_init_31 : decode cX21_init 31 = .ok (.aload_n 1, 1) := dk_43 (dk_at dksX21_init_1 7 rfl rfl)
theorem dX21_init_32 : decode cX21_init 32 = .ok (.aload_n 0, 1) := dk_42 (dk_at dksX21_init_1 8 rfl rfl)
theorem dX21_init_33 : decode cX21_init 33 = .ok (.bipush 10, 2) := dk_16 10 (dk_at dksX21_init_1 9 rfl rfl)
theorem dX21_init_35 : decode cX21_init 35 = .ok (.invokevirtual 24, 3) := dk_182 0 24 (dk_at dksX21_init_1 11 rfl rfl)
theorem dX21_init_38 : decode cX21_init 38 = .ok (.invokevirtual 28, 3) := dk_182 0 28 (dk_at dksX21_init_1 14 rfl rfl)
theorem dX21_init_41 : decode cX21_init 41 = .ok (.aload_n 0, 1) := dk_42 (dk_at dksX21_init_1 17 rfl rfl)
theorem dX21_init_42 : decode cX21_init 42 = .ok (.getfield 14, 3) := dk_180 0 14 (dk_at dksX21_init_1 18 rfl rfl)
theorem dX21_init_45 : decode cX21_init 45 = .ok (.iload 4, 2) := dk_21 4 (dk_at dksX21_init_1 21 rfl rfl)
theorem dX21_init_47 : decode cX21_init 47 = .ok (.iconst 1, 1) := dk_4 (dk_at dksX21_init_1 23 rfl rfl)
theorem dX21_init_48 : decode cX21_init 48 = .ok (.iadd, 1) := dk_96 (dk_at dksX21_init_2 0 rfl rfl)
theorem dX21_init_49 : decode cX21_init 49 = .ok (.putfield 32, 3) := dk_181 0 32 (dk_at dksX21_init_2 1 rfl rfl)
theorem dX21_init_52 : decode cX21_init 52 = .ok (.iinc 4 1, 3) := dk_132 4 1 (dk_at dksX21_init_2 4 rfl rfl)
theorem dX21_init_55 : decode cX21_init 55 = .ok (.goto (-31), 3) := dk_167 255 225 (dk_at dksX21_init_2 7 rfl rfl)
theorem dX21_init_58 : decode cX21_init 58 = .ok (.return_, 1) := dk_177 (dk_at dksX21_init_2 10 rfl rfl)
abbrev cX21_below : ByteArray := prog_5_method_2_code
def yX21_below : MethodName := ⟨RX21, "below", "(I)I"⟩
def dkwX21_below_1 : List UInt8 := [172]
abbrev dktX21_below_1 : List UInt8 := dkwX21_below_1 ++ []
def dkwX21_below_0 : List UInt8 := [42, 42, 180, 0, 20, 18, 35, 104, 17, 48, 57, 96, 181, 0, 20, 42, 180, 0, 20, 16, 16, 124, 27, 112]
abbrev dktX21_below_0 : List UInt8 := dkwX21_below_0 ++ dktX21_below_1
theorem dksX21_below_0 : cX21_below.data.toList.drop 0 = dktX21_below_0 := by decide +kernel
theorem dksX21_below_1 : cX21_below.data.toList.drop 24 = dktX21_below_1 := dk_seg dksX21_below_0 24 rfl rfl
theorem dX21_below_0 : decode cX21_below 0 = .ok (.aload_n 0, 1) := dk_42 (dk_at dksX21_below_0 0 rfl rfl)
theorem dX21_below_1 : decode cX21_below 1 = .ok (.aload_n 0, 1) := dk_42 (dk_at dksX21_below_0 1 rfl rfl)
theorem dX21_below_2 : decode cX21_below 2 = .ok (.getfield 20, 3) := dk_180 0 20 (dk_at dksX21_below_0 2 rfl rfl)
theorem dX21_below_5 : decode cX21_below 5 = .ok (.ldc 35, 2) := dk_18 35 (dk_at dksX21_below_0 5 rfl rfl)
theorem dX21_below_7 : decode cX21_below 7 = .ok (.imul, 1) := dk_104 (dk_at dksX21_below_0 7 rfl rfl)
theorem dX21_below_8 : decode cX21_below 8 = .ok (.sipush 12345, 3) := dk_17 48 57 (dk_at dksX21_below_0 8 rfl rfl)
theorem dX21_below_11 : decode cX21_below 11 = .ok (.iadd, 1) := dk_96 (dk_at dksX21_below_0 11 rfl rfl)
theorem dX21_below_12 : decode cX21_below 12 = .ok (.putfield 20, 3) := dk_181 0 20 (dk_at dksX21_below_0 12 rfl rfl)
theorem dX21_below_15 : decode cX21_below 15 = .ok (.aload_n 0, 1) := dk_42 (dk_at dksX21_below_0 15 rfl rfl)
theorem dX21_below_16 : decode cX21_below 16 = .ok (.getfield 20, 3) := dk_180 0 20 (dk_at dksX21_below_0 16 rfl rfl)
theorem dX21_below_19 : decode cX21_below 19 = .ok (.bipush 16, 2) := dk_16 16 (dk_at dksX21_below_0 19 rfl rfl)
theorem dX21_below_21 : decode cX21_below 21 = .ok (.iushr, 1) := dk_124 (dk_at dksX21_below_0 21 rfl rfl)
theorem dX21_below_22 : decode cX21_below 22 = .ok (.iload_n 1, 1) := dk_27 (dk_at dksX21_below_0 22 rfl rfl)
theorem dX21_below_23 : decode cX21_below 23 = .ok (.irem, 1) := dk_112 (dk_at dksX21_below_0 23 rfl rfl)
theorem dX21_below_24 : decode cX21_below 24 = .ok (.ireturn, 1) := dk_172 (dk_at dksX21_below_1 0 rfl rfl)
abbrev cX21_one : ByteArray := prog_5_method_3_code
def yX21_one : MethodName := ⟨RX21, "one", "(LAskedNames$Net;I)V"⟩
def dkwX21_one_5 : List UInt8 := [153, 0, 11, 42, 180, 0, 14, 45, 182, 0, 84, 177]
abbrev dktX21_one_5 : List UInt8 := dkwX21_one_5 ++ []
def dkwX21_one_4 : List UInt8 := [182, 0, 66, 182, 0, 24, 182, 0, 70, 192, 0, 74, 182, 0, 76, 78, 42, 180, 0, 14, 45, 182, 0, 80]
abbrev dktX21_one_4 : List UInt8 := dkwX21_one_4 ++ dktX21_one_5
def dkwX21_one_3 : List UInt8 := [42, 8, 182, 0, 24, 96, 2, 1, 183, 0, 63, 167, 0, 28, 42, 43, 180, 0, 48, 42, 43, 180, 0, 48]
abbrev dktX21_one_3 : List UInt8 := dkwX21_one_3 ++ dktX21_one_4
def dkwX21_one_2 : List UInt8 := [167, 0, 4, 3, 182, 0, 51, 167, 0, 56, 28, 16, 9, 162, 0, 25, 187, 0, 55, 89, 178, 0, 57, 4]
abbrev dktX21_one_2 : List UInt8 := dkwX21_one_2 ++ dktX21_one_3
def dkwX21_one_1 : List UInt8 := [180, 0, 48, 182, 0, 42, 153, 0, 4, 177, 28, 8, 162, 0, 21, 42, 43, 28, 7, 160, 0, 7, 4]
abbrev dktX21_one_1 : List UInt8 := dkwX21_one_1 ++ dktX21_one_2
def dkwX21_one_0 : List UInt8 := [28, 8, 162, 0, 13, 43, 180, 0, 36, 182, 0, 42, 154, 0, 19, 28, 16, 9, 160, 0, 14, 43]
abbrev dktX21_one_0 : List UInt8 := dkwX21_one_0 ++ dktX21_one_1
theorem dksX21_one_0 : cX21_one.data.toList.drop 0 = dktX21_one_0 := by decide +kernel
theorem dksX21_one_1 : cX21_one.data.toList.drop 22 = dktX21_one_1 := dk_seg dksX21_one_0 22 rfl rfl
theorem dksX21_one_2 : cX21_one.data.toList.drop 45 = dktX21_one_2 := dk_seg dksX21_one_1 23 rfl rfl
theorem dksX21_one_3 : cX21_one.data.toList.drop 69 = dktX21_one_3 := dk_seg dksX21_one_2 24 rfl rfl
theorem dksX21_one_4 : cX21_one.data.toList.drop 93 = dktX21_one_4 := dk_seg dksX21_one_3 24 rfl rfl
theorem dksX21_one_5 : cX21_one.data.toList.drop 117 = dktX21_one_5 := dk_seg dksX21_one_4 24 rfl rfl
theorem dX21_one_0 : decode cX21_one 0 = .ok (.iload_n 2, 1) := dk_28 (dk_at dksX21_one_0 0 rfl rfl)
theorem dX21_one_1 : decode cX21_one 1 = .ok (.iconst 5, 1) := dk_8 (dk_at dksX21_one_0 1 rfl rfl)
theorem dX21_one_2 : decode cX21_one 2 = .ok (.if_icmp .ge 13, 3) := dk_162 0 13 (dk_at dksX21_one_0 2 rfl rfl)
theorem dX21_one_5 : decode cX21_one 5 = .ok (.aload_n 1, 1) := dk_43 (dk_at dksX21_one_0 5 rfl rfl)
theorem dX21_one_6 : decode cX21_one 6 = .ok (.getfield 36, 3) := dk_180 0 36 (dk_at dksX21_one_0 6 rfl rfl)
theorem dX21_one_9 : decode cX21_one 9 = .ok (.invokevirtual 42, 3) := dk_182 0 42 (dk_at dksX21_one_0 9 rfl rfl)
theorem dX21_one_12 : decode cX21_one 12 = .ok (.ifCond .ne 19, 3) := dk_154 0 19 (dk_at dksX21_one_0 12 rfl rfl)
theorem dX21_one_15 : decode cX21_one 15 = .ok (.iload_n 2, 1) := dk_28 (dk_at dksX21_one_0 15 rfl rfl)
theorem dX21_one_16 : decode cX21_one 16 = .ok (.bipush 9, 2) := dk_16 9 (dk_at dksX21_one_0 16 rfl rfl)
theorem dX21_one_18 : decode cX21_one 18 = .ok (.if_icmp .ne 14, 3) := dk_160 0 14 (dk_at dksX21_one_0 18 rfl rfl)
theorem dX21_one_21 : decode cX21_one 21 = .ok (.aload_n 1, 1) := dk_43 (dk_at dksX21_one_0 21 rfl rfl)
theorem dX21_one_22 : decode cX21_one 22 = .ok (.getfield 48, 3) := dk_180 0 48 (dk_at dksX21_one_1 0 rfl rfl)
theorem dX21_one_25 : decode cX21_one 25 = .ok (.invokevirtual 42, 3) := dk_182 0 42 (dk_at dksX21_one_1 3 rfl rfl)
theorem dX21_one_28 : decode cX21_one 28 = .ok (.ifCond .eq 4, 3) := dk_153 0 4 (dk_at dksX21_one_1 6 rfl rfl)
theorem dX21_one_31 : decode cX21_one 31 = .ok (.return_, 1) := dk_177 (dk_at dksX21_one_1 9 rfl rfl)
theorem dX21_one_32 : decode cX21_one 32 = .ok (.iload_n 2, 1) := dk_28 (dk_at dksX21_one_1 10 rfl rfl)
theorem dX21_one_33 : decode cX21_one 33 = .ok (.iconst 5, 1) := dk_8 (dk_at dksX21_one_1 11 rfl rfl)
theorem dX21_one_34 : decode cX21_one 34 = .ok (.if_icmp .ge 21, 3) := dk_162 0 21 (dk_at dksX21_one_1 12 rfl rfl)
theorem dX21_one_37 : decode cX21_one 37 = .ok (.aload_n 0, 1) := dk_42 (dk_at dksX21_one_1 15 rfl rfl)
theorem dX21_one_38 : decode cX21_one 38 = .ok (.aload_n 1, 1) := dk_43 (dk_at dksX21_one_1 16 rfl rfl)
theorem dX21_one_39 : decode cX21_one 39 = .ok (.iload_n 2, 1) := dk_28 (dk_at dksX21_one_1 17 rfl rfl)
theorem dX21_one_40 : decode cX21_one 40 = .ok (.iconst 4, 1) := dk_7 (dk_at dksX21_one_1 18 rfl rfl)
theorem dX21_one_41 : decode cX21_one 41 = .ok (.if_icmp .ne 7, 3) := dk_160 0 7 (dk_at dksX21_one_1 19 rfl rfl)
theorem dX21_one_44 : decode cX21_one 44 = .ok (.iconst 1, 1) := dk_4 (dk_at dksX21_one_1 22 rfl rfl)
theorem dX21_one_45 : decode cX21_one 45 = .ok (.goto 4, 3) := dk_167 0 4 (dk_at dksX21_one_2 0 rfl rfl)
theorem dX21_one_48 : decode cX21_one 48 = .ok (.iconst 0, 1) := dk_3 (dk_at dksX21_one_2 3 rfl rfl)
theorem dX21_one_49 : decode cX21_one 49 = .ok (.invokevirtual 51, 3) := dk_182 0 51 (dk_at dksX21_one_2 4 rfl rfl)
theorem dX21_one_52 : decode cX21_one 52 = .ok (.goto 56, 3) := dk_167 0 56 (dk_at dksX21_one_2 7 rfl rfl)
theorem dX21_one_55 : decode cX21_one 55 = .ok (.iload_n 2, 1) := dk_28 (dk_at dksX21_one_2 10 rfl rfl)
theorem dX21_one_56 : decode cX21_one 56 = .ok (.bipush 9, 2) := dk_16 9 (dk_at dksX21_one_2 11 rfl rfl)
theorem dX21_one_58 : decode cX21_one 58 = .ok (.if_icmp .ge 25, 3) := dk_162 0 25 (dk_at dksX21_one_2 13 rfl rfl)
theorem dX21_one_61 : decode cX21_one 61 = .ok (.new 55, 3) := dk_187 0 55 (dk_at dksX21_one_2 16 rfl rfl)
theorem dX21_one_64 : decode cX21_one 64 = .ok (.dup, 1) := dk_89 (dk_at dksX21_one_2 19 rfl rfl)
theorem dX21_one_65 : decode cX21_one 65 = .ok (.getstatic 57, 3) := dk_178 0 57 (dk_at dksX21_one_2 20 rfl rfl)
theorem dX21_one_68 : decode cX21_one 68 = .ok (.iconst 1, 1) := dk_4 (dk_at dksX21_one_2 23 rfl rfl)
theorem dX21_one_69 : decode cX21_one 69 = .ok (.aload_n 0, 1) := dk_42 (dk_at dksX21_one_3 0 rfl rfl)
theorem dX21_one_70 : decode cX21_one 70 = .ok (.iconst 5, 1) := dk_8 (dk_at dksX21_one_3 1 rfl rfl)
theorem dX21_one_71 : decode cX21_one 71 = .ok (.invokevirtual 24, 3) := dk_182 0 24 (dk_at dksX21_one_3 2 rfl rfl)
theorem dX21_one_74 : decode cX21_one 74 = .ok (.iadd, 1) := dk_96 (dk_at dksX21_one_3 5 rfl rfl)
theorem dX21_one_75 : decode cX21_one 75 = .ok (.iconst (-1), 1) := dk_2 (dk_at dksX21_one_3 6 rfl rfl)
theorem dX21_one_76 : decode cX21_one 76 = .ok (.aconst_null, 1) := dk_1 (dk_at dksX21_one_3 7 rfl rfl)
theorem dX21_one_77 : decode cX21_one 77 = .ok (.invokespecial 63, 3) := dk_183 0 63 (dk_at dksX21_one_3 8 rfl rfl)
theorem dX21_one_80 : decode cX21_one 80 = .ok (.goto 28, 3) := dk_167 0 28 (dk_at dksX21_one_3 11 rfl rfl)
theorem dX21_one_83 : decode cX21_one 83 = .ok (.aload_n 0, 1) := dk_42 (dk_at dksX21_one_3 14 rfl rfl)
theorem dX21_one_84 : decode cX21_one 84 = .ok (.aload_n 1, 1) := dk_43 (dk_at dksX21_one_3 15 rfl rfl)
theorem dX21_one_85 : decode cX21_one 85 = .ok (.getfield 48, 3) := dk_180 0 48 (dk_at dksX21_one_3 16 rfl rfl)
theorem dX21_one_88 : decode cX21_one 88 = .ok (.aload_n 0, 1) := dk_42 (dk_at dksX21_one_3 19 rfl rfl)
theorem dX21_one_89 : decode cX21_one 89 = .ok (.aload_n 1, 1) := dk_43 (dk_at dksX21_one_3 20 rfl rfl)
theorem dX21_one_90 : decode cX21_one 90 = .ok (.getfield 48, 3) := dk_180 0 48 (dk_at dksX21_one_3 21 rfl rfl)
theorem dX21_one_93 : decode cX21_one 93 = .ok (.invokevirtual 66, 3) := dk_182 0 66 (dk_at dksX21_one_4 0 rfl rfl)
theorem dX21_one_96 : decode cX21_one 96 = .ok (.invokevirtual 24, 3) := dk_182 0 24 (dk_at dksX21_one_4 3 rfl rfl)
theorem dX21_one_99 : decode cX21_one 99 = .ok (.invokevirtual 70, 3) := dk_182 0 70 (dk_at dksX21_one_4 6 rfl rfl)
theorem dX21_one_102 : decode cX21_one 102 = .ok (.checkcast 74, 3) := dk_192 0 74 (dk_at dksX21_one_4 9 rfl rfl)
theorem dX21_one_105 : decode cX21_one 105 = .ok (.invokevirtual 76, 3) := dk_182 0 76 (dk_at dksX21_one_4 12 rfl rfl)
theorem dX21_one_108 : decode cX21_one 108 = .ok (.astore_n 3, 1) := dk_78 (dk_at dksX21_one_4 15 rfl rfl)
theorem dX21_one_109 : decode cX21_one 109 = .ok (.aload_n 0, 1) := dk_42 (dk_at dksX21_one_4 16 rfl rfl)
theorem dX21_one_110 : decode cX21_one 110 = .ok (.getfield 14, 3) := dk_180 0 14 (dk_at dksX21_one_4 17 rfl rfl)
theorem dX21_one_113 : decode cX21_one 113 = .ok (.aload_n 3, 1) := dk_45 (dk_at dksX21_one_4 20 rfl rfl)
theorem dX21_one_114 : decode cX21_one 114 = .ok (.invokevirtual 80, 3) := dk_182 0 80 (dk_at dksX21_one_4 21 rfl rfl)
theorem dX21_one_117 : decode cX21_one 117 = .ok (.ifCond .eq 11, 3) := dk_153 0 11 (dk_at dksX21_one_5 0 rfl rfl)
theorem dX21_one_120 : decode cX21_one 120 = .ok (.aload_n 0, 1) := dk_42 (dk_at dksX21_one_5 3 rfl rfl)
theorem dX21_one_121 : decode cX21_one 121 = .ok (.getfield 14, 3) := dk_180 0 14 (dk_at dksX21_one_5 4 rfl rfl)
theorem dX21_one_124 : decode cX21_one 124 = .ok (.aload_n 3, 1) := dk_45 (dk_at dksX21_one_5 7 rfl rfl)
theorem dX21_one_125 : decode cX21_one 125 = .ok (.invokevirtual 84, 3) := dk_182 0 84 (dk_at dksX21_one_5 8 rfl rfl)
theorem dX21_one_128 : decode cX21_one 128 = .ok (.return_, 1) := dk_177 (dk_at dksX21_one_5 11 rfl rfl)
abbrev cX21_ask : ByteArray := prog_5_method_4_code
def yX21_ask : MethodName := ⟨RX21, "ask", "(LAskedNames$Net;Z)LAskedNames$Deed;"⟩
def dkwX21_ask_4 : List UInt8 := [153, 0, 9, 178, 0, 114, 167, 0, 6, 178, 0, 117, 29, 2, 25, 6, 182, 0, 120, 183, 0, 63, 176]
abbrev dktX21_ask_4 : List UInt8 := dkwX21_ask_4 ++ []
def dkwX21_ask_3 : List UInt8 := [25, 6, 21, 5, 4, 160, 0, 8, 16, 97, 167, 0, 5, 16, 98, 182, 0, 111, 87, 187, 0, 55, 89, 28]
abbrev dktX21_ask_3 : List UInt8 := dkwX21_ask_3 ++ dktX21_ask_4
def dkwX21_ask_2 : List UInt8 := [183, 0, 99, 25, 4, 182, 0, 102, 58, 6, 21, 5, 158, 0, 31, 25, 4, 182, 0, 106, 7, 162, 0, 22]
abbrev dktX21_ask_2 : List UInt8 := dkwX21_ask_2 ++ dktX21_ask_3
def dkwX21_ask_1 : List UInt8 := [182, 0, 70, 192, 0, 91, 180, 0, 93, 58, 4, 42, 6, 182, 0, 24, 54, 5, 187, 0, 97, 89, 7]
abbrev dktX21_ask_1 : List UInt8 := dkwX21_ask_1 ++ dktX21_ask_2
def dkwX21_ask_0 : List UInt8 := [42, 43, 180, 0, 88, 182, 0, 24, 62, 43, 180, 0, 36, 42, 43, 180, 0, 36, 182, 0, 66, 182, 0, 24]
abbrev dktX21_ask_0 : List UInt8 := dkwX21_ask_0 ++ dktX21_ask_1
theorem dksX21_ask_0 : cX21_ask.data.toList.drop 0 = dktX21_ask_0 := by decide +kernel
theorem dksX21_ask_1 : cX21_ask.data.toList.drop 24 = dktX21_ask_1 := dk_seg dksX21_ask_0 24 rfl rfl
theorem dksX21_ask_2 : cX21_ask.data.toList.drop 47 = dktX21_ask_2 := dk_seg dksX21_ask_1 23 rfl rfl
theorem dksX21_ask_3 : cX21_ask.data.toList.drop 71 = dktX21_ask_3 := dk_seg dksX21_ask_2 24 rfl rfl
theorem dksX21_ask_4 : cX21_ask.data.toList.drop 95 = dktX21_ask_4 := dk_seg dksX21_ask_3 24 rfl rfl
theorem dX21_ask_0 : decode cX21_ask 0 = .ok (.aload_n 0, 1) := dk_42 (dk_at dksX21_ask_0 0 rfl rfl)
theorem dX21_ask_1 : decode cX21_ask 1 = .ok (.aload_n 1, 1) := dk_43 (dk_at dksX21_ask_0 1 rfl rfl)
theorem dX21_ask_2 : decode cX21_ask 2 = .ok (.getfield 88, 3) := dk_180 0 88 (dk_at dksX21_ask_0 2 rfl rfl)
theorem dX21_ask_5 : decode cX21_ask 5 = .ok (.invokevirtual 24, 3) := dk_182 0 24 (dk_at dksX21_ask_0 5 rfl rfl)
theorem dX21_ask_8 : decode cX21_ask 8 = .ok (.istore_n 3, 1) := dk_62 (dk_at dksX21_ask_0 8 rfl rfl)
theorem dX21_ask_9 : decode cX21_ask 9 = .ok (.aload_n 1, 1) := dk_43 (dk_at dksX21_ask_0 9 rfl rfl)
theorem dX21_ask_10 : decode cX21_ask 10 = .ok (.getfield 36, 3) := dk_180 0 36 (dk_at dksX21_ask_0 10 rfl rfl)
theorem dX21_ask_13 : decode cX21_ask 13 = .ok (.aload_n 0, 1) := dk_42 (dk_at dksX21_ask_0 13 rfl rfl)
theorem dX21_ask_14 : decode cX21_ask 14 = .ok (.aload_n 1, 1) := dk_43 (dk_at dksX21_ask_0 14 rfl rfl)
theorem dX21_ask_15 : decode cX21_ask 15 = .ok (.getfield 36, 3) := dk_180 0 36 (dk_at dksX21_ask_0 15 rfl rfl)
theorem dX21_ask_18 : decode cX21_ask 18 = .ok (.invokevirtual 66, 3) := dk_182 0 66 (dk_at dksX21_ask_0 18 rfl rfl)
theorem dX21_ask_21 : decode cX21_ask 21 = .ok (.invokevirtual 24, 3) := dk_182 0 24 (dk_at dksX21_ask_0 21 rfl rfl)
theorem dX21_ask_24 : decode cX21_ask 24 = .ok (.invokevirtual 70, 3) := dk_182 0 70 (dk_at dksX21_ask_1 0 rfl rfl)
theorem dX21_ask_27 : decode cX21_ask 27 = .ok (.checkcast 91, 3) := dk_192 0 91 (dk_at dksX21_ask_1 3 rfl rfl)
theorem dX21_ask_30 : decode cX21_ask 30 = .ok (.getfield 93, 3) := dk_180 0 93 (dk_at dksX21_ask_1 6 rfl rfl)
theorem dX21_ask_33 : decode cX21_ask 33 = .ok (.astore 4, 2) := dk_58 4 (dk_at dksX21_ask_1 9 rfl rfl)
theorem dX21_ask_35 : decode cX21_ask 35 = .ok (.aload_n 0, 1) := dk_42 (dk_at dksX21_ask_1 11 rfl rfl)
theorem dX21_ask_36 : decode cX21_ask 36 = .ok (.iconst 3, 1) := dk_6 (dk_at dksX21_ask_1 12 rfl rfl)
theorem dX21_ask_37 : decode cX21_ask 37 = .ok (.invokevirtual 24, 3) := dk_182 0 24 (dk_at dksX21_ask_1 13 rfl rfl)
theorem dX21_ask_40 : decode cX21_ask 40 = .ok (.istore 5, 2) := dk_54 5 (dk_at dksX21_ask_1 16 rfl rfl)
theorem dX21_ask_42 : decode cX21_ask 42 = .ok (.new 97, 3) := dk_187 0 97 (dk_at dksX21_ask_1 18 rfl rfl)
theorem dX21_ask_45 : decode cX21_ask 45 = .ok (.dup, 1) := dk_89 (dk_at dksX21_ask_1 21 rfl rfl)
theorem dX21_ask_46 : decode cX21_ask 46 = .ok (.iconst 4, 1) := dk_7 (dk_at dksX21_ask_1 22 rfl rfl)
theorem dX21_ask_47 : decode cX21_ask 47 = .ok (.invokespecial 99, 3) := dk_183 0 99 (dk_at dksX21_ask_2 0 rfl rfl)
theorem dX21_ask_50 : decode cX21_ask 50 = .ok (.aload 4, 2) := dk_25 4 (dk_at dksX21_ask_2 3 rfl rfl)
theorem dX21_ask_52 : decode cX21_ask 52 = .ok (.invokevirtual 102, 3) := dk_182 0 102 (dk_at dksX21_ask_2 5 rfl rfl)
theorem dX21_ask_55 : decode cX21_ask 55 = .ok (.astore 6, 2) := dk_58 6 (dk_at dksX21_ask_2 8 rfl rfl)
theorem dX21_ask_57 : decode cX21_ask 57 = .ok (.iload 5, 2) := dk_21 5 (dk_at dksX21_ask_2 10 rfl rfl)
theorem dX21_ask_59 : decode cX21_ask 59 = .ok (.ifCond .le 31, 3) := dk_158 0 31 (dk_at dksX21_ask_2 12 rfl rfl)
theorem dX21_ask_62 : decode cX21_ask 62 = .ok (.aload 4, 2) := dk_25 4 (dk_at dksX21_ask_2 15 rfl rfl)
theorem dX21_ask_64 : decode cX21_ask 64 = .ok (.invokevirtual 106, 3) := dk_182 0 106 (dk_at dksX21_ask_2 17 rfl rfl)
theorem dX21_ask_67 : decode cX21_ask 67 = .ok (.iconst 4, 1) := dk_7 (dk_at dksX21_ask_2 20 rfl rfl)
theorem dX21_ask_68 : decode cX21_ask 68 = .ok (.if_icmp .ge 22, 3) := dk_162 0 22 (dk_at dksX21_ask_2 21 rfl rfl)
theorem dX21_ask_71 : decode cX21_ask 71 = .ok (.aload 6, 2) := dk_25 6 (dk_at dksX21_ask_3 0 rfl rfl)
theorem dX21_ask_73 : decode cX21_ask 73 = .ok (.iload 5, 2) := dk_21 5 (dk_at dksX21_ask_3 2 rfl rfl)
theorem dX21_ask_75 : decode cX21_ask 75 = .ok (.iconst 1, 1) := dk_4 (dk_at dksX21_ask_3 4 rfl rfl)
theorem dX21_ask_76 : decode cX21_ask 76 = .ok (.if_icmp .ne 8, 3) := dk_160 0 8 (dk_at dksX21_ask_3 5 rfl rfl)
theorem dX21_ask_79 : decode cX21_ask 79 = .ok (.bipush 97, 2) := dk_16 97 (dk_at dksX21_ask_3 8 rfl rfl)
theorem dX21_ask_81 : decode cX21_ask 81 = .ok (.goto 5, 3) := dk_167 0 5 (dk_at dksX21_ask_3 10 rfl rfl)
theorem dX21_ask_84 : decode cX21_ask 84 = .ok (.bipush 98, 2) := dk_16 98 (dk_at dksX21_ask_3 13 rfl rfl)
theorem dX21_ask_86 : decode cX21_ask 86 = .ok (.invokevirtual 111, 3) := dk_182 0 111 (dk_at dksX21_ask_3 15 rfl rfl)
theorem dX21_ask_89 : decode cX21_ask 89 = .ok (.pop, 1) := dk_87 (dk_at dksX21_ask_3 18 rfl rfl)
theorem dX21_ask_90 : decode cX21_ask 90 = .ok (.new 55, 3) := dk_187 0 55 (dk_at dksX21_ask_3 19 rfl rfl)
theorem dX21_ask_93 : decode cX21_ask 93 = .ok (.dup, 1) := dk_89 (dk_at dksX21_ask_3 22 rfl rfl)
theorem dX21_ask_94 : decode cX21_ask 94 = .ok (.iload_n 2, 1) := dk_28 (dk_at dksX21_ask_3 23 rfl rfl)
theorem dX21_ask_95 : decode cX21_ask 95 = .ok (.ifCond .eq 9, 3) := dk_153 0 9 (dk_at dksX21_ask_4 0 rfl rfl)
theorem dX21_ask_98 : decode cX21_ask 98 = .ok (.getstatic 114, 3) := dk_178 0 114 (dk_at dksX21_ask_4 3 rfl rfl)
theorem dX21_ask_101 : decode cX21_ask 101 = .ok (.goto 6, 3) := dk_167 0 6 (dk_at dksX21_ask_4 6 rfl rfl)
theorem dX21_ask_104 : decode cX21_ask 104 = .ok (.getstatic 117, 3) := dk_178 0 117 (dk_at dksX21_ask_4 9 rfl rfl)
theorem dX21_ask_107 : decode cX21_ask 107 = .ok (.iload_n 3, 1) := dk_29 (dk_at dksX21_ask_4 12 rfl rfl)
theorem dX21_ask_108 : decode cX21_ask 108 = .ok (.iconst (-1), 1) := dk_2 (dk_at dksX21_ask_4 13 rfl rfl)
theorem dX21_ask_109 : decode cX21_ask 109 = .ok (.aload 6, 2) := dk_25 6 (dk_at dksX21_ask_4 14 rfl rfl)
theorem dX21_ask_111 : decode cX21_ask 111 = .ok (.invokevirtual 120, 3) := dk_182 0 120 (dk_at dksX21_ask_4 16 rfl rfl)
theorem dX21_ask_114 : decode cX21_ask 114 = .ok (.invokespecial 63, 3) := dk_183 0 63 (dk_at dksX21_ask_4 19 rfl rfl)
theorem dX21_ask_117 : decode cX21_ask 117 = .ok (.areturn, 1) := dk_176 (dk_at dksX21_ask_4 22 rfl rfl)
abbrev cX21_turn : ByteArray := prog_5_method_5_code
def yX21_turn : MethodName := ⟨RX21, "turn", "([I)LAskedNames$Deed;"⟩
def dkwX21_turn_1 : List UInt8 := [178, 0, 134, 167, 0, 6, 178, 0, 137, 43, 3, 46, 43, 4, 46, 1, 183, 0, 63, 176]
abbrev dktX21_turn_1 : List UInt8 := dkwX21_turn_1 ++ []
def dkwX21_turn_0 : List UInt8 := [187, 0, 55, 89, 42, 180, 0, 14, 180, 0, 124, 43, 3, 46, 43, 4, 46, 182, 0, 128, 153, 0, 9]
abbrev dktX21_turn_0 : List UInt8 := dkwX21_turn_0 ++ dktX21_turn_1
theorem dksX21_turn_0 : cX21_turn.data.toList.drop 0 = dktX21_turn_0 := by decide +kernel
theorem dksX21_turn_1 : cX21_turn.data.toList.drop 23 = dktX21_turn_1 := dk_seg dksX21_turn_0 23 rfl rfl
theorem dX21_turn_0 : decode cX21_turn 0 = .ok (.new 55, 3) := dk_187 0 55 (dk_at dksX21_turn_0 0 rfl rfl)
theorem dX21_turn_3 : decode cX21_turn 3 = .ok (.dup, 1) := dk_89 (dk_at dksX21_turn_0 3 rfl rfl)
theorem dX21_turn_4 : decode cX21_turn 4 = .ok (.aload_n 0, 1) := dk_42 (dk_at dksX21_turn_0 4 rfl rfl)
theorem dX21_turn_5 : decode cX21_turn 5 = .ok (.getfield 14, 3) := dk_180 0 14 (dk_at dksX21_turn_0 5 rfl rfl)
theorem dX21_turn_8 : decode cX21_turn 8 = .ok (.getfield 124, 3) := dk_180 0 124 (dk_at dksX21_turn_0 8 rfl rfl)
theorem dX21_turn_11 : decode cX21_turn 11 = .ok (.aload_n 1, 1) := dk_43 (dk_at dksX21_turn_0 11 rfl rfl)
theorem dX21_turn_12 : decode cX21_turn 12 = .ok (.iconst 0, 1) := dk_3 (dk_at dksX21_turn_0 12 rfl rfl)
theorem dX21_turn_13 : decode cX21_turn 13 = .ok (.iaload, 1) := dk_46 (dk_at dksX21_turn_0 13 rfl rfl)
theorem dX21_turn_14 : decode cX21_turn 14 = .ok (.aload_n 1, 1) := dk_43 (dk_at dksX21_turn_0 14 rfl rfl)
theorem dX21_turn_15 : decode cX21_turn 15 = .ok (.iconst 1, 1) := dk_4 (dk_at dksX21_turn_0 15 rfl rfl)
theorem dX21_turn_16 : decode cX21_turn 16 = .ok (.iaload, 1) := dk_46 (dk_at dksX21_turn_0 16 rfl rfl)
theorem dX21_turn_17 : decode cX21_turn 17 = .ok (.invokevirtual 128, 3) := dk_182 0 128 (dk_at dksX21_turn_0 17 rfl rfl)
theorem dX21_turn_20 : decode cX21_turn 20 = .ok (.ifCond .eq 9, 3) := dk_153 0 9 (dk_at dksX21_turn_0 20 rfl rfl)
theorem dX21_turn_23 : decode cX21_turn 23 = .ok (.getstatic 134, 3) := dk_178 0 134 (dk_at dksX21_turn_1 0 rfl rfl)
theorem dX21_turn_26 : decode cX21_turn 26 = .ok (.goto 6, 3) := dk_167 0 6 (dk_at dksX21_turn_1 3 rfl rfl)
theorem dX21_turn_29 : decode cX21_turn 29 = .ok (.getstatic 137, 3) := dk_178 0 137 (dk_at dksX21_turn_1 6 rfl rfl)
theorem dX21_turn_32 : decode cX21_turn 32 = .ok (.aload_n 1, 1) := dk_43 (dk_at dksX21_turn_1 9 rfl rfl)
theorem dX21_turn_33 : decode cX21_turn 33 = .ok (.iconst 0, 1) := dk_3 (dk_at dksX21_turn_1 10 rfl rfl)
theorem dX21_turn_34 : decode cX21_turn 34 = .ok (.iaload, 1) := dk_46 (dk_at dksX21_turn_1 11 rfl rfl)
theorem dX21_turn_35 : decode cX21_turn 35 = .ok (.aload_n 1, 1) := dk_43 (dk_at dksX21_turn_1 12 rfl rfl)
theorem dX21_turn_36 : decode cX21_turn 36 = .ok (.iconst 1, 1) := dk_4 (dk_at dksX21_turn_1 13 rfl rfl)
theorem dX21_turn_37 : decode cX21_turn 37 = .ok (.iaload, 1) := dk_46 (dk_at dksX21_turn_1 14 rfl rfl)
theorem dX21_turn_38 : decode cX21_turn 38 = .ok (.aconst_null, 1) := dk_1 (dk_at dksX21_turn_1 15 rfl rfl)
theorem dX21_turn_39 : decode cX21_turn 39 = .ok (.invokespecial 63, 3) := dk_183 0 63 (dk_at dksX21_turn_1 16 rfl rfl)
theorem dX21_turn_42 : decode cX21_turn 42 = .ok (.areturn, 1) := dk_176 (dk_at dksX21_turn_1 19 rfl rfl)
theorem q173 : (Jvm.Cond.initialized "AskedNames$Drawn") ∈ lw_all := lw_g (lw_at lw_m1 48 rfl) rfl
theorem q531 : (Jvm.Cond.fieldLinkNest "AskedNames$Drawn" (88 : Nat) "AskedNames$Net" "nodes" "I" "AskedNames") ∈ lw_tbl := lw_at lw_m2 166 rfl
theorem q545 : (Jvm.Cond.fieldLinkNest "AskedNames$Drawn" (48 : Nat) "AskedNames$Net" "links" "Ljava/util/ArrayList;" "AskedNames") ∈ lw_tbl := lw_at lw_m2 180 rfl
theorem q553 : (Jvm.Cond.fieldLinkNest "AskedNames$Drawn" (36 : Nat) "AskedNames$Net" "serves" "Ljava/util/ArrayList;" "AskedNames") ∈ lw_tbl := lw_at lw_m2 188 rfl
theorem q760 : (Jvm.Cond.selects "AskedNames$Drawn" ({ cls := "java/lang/Object", name := "getClass", desc := "()Ljava/lang/Class;" } : Jvm.MethodName) ({ cls := "java/lang/Object", name := "getClass", desc := "()Ljava/lang/Class;" } : Jvm.MethodName)) ∈ lw_all := lw_g (lw_at lw_m3 155 rfl) rfl
theorem q867 : (Jvm.Cond.fieldLinkNest "AskedNames$Drawn" (93 : Nat) "AskedNames$Route" "name" "Ljava/lang/String;" "AskedNames") ∈ lw_tbl := lw_at lw_m4 22 rfl
theorem q1526 : (Jvm.Cond.fieldLinkNest "AskedNames$Drawn" (124 : Nat) "AskedNames$Run" "going" "LAskedNames$Going;" "AskedNames") ∈ lw_tbl := lw_at lw_m6 201 rfl
theorem q1531 : (Jvm.Cond.fieldLinkNest "AskedNames$Drawn" (32 : Nat) "AskedNames$Run" "acts" "I" "AskedNames") ∈ lw_tbl := lw_at lw_m6 206 rfl
theorem q2041 : (Jvm.Cond.instantiable "AskedNames$Drawn" (2 : Nat)) ∈ lw_all := lw_g (lw_at lw_m8 236 rfl) rfl
theorem q2043 : (Jvm.Cond.instanceMethod ({ cls := "AskedNames$Drawn", name := "<init>", desc := "(LAskedNames$Net;II)V" } : Jvm.MethodName)) ∈ lw_all := lw_g (lw_at lw_m8 238 rfl) rfl
theorem q2044 : (Jvm.Cond.code ({ cls := "AskedNames$Drawn", name := "<init>", desc := "(LAskedNames$Net;II)V" } : Jvm.MethodName) prog_5_method_1_code (5 : Nat) (Option.none : Option Jvm.ClassFile.FieldType)) ∈ lw_all := lw_g (lw_at lw_m8 239 rfl) rfl
theorem q2045 : (Jvm.Cond.methodLink "AskedNames$Drawn" (3 : Nat) ({ cls := "java/lang/Object", name := "<init>", desc := "()V" } : Jvm.MethodName)) ∈ lw_all := lw_g (lw_at lw_m9 0 rfl) rfl
theorem q2046 : (Jvm.Cond.classLink "AskedNames$Drawn" (9 : Nat) "AskedNames$Run") ∈ lw_all := lw_g (lw_at lw_m9 1 rfl) rfl
theorem q2047 : (Jvm.Cond.methodLink "AskedNames$Drawn" (11 : Nat) ({ cls := "AskedNames$Run", name := "<init>", desc := "(LAskedNames$Net;)V" } : Jvm.MethodName)) ∈ lw_all := lw_g (lw_at lw_m9 2 rfl) rfl
theorem q2048 : (Jvm.Cond.methodLink "AskedNames$Drawn" (24 : Nat) ({ cls := "AskedNames$Drawn", name := "below", desc := "(I)I" } : Jvm.MethodName)) ∈ lw_all := lw_g (lw_at lw_m9 3 rfl) rfl
theorem q2049 : (Jvm.Cond.privateMethod ({ cls := "AskedNames$Drawn", name := "below", desc := "(I)I" } : Jvm.MethodName)) ∈ lw_tbl := lw_at lw_m9 4 rfl
theorem q2050 : (Jvm.Cond.instanceMethod ({ cls := "AskedNames$Drawn", name := "below", desc := "(I)I" } : Jvm.MethodName)) ∈ lw_all := lw_g (lw_at lw_m9 5 rfl) rfl
theorem q2051 : (Jvm.Cond.code ({ cls := "AskedNames$Drawn", name := "below", desc := "(I)I" } : Jvm.MethodName) prog_5_method_2_code (2 : Nat) (Option.some Jvm.ClassFile.FieldType.int)) ∈ lw_all := lw_g (lw_at lw_m9 6 rfl) rfl
theorem q2052 : (Jvm.Cond.constant "AskedNames$Drawn" (35 : Nat) (1103515245 : Int32)) ∈ lw_all := lw_g (lw_at lw_m9 7 rfl) rfl
theorem q2053 : (Jvm.Cond.methodLink "AskedNames$Drawn" (28 : Nat) ({ cls := "AskedNames$Drawn", name := "one", desc := "(LAskedNames$Net;I)V" } : Jvm.MethodName)) ∈ lw_all := lw_g (lw_at lw_m9 8 rfl) rfl
theorem q2054 : (Jvm.Cond.privateMethod ({ cls := "AskedNames$Drawn", name := "one", desc := "(LAskedNames$Net;I)V" } : Jvm.MethodName)) ∈ lw_tbl := lw_at lw_m9 9 rfl
theorem q2055 : (Jvm.Cond.instanceMethod ({ cls := "AskedNames$Drawn", name := "one", desc := "(LAskedNames$Net;I)V" } : Jvm.MethodName)) ∈ lw_all := lw_g (lw_at lw_m9 10 rfl) rfl
theorem q2056 : (Jvm.Cond.code ({ cls := "AskedNames$Drawn", name := "one", desc := "(LAskedNames$Net;I)V" } : Jvm.MethodName) prog_5_method_3_code (4 : Nat) (Option.none : Option Jvm.ClassFile.FieldType)) ∈ lw_all := lw_g (lw_at lw_m9 11 rfl) rfl
theorem q2057 : (Jvm.Cond.methodLink "AskedNames$Drawn" (42 : Nat) ({ cls := "java/util/ArrayList", name := "isEmpty", desc := "()Z" } : Jvm.MethodName)) ∈ lw_all := lw_g (lw_at lw_m9 12 rfl) rfl
theorem q2058 : (Jvm.Cond.methodLink "AskedNames$Drawn" (51 : Nat) ({ cls := "AskedNames$Drawn", name := "ask", desc := "(LAskedNames$Net;Z)LAskedNames$Deed;" } : Jvm.MethodName)) ∈ lw_all := lw_g (lw_at lw_m9 13 rfl) rfl
theorem q2059 : (Jvm.Cond.privateMethod ({ cls := "AskedNames$Drawn", name := "ask", desc := "(LAskedNames$Net;Z)LAskedNames$Deed;" } : Jvm.MethodName)) ∈ lw_tbl := lw_at lw_m9 14 rfl
theorem q2060 : (Jvm.Cond.instanceMethod ({ cls := "AskedNames$Drawn", name := "ask", desc := "(LAskedNames$Net;Z)LAskedNames$Deed;" } : Jvm.MethodName)) ∈ lw_all := lw_g (lw_at lw_m9 15 rfl) rfl
theorem q2061 : (Jvm.Cond.code ({ cls := "AskedNames$Drawn", name := "ask", desc := "(LAskedNames$Net;Z)LAskedNames$Deed;" } : Jvm.MethodName) prog_5_method_4_code (7 : Nat) (Option.some (Jvm.ClassFile.FieldType.object "AskedNames$Deed"))) ∈ lw_all := lw_g (lw_at lw_m9 16 rfl) rfl
theorem q2062 : (Jvm.Cond.methodLink "AskedNames$Drawn" (66 : Nat) ({ cls := "java/util/ArrayList", name := "size", desc := "()I" } : Jvm.MethodName)) ∈ lw_all := lw_g (lw_at lw_m9 17 rfl) rfl
theorem q2063 : (Jvm.Cond.methodLink "AskedNames$Drawn" (70 : Nat) ({ cls := "java/util/ArrayList", name := "get", desc := "(I)Ljava/lang/Object;" } : Jvm.MethodName)) ∈ lw_all := lw_g (lw_at lw_m9 18 rfl) rfl
theorem q2064 : (Jvm.Cond.classLink "AskedNames$Drawn" (91 : Nat) "AskedNames$Route") ∈ lw_all := lw_g (lw_at lw_m9 19 rfl) rfl
theorem q2065 : (Jvm.Cond.classLink "AskedNames$Drawn" (97 : Nat) "java/lang/StringBuilder") ∈ lw_all := lw_g (lw_at lw_m9 20 rfl) rfl
theorem q2066 : (Jvm.Cond.methodLink "AskedNames$Drawn" (99 : Nat) ({ cls := "java/lang/StringBuilder", name := "<init>", desc := "(I)V" } : Jvm.MethodName)) ∈ lw_all := lw_g (lw_at lw_m9 21 rfl) rfl
theorem q2067 : (Jvm.Cond.methodLink "AskedNames$Drawn" (102 : Nat) ({ cls := "java/lang/StringBuilder", name := "append", desc := "(Ljava/lang/String;)Ljava/lang/StringBuilder;" } : Jvm.MethodName)) ∈ lw_all := lw_g (lw_at lw_m9 22 rfl) rfl
theorem q2101 : (Jvm.Cond.methodLink "AskedNames$Drawn" (106 : Nat) ({ cls := "java/lang/String", name := "length", desc := "()I" } : Jvm.MethodName)) ∈ lw_all := lw_g (lw_at lw_m9 56 rfl) rfl
theorem q2102 : (Jvm.Cond.methodLink "AskedNames$Drawn" (111 : Nat) ({ cls := "java/lang/StringBuilder", name := "append", desc := "(C)Ljava/lang/StringBuilder;" } : Jvm.MethodName)) ∈ lw_all := lw_g (lw_at lw_m9 57 rfl) rfl
theorem q2103 : (Jvm.Cond.classLink "AskedNames$Drawn" (55 : Nat) "AskedNames$Deed") ∈ lw_all := lw_g (lw_at lw_m9 58 rfl) rfl
theorem q2104 : (Jvm.Cond.fieldLink "AskedNames$Drawn" (114 : Nat) "AskedNames$Doing" "FRESH" "LAskedNames$Doing;") ∈ lw_all := lw_g (lw_at lw_m9 59 rfl) rfl
theorem q2105 : (Jvm.Cond.fieldLink "AskedNames$Drawn" (117 : Nat) "AskedNames$Doing" "ASK" "LAskedNames$Doing;") ∈ lw_all := lw_g (lw_at lw_m9 60 rfl) rfl
theorem q2106 : (Jvm.Cond.methodLink "AskedNames$Drawn" (120 : Nat) ({ cls := "java/lang/StringBuilder", name := "toString", desc := "()Ljava/lang/String;" } : Jvm.MethodName)) ∈ lw_all := lw_g (lw_at lw_m9 61 rfl) rfl
theorem q2107 : (Jvm.Cond.methodLink "AskedNames$Drawn" (63 : Nat) ({ cls := "AskedNames$Deed", name := "<init>", desc := "(LAskedNames$Doing;IILjava/lang/String;)V" } : Jvm.MethodName)) ∈ lw_all := lw_g (lw_at lw_m9 62 rfl) rfl
theorem q2108 : (Jvm.Cond.fieldLink "AskedNames$Drawn" (57 : Nat) "AskedNames$Doing" "WAIT" "LAskedNames$Doing;") ∈ lw_all := lw_g (lw_at lw_m9 63 rfl) rfl
theorem q2109 : (Jvm.Cond.classLink "AskedNames$Drawn" (74 : Nat) "[I") ∈ lw_all := lw_g (lw_at lw_m9 64 rfl) rfl
theorem q2110 : (Jvm.Cond.methodLink "AskedNames$Drawn" (76 : Nat) ({ cls := "AskedNames$Drawn", name := "turn", desc := "([I)LAskedNames$Deed;" } : Jvm.MethodName)) ∈ lw_all := lw_g (lw_at lw_m9 65 rfl) rfl
theorem q2111 : (Jvm.Cond.privateMethod ({ cls := "AskedNames$Drawn", name := "turn", desc := "([I)LAskedNames$Deed;" } : Jvm.MethodName)) ∈ lw_tbl := lw_at lw_m9 66 rfl
theorem q2112 : (Jvm.Cond.instanceMethod ({ cls := "AskedNames$Drawn", name := "turn", desc := "([I)LAskedNames$Deed;" } : Jvm.MethodName)) ∈ lw_all := lw_g (lw_at lw_m9 67 rfl) rfl
theorem q2113 : (Jvm.Cond.code ({ cls := "AskedNames$Drawn", name := "turn", desc := "([I)LAskedNames$Deed;" } : Jvm.MethodName) prog_5_method_5_code (2 : Nat) (Option.some (Jvm.ClassFile.FieldType.object "AskedNames$Deed"))) ∈ lw_all := lw_g (lw_at lw_m9 68 rfl) rfl
theorem q2114 : (Jvm.Cond.methodLink "AskedNames$Drawn" (128 : Nat) ({ cls := "AskedNames$Going", name := "isUp", desc := "(II)Z" } : Jvm.MethodName)) ∈ lw_all := lw_g (lw_at lw_m9 69 rfl) rfl
theorem q2115 : (Jvm.Cond.fieldLink "AskedNames$Drawn" (134 : Nat) "AskedNames$Doing" "CUT" "LAskedNames$Doing;") ∈ lw_all := lw_g (lw_at lw_m9 70 rfl) rfl
theorem q2117 : (Jvm.Cond.fieldLink "AskedNames$Drawn" (137 : Nat) "AskedNames$Doing" "MEND" "LAskedNames$Doing;") ∈ lw_all := lw_g (lw_at lw_m9 72 rfl) rfl
theorem q2119 : (Jvm.Cond.methodLink "AskedNames$Drawn" (80 : Nat) ({ cls := "AskedNames$Run", name := "can", desc := "(LAskedNames$Deed;)Z" } : Jvm.MethodName)) ∈ lw_all := lw_g (lw_at lw_m9 74 rfl) rfl
theorem q2120 : (Jvm.Cond.methodLink "AskedNames$Drawn" (84 : Nat) ({ cls := "AskedNames$Run", name := "does", desc := "(LAskedNames$Deed;)V" } : Jvm.MethodName)) ∈ lw_all := lw_g (lw_at lw_m9 75 rfl) rfl
theorem q2121 : (Jvm.Cond.fieldLink "AskedNames$Drawn" (14 : Nat) "AskedNames$Drawn" "run" "LAskedNames$Run;") ∈ lw_all := lw_g (lw_at lw_m9 76 rfl) rfl
theorem q2123 : (Jvm.Cond.fieldLink "AskedNames$Drawn" (20 : Nat) "AskedNames$Drawn" "x" "I") ∈ lw_all := lw_g (lw_at lw_m9 78 rfl) rfl
theorem q2124 : (Jvm.Cond.laysFinal "AskedNames$Drawn" "AskedNames$Drawn" "run" "LAskedNames$Run;") ∈ lw_all := lw_g (lw_at lw_m9 79 rfl) rfl
theorem q2125 : (Jvm.Cond.soleField "AskedNames$Drawn" "run") ∈ lw_all := lw_g (lw_at lw_m9 80 rfl) rfl
theorem q2126 : (Jvm.Cond.lays "AskedNames$Drawn" "AskedNames$Drawn" "x" "I") ∈ lw_all := lw_g (lw_at lw_m9 81 rfl) rfl
theorem q2127 : (Jvm.Cond.soleField "AskedNames$Drawn" "x") ∈ lw_all := lw_g (lw_at lw_m9 82 rfl) rfl
theorem q2128 : (Jvm.Cond.superclass "AskedNames$Drawn" "java/lang/Object") ∈ lw_all := lw_g (lw_at lw_m9 83 rfl) rfl
theorem q3000 : (Jvm.Cond.castable "AskedNames$Drawn" "java/lang/Object") ∈ lw_tbl := lw_at lw_m12 235 rfl
theorem in_X21 : ∀ w ∈ wsX210, w ∈ lw_all := lw_in wsX210 [2124, 2126] (by decide +kernel) (by decide +kernel)

/-! AskedNames$LogReader -/
set_option maxRecDepth 100000
def RX6 : String := "AskedNames$LogReader"
def TX6 : u_T := fun k => match k with
  | 0 => ("AskedNames$Reader", "tape", "[B", true)
  | 1 => ("AskedNames$Reader", "size", "I", true)
  | 2 => ("AskedNames$Reader", "next", "I", false)
  | 3 => ("AskedNames$Reader", "place", "I", false)
  | 4 => ("AskedNames$Reader", "value", "I", false)
  | 5 => ("AskedNames$Reader", "token", "LAskedNames$Token;", false)
  | 6 => ("AskedNames$Reader", "text", "Ljava/lang/String;", false)
  | 7 => ("AskedNames$Reader", "also", "LAskedNames$Fault;", false)
  | _ => ("AskedNames$LogReader", "facts", "Ljava/util/ArrayList;", true)
def tyX6 : Nat → FieldType := fun k => match k with
  | 0 => .array .byte
  | 1 => .int
  | 2 => .int
  | 3 => .int
  | 4 => .int
  | 5 => .object "AskedNames$Token"
  | 6 => .object "java/lang/String"
  | 7 => .object "AskedNames$Fault"
  | _ => .object "java/util/ArrayList"
abbrev wsX60 : List Cond := u_ws RX6 TX6 9
theorem nmX6 : ∀ a, a < 9 → ∀ b, b < 9 → a ≠ b → (TX6 a).2.1 ≠ (TX6 b).2.1 := by decide +kernel
theorem tyX6_ok : ∀ k, k < 9 → parseFieldDescriptor (TX6 k).2.2.1 = some (tyX6 k) := by decide +kernel
abbrev cX6_line : ByteArray := prog_10_method_3_code
def yX6_line : MethodName := ⟨RX6, "line", "()V"⟩
def dkwX6_line_3 : List UInt8 := [2, 79, 58, 4, 42, 180, 0, 14, 25, 4, 182, 0, 47, 87, 177]
abbrev dktX6_line_3 : List UInt8 := dkwX6_line_3 ++ []
def dkwX6_line_2 : List UInt8 := [62, 5, 188, 10, 89, 3, 29, 79, 89, 4, 28, 153, 0, 13, 42, 3, 16, 99, 182, 0, 43, 167, 0, 4]
abbrev dktX6_line_2 : List UInt8 := dkwX6_line_2 ++ dktX6_line_3
def dkwX6_line_1 : List UInt8 := [180, 0, 14, 182, 0, 36, 16, 8, 161, 0, 9, 42, 6, 27, 182, 0, 39, 42, 3, 16, 39, 182, 0, 43]
abbrev dktX6_line_1 : List UInt8 := dkwX6_line_1 ++ dktX6_line_2
def dkwX6_line_0 : List UInt8 := [42, 182, 0, 24, 60, 42, 178, 0, 28, 182, 0, 32, 4, 160, 0, 7, 4, 167, 0, 4, 3, 61, 42]
abbrev dktX6_line_0 : List UInt8 := dkwX6_line_0 ++ dktX6_line_1
theorem dksX6_line_0 : cX6_line.data.toList.drop 0 = dktX6_line_0 := by decide +kernel
theorem dksX6_line_1 : cX6_line.data.toList.drop 23 = dktX6_line_1 := dk_seg dksX6_line_0 23 rfl rfl
theorem dksX6_line_2 : cX6_line.data.toList.drop 47 = dktX6_line_2 := dk_seg dksX6_line_1 24 rfl rfl
theorem dksX6_line_3 : cX6_line.data.toList.drop 71 = dktX6_line_3 := dk_seg dksX6_line_2 24 rfl rfl
theorem dX6_line_0 : decode cX6_line 0 = .ok (.aload_n 0, 1) := dk_42 (dk_at dksX6_line_0 0 rfl rfl)
theorem dX6_line_1 : decode cX6_line 1 = .ok (.invokevirtual 24, 3) := dk_182 0 24 (dk_at dksX6_line_0 1 rfl rfl)
theorem dX6_line_4 : decode cX6_line 4 = .ok (.istore_n 1, 1) := dk_60 (dk_at dksX6_line_0 4 rfl rfl)
theorem dX6_line_5 : decode cX6_line 5 = .ok (.aload_n 0, 1) := dk_42 (dk_at dksX6_line_0 5 rfl rfl)
theorem dX6_line_6 : decode cX6_line 6 = .ok (.getstatic 28, 3) := dk_178 0 28 (dk_at dksX6_line_0 6 rfl rfl)
theorem dX6_line_9 : decode cX6_line 9 = .ok (.invokevirtual 32, 3) := dk_182 0 32 (dk_at dksX6_line_0 9 rfl rfl)
theorem dX6_line_12 : decode cX6_line 12 = .ok (.iconst 1, 1) := dk_4 (dk_at dksX6_line_0 12 rfl rfl)
theorem dX6_line_13 : decode cX6_line 13 = .ok (.if_icmp .ne 7, 3) := dk_160 0 7 (dk_at dksX6_line_0 13 rfl rfl)
theorem dX6_line_16 : decode cX6_line 16 = .ok (.iconst 1, 1) := dk_4 (dk_at dksX6_line_0 16 rfl rfl)
theorem dX6_line_17 : decode cX6_line 17 = .ok (.goto 4, 3) := dk_167 0 4 (dk_at dksX6_line_0 17 rfl rfl)
theorem dX6_line_20 : decode cX6_line 20 = .ok (.iconst 0, 1) := dk_3 (dk_at dksX6_line_0 20 rfl rfl)
theorem dX6_line_21 : decode cX6_line 21 = .ok (.istore_n 2, 1) := dk_61 (dk_at dksX6_line_0 21 rfl rfl)
theorem dX6_line_22 : decode cX6_line 22 = .ok (.aload_n 0, 1) := dk_42 (dk_at dksX6_line_0 22 rfl rfl)
theorem dX6_line_23 : decode cX6_line 23 = .ok (.getfield 14, 3) := dk_180 0 14 (dk_at dksX6_line_1 0 rfl rfl)
theorem dX6_line_26 : decode cX6_line 26 = .ok (.invokevirtual 36, 3) := dk_182 0 36 (dk_at dksX6_line_1 3 rfl rfl)
theorem dX6_line_29 : decode cX6_line 29 = .ok (.bipush 8, 2) := dk_16 8 (dk_at dksX6_line_1 6 rfl rfl)
theorem dX6_line_31 : decode cX6_line 31 = .ok (.if_icmp .lt 9, 3) := dk_161 0 9 (dk_at dksX6_line_1 8 rfl rfl)
theorem dX6_line_34 : decode cX6_line 34 = .ok (.aload_n 0, 1) := dk_42 (dk_at dksX6_line_1 11 rfl rfl)
theorem dX6_line_35 : decode cX6_line 35 = .ok (.iconst 3, 1) := dk_6 (dk_at dksX6_line_1 12 rfl rfl)
theorem dX6_line_36 : decode cX6_line 36 = .ok (.iload_n 1, 1) := dk_27 (dk_at dksX6_line_1 13 rfl rfl)
theorem dX6_line_37 : decode cX6_line 37 = .ok (.invokevirtual 39, 3) := dk_182 0 39 (dk_at dksX6_line_1 14 rfl rfl)
theorem dX6_line_40 : decode cX6_line 40 = .ok (.aload_n 0, 1) := dk_42 (dk_at dksX6_line_1 17 rfl rfl)
theorem dX6_line_41 : decode cX6_line 41 = .ok (.iconst 0, 1) := dk_3 (dk_at dksX6_line_1 18 rfl rfl)
theorem dX6_line_42 : decode cX6_line 42 = .ok (.bipush 39, 2) := dk_16 39 (dk_at dksX6_line_1 19 rfl rfl)
theorem dX6_line_44 : decode cX6_line 44 = .ok (.invokevirtual 43, 3) := dk_182 0 43 (dk_at dksX6_line_1 21 rfl rfl)
theorem dX6_line_47 : decode cX6_line 47 = .ok (.istore_n 3, 1) := dk_62 (dk_at dksX6_line_2 0 rfl rfl)
theorem dX6_line_48 : decode cX6_line 48 = .ok (.iconst 2, 1) := dk_5 (dk_at dksX6_line_2 1 rfl rfl)
theorem dX6_line_49 : decode cX6_line 49 = .ok (.newarray .int, 2) := dk_188_10 (dk_at dksX6_line_2 2 rfl rfl)
theorem dX6_line_51 : decode cX6_line 51 = .ok (.dup, 1) := dk_89 (dk_at dksX6_line_2 4 rfl rfl)
theorem dX6_line_52 : decode cX6_line 52 = .ok (.iconst 0, 1) := dk_3 (dk_at dksX6_line_2 5 rfl rfl)
theorem dX6_line_53 : decode cX6_line 53 = .ok (.iload_n 3, 1) := dk_29 (dk_at dksX6_line_2 6 rfl rfl)
theorem dX6_line_54 : decode cX6_line 54 = .ok (.iastore, 1) := dk_79 (dk_at dksX6_line_2 7 rfl rfl)
theorem dX6_line_55 : decode cX6_line 55 = .ok (.dup, 1) := dk_89 (dk_at dksX6_line_2 8 rfl rfl)
theorem dX6_line_56 : decode cX6_line 56 = .ok (.iconst 1, 1) := dk_4 (dk_at dksX6_line_2 9 rfl rfl)
theorem dX6_line_57 : decode cX6_line 57 = .ok (.iload_n 2, 1) := dk_28 (dk_at dksX6_line_2 10 rfl rfl)
theorem dX6_line_58 : decode cX6_line 58 = .ok (.ifCond .eq 13, 3) := dk_153 0 13 (dk_at dksX6_line_2 11 rfl rfl)
theorem dX6_line_61 : decode cX6_line 61 = .ok (.aload_n 0, 1) := dk_42 (dk_at dksX6_line_2 14 rfl rfl)
theorem dX6_line_62 : decode cX6_line 62 = .ok (.iconst 0, 1) := dk_3 (dk_at dksX6_line_2 15 rfl rfl)
theorem dX6_line_63 : decode cX6_line 63 = .ok (.bipush 99, 2) := dk_16 99 (dk_at dksX6_line_2 16 rfl rfl)
theorem dX6_line_65 : decode cX6_line 65 = .ok (.invokevirtual 43, 3) := dk_182 0 43 (dk_at dksX6_line_2 18 rfl rfl)
theorem dX6_line_68 : decode cX6_line 68 = .ok (.goto 4, 3) := dk_167 0 4 (dk_at dksX6_line_2 21 rfl rfl)
theorem dX6_line_71 : decode cX6_line 71 = .ok (.iconst (-1), 1) := dk_2 (dk_at dksX6_line_3 0 rfl rfl)
theorem dX6_line_72 : decode cX6_line 72 = .ok (.iastore, 1) := dk_79 (dk_at dksX6_line_3 1 rfl rfl)
theorem dX6_line_73 : decode cX6_line 73 = .ok (.astore 4, 2) := dk_58 4 (dk_at dksX6_line_3 2 rfl rfl)
theorem dX6_line_75 : decode cX6_line 75 = .ok (.aload_n 0, 1) := dk_42 (dk_at dksX6_line_3 4 rfl rfl)
theorem dX6_line_76 : decode cX6_line 76 = .ok (.getfield 14, 3) := dk_180 0 14 (dk_at dksX6_line_3 5 rfl rfl)
theorem dX6_line_79 : decode cX6_line 79 = .ok (.aload 4, 2) := dk_25 4 (dk_at dksX6_line_3 8 rfl rfl)
theorem dX6_line_81 : decode cX6_line 81 = .ok (.invokevirtual 47, 3) := dk_182 0 47 (dk_at dksX6_line_3 10 rfl rfl)
theorem dX6_line_84 : decode cX6_line 84 = .ok (.pop, 1) := dk_87 (dk_at dksX6_line_3 13 rfl rfl)
theorem dX6_line_85 : decode cX6_line 85 = .ok (.return_, 1) := dk_177 (dk_at dksX6_line_3 14 rfl rfl)
abbrev cX6_init : ByteArray := prog_10_method_1_code
def yX6_init : MethodName := ⟨RX6, "<init>", "([BI)V"⟩
def dkwX6_init_0 : List UInt8 := [42, 43, 28, 183, 0, 3, 42, 187, 0, 9, 89, 16, 8, 183, 0, 11, 181, 0, 14, 177]
abbrev dktX6_init_0 : List UInt8 := dkwX6_init_0 ++ []
theorem dksX6_init_0 : cX6_init.data.toList.drop 0 = dktX6_init_0 := by decide +kernel
theorem dX6_init_0 : decode cX6_init 0 = .ok (.aload_n 0, 1) := dk_42 (dk_at dksX6_init_0 0 rfl rfl)
theorem dX6_init_1 : decode cX6_init 1 = .ok (.aload_n 1, 1) := dk_43 (dk_at dksX6_init_0 1 rfl rfl)
theorem dX6_init_2 : decode cX6_init 2 = .ok (.iload_n 2, 1) := dk_28 (dk_at dksX6_init_0 2 rfl rfl)
theorem dX6_init_3 : decode cX6_init 3 = .ok (.invokespecial 3, 3) := dk_183 0 3 (dk_at dksX6_init_0 3 rfl rfl)
theorem dX6_init_6 : decode cX6_init 6 = .ok (.aload_n 0, 1) := dk_42 (dk_at dksX6_init_0 6 rfl rfl)
theorem dX6_init_7 : decode cX6_init 7 = .ok (.new 9, 3) := dk_187 0 9 (dk_at dksX6_init_0 7 rfl rfl)
theorem dX6_init_10 : decode cX6_init 10 = .ok (.dup, 1) := dk_89 (dk_at dksX6_init_0 10 rfl rfl)
theorem dX6_init_11 : decode cX6_init 11 = .ok (.bipush 8, 2) := dk_16 8 (dk_at dksX6_init_0 11 rfl rfl)
theorem dX6_init_13 : decode cX6_init 13 = .ok (.invokespecial 11, 3) := dk_183 0 11 (dk_at dksX6_init_0 13 rfl rfl)
theorem dX6_init_16 : decode cX6_init 16 = .ok (.putfield 14, 3) := dk_181 0 14 (dk_at dksX6_init_0 16 rfl rfl)
theorem dX6_init_19 : decode cX6_init 19 = .ok (.return_, 1) := dk_177 (dk_at dksX6_init_0 19 rfl rfl)
abbrev cX6_read : ByteArray := prog_10_method_2_code
def yX6_read : MethodName := ⟨RX6, "read", "()Ljava/util/ArrayList;"⟩
def dkwX6_read_0 : List UInt8 := [42, 182, 0, 20, 42, 180, 0, 14, 176]
abbrev dktX6_read_0 : List UInt8 := dkwX6_read_0 ++ []
theorem dksX6_read_0 : cX6_read.data.toList.drop 0 = dktX6_read_0 := by decide +kernel
theorem dX6_read_0 : decode cX6_read 0 = .ok (.aload_n 0, 1) := dk_42 (dk_at dksX6_read_0 0 rfl rfl)
theorem dX6_read_1 : decode cX6_read 1 = .ok (.invokevirtual 20, 3) := dk_182 0 20 (dk_at dksX6_read_0 1 rfl rfl)
theorem dX6_read_4 : decode cX6_read 4 = .ok (.aload_n 0, 1) := dk_42 (dk_at dksX6_read_0 4 rfl rfl)
theorem dX6_read_5 : decode cX6_read 5 = .ok (.getfield 14, 3) := dk_180 0 14 (dk_at dksX6_read_0 5 rfl rfl)
theorem dX6_read_8 : decode cX6_read 8 = .ok (.areturn, 1) := dk_176 (dk_at dksX6_read_0 8 rfl rfl)
theorem q147 : (Jvm.Cond.initialized "AskedNames$LogReader") ∈ lw_all := lw_g (lw_at lw_m1 22 rfl) rfl
theorem q301 : (Jvm.Cond.selects "AskedNames$LogReader" ({ cls := "AskedNames$Reader", name := "step", desc := "()V" } : Jvm.MethodName) ({ cls := "AskedNames$Reader", name := "step", desc := "()V" } : Jvm.MethodName)) ∈ lw_all := lw_g (lw_at lw_m1 176 rfl) rfl
theorem q616 : (Jvm.Cond.selects "AskedNames$LogReader" ({ cls := "AskedNames$Reader", name := "line", desc := "()V" } : Jvm.MethodName) ({ cls := "AskedNames$LogReader", name := "line", desc := "()V" } : Jvm.MethodName)) ∈ lw_all := lw_g (lw_at lw_m3 11 rfl) rfl
theorem q617 : (Jvm.Cond.instanceMethod ({ cls := "AskedNames$LogReader", name := "line", desc := "()V" } : Jvm.MethodName)) ∈ lw_all := lw_g (lw_at lw_m3 12 rfl) rfl
theorem q618 : (Jvm.Cond.code ({ cls := "AskedNames$LogReader", name := "line", desc := "()V" } : Jvm.MethodName) prog_10_method_3_code (5 : Nat) (Option.none : Option Jvm.ClassFile.FieldType)) ∈ lw_all := lw_g (lw_at lw_m3 13 rfl) rfl
theorem q619 : (Jvm.Cond.methodLink "AskedNames$LogReader" (24 : Nat) ({ cls := "AskedNames$LogReader", name := "here", desc := "()I" } : Jvm.MethodName)) ∈ lw_all := lw_g (lw_at lw_m3 14 rfl) rfl
theorem q620 : (Jvm.Cond.sameMethod "AskedNames$LogReader" "AskedNames$Reader" "here" "()I") ∈ lw_all := lw_g (lw_at lw_m3 15 rfl) rfl
theorem q622 : (Jvm.Cond.selects "AskedNames$LogReader" ({ cls := "AskedNames$LogReader", name := "here", desc := "()I" } : Jvm.MethodName) ({ cls := "AskedNames$Reader", name := "here", desc := "()I" } : Jvm.MethodName)) ∈ lw_all := lw_g (lw_at lw_m3 17 rfl) rfl
theorem q625 : (Jvm.Cond.fieldLink "AskedNames$LogReader" (28 : Nat) "AskedNames$LogReader" "NAMES" "[Ljava/lang/String;") ∈ lw_all := lw_g (lw_at lw_m3 20 rfl) rfl
theorem q626 : (Jvm.Cond.laysStatic "AskedNames$LogReader" "NAMES" "[Ljava/lang/String;") ∈ lw_tbl := lw_at lw_m3 21 rfl
theorem q627 : (Jvm.Cond.methodLink "AskedNames$LogReader" (32 : Nat) ({ cls := "AskedNames$LogReader", name := "word", desc := "([Ljava/lang/String;)I" } : Jvm.MethodName)) ∈ lw_all := lw_g (lw_at lw_m3 22 rfl) rfl
theorem q628 : (Jvm.Cond.sameMethod "AskedNames$LogReader" "AskedNames$Reader" "word" "([Ljava/lang/String;)I") ∈ lw_all := lw_g (lw_at lw_m3 23 rfl) rfl
theorem q630 : (Jvm.Cond.selects "AskedNames$LogReader" ({ cls := "AskedNames$LogReader", name := "word", desc := "([Ljava/lang/String;)I" } : Jvm.MethodName) ({ cls := "AskedNames$Reader", name := "word", desc := "([Ljava/lang/String;)I" } : Jvm.MethodName)) ∈ lw_all := lw_g (lw_at lw_m3 25 rfl) rfl
theorem q644 : (Jvm.Cond.selects "AskedNames$LogReader" ({ cls := "AskedNames$Reader", name := "wrong", desc := "()LAskedNames$Fault;" } : Jvm.MethodName) ({ cls := "AskedNames$Reader", name := "wrong", desc := "()LAskedNames$Fault;" } : Jvm.MethodName)) ∈ lw_all := lw_g (lw_at lw_m3 39 rfl) rfl
theorem q718 : (Jvm.Cond.methodLink "AskedNames$LogReader" (36 : Nat) ({ cls := "java/util/ArrayList", name := "size", desc := "()I" } : Jvm.MethodName)) ∈ lw_all := lw_g (lw_at lw_m3 113 rfl) rfl
theorem q719 : (Jvm.Cond.methodLink "AskedNames$LogReader" (39 : Nat) ({ cls := "AskedNames$LogReader", name := "also", desc := "(II)V" } : Jvm.MethodName)) ∈ lw_all := lw_g (lw_at lw_m3 114 rfl) rfl
theorem q720 : (Jvm.Cond.sameMethod "AskedNames$LogReader" "AskedNames$Reader" "also" "(II)V") ∈ lw_all := lw_g (lw_at lw_m3 115 rfl) rfl
theorem q722 : (Jvm.Cond.selects "AskedNames$LogReader" ({ cls := "AskedNames$LogReader", name := "also", desc := "(II)V" } : Jvm.MethodName) ({ cls := "AskedNames$Reader", name := "also", desc := "(II)V" } : Jvm.MethodName)) ∈ lw_all := lw_g (lw_at lw_m3 117 rfl) rfl
theorem q725 : (Jvm.Cond.methodLink "AskedNames$LogReader" (43 : Nat) ({ cls := "AskedNames$LogReader", name := "number", desc := "(II)I" } : Jvm.MethodName)) ∈ lw_all := lw_g (lw_at lw_m3 120 rfl) rfl
theorem q726 : (Jvm.Cond.sameMethod "AskedNames$LogReader" "AskedNames$Reader" "number" "(II)I") ∈ lw_all := lw_g (lw_at lw_m3 121 rfl) rfl
theorem q728 : (Jvm.Cond.selects "AskedNames$LogReader" ({ cls := "AskedNames$LogReader", name := "number", desc := "(II)I" } : Jvm.MethodName) ({ cls := "AskedNames$Reader", name := "number", desc := "(II)I" } : Jvm.MethodName)) ∈ lw_all := lw_g (lw_at lw_m3 123 rfl) rfl
theorem q733 : (Jvm.Cond.methodLink "AskedNames$LogReader" (47 : Nat) ({ cls := "java/util/ArrayList", name := "add", desc := "(Ljava/lang/Object;)Z" } : Jvm.MethodName)) ∈ lw_all := lw_g (lw_at lw_m3 128 rfl) rfl
theorem q765 : (Jvm.Cond.selects "AskedNames$LogReader" ({ cls := "java/lang/Object", name := "getClass", desc := "()Ljava/lang/Class;" } : Jvm.MethodName) ({ cls := "java/lang/Object", name := "getClass", desc := "()Ljava/lang/Class;" } : Jvm.MethodName)) ∈ lw_all := lw_g (lw_at lw_m3 160 rfl) rfl
theorem q948 : (Jvm.Cond.selects "AskedNames$LogReader" ({ cls := "AskedNames$Reader", name := "atEnd", desc := "()I" } : Jvm.MethodName) ({ cls := "AskedNames$Reader", name := "atEnd", desc := "()I" } : Jvm.MethodName)) ∈ lw_all := lw_g (lw_at lw_m4 103 rfl) rfl
theorem q999 : (Jvm.Cond.instantiable "AskedNames$LogReader" (9 : Nat)) ∈ lw_all := lw_g (lw_at lw_m4 154 rfl) rfl
theorem q1001 : (Jvm.Cond.instanceMethod ({ cls := "AskedNames$LogReader", name := "<init>", desc := "([BI)V" } : Jvm.MethodName)) ∈ lw_all := lw_g (lw_at lw_m4 156 rfl) rfl
theorem q1002 : (Jvm.Cond.code ({ cls := "AskedNames$LogReader", name := "<init>", desc := "([BI)V" } : Jvm.MethodName) prog_10_method_1_code (3 : Nat) (Option.none : Option Jvm.ClassFile.FieldType)) ∈ lw_all := lw_g (lw_at lw_m4 157 rfl) rfl
theorem q1003 : (Jvm.Cond.methodLink "AskedNames$LogReader" (3 : Nat) ({ cls := "AskedNames$Reader", name := "<init>", desc := "([BI)V" } : Jvm.MethodName)) ∈ lw_all := lw_g (lw_at lw_m4 158 rfl) rfl
theorem q1004 : (Jvm.Cond.classLink "AskedNames$LogReader" (9 : Nat) "java/util/ArrayList") ∈ lw_all := lw_g (lw_at lw_m4 159 rfl) rfl
theorem q1005 : (Jvm.Cond.methodLink "AskedNames$LogReader" (11 : Nat) ({ cls := "java/util/ArrayList", name := "<init>", desc := "(I)V" } : Jvm.MethodName)) ∈ lw_all := lw_g (lw_at lw_m4 160 rfl) rfl
theorem q1006 : (Jvm.Cond.fieldLink "AskedNames$LogReader" (14 : Nat) "AskedNames$LogReader" "facts" "Ljava/util/ArrayList;") ∈ lw_all := lw_g (lw_at lw_m4 161 rfl) rfl
theorem q1007 : (Jvm.Cond.laysFinal "AskedNames$LogReader" "AskedNames$LogReader" "facts" "Ljava/util/ArrayList;") ∈ lw_all := lw_g (lw_at lw_m4 162 rfl) rfl
theorem q1008 : (Jvm.Cond.soleField "AskedNames$LogReader" "facts") ∈ lw_all := lw_g (lw_at lw_m4 163 rfl) rfl
theorem q1009 : (Jvm.Cond.laysFinal "AskedNames$LogReader" "AskedNames$Reader" "tape" "[B") ∈ lw_all := lw_g (lw_at lw_m4 164 rfl) rfl
theorem q1010 : (Jvm.Cond.laysFinal "AskedNames$LogReader" "AskedNames$Reader" "size" "I") ∈ lw_all := lw_g (lw_at lw_m4 165 rfl) rfl
theorem q1011 : (Jvm.Cond.lays "AskedNames$LogReader" "AskedNames$Reader" "next" "I") ∈ lw_all := lw_g (lw_at lw_m4 166 rfl) rfl
theorem q1012 : (Jvm.Cond.lays "AskedNames$LogReader" "AskedNames$Reader" "place" "I") ∈ lw_all := lw_g (lw_at lw_m4 167 rfl) rfl
theorem q1013 : (Jvm.Cond.lays "AskedNames$LogReader" "AskedNames$Reader" "value" "I") ∈ lw_all := lw_g (lw_at lw_m4 168 rfl) rfl
theorem q1014 : (Jvm.Cond.lays "AskedNames$LogReader" "AskedNames$Reader" "token" "LAskedNames$Token;") ∈ lw_all := lw_g (lw_at lw_m4 169 rfl) rfl
theorem q1015 : (Jvm.Cond.lays "AskedNames$LogReader" "AskedNames$Reader" "text" "Ljava/lang/String;") ∈ lw_all := lw_g (lw_at lw_m4 170 rfl) rfl
theorem q1016 : (Jvm.Cond.lays "AskedNames$LogReader" "AskedNames$Reader" "also" "LAskedNames$Fault;") ∈ lw_all := lw_g (lw_at lw_m4 171 rfl) rfl
theorem q1017 : (Jvm.Cond.superclass "AskedNames$LogReader" "AskedNames$Reader") ∈ lw_all := lw_g (lw_at lw_m4 172 rfl) rfl
theorem q1019 : (Jvm.Cond.instanceMethod ({ cls := "AskedNames$LogReader", name := "read", desc := "()Ljava/util/ArrayList;" } : Jvm.MethodName)) ∈ lw_all := lw_g (lw_at lw_m4 174 rfl) rfl
theorem q1020 : (Jvm.Cond.selects "AskedNames$LogReader" ({ cls := "AskedNames$LogReader", name := "read", desc := "()Ljava/util/ArrayList;" } : Jvm.MethodName) ({ cls := "AskedNames$LogReader", name := "read", desc := "()Ljava/util/ArrayList;" } : Jvm.MethodName)) ∈ lw_all := lw_g (lw_at lw_m4 175 rfl) rfl
theorem q1021 : (Jvm.Cond.code ({ cls := "AskedNames$LogReader", name := "read", desc := "()Ljava/util/ArrayList;" } : Jvm.MethodName) prog_10_method_2_code (1 : Nat) (Option.some (Jvm.ClassFile.FieldType.object "java/util/ArrayList"))) ∈ lw_all := lw_g (lw_at lw_m4 176 rfl) rfl
theorem q1022 : (Jvm.Cond.methodLink "AskedNames$LogReader" (20 : Nat) ({ cls := "AskedNames$LogReader", name := "lines", desc := "()V" } : Jvm.MethodName)) ∈ lw_all := lw_g (lw_at lw_m4 177 rfl) rfl
theorem q1023 : (Jvm.Cond.sameMethod "AskedNames$LogReader" "AskedNames$Reader" "lines" "()V") ∈ lw_all := lw_g (lw_at lw_m4 178 rfl) rfl
theorem q1024 : (Jvm.Cond.selects "AskedNames$LogReader" ({ cls := "AskedNames$LogReader", name := "lines", desc := "()V" } : Jvm.MethodName) ({ cls := "AskedNames$Reader", name := "lines", desc := "()V" } : Jvm.MethodName)) ∈ lw_all := lw_g (lw_at lw_m4 179 rfl) rfl
theorem q2957 : (Jvm.Cond.selects "AskedNames$LogReader" ({ cls := "AskedNames$Reader", name := "also", desc := "(II)V" } : Jvm.MethodName) ({ cls := "AskedNames$Reader", name := "also", desc := "(II)V" } : Jvm.MethodName)) ∈ lw_all := lw_g (lw_at lw_m12 192 rfl) rfl
theorem q2962 : (Jvm.Cond.selects "AskedNames$LogReader" ({ cls := "AskedNames$Reader", name := "number", desc := "(II)I" } : Jvm.MethodName) ({ cls := "AskedNames$Reader", name := "number", desc := "(II)I" } : Jvm.MethodName)) ∈ lw_all := lw_g (lw_at lw_m12 197 rfl) rfl
theorem q2965 : (Jvm.Cond.selects "AskedNames$LogReader" ({ cls := "AskedNames$Reader", name := "node", desc := "()I" } : Jvm.MethodName) ({ cls := "AskedNames$Reader", name := "node", desc := "()I" } : Jvm.MethodName)) ∈ lw_all := lw_g (lw_at lw_m12 200 rfl) rfl
theorem q2986 : (Jvm.Cond.castable "AskedNames$LogReader" "java/lang/Object") ∈ lw_tbl := lw_at lw_m12 221 rfl
theorem q3016 : (Jvm.Cond.stringRef "AskedNames$LogReader" (53 : Nat) "lost") ∈ lw_tbl := lw_at lw_m13 11 rfl
theorem q3017 : (Jvm.Cond.stringRef "AskedNames$LogReader" (55 : Nat) "got") ∈ lw_tbl := lw_at lw_m13 12 rfl
theorem in_X6 : ∀ w ∈ wsX60, w ∈ lw_all := lw_in wsX60 [1009, 1010, 1011, 1012, 1013, 1014, 1015, 1016, 1007] (by decide +kernel) (by decide +kernel)

/-! AskedNames$Fault -/
set_option maxRecDepth 100000
def RX7 : String := "AskedNames$Fault"
def TX7 : u_T := fun k => match k with
  | 0 => ("java/lang/Throwable", "cause", "Ljava/lang/Throwable;", false)
  | 1 => ("java/lang/Throwable", "stackTrace", "[Ljava/lang/StackTraceElement;", false)
  | 2 => ("java/lang/Throwable", "suppressedExceptions", "Ljava/util/List;", false)
  | 3 => ("java/lang/Throwable", "detailMessage", "Ljava/lang/String;", false)
  | 4 => ("java/lang/Throwable", "backtrace", "Ljava/lang/Object;", false)
  | 5 => ("java/lang/Throwable", "depth", "I", false)
  | 6 => ("AskedNames$Fault", "kind", "I", true)
  | _ => ("AskedNames$Fault", "place", "I", true)
def tyX7 : Nat → FieldType := fun k => match k with
  | 0 => .object "java/lang/Throwable"
  | 1 => .array (.object "java/lang/StackTraceElement")
  | 2 => .object "java/util/List"
  | 3 => .object "java/lang/String"
  | 4 => .object "java/lang/Object"
  | 5 => .int
  | 6 => .int
  | _ => .int
abbrev wsX70 : List Cond := u_ws RX7 TX7 8
theorem nmX7 : ∀ a, a < 8 → ∀ b, b < 8 → a ≠ b → (TX7 a).2.1 ≠ (TX7 b).2.1 := by decide +kernel
theorem tyX7_ok : ∀ k, k < 8 → parseFieldDescriptor (TX7 k).2.2.1 = some (tyX7 k) := by decide +kernel
abbrev cX7_init : ByteArray := prog_7_method_1_code
def yX7_init : MethodName := ⟨RX7, "<init>", "(II)V"⟩
def dkwX7_init_0 : List UInt8 := [42, 183, 0, 1, 42, 27, 181, 0, 7, 42, 28, 181, 0, 13, 177]
abbrev dktX7_init_0 : List UInt8 := dkwX7_init_0 ++ []
theorem dksX7_init_0 : cX7_init.data.toList.drop 0 = dktX7_init_0 := by decide +kernel
theorem dX7_init_0 : decode cX7_init 0 = .ok (.aload_n 0, 1) := dk_42 (dk_at dksX7_init_0 0 rfl rfl)
theorem dX7_init_1 : decode cX7_init 1 = .ok (.invokespecial 1, 3) := dk_183 0 1 (dk_at dksX7_init_0 1 rfl rfl)
theorem dX7_init_4 : decode cX7_init 4 = .ok (.aload_n 0, 1) := dk_42 (dk_at dksX7_init_0 4 rfl rfl)
theorem dX7_init_5 : decode cX7_init 5 = .ok (.iload_n 1, 1) := dk_27 (dk_at dksX7_init_0 5 rfl rfl)
theorem dX7_init_6 : decode cX7_init 6 = .ok (.putfield 7, 3) := dk_181 0 7 (dk_at dksX7_init_0 6 rfl rfl)
theorem dX7_init_9 : decode cX7_init 9 = .ok (.aload_n 0, 1) := dk_42 (dk_at dksX7_init_0 9 rfl rfl)
theorem dX7_init_10 : decode cX7_init 10 = .ok (.iload_n 2, 1) := dk_28 (dk_at dksX7_init_0 10 rfl rfl)
theorem dX7_init_11 : decode cX7_init 11 = .ok (.putfield 13, 3) := dk_181 0 13 (dk_at dksX7_init_0 11 rfl rfl)
theorem dX7_init_14 : decode cX7_init 14 = .ok (.return_, 1) := dk_177 (dk_at dksX7_init_0 14 rfl rfl)
theorem q150 : (Jvm.Cond.initialized "AskedNames$Fault") ∈ lw_all := lw_g (lw_at lw_m1 25 rfl) rfl
theorem q649 : (Jvm.Cond.instantiable "AskedNames$Fault" (8 : Nat)) ∈ lw_all := lw_g (lw_at lw_m3 44 rfl) rfl
theorem q650 : (Jvm.Cond.castable "AskedNames$Fault" "AskedNames$Fault") ∈ lw_tbl := lw_at lw_m3 45 rfl
theorem q655 : (Jvm.Cond.selects "AskedNames$Fault" ({ cls := "java/lang/Throwable", name := "fillInStackTrace", desc := "(I)Ljava/lang/Throwable;" } : Jvm.MethodName) ({ cls := "java/lang/Throwable", name := "fillInStackTrace", desc := "(I)Ljava/lang/Throwable;" } : Jvm.MethodName)) ∈ lw_all := lw_g (lw_at lw_m3 50 rfl) rfl
theorem q656 : (Jvm.Cond.selects "AskedNames$Fault" ({ cls := "java/lang/Throwable", name := "fillInStackTrace", desc := "()Ljava/lang/Throwable;" } : Jvm.MethodName) ({ cls := "java/lang/Throwable", name := "fillInStackTrace", desc := "()Ljava/lang/Throwable;" } : Jvm.MethodName)) ∈ lw_all := lw_g (lw_at lw_m3 51 rfl) rfl
theorem q657 : (Jvm.Cond.lays "AskedNames$Fault" "java/lang/Throwable" "cause" "Ljava/lang/Throwable;") ∈ lw_all := lw_g (lw_at lw_m3 52 rfl) rfl
theorem q659 : (Jvm.Cond.lays "AskedNames$Fault" "java/lang/Throwable" "stackTrace" "[Ljava/lang/StackTraceElement;") ∈ lw_all := lw_g (lw_at lw_m3 54 rfl) rfl
theorem q661 : (Jvm.Cond.lays "AskedNames$Fault" "java/lang/Throwable" "suppressedExceptions" "Ljava/util/List;") ∈ lw_all := lw_g (lw_at lw_m3 56 rfl) rfl
theorem q663 : (Jvm.Cond.lays "AskedNames$Fault" "java/lang/Throwable" "detailMessage" "Ljava/lang/String;") ∈ lw_all := lw_g (lw_at lw_m3 58 rfl) rfl
theorem q665 : (Jvm.Cond.lays "AskedNames$Fault" "java/lang/Throwable" "backtrace" "Ljava/lang/Object;") ∈ lw_all := lw_g (lw_at lw_m3 60 rfl) rfl
theorem q689 : (Jvm.Cond.instanceMethod ({ cls := "AskedNames$Fault", name := "<init>", desc := "(II)V" } : Jvm.MethodName)) ∈ lw_all := lw_g (lw_at lw_m3 84 rfl) rfl
theorem q690 : (Jvm.Cond.code ({ cls := "AskedNames$Fault", name := "<init>", desc := "(II)V" } : Jvm.MethodName) prog_7_method_1_code (3 : Nat) (Option.none : Option Jvm.ClassFile.FieldType)) ∈ lw_all := lw_g (lw_at lw_m3 85 rfl) rfl
theorem q691 : (Jvm.Cond.methodLink "AskedNames$Fault" (1 : Nat) ({ cls := "java/lang/Exception", name := "<init>", desc := "()V" } : Jvm.MethodName)) ∈ lw_all := lw_g (lw_at lw_m3 86 rfl) rfl
theorem q695 : (Jvm.Cond.fieldLink "AskedNames$Fault" (7 : Nat) "AskedNames$Fault" "kind" "I") ∈ lw_all := lw_g (lw_at lw_m3 90 rfl) rfl
theorem q698 : (Jvm.Cond.fieldLink "AskedNames$Fault" (13 : Nat) "AskedNames$Fault" "place" "I") ∈ lw_all := lw_g (lw_at lw_m3 93 rfl) rfl
theorem q706 : (Jvm.Cond.laysFinal "AskedNames$Fault" "AskedNames$Fault" "kind" "I") ∈ lw_all := lw_g (lw_at lw_m3 101 rfl) rfl
theorem q707 : (Jvm.Cond.soleField "AskedNames$Fault" "kind") ∈ lw_all := lw_g (lw_at lw_m3 102 rfl) rfl
theorem q708 : (Jvm.Cond.laysFinal "AskedNames$Fault" "AskedNames$Fault" "place" "I") ∈ lw_all := lw_g (lw_at lw_m3 103 rfl) rfl
theorem q709 : (Jvm.Cond.soleField "AskedNames$Fault" "place") ∈ lw_all := lw_g (lw_at lw_m3 104 rfl) rfl
theorem q714 : (Jvm.Cond.lays "AskedNames$Fault" "java/lang/Throwable" "depth" "I") ∈ lw_all := lw_g (lw_at lw_m3 109 rfl) rfl
theorem q717 : (Jvm.Cond.superclass "AskedNames$Fault" "java/lang/Exception") ∈ lw_all := lw_g (lw_at lw_m3 112 rfl) rfl
theorem q762 : (Jvm.Cond.selects "AskedNames$Fault" ({ cls := "java/lang/Object", name := "getClass", desc := "()Ljava/lang/Class;" } : Jvm.MethodName) ({ cls := "java/lang/Object", name := "getClass", desc := "()Ljava/lang/Class;" } : Jvm.MethodName)) ∈ lw_all := lw_g (lw_at lw_m3 157 rfl) rfl
theorem q1842 : (Jvm.Cond.selects "AskedNames$Fault" ({ cls := "java/lang/Throwable", name := "getCause", desc := "()Ljava/lang/Throwable;" } : Jvm.MethodName) ({ cls := "java/lang/Throwable", name := "getCause", desc := "()Ljava/lang/Throwable;" } : Jvm.MethodName)) ∈ lw_all := lw_g (lw_at lw_m8 37 rfl) rfl
theorem q2983 : (Jvm.Cond.castable "AskedNames$Fault" "java/lang/Object") ∈ lw_tbl := lw_at lw_m12 218 rfl
theorem in_X7 : ∀ w ∈ wsX70, w ∈ lw_all := lw_in wsX70 [657, 659, 661, 663, 665, 714, 706, 708] (by decide +kernel) (by decide +kernel)

/-! AskedNames$Route -/
set_option maxRecDepth 100000
def RX8 : String := "AskedNames$Route"
def TX8 : u_T := fun k => match k with
  | 0 => ("AskedNames$Route", "node", "I", true)
  | 1 => ("AskedNames$Route", "to", "I", true)
  | 2 => ("AskedNames$Route", "cost", "I", true)
  | _ => ("AskedNames$Route", "name", "Ljava/lang/String;", true)
def tyX8 : Nat → FieldType := fun k => match k with
  | 0 => .int
  | 1 => .int
  | 2 => .int
  | _ => .object "java/lang/String"
abbrev wsX80 : List Cond := u_ws RX8 TX8 4
theorem nmX8 : ∀ a, a < 4 → ∀ b, b < 4 → a ≠ b → (TX8 a).2.1 ≠ (TX8 b).2.1 := by decide +kernel
theorem tyX8_ok : ∀ k, k < 4 → parseFieldDescriptor (TX8 k).2.2.1 = some (tyX8 k) := by decide +kernel
abbrev cX8_init : ByteArray := prog_19_method_1_code
def yX8_init : MethodName := ⟨RX8, "<init>", "(ILjava/lang/String;II)V"⟩
def dkwX8_init_1 : List UInt8 := [181, 0, 20, 177]
abbrev dktX8_init_1 : List UInt8 := dkwX8_init_1 ++ []
def dkwX8_init_0 : List UInt8 := [42, 183, 0, 1, 42, 27, 181, 0, 7, 42, 44, 181, 0, 13, 42, 29, 181, 0, 17, 42, 21, 4]
abbrev dktX8_init_0 : List UInt8 := dkwX8_init_0 ++ dktX8_init_1
theorem dksX8_init_0 : cX8_init.data.toList.drop 0 = dktX8_init_0 := by decide +kernel
theorem dksX8_init_1 : cX8_init.data.toList.drop 22 = dktX8_init_1 := dk_seg dksX8_init_0 22 rfl rfl
theorem dX8_init_0 : decode cX8_init 0 = .ok (.aload_n 0, 1) := dk_42 (dk_at dksX8_init_0 0 rfl rfl)
theorem dX8_init_1 : decode cX8_init 1 = .ok (.invokespecial 1, 3) := dk_183 0 1 (dk_at dksX8_init_0 1 rfl rfl)
theorem dX8_init_4 : decode cX8_init 4 = .ok (.aload_n 0, 1) := dk_42 (dk_at dksX8_init_0 4 rfl rfl)
theorem dX8_init_5 : decode cX8_init 5 = .ok (.iload_n 1, 1) := dk_27 (dk_at dksX8_init_0 5 rfl rfl)
theorem dX8_init_6 : decode cX8_init 6 = .ok (.putfield 7, 3) := dk_181 0 7 (dk_at dksX8_init_0 6 rfl rfl)
theorem dX8_init_9 : decode cX8_init 9 = .ok (.aload_n 0, 1) := dk_42 (dk_at dksX8_init_0 9 rfl rfl)
theorem dX8_init_10 : decode cX8_init 10 = .ok (.aload_n 2, 1) := dk_44 (dk_at dksX8_init_0 10 rfl rfl)
theorem dX8_init_11 : decode cX8_init 11 = .ok (.putfield 13, 3) := dk_181 0 13 (dk_at dksX8_init_0 11 rfl rfl)
theorem dX8_init_14 : decode cX8_init 14 = .ok (.aload_n 0, 1) := dk_42 (dk_at dksX8_init_0 14 rfl rfl)
theorem dX8_init_15 : decode cX8_init 15 = .ok (.iload_n 3, 1) := dk_29 (dk_at dksX8_init_0 15 rfl rfl)
theorem dX8_init_16 : decode cX8_init 16 = .ok (.putfield 17, 3) := dk_181 0 17 (dk_at dksX8_init_0 16 rfl rfl)
theorem dX8_init_19 : decode cX8_init 19 = .ok (.aload_n 0, 1) := dk_42 (dk_at dksX8_init_0 19 rfl rfl)
theorem dX8_init_20 : decode cX8_init 20 = .ok (.iload 4, 2) := dk_21 4 (dk_at dksX8_init_0 20 rfl rfl)
theorem dX8_init_22 : decode cX8_init 22 = .ok (.putfield 20, 3) := dk_181 0 20 (dk_at dksX8_init_1 0 rfl rfl)
theorem dX8_init_25 : decode cX8_init 25 = .ok (.return_, 1) := dk_177 (dk_at dksX8_init_1 3 rfl rfl)
abbrev cX8_isLike : ByteArray := prog_19_method_2_code
def yX8_isLike : MethodName := ⟨RX8, "isLike", "(LAskedNames$Route;)Z"⟩
def dkwX8_isLike_1 : List UInt8 := [180, 0, 13, 43, 180, 0, 13, 182, 0, 23, 153, 0, 7, 4, 167, 0, 4, 3, 172]
abbrev dktX8_isLike_1 : List UInt8 := dkwX8_isLike_1 ++ []
def dkwX8_isLike_0 : List UInt8 := [42, 180, 0, 7, 43, 180, 0, 7, 160, 0, 32, 42, 180, 0, 17, 43, 180, 0, 17, 160, 0, 21, 42]
abbrev dktX8_isLike_0 : List UInt8 := dkwX8_isLike_0 ++ dktX8_isLike_1
theorem dksX8_isLike_0 : cX8_isLike.data.toList.drop 0 = dktX8_isLike_0 := by decide +kernel
theorem dksX8_isLike_1 : cX8_isLike.data.toList.drop 23 = dktX8_isLike_1 := dk_seg dksX8_isLike_0 23 rfl rfl
theorem dX8_isLike_0 : decode cX8_isLike 0 = .ok (.aload_n 0, 1) := dk_42 (dk_at dksX8_isLike_0 0 rfl rfl)
theorem dX8_isLike_1 : decode cX8_isLike 1 = .ok (.getfield 7, 3) := dk_180 0 7 (dk_at dksX8_isLike_0 1 rfl rfl)
theorem dX8_isLike_4 : decode cX8_isLike 4 = .ok (.aload_n 1, 1) := dk_43 (dk_at dksX8_isLike_0 4 rfl rfl)
theorem dX8_isLike_5 : decode cX8_isLike 5 = .ok (.getfield 7, 3) := dk_180 0 7 (dk_at dksX8_isLike_0 5 rfl rfl)
theorem dX8_isLike_8 : decode cX8_isLike 8 = .ok (.if_icmp .ne 32, 3) := dk_160 0 32 (dk_at dksX8_isLike_0 8 rfl rfl)
theorem dX8_isLike_11 : decode cX8_isLike 11 = .ok (.aload_n 0, 1) := dk_42 (dk_at dksX8_isLike_0 11 rfl rfl)
theorem dX8_isLike_12 : decode cX8_isLike 12 = .ok (.getfield 17, 3) := dk_180 0 17 (dk_at dksX8_isLike_0 12 rfl rfl)
theorem dX8_isLike_15 : decode cX8_isLike 15 = .ok (.aload_n 1, 1) := dk_43 (dk_at dksX8_isLike_0 15 rfl rfl)
theorem dX8_isLike_16 : decode cX8_isLike 16 = .ok (.getfield 17, 3) := dk_180 0 17 (dk_at dksX8_isLike_0 16 rfl rfl)
theorem dX8_isLike_19 : decode cX8_isLike 19 = .ok (.if_icmp .ne 21, 3) := dk_160 0 21 (dk_at dksX8_isLike_0 19 rfl rfl)
theorem dX8_isLike_22 : decode cX8_isLike 22 = .ok (.aload_n 0, 1) := dk_42 (dk_at dksX8_isLike_0 22 rfl rfl)
theorem dX8_isLike_23 : decode cX8_isLike 23 = .ok (.getfield 13, 3) := dk_180 0 13 (dk_at dksX8_isLike_1 0 rfl rfl)
theorem dX8_isLike_26 : decode cX8_isLike 26 = .ok (.aload_n 1, 1) := dk_43 (dk_at dksX8_isLike_1 3 rfl rfl)
theorem dX8_isLike_27 : decode cX8_isLike 27 = .ok (.getfield 13, 3) := dk_180 0 13 (dk_at dksX8_isLike_1 4 rfl rfl)
theorem dX8_isLike_30 : decode cX8_isLike 30 = .ok (.invokevirtual 23, 3) := dk_182 0 23 (dk_at dksX8_isLike_1 7 rfl rfl)
theorem dX8_isLike_33 : decode cX8_isLike 33 = .ok (.ifCond .eq 7, 3) := dk_153 0 7 (dk_at dksX8_isLike_1 10 rfl rfl)
theorem dX8_isLike_36 : decode cX8_isLike 36 = .ok (.iconst 1, 1) := dk_4 (dk_at dksX8_isLike_1 13 rfl rfl)
theorem dX8_isLike_37 : decode cX8_isLike 37 = .ok (.goto 4, 3) := dk_167 0 4 (dk_at dksX8_isLike_1 14 rfl rfl)
theorem dX8_isLike_40 : decode cX8_isLike 40 = .ok (.iconst 0, 1) := dk_3 (dk_at dksX8_isLike_1 17 rfl rfl)
theorem dX8_isLike_41 : decode cX8_isLike 41 = .ok (.ireturn, 1) := dk_172 (dk_at dksX8_isLike_1 18 rfl rfl)
theorem q151 : (Jvm.Cond.initialized "AskedNames$Route") ∈ lw_all := lw_g (lw_at lw_m1 26 rfl) rfl
theorem q773 : (Jvm.Cond.selects "AskedNames$Route" ({ cls := "java/lang/Object", name := "getClass", desc := "()Ljava/lang/Class;" } : Jvm.MethodName) ({ cls := "java/lang/Object", name := "getClass", desc := "()Ljava/lang/Class;" } : Jvm.MethodName)) ∈ lw_all := lw_g (lw_at lw_m3 168 rfl) rfl
theorem q850 : (Jvm.Cond.instantiable "AskedNames$Route" (4 : Nat)) ∈ lw_all := lw_g (lw_at lw_m4 5 rfl) rfl
theorem q852 : (Jvm.Cond.instanceMethod ({ cls := "AskedNames$Route", name := "<init>", desc := "(ILjava/lang/String;II)V" } : Jvm.MethodName)) ∈ lw_all := lw_g (lw_at lw_m4 7 rfl) rfl
theorem q853 : (Jvm.Cond.code ({ cls := "AskedNames$Route", name := "<init>", desc := "(ILjava/lang/String;II)V" } : Jvm.MethodName) prog_19_method_1_code (5 : Nat) (Option.none : Option Jvm.ClassFile.FieldType)) ∈ lw_all := lw_g (lw_at lw_m4 8 rfl) rfl
theorem q854 : (Jvm.Cond.methodLink "AskedNames$Route" (1 : Nat) ({ cls := "java/lang/Object", name := "<init>", desc := "()V" } : Jvm.MethodName)) ∈ lw_all := lw_g (lw_at lw_m4 9 rfl) rfl
theorem q855 : (Jvm.Cond.fieldLink "AskedNames$Route" (7 : Nat) "AskedNames$Route" "node" "I") ∈ lw_all := lw_g (lw_at lw_m4 10 rfl) rfl
theorem q859 : (Jvm.Cond.fieldLink "AskedNames$Route" (17 : Nat) "AskedNames$Route" "to" "I") ∈ lw_all := lw_g (lw_at lw_m4 14 rfl) rfl
theorem q863 : (Jvm.Cond.fieldLink "AskedNames$Route" (20 : Nat) "AskedNames$Route" "cost" "I") ∈ lw_all := lw_g (lw_at lw_m4 18 rfl) rfl
theorem q866 : (Jvm.Cond.fieldLink "AskedNames$Route" (13 : Nat) "AskedNames$Route" "name" "Ljava/lang/String;") ∈ lw_all := lw_g (lw_at lw_m4 21 rfl) rfl
theorem q871 : (Jvm.Cond.laysFinal "AskedNames$Route" "AskedNames$Route" "node" "I") ∈ lw_all := lw_g (lw_at lw_m4 26 rfl) rfl
theorem q872 : (Jvm.Cond.soleField "AskedNames$Route" "node") ∈ lw_all := lw_g (lw_at lw_m4 27 rfl) rfl
theorem q873 : (Jvm.Cond.laysFinal "AskedNames$Route" "AskedNames$Route" "to" "I") ∈ lw_all := lw_g (lw_at lw_m4 28 rfl) rfl
theorem q874 : (Jvm.Cond.soleField "AskedNames$Route" "to") ∈ lw_all := lw_g (lw_at lw_m4 29 rfl) rfl
theorem q875 : (Jvm.Cond.laysFinal "AskedNames$Route" "AskedNames$Route" "cost" "I") ∈ lw_all := lw_g (lw_at lw_m4 30 rfl) rfl
theorem q876 : (Jvm.Cond.soleField "AskedNames$Route" "cost") ∈ lw_all := lw_g (lw_at lw_m4 31 rfl) rfl
theorem q877 : (Jvm.Cond.laysFinal "AskedNames$Route" "AskedNames$Route" "name" "Ljava/lang/String;") ∈ lw_all := lw_g (lw_at lw_m4 32 rfl) rfl
theorem q878 : (Jvm.Cond.soleField "AskedNames$Route" "name") ∈ lw_all := lw_g (lw_at lw_m4 33 rfl) rfl
theorem q879 : (Jvm.Cond.superclass "AskedNames$Route" "java/lang/Object") ∈ lw_all := lw_g (lw_at lw_m4 34 rfl) rfl
theorem q1482 : (Jvm.Cond.instanceMethod ({ cls := "AskedNames$Route", name := "isLike", desc := "(LAskedNames$Route;)Z" } : Jvm.MethodName)) ∈ lw_all := lw_g (lw_at lw_m6 157 rfl) rfl
theorem q1483 : (Jvm.Cond.selects "AskedNames$Route" ({ cls := "AskedNames$Route", name := "isLike", desc := "(LAskedNames$Route;)Z" } : Jvm.MethodName) ({ cls := "AskedNames$Route", name := "isLike", desc := "(LAskedNames$Route;)Z" } : Jvm.MethodName)) ∈ lw_all := lw_g (lw_at lw_m6 158 rfl) rfl
theorem q1484 : (Jvm.Cond.code ({ cls := "AskedNames$Route", name := "isLike", desc := "(LAskedNames$Route;)Z" } : Jvm.MethodName) prog_19_method_2_code (2 : Nat) (Option.some Jvm.ClassFile.FieldType.boolean)) ∈ lw_all := lw_g (lw_at lw_m6 159 rfl) rfl
theorem q1485 : (Jvm.Cond.methodLink "AskedNames$Route" (23 : Nat) ({ cls := "java/lang/String", name := "equals", desc := "(Ljava/lang/Object;)Z" } : Jvm.MethodName)) ∈ lw_all := lw_g (lw_at lw_m6 160 rfl) rfl
theorem q2984 : (Jvm.Cond.castable "AskedNames$Route" "java/lang/Object") ∈ lw_tbl := lw_at lw_m12 219 rfl
theorem in_X8 : ∀ w ∈ wsX80, w ∈ lw_all := lw_in wsX80 [871, 873, 875, 877] (by decide +kernel) (by decide +kernel)

/-! AskedNames$RunReader -/
set_option maxRecDepth 100000
def RX9 : String := "AskedNames$RunReader"
def TX9 : u_T := fun k => match k with
  | 0 => ("AskedNames$Reader", "tape", "[B", true)
  | 1 => ("AskedNames$Reader", "size", "I", true)
  | 2 => ("AskedNames$Reader", "next", "I", false)
  | 3 => ("AskedNames$Reader", "place", "I", false)
  | 4 => ("AskedNames$Reader", "value", "I", false)
  | 5 => ("AskedNames$Reader", "token", "LAskedNames$Token;", false)
  | 6 => ("AskedNames$Reader", "text", "Ljava/lang/String;", false)
  | 7 => ("AskedNames$Reader", "also", "LAskedNames$Fault;", false)
  | _ => ("AskedNames$RunReader", "deeds", "Ljava/util/ArrayList;", true)
def tyX9 : Nat → FieldType := fun k => match k with
  | 0 => .array .byte
  | 1 => .int
  | 2 => .int
  | 3 => .int
  | 4 => .int
  | 5 => .object "AskedNames$Token"
  | 6 => .object "java/lang/String"
  | 7 => .object "AskedNames$Fault"
  | _ => .object "java/util/ArrayList"
abbrev wsX90 : List Cond := u_ws RX9 TX9 9
theorem nmX9 : ∀ a, a < 9 → ∀ b, b < 9 → a ≠ b → (TX9 a).2.1 ≠ (TX9 b).2.1 := by decide +kernel
theorem tyX9_ok : ∀ k, k < 9 → parseFieldDescriptor (TX9 k).2.2.1 = some (tyX9 k) := by decide +kernel
abbrev cX9_line : ByteArray := prog_21_method_3_code
def yX9_line : MethodName := ⟨RX9, "line", "()V"⟩
def dkwX9_line_5 : List UInt8 := [2, 167, 0, 8, 42, 29, 182, 0, 71, 25, 5, 183, 0, 75, 182, 0, 78, 87, 177]
abbrev dktX9_line_5 : List UInt8 := dkwX9_line_5 ++ []
def dkwX9_line_4 : List UInt8 := [58, 5, 42, 180, 0, 14, 187, 0, 69, 89, 44, 29, 21, 4, 154, 0, 10, 44, 178, 0, 46, 166, 0, 7]
abbrev dktX9_line_4 : List UInt8 := dkwX9_line_4 ++ dktX9_line_5
def dkwX9_line_3 : List UInt8 := [166, 0, 7, 4, 167, 0, 4, 3, 54, 4, 21, 4, 153, 0, 10, 42, 182, 0, 65, 167, 0, 4, 1]
abbrev dktX9_line_3 : List UInt8 := dkwX9_line_3 ++ dktX9_line_4
def dkwX9_line_2 : List UInt8 := [182, 0, 52, 167, 0, 7, 42, 182, 0, 56, 62, 44, 178, 0, 59, 165, 0, 10, 44, 178, 0, 62]
abbrev dktX9_line_2 : List UInt8 := dkwX9_line_2 ++ dktX9_line_3
def dkwX9_line_1 : List UInt8 := [16, 40, 161, 0, 9, 42, 6, 27, 182, 0, 42, 44, 178, 0, 46, 166, 0, 13, 42, 4, 16, 20]
abbrev dktX9_line_1 : List UInt8 := dkwX9_line_1 ++ dktX9_line_2
def dkwX9_line_0 : List UInt8 := [42, 182, 0, 23, 60, 178, 0, 27, 42, 178, 0, 31, 182, 0, 35, 50, 77, 42, 180, 0, 14, 182, 0, 39]
abbrev dktX9_line_0 : List UInt8 := dkwX9_line_0 ++ dktX9_line_1
theorem dksX9_line_0 : cX9_line.data.toList.drop 0 = dktX9_line_0 := by decide +kernel
theorem dksX9_line_1 : cX9_line.data.toList.drop 24 = dktX9_line_1 := dk_seg dksX9_line_0 24 rfl rfl
theorem dksX9_line_2 : cX9_line.data.toList.drop 46 = dktX9_line_2 := dk_seg dksX9_line_1 22 rfl rfl
theorem dksX9_line_3 : cX9_line.data.toList.drop 68 = dktX9_line_3 := dk_seg dksX9_line_2 22 rfl rfl
theorem dksX9_line_4 : cX9_line.data.toList.drop 91 = dktX9_line_4 := dk_seg dksX9_line_3 23 rfl rfl
theorem dksX9_line_5 : cX9_line.data.toList.drop 115 = dktX9_line_5 := dk_seg dksX9_line_4 24 rfl rfl
theorem dX9_line_0 : decode cX9_line 0 = .ok (.aload_n 0, 1) := dk_42 (dk_at dksX9_line_0 0 rfl rfl)
theorem dX9_line_1 : decode cX9_line 1 = .ok (.invokevirtual 23, 3) := dk_182 0 23 (dk_at dksX9_line_0 1 rfl rfl)
theorem dX9_line_4 : decode cX9_line 4 = .ok (.istore_n 1, 1) := dk_60 (dk_at dksX9_line_0 4 rfl rfl)
theorem dX9_line_5 : decode cX9_line 5 = .ok (.getstatic 27, 3) := dk_178 0 27 (dk_at dksX9_line_0 5 rfl rfl)
theorem dX9_line_8 : decode cX9_line 8 = .ok (.aload_n 0, 1) := dk_42 (dk_at dksX9_line_0 8 rfl rfl)
theorem dX9_line_9 : decode cX9_line 9 = .ok (.getstatic 31, 3) := dk_178 0 31 (dk_at dksX9_line_0 9 rfl rfl)
theorem dX9_line_12 : decode cX9_line 12 = .ok (.invokevirtual 35, 3) := dk_182 0 35 (dk_at dksX9_line_0 12 rfl rfl)
theorem dX9_line_15 : decode cX9_line 15 = .ok (.aaload, 1) := dk_50 (dk_at dksX9_line_0 15 rfl rfl)
theorem dX9_line_16 : decode cX9_line 16 = .ok (.astore_n 2, 1) := dk_77 (dk_at dksX9_line_0 16 rfl rfl)
theorem dX9_line_17 : decode cX9_line 17 = .ok (.aload_n 0, 1) := dk_42 (dk_at dksX9_line_0 17 rfl rfl)
theorem dX9_line_18 : decode cX9_line 18 = .ok (.getfield 14, 3) := dk_180 0 14 (dk_at dksX9_line_0 18 rfl rfl)
theorem dX9_line_21 : decode cX9_line 21 = .ok (.invokevirtual 39, 3) := dk_182 0 39 (dk_at dksX9_line_0 21 rfl rfl)
theorem dX9_line_24 : decode cX9_line 24 = .ok (.bipush 40, 2) := dk_16 40 (dk_at dksX9_line_1 0 rfl rfl)
theorem dX9_line_26 : decode cX9_line 26 = .ok (.if_icmp .lt 9, 3) := dk_161 0 9 (dk_at dksX9_line_1 2 rfl rfl)
theorem dX9_line_29 : decode cX9_line 29 = .ok (.aload_n 0, 1) := dk_42 (dk_at dksX9_line_1 5 rfl rfl)
theorem dX9_line_30 : decode cX9_line 30 = .ok (.iconst 3, 1) := dk_6 (dk_at dksX9_line_1 6 rfl rfl)
theorem dX9_line_31 : decode cX9_line 31 = .ok (.iload_n 1, 1) := dk_27 (dk_at dksX9_line_1 7 rfl rfl)
theorem dX9_line_32 : decode cX9_line 32 = .ok (.invokevirtual 42, 3) := dk_182 0 42 (dk_at dksX9_line_1 8 rfl rfl)
theorem dX9_line_35 : decode cX9_line 35 = .ok (.aload_n 2, 1) := dk_44 (dk_at dksX9_line_1 11 rfl rfl)
theorem dX9_line_36 : decode cX9_line 36 = .ok (.getstatic 46, 3) := dk_178 0 46 (dk_at dksX9_line_1 12 rfl rfl)
theorem dX9_line_39 : decode cX9_line 39 = .ok (.if_acmp .ne 13, 3) := dk_166 0 13 (dk_at dksX9_line_1 15 rfl rfl)
theorem dX9_line_42 : decode cX9_line 42 = .ok (.aload_n 0, 1) := dk_42 (dk_at dksX9_line_1 18 rfl rfl)
theorem dX9_line_43 : decode cX9_line 43 = .ok (.iconst 1, 1) := dk_4 (dk_at dksX9_line_1 19 rfl rfl)
theorem dX9_line_44 : decode cX9_line 44 = .ok (.bipush 20, 2) := dk_16 20 (dk_at dksX9_line_1 20 rfl rfl)
theorem dX9_line_46 : decode cX9_line 46 = .ok (.invokevirtual 52, 3) := dk_182 0 52 (dk_at dksX9_line_2 0 rfl rfl)
theorem dX9_line_49 : decode cX9_line 49 = .ok (.goto 7, 3) := dk_167 0 7 (dk_at dksX9_line_2 3 rfl rfl)
theorem dX9_line_52 : decode cX9_line 52 = .ok (.aload_n 0, 1) := dk_42 (dk_at dksX9_line_2 6 rfl rfl)
theorem dX9_line_53 : decode cX9_line 53 = .ok (.invokevirtual 56, 3) := dk_182 0 56 (dk_at dksX9_line_2 7 rfl rfl)
theorem dX9_line_56 : decode cX9_line 56 = .ok (.istore_n 3, 1) := dk_62 (dk_at dksX9_line_2 10 rfl rfl)
theorem dX9_line_57 : decode cX9_line 57 = .ok (.aload_n 2, 1) := dk_44 (dk_at dksX9_line_2 11 rfl rfl)
theorem dX9_line_58 : decode cX9_line 58 = .ok (.getstatic 59, 3) := dk_178 0 59 (dk_at dksX9_line_2 12 rfl rfl)
theorem dX9_line_61 : decode cX9_line 61 = .ok (.if_acmp .eq 10, 3) := dk_165 0 10 (dk_at dksX9_line_2 15 rfl rfl)
theorem dX9_line_64 : decode cX9_line 64 = .ok (.aload_n 2, 1) := dk_44 (dk_at dksX9_line_2 18 rfl rfl)
theorem dX9_line_65 : decode cX9_line 65 = .ok (.getstatic 62, 3) := dk_178 0 62 (dk_at dksX9_line_2 19 rfl rfl)
theorem dX9_line_68 : decode cX9_line 68 = .ok (.if_acmp .ne 7, 3) := dk_166 0 7 (dk_at dksX9_line_3 0 rfl rfl)
theorem dX9_line_71 : decode cX9_line 71 = .ok (.iconst 1, 1) := dk_4 (dk_at dksX9_line_3 3 rfl rfl)
theorem dX9_line_72 : decode cX9_line 72 = .ok (.goto 4, 3) := dk_167 0 4 (dk_at dksX9_line_3 4 rfl rfl)
theorem dX9_line_75 : decode cX9_line 75 = .ok (.iconst 0, 1) := dk_3 (dk_at dksX9_line_3 7 rfl rfl)
theorem dX9_line_76 : decode cX9_line 76 = .ok (.istore 4, 2) := dk_54 4 (dk_at dksX9_line_3 8 rfl rfl)
theorem dX9_line_78 : decode cX9_line 78 = .ok (.iload 4, 2) := dk_21 4 (dk_at dksX9_line_3 10 rfl rfl)
theorem dX9_line_80 : decode cX9_line 80 = .ok (.ifCond .eq 10, 3) := dk_153 0 10 (dk_at dksX9_line_3 12 rfl rfl)
theorem dX9_line_83 : decode cX9_line 83 = .ok (.aload_n 0, 1) := dk_42 (dk_at dksX9_line_3 15 rfl rfl)
theorem dX9_line_84 : decode cX9_line 84 = .ok (.invokevirtual 65, 3) := dk_182 0 65 (dk_at dksX9_line_3 16 rfl rfl)
theorem dX9_line_87 : decode cX9_line 87 = .ok (.goto 4, 3) := dk_167 0 4 (dk_at dksX9_line_3 19 rfl rfl)
theorem dX9_line_90 : decode cX9_line 90 = .ok (.aconst_null, 1) := dk_1 (dk_at dksX9_line_3 22 rfl rfl)
theorem dX9_line_91 : decode cX9_line 91 = .ok (.astore 5, 2) := dk_58 5 (dk_at dksX9_line_4 0 rfl rfl)
theorem dX9_line_93 : decode cX9_line 93 = .ok (.aload_n 0, 1) := dk_42 (dk_at dksX9_line_4 2 rfl rfl)
theorem dX9_line_94 : decode cX9_line 94 = .ok (.getfield 14, 3) := dk_180 0 14 (dk_at dksX9_line_4 3 rfl rfl)
theorem dX9_line_97 : decode cX9_line 97 = .ok (.new 69, 3) := dk_187 0 69 (dk_at dksX9_line_4 6 rfl rfl)
theorem dX9_line_100 : decode cX9_line 100 = .ok (.dup, 1) := dk_89 (dk_at dksX9_line_4 9 rfl rfl)
theorem dX9_line_101 : decode cX9_line 101 = .ok (.aload_n 2, 1) := dk_44 (dk_at dksX9_line_4 10 rfl rfl)
theorem dX9_line_102 : decode cX9_line 102 = .ok (.iload_n 3, 1) := dk_29 (dk_at dksX9_line_4 11 rfl rfl)
theorem dX9_line_103 : decode cX9_line 103 = .ok (.iload 4, 2) := dk_21 4 (dk_at dksX9_line_4 12 rfl rfl)
theorem dX9_line_105 : decode cX9_line 105 = .ok (.ifCond .ne 10, 3) := dk_154 0 10 (dk_at dksX9_line_4 14 rfl rfl)
theorem dX9_line_108 : decode cX9_line 108 = .ok (.aload_n 2, 1) := dk_44 (dk_at dksX9_line_4 17 rfl rfl)
theorem dX9_line_109 : decode cX9_line 109 = .ok (.getstatic 46, 3) := dk_178 0 46 (dk_at dksX9_line_4 18 rfl rfl)
theorem dX9_line_112 : decode cX9_line 112 = .ok (.if_acmp .ne 7, 3) := dk_166 0 7 (dk_at dksX9_line_4 21 rfl rfl)
theorem dX9_line_115 : decode cX9_line 115 = .ok (.iconst (-1), 1) := dk_2 (dk_at dksX9_line_5 0 rfl rfl)
theorem dX9_line_116 : decode cX9_line 116 = .ok (.goto 8, 3) := dk_167 0 8 (dk_at dksX9_line_5 1 rfl rfl)
theorem dX9_line_119 : decode cX9_line 119 = .ok (.aload_n 0, 1) := dk_42 (dk_at dksX9_line_5 4 rfl rfl)
theorem dX9_line_120 : decode cX9_line 120 = .ok (.iload_n 3, 1) := dk_29 (dk_at dksX9_line_5 5 rfl rfl)
theorem dX9_line_121 : decode cX9_line 121 = .ok (.invokevirtual 71, 3) := dk_182 0 71 (dk_at dksX9_line_5 6 rfl rfl)
theorem dX9_line_124 : decode cX9_line 124 = .ok (.aload 5, 2) := dk_25 5 (dk_at dksX9_line_5 9 rfl rfl)
theorem dX9_line_126 : decode cX9_line 126 = .ok (.invokespecial 75, 3) := dk_183 0 75 (dk_at dksX9_line_5 11 rfl rfl)
theorem dX9_line_129 : decode cX9_line 129 = .ok (.invokevirtual 78, 3) := dk_182 0 78 (dk_at dksX9_line_5 14 rfl rfl)
theorem dX9_line_132 : decode cX9_line 132 = .ok (.pop, 1) := dk_87 (dk_at dksX9_line_5 17 rfl rfl)
theorem dX9_line_133 : decode cX9_line 133 = .ok (.return_, 1) := dk_177 (dk_at dksX9_line_5 18 rfl rfl)
abbrev cX9_init : ByteArray := prog_21_method_1_code
def yX9_init : MethodName := ⟨RX9, "<init>", "([BI)V"⟩
def dkwX9_init_0 : List UInt8 := [42, 43, 28, 183, 0, 3, 42, 187, 0, 9, 89, 183, 0, 11, 181, 0, 14, 177]
abbrev dktX9_init_0 : List UInt8 := dkwX9_init_0 ++ []
theorem dksX9_init_0 : cX9_init.data.toList.drop 0 = dktX9_init_0 := by decide +kernel
theorem dX9_init_0 : decode cX9_init 0 = .ok (.aload_n 0, 1) := dk_42 (dk_at dksX9_init_0 0 rfl rfl)
theorem dX9_init_1 : decode cX9_init 1 = .ok (.aload_n 1, 1) := dk_43 (dk_at dksX9_init_0 1 rfl rfl)
theorem dX9_init_2 : decode cX9_init 2 = .ok (.iload_n 2, 1) := dk_28 (dk_at dksX9_init_0 2 rfl rfl)
theorem dX9_init_3 : decode cX9_init 3 = .ok (.invokespecial 3, 3) := dk_183 0 3 (dk_at dksX9_init_0 3 rfl rfl)
theorem dX9_init_6 : decode cX9_init 6 = .ok (.aload_n 0, 1) := dk_42 (dk_at dksX9_init_0 6 rfl rfl)
theorem dX9_init_7 : decode cX9_init 7 = .ok (.new 9, 3) := dk_187 0 9 (dk_at dksX9_init_0 7 rfl rfl)
theorem dX9_init_10 : decode cX9_init 10 = .ok (.dup, 1) := dk_89 (dk_at dksX9_init_0 10 rfl rfl)
theorem dX9_init_11 : decode cX9_init 11 = .ok (.invokespecial 11, 3) := dk_183 0 11 (dk_at dksX9_init_0 11 rfl rfl)
theorem dX9_init_14 : decode cX9_init 14 = .ok (.putfield 14, 3) := dk_181 0 14 (dk_at dksX9_init_0 14 rfl rfl)
theorem dX9_init_17 : decode cX9_init 17 = .ok (.return_, 1) := dk_177 (dk_at dksX9_init_0 17 rfl rfl)
abbrev cX9_read : ByteArray := prog_21_method_2_code
def yX9_read : MethodName := ⟨RX9, "read", "()Ljava/util/ArrayList;"⟩
def dkwX9_read_0 : List UInt8 := [42, 182, 0, 20, 42, 180, 0, 14, 176]
abbrev dktX9_read_0 : List UInt8 := dkwX9_read_0 ++ []
theorem dksX9_read_0 : cX9_read.data.toList.drop 0 = dktX9_read_0 := by decide +kernel
theorem dX9_read_0 : decode cX9_read 0 = .ok (.aload_n 0, 1) := dk_42 (dk_at dksX9_read_0 0 rfl rfl)
theorem dX9_read_1 : decode cX9_read 1 = .ok (.invokevirtual 20, 3) := dk_182 0 20 (dk_at dksX9_read_0 1 rfl rfl)
theorem dX9_read_4 : decode cX9_read 4 = .ok (.aload_n 0, 1) := dk_42 (dk_at dksX9_read_0 4 rfl rfl)
theorem dX9_read_5 : decode cX9_read 5 = .ok (.getfield 14, 3) := dk_180 0 14 (dk_at dksX9_read_0 5 rfl rfl)
theorem dX9_read_8 : decode cX9_read 8 = .ok (.areturn, 1) := dk_176 (dk_at dksX9_read_0 8 rfl rfl)
theorem q152 : (Jvm.Cond.initialized "AskedNames$RunReader") ∈ lw_all := lw_g (lw_at lw_m1 27 rfl) rfl
theorem q303 : (Jvm.Cond.selects "AskedNames$RunReader" ({ cls := "AskedNames$Reader", name := "step", desc := "()V" } : Jvm.MethodName) ({ cls := "AskedNames$Reader", name := "step", desc := "()V" } : Jvm.MethodName)) ∈ lw_all := lw_g (lw_at lw_m1 178 rfl) rfl
theorem q646 : (Jvm.Cond.selects "AskedNames$RunReader" ({ cls := "AskedNames$Reader", name := "wrong", desc := "()LAskedNames$Fault;" } : Jvm.MethodName) ({ cls := "AskedNames$Reader", name := "wrong", desc := "()LAskedNames$Fault;" } : Jvm.MethodName)) ∈ lw_all := lw_g (lw_at lw_m3 41 rfl) rfl
theorem q775 : (Jvm.Cond.selects "AskedNames$RunReader" ({ cls := "java/lang/Object", name := "getClass", desc := "()Ljava/lang/Class;" } : Jvm.MethodName) ({ cls := "java/lang/Object", name := "getClass", desc := "()Ljava/lang/Class;" } : Jvm.MethodName)) ∈ lw_all := lw_g (lw_at lw_m3 170 rfl) rfl
theorem q881 : (Jvm.Cond.selects "AskedNames$RunReader" ({ cls := "AskedNames$Reader", name := "line", desc := "()V" } : Jvm.MethodName) ({ cls := "AskedNames$RunReader", name := "line", desc := "()V" } : Jvm.MethodName)) ∈ lw_all := lw_g (lw_at lw_m4 36 rfl) rfl
theorem q882 : (Jvm.Cond.instanceMethod ({ cls := "AskedNames$RunReader", name := "line", desc := "()V" } : Jvm.MethodName)) ∈ lw_all := lw_g (lw_at lw_m4 37 rfl) rfl
theorem q883 : (Jvm.Cond.code ({ cls := "AskedNames$RunReader", name := "line", desc := "()V" } : Jvm.MethodName) prog_21_method_3_code (6 : Nat) (Option.none : Option Jvm.ClassFile.FieldType)) ∈ lw_all := lw_g (lw_at lw_m4 38 rfl) rfl
theorem q884 : (Jvm.Cond.methodLink "AskedNames$RunReader" (23 : Nat) ({ cls := "AskedNames$RunReader", name := "here", desc := "()I" } : Jvm.MethodName)) ∈ lw_all := lw_g (lw_at lw_m4 39 rfl) rfl
theorem q885 : (Jvm.Cond.sameMethod "AskedNames$RunReader" "AskedNames$Reader" "here" "()I") ∈ lw_all := lw_g (lw_at lw_m4 40 rfl) rfl
theorem q886 : (Jvm.Cond.selects "AskedNames$RunReader" ({ cls := "AskedNames$RunReader", name := "here", desc := "()I" } : Jvm.MethodName) ({ cls := "AskedNames$Reader", name := "here", desc := "()I" } : Jvm.MethodName)) ∈ lw_all := lw_g (lw_at lw_m4 41 rfl) rfl
theorem q887 : (Jvm.Cond.fieldLinkNest "AskedNames$RunReader" (27 : Nat) "AskedNames" "DOINGS" "[LAskedNames$Doing;" "AskedNames") ∈ lw_tbl := lw_at lw_m4 42 rfl
theorem q889 : (Jvm.Cond.fieldLink "AskedNames$RunReader" (31 : Nat) "AskedNames$RunReader" "NAMES" "[Ljava/lang/String;") ∈ lw_all := lw_g (lw_at lw_m4 44 rfl) rfl
theorem q890 : (Jvm.Cond.laysStatic "AskedNames$RunReader" "NAMES" "[Ljava/lang/String;") ∈ lw_tbl := lw_at lw_m4 45 rfl
theorem q891 : (Jvm.Cond.methodLink "AskedNames$RunReader" (35 : Nat) ({ cls := "AskedNames$RunReader", name := "word", desc := "([Ljava/lang/String;)I" } : Jvm.MethodName)) ∈ lw_all := lw_g (lw_at lw_m4 46 rfl) rfl
theorem q892 : (Jvm.Cond.sameMethod "AskedNames$RunReader" "AskedNames$Reader" "word" "([Ljava/lang/String;)I") ∈ lw_all := lw_g (lw_at lw_m4 47 rfl) rfl
theorem q893 : (Jvm.Cond.selects "AskedNames$RunReader" ({ cls := "AskedNames$RunReader", name := "word", desc := "([Ljava/lang/String;)I" } : Jvm.MethodName) ({ cls := "AskedNames$Reader", name := "word", desc := "([Ljava/lang/String;)I" } : Jvm.MethodName)) ∈ lw_all := lw_g (lw_at lw_m4 48 rfl) rfl
theorem q894 : (Jvm.Cond.methodLink "AskedNames$RunReader" (39 : Nat) ({ cls := "java/util/ArrayList", name := "size", desc := "()I" } : Jvm.MethodName)) ∈ lw_all := lw_g (lw_at lw_m4 49 rfl) rfl
theorem q895 : (Jvm.Cond.methodLink "AskedNames$RunReader" (42 : Nat) ({ cls := "AskedNames$RunReader", name := "also", desc := "(II)V" } : Jvm.MethodName)) ∈ lw_all := lw_g (lw_at lw_m4 50 rfl) rfl
theorem q896 : (Jvm.Cond.sameMethod "AskedNames$RunReader" "AskedNames$Reader" "also" "(II)V") ∈ lw_all := lw_g (lw_at lw_m4 51 rfl) rfl
theorem q897 : (Jvm.Cond.selects "AskedNames$RunReader" ({ cls := "AskedNames$RunReader", name := "also", desc := "(II)V" } : Jvm.MethodName) ({ cls := "AskedNames$Reader", name := "also", desc := "(II)V" } : Jvm.MethodName)) ∈ lw_all := lw_g (lw_at lw_m4 52 rfl) rfl
theorem q898 : (Jvm.Cond.fieldLink "AskedNames$RunReader" (46 : Nat) "AskedNames$Doing" "WAIT" "LAskedNames$Doing;") ∈ lw_all := lw_g (lw_at lw_m4 53 rfl) rfl
theorem q900 : (Jvm.Cond.methodLink "AskedNames$RunReader" (52 : Nat) ({ cls := "AskedNames$RunReader", name := "number", desc := "(II)I" } : Jvm.MethodName)) ∈ lw_all := lw_g (lw_at lw_m4 55 rfl) rfl
theorem q901 : (Jvm.Cond.sameMethod "AskedNames$RunReader" "AskedNames$Reader" "number" "(II)I") ∈ lw_all := lw_g (lw_at lw_m4 56 rfl) rfl
theorem q902 : (Jvm.Cond.selects "AskedNames$RunReader" ({ cls := "AskedNames$RunReader", name := "number", desc := "(II)I" } : Jvm.MethodName) ({ cls := "AskedNames$Reader", name := "number", desc := "(II)I" } : Jvm.MethodName)) ∈ lw_all := lw_g (lw_at lw_m4 57 rfl) rfl
theorem q903 : (Jvm.Cond.methodLink "AskedNames$RunReader" (56 : Nat) ({ cls := "AskedNames$RunReader", name := "node", desc := "()I" } : Jvm.MethodName)) ∈ lw_all := lw_g (lw_at lw_m4 58 rfl) rfl
theorem q904 : (Jvm.Cond.sameMethod "AskedNames$RunReader" "AskedNames$Reader" "node" "()I") ∈ lw_all := lw_g (lw_at lw_m4 59 rfl) rfl
theorem q906 : (Jvm.Cond.selects "AskedNames$RunReader" ({ cls := "AskedNames$RunReader", name := "node", desc := "()I" } : Jvm.MethodName) ({ cls := "AskedNames$Reader", name := "node", desc := "()I" } : Jvm.MethodName)) ∈ lw_all := lw_g (lw_at lw_m4 61 rfl) rfl
theorem q907 : (Jvm.Cond.fieldLink "AskedNames$RunReader" (59 : Nat) "AskedNames$Doing" "ASK" "LAskedNames$Doing;") ∈ lw_all := lw_g (lw_at lw_m4 62 rfl) rfl
theorem q909 : (Jvm.Cond.fieldLink "AskedNames$RunReader" (62 : Nat) "AskedNames$Doing" "FRESH" "LAskedNames$Doing;") ∈ lw_all := lw_g (lw_at lw_m4 64 rfl) rfl
theorem q911 : (Jvm.Cond.methodLink "AskedNames$RunReader" (65 : Nat) ({ cls := "AskedNames$RunReader", name := "told", desc := "()Ljava/lang/String;" } : Jvm.MethodName)) ∈ lw_all := lw_g (lw_at lw_m4 66 rfl) rfl
theorem q912 : (Jvm.Cond.sameMethod "AskedNames$RunReader" "AskedNames$Reader" "told" "()Ljava/lang/String;") ∈ lw_all := lw_g (lw_at lw_m4 67 rfl) rfl
theorem q913 : (Jvm.Cond.selects "AskedNames$RunReader" ({ cls := "AskedNames$RunReader", name := "told", desc := "()Ljava/lang/String;" } : Jvm.MethodName) ({ cls := "AskedNames$Reader", name := "told", desc := "()Ljava/lang/String;" } : Jvm.MethodName)) ∈ lw_all := lw_g (lw_at lw_m4 68 rfl) rfl
theorem q914 : (Jvm.Cond.classLink "AskedNames$RunReader" (69 : Nat) "AskedNames$Deed") ∈ lw_all := lw_g (lw_at lw_m4 69 rfl) rfl
theorem q916 : (Jvm.Cond.methodLink "AskedNames$RunReader" (71 : Nat) ({ cls := "AskedNames$RunReader", name := "other", desc := "(I)I" } : Jvm.MethodName)) ∈ lw_all := lw_g (lw_at lw_m4 71 rfl) rfl
theorem q917 : (Jvm.Cond.sameMethod "AskedNames$RunReader" "AskedNames$Reader" "other" "(I)I") ∈ lw_all := lw_g (lw_at lw_m4 72 rfl) rfl
theorem q918 : (Jvm.Cond.selects "AskedNames$RunReader" ({ cls := "AskedNames$RunReader", name := "other", desc := "(I)I" } : Jvm.MethodName) ({ cls := "AskedNames$Reader", name := "other", desc := "(I)I" } : Jvm.MethodName)) ∈ lw_all := lw_g (lw_at lw_m4 73 rfl) rfl
theorem q919 : (Jvm.Cond.methodLink "AskedNames$RunReader" (75 : Nat) ({ cls := "AskedNames$Deed", name := "<init>", desc := "(LAskedNames$Doing;IILjava/lang/String;)V" } : Jvm.MethodName)) ∈ lw_all := lw_g (lw_at lw_m4 74 rfl) rfl
theorem q944 : (Jvm.Cond.methodLink "AskedNames$RunReader" (78 : Nat) ({ cls := "java/util/ArrayList", name := "add", desc := "(Ljava/lang/Object;)Z" } : Jvm.MethodName)) ∈ lw_all := lw_g (lw_at lw_m4 99 rfl) rfl
theorem q952 : (Jvm.Cond.selects "AskedNames$RunReader" ({ cls := "AskedNames$Reader", name := "atEnd", desc := "()I" } : Jvm.MethodName) ({ cls := "AskedNames$Reader", name := "atEnd", desc := "()I" } : Jvm.MethodName)) ∈ lw_all := lw_g (lw_at lw_m4 107 rfl) rfl
theorem q972 : (Jvm.Cond.instantiable "AskedNames$RunReader" (9 : Nat)) ∈ lw_all := lw_g (lw_at lw_m4 127 rfl) rfl
theorem q974 : (Jvm.Cond.instanceMethod ({ cls := "AskedNames$RunReader", name := "<init>", desc := "([BI)V" } : Jvm.MethodName)) ∈ lw_all := lw_g (lw_at lw_m4 129 rfl) rfl
theorem q975 : (Jvm.Cond.code ({ cls := "AskedNames$RunReader", name := "<init>", desc := "([BI)V" } : Jvm.MethodName) prog_21_method_1_code (3 : Nat) (Option.none : Option Jvm.ClassFile.FieldType)) ∈ lw_all := lw_g (lw_at lw_m4 130 rfl) rfl
theorem q976 : (Jvm.Cond.methodLink "AskedNames$RunReader" (3 : Nat) ({ cls := "AskedNames$Reader", name := "<init>", desc := "([BI)V" } : Jvm.MethodName)) ∈ lw_all := lw_g (lw_at lw_m4 131 rfl) rfl
theorem q977 : (Jvm.Cond.classLink "AskedNames$RunReader" (9 : Nat) "java/util/ArrayList") ∈ lw_all := lw_g (lw_at lw_m4 132 rfl) rfl
theorem q978 : (Jvm.Cond.methodLink "AskedNames$RunReader" (11 : Nat) ({ cls := "java/util/ArrayList", name := "<init>", desc := "()V" } : Jvm.MethodName)) ∈ lw_all := lw_g (lw_at lw_m4 133 rfl) rfl
theorem q979 : (Jvm.Cond.fieldLink "AskedNames$RunReader" (14 : Nat) "AskedNames$RunReader" "deeds" "Ljava/util/ArrayList;") ∈ lw_all := lw_g (lw_at lw_m4 134 rfl) rfl
theorem q980 : (Jvm.Cond.laysFinal "AskedNames$RunReader" "AskedNames$RunReader" "deeds" "Ljava/util/ArrayList;") ∈ lw_all := lw_g (lw_at lw_m4 135 rfl) rfl
theorem q981 : (Jvm.Cond.soleField "AskedNames$RunReader" "deeds") ∈ lw_all := lw_g (lw_at lw_m4 136 rfl) rfl
theorem q982 : (Jvm.Cond.laysFinal "AskedNames$RunReader" "AskedNames$Reader" "tape" "[B") ∈ lw_all := lw_g (lw_at lw_m4 137 rfl) rfl
theorem q983 : (Jvm.Cond.laysFinal "AskedNames$RunReader" "AskedNames$Reader" "size" "I") ∈ lw_all := lw_g (lw_at lw_m4 138 rfl) rfl
theorem q984 : (Jvm.Cond.lays "AskedNames$RunReader" "AskedNames$Reader" "next" "I") ∈ lw_all := lw_g (lw_at lw_m4 139 rfl) rfl
theorem q985 : (Jvm.Cond.lays "AskedNames$RunReader" "AskedNames$Reader" "place" "I") ∈ lw_all := lw_g (lw_at lw_m4 140 rfl) rfl
theorem q986 : (Jvm.Cond.lays "AskedNames$RunReader" "AskedNames$Reader" "value" "I") ∈ lw_all := lw_g (lw_at lw_m4 141 rfl) rfl
theorem q987 : (Jvm.Cond.lays "AskedNames$RunReader" "AskedNames$Reader" "token" "LAskedNames$Token;") ∈ lw_all := lw_g (lw_at lw_m4 142 rfl) rfl
theorem q988 : (Jvm.Cond.lays "AskedNames$RunReader" "AskedNames$Reader" "text" "Ljava/lang/String;") ∈ lw_all := lw_g (lw_at lw_m4 143 rfl) rfl
theorem q989 : (Jvm.Cond.lays "AskedNames$RunReader" "AskedNames$Reader" "also" "LAskedNames$Fault;") ∈ lw_all := lw_g (lw_at lw_m4 144 rfl) rfl
theorem q990 : (Jvm.Cond.superclass "AskedNames$RunReader" "AskedNames$Reader") ∈ lw_all := lw_g (lw_at lw_m4 145 rfl) rfl
theorem q992 : (Jvm.Cond.instanceMethod ({ cls := "AskedNames$RunReader", name := "read", desc := "()Ljava/util/ArrayList;" } : Jvm.MethodName)) ∈ lw_all := lw_g (lw_at lw_m4 147 rfl) rfl
theorem q993 : (Jvm.Cond.selects "AskedNames$RunReader" ({ cls := "AskedNames$RunReader", name := "read", desc := "()Ljava/util/ArrayList;" } : Jvm.MethodName) ({ cls := "AskedNames$RunReader", name := "read", desc := "()Ljava/util/ArrayList;" } : Jvm.MethodName)) ∈ lw_all := lw_g (lw_at lw_m4 148 rfl) rfl
theorem q994 : (Jvm.Cond.code ({ cls := "AskedNames$RunReader", name := "read", desc := "()Ljava/util/ArrayList;" } : Jvm.MethodName) prog_21_method_2_code (1 : Nat) (Option.some (Jvm.ClassFile.FieldType.object "java/util/ArrayList"))) ∈ lw_all := lw_g (lw_at lw_m4 149 rfl) rfl
theorem q995 : (Jvm.Cond.methodLink "AskedNames$RunReader" (20 : Nat) ({ cls := "AskedNames$RunReader", name := "lines", desc := "()V" } : Jvm.MethodName)) ∈ lw_all := lw_g (lw_at lw_m4 150 rfl) rfl
theorem q996 : (Jvm.Cond.sameMethod "AskedNames$RunReader" "AskedNames$Reader" "lines" "()V") ∈ lw_all := lw_g (lw_at lw_m4 151 rfl) rfl
theorem q997 : (Jvm.Cond.selects "AskedNames$RunReader" ({ cls := "AskedNames$RunReader", name := "lines", desc := "()V" } : Jvm.MethodName) ({ cls := "AskedNames$Reader", name := "lines", desc := "()V" } : Jvm.MethodName)) ∈ lw_all := lw_g (lw_at lw_m4 152 rfl) rfl
theorem q2959 : (Jvm.Cond.selects "AskedNames$RunReader" ({ cls := "AskedNames$Reader", name := "also", desc := "(II)V" } : Jvm.MethodName) ({ cls := "AskedNames$Reader", name := "also", desc := "(II)V" } : Jvm.MethodName)) ∈ lw_all := lw_g (lw_at lw_m12 194 rfl) rfl
theorem q2964 : (Jvm.Cond.selects "AskedNames$RunReader" ({ cls := "AskedNames$Reader", name := "number", desc := "(II)I" } : Jvm.MethodName) ({ cls := "AskedNames$Reader", name := "number", desc := "(II)I" } : Jvm.MethodName)) ∈ lw_all := lw_g (lw_at lw_m12 199 rfl) rfl
theorem q2967 : (Jvm.Cond.selects "AskedNames$RunReader" ({ cls := "AskedNames$Reader", name := "node", desc := "()I" } : Jvm.MethodName) ({ cls := "AskedNames$Reader", name := "node", desc := "()I" } : Jvm.MethodName)) ∈ lw_all := lw_g (lw_at lw_m12 202 rfl) rfl
theorem q2985 : (Jvm.Cond.castable "AskedNames$RunReader" "java/lang/Object") ∈ lw_tbl := lw_at lw_m12 220 rfl
theorem q3025 : (Jvm.Cond.stringRef "AskedNames$RunReader" (84 : Nat) "ask") ∈ lw_tbl := lw_at lw_m13 20 rfl
theorem q3026 : (Jvm.Cond.stringRef "AskedNames$RunReader" (86 : Nat) "fresh") ∈ lw_tbl := lw_at lw_m13 21 rfl
theorem q3027 : (Jvm.Cond.stringRef "AskedNames$RunReader" (88 : Nat) "wait") ∈ lw_tbl := lw_at lw_m13 22 rfl
theorem q3028 : (Jvm.Cond.stringRef "AskedNames$RunReader" (90 : Nat) "cut") ∈ lw_tbl := lw_at lw_m13 23 rfl
theorem q3029 : (Jvm.Cond.stringRef "AskedNames$RunReader" (92 : Nat) "mend") ∈ lw_tbl := lw_at lw_m13 24 rfl
theorem in_X9 : ∀ w ∈ wsX90, w ∈ lw_all := lw_in wsX90 [982, 983, 984, 985, 986, 987, 988, 989, 980] (by decide +kernel) (by decide +kernel)
