theorem q133 : (Jvm.Cond.initialized "VersionSearchLaw") ∈ lw_all := lw_g (lw_at lw_m1 0 rfl) rfl
set_option maxRecDepth 100000
theorem q191 : (Jvm.Cond.classLink "VersionSearchLaw" (7 : Nat) "VersionSearch") ∈ lw_all := lw_g (lw_at lw_m1 58 rfl) rfl
theorem q193 : (Jvm.Cond.methodLink "VersionSearchLaw" (9 : Nat) ({ cls := "VersionSearch", name := "<init>", desc := "()V" } : Jvm.MethodName)) ∈ lw_all := lw_g (lw_at lw_m1 60 rfl) rfl
theorem q274 : (Jvm.Cond.methodLink "VersionSearchLaw" (13 : Nat) ({ cls := "VersionSearch", name := "feed", desc := "(IIIII)I" } : Jvm.MethodName)) ∈ lw_all := lw_g (lw_at lw_m1 141 rfl) rfl
theorem q278 : (Jvm.Cond.methodLink "VersionSearchLaw" (18 : Nat) ({ cls := "VersionSearch", name := "end", desc := "(I)I" } : Jvm.MethodName)) ∈ lw_all := lw_g (lw_at lw_m1 145 rfl) rfl
theorem q282 : (Jvm.Cond.methodLink "VersionSearchLaw" (23 : Nat) ({ cls := "VersionSearch", name := "text", desc := "(II)I" } : Jvm.MethodName)) ∈ lw_all := lw_g (lw_at lw_m1 149 rfl) rfl
theorem q1243 : (Jvm.Cond.methodLink "VersionSearchLaw" (28 : Nat) ({ cls := "VersionSearch", name := "fault", desc := "(I)I" } : Jvm.MethodName)) ∈ lw_all := lw_g (lw_at lw_m5 150 rfl) rfl
theorem q1247 : (Jvm.Cond.methodLink "VersionSearchLaw" (32 : Nat) ({ cls := "VersionSearch", name := "archive", desc := "(II)I" } : Jvm.MethodName)) ∈ lw_all := lw_g (lw_at lw_m5 154 rfl) rfl
theorem q1871 : (Jvm.Cond.methodLink "VersionSearchLaw" (36 : Nat) ({ cls := "VersionSearch", name := "version", desc := "(IIII)I" } : Jvm.MethodName)) ∈ lw_all := lw_g (lw_at lw_m8 58 rfl) rfl
theorem q1929 : (Jvm.Cond.methodLink "VersionSearchLaw" (41 : Nat) ({ cls := "VersionSearch", name := "life", desc := "(IIIII)I" } : Jvm.MethodName)) ∈ lw_all := lw_g (lw_at lw_m8 116 rfl) rfl
theorem q1937 : (Jvm.Cond.methodLink "VersionSearchLaw" (45 : Nat) ({ cls := "VersionSearch", name := "word", desc := "(III)I" } : Jvm.MethodName)) ∈ lw_all := lw_g (lw_at lw_m8 124 rfl) rfl
theorem q1951 : (Jvm.Cond.methodLink "VersionSearchLaw" (50 : Nat) ({ cls := "VersionSearch", name := "dated", desc := "(II)I" } : Jvm.MethodName)) ∈ lw_all := lw_g (lw_at lw_m8 138 rfl) rfl
theorem q1959 : (Jvm.Cond.methodLink "VersionSearchLaw" (54 : Nat) ({ cls := "VersionSearch", name := "shared", desc := "(IIII)I" } : Jvm.MethodName)) ∈ lw_all := lw_g (lw_at lw_m8 146 rfl) rfl
theorem q1964 : (Jvm.Cond.methodLink "VersionSearchLaw" (58 : Nat) ({ cls := "VersionSearch", name := "common", desc := "(IIIII)I" } : Jvm.MethodName)) ∈ lw_all := lw_g (lw_at lw_m8 151 rfl) rfl
theorem q1975 : (Jvm.Cond.methodLink "VersionSearchLaw" (62 : Nat) ({ cls := "VersionSearch", name := "question", desc := "(III)I" } : Jvm.MethodName)) ∈ lw_all := lw_g (lw_at lw_m8 162 rfl) rfl
theorem q1982 : (Jvm.Cond.methodLink "VersionSearchLaw" (66 : Nat) ({ cls := "VersionSearch", name := "holds", desc := "(IIIII)I" } : Jvm.MethodName)) ∈ lw_all := lw_g (lw_at lw_m8 169 rfl) rfl
theorem q2096 : (Jvm.Cond.methodLink "VersionSearchLaw" (70 : Nat) ({ cls := "VersionSearch", name := "spans", desc := "(IIIIIZ)I" } : Jvm.MethodName)) ∈ lw_all := lw_g (lw_at lw_m9 43 rfl) rfl
theorem q2105 : (Jvm.Cond.methodLink "VersionSearchLaw" (75 : Nat) ({ cls := "VersionSearch", name := "times", desc := "(IIIII)I" } : Jvm.MethodName)) ∈ lw_all := lw_g (lw_at lw_m9 52 rfl) rfl
theorem q2111 : (Jvm.Cond.methodLink "VersionSearchLaw" (79 : Nat) ({ cls := "VersionSearch", name := "found", desc := "(IIII)I" } : Jvm.MethodName)) ∈ lw_all := lw_g (lw_at lw_m9 58 rfl) rfl
theorem q2294 : (Jvm.Cond.methodLink "VersionSearchLaw" (83 : Nat) ({ cls := "VersionSearch", name := "best", desc := "(III)I" } : Jvm.MethodName)) ∈ lw_all := lw_g (lw_at lw_m10 1 rfl) rfl
theorem q2318 : (Jvm.Cond.methodLink "VersionSearchLaw" (87 : Nat) ({ cls := "VersionSearch", name := "implies", desc := "(IIII)I" } : Jvm.MethodName)) ∈ lw_all := lw_g (lw_at lw_m10 25 rfl) rfl
theorem q2323 : (Jvm.Cond.methodLink "VersionSearchLaw" (91 : Nat) ({ cls := "VersionSearch", name := "fact", desc := "(III)I" } : Jvm.MethodName)) ∈ lw_all := lw_g (lw_at lw_m10 30 rfl) rfl
theorem q2327 : (Jvm.Cond.methodLink "VersionSearchLaw" (95 : Nat) ({ cls := "VersionSearch", name := "fits", desc := "(III)I" } : Jvm.MethodName)) ∈ lw_all := lw_g (lw_at lw_m10 34 rfl) rfl
theorem q2395 : (Jvm.Cond.methodLink "VersionSearchLaw" (99 : Nat) ({ cls := "VersionSearch", name := "drawn", desc := "(IIIII)I" } : Jvm.MethodName)) ∈ lw_all := lw_g (lw_at lw_m10 102 rfl) rfl
theorem q2549 : (Jvm.Cond.methodLink "VersionSearchLaw" (103 : Nat) ({ cls := "VersionSearch", name := "count", desc := "(I)I" } : Jvm.MethodName)) ∈ lw_all := lw_g (lw_at lw_m11 16 rfl) rfl
theorem q2553 : (Jvm.Cond.methodLink "VersionSearchLaw" (107 : Nat) ({ cls := "VersionSearch", name := "image", desc := "(I)Z" } : Jvm.MethodName)) ∈ lw_all := lw_g (lw_at lw_m11 20 rfl) rfl
theorem q2567 : (Jvm.Cond.methodLink "VersionSearchLaw" (112 : Nat) ({ cls := "VersionSearch", name := "again", desc := "(I)Z" } : Jvm.MethodName)) ∈ lw_all := lw_g (lw_at lw_m11 34 rfl) rfl
theorem q2571 : (Jvm.Cond.classLink "VersionSearchLaw" (10 : Nat) "VersionSearchModel") ∈ lw_all := lw_g (lw_at lw_m11 38 rfl) rfl
theorem q2573 : (Jvm.Cond.methodLink "VersionSearchLaw" (12 : Nat) ({ cls := "VersionSearchModel", name := "<init>", desc := "()V" } : Jvm.MethodName)) ∈ lw_all := lw_g (lw_at lw_m11 40 rfl) rfl
theorem q2690 : (Jvm.Cond.methodLink "VersionSearchLaw" (17 : Nat) ({ cls := "VersionSearchModel", name := "feed", desc := "(IIIII)I" } : Jvm.MethodName)) ∈ lw_all := lw_g (lw_at lw_m11 157 rfl) rfl
theorem q2698 : (Jvm.Cond.methodLink "VersionSearchLaw" (22 : Nat) ({ cls := "VersionSearchModel", name := "end", desc := "(I)I" } : Jvm.MethodName)) ∈ lw_all := lw_g (lw_at lw_m11 165 rfl) rfl
theorem q2705 : (Jvm.Cond.methodLink "VersionSearchLaw" (27 : Nat) ({ cls := "VersionSearchModel", name := "text", desc := "(II)I" } : Jvm.MethodName)) ∈ lw_all := lw_g (lw_at lw_m11 172 rfl) rfl
theorem q2846 : (Jvm.Cond.methodLink "VersionSearchLaw" (31 : Nat) ({ cls := "VersionSearchModel", name := "fault", desc := "(I)I" } : Jvm.MethodName)) ∈ lw_all := lw_g (lw_at lw_m12 73 rfl) rfl
theorem q2850 : (Jvm.Cond.methodLink "VersionSearchLaw" (35 : Nat) ({ cls := "VersionSearchModel", name := "archive", desc := "(II)I" } : Jvm.MethodName)) ∈ lw_all := lw_g (lw_at lw_m12 77 rfl) rfl
theorem q2961 : (Jvm.Cond.methodLink "VersionSearchLaw" (40 : Nat) ({ cls := "VersionSearchModel", name := "version", desc := "(IIII)I" } : Jvm.MethodName)) ∈ lw_all := lw_g (lw_at lw_m12 188 rfl) rfl
theorem q2981 : (Jvm.Cond.methodLink "VersionSearchLaw" (44 : Nat) ({ cls := "VersionSearchModel", name := "life", desc := "(IIIII)I" } : Jvm.MethodName)) ∈ lw_all := lw_g (lw_at lw_m12 208 rfl) rfl
theorem q2991 : (Jvm.Cond.methodLink "VersionSearchLaw" (49 : Nat) ({ cls := "VersionSearchModel", name := "word", desc := "(III)I" } : Jvm.MethodName)) ∈ lw_all := lw_g (lw_at lw_m12 218 rfl) rfl
theorem q3004 : (Jvm.Cond.methodLink "VersionSearchLaw" (53 : Nat) ({ cls := "VersionSearchModel", name := "dated", desc := "(II)I" } : Jvm.MethodName)) ∈ lw_all := lw_g (lw_at lw_m12 231 rfl) rfl
theorem q3008 : (Jvm.Cond.methodLink "VersionSearchLaw" (57 : Nat) ({ cls := "VersionSearchModel", name := "shared", desc := "(IIII)I" } : Jvm.MethodName)) ∈ lw_all := lw_g (lw_at lw_m12 235 rfl) rfl
theorem q3012 : (Jvm.Cond.methodLink "VersionSearchLaw" (61 : Nat) ({ cls := "VersionSearchModel", name := "common", desc := "(IIIII)I" } : Jvm.MethodName)) ∈ lw_all := lw_g (lw_at lw_m12 239 rfl) rfl
theorem q3016 : (Jvm.Cond.methodLink "VersionSearchLaw" (65 : Nat) ({ cls := "VersionSearchModel", name := "question", desc := "(III)I" } : Jvm.MethodName)) ∈ lw_all := lw_g (lw_at lw_m13 3 rfl) rfl
theorem q3036 : (Jvm.Cond.methodLink "VersionSearchLaw" (69 : Nat) ({ cls := "VersionSearchModel", name := "holds", desc := "(IIIII)I" } : Jvm.MethodName)) ∈ lw_all := lw_g (lw_at lw_m13 23 rfl) rfl
theorem q3064 : (Jvm.Cond.methodLink "VersionSearchLaw" (74 : Nat) ({ cls := "VersionSearchModel", name := "spans", desc := "(IIIIIZ)I" } : Jvm.MethodName)) ∈ lw_all := lw_g (lw_at lw_m13 51 rfl) rfl
theorem q3068 : (Jvm.Cond.methodLink "VersionSearchLaw" (78 : Nat) ({ cls := "VersionSearchModel", name := "times", desc := "(IIIII)I" } : Jvm.MethodName)) ∈ lw_all := lw_g (lw_at lw_m13 55 rfl) rfl
theorem q3072 : (Jvm.Cond.methodLink "VersionSearchLaw" (82 : Nat) ({ cls := "VersionSearchModel", name := "found", desc := "(IIII)I" } : Jvm.MethodName)) ∈ lw_all := lw_g (lw_at lw_m13 59 rfl) rfl
theorem q3100 : (Jvm.Cond.methodLink "VersionSearchLaw" (86 : Nat) ({ cls := "VersionSearchModel", name := "best", desc := "(III)I" } : Jvm.MethodName)) ∈ lw_all := lw_g (lw_at lw_m13 87 rfl) rfl
theorem q3116 : (Jvm.Cond.methodLink "VersionSearchLaw" (90 : Nat) ({ cls := "VersionSearchModel", name := "implies", desc := "(IIII)I" } : Jvm.MethodName)) ∈ lw_all := lw_g (lw_at lw_m13 103 rfl) rfl
theorem q3120 : (Jvm.Cond.methodLink "VersionSearchLaw" (94 : Nat) ({ cls := "VersionSearchModel", name := "fact", desc := "(III)I" } : Jvm.MethodName)) ∈ lw_all := lw_g (lw_at lw_m13 107 rfl) rfl
theorem q3136 : (Jvm.Cond.methodLink "VersionSearchLaw" (98 : Nat) ({ cls := "VersionSearchModel", name := "fits", desc := "(III)I" } : Jvm.MethodName)) ∈ lw_all := lw_g (lw_at lw_m13 123 rfl) rfl
theorem q3160 : (Jvm.Cond.methodLink "VersionSearchLaw" (102 : Nat) ({ cls := "VersionSearchModel", name := "drawn", desc := "(IIIII)I" } : Jvm.MethodName)) ∈ lw_all := lw_g (lw_at lw_m13 147 rfl) rfl
theorem q3185 : (Jvm.Cond.methodLink "VersionSearchLaw" (106 : Nat) ({ cls := "VersionSearchModel", name := "count", desc := "(I)I" } : Jvm.MethodName)) ∈ lw_all := lw_g (lw_at lw_m13 172 rfl) rfl
theorem q3189 : (Jvm.Cond.methodLink "VersionSearchLaw" (111 : Nat) ({ cls := "VersionSearchModel", name := "image", desc := "(I)Z" } : Jvm.MethodName)) ∈ lw_all := lw_g (lw_at lw_m13 176 rfl) rfl
theorem q3200 : (Jvm.Cond.methodLink "VersionSearchLaw" (115 : Nat) ({ cls := "VersionSearchModel", name := "again", desc := "(I)Z" } : Jvm.MethodName)) ∈ lw_all := lw_g (lw_at lw_m13 187 rfl) rfl
theorem q2046 : (Jvm.Cond.interfaceMethod "VersionSearch$Asked" "VersionSearch$Asked" "holds" "(II)Z") ∈ lw_tbl := lw_at lw_m8 233 rfl
set_option maxRecDepth 100000
theorem q2047 : (Jvm.Cond.declares ({ cls := "VersionSearch$Asked", name := "holds", desc := "(II)Z" } : Jvm.MethodName)) ∈ lw_tbl := lw_at lw_m8 234 rfl
theorem q1273 : (Jvm.Cond.interfaceMethod "VersionSearch$Count" "VersionSearch$Count" "of" "(II)I") ∈ lw_tbl := lw_at lw_m5 180 rfl
set_option maxRecDepth 100000
theorem q1274 : (Jvm.Cond.declares ({ cls := "VersionSearch$Count", name := "of", desc := "(II)I" } : Jvm.MethodName)) ∈ lw_tbl := lw_at lw_m5 181 rfl
theorem q987 : (Jvm.Cond.interfaceMethod "VersionSearch$Edit" "VersionSearch$Edit" "of" "([I)[I") ∈ lw_tbl := lw_at lw_m4 134 rfl
set_option maxRecDepth 100000
theorem q988 : (Jvm.Cond.declares ({ cls := "VersionSearch$Edit", name := "of", desc := "([I)[I" } : Jvm.MethodName)) ∈ lw_tbl := lw_at lw_m4 135 rfl
theorem q171 : (Jvm.Cond.initialized "VersionSearch$Kind") ∈ lw_all := lw_g (lw_at lw_m1 38 rfl) rfl
set_option maxRecDepth 100000
theorem q800 : (Jvm.Cond.selects "VersionSearch$Kind" ({ cls := "java/lang/Object", name := "getClass", desc := "()Ljava/lang/Class;" } : Jvm.MethodName) ({ cls := "java/lang/Object", name := "getClass", desc := "()Ljava/lang/Class;" } : Jvm.MethodName)) ∈ lw_all := lw_g (lw_at lw_m3 187 rfl) rfl
theorem q1110 : (Jvm.Cond.sameMethod "VersionSearch$Kind" "java/lang/Enum" "ordinal" "()I") ∈ lw_all := lw_g (lw_at lw_m5 17 rfl) rfl
theorem q1112 : (Jvm.Cond.selects "VersionSearch$Kind" ({ cls := "VersionSearch$Kind", name := "ordinal", desc := "()I" } : Jvm.MethodName) ({ cls := "java/lang/Enum", name := "ordinal", desc := "()I" } : Jvm.MethodName)) ∈ lw_all := lw_g (lw_at lw_m5 19 rfl) rfl
theorem q1135 : (Jvm.Cond.laysStatic "VersionSearch$Kind" "PHRASE" "LVersionSearch$Kind;") ∈ lw_tbl := lw_at lw_m5 42 rfl
theorem q1166 : (Jvm.Cond.laysStatic "VersionSearch$Kind" "NEAR" "LVersionSearch$Kind;") ∈ lw_tbl := lw_at lw_m5 73 rfl
theorem q1175 : (Jvm.Cond.laysStatic "VersionSearch$Kind" "MANY" "LVersionSearch$Kind;") ∈ lw_tbl := lw_at lw_m5 82 rfl
theorem q1414 : (Jvm.Cond.castable "VersionSearch$Kind" "java/lang/Comparable") ∈ lw_tbl := lw_at lw_m6 81 rfl
theorem q1415 : (Jvm.Cond.selects "VersionSearch$Kind" ({ cls := "java/lang/Comparable", name := "compareTo", desc := "(Ljava/lang/Object;)I" } : Jvm.MethodName) ({ cls := "java/lang/Enum", name := "compareTo", desc := "(Ljava/lang/Object;)I" } : Jvm.MethodName)) ∈ lw_all := lw_g (lw_at lw_m6 82 rfl) rfl
theorem q1416 : (Jvm.Cond.unhidden "VersionSearch$Kind" "compareTo" "(Ljava/lang/Object;)I") ∈ lw_tbl := lw_at lw_m6 83 rfl
theorem q1424 : (Jvm.Cond.selects "VersionSearch$Kind" ({ cls := "java/lang/Enum", name := "compareTo", desc := "(Ljava/lang/Enum;)I" } : Jvm.MethodName) ({ cls := "java/lang/Enum", name := "compareTo", desc := "(Ljava/lang/Enum;)I" } : Jvm.MethodName)) ∈ lw_all := lw_g (lw_at lw_m6 91 rfl) rfl
theorem q1431 : (Jvm.Cond.selects "VersionSearch$Kind" ({ cls := "java/lang/Enum", name := "getDeclaringClass", desc := "()Ljava/lang/Class;" } : Jvm.MethodName) ({ cls := "java/lang/Enum", name := "getDeclaringClass", desc := "()Ljava/lang/Class;" } : Jvm.MethodName)) ∈ lw_all := lw_g (lw_at lw_m6 98 rfl) rfl
theorem q3220 : (Jvm.Cond.castable "VersionSearch$Kind" "java/lang/Enum") ∈ lw_tbl := lw_at lw_m13 207 rfl
theorem q3224 : (Jvm.Cond.castable "VersionSearch$Kind" "java/lang/Object") ∈ lw_tbl := lw_at lw_m13 211 rfl
theorem q3277 : (Jvm.Cond.laysStatic "VersionSearch$Kind" "NOT" "LVersionSearch$Kind;") ∈ lw_tbl := lw_at lw_m14 24 rfl
theorem q3278 : (Jvm.Cond.laysStatic "VersionSearch$Kind" "EVER" "LVersionSearch$Kind;") ∈ lw_tbl := lw_at lw_m14 25 rfl
theorem q3279 : (Jvm.Cond.laysStatic "VersionSearch$Kind" "NEW" "LVersionSearch$Kind;") ∈ lw_tbl := lw_at lw_m14 26 rfl
theorem q3280 : (Jvm.Cond.laysStatic "VersionSearch$Kind" "AND" "LVersionSearch$Kind;") ∈ lw_tbl := lw_at lw_m14 27 rfl
theorem q3281 : (Jvm.Cond.laysStatic "VersionSearch$Kind" "OR" "LVersionSearch$Kind;") ∈ lw_tbl := lw_at lw_m14 28 rfl
theorem q143 : (Jvm.Cond.initialized "VersionSearch$Piece") ∈ lw_all := lw_g (lw_at lw_m1 10 rfl) rfl
set_option maxRecDepth 100000
theorem q327 : (Jvm.Cond.laysStatic "VersionSearch$Piece" "END" "LVersionSearch$Piece;") ∈ lw_tbl := lw_at lw_m1 194 rfl
theorem q519 : (Jvm.Cond.laysStatic "VersionSearch$Piece" "WORD" "LVersionSearch$Piece;") ∈ lw_tbl := lw_at lw_m2 146 rfl
theorem q524 : (Jvm.Cond.laysStatic "VersionSearch$Piece" "BAD" "LVersionSearch$Piece;") ∈ lw_tbl := lw_at lw_m2 151 rfl
theorem q526 : (Jvm.Cond.laysStatic "VersionSearch$Piece" "NUMBER" "LVersionSearch$Piece;") ∈ lw_tbl := lw_at lw_m2 153 rfl
theorem q528 : (Jvm.Cond.laysStatic "VersionSearch$Piece" "SIGN" "LVersionSearch$Piece;") ∈ lw_tbl := lw_at lw_m2 155 rfl
theorem q801 : (Jvm.Cond.selects "VersionSearch$Piece" ({ cls := "java/lang/Object", name := "getClass", desc := "()Ljava/lang/Class;" } : Jvm.MethodName) ({ cls := "java/lang/Object", name := "getClass", desc := "()Ljava/lang/Class;" } : Jvm.MethodName)) ∈ lw_all := lw_g (lw_at lw_m3 188 rfl) rfl
theorem q1425 : (Jvm.Cond.selects "VersionSearch$Piece" ({ cls := "java/lang/Enum", name := "compareTo", desc := "(Ljava/lang/Enum;)I" } : Jvm.MethodName) ({ cls := "java/lang/Enum", name := "compareTo", desc := "(Ljava/lang/Enum;)I" } : Jvm.MethodName)) ∈ lw_all := lw_g (lw_at lw_m6 92 rfl) rfl
theorem q1432 : (Jvm.Cond.selects "VersionSearch$Piece" ({ cls := "java/lang/Enum", name := "getDeclaringClass", desc := "()Ljava/lang/Class;" } : Jvm.MethodName) ({ cls := "java/lang/Enum", name := "getDeclaringClass", desc := "()Ljava/lang/Class;" } : Jvm.MethodName)) ∈ lw_all := lw_g (lw_at lw_m6 99 rfl) rfl
theorem q1434 : (Jvm.Cond.castable "VersionSearch$Piece" "java/lang/Comparable") ∈ lw_tbl := lw_at lw_m6 101 rfl
theorem q1435 : (Jvm.Cond.selects "VersionSearch$Piece" ({ cls := "java/lang/Comparable", name := "compareTo", desc := "(Ljava/lang/Object;)I" } : Jvm.MethodName) ({ cls := "java/lang/Enum", name := "compareTo", desc := "(Ljava/lang/Object;)I" } : Jvm.MethodName)) ∈ lw_all := lw_g (lw_at lw_m6 102 rfl) rfl
theorem q1436 : (Jvm.Cond.unhidden "VersionSearch$Piece" "compareTo" "(Ljava/lang/Object;)I") ∈ lw_tbl := lw_at lw_m6 103 rfl
theorem q3221 : (Jvm.Cond.castable "VersionSearch$Piece" "java/lang/Enum") ∈ lw_tbl := lw_at lw_m13 208 rfl
theorem q3229 : (Jvm.Cond.castable "VersionSearch$Piece" "java/lang/Object") ∈ lw_tbl := lw_at lw_m13 216 rfl
theorem q399 : (Jvm.Cond.sameMethod "[B" "java/lang/Object" "clone" "()Ljava/lang/Object;") ∈ lw_all := lw_g (lw_at lw_m2 26 rfl) rfl
set_option maxRecDepth 100000
theorem q402 : (Jvm.Cond.selects "[B" ({ cls := "[B", name := "clone", desc := "()Ljava/lang/Object;" } : Jvm.MethodName) ({ cls := "java/lang/Object", name := "clone", desc := "()Ljava/lang/Object;" } : Jvm.MethodName)) ∈ lw_all := lw_g (lw_at lw_m2 29 rfl) rfl
theorem q403 : (Jvm.Cond.castable "[B" "java/lang/Cloneable") ∈ lw_tbl := lw_at lw_m2 30 rfl
theorem q3260 : (Jvm.Cond.castable "[B" "java/lang/Object") ∈ lw_tbl := lw_at lw_m14 7 rfl
theorem q956 : (Jvm.Cond.sameMethod "[I" "java/lang/Object" "clone" "()Ljava/lang/Object;") ∈ lw_all := lw_g (lw_at lw_m4 103 rfl) rfl
set_option maxRecDepth 100000
theorem q957 : (Jvm.Cond.selects "[I" ({ cls := "[I", name := "clone", desc := "()Ljava/lang/Object;" } : Jvm.MethodName) ({ cls := "java/lang/Object", name := "clone", desc := "()Ljava/lang/Object;" } : Jvm.MethodName)) ∈ lw_all := lw_g (lw_at lw_m4 104 rfl) rfl
theorem q958 : (Jvm.Cond.castable "[I" "java/lang/Cloneable") ∈ lw_tbl := lw_at lw_m4 105 rfl
theorem q3262 : (Jvm.Cond.castable "[I" "java/lang/Object") ∈ lw_tbl := lw_at lw_m14 9 rfl
theorem q3265 : (Jvm.Cond.castable "[LVersionSearch$Kind;" "java/lang/Object") ∈ lw_tbl := lw_at lw_m14 12 rfl
set_option maxRecDepth 100000
theorem q3261 : (Jvm.Cond.castable "[LVersionSearch$State;" "java/lang/Object") ∈ lw_tbl := lw_at lw_m14 8 rfl
set_option maxRecDepth 100000
theorem q3256 : (Jvm.Cond.sameMethod "[Ljava/lang/Object;" "java/lang/Object" "getClass" "()Ljava/lang/Class;") ∈ lw_all := lw_g (lw_at lw_m14 3 rfl) rfl
set_option maxRecDepth 100000
theorem q3257 : (Jvm.Cond.selects "[Ljava/lang/Object;" ({ cls := "java/lang/Object", name := "getClass", desc := "()Ljava/lang/Class;" } : Jvm.MethodName) ({ cls := "java/lang/Object", name := "getClass", desc := "()Ljava/lang/Class;" } : Jvm.MethodName)) ∈ lw_all := lw_g (lw_at lw_m14 4 rfl) rfl
theorem q3259 : (Jvm.Cond.castable "[Ljava/lang/Object;" "java/lang/Object") ∈ lw_tbl := lw_at lw_m14 6 rfl
theorem q3263 : (Jvm.Cond.castable "[Ljava/lang/String;" "java/lang/Object") ∈ lw_tbl := lw_at lw_m14 10 rfl
set_option maxRecDepth 100000
theorem q3264 : (Jvm.Cond.castable "[Z" "java/lang/Object") ∈ lw_tbl := lw_at lw_m14 11 rfl
set_option maxRecDepth 100000
theorem q1412 : (Jvm.Cond.interfaceMethod "java/lang/Comparable" "java/lang/Comparable" "compareTo" "(Ljava/lang/Object;)I") ∈ lw_tbl := lw_at lw_m6 79 rfl
set_option maxRecDepth 100000
theorem q1413 : (Jvm.Cond.declares ({ cls := "java/lang/Comparable", name := "compareTo", desc := "(Ljava/lang/Object;)I" } : Jvm.MethodName)) ∈ lw_tbl := lw_at lw_m6 80 rfl
theorem q167 : (Jvm.Cond.initialized "java/lang/Integer$IntegerCache") ∈ lw_all := lw_g (lw_at lw_m1 34 rfl) rfl
set_option maxRecDepth 100000
theorem q993 : (Jvm.Cond.laysStatic "java/lang/Integer$IntegerCache" "high" "I") ∈ lw_tbl := lw_at lw_m4 140 rfl
theorem q995 : (Jvm.Cond.laysStatic "java/lang/Integer$IntegerCache" "cache" "[Ljava/lang/Integer;") ∈ lw_tbl := lw_at lw_m4 142 rfl
theorem q151 : (Jvm.Cond.initialized "java/lang/System") ∈ lw_all := lw_g (lw_at lw_m1 18 rfl) rfl
set_option maxRecDepth 100000
theorem q409 : (Jvm.Cond.static ({ cls := "java/lang/System", name := "arraycopy", desc := "(Ljava/lang/Object;ILjava/lang/Object;II)V" } : Jvm.MethodName)) ∈ lw_all := lw_g (lw_at lw_m2 36 rfl) rfl
theorem q410 : (Jvm.Cond.native ({ cls := "java/lang/System", name := "arraycopy", desc := "(Ljava/lang/Object;ILjava/lang/Object;II)V" } : Jvm.MethodName)) ∈ lw_all := lw_g (lw_at lw_m2 37 rfl) rfl
theorem q2423 : (Jvm.Cond.interfaceMethod "java/util/Collection" "java/util/Collection" "toArray" "()[Ljava/lang/Object;") ∈ lw_tbl := lw_at lw_m10 130 rfl
set_option maxRecDepth 100000
theorem q2424 : (Jvm.Cond.declares ({ cls := "java/util/Collection", name := "toArray", desc := "()[Ljava/lang/Object;" } : Jvm.MethodName)) ∈ lw_tbl := lw_at lw_m10 131 rfl
theorem q1389 : (Jvm.Cond.interfaceMethod "java/util/Comparator" "java/util/Comparator" "compare" "(Ljava/lang/Object;Ljava/lang/Object;)I") ∈ lw_tbl := lw_at lw_m6 56 rfl
set_option maxRecDepth 100000
theorem q1390 : (Jvm.Cond.declares ({ cls := "java/util/Comparator", name := "compare", desc := "(Ljava/lang/Object;Ljava/lang/Object;)I" } : Jvm.MethodName)) ∈ lw_tbl := lw_at lw_m6 57 rfl
theorem q858 : (Jvm.Cond.interfaceMethod "java/util/Iterator" "java/util/Iterator" "hasNext" "()Z") ∈ lw_tbl := lw_at lw_m4 5 rfl
set_option maxRecDepth 100000
theorem q859 : (Jvm.Cond.declares ({ cls := "java/util/Iterator", name := "hasNext", desc := "()Z" } : Jvm.MethodName)) ∈ lw_tbl := lw_at lw_m4 6 rfl
theorem q884 : (Jvm.Cond.interfaceMethod "java/util/Iterator" "java/util/Iterator" "next" "()Ljava/lang/Object;") ∈ lw_tbl := lw_at lw_m4 31 rfl
theorem q885 : (Jvm.Cond.declares ({ cls := "java/util/Iterator", name := "next", desc := "()Ljava/lang/Object;" } : Jvm.MethodName)) ∈ lw_tbl := lw_at lw_m4 32 rfl
theorem q2159 : (Jvm.Cond.publicMethod ({ cls := "java/util/Map", name := "put", desc := "(Ljava/lang/Object;Ljava/lang/Object;)Ljava/lang/Object;" } : Jvm.MethodName)) ∈ lw_tbl := lw_at lw_m9 106 rfl
set_option maxRecDepth 100000
theorem q2160 : (Jvm.Cond.declares ({ cls := "java/util/Map", name := "put", desc := "(Ljava/lang/Object;Ljava/lang/Object;)Ljava/lang/Object;" } : Jvm.MethodName)) ∈ lw_tbl := lw_at lw_m9 107 rfl
theorem q2169 : (Jvm.Cond.publicMethod ({ cls := "java/util/Map", name := "size", desc := "()I" } : Jvm.MethodName)) ∈ lw_tbl := lw_at lw_m9 116 rfl
theorem q2170 : (Jvm.Cond.declares ({ cls := "java/util/Map", name := "size", desc := "()I" } : Jvm.MethodName)) ∈ lw_tbl := lw_at lw_m9 117 rfl
theorem q1796 : (Jvm.Cond.interfaceMethod "java/util/NavigableMap" "java/util/NavigableMap" "navigableKeySet" "()Ljava/util/NavigableSet;") ∈ lw_tbl := lw_at lw_m7 223 rfl
set_option maxRecDepth 100000
theorem q1797 : (Jvm.Cond.declares ({ cls := "java/util/NavigableMap", name := "navigableKeySet", desc := "()Ljava/util/NavigableSet;" } : Jvm.MethodName)) ∈ lw_tbl := lw_at lw_m7 224 rfl
theorem q1804 : (Jvm.Cond.interfaceMethod "java/util/NavigableSet" "java/util/NavigableSet" "iterator" "()Ljava/util/Iterator;") ∈ lw_tbl := lw_at lw_m7 231 rfl
set_option maxRecDepth 100000
theorem q1805 : (Jvm.Cond.declares ({ cls := "java/util/NavigableSet", name := "iterator", desc := "()Ljava/util/Iterator;" } : Jvm.MethodName)) ∈ lw_tbl := lw_at lw_m7 232 rfl
theorem q1745 : (Jvm.Cond.interfaceMethod "java/util/Set" "java/util/Set" "iterator" "()Ljava/util/Iterator;") ∈ lw_tbl := lw_at lw_m7 172 rfl
set_option maxRecDepth 100000
theorem q1746 : (Jvm.Cond.declares ({ cls := "java/util/Set", name := "iterator", desc := "()Ljava/util/Iterator;" } : Jvm.MethodName)) ∈ lw_tbl := lw_at lw_m7 173 rfl
theorem q1786 : (Jvm.Cond.declares ({ cls := "java/util/TreeMap$NavigableSubMap", name := "keyIterator", desc := "()Ljava/util/Iterator;" } : Jvm.MethodName)) ∈ lw_tbl := lw_at lw_m7 213 rfl
set_option maxRecDepth 100000
theorem q1787 : (Jvm.Cond.selects "java/util/TreeMap$NavigableSubMap" ({ cls := "java/util/TreeMap$NavigableSubMap", name := "keyIterator", desc := "()Ljava/util/Iterator;" } : Jvm.MethodName) ({ cls := "java/util/TreeMap$NavigableSubMap", name := "keyIterator", desc := "()Ljava/util/Iterator;" } : Jvm.MethodName)) ∈ lw_all := lw_g (lw_at lw_m7 214 rfl) rfl
theorem q173 : (Jvm.Cond.initialized "jdk/internal/misc/UnsafeConstants") ∈ lw_all := lw_g (lw_at lw_m1 40 rfl) rfl
set_option maxRecDepth 100000
theorem q1515 : (Jvm.Cond.laysStatic "jdk/internal/misc/UnsafeConstants" "BIG_ENDIAN" "Z") ∈ lw_tbl := lw_at lw_m6 182 rfl
theorem q218 : (Jvm.Cond.arrayOver (Jvm.ClassFile.FieldType.object "java/lang/Object")) ∈ lw_tbl := lw_at lw_m1 85 rfl
set_option maxRecDepth 100000
theorem q236 : (Jvm.Cond.arrayClass Jvm.ClassFile.FieldType.byte) ∈ lw_all := lw_g (lw_at lw_m1 103 rfl) rfl
theorem q266 : (Jvm.Cond.arrayOver (Jvm.ClassFile.FieldType.object "VersionSearch$State")) ∈ lw_tbl := lw_at lw_m1 133 rfl
theorem q1009 : (Jvm.Cond.arrayClass Jvm.ClassFile.FieldType.int) ∈ lw_all := lw_g (lw_at lw_m4 156 rfl) rfl
theorem q1130 : (Jvm.Cond.arrayOver (Jvm.ClassFile.FieldType.object "java/lang/String")) ∈ lw_tbl := lw_at lw_m5 37 rfl
theorem q2689 : (Jvm.Cond.arrayClass Jvm.ClassFile.FieldType.boolean) ∈ lw_all := lw_g (lw_at lw_m11 156 rfl) rfl
