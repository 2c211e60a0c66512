theorem q135 : (Jvm.Cond.initialized "OverFirstLaw") ∈ lw_all := lw_g (lw_at lw_m1 0 rfl) rfl
set_option maxRecDepth 100000
theorem q177 : (Jvm.Cond.classLink "OverFirstLaw" (7 : Nat) "OverFirst") ∈ lw_all := lw_g (lw_at lw_m1 42 rfl) rfl
theorem q179 : (Jvm.Cond.methodLink "OverFirstLaw" (9 : Nat) ({ cls := "OverFirst", name := "<init>", desc := "()V" } : Jvm.MethodName)) ∈ lw_all := lw_g (lw_at lw_m1 44 rfl) rfl
theorem q576 : (Jvm.Cond.methodLink "OverFirstLaw" (15 : Nat) ({ cls := "OverFirst", name := "feed", desc := "(JJJ)I" } : Jvm.MethodName)) ∈ lw_all := lw_g (lw_at lw_m2 201 rfl) rfl
theorem q580 : (Jvm.Cond.methodLink "OverFirstLaw" (20 : Nat) ({ cls := "OverFirst", name := "town", desc := "()I" } : Jvm.MethodName)) ∈ lw_all := lw_g (lw_at lw_m2 205 rfl) rfl
theorem q1179 : (Jvm.Cond.methodLink "OverFirstLaw" (25 : Nat) ({ cls := "OverFirst", name := "walk", desc := "()I" } : Jvm.MethodName)) ∈ lw_all := lw_g (lw_at lw_m5 84 rfl) rfl
theorem q1193 : (Jvm.Cond.methodLink "OverFirstLaw" (29 : Nat) ({ cls := "OverFirst", name := "light", desc := "(III)I" } : Jvm.MethodName)) ∈ lw_all := lw_g (lw_at lw_m5 98 rfl) rfl
theorem q1222 : (Jvm.Cond.methodLink "OverFirstLaw" (34 : Nat) ({ cls := "OverFirst", name := "green", desc := "(IIII)I" } : Jvm.MethodName)) ∈ lw_all := lw_g (lw_at lw_m5 127 rfl) rfl
theorem q1269 : (Jvm.Cond.methodLink "OverFirstLaw" (39 : Nat) ({ cls := "OverFirst", name := "until", desc := "(IIII)I" } : Jvm.MethodName)) ∈ lw_all := lw_g (lw_at lw_m5 174 rfl) rfl
theorem q1270 : (Jvm.Cond.methodLink "OverFirstLaw" (43 : Nat) ({ cls := "OverFirst", name := "go", desc := "(IZ)I" } : Jvm.MethodName)) ∈ lw_all := lw_g (lw_at lw_m5 175 rfl) rfl
theorem q1295 : (Jvm.Cond.methodLink "OverFirstLaw" (48 : Nat) ({ cls := "OverFirst", name := "stay", desc := "(I)I" } : Jvm.MethodName)) ∈ lw_all := lw_g (lw_at lw_m5 200 rfl) rfl
theorem q1299 : (Jvm.Cond.methodLink "OverFirstLaw" (53 : Nat) ({ cls := "OverFirst", name := "look", desc := "()Z" } : Jvm.MethodName)) ∈ lw_all := lw_g (lw_at lw_m5 204 rfl) rfl
theorem q1317 : (Jvm.Cond.methodLink "OverFirstLaw" (58 : Nat) ({ cls := "OverFirst", name := "undo", desc := "()Z" } : Jvm.MethodName)) ∈ lw_all := lw_g (lw_at lw_m5 222 rfl) rfl
theorem q1321 : (Jvm.Cond.methodLink "OverFirstLaw" (62 : Nat) ({ cls := "OverFirst", name := "judged", desc := "()I" } : Jvm.MethodName)) ∈ lw_all := lw_g (lw_at lw_m5 226 rfl) rfl
theorem q1329 : (Jvm.Cond.methodLink "OverFirstLaw" (66 : Nat) ({ cls := "OverFirst", name := "soonest", desc := "(IIII)I" } : Jvm.MethodName)) ∈ lw_all := lw_g (lw_at lw_m5 234 rfl) rfl
theorem q1418 : (Jvm.Cond.methodLink "OverFirstLaw" (90 : Nat) ({ cls := "OverFirst", name := "latest", desc := "(III)I" } : Jvm.MethodName)) ∈ lw_all := lw_g (lw_at lw_m6 83 rfl) rfl
theorem q1423 : (Jvm.Cond.methodLink "OverFirstLaw" (94 : Nat) ({ cls := "OverFirst", name := "turning", desc := "(II)I" } : Jvm.MethodName)) ∈ lw_all := lw_g (lw_at lw_m6 88 rfl) rfl
theorem q1441 : (Jvm.Cond.methodLink "OverFirstLaw" (70 : Nat) ({ cls := "OverFirst", name := "mean", desc := "(IIII)I" } : Jvm.MethodName)) ∈ lw_all := lw_g (lw_at lw_m6 106 rfl) rfl
theorem q1450 : (Jvm.Cond.methodLink "OverFirstLaw" (74 : Nat) ({ cls := "OverFirst", name := "worst", desc := "(IIII)I" } : Jvm.MethodName)) ∈ lw_all := lw_g (lw_at lw_m6 115 rfl) rfl
theorem q1454 : (Jvm.Cond.methodLink "OverFirstLaw" (78 : Nat) ({ cls := "OverFirst", name := "choice", desc := "(IIII)I" } : Jvm.MethodName)) ∈ lw_all := lw_g (lw_at lw_m6 119 rfl) rfl
theorem q1458 : (Jvm.Cond.methodLink "OverFirstLaw" (82 : Nat) ({ cls := "OverFirst", name := "gap", desc := "(III)I" } : Jvm.MethodName)) ∈ lw_all := lw_g (lw_at lw_m6 123 rfl) rfl
theorem q1463 : (Jvm.Cond.methodLink "OverFirstLaw" (86 : Nat) ({ cls := "OverFirst", name := "watch", desc := "(III)I" } : Jvm.MethodName)) ∈ lw_all := lw_g (lw_at lw_m6 128 rfl) rfl
theorem q1467 : (Jvm.Cond.methodLink "OverFirstLaw" (99 : Nat) ({ cls := "OverFirst", name := "worthiest", desc := "(I)I" } : Jvm.MethodName)) ∈ lw_all := lw_g (lw_at lw_m6 132 rfl) rfl
theorem q1472 : (Jvm.Cond.methodLink "OverFirstLaw" (103 : Nat) ({ cls := "OverFirst", name := "odds", desc := "(III)I" } : Jvm.MethodName)) ∈ lw_all := lw_g (lw_at lw_m6 137 rfl) rfl
theorem q1484 : (Jvm.Cond.methodLink "OverFirstLaw" (126 : Nat) ({ cls := "OverFirst", name := "rules", desc := "()I" } : Jvm.MethodName)) ∈ lw_all := lw_g (lw_at lw_m6 149 rfl) rfl
theorem q1488 : (Jvm.Cond.methodLink "OverFirstLaw" (107 : Nat) ({ cls := "OverFirst", name := "pace", desc := "(II)I" } : Jvm.MethodName)) ∈ lw_all := lw_g (lw_at lw_m6 153 rfl) rfl
theorem q1526 : (Jvm.Cond.methodLink "OverFirstLaw" (111 : Nat) ({ cls := "OverFirst", name := "tried", desc := "(IIZI)Z" } : Jvm.MethodName)) ∈ lw_all := lw_g (lw_at lw_m6 191 rfl) rfl
theorem q1534 : (Jvm.Cond.methodLink "OverFirstLaw" (116 : Nat) ({ cls := "OverFirst", name := "does", desc := "(III)J" } : Jvm.MethodName)) ∈ lw_all := lw_g (lw_at lw_m6 199 rfl) rfl
theorem q1542 : (Jvm.Cond.methodLink "OverFirstLaw" (121 : Nat) ({ cls := "OverFirst", name := "wave", desc := "(IIIZI)I" } : Jvm.MethodName)) ∈ lw_all := lw_g (lw_at lw_m6 207 rfl) rfl
theorem q1569 : (Jvm.Cond.methodLink "OverFirstLaw" (130 : Nat) ({ cls := "OverFirst", name := "was", desc := "(III)Z" } : Jvm.MethodName)) ∈ lw_all := lw_g (lw_at lw_m6 234 rfl) rfl
theorem q1573 : (Jvm.Cond.methodLink "OverFirstLaw" (135 : Nat) ({ cls := "OverFirst", name := "fits", desc := "(I)J" } : Jvm.MethodName)) ∈ lw_all := lw_g (lw_at lw_m6 238 rfl) rfl
theorem q1585 : (Jvm.Cond.methodLink "OverFirstLaw" (140 : Nat) ({ cls := "OverFirst", name := "nights", desc := "(IIII)I" } : Jvm.MethodName)) ∈ lw_all := lw_g (lw_at lw_m7 10 rfl) rfl
theorem q1601 : (Jvm.Cond.methodLink "OverFirstLaw" (144 : Nat) ({ cls := "OverFirst", name := "mark", desc := "(IZ)Z" } : Jvm.MethodName)) ∈ lw_all := lw_g (lw_at lw_m7 26 rfl) rfl
theorem q1610 : (Jvm.Cond.methodLink "OverFirstLaw" (149 : Nat) ({ cls := "OverFirst", name := "count", desc := "(I)I" } : Jvm.MethodName)) ∈ lw_all := lw_g (lw_at lw_m7 35 rfl) rfl
theorem q1622 : (Jvm.Cond.methodLink "OverFirstLaw" (19 : Nat) ({ cls := "OverFirstModel", name := "feed", desc := "(JJJ)I" } : Jvm.MethodName)) ∈ lw_all := lw_g (lw_at lw_m7 47 rfl) rfl
theorem q1631 : (Jvm.Cond.classLink "OverFirstLaw" (10 : Nat) "OverFirstModel") ∈ lw_all := lw_g (lw_at lw_m7 56 rfl) rfl
theorem q1632 : (Jvm.Cond.methodLink "OverFirstLaw" (12 : Nat) ({ cls := "OverFirstModel", name := "<init>", desc := "()V" } : Jvm.MethodName)) ∈ lw_all := lw_g (lw_at lw_m7 57 rfl) rfl
theorem q1813 : (Jvm.Cond.methodLink "OverFirstLaw" (24 : Nat) ({ cls := "OverFirstModel", name := "town", desc := "()I" } : Jvm.MethodName)) ∈ lw_all := lw_g (lw_at lw_m7 238 rfl) rfl
theorem q1927 : (Jvm.Cond.methodLink "OverFirstLaw" (28 : Nat) ({ cls := "OverFirstModel", name := "walk", desc := "()I" } : Jvm.MethodName)) ∈ lw_all := lw_g (lw_at lw_m8 112 rfl) rfl
theorem q1947 : (Jvm.Cond.methodLink "OverFirstLaw" (33 : Nat) ({ cls := "OverFirstModel", name := "light", desc := "(III)I" } : Jvm.MethodName)) ∈ lw_all := lw_g (lw_at lw_m8 132 rfl) rfl
theorem q1970 : (Jvm.Cond.methodLink "OverFirstLaw" (38 : Nat) ({ cls := "OverFirstModel", name := "green", desc := "(IIII)I" } : Jvm.MethodName)) ∈ lw_all := lw_g (lw_at lw_m8 155 rfl) rfl
theorem q1995 : (Jvm.Cond.methodLink "OverFirstLaw" (42 : Nat) ({ cls := "OverFirstModel", name := "until", desc := "(IIII)I" } : Jvm.MethodName)) ∈ lw_all := lw_g (lw_at lw_m8 180 rfl) rfl
theorem q2003 : (Jvm.Cond.methodLink "OverFirstLaw" (47 : Nat) ({ cls := "OverFirstModel", name := "go", desc := "(IZ)I" } : Jvm.MethodName)) ∈ lw_all := lw_g (lw_at lw_m8 188 rfl) rfl
theorem q2019 : (Jvm.Cond.methodLink "OverFirstLaw" (52 : Nat) ({ cls := "OverFirstModel", name := "stay", desc := "(I)I" } : Jvm.MethodName)) ∈ lw_all := lw_g (lw_at lw_m8 204 rfl) rfl
theorem q2023 : (Jvm.Cond.methodLink "OverFirstLaw" (57 : Nat) ({ cls := "OverFirstModel", name := "look", desc := "()Z" } : Jvm.MethodName)) ∈ lw_all := lw_g (lw_at lw_m8 208 rfl) rfl
theorem q2027 : (Jvm.Cond.methodLink "OverFirstLaw" (61 : Nat) ({ cls := "OverFirstModel", name := "undo", desc := "()Z" } : Jvm.MethodName)) ∈ lw_all := lw_g (lw_at lw_m8 212 rfl) rfl
theorem q2031 : (Jvm.Cond.methodLink "OverFirstLaw" (65 : Nat) ({ cls := "OverFirstModel", name := "judged", desc := "()I" } : Jvm.MethodName)) ∈ lw_all := lw_g (lw_at lw_m8 216 rfl) rfl
theorem q2035 : (Jvm.Cond.methodLink "OverFirstLaw" (69 : Nat) ({ cls := "OverFirstModel", name := "soonest", desc := "(IIII)I" } : Jvm.MethodName)) ∈ lw_all := lw_g (lw_at lw_m8 220 rfl) rfl
theorem q2052 : (Jvm.Cond.methodLink "OverFirstLaw" (93 : Nat) ({ cls := "OverFirstModel", name := "latest", desc := "(III)I" } : Jvm.MethodName)) ∈ lw_all := lw_g (lw_at lw_m8 237 rfl) rfl
theorem q2056 : (Jvm.Cond.methodLink "OverFirstLaw" (98 : Nat) ({ cls := "OverFirstModel", name := "turning", desc := "(II)I" } : Jvm.MethodName)) ∈ lw_all := lw_g (lw_at lw_m9 1 rfl) rfl
theorem q2064 : (Jvm.Cond.methodLink "OverFirstLaw" (73 : Nat) ({ cls := "OverFirstModel", name := "mean", desc := "(IIII)I" } : Jvm.MethodName)) ∈ lw_all := lw_g (lw_at lw_m9 9 rfl) rfl
theorem q2111 : (Jvm.Cond.methodLink "OverFirstLaw" (77 : Nat) ({ cls := "OverFirstModel", name := "worst", desc := "(IIII)I" } : Jvm.MethodName)) ∈ lw_all := lw_g (lw_at lw_m9 56 rfl) rfl
theorem q2115 : (Jvm.Cond.methodLink "OverFirstLaw" (81 : Nat) ({ cls := "OverFirstModel", name := "choice", desc := "(IIII)I" } : Jvm.MethodName)) ∈ lw_all := lw_g (lw_at lw_m9 60 rfl) rfl
theorem q2119 : (Jvm.Cond.methodLink "OverFirstLaw" (85 : Nat) ({ cls := "OverFirstModel", name := "gap", desc := "(III)I" } : Jvm.MethodName)) ∈ lw_all := lw_g (lw_at lw_m9 64 rfl) rfl
theorem q2123 : (Jvm.Cond.methodLink "OverFirstLaw" (89 : Nat) ({ cls := "OverFirstModel", name := "watch", desc := "(III)I" } : Jvm.MethodName)) ∈ lw_all := lw_g (lw_at lw_m9 68 rfl) rfl
theorem q2127 : (Jvm.Cond.methodLink "OverFirstLaw" (102 : Nat) ({ cls := "OverFirstModel", name := "worthiest", desc := "(I)I" } : Jvm.MethodName)) ∈ lw_all := lw_g (lw_at lw_m9 72 rfl) rfl
theorem q2136 : (Jvm.Cond.methodLink "OverFirstLaw" (106 : Nat) ({ cls := "OverFirstModel", name := "odds", desc := "(III)I" } : Jvm.MethodName)) ∈ lw_all := lw_g (lw_at lw_m9 81 rfl) rfl
theorem q2144 : (Jvm.Cond.methodLink "OverFirstLaw" (110 : Nat) ({ cls := "OverFirstModel", name := "pace", desc := "(II)I" } : Jvm.MethodName)) ∈ lw_all := lw_g (lw_at lw_m9 89 rfl) rfl
theorem q2173 : (Jvm.Cond.methodLink "OverFirstLaw" (115 : Nat) ({ cls := "OverFirstModel", name := "tried", desc := "(IIZI)Z" } : Jvm.MethodName)) ∈ lw_all := lw_g (lw_at lw_m9 118 rfl) rfl
theorem q2177 : (Jvm.Cond.methodLink "OverFirstLaw" (120 : Nat) ({ cls := "OverFirstModel", name := "does", desc := "(III)J" } : Jvm.MethodName)) ∈ lw_all := lw_g (lw_at lw_m9 122 rfl) rfl
theorem q2182 : (Jvm.Cond.methodLink "OverFirstLaw" (125 : Nat) ({ cls := "OverFirstModel", name := "wave", desc := "(IIIZI)I" } : Jvm.MethodName)) ∈ lw_all := lw_g (lw_at lw_m9 127 rfl) rfl
theorem q2196 : (Jvm.Cond.methodLink "OverFirstLaw" (129 : Nat) ({ cls := "OverFirstModel", name := "rules", desc := "()I" } : Jvm.MethodName)) ∈ lw_all := lw_g (lw_at lw_m9 141 rfl) rfl
theorem q2200 : (Jvm.Cond.methodLink "OverFirstLaw" (134 : Nat) ({ cls := "OverFirstModel", name := "was", desc := "(III)Z" } : Jvm.MethodName)) ∈ lw_all := lw_g (lw_at lw_m9 145 rfl) rfl
theorem q2204 : (Jvm.Cond.methodLink "OverFirstLaw" (139 : Nat) ({ cls := "OverFirstModel", name := "fits", desc := "(I)J" } : Jvm.MethodName)) ∈ lw_all := lw_g (lw_at lw_m9 149 rfl) rfl
theorem q2220 : (Jvm.Cond.methodLink "OverFirstLaw" (143 : Nat) ({ cls := "OverFirstModel", name := "nights", desc := "(IIII)I" } : Jvm.MethodName)) ∈ lw_all := lw_g (lw_at lw_m9 165 rfl) rfl
theorem q2240 : (Jvm.Cond.methodLink "OverFirstLaw" (148 : Nat) ({ cls := "OverFirstModel", name := "mark", desc := "(IZ)Z" } : Jvm.MethodName)) ∈ lw_all := lw_g (lw_at lw_m9 185 rfl) rfl
theorem q2244 : (Jvm.Cond.methodLink "OverFirstLaw" (152 : Nat) ({ cls := "OverFirstModel", name := "count", desc := "(I)I" } : Jvm.MethodName)) ∈ lw_all := lw_g (lw_at lw_m9 189 rfl) rfl
theorem q2248 : (Jvm.Cond.constantLong "OverFirstLaw" (13 : Nat) (4294967295 : Int64)) ∈ lw_all := lw_g (lw_at lw_m9 193 rfl) rfl
theorem q972 : (Jvm.Cond.sameMethod "[B" "java/lang/Object" "clone" "()Ljava/lang/Object;") ∈ lw_all := lw_g (lw_at lw_m4 117 rfl) rfl
set_option maxRecDepth 100000
theorem q975 : (Jvm.Cond.selects "[B" ({ cls := "[B", name := "clone", desc := "()Ljava/lang/Object;" } : Jvm.MethodName) ({ cls := "java/lang/Object", name := "clone", desc := "()Ljava/lang/Object;" } : Jvm.MethodName)) ∈ lw_all := lw_g (lw_at lw_m4 120 rfl) rfl
theorem q976 : (Jvm.Cond.castable "[B" "java/lang/Cloneable") ∈ lw_tbl := lw_at lw_m4 121 rfl
theorem q2290 : (Jvm.Cond.castable "[B" "java/lang/Object") ∈ lw_tbl := lw_at lw_m9 235 rfl
theorem q2293 : (Jvm.Cond.castable "[I" "java/lang/Object") ∈ lw_tbl := lw_at lw_m9 238 rfl
set_option maxRecDepth 100000
theorem q2296 : (Jvm.Cond.castable "[J" "java/lang/Object") ∈ lw_tbl := lw_at lw_m10 1 rfl
set_option maxRecDepth 100000
theorem q2291 : (Jvm.Cond.castable "[LOverFirst$Light;" "java/lang/Object") ∈ lw_tbl := lw_at lw_m9 236 rfl
set_option maxRecDepth 100000
theorem q2295 : (Jvm.Cond.castable "[LOverFirst$State;" "java/lang/Object") ∈ lw_tbl := lw_at lw_m10 0 rfl
set_option maxRecDepth 100000
theorem q2287 : (Jvm.Cond.sameMethod "[Ljava/lang/Object;" "java/lang/Object" "getClass" "()Ljava/lang/Class;") ∈ lw_all := lw_g (lw_at lw_m9 232 rfl) rfl
set_option maxRecDepth 100000
theorem q2288 : (Jvm.Cond.selects "[Ljava/lang/Object;" ({ cls := "java/lang/Object", name := "getClass", desc := "()Ljava/lang/Class;" } : Jvm.MethodName) ({ cls := "java/lang/Object", name := "getClass", desc := "()Ljava/lang/Class;" } : Jvm.MethodName)) ∈ lw_all := lw_g (lw_at lw_m9 233 rfl) rfl
theorem q2292 : (Jvm.Cond.castable "[Ljava/lang/Object;" "java/lang/Object") ∈ lw_tbl := lw_at lw_m9 237 rfl
theorem q2294 : (Jvm.Cond.castable "[Z" "java/lang/Object") ∈ lw_tbl := lw_at lw_m9 239 rfl
set_option maxRecDepth 100000
theorem q147 : (Jvm.Cond.initialized "java/lang/System") ∈ lw_all := lw_g (lw_at lw_m1 12 rfl) rfl
set_option maxRecDepth 100000
theorem q333 : (Jvm.Cond.static ({ cls := "java/lang/System", name := "arraycopy", desc := "(Ljava/lang/Object;ILjava/lang/Object;II)V" } : Jvm.MethodName)) ∈ lw_all := lw_g (lw_at lw_m1 198 rfl) rfl
theorem q334 : (Jvm.Cond.native ({ cls := "java/lang/System", name := "arraycopy", desc := "(Ljava/lang/Object;ILjava/lang/Object;II)V" } : Jvm.MethodName)) ∈ lw_all := lw_g (lw_at lw_m1 199 rfl) rfl
theorem q216 : (Jvm.Cond.arrayClass Jvm.ClassFile.FieldType.byte) ∈ lw_all := lw_g (lw_at lw_m1 81 rfl) rfl
set_option maxRecDepth 100000
theorem q224 : (Jvm.Cond.arrayOver (Jvm.ClassFile.FieldType.object "OverFirst$Light")) ∈ lw_tbl := lw_at lw_m1 89 rfl
theorem q238 : (Jvm.Cond.arrayOver (Jvm.ClassFile.FieldType.object "java/lang/Object")) ∈ lw_tbl := lw_at lw_m1 103 rfl
theorem q253 : (Jvm.Cond.arrayClass Jvm.ClassFile.FieldType.int) ∈ lw_all := lw_g (lw_at lw_m1 118 rfl) rfl
theorem q485 : (Jvm.Cond.arrayClass Jvm.ClassFile.FieldType.boolean) ∈ lw_all := lw_g (lw_at lw_m2 110 rfl) rfl
theorem q486 : (Jvm.Cond.arrayOver (Jvm.ClassFile.FieldType.object "OverFirst$State")) ∈ lw_tbl := lw_at lw_m2 111 rfl
theorem q575 : (Jvm.Cond.arrayClass Jvm.ClassFile.FieldType.long) ∈ lw_all := lw_g (lw_at lw_m2 200 rfl) rfl
