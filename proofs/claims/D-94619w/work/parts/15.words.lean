/-! words without a class of their own -/
set_option maxRecDepth 100000
theorem q141 : (Jvm.Cond.initialized "BorderStonesLaw") ∈ lw_all := lw_g (lw_at lw_m1 0 rfl) rfl
theorem q181 : (Jvm.Cond.classLink "BorderStonesLaw" (7 : Nat) "BorderStones") ∈ lw_all := lw_g (lw_at lw_m1 40 rfl) rfl
theorem q183 : (Jvm.Cond.methodLink "BorderStonesLaw" (9 : Nat) ({ cls := "BorderStones", name := "<init>", desc := "()V" } : Jvm.MethodName)) ∈ lw_all := lw_g (lw_at lw_m1 42 rfl) rfl
theorem q532 : (Jvm.Cond.methodLink "BorderStonesLaw" (13 : Nat) ({ cls := "BorderStones", name := "feed", desc := "(IIIII)I" } : Jvm.MethodName)) ∈ lw_all := lw_g (lw_at lw_m2 151 rfl) rfl
theorem q540 : (Jvm.Cond.methodLink "BorderStonesLaw" (18 : Nat) ({ cls := "BorderStones", name := "end", desc := "(I)Z" } : Jvm.MethodName)) ∈ lw_all := lw_g (lw_at lw_m2 159 rfl) rfl
theorem q544 : (Jvm.Cond.methodLink "BorderStonesLaw" (23 : Nat) ({ cls := "BorderStones", name := "border", desc := "()I" } : Jvm.MethodName)) ∈ lw_all := lw_g (lw_at lw_m2 163 rfl) rfl
theorem q1313 : (Jvm.Cond.methodLink "BorderStonesLaw" (28 : Nat) ({ cls := "BorderStones", name := "fault", desc := "(I)I" } : Jvm.MethodName)) ∈ lw_all := lw_g (lw_at lw_m5 212 rfl) rfl
theorem q1317 : (Jvm.Cond.methodLink "BorderStonesLaw" (33 : Nat) ({ cls := "BorderStones", name := "has", desc := "(I)I" } : Jvm.MethodName)) ∈ lw_all := lw_g (lw_at lw_m5 216 rfl) rfl
theorem q1337 : (Jvm.Cond.methodLink "BorderStonesLaw" (37 : Nat) ({ cls := "BorderStones", name := "letter", desc := "(II)I" } : Jvm.MethodName)) ∈ lw_all := lw_g (lw_at lw_m5 236 rfl) rfl
theorem q1363 : (Jvm.Cond.methodLink "BorderStonesLaw" (42 : Nat) ({ cls := "BorderStones", name := "kind", desc := "(II)I" } : Jvm.MethodName)) ∈ lw_all := lw_g (lw_at lw_m6 22 rfl) rfl
theorem q1368 : (Jvm.Cond.methodLink "BorderStonesLaw" (46 : Nat) ({ cls := "BorderStones", name := "place", desc := "(II)I" } : Jvm.MethodName)) ∈ lw_all := lw_g (lw_at lw_m6 27 rfl) rfl
theorem q1418 : (Jvm.Cond.methodLink "BorderStonesLaw" (50 : Nat) ({ cls := "BorderStones", name := "side", desc := "(II)I" } : Jvm.MethodName)) ∈ lw_all := lw_g (lw_at lw_m6 77 rfl) rfl
theorem q1429 : (Jvm.Cond.methodLink "BorderStonesLaw" (54 : Nat) ({ cls := "BorderStones", name := "set", desc := "(II)I" } : Jvm.MethodName)) ∈ lw_all := lw_g (lw_at lw_m6 88 rfl) rfl
theorem q1465 : (Jvm.Cond.methodLink "BorderStonesLaw" (58 : Nat) ({ cls := "BorderStones", name := "undo", desc := "()Z" } : Jvm.MethodName)) ∈ lw_all := lw_g (lw_at lw_m6 124 rfl) rfl
theorem q1469 : (Jvm.Cond.methodLink "BorderStonesLaw" (63 : Nat) ({ cls := "BorderStones", name := "threat", desc := "(III)I" } : Jvm.MethodName)) ∈ lw_all := lw_g (lw_at lw_m6 128 rfl) rfl
theorem q1473 : (Jvm.Cond.methodLink "BorderStonesLaw" (68 : Nat) ({ cls := "BorderStones", name := "answer", desc := "(I)I" } : Jvm.MethodName)) ∈ lw_all := lw_g (lw_at lw_m6 132 rfl) rfl
theorem q1478 : (Jvm.Cond.methodLink "BorderStonesLaw" (72 : Nat) ({ cls := "BorderStones", name := "fork", desc := "(I)I" } : Jvm.MethodName)) ∈ lw_all := lw_g (lw_at lw_m6 137 rfl) rfl
theorem q1483 : (Jvm.Cond.methodLink "BorderStonesLaw" (76 : Nat) ({ cls := "BorderStones", name := "line", desc := "(II)I" } : Jvm.MethodName)) ∈ lw_all := lw_g (lw_at lw_m6 142 rfl) rfl
theorem q1488 : (Jvm.Cond.methodLink "BorderStonesLaw" (80 : Nat) ({ cls := "BorderStones", name := "play", desc := "(II)I" } : Jvm.MethodName)) ∈ lw_all := lw_g (lw_at lw_m6 147 rfl) rfl
theorem q1511 : (Jvm.Cond.methodLink "BorderStonesLaw" (84 : Nat) ({ cls := "BorderStones", name := "thumb", desc := "(III)I" } : Jvm.MethodName)) ∈ lw_all := lw_g (lw_at lw_m6 170 rfl) rfl
theorem q1523 : (Jvm.Cond.methodLink "BorderStonesLaw" (88 : Nat) ({ cls := "BorderStones", name := "truce", desc := "(I)I" } : Jvm.MethodName)) ∈ lw_all := lw_g (lw_at lw_m6 182 rfl) rfl
theorem q1531 : (Jvm.Cond.methodLink "BorderStonesLaw" (92 : Nat) ({ cls := "BorderStones", name := "rows", desc := "()I" } : Jvm.MethodName)) ∈ lw_all := lw_g (lw_at lw_m6 190 rfl) rfl
theorem q1540 : (Jvm.Cond.methodLink "BorderStonesLaw" (98 : Nat) ({ cls := "BorderStones", name := "hidden", desc := "(JIIII)I" } : Jvm.MethodName)) ∈ lw_all := lw_g (lw_at lw_m6 199 rfl) rfl
theorem q1563 : (Jvm.Cond.methodLink "BorderStonesLaw" (103 : Nat) ({ cls := "BorderStones", name := "look", desc := "(JIII)I" } : Jvm.MethodName)) ∈ lw_all := lw_g (lw_at lw_m6 222 rfl) rfl
theorem q1567 : (Jvm.Cond.methodLink "BorderStonesLaw" (108 : Nat) ({ cls := "BorderStones", name := "seed", desc := "(I)Z" } : Jvm.MethodName)) ∈ lw_all := lw_g (lw_at lw_m6 226 rfl) rfl
theorem q1571 : (Jvm.Cond.methodLink "BorderStonesLaw" (112 : Nat) ({ cls := "BorderStones", name := "year", desc := "(I)I" } : Jvm.MethodName)) ∈ lw_all := lw_g (lw_at lw_m6 230 rfl) rfl
theorem q1584 : (Jvm.Cond.methodLink "BorderStonesLaw" (116 : Nat) ({ cls := "BorderStones", name := "image", desc := "()I" } : Jvm.MethodName)) ∈ lw_all := lw_g (lw_at lw_m7 3 rfl) rfl
theorem q1592 : (Jvm.Cond.methodLink "BorderStonesLaw" (120 : Nat) ({ cls := "BorderStones", name := "octet", desc := "(I)I" } : Jvm.MethodName)) ∈ lw_all := lw_g (lw_at lw_m7 11 rfl) rfl
theorem q1596 : (Jvm.Cond.classLink "BorderStonesLaw" (10 : Nat) "BorderStonesModel") ∈ lw_all := lw_g (lw_at lw_m7 15 rfl) rfl
theorem q1598 : (Jvm.Cond.methodLink "BorderStonesLaw" (12 : Nat) ({ cls := "BorderStonesModel", name := "<init>", desc := "()V" } : Jvm.MethodName)) ∈ lw_all := lw_g (lw_at lw_m7 17 rfl) rfl
theorem q1861 : (Jvm.Cond.methodLink "BorderStonesLaw" (17 : Nat) ({ cls := "BorderStonesModel", name := "feed", desc := "(IIIII)I" } : Jvm.MethodName)) ∈ lw_all := lw_g (lw_at lw_m8 40 rfl) rfl
theorem q1865 : (Jvm.Cond.methodLink "BorderStonesLaw" (22 : Nat) ({ cls := "BorderStonesModel", name := "end", desc := "(I)Z" } : Jvm.MethodName)) ∈ lw_all := lw_g (lw_at lw_m8 44 rfl) rfl
theorem q1869 : (Jvm.Cond.methodLink "BorderStonesLaw" (27 : Nat) ({ cls := "BorderStonesModel", name := "border", desc := "()I" } : Jvm.MethodName)) ∈ lw_all := lw_g (lw_at lw_m8 48 rfl) rfl
theorem q2062 : (Jvm.Cond.methodLink "BorderStonesLaw" (32 : Nat) ({ cls := "BorderStonesModel", name := "fault", desc := "(I)I" } : Jvm.MethodName)) ∈ lw_all := lw_g (lw_at lw_m9 1 rfl) rfl
theorem q2066 : (Jvm.Cond.methodLink "BorderStonesLaw" (36 : Nat) ({ cls := "BorderStonesModel", name := "has", desc := "(I)I" } : Jvm.MethodName)) ∈ lw_all := lw_g (lw_at lw_m9 5 rfl) rfl
theorem q2093 : (Jvm.Cond.methodLink "BorderStonesLaw" (41 : Nat) ({ cls := "BorderStonesModel", name := "letter", desc := "(II)I" } : Jvm.MethodName)) ∈ lw_all := lw_g (lw_at lw_m9 32 rfl) rfl
theorem q2102 : (Jvm.Cond.methodLink "BorderStonesLaw" (45 : Nat) ({ cls := "BorderStonesModel", name := "kind", desc := "(II)I" } : Jvm.MethodName)) ∈ lw_all := lw_g (lw_at lw_m9 41 rfl) rfl
theorem q2106 : (Jvm.Cond.methodLink "BorderStonesLaw" (49 : Nat) ({ cls := "BorderStonesModel", name := "place", desc := "(II)I" } : Jvm.MethodName)) ∈ lw_all := lw_g (lw_at lw_m9 45 rfl) rfl
theorem q2166 : (Jvm.Cond.methodLink "BorderStonesLaw" (53 : Nat) ({ cls := "BorderStonesModel", name := "side", desc := "(II)I" } : Jvm.MethodName)) ∈ lw_all := lw_g (lw_at lw_m9 105 rfl) rfl
theorem q2174 : (Jvm.Cond.methodLink "BorderStonesLaw" (57 : Nat) ({ cls := "BorderStonesModel", name := "set", desc := "(II)I" } : Jvm.MethodName)) ∈ lw_all := lw_g (lw_at lw_m9 113 rfl) rfl
theorem q2210 : (Jvm.Cond.methodLink "BorderStonesLaw" (62 : Nat) ({ cls := "BorderStonesModel", name := "undo", desc := "()Z" } : Jvm.MethodName)) ∈ lw_all := lw_g (lw_at lw_m9 149 rfl) rfl
theorem q2214 : (Jvm.Cond.methodLink "BorderStonesLaw" (67 : Nat) ({ cls := "BorderStonesModel", name := "threat", desc := "(III)I" } : Jvm.MethodName)) ∈ lw_all := lw_g (lw_at lw_m9 153 rfl) rfl
theorem q2235 : (Jvm.Cond.methodLink "BorderStonesLaw" (71 : Nat) ({ cls := "BorderStonesModel", name := "answer", desc := "(I)I" } : Jvm.MethodName)) ∈ lw_all := lw_g (lw_at lw_m9 174 rfl) rfl
theorem q2239 : (Jvm.Cond.methodLink "BorderStonesLaw" (75 : Nat) ({ cls := "BorderStonesModel", name := "fork", desc := "(I)I" } : Jvm.MethodName)) ∈ lw_all := lw_g (lw_at lw_m9 178 rfl) rfl
theorem q2243 : (Jvm.Cond.methodLink "BorderStonesLaw" (79 : Nat) ({ cls := "BorderStonesModel", name := "line", desc := "(II)I" } : Jvm.MethodName)) ∈ lw_all := lw_g (lw_at lw_m9 182 rfl) rfl
theorem q2247 : (Jvm.Cond.methodLink "BorderStonesLaw" (83 : Nat) ({ cls := "BorderStonesModel", name := "play", desc := "(II)I" } : Jvm.MethodName)) ∈ lw_all := lw_g (lw_at lw_m9 186 rfl) rfl
theorem q2273 : (Jvm.Cond.methodLink "BorderStonesLaw" (87 : Nat) ({ cls := "BorderStonesModel", name := "thumb", desc := "(III)I" } : Jvm.MethodName)) ∈ lw_all := lw_g (lw_at lw_m9 212 rfl) rfl
theorem q2285 : (Jvm.Cond.methodLink "BorderStonesLaw" (91 : Nat) ({ cls := "BorderStonesModel", name := "truce", desc := "(I)I" } : Jvm.MethodName)) ∈ lw_all := lw_g (lw_at lw_m9 224 rfl) rfl
theorem q2290 : (Jvm.Cond.methodLink "BorderStonesLaw" (95 : Nat) ({ cls := "BorderStonesModel", name := "rows", desc := "()I" } : Jvm.MethodName)) ∈ lw_all := lw_g (lw_at lw_m9 229 rfl) rfl
theorem q2303 : (Jvm.Cond.methodLink "BorderStonesLaw" (102 : Nat) ({ cls := "BorderStonesModel", name := "hidden", desc := "(JIIII)I" } : Jvm.MethodName)) ∈ lw_all := lw_g (lw_at lw_m10 2 rfl) rfl
theorem q2314 : (Jvm.Cond.methodLink "BorderStonesLaw" (107 : Nat) ({ cls := "BorderStonesModel", name := "look", desc := "(JIII)I" } : Jvm.MethodName)) ∈ lw_all := lw_g (lw_at lw_m10 13 rfl) rfl
theorem q2318 : (Jvm.Cond.methodLink "BorderStonesLaw" (111 : Nat) ({ cls := "BorderStonesModel", name := "seed", desc := "(I)Z" } : Jvm.MethodName)) ∈ lw_all := lw_g (lw_at lw_m10 17 rfl) rfl
theorem q2322 : (Jvm.Cond.methodLink "BorderStonesLaw" (115 : Nat) ({ cls := "BorderStonesModel", name := "year", desc := "(I)I" } : Jvm.MethodName)) ∈ lw_all := lw_g (lw_at lw_m10 21 rfl) rfl
theorem q2335 : (Jvm.Cond.methodLink "BorderStonesLaw" (119 : Nat) ({ cls := "BorderStonesModel", name := "image", desc := "()I" } : Jvm.MethodName)) ∈ lw_all := lw_g (lw_at lw_m10 34 rfl) rfl
theorem q2343 : (Jvm.Cond.methodLink "BorderStonesLaw" (123 : Nat) ({ cls := "BorderStonesModel", name := "octet", desc := "(I)I" } : Jvm.MethodName)) ∈ lw_all := lw_g (lw_at lw_m10 42 rfl) rfl
theorem q2347 : (Jvm.Cond.constantLong "BorderStonesLaw" (96 : Nat) (4294967295 : Int64)) ∈ lw_all := lw_g (lw_at lw_m10 46 rfl) rfl
theorem q1058 : (Jvm.Cond.sameMethod "[B" "java/lang/Object" "clone" "()Ljava/lang/Object;") ∈ lw_all := lw_g (lw_at lw_m4 197 rfl) rfl
theorem q1061 : (Jvm.Cond.selects "[B" ({ cls := "[B", name := "clone", desc := "()Ljava/lang/Object;" } : Jvm.MethodName) ({ cls := "java/lang/Object", name := "clone", desc := "()Ljava/lang/Object;" } : Jvm.MethodName)) ∈ lw_all := lw_g (lw_at lw_m4 200 rfl) rfl
theorem q1062 : (Jvm.Cond.castable "[B" "java/lang/Cloneable") ∈ lw_tbl := lw_at lw_m4 201 rfl
theorem q2393 : (Jvm.Cond.castable "[B" "java/lang/Object") ∈ lw_tbl := lw_at lw_m10 92 rfl
theorem q2395 : (Jvm.Cond.castable "[C" "java/lang/Object") ∈ lw_tbl := lw_at lw_m10 94 rfl
theorem q2391 : (Jvm.Cond.castable "[I" "java/lang/Object") ∈ lw_tbl := lw_at lw_m10 90 rfl
theorem q2392 : (Jvm.Cond.castable "[J" "java/lang/Object") ∈ lw_tbl := lw_at lw_m10 91 rfl
theorem q2394 : (Jvm.Cond.castable "[LBorderStones$State;" "java/lang/Object") ∈ lw_tbl := lw_at lw_m10 93 rfl
theorem q2385 : (Jvm.Cond.sameMethod "[Ljava/lang/Object;" "java/lang/Object" "getClass" "()Ljava/lang/Class;") ∈ lw_all := lw_g (lw_at lw_m10 84 rfl) rfl
theorem q2386 : (Jvm.Cond.selects "[Ljava/lang/Object;" ({ cls := "java/lang/Object", name := "getClass", desc := "()Ljava/lang/Class;" } : Jvm.MethodName) ({ cls := "java/lang/Object", name := "getClass", desc := "()Ljava/lang/Class;" } : Jvm.MethodName)) ∈ lw_all := lw_g (lw_at lw_m10 85 rfl) rfl
theorem q2388 : (Jvm.Cond.castable "[Ljava/lang/Object;" "java/lang/Object") ∈ lw_tbl := lw_at lw_m10 87 rfl
theorem q2396 : (Jvm.Cond.castable "[Ljava/lang/String;" "java/lang/Object") ∈ lw_tbl := lw_at lw_m10 95 rfl
theorem q2389 : (Jvm.Cond.castable "[[I" "java/lang/Object") ∈ lw_tbl := lw_at lw_m10 88 rfl
theorem q2390 : (Jvm.Cond.castable "[[J" "java/lang/Object") ∈ lw_tbl := lw_at lw_m10 89 rfl
theorem q178 : (Jvm.Cond.initialized "java/lang/Number") ∈ lw_all := lw_g (lw_at lw_m1 37 rfl) rfl
theorem q164 : (Jvm.Cond.initialized "java/lang/System") ∈ lw_all := lw_g (lw_at lw_m1 23 rfl) rfl
theorem q914 : (Jvm.Cond.static ({ cls := "java/lang/System", name := "arraycopy", desc := "(Ljava/lang/Object;ILjava/lang/Object;II)V" } : Jvm.MethodName)) ∈ lw_all := lw_g (lw_at lw_m4 53 rfl) rfl
theorem q915 : (Jvm.Cond.native ({ cls := "java/lang/System", name := "arraycopy", desc := "(Ljava/lang/Object;ILjava/lang/Object;II)V" } : Jvm.MethodName)) ∈ lw_all := lw_g (lw_at lw_m4 54 rfl) rfl
theorem q756 : (Jvm.Cond.interfaceMethod "java/util/List" "java/util/List" "size" "()I") ∈ lw_tbl := lw_at lw_m3 135 rfl
theorem q757 : (Jvm.Cond.declares ({ cls := "java/util/List", name := "size", desc := "()I" } : Jvm.MethodName)) ∈ lw_tbl := lw_at lw_m3 136 rfl
theorem q796 : (Jvm.Cond.interfaceMethod "java/util/List" "java/util/List" "get" "(I)Ljava/lang/Object;") ∈ lw_tbl := lw_at lw_m3 175 rfl
theorem q797 : (Jvm.Cond.declares ({ cls := "java/util/List", name := "get", desc := "(I)Ljava/lang/Object;" } : Jvm.MethodName)) ∈ lw_tbl := lw_at lw_m3 176 rfl
theorem q848 : (Jvm.Cond.interfaceMethod "java/util/List" "java/util/List" "add" "(Ljava/lang/Object;)Z") ∈ lw_tbl := lw_at lw_m3 227 rfl
theorem q849 : (Jvm.Cond.declares ({ cls := "java/util/List", name := "add", desc := "(Ljava/lang/Object;)Z" } : Jvm.MethodName)) ∈ lw_tbl := lw_at lw_m3 228 rfl
theorem q1197 : (Jvm.Cond.interfaceMethod "java/util/List" "java/util/List" "isEmpty" "()Z") ∈ lw_tbl := lw_at lw_m5 96 rfl
theorem q1198 : (Jvm.Cond.declares ({ cls := "java/util/List", name := "isEmpty", desc := "()Z" } : Jvm.MethodName)) ∈ lw_tbl := lw_at lw_m5 97 rfl
theorem q722 : (Jvm.Cond.interfaceMethod "jdk/internal/access/JavaLangAccess" "jdk/internal/access/JavaLangAccess" "getUTF16Char" "([BI)C") ∈ lw_tbl := lw_at lw_m3 101 rfl
theorem q723 : (Jvm.Cond.declares ({ cls := "jdk/internal/access/JavaLangAccess", name := "getUTF16Char", desc := "([BI)C" } : Jvm.MethodName)) ∈ lw_tbl := lw_at lw_m3 102 rfl
theorem q208 : (Jvm.Cond.arrayOver (Jvm.ClassFile.FieldType.object "java/lang/Object")) ∈ lw_tbl := lw_at lw_m1 67 rfl
theorem q224 : (Jvm.Cond.arrayOver (Jvm.ClassFile.FieldType.array Jvm.ClassFile.FieldType.int)) ∈ lw_tbl := lw_at lw_m1 83 rfl
theorem q226 : (Jvm.Cond.arrayOver (Jvm.ClassFile.FieldType.array Jvm.ClassFile.FieldType.long)) ∈ lw_tbl := lw_at lw_m1 85 rfl
theorem q287 : (Jvm.Cond.arrayClass Jvm.ClassFile.FieldType.int) ∈ lw_all := lw_g (lw_at lw_m1 146 rfl) rfl
theorem q288 : (Jvm.Cond.arrayClass Jvm.ClassFile.FieldType.long) ∈ lw_all := lw_g (lw_at lw_m1 147 rfl) rfl
theorem q367 : (Jvm.Cond.arrayClass Jvm.ClassFile.FieldType.byte) ∈ lw_all := lw_g (lw_at lw_m1 226 rfl) rfl
theorem q459 : (Jvm.Cond.arrayOver (Jvm.ClassFile.FieldType.object "BorderStones$State")) ∈ lw_tbl := lw_at lw_m2 78 rfl
theorem q667 : (Jvm.Cond.arrayClass Jvm.ClassFile.FieldType.char) ∈ lw_all := lw_g (lw_at lw_m3 46 rfl) rfl
theorem q2397 : (Jvm.Cond.arrayClass Jvm.ClassFile.FieldType.short) ∈ lw_all := lw_g (lw_at lw_m10 96 rfl) rfl
theorem q2420 : (Jvm.Cond.arrayOver (Jvm.ClassFile.FieldType.object "java/lang/String")) ∈ lw_tbl := lw_at lw_m10 119 rfl
