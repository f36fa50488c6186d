theorem q124 : (Jvm.Cond.initialized "BlindCardsLaw") ∈ lw_all := lw_g (lw_at lw_m1 0 rfl) rfl
set_option maxRecDepth 100000
theorem q169 : (Jvm.Cond.classLink "BlindCardsLaw" (7 : Nat) "BlindCards") ∈ lw_all := lw_g (lw_at lw_m1 45 rfl) rfl
theorem q171 : (Jvm.Cond.methodLink "BlindCardsLaw" (9 : Nat) ({ cls := "BlindCards", name := "<init>", desc := "()V" } : Jvm.MethodName)) ∈ lw_all := lw_g (lw_at lw_m1 47 rfl) rfl
theorem q842 : (Jvm.Cond.methodLink "BlindCardsLaw" (13 : Nat) ({ cls := "BlindCards", name := "feed", desc := "(IIIII)I" } : Jvm.MethodName)) ∈ lw_all := lw_g (lw_at lw_m3 238 rfl) rfl
theorem q846 : (Jvm.Cond.methodLink "BlindCardsLaw" (18 : Nat) ({ cls := "BlindCards", name := "end", desc := "(I)I" } : Jvm.MethodName)) ∈ lw_all := lw_g (lw_at lw_m4 2 rfl) rfl
theorem q850 : (Jvm.Cond.methodLink "BlindCardsLaw" (23 : Nat) ({ cls := "BlindCards", name := "recipe", desc := "()I" } : Jvm.MethodName)) ∈ lw_all := lw_g (lw_at lw_m4 6 rfl) rfl
theorem q1583 : (Jvm.Cond.methodLink "BlindCardsLaw" (28 : Nat) ({ cls := "BlindCards", name := "fault", desc := "(I)I" } : Jvm.MethodName)) ∈ lw_all := lw_g (lw_at lw_m7 19 rfl) rfl
theorem q1587 : (Jvm.Cond.methodLink "BlindCardsLaw" (32 : Nat) ({ cls := "BlindCards", name := "asked", desc := "(I)I" } : Jvm.MethodName)) ∈ lw_all := lw_g (lw_at lw_m7 23 rfl) rfl
theorem q1600 : (Jvm.Cond.methodLink "BlindCardsLaw" (36 : Nat) ({ cls := "BlindCards", name := "paths", desc := "()I" } : Jvm.MethodName)) ∈ lw_all := lw_g (lw_at lw_m7 36 rfl) rfl
theorem q1604 : (Jvm.Cond.methodLink "BlindCardsLaw" (40 : Nat) ({ cls := "BlindCards", name := "look", desc := "(II)I" } : Jvm.MethodName)) ∈ lw_all := lw_g (lw_at lw_m7 40 rfl) rfl
theorem q1612 : (Jvm.Cond.methodLink "BlindCardsLaw" (45 : Nat) ({ cls := "BlindCards", name := "odds", desc := "(III)J" } : Jvm.MethodName)) ∈ lw_all := lw_g (lw_at lw_m7 48 rfl) rfl
theorem q1624 : (Jvm.Cond.methodLink "BlindCardsLaw" (50 : Nat) ({ cls := "BlindCards", name := "ends", desc := "(II)I" } : Jvm.MethodName)) ∈ lw_all := lw_g (lw_at lw_m7 60 rfl) rfl
theorem q1628 : (Jvm.Cond.methodLink "BlindCardsLaw" (54 : Nat) ({ cls := "BlindCards", name := "wrong", desc := "()I" } : Jvm.MethodName)) ∈ lw_all := lw_g (lw_at lw_m7 64 rfl) rfl
theorem q1632 : (Jvm.Cond.methodLink "BlindCardsLaw" (58 : Nat) ({ cls := "BlindCards", name := "leaks", desc := "(Z)I" } : Jvm.MethodName)) ∈ lw_all := lw_g (lw_at lw_m7 68 rfl) rfl
theorem q1637 : (Jvm.Cond.methodLink "BlindCardsLaw" (63 : Nat) ({ cls := "BlindCards", name := "bent", desc := "(IZ)I" } : Jvm.MethodName)) ∈ lw_all := lw_g (lw_at lw_m7 73 rfl) rfl
theorem q1648 : (Jvm.Cond.methodLink "BlindCardsLaw" (68 : Nat) ({ cls := "BlindCards", name := "counted", desc := "(IZ)I" } : Jvm.MethodName)) ∈ lw_all := lw_g (lw_at lw_m7 84 rfl) rfl
theorem q1657 : (Jvm.Cond.methodLink "BlindCardsLaw" (72 : Nat) ({ cls := "BlindCards", name := "cheat", desc := "(IZ)I" } : Jvm.MethodName)) ∈ lw_all := lw_g (lw_at lw_m7 93 rfl) rfl
theorem q1668 : (Jvm.Cond.methodLink "BlindCardsLaw" (105 : Nat) ({ cls := "BlindCards", name := "guess", desc := "(III)J" } : Jvm.MethodName)) ∈ lw_all := lw_g (lw_at lw_m7 104 rfl) rfl
theorem q1672 : (Jvm.Cond.methodLink "BlindCardsLaw" (76 : Nat) ({ cls := "BlindCards", name := "seek", desc := "(II)I" } : Jvm.MethodName)) ∈ lw_all := lw_g (lw_at lw_m7 108 rfl) rfl
theorem q1708 : (Jvm.Cond.methodLink "BlindCardsLaw" (80 : Nat) ({ cls := "BlindCards", name := "play", desc := "(I)I" } : Jvm.MethodName)) ∈ lw_all := lw_g (lw_at lw_m7 144 rfl) rfl
theorem q1737 : (Jvm.Cond.methodLink "BlindCardsLaw" (84 : Nat) ({ cls := "BlindCards", name := "played", desc := "(I)I" } : Jvm.MethodName)) ∈ lw_all := lw_g (lw_at lw_m7 173 rfl) rfl
theorem q1741 : (Jvm.Cond.methodLink "BlindCardsLaw" (88 : Nat) ({ cls := "BlindCards", name := "tell", desc := "(I)I" } : Jvm.MethodName)) ∈ lw_all := lw_g (lw_at lw_m7 177 rfl) rfl
theorem q1762 : (Jvm.Cond.methodLink "BlindCardsLaw" (92 : Nat) ({ cls := "BlindCards", name := "untell", desc := "(I)Z" } : Jvm.MethodName)) ∈ lw_all := lw_g (lw_at lw_m7 198 rfl) rfl
theorem q1770 : (Jvm.Cond.methodLink "BlindCardsLaw" (97 : Nat) ({ cls := "BlindCards", name := "later", desc := "(I)I" } : Jvm.MethodName)) ∈ lw_all := lw_g (lw_at lw_m7 206 rfl) rfl
theorem q1775 : (Jvm.Cond.methodLink "BlindCardsLaw" (101 : Nat) ({ cls := "BlindCards", name := "can", desc := "(I)I" } : Jvm.MethodName)) ∈ lw_all := lw_g (lw_at lw_m7 211 rfl) rfl
theorem q1783 : (Jvm.Cond.methodLink "BlindCardsLaw" (109 : Nat) ({ cls := "BlindCards", name := "seed", desc := "(I)I" } : Jvm.MethodName)) ∈ lw_all := lw_g (lw_at lw_m7 219 rfl) rfl
theorem q1787 : (Jvm.Cond.methodLink "BlindCardsLaw" (113 : Nat) ({ cls := "BlindCards", name := "image", desc := "(I)I" } : Jvm.MethodName)) ∈ lw_all := lw_g (lw_at lw_m7 223 rfl) rfl
theorem q1803 : (Jvm.Cond.methodLink "BlindCardsLaw" (117 : Nat) ({ cls := "BlindCards", name := "back", desc := "(I)I" } : Jvm.MethodName)) ∈ lw_all := lw_g (lw_at lw_m7 239 rfl) rfl
theorem q1807 : (Jvm.Cond.methodLink "BlindCardsLaw" (121 : Nat) ({ cls := "BlindCards", name := "about", desc := "(I)I" } : Jvm.MethodName)) ∈ lw_all := lw_g (lw_at lw_m8 3 rfl) rfl
theorem q1811 : (Jvm.Cond.classLink "BlindCardsLaw" (10 : Nat) "BlindCardsModel") ∈ lw_all := lw_g (lw_at lw_m8 7 rfl) rfl
theorem q1813 : (Jvm.Cond.methodLink "BlindCardsLaw" (12 : Nat) ({ cls := "BlindCardsModel", name := "<init>", desc := "()V" } : Jvm.MethodName)) ∈ lw_all := lw_g (lw_at lw_m8 9 rfl) rfl
theorem q2220 : (Jvm.Cond.methodLink "BlindCardsLaw" (27 : Nat) ({ cls := "BlindCardsModel", name := "recipe", desc := "()I" } : Jvm.MethodName)) ∈ lw_all := lw_g (lw_at lw_m9 176 rfl) rfl
theorem q2389 : (Jvm.Cond.methodLink "BlindCardsLaw" (31 : Nat) ({ cls := "BlindCardsModel", name := "fault", desc := "(I)I" } : Jvm.MethodName)) ∈ lw_all := lw_g (lw_at lw_m10 105 rfl) rfl
theorem q2393 : (Jvm.Cond.methodLink "BlindCardsLaw" (35 : Nat) ({ cls := "BlindCardsModel", name := "asked", desc := "(I)I" } : Jvm.MethodName)) ∈ lw_all := lw_g (lw_at lw_m10 109 rfl) rfl
theorem q2405 : (Jvm.Cond.methodLink "BlindCardsLaw" (39 : Nat) ({ cls := "BlindCardsModel", name := "paths", desc := "()I" } : Jvm.MethodName)) ∈ lw_all := lw_g (lw_at lw_m10 121 rfl) rfl
theorem q2409 : (Jvm.Cond.methodLink "BlindCardsLaw" (44 : Nat) ({ cls := "BlindCardsModel", name := "look", desc := "(II)I" } : Jvm.MethodName)) ∈ lw_all := lw_g (lw_at lw_m10 125 rfl) rfl
theorem q2417 : (Jvm.Cond.methodLink "BlindCardsLaw" (49 : Nat) ({ cls := "BlindCardsModel", name := "odds", desc := "(III)J" } : Jvm.MethodName)) ∈ lw_all := lw_g (lw_at lw_m10 133 rfl) rfl
theorem q2426 : (Jvm.Cond.methodLink "BlindCardsLaw" (53 : Nat) ({ cls := "BlindCardsModel", name := "ends", desc := "(II)I" } : Jvm.MethodName)) ∈ lw_all := lw_g (lw_at lw_m10 142 rfl) rfl
theorem q2430 : (Jvm.Cond.methodLink "BlindCardsLaw" (57 : Nat) ({ cls := "BlindCardsModel", name := "wrong", desc := "()I" } : Jvm.MethodName)) ∈ lw_all := lw_g (lw_at lw_m10 146 rfl) rfl
theorem q2438 : (Jvm.Cond.methodLink "BlindCardsLaw" (62 : Nat) ({ cls := "BlindCardsModel", name := "leaks", desc := "(Z)I" } : Jvm.MethodName)) ∈ lw_all := lw_g (lw_at lw_m10 154 rfl) rfl
theorem q2442 : (Jvm.Cond.methodLink "BlindCardsLaw" (67 : Nat) ({ cls := "BlindCardsModel", name := "bent", desc := "(IZ)I" } : Jvm.MethodName)) ∈ lw_all := lw_g (lw_at lw_m10 158 rfl) rfl
theorem q2450 : (Jvm.Cond.methodLink "BlindCardsLaw" (71 : Nat) ({ cls := "BlindCardsModel", name := "counted", desc := "(IZ)I" } : Jvm.MethodName)) ∈ lw_all := lw_g (lw_at lw_m10 166 rfl) rfl
theorem q2454 : (Jvm.Cond.methodLink "BlindCardsLaw" (75 : Nat) ({ cls := "BlindCardsModel", name := "cheat", desc := "(IZ)I" } : Jvm.MethodName)) ∈ lw_all := lw_g (lw_at lw_m10 170 rfl) rfl
theorem q2458 : (Jvm.Cond.methodLink "BlindCardsLaw" (79 : Nat) ({ cls := "BlindCardsModel", name := "seek", desc := "(II)I" } : Jvm.MethodName)) ∈ lw_all := lw_g (lw_at lw_m10 174 rfl) rfl
theorem q2482 : (Jvm.Cond.methodLink "BlindCardsLaw" (83 : Nat) ({ cls := "BlindCardsModel", name := "play", desc := "(I)I" } : Jvm.MethodName)) ∈ lw_all := lw_g (lw_at lw_m10 198 rfl) rfl
theorem q2503 : (Jvm.Cond.methodLink "BlindCardsLaw" (87 : Nat) ({ cls := "BlindCardsModel", name := "played", desc := "(I)I" } : Jvm.MethodName)) ∈ lw_all := lw_g (lw_at lw_m10 219 rfl) rfl
theorem q2507 : (Jvm.Cond.methodLink "BlindCardsLaw" (91 : Nat) ({ cls := "BlindCardsModel", name := "tell", desc := "(I)I" } : Jvm.MethodName)) ∈ lw_all := lw_g (lw_at lw_m10 223 rfl) rfl
theorem q2511 : (Jvm.Cond.methodLink "BlindCardsLaw" (96 : Nat) ({ cls := "BlindCardsModel", name := "untell", desc := "(I)Z" } : Jvm.MethodName)) ∈ lw_all := lw_g (lw_at lw_m10 227 rfl) rfl
theorem q2515 : (Jvm.Cond.methodLink "BlindCardsLaw" (100 : Nat) ({ cls := "BlindCardsModel", name := "later", desc := "(I)I" } : Jvm.MethodName)) ∈ lw_all := lw_g (lw_at lw_m10 231 rfl) rfl
theorem q2520 : (Jvm.Cond.methodLink "BlindCardsLaw" (104 : Nat) ({ cls := "BlindCardsModel", name := "can", desc := "(I)I" } : Jvm.MethodName)) ∈ lw_all := lw_g (lw_at lw_m10 236 rfl) rfl
theorem q2524 : (Jvm.Cond.methodLink "BlindCardsLaw" (108 : Nat) ({ cls := "BlindCardsModel", name := "guess", desc := "(III)J" } : Jvm.MethodName)) ∈ lw_all := lw_g (lw_at lw_m11 0 rfl) rfl
theorem q2528 : (Jvm.Cond.methodLink "BlindCardsLaw" (112 : Nat) ({ cls := "BlindCardsModel", name := "seed", desc := "(I)I" } : Jvm.MethodName)) ∈ lw_all := lw_g (lw_at lw_m11 4 rfl) rfl
theorem q2532 : (Jvm.Cond.methodLink "BlindCardsLaw" (116 : Nat) ({ cls := "BlindCardsModel", name := "image", desc := "(I)I" } : Jvm.MethodName)) ∈ lw_all := lw_g (lw_at lw_m11 8 rfl) rfl
theorem q2536 : (Jvm.Cond.methodLink "BlindCardsLaw" (120 : Nat) ({ cls := "BlindCardsModel", name := "back", desc := "(I)I" } : Jvm.MethodName)) ∈ lw_all := lw_g (lw_at lw_m11 12 rfl) rfl
theorem q2540 : (Jvm.Cond.methodLink "BlindCardsLaw" (124 : Nat) ({ cls := "BlindCardsModel", name := "about", desc := "(I)I" } : Jvm.MethodName)) ∈ lw_all := lw_g (lw_at lw_m11 16 rfl) rfl
theorem q2544 : (Jvm.Cond.methodLink "BlindCardsLaw" (17 : Nat) ({ cls := "BlindCardsModel", name := "feed", desc := "(IIIII)I" } : Jvm.MethodName)) ∈ lw_all := lw_g (lw_at lw_m11 20 rfl) rfl
theorem q2548 : (Jvm.Cond.methodLink "BlindCardsLaw" (22 : Nat) ({ cls := "BlindCardsModel", name := "end", desc := "(I)I" } : Jvm.MethodName)) ∈ lw_all := lw_g (lw_at lw_m11 24 rfl) rfl

theorem q157 : (Jvm.Cond.initialized "BlindCards$Asked") ∈ lw_all := lw_g (lw_at lw_m1 33 rfl) rfl
set_option maxRecDepth 100000
theorem q1225 : (Jvm.Cond.laysStatic "BlindCards$Asked" "ANN" "LBlindCards$Asked;") ∈ lw_tbl := lw_at lw_m5 141 rfl
theorem q1227 : (Jvm.Cond.laysStatic "BlindCards$Asked" "BOB" "LBlindCards$Asked;") ∈ lw_tbl := lw_at lw_m5 143 rfl
theorem q1229 : (Jvm.Cond.laysStatic "BlindCards$Asked" "CYD" "LBlindCards$Asked;") ∈ lw_tbl := lw_at lw_m5 145 rfl
theorem q1231 : (Jvm.Cond.laysStatic "BlindCards$Asked" "ALL" "LBlindCards$Asked;") ∈ lw_tbl := lw_at lw_m5 147 rfl
theorem q2617 : (Jvm.Cond.castable "BlindCards$Asked" "java/lang/Object") ∈ lw_tbl := lw_at lw_m11 93 rfl

theorem q660 : (Jvm.Cond.interfaceMethod "BlindCards$Node" "BlindCards$Node" "of" "(I)I") ∈ lw_tbl := lw_at lw_m3 56 rfl
set_option maxRecDepth 100000
theorem q661 : (Jvm.Cond.declares ({ cls := "BlindCards$Node", name := "of", desc := "(I)I" } : Jvm.MethodName)) ∈ lw_tbl := lw_at lw_m3 57 rfl

theorem q957 : (Jvm.Cond.sameMethod "[B" "java/lang/Object" "clone" "()Ljava/lang/Object;") ∈ lw_all := lw_g (lw_at lw_m4 113 rfl) rfl
set_option maxRecDepth 100000
theorem q960 : (Jvm.Cond.selects "[B" ({ cls := "[B", name := "clone", desc := "()Ljava/lang/Object;" } : Jvm.MethodName) ({ cls := "java/lang/Object", name := "clone", desc := "()Ljava/lang/Object;" } : Jvm.MethodName)) ∈ lw_all := lw_g (lw_at lw_m4 116 rfl) rfl
theorem q961 : (Jvm.Cond.castable "[B" "java/lang/Cloneable") ∈ lw_tbl := lw_at lw_m4 117 rfl
theorem q2623 : (Jvm.Cond.castable "[B" "java/lang/Object") ∈ lw_tbl := lw_at lw_m11 99 rfl

theorem q2622 : (Jvm.Cond.castable "[I" "java/lang/Object") ∈ lw_tbl := lw_at lw_m11 98 rfl
set_option maxRecDepth 100000

theorem q2621 : (Jvm.Cond.castable "[J" "java/lang/Object") ∈ lw_tbl := lw_at lw_m11 97 rfl
set_option maxRecDepth 100000

theorem q2614 : (Jvm.Cond.sameMethod "[Ljava/lang/Object;" "java/lang/Object" "getClass" "()Ljava/lang/Class;") ∈ lw_all := lw_g (lw_at lw_m11 90 rfl) rfl
set_option maxRecDepth 100000
theorem q2615 : (Jvm.Cond.selects "[Ljava/lang/Object;" ({ cls := "java/lang/Object", name := "getClass", desc := "()Ljava/lang/Class;" } : Jvm.MethodName) ({ cls := "java/lang/Object", name := "getClass", desc := "()Ljava/lang/Class;" } : Jvm.MethodName)) ∈ lw_all := lw_g (lw_at lw_m11 91 rfl) rfl
theorem q2620 : (Jvm.Cond.castable "[Ljava/lang/Object;" "java/lang/Object") ∈ lw_tbl := lw_at lw_m11 96 rfl

theorem q2624 : (Jvm.Cond.castable "[Z" "java/lang/Object") ∈ lw_tbl := lw_at lw_m11 100 rfl
set_option maxRecDepth 100000

theorem q2619 : (Jvm.Cond.castable "[[I" "java/lang/Object") ∈ lw_tbl := lw_at lw_m11 95 rfl
set_option maxRecDepth 100000

theorem q2618 : (Jvm.Cond.castable "[[J" "java/lang/Object") ∈ lw_tbl := lw_at lw_m11 94 rfl
set_option maxRecDepth 100000

theorem q156 : (Jvm.Cond.initialized "java/lang/Enum") ∈ lw_all := lw_g (lw_at lw_m1 32 rfl) rfl
set_option maxRecDepth 100000

theorem q137 : (Jvm.Cond.initialized "java/lang/System") ∈ lw_all := lw_g (lw_at lw_m1 13 rfl) rfl
set_option maxRecDepth 100000
theorem q466 : (Jvm.Cond.static ({ cls := "java/lang/System", name := "arraycopy", desc := "(Ljava/lang/Object;ILjava/lang/Object;II)V" } : Jvm.MethodName)) ∈ lw_all := lw_g (lw_at lw_m2 102 rfl) rfl
theorem q467 : (Jvm.Cond.native ({ cls := "java/lang/System", name := "arraycopy", desc := "(Ljava/lang/Object;ILjava/lang/Object;II)V" } : Jvm.MethodName)) ∈ lw_all := lw_g (lw_at lw_m2 103 rfl) rfl

theorem q1463 : (Jvm.Cond.interfaceMethod "jdk/internal/access/JavaLangAccess" "jdk/internal/access/JavaLangAccess" "getUTF16Char" "([BI)C") ∈ lw_tbl := lw_at lw_m6 139 rfl
set_option maxRecDepth 100000
theorem q1464 : (Jvm.Cond.declares ({ cls := "jdk/internal/access/JavaLangAccess", name := "getUTF16Char", desc := "([BI)C" } : Jvm.MethodName)) ∈ lw_tbl := lw_at lw_m6 140 rfl

theorem q178 : (Jvm.Cond.arrayOver (Jvm.ClassFile.FieldType.array Jvm.ClassFile.FieldType.long)) ∈ lw_tbl := lw_at lw_m1 54 rfl
set_option maxRecDepth 100000
theorem q180 : (Jvm.Cond.arrayOver (Jvm.ClassFile.FieldType.array Jvm.ClassFile.FieldType.int)) ∈ lw_tbl := lw_at lw_m1 56 rfl
theorem q200 : (Jvm.Cond.arrayOver (Jvm.ClassFile.FieldType.object "java/lang/Object")) ∈ lw_tbl := lw_at lw_m1 76 rfl
theorem q215 : (Jvm.Cond.arrayClass Jvm.ClassFile.FieldType.long) ∈ lw_all := lw_g (lw_at lw_m1 91 rfl) rfl
theorem q216 : (Jvm.Cond.arrayClass Jvm.ClassFile.FieldType.int) ∈ lw_all := lw_g (lw_at lw_m1 92 rfl) rfl
theorem q217 : (Jvm.Cond.arrayClass Jvm.ClassFile.FieldType.byte) ∈ lw_all := lw_g (lw_at lw_m1 93 rfl) rfl
theorem q841 : (Jvm.Cond.arrayClass Jvm.ClassFile.FieldType.boolean) ∈ lw_all := lw_g (lw_at lw_m3 237 rfl) rfl
theorem q2625 : (Jvm.Cond.arrayClass Jvm.ClassFile.FieldType.char) ∈ lw_all := lw_g (lw_at lw_m11 101 rfl) rfl
theorem q2626 : (Jvm.Cond.arrayClass Jvm.ClassFile.FieldType.short) ∈ lw_all := lw_g (lw_at lw_m11 102 rfl) rfl
