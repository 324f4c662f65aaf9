theorem q176 : (Jvm.Cond.initialized "BreathTownLaw") ∈ lw_all := lw_g (lw_at lw_m1 0 rfl) rfl
set_option maxRecDepth 100000
theorem q217 : (Jvm.Cond.classLink "BreathTownLaw" (7 : Nat) "BreathTown") ∈ lw_all := lw_g (lw_at lw_m1 41 rfl) rfl
theorem q219 : (Jvm.Cond.methodLink "BreathTownLaw" (9 : Nat) ({ cls := "BreathTown", name := "<init>", desc := "()V" } : Jvm.MethodName)) ∈ lw_all := lw_g (lw_at lw_m1 43 rfl) rfl
theorem q543 : (Jvm.Cond.methodLink "BreathTownLaw" (13 : Nat) ({ cls := "BreathTown", name := "feed", desc := "(IIIII)I" } : Jvm.MethodName)) ∈ lw_all := lw_g (lw_at lw_m2 127 rfl) rfl
theorem q555 : (Jvm.Cond.methodLink "BreathTownLaw" (18 : Nat) ({ cls := "BreathTown", name := "end", desc := "(I)Z" } : Jvm.MethodName)) ∈ lw_all := lw_g (lw_at lw_m2 139 rfl) rfl
theorem q559 : (Jvm.Cond.methodLink "BreathTownLaw" (23 : Nat) ({ cls := "BreathTown", name := "town", desc := "()I" } : Jvm.MethodName)) ∈ lw_all := lw_g (lw_at lw_m2 143 rfl) rfl
theorem q1201 : (Jvm.Cond.methodLink "BreathTownLaw" (28 : Nat) ({ cls := "BreathTown", name := "fault", desc := "(I)I" } : Jvm.MethodName)) ∈ lw_all := lw_g (lw_at lw_m5 65 rfl) rfl
theorem q1205 : (Jvm.Cond.methodLink "BreathTownLaw" (51 : Nat) ({ cls := "BreathTown", name := "width", desc := "(II)I" } : Jvm.MethodName)) ∈ lw_all := lw_g (lw_at lw_m5 69 rfl) rfl
theorem q1299 : (Jvm.Cond.methodLink "BreathTownLaw" (55 : Nat) ({ cls := "BreathTown", name := "passes", desc := "(III)I" } : Jvm.MethodName)) ∈ lw_all := lw_g (lw_at lw_m5 163 rfl) rfl
theorem q1306 : (Jvm.Cond.methodLink "BreathTownLaw" (59 : Nat) ({ cls := "BreathTown", name := "next", desc := "(III)I" } : Jvm.MethodName)) ∈ lw_all := lw_g (lw_at lw_m5 170 rfl) rfl
theorem q1310 : (Jvm.Cond.methodLink "BreathTownLaw" (63 : Nat) ({ cls := "BreathTown", name := "often", desc := "(IIII)I" } : Jvm.MethodName)) ∈ lw_all := lw_g (lw_at lw_m5 174 rfl) rfl
theorem q1314 : (Jvm.Cond.methodLink "BreathTownLaw" (68 : Nat) ({ cls := "BreathTown", name := "wide", desc := "(II)I" } : Jvm.MethodName)) ∈ lw_all := lw_g (lw_at lw_m5 178 rfl) rfl
theorem q1325 : (Jvm.Cond.methodLink "BreathTownLaw" (33 : Nat) ({ cls := "BreathTown", name := "has", desc := "(I)I" } : Jvm.MethodName)) ∈ lw_all := lw_g (lw_at lw_m5 189 rfl) rfl
theorem q1333 : (Jvm.Cond.methodLink "BreathTownLaw" (37 : Nat) ({ cls := "BreathTown", name := "letter", desc := "(III)I" } : Jvm.MethodName)) ∈ lw_all := lw_g (lw_at lw_m5 197 rfl) rfl
theorem q1359 : (Jvm.Cond.methodLink "BreathTownLaw" (42 : Nat) ({ cls := "BreathTown", name := "street", desc := "(II)I" } : Jvm.MethodName)) ∈ lw_all := lw_g (lw_at lw_m5 223 rfl) rfl
theorem q1363 : (Jvm.Cond.methodLink "BreathTownLaw" (47 : Nat) ({ cls := "BreathTown", name := "walker", desc := "(II)I" } : Jvm.MethodName)) ∈ lw_all := lw_g (lw_at lw_m5 227 rfl) rfl
theorem q1371 : (Jvm.Cond.methodLink "BreathTownLaw" (72 : Nat) ({ cls := "BreathTown", name := "way", desc := "(II)I" } : Jvm.MethodName)) ∈ lw_all := lw_g (lw_at lw_m5 235 rfl) rfl
theorem q1406 : (Jvm.Cond.methodLink "BreathTownLaw" (76 : Nat) ({ cls := "BreathTown", name := "arrival", desc := "(II)I" } : Jvm.MethodName)) ∈ lw_all := lw_g (lw_at lw_m6 30 rfl) rfl
theorem q1414 : (Jvm.Cond.methodLink "BreathTownLaw" (80 : Nat) ({ cls := "BreathTown", name := "stuck", desc := "(II)I" } : Jvm.MethodName)) ∈ lw_all := lw_g (lw_at lw_m6 38 rfl) rfl
theorem q1430 : (Jvm.Cond.methodLink "BreathTownLaw" (84 : Nat) ({ cls := "BreathTown", name := "needed", desc := "(I)I" } : Jvm.MethodName)) ∈ lw_all := lw_g (lw_at lw_m6 54 rfl) rfl
theorem q1434 : (Jvm.Cond.methodLink "BreathTownLaw" (88 : Nat) ({ cls := "BreathTown", name := "parade", desc := "(II)I" } : Jvm.MethodName)) ∈ lw_all := lw_g (lw_at lw_m6 58 rfl) rfl
theorem q1442 : (Jvm.Cond.methodLink "BreathTownLaw" (92 : Nat) ({ cls := "BreathTown", name := "rows", desc := "(II)I" } : Jvm.MethodName)) ∈ lw_all := lw_g (lw_at lw_m6 66 rfl) rfl
theorem q1454 : (Jvm.Cond.methodLink "BreathTownLaw" (96 : Nat) ({ cls := "BreathTown", name := "doctors", desc := "(III)I" } : Jvm.MethodName)) ∈ lw_all := lw_g (lw_at lw_m6 78 rfl) rfl
theorem q1472 : (Jvm.Cond.methodLink "BreathTownLaw" (116 : Nat) ({ cls := "BreathTown", name := "undo", desc := "()Z" } : Jvm.MethodName)) ∈ lw_all := lw_g (lw_at lw_m6 96 rfl) rfl
theorem q1480 : (Jvm.Cond.methodLink "BreathTownLaw" (100 : Nat) ({ cls := "BreathTown", name := "go", desc := "(I)I" } : Jvm.MethodName)) ∈ lw_all := lw_g (lw_at lw_m6 104 rfl) rfl
theorem q1488 : (Jvm.Cond.methodLink "BreathTownLaw" (104 : Nat) ({ cls := "BreathTown", name := "send", desc := "(I)I" } : Jvm.MethodName)) ∈ lw_all := lw_g (lw_at lw_m6 112 rfl) rfl
theorem q1492 : (Jvm.Cond.methodLink "BreathTownLaw" (108 : Nat) ({ cls := "BreathTown", name := "hold", desc := "(II)I" } : Jvm.MethodName)) ∈ lw_all := lw_g (lw_at lw_m6 116 rfl) rfl
theorem q1503 : (Jvm.Cond.methodLink "BreathTownLaw" (112 : Nat) ({ cls := "BreathTown", name := "days", desc := "(I)I" } : Jvm.MethodName)) ∈ lw_all := lw_g (lw_at lw_m6 127 rfl) rfl
theorem q1515 : (Jvm.Cond.methodLink "BreathTownLaw" (121 : Nat) ({ cls := "BreathTown", name := "seed", desc := "(I)Z" } : Jvm.MethodName)) ∈ lw_all := lw_g (lw_at lw_m6 139 rfl) rfl
theorem q1519 : (Jvm.Cond.methodLink "BreathTownLaw" (125 : Nat) ({ cls := "BreathTown", name := "see", desc := "()I" } : Jvm.MethodName)) ∈ lw_all := lw_g (lw_at lw_m6 143 rfl) rfl
theorem q1527 : (Jvm.Cond.methodLink "BreathTownLaw" (129 : Nat) ({ cls := "BreathTown", name := "shifts", desc := "(II)I" } : Jvm.MethodName)) ∈ lw_all := lw_g (lw_at lw_m6 151 rfl) rfl
theorem q1535 : (Jvm.Cond.methodLink "BreathTownLaw" (133 : Nat) ({ cls := "BreathTown", name := "telling", desc := "(II)I" } : Jvm.MethodName)) ∈ lw_all := lw_g (lw_at lw_m6 159 rfl) rfl
theorem q1544 : (Jvm.Cond.methodLink "BreathTownLaw" (137 : Nat) ({ cls := "BreathTown", name := "ask", desc := "()J" } : Jvm.MethodName)) ∈ lw_all := lw_g (lw_at lw_m6 168 rfl) rfl
theorem q1684 : (Jvm.Cond.methodLink "BreathTownLaw" (142 : Nat) ({ cls := "BreathTown", name := "image", desc := "()I" } : Jvm.MethodName)) ∈ lw_all := lw_g (lw_at lw_m7 68 rfl) rfl
theorem q1695 : (Jvm.Cond.methodLink "BreathTownLaw" (146 : Nat) ({ cls := "BreathTown", name := "octet", desc := "(I)I" } : Jvm.MethodName)) ∈ lw_all := lw_g (lw_at lw_m7 79 rfl) rfl
theorem q1699 : (Jvm.Cond.methodLink "BreathTownLaw" (150 : Nat) ({ cls := "BreathTown", name := "on", desc := "()Z" } : Jvm.MethodName)) ∈ lw_all := lw_g (lw_at lw_m7 83 rfl) rfl
theorem q1707 : (Jvm.Cond.methodLink "BreathTownLaw" (154 : Nat) ({ cls := "BreathTown", name := "status", desc := "(I)I" } : Jvm.MethodName)) ∈ lw_all := lw_g (lw_at lw_m7 91 rfl) rfl
theorem q1711 : (Jvm.Cond.classLink "BreathTownLaw" (10 : Nat) "BreathTownModel") ∈ lw_all := lw_g (lw_at lw_m7 95 rfl) rfl
theorem q1713 : (Jvm.Cond.methodLink "BreathTownLaw" (12 : Nat) ({ cls := "BreathTownModel", name := "<init>", desc := "()V" } : Jvm.MethodName)) ∈ lw_all := lw_g (lw_at lw_m7 97 rfl) rfl
theorem q2018 : (Jvm.Cond.methodLink "BreathTownLaw" (17 : Nat) ({ cls := "BreathTownModel", name := "feed", desc := "(IIIII)I" } : Jvm.MethodName)) ∈ lw_all := lw_g (lw_at lw_m8 162 rfl) rfl
theorem q2022 : (Jvm.Cond.methodLink "BreathTownLaw" (22 : Nat) ({ cls := "BreathTownModel", name := "end", desc := "(I)Z" } : Jvm.MethodName)) ∈ lw_all := lw_g (lw_at lw_m8 166 rfl) rfl
theorem q2026 : (Jvm.Cond.methodLink "BreathTownLaw" (27 : Nat) ({ cls := "BreathTownModel", name := "town", desc := "()I" } : Jvm.MethodName)) ∈ lw_all := lw_g (lw_at lw_m8 170 rfl) rfl
theorem q2157 : (Jvm.Cond.methodLink "BreathTownLaw" (32 : Nat) ({ cls := "BreathTownModel", name := "fault", desc := "(I)I" } : Jvm.MethodName)) ∈ lw_all := lw_g (lw_at lw_m9 61 rfl) rfl
theorem q2161 : (Jvm.Cond.methodLink "BreathTownLaw" (36 : Nat) ({ cls := "BreathTownModel", name := "has", desc := "(I)I" } : Jvm.MethodName)) ∈ lw_all := lw_g (lw_at lw_m9 65 rfl) rfl
theorem q2181 : (Jvm.Cond.methodLink "BreathTownLaw" (41 : Nat) ({ cls := "BreathTownModel", name := "letter", desc := "(III)I" } : Jvm.MethodName)) ∈ lw_all := lw_g (lw_at lw_m9 85 rfl) rfl
theorem q2187 : (Jvm.Cond.methodLink "BreathTownLaw" (46 : Nat) ({ cls := "BreathTownModel", name := "street", desc := "(II)I" } : Jvm.MethodName)) ∈ lw_all := lw_g (lw_at lw_m9 91 rfl) rfl
theorem q2242 : (Jvm.Cond.methodLink "BreathTownLaw" (50 : Nat) ({ cls := "BreathTownModel", name := "walker", desc := "(II)I" } : Jvm.MethodName)) ∈ lw_all := lw_g (lw_at lw_m9 146 rfl) rfl
theorem q2262 : (Jvm.Cond.methodLink "BreathTownLaw" (54 : Nat) ({ cls := "BreathTownModel", name := "width", desc := "(II)I" } : Jvm.MethodName)) ∈ lw_all := lw_g (lw_at lw_m9 166 rfl) rfl
theorem q2270 : (Jvm.Cond.methodLink "BreathTownLaw" (58 : Nat) ({ cls := "BreathTownModel", name := "passes", desc := "(III)I" } : Jvm.MethodName)) ∈ lw_all := lw_g (lw_at lw_m9 174 rfl) rfl
theorem q2286 : (Jvm.Cond.methodLink "BreathTownLaw" (62 : Nat) ({ cls := "BreathTownModel", name := "next", desc := "(III)I" } : Jvm.MethodName)) ∈ lw_all := lw_g (lw_at lw_m9 190 rfl) rfl
theorem q2290 : (Jvm.Cond.methodLink "BreathTownLaw" (67 : Nat) ({ cls := "BreathTownModel", name := "often", desc := "(IIII)I" } : Jvm.MethodName)) ∈ lw_all := lw_g (lw_at lw_m9 194 rfl) rfl
theorem q2295 : (Jvm.Cond.methodLink "BreathTownLaw" (71 : Nat) ({ cls := "BreathTownModel", name := "wide", desc := "(II)I" } : Jvm.MethodName)) ∈ lw_all := lw_g (lw_at lw_m9 199 rfl) rfl
theorem q2303 : (Jvm.Cond.methodLink "BreathTownLaw" (75 : Nat) ({ cls := "BreathTownModel", name := "way", desc := "(II)I" } : Jvm.MethodName)) ∈ lw_all := lw_g (lw_at lw_m9 207 rfl) rfl
theorem q2353 : (Jvm.Cond.methodLink "BreathTownLaw" (79 : Nat) ({ cls := "BreathTownModel", name := "arrival", desc := "(II)I" } : Jvm.MethodName)) ∈ lw_all := lw_g (lw_at lw_m10 17 rfl) rfl
theorem q2361 : (Jvm.Cond.methodLink "BreathTownLaw" (83 : Nat) ({ cls := "BreathTownModel", name := "stuck", desc := "(II)I" } : Jvm.MethodName)) ∈ lw_all := lw_g (lw_at lw_m10 25 rfl) rfl
theorem q2373 : (Jvm.Cond.methodLink "BreathTownLaw" (87 : Nat) ({ cls := "BreathTownModel", name := "needed", desc := "(I)I" } : Jvm.MethodName)) ∈ lw_all := lw_g (lw_at lw_m10 37 rfl) rfl
theorem q2377 : (Jvm.Cond.methodLink "BreathTownLaw" (91 : Nat) ({ cls := "BreathTownModel", name := "parade", desc := "(II)I" } : Jvm.MethodName)) ∈ lw_all := lw_g (lw_at lw_m10 41 rfl) rfl
theorem q2386 : (Jvm.Cond.methodLink "BreathTownLaw" (95 : Nat) ({ cls := "BreathTownModel", name := "rows", desc := "(II)I" } : Jvm.MethodName)) ∈ lw_all := lw_g (lw_at lw_m10 50 rfl) rfl
theorem q2404 : (Jvm.Cond.methodLink "BreathTownLaw" (99 : Nat) ({ cls := "BreathTownModel", name := "doctors", desc := "(III)I" } : Jvm.MethodName)) ∈ lw_all := lw_g (lw_at lw_m10 68 rfl) rfl
theorem q2425 : (Jvm.Cond.methodLink "BreathTownLaw" (120 : Nat) ({ cls := "BreathTownModel", name := "undo", desc := "()Z" } : Jvm.MethodName)) ∈ lw_all := lw_g (lw_at lw_m10 89 rfl) rfl
theorem q2429 : (Jvm.Cond.methodLink "BreathTownLaw" (103 : Nat) ({ cls := "BreathTownModel", name := "go", desc := "(I)I" } : Jvm.MethodName)) ∈ lw_all := lw_g (lw_at lw_m10 93 rfl) rfl
theorem q2438 : (Jvm.Cond.methodLink "BreathTownLaw" (107 : Nat) ({ cls := "BreathTownModel", name := "send", desc := "(I)I" } : Jvm.MethodName)) ∈ lw_all := lw_g (lw_at lw_m10 102 rfl) rfl
theorem q2442 : (Jvm.Cond.methodLink "BreathTownLaw" (111 : Nat) ({ cls := "BreathTownModel", name := "hold", desc := "(II)I" } : Jvm.MethodName)) ∈ lw_all := lw_g (lw_at lw_m10 106 rfl) rfl
theorem q2450 : (Jvm.Cond.methodLink "BreathTownLaw" (124 : Nat) ({ cls := "BreathTownModel", name := "seed", desc := "(I)Z" } : Jvm.MethodName)) ∈ lw_all := lw_g (lw_at lw_m10 114 rfl) rfl
theorem q2454 : (Jvm.Cond.methodLink "BreathTownLaw" (115 : Nat) ({ cls := "BreathTownModel", name := "days", desc := "(I)I" } : Jvm.MethodName)) ∈ lw_all := lw_g (lw_at lw_m10 118 rfl) rfl
theorem q2467 : (Jvm.Cond.methodLink "BreathTownLaw" (128 : Nat) ({ cls := "BreathTownModel", name := "see", desc := "()I" } : Jvm.MethodName)) ∈ lw_all := lw_g (lw_at lw_m10 131 rfl) rfl
theorem q2475 : (Jvm.Cond.methodLink "BreathTownLaw" (132 : Nat) ({ cls := "BreathTownModel", name := "shifts", desc := "(II)I" } : Jvm.MethodName)) ∈ lw_all := lw_g (lw_at lw_m10 139 rfl) rfl
theorem q2483 : (Jvm.Cond.methodLink "BreathTownLaw" (136 : Nat) ({ cls := "BreathTownModel", name := "telling", desc := "(II)I" } : Jvm.MethodName)) ∈ lw_all := lw_g (lw_at lw_m10 147 rfl) rfl
theorem q2491 : (Jvm.Cond.methodLink "BreathTownLaw" (141 : Nat) ({ cls := "BreathTownModel", name := "ask", desc := "()J" } : Jvm.MethodName)) ∈ lw_all := lw_g (lw_at lw_m10 155 rfl) rfl
theorem q2609 : (Jvm.Cond.methodLink "BreathTownLaw" (145 : Nat) ({ cls := "BreathTownModel", name := "image", desc := "()I" } : Jvm.MethodName)) ∈ lw_all := lw_g (lw_at lw_m11 33 rfl) rfl
theorem q2620 : (Jvm.Cond.methodLink "BreathTownLaw" (149 : Nat) ({ cls := "BreathTownModel", name := "octet", desc := "(I)I" } : Jvm.MethodName)) ∈ lw_all := lw_g (lw_at lw_m11 44 rfl) rfl
theorem q2624 : (Jvm.Cond.methodLink "BreathTownLaw" (153 : Nat) ({ cls := "BreathTownModel", name := "on", desc := "()Z" } : Jvm.MethodName)) ∈ lw_all := lw_g (lw_at lw_m11 48 rfl) rfl
theorem q2632 : (Jvm.Cond.methodLink "BreathTownLaw" (157 : Nat) ({ cls := "BreathTownModel", name := "status", desc := "(I)I" } : Jvm.MethodName)) ∈ lw_all := lw_g (lw_at lw_m11 56 rfl) rfl
theorem q1081 : (Jvm.Cond.sameMethod "[B" "java/lang/Object" "clone" "()Ljava/lang/Object;") ∈ lw_all := lw_g (lw_at lw_m4 185 rfl) rfl
set_option maxRecDepth 100000
theorem q1084 : (Jvm.Cond.selects "[B" ({ cls := "[B", name := "clone", desc := "()Ljava/lang/Object;" } : Jvm.MethodName) ({ cls := "java/lang/Object", name := "clone", desc := "()Ljava/lang/Object;" } : Jvm.MethodName)) ∈ lw_all := lw_g (lw_at lw_m4 188 rfl) rfl
theorem q1085 : (Jvm.Cond.castable "[B" "java/lang/Cloneable") ∈ lw_tbl := lw_at lw_m4 189 rfl
theorem q2683 : (Jvm.Cond.castable "[B" "java/lang/Object") ∈ lw_tbl := lw_at lw_m11 107 rfl
theorem q2689 : (Jvm.Cond.castable "[C" "java/lang/Object") ∈ lw_tbl := lw_at lw_m11 113 rfl
set_option maxRecDepth 100000
theorem q2685 : (Jvm.Cond.castable "[I" "java/lang/Object") ∈ lw_tbl := lw_at lw_m11 109 rfl
set_option maxRecDepth 100000
theorem q2684 : (Jvm.Cond.castable "[J" "java/lang/Object") ∈ lw_tbl := lw_at lw_m11 108 rfl
set_option maxRecDepth 100000
theorem q2687 : (Jvm.Cond.castable "[LBreathTown$State;" "java/lang/Object") ∈ lw_tbl := lw_at lw_m11 111 rfl
set_option maxRecDepth 100000
theorem q2679 : (Jvm.Cond.sameMethod "[Ljava/lang/Object;" "java/lang/Object" "getClass" "()Ljava/lang/Class;") ∈ lw_all := lw_g (lw_at lw_m11 103 rfl) rfl
set_option maxRecDepth 100000
theorem q2680 : (Jvm.Cond.selects "[Ljava/lang/Object;" ({ cls := "java/lang/Object", name := "getClass", desc := "()Ljava/lang/Class;" } : Jvm.MethodName) ({ cls := "java/lang/Object", name := "getClass", desc := "()Ljava/lang/Class;" } : Jvm.MethodName)) ∈ lw_all := lw_g (lw_at lw_m11 104 rfl) rfl
theorem q2682 : (Jvm.Cond.castable "[Ljava/lang/Object;" "java/lang/Object") ∈ lw_tbl := lw_at lw_m11 106 rfl
theorem q2690 : (Jvm.Cond.castable "[Ljava/lang/String;" "java/lang/Object") ∈ lw_tbl := lw_at lw_m11 114 rfl
set_option maxRecDepth 100000
theorem q2688 : (Jvm.Cond.castable "[Z" "java/lang/Object") ∈ lw_tbl := lw_at lw_m11 112 rfl
set_option maxRecDepth 100000
theorem q2686 : (Jvm.Cond.castable "[[I" "java/lang/Object") ∈ lw_tbl := lw_at lw_m11 110 rfl
set_option maxRecDepth 100000
theorem q199 : (Jvm.Cond.initialized "java/lang/System") ∈ lw_all := lw_g (lw_at lw_m1 23 rfl) rfl
set_option maxRecDepth 100000
theorem q891 : (Jvm.Cond.static ({ cls := "java/lang/System", name := "arraycopy", desc := "(Ljava/lang/Object;ILjava/lang/Object;II)V" } : Jvm.MethodName)) ∈ lw_all := lw_g (lw_at lw_m3 235 rfl) rfl
theorem q892 : (Jvm.Cond.native ({ cls := "java/lang/System", name := "arraycopy", desc := "(Ljava/lang/Object;ILjava/lang/Object;II)V" } : Jvm.MethodName)) ∈ lw_all := lw_g (lw_at lw_m3 236 rfl) rfl
theorem q752 : (Jvm.Cond.interfaceMethod "java/util/List" "java/util/List" "size" "()I") ∈ lw_tbl := lw_at lw_m3 96 rfl
set_option maxRecDepth 100000
theorem q753 : (Jvm.Cond.declares ({ cls := "java/util/List", name := "size", desc := "()I" } : Jvm.MethodName)) ∈ lw_tbl := lw_at lw_m3 97 rfl
theorem q791 : (Jvm.Cond.interfaceMethod "java/util/List" "java/util/List" "get" "(I)Ljava/lang/Object;") ∈ lw_tbl := lw_at lw_m3 135 rfl
theorem q792 : (Jvm.Cond.declares ({ cls := "java/util/List", name := "get", desc := "(I)Ljava/lang/Object;" } : Jvm.MethodName)) ∈ lw_tbl := lw_at lw_m3 136 rfl
theorem q820 : (Jvm.Cond.interfaceMethod "java/util/List" "java/util/List" "add" "(Ljava/lang/Object;)Z") ∈ lw_tbl := lw_at lw_m3 164 rfl
theorem q821 : (Jvm.Cond.declares ({ cls := "java/util/List", name := "add", desc := "(Ljava/lang/Object;)Z" } : Jvm.MethodName)) ∈ lw_tbl := lw_at lw_m3 165 rfl
theorem q711 : (Jvm.Cond.interfaceMethod "jdk/internal/access/JavaLangAccess" "jdk/internal/access/JavaLangAccess" "getUTF16Char" "([BI)C") ∈ lw_tbl := lw_at lw_m3 55 rfl
set_option maxRecDepth 100000
theorem q712 : (Jvm.Cond.declares ({ cls := "jdk/internal/access/JavaLangAccess", name := "getUTF16Char", desc := "([BI)C" } : Jvm.MethodName)) ∈ lw_tbl := lw_at lw_m3 56 rfl
theorem q244 : (Jvm.Cond.arrayOver (Jvm.ClassFile.FieldType.object "java/lang/Object")) ∈ lw_tbl := lw_at lw_m1 68 rfl
set_option maxRecDepth 100000
theorem q361 : (Jvm.Cond.arrayClass Jvm.ClassFile.FieldType.byte) ∈ lw_all := lw_g (lw_at lw_m1 185 rfl) rfl
theorem q399 : (Jvm.Cond.arrayClass Jvm.ClassFile.FieldType.long) ∈ lw_all := lw_g (lw_at lw_m1 223 rfl) rfl
theorem q430 : (Jvm.Cond.arrayClass Jvm.ClassFile.FieldType.int) ∈ lw_all := lw_g (lw_at lw_m2 14 rfl) rfl
theorem q432 : (Jvm.Cond.arrayOver (Jvm.ClassFile.FieldType.array Jvm.ClassFile.FieldType.int)) ∈ lw_tbl := lw_at lw_m2 16 rfl
theorem q433 : (Jvm.Cond.arrayOver (Jvm.ClassFile.FieldType.object "BreathTown$State")) ∈ lw_tbl := lw_at lw_m2 17 rfl
theorem q542 : (Jvm.Cond.arrayClass Jvm.ClassFile.FieldType.boolean) ∈ lw_all := lw_g (lw_at lw_m2 126 rfl) rfl
theorem q681 : (Jvm.Cond.arrayClass Jvm.ClassFile.FieldType.char) ∈ lw_all := lw_g (lw_at lw_m3 25 rfl) rfl
theorem q2691 : (Jvm.Cond.arrayClass Jvm.ClassFile.FieldType.short) ∈ lw_all := lw_g (lw_at lw_m11 115 rfl) rfl
theorem q2709 : (Jvm.Cond.arrayOver (Jvm.ClassFile.FieldType.object "java/lang/String")) ∈ lw_tbl := lw_at lw_m11 133 rfl
