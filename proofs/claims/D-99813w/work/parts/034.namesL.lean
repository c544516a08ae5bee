theorem q166 : (Jvm.Cond.initialized "FirstSnufferLaw") ∈ lw_all := lw_g (lw_at lw_m1 0 rfl) rfl
set_option maxRecDepth 100000
theorem q208 : (Jvm.Cond.classLink "FirstSnufferLaw" (7 : Nat) "FirstSnuffer") ∈ lw_all := lw_g (lw_at lw_m1 42 rfl) rfl
theorem q210 : (Jvm.Cond.methodLink "FirstSnufferLaw" (9 : Nat) ({ cls := "FirstSnuffer", name := "<init>", desc := "()V" } : Jvm.MethodName)) ∈ lw_all := lw_g (lw_at lw_m1 44 rfl) rfl
theorem q588 : (Jvm.Cond.methodLink "FirstSnufferLaw" (13 : Nat) ({ cls := "FirstSnuffer", name := "feed", desc := "(IIIII)I" } : Jvm.MethodName)) ∈ lw_all := lw_g (lw_at lw_m2 182 rfl) rfl
theorem q600 : (Jvm.Cond.methodLink "FirstSnufferLaw" (18 : Nat) ({ cls := "FirstSnuffer", name := "end", desc := "(I)Z" } : Jvm.MethodName)) ∈ lw_all := lw_g (lw_at lw_m2 194 rfl) rfl
theorem q604 : (Jvm.Cond.methodLink "FirstSnufferLaw" (23 : Nat) ({ cls := "FirstSnuffer", name := "household", desc := "()I" } : Jvm.MethodName)) ∈ lw_all := lw_g (lw_at lw_m2 198 rfl) rfl
theorem q1314 : (Jvm.Cond.methodLink "FirstSnufferLaw" (28 : Nat) ({ cls := "FirstSnuffer", name := "fault", desc := "(I)I" } : Jvm.MethodName)) ∈ lw_all := lw_g (lw_at lw_m5 188 rfl) rfl
theorem q1318 : (Jvm.Cond.methodLink "FirstSnufferLaw" (33 : Nat) ({ cls := "FirstSnuffer", name := "has", desc := "(I)I" } : Jvm.MethodName)) ∈ lw_all := lw_g (lw_at lw_m5 192 rfl) rfl
theorem q1342 : (Jvm.Cond.methodLink "FirstSnufferLaw" (37 : Nat) ({ cls := "FirstSnuffer", name := "letter", desc := "(III)I" } : Jvm.MethodName)) ∈ lw_all := lw_g (lw_at lw_m5 216 rfl) rfl
theorem q1366 : (Jvm.Cond.methodLink "FirstSnufferLaw" (42 : Nat) ({ cls := "FirstSnuffer", name := "thing", desc := "(II)I" } : Jvm.MethodName)) ∈ lw_all := lw_g (lw_at lw_m6 0 rfl) rfl
theorem q1484 : (Jvm.Cond.methodLink "FirstSnufferLaw" (47 : Nat) ({ cls := "FirstSnuffer", name := "tie", desc := "(II)I" } : Jvm.MethodName)) ∈ lw_all := lw_g (lw_at lw_m6 118 rfl) rfl
theorem q1493 : (Jvm.Cond.methodLink "FirstSnufferLaw" (51 : Nat) ({ cls := "FirstSnuffer", name := "ends", desc := "(I)I" } : Jvm.MethodName)) ∈ lw_all := lw_g (lw_at lw_m6 127 rfl) rfl
theorem q1497 : (Jvm.Cond.methodLink "FirstSnufferLaw" (55 : Nat) ({ cls := "FirstSnuffer", name := "way", desc := "(II)I" } : Jvm.MethodName)) ∈ lw_all := lw_g (lw_at lw_m6 131 rfl) rfl
theorem q1505 : (Jvm.Cond.methodLink "FirstSnufferLaw" (59 : Nat) ({ cls := "FirstSnuffer", name := "kept", desc := "(II)I" } : Jvm.MethodName)) ∈ lw_all := lw_g (lw_at lw_m6 139 rfl) rfl
theorem q1509 : (Jvm.Cond.methodLink "FirstSnufferLaw" (63 : Nat) ({ cls := "FirstSnuffer", name := "later", desc := "(II)I" } : Jvm.MethodName)) ∈ lw_all := lw_g (lw_at lw_m6 143 rfl) rfl
theorem q1546 : (Jvm.Cond.methodLink "FirstSnufferLaw" (67 : Nat) ({ cls := "FirstSnuffer", name := "dies", desc := "(I)I" } : Jvm.MethodName)) ∈ lw_all := lw_g (lw_at lw_m6 180 rfl) rfl
theorem q1552 : (Jvm.Cond.methodLink "FirstSnufferLaw" (71 : Nat) ({ cls := "FirstSnuffer", name := "round", desc := "(II)I" } : Jvm.MethodName)) ∈ lw_all := lw_g (lw_at lw_m6 186 rfl) rfl
theorem q1577 : (Jvm.Cond.methodLink "FirstSnufferLaw" (75 : Nat) ({ cls := "FirstSnuffer", name := "least", desc := "()I" } : Jvm.MethodName)) ∈ lw_all := lw_g (lw_at lw_m6 211 rfl) rfl
theorem q1581 : (Jvm.Cond.methodLink "FirstSnufferLaw" (79 : Nat) ({ cls := "FirstSnuffer", name := "keep", desc := "(II)I" } : Jvm.MethodName)) ∈ lw_all := lw_g (lw_at lw_m6 215 rfl) rfl
theorem q1593 : (Jvm.Cond.methodLink "FirstSnufferLaw" (83 : Nat) ({ cls := "FirstSnuffer", name := "rings", desc := "()I" } : Jvm.MethodName)) ∈ lw_all := lw_g (lw_at lw_m6 227 rfl) rfl
theorem q1597 : (Jvm.Cond.methodLink "FirstSnufferLaw" (87 : Nat) ({ cls := "FirstSnuffer", name := "lightings", desc := "(I)I" } : Jvm.MethodName)) ∈ lw_all := lw_g (lw_at lw_m6 231 rfl) rfl
theorem q1609 : (Jvm.Cond.methodLink "FirstSnufferLaw" (91 : Nat) ({ cls := "FirstSnuffer", name := "odds", desc := "(I)I" } : Jvm.MethodName)) ∈ lw_all := lw_g (lw_at lw_m7 3 rfl) rfl
theorem q1618 : (Jvm.Cond.methodLink "FirstSnufferLaw" (95 : Nat) ({ cls := "FirstSnuffer", name := "see", desc := "()I" } : Jvm.MethodName)) ∈ lw_all := lw_g (lw_at lw_m7 12 rfl) rfl
theorem q1626 : (Jvm.Cond.methodLink "FirstSnufferLaw" (99 : Nat) ({ cls := "FirstSnuffer", name := "heats", desc := "(I)I" } : Jvm.MethodName)) ∈ lw_all := lw_g (lw_at lw_m7 20 rfl) rfl
theorem q1634 : (Jvm.Cond.methodLink "FirstSnufferLaw" (103 : Nat) ({ cls := "FirstSnuffer", name := "tells", desc := "(II)I" } : Jvm.MethodName)) ∈ lw_all := lw_g (lw_at lw_m7 28 rfl) rfl
theorem q1644 : (Jvm.Cond.methodLink "FirstSnufferLaw" (132 : Nat) ({ cls := "FirstSnuffer", name := "undo", desc := "()Z" } : Jvm.MethodName)) ∈ lw_all := lw_g (lw_at lw_m7 38 rfl) rfl
theorem q1648 : (Jvm.Cond.methodLink "FirstSnufferLaw" (107 : Nat) ({ cls := "FirstSnuffer", name := "go", desc := "(I)I" } : Jvm.MethodName)) ∈ lw_all := lw_g (lw_at lw_m7 42 rfl) rfl
theorem q1656 : (Jvm.Cond.methodLink "FirstSnufferLaw" (111 : Nat) ({ cls := "FirstSnuffer", name := "snuff", desc := "(I)I" } : Jvm.MethodName)) ∈ lw_all := lw_g (lw_at lw_m7 50 rfl) rfl
theorem q1664 : (Jvm.Cond.methodLink "FirstSnufferLaw" (115 : Nat) ({ cls := "FirstSnuffer", name := "light", desc := "(I)Z" } : Jvm.MethodName)) ∈ lw_all := lw_g (lw_at lw_m7 58 rfl) rfl
theorem q1668 : (Jvm.Cond.methodLink "FirstSnufferLaw" (119 : Nat) ({ cls := "FirstSnuffer", name := "bind", desc := "(II)Z" } : Jvm.MethodName)) ∈ lw_all := lw_g (lw_at lw_m7 62 rfl) rfl
theorem q1672 : (Jvm.Cond.methodLink "FirstSnufferLaw" (124 : Nat) ({ cls := "FirstSnuffer", name := "hours", desc := "(I)I" } : Jvm.MethodName)) ∈ lw_all := lw_g (lw_at lw_m7 66 rfl) rfl
theorem q1676 : (Jvm.Cond.methodLink "FirstSnufferLaw" (128 : Nat) ({ cls := "FirstSnuffer", name := "chance", desc := "(I)I" } : Jvm.MethodName)) ∈ lw_all := lw_g (lw_at lw_m7 70 rfl) rfl
theorem q1688 : (Jvm.Cond.methodLink "FirstSnufferLaw" (137 : Nat) ({ cls := "FirstSnuffer", name := "seed", desc := "(I)Z" } : Jvm.MethodName)) ∈ lw_all := lw_g (lw_at lw_m7 82 rfl) rfl
theorem q1692 : (Jvm.Cond.methodLink "FirstSnufferLaw" (141 : Nat) ({ cls := "FirstSnuffer", name := "ask", desc := "()J" } : Jvm.MethodName)) ∈ lw_all := lw_g (lw_at lw_m7 86 rfl) rfl
theorem q1738 : (Jvm.Cond.methodLink "FirstSnufferLaw" (146 : Nat) ({ cls := "FirstSnuffer", name := "image", desc := "()I" } : Jvm.MethodName)) ∈ lw_all := lw_g (lw_at lw_m7 132 rfl) rfl
theorem q1749 : (Jvm.Cond.methodLink "FirstSnufferLaw" (150 : Nat) ({ cls := "FirstSnuffer", name := "octet", desc := "(I)I" } : Jvm.MethodName)) ∈ lw_all := lw_g (lw_at lw_m7 143 rfl) rfl
theorem q1753 : (Jvm.Cond.methodLink "FirstSnufferLaw" (154 : Nat) ({ cls := "FirstSnuffer", name := "on", desc := "()Z" } : Jvm.MethodName)) ∈ lw_all := lw_g (lw_at lw_m7 147 rfl) rfl
theorem q1761 : (Jvm.Cond.methodLink "FirstSnufferLaw" (158 : Nat) ({ cls := "FirstSnuffer", name := "status", desc := "(I)I" } : Jvm.MethodName)) ∈ lw_all := lw_g (lw_at lw_m7 155 rfl) rfl
theorem q1765 : (Jvm.Cond.classLink "FirstSnufferLaw" (10 : Nat) "FirstSnufferModel") ∈ lw_all := lw_g (lw_at lw_m7 159 rfl) rfl
theorem q1767 : (Jvm.Cond.methodLink "FirstSnufferLaw" (12 : Nat) ({ cls := "FirstSnufferModel", name := "<init>", desc := "()V" } : Jvm.MethodName)) ∈ lw_all := lw_g (lw_at lw_m7 161 rfl) rfl
theorem q2084 : (Jvm.Cond.methodLink "FirstSnufferLaw" (17 : Nat) ({ cls := "FirstSnufferModel", name := "feed", desc := "(IIIII)I" } : Jvm.MethodName)) ∈ lw_all := lw_g (lw_at lw_m8 238 rfl) rfl
theorem q2088 : (Jvm.Cond.methodLink "FirstSnufferLaw" (22 : Nat) ({ cls := "FirstSnufferModel", name := "end", desc := "(I)Z" } : Jvm.MethodName)) ∈ lw_all := lw_g (lw_at lw_m9 2 rfl) rfl
theorem q2092 : (Jvm.Cond.methodLink "FirstSnufferLaw" (27 : Nat) ({ cls := "FirstSnufferModel", name := "household", desc := "()I" } : Jvm.MethodName)) ∈ lw_all := lw_g (lw_at lw_m9 6 rfl) rfl
theorem q2278 : (Jvm.Cond.methodLink "FirstSnufferLaw" (32 : Nat) ({ cls := "FirstSnufferModel", name := "fault", desc := "(I)I" } : Jvm.MethodName)) ∈ lw_all := lw_g (lw_at lw_m9 192 rfl) rfl
theorem q2282 : (Jvm.Cond.methodLink "FirstSnufferLaw" (36 : Nat) ({ cls := "FirstSnufferModel", name := "has", desc := "(I)I" } : Jvm.MethodName)) ∈ lw_all := lw_g (lw_at lw_m9 196 rfl) rfl
theorem q2321 : (Jvm.Cond.methodLink "FirstSnufferLaw" (41 : Nat) ({ cls := "FirstSnufferModel", name := "letter", desc := "(III)I" } : Jvm.MethodName)) ∈ lw_all := lw_g (lw_at lw_m9 235 rfl) rfl
theorem q2326 : (Jvm.Cond.methodLink "FirstSnufferLaw" (46 : Nat) ({ cls := "FirstSnufferModel", name := "thing", desc := "(II)I" } : Jvm.MethodName)) ∈ lw_all := lw_g (lw_at lw_m10 0 rfl) rfl
theorem q2382 : (Jvm.Cond.methodLink "FirstSnufferLaw" (50 : Nat) ({ cls := "FirstSnufferModel", name := "tie", desc := "(II)I" } : Jvm.MethodName)) ∈ lw_all := lw_g (lw_at lw_m10 56 rfl) rfl
theorem q2398 : (Jvm.Cond.methodLink "FirstSnufferLaw" (54 : Nat) ({ cls := "FirstSnufferModel", name := "ends", desc := "(I)I" } : Jvm.MethodName)) ∈ lw_all := lw_g (lw_at lw_m10 72 rfl) rfl
theorem q2406 : (Jvm.Cond.methodLink "FirstSnufferLaw" (58 : Nat) ({ cls := "FirstSnufferModel", name := "way", desc := "(II)I" } : Jvm.MethodName)) ∈ lw_all := lw_g (lw_at lw_m10 80 rfl) rfl
theorem q2414 : (Jvm.Cond.methodLink "FirstSnufferLaw" (62 : Nat) ({ cls := "FirstSnufferModel", name := "kept", desc := "(II)I" } : Jvm.MethodName)) ∈ lw_all := lw_g (lw_at lw_m10 88 rfl) rfl
theorem q2419 : (Jvm.Cond.methodLink "FirstSnufferLaw" (66 : Nat) ({ cls := "FirstSnufferModel", name := "later", desc := "(II)I" } : Jvm.MethodName)) ∈ lw_all := lw_g (lw_at lw_m10 93 rfl) rfl
theorem q2459 : (Jvm.Cond.methodLink "FirstSnufferLaw" (70 : Nat) ({ cls := "FirstSnufferModel", name := "dies", desc := "(I)I" } : Jvm.MethodName)) ∈ lw_all := lw_g (lw_at lw_m10 133 rfl) rfl
theorem q2463 : (Jvm.Cond.methodLink "FirstSnufferLaw" (74 : Nat) ({ cls := "FirstSnufferModel", name := "round", desc := "(II)I" } : Jvm.MethodName)) ∈ lw_all := lw_g (lw_at lw_m10 137 rfl) rfl
theorem q2488 : (Jvm.Cond.methodLink "FirstSnufferLaw" (78 : Nat) ({ cls := "FirstSnufferModel", name := "least", desc := "()I" } : Jvm.MethodName)) ∈ lw_all := lw_g (lw_at lw_m10 162 rfl) rfl
theorem q2492 : (Jvm.Cond.methodLink "FirstSnufferLaw" (82 : Nat) ({ cls := "FirstSnufferModel", name := "keep", desc := "(II)I" } : Jvm.MethodName)) ∈ lw_all := lw_g (lw_at lw_m10 166 rfl) rfl
theorem q2504 : (Jvm.Cond.methodLink "FirstSnufferLaw" (86 : Nat) ({ cls := "FirstSnufferModel", name := "rings", desc := "()I" } : Jvm.MethodName)) ∈ lw_all := lw_g (lw_at lw_m10 178 rfl) rfl
theorem q2508 : (Jvm.Cond.methodLink "FirstSnufferLaw" (90 : Nat) ({ cls := "FirstSnufferModel", name := "lightings", desc := "(I)I" } : Jvm.MethodName)) ∈ lw_all := lw_g (lw_at lw_m10 182 rfl) rfl
theorem q2520 : (Jvm.Cond.methodLink "FirstSnufferLaw" (94 : Nat) ({ cls := "FirstSnufferModel", name := "odds", desc := "(I)I" } : Jvm.MethodName)) ∈ lw_all := lw_g (lw_at lw_m10 194 rfl) rfl
theorem q2528 : (Jvm.Cond.methodLink "FirstSnufferLaw" (98 : Nat) ({ cls := "FirstSnufferModel", name := "see", desc := "()I" } : Jvm.MethodName)) ∈ lw_all := lw_g (lw_at lw_m10 202 rfl) rfl
theorem q2536 : (Jvm.Cond.methodLink "FirstSnufferLaw" (102 : Nat) ({ cls := "FirstSnufferModel", name := "heats", desc := "(I)I" } : Jvm.MethodName)) ∈ lw_all := lw_g (lw_at lw_m10 210 rfl) rfl
theorem q2548 : (Jvm.Cond.methodLink "FirstSnufferLaw" (106 : Nat) ({ cls := "FirstSnufferModel", name := "tells", desc := "(II)I" } : Jvm.MethodName)) ∈ lw_all := lw_g (lw_at lw_m10 222 rfl) rfl
theorem q2556 : (Jvm.Cond.methodLink "FirstSnufferLaw" (136 : Nat) ({ cls := "FirstSnufferModel", name := "undo", desc := "()Z" } : Jvm.MethodName)) ∈ lw_all := lw_g (lw_at lw_m10 230 rfl) rfl
theorem q2560 : (Jvm.Cond.methodLink "FirstSnufferLaw" (110 : Nat) ({ cls := "FirstSnufferModel", name := "go", desc := "(I)I" } : Jvm.MethodName)) ∈ lw_all := lw_g (lw_at lw_m10 234 rfl) rfl
theorem q2568 : (Jvm.Cond.methodLink "FirstSnufferLaw" (114 : Nat) ({ cls := "FirstSnufferModel", name := "snuff", desc := "(I)I" } : Jvm.MethodName)) ∈ lw_all := lw_g (lw_at lw_m11 2 rfl) rfl
theorem q2576 : (Jvm.Cond.methodLink "FirstSnufferLaw" (118 : Nat) ({ cls := "FirstSnufferModel", name := "light", desc := "(I)Z" } : Jvm.MethodName)) ∈ lw_all := lw_g (lw_at lw_m11 10 rfl) rfl
theorem q2584 : (Jvm.Cond.methodLink "FirstSnufferLaw" (123 : Nat) ({ cls := "FirstSnufferModel", name := "bind", desc := "(II)Z" } : Jvm.MethodName)) ∈ lw_all := lw_g (lw_at lw_m11 18 rfl) rfl
theorem q2588 : (Jvm.Cond.methodLink "FirstSnufferLaw" (127 : Nat) ({ cls := "FirstSnufferModel", name := "hours", desc := "(I)I" } : Jvm.MethodName)) ∈ lw_all := lw_g (lw_at lw_m11 22 rfl) rfl
theorem q2592 : (Jvm.Cond.methodLink "FirstSnufferLaw" (140 : Nat) ({ cls := "FirstSnufferModel", name := "seed", desc := "(I)Z" } : Jvm.MethodName)) ∈ lw_all := lw_g (lw_at lw_m11 26 rfl) rfl
theorem q2596 : (Jvm.Cond.methodLink "FirstSnufferLaw" (131 : Nat) ({ cls := "FirstSnufferModel", name := "chance", desc := "(I)I" } : Jvm.MethodName)) ∈ lw_all := lw_g (lw_at lw_m11 30 rfl) rfl
theorem q2608 : (Jvm.Cond.methodLink "FirstSnufferLaw" (145 : Nat) ({ cls := "FirstSnufferModel", name := "ask", desc := "()J" } : Jvm.MethodName)) ∈ lw_all := lw_g (lw_at lw_m11 42 rfl) rfl
theorem q2629 : (Jvm.Cond.methodLink "FirstSnufferLaw" (149 : Nat) ({ cls := "FirstSnufferModel", name := "image", desc := "()I" } : Jvm.MethodName)) ∈ lw_all := lw_g (lw_at lw_m11 63 rfl) rfl
theorem q2640 : (Jvm.Cond.methodLink "FirstSnufferLaw" (153 : Nat) ({ cls := "FirstSnufferModel", name := "octet", desc := "(I)I" } : Jvm.MethodName)) ∈ lw_all := lw_g (lw_at lw_m11 74 rfl) rfl
theorem q2644 : (Jvm.Cond.methodLink "FirstSnufferLaw" (157 : Nat) ({ cls := "FirstSnufferModel", name := "on", desc := "()Z" } : Jvm.MethodName)) ∈ lw_all := lw_g (lw_at lw_m11 78 rfl) rfl
theorem q2652 : (Jvm.Cond.methodLink "FirstSnufferLaw" (161 : Nat) ({ cls := "FirstSnufferModel", name := "status", desc := "(I)I" } : Jvm.MethodName)) ∈ lw_all := lw_g (lw_at lw_m11 86 rfl) rfl
theorem q1185 : (Jvm.Cond.sameMethod "[B" "java/lang/Object" "clone" "()Ljava/lang/Object;") ∈ lw_all := lw_g (lw_at lw_m5 59 rfl) rfl
set_option maxRecDepth 100000
theorem q1188 : (Jvm.Cond.selects "[B" ({ cls := "[B", name := "clone", desc := "()Ljava/lang/Object;" } : Jvm.MethodName) ({ cls := "java/lang/Object", name := "clone", desc := "()Ljava/lang/Object;" } : Jvm.MethodName)) ∈ lw_all := lw_g (lw_at lw_m5 62 rfl) rfl
theorem q1189 : (Jvm.Cond.castable "[B" "java/lang/Cloneable") ∈ lw_tbl := lw_at lw_m5 63 rfl
theorem q2702 : (Jvm.Cond.castable "[B" "java/lang/Object") ∈ lw_tbl := lw_at lw_m11 136 rfl
theorem q2709 : (Jvm.Cond.castable "[C" "java/lang/Object") ∈ lw_tbl := lw_at lw_m11 143 rfl
set_option maxRecDepth 100000
theorem q2705 : (Jvm.Cond.castable "[I" "java/lang/Object") ∈ lw_tbl := lw_at lw_m11 139 rfl
set_option maxRecDepth 100000
theorem q2703 : (Jvm.Cond.castable "[J" "java/lang/Object") ∈ lw_tbl := lw_at lw_m11 137 rfl
set_option maxRecDepth 100000
theorem q2707 : (Jvm.Cond.castable "[LFirstSnuffer$State;" "java/lang/Object") ∈ lw_tbl := lw_at lw_m11 141 rfl
set_option maxRecDepth 100000
theorem q2698 : (Jvm.Cond.sameMethod "[Ljava/lang/Object;" "java/lang/Object" "getClass" "()Ljava/lang/Class;") ∈ lw_all := lw_g (lw_at lw_m11 132 rfl) rfl
set_option maxRecDepth 100000
theorem q2699 : (Jvm.Cond.selects "[Ljava/lang/Object;" ({ cls := "java/lang/Object", name := "getClass", desc := "()Ljava/lang/Class;" } : Jvm.MethodName) ({ cls := "java/lang/Object", name := "getClass", desc := "()Ljava/lang/Class;" } : Jvm.MethodName)) ∈ lw_all := lw_g (lw_at lw_m11 133 rfl) rfl
theorem q2701 : (Jvm.Cond.castable "[Ljava/lang/Object;" "java/lang/Object") ∈ lw_tbl := lw_at lw_m11 135 rfl
theorem q2710 : (Jvm.Cond.castable "[Ljava/lang/String;" "java/lang/Object") ∈ lw_tbl := lw_at lw_m11 144 rfl
set_option maxRecDepth 100000
theorem q2708 : (Jvm.Cond.castable "[Z" "java/lang/Object") ∈ lw_tbl := lw_at lw_m11 142 rfl
set_option maxRecDepth 100000
theorem q2704 : (Jvm.Cond.castable "[[I" "java/lang/Object") ∈ lw_tbl := lw_at lw_m11 138 rfl
set_option maxRecDepth 100000
theorem q2706 : (Jvm.Cond.castable "[[[I" "java/lang/Object") ∈ lw_tbl := lw_at lw_m11 140 rfl
set_option maxRecDepth 100000
theorem q189 : (Jvm.Cond.initialized "java/lang/System") ∈ lw_all := lw_g (lw_at lw_m1 23 rfl) rfl
set_option maxRecDepth 100000
theorem q915 : (Jvm.Cond.static ({ cls := "java/lang/System", name := "arraycopy", desc := "(Ljava/lang/Object;ILjava/lang/Object;II)V" } : Jvm.MethodName)) ∈ lw_all := lw_g (lw_at lw_m4 29 rfl) rfl
theorem q916 : (Jvm.Cond.native ({ cls := "java/lang/System", name := "arraycopy", desc := "(Ljava/lang/Object;ILjava/lang/Object;II)V" } : Jvm.MethodName)) ∈ lw_all := lw_g (lw_at lw_m4 30 rfl) rfl
theorem q465 : (Jvm.Cond.interfaceMethod "java/util/List" "java/util/List" "size" "()I") ∈ lw_tbl := lw_at lw_m2 59 rfl
set_option maxRecDepth 100000
theorem q466 : (Jvm.Cond.declares ({ cls := "java/util/List", name := "size", desc := "()I" } : Jvm.MethodName)) ∈ lw_tbl := lw_at lw_m2 60 rfl
theorem q475 : (Jvm.Cond.interfaceMethod "java/util/List" "java/util/List" "get" "(I)Ljava/lang/Object;") ∈ lw_tbl := lw_at lw_m2 69 rfl
theorem q476 : (Jvm.Cond.declares ({ cls := "java/util/List", name := "get", desc := "(I)Ljava/lang/Object;" } : Jvm.MethodName)) ∈ lw_tbl := lw_at lw_m2 70 rfl
theorem q845 : (Jvm.Cond.interfaceMethod "java/util/List" "java/util/List" "add" "(Ljava/lang/Object;)Z") ∈ lw_tbl := lw_at lw_m3 199 rfl
theorem q846 : (Jvm.Cond.declares ({ cls := "java/util/List", name := "add", desc := "(Ljava/lang/Object;)Z" } : Jvm.MethodName)) ∈ lw_tbl := lw_at lw_m3 200 rfl
theorem q756 : (Jvm.Cond.interfaceMethod "jdk/internal/access/JavaLangAccess" "jdk/internal/access/JavaLangAccess" "getUTF16Char" "([BI)C") ∈ lw_tbl := lw_at lw_m3 110 rfl
set_option maxRecDepth 100000
theorem q757 : (Jvm.Cond.declares ({ cls := "jdk/internal/access/JavaLangAccess", name := "getUTF16Char", desc := "([BI)C" } : Jvm.MethodName)) ∈ lw_tbl := lw_at lw_m3 111 rfl
theorem q235 : (Jvm.Cond.arrayOver (Jvm.ClassFile.FieldType.object "java/lang/Object")) ∈ lw_tbl := lw_at lw_m1 69 rfl
set_option maxRecDepth 100000
theorem q369 : (Jvm.Cond.arrayClass Jvm.ClassFile.FieldType.byte) ∈ lw_all := lw_g (lw_at lw_m1 203 rfl) rfl
theorem q408 : (Jvm.Cond.arrayClass Jvm.ClassFile.FieldType.long) ∈ lw_all := lw_g (lw_at lw_m2 2 rfl) rfl
theorem q410 : (Jvm.Cond.arrayOver (Jvm.ClassFile.FieldType.array Jvm.ClassFile.FieldType.int)) ∈ lw_tbl := lw_at lw_m2 4 rfl
theorem q457 : (Jvm.Cond.arrayClass Jvm.ClassFile.FieldType.int) ∈ lw_all := lw_g (lw_at lw_m2 51 rfl) rfl
theorem q497 : (Jvm.Cond.arrayOver (Jvm.ClassFile.FieldType.array (Jvm.ClassFile.FieldType.array Jvm.ClassFile.FieldType.int))) ∈ lw_tbl := lw_at lw_m2 91 rfl
theorem q498 : (Jvm.Cond.arrayOver (Jvm.ClassFile.FieldType.object "FirstSnuffer$State")) ∈ lw_tbl := lw_at lw_m2 92 rfl
theorem q587 : (Jvm.Cond.arrayClass Jvm.ClassFile.FieldType.boolean) ∈ lw_all := lw_g (lw_at lw_m2 181 rfl) rfl
theorem q726 : (Jvm.Cond.arrayClass Jvm.ClassFile.FieldType.char) ∈ lw_all := lw_g (lw_at lw_m3 80 rfl) rfl
theorem q2711 : (Jvm.Cond.arrayClass Jvm.ClassFile.FieldType.short) ∈ lw_all := lw_g (lw_at lw_m11 145 rfl) rfl
theorem q2737 : (Jvm.Cond.arrayOver (Jvm.ClassFile.FieldType.object "java/lang/String")) ∈ lw_tbl := lw_at lw_m11 171 rfl
/-! the law's own entry -/
set_option maxRecDepth 100000
abbrev cL_law : ByteArray := code
def dkwL_law_40 : List UInt8 := [159, 0, 5, 3, 172, 132, 3, 6, 167, 251, 231, 4, 172]
abbrev dktL_law_40 : List UInt8 := dkwL_law_40 ++ []
def dkwL_law_39 : List UInt8 := [159, 0, 28, 3, 172, 43, 42, 29, 4, 96, 46, 182, 0, 158, 44, 42, 29, 4, 96, 46, 182, 0, 161]
abbrev dktL_law_39 : List UInt8 := dkwL_law_39 ++ dktL_law_40
def dkwL_law_38 : List UInt8 := [44, 42, 29, 4, 96, 46, 182, 0, 153, 159, 0, 41, 3, 172, 43, 182, 0, 154, 44, 182, 0, 157]
abbrev dktL_law_38 : List UInt8 := dkwL_law_38 ++ dktL_law_39
def dkwL_law_37 : List UInt8 := [3, 172, 43, 182, 0, 146, 44, 182, 0, 149, 159, 0, 64, 3, 172, 43, 42, 29, 4, 96, 46, 182, 0, 150]
abbrev dktL_law_37 : List UInt8 := dkwL_law_37 ++ dktL_law_38
def dkwL_law_36 : List UInt8 := [29, 4, 96, 46, 182, 0, 140, 159, 0, 91, 3, 172, 43, 182, 0, 141, 44, 182, 0, 145, 148, 153, 0, 77]
abbrev dktL_law_36 : List UInt8 := dkwL_law_36 ++ dktL_law_37
def dkwL_law_35 : List UInt8 := [43, 182, 0, 132, 44, 182, 0, 136, 159, 0, 114, 3, 172, 43, 42, 29, 4, 96, 46, 182, 0, 137, 44, 42]
abbrev dktL_law_35 : List UInt8 := dkwL_law_35 ++ dktL_law_36
def dkwL_law_34 : List UInt8 := [172, 43, 42, 29, 4, 96, 46, 182, 0, 128, 44, 42, 29, 4, 96, 46, 182, 0, 131, 159, 0, 127, 3, 172]
abbrev dktL_law_34 : List UInt8 := dkwL_law_34 ++ dktL_law_35
def dkwL_law_33 : List UInt8 := [3, 172, 43, 42, 29, 4, 96, 46, 182, 0, 124, 44, 42, 29, 4, 96, 46, 182, 0, 127, 159, 0, 150, 3]
abbrev dktL_law_33 : List UInt8 := dkwL_law_33 ++ dktL_law_34
def dkwL_law_32 : List UInt8 := [29, 5, 96, 46, 182, 0, 119, 44, 42, 29, 4, 96, 46, 42, 29, 5, 96, 46, 182, 0, 123, 159, 0, 173]
abbrev dktL_law_32 : List UInt8 := dkwL_law_32 ++ dktL_law_33
def dkwL_law_31 : List UInt8 := [182, 0, 115, 44, 42, 29, 4, 96, 46, 182, 0, 118, 159, 0, 206, 3, 172, 43, 42, 29, 4, 96, 46, 42]
abbrev dktL_law_31 : List UInt8 := dkwL_law_31 ++ dktL_law_32
def dkwL_law_30 : List UInt8 := [182, 0, 111, 44, 42, 29, 4, 96, 46, 182, 0, 114, 159, 0, 229, 3, 172, 43, 42, 29, 4, 96, 46]
abbrev dktL_law_30 : List UInt8 := dkwL_law_30 ++ dktL_law_31
def dkwL_law_29 : List UInt8 := [182, 0, 107, 44, 42, 29, 4, 96, 46, 182, 0, 110, 159, 0, 252, 3, 172, 43, 42, 29, 4, 96, 46]
abbrev dktL_law_29 : List UInt8 := dkwL_law_29 ++ dktL_law_30
def dkwL_law_28 : List UInt8 := [29, 4, 96, 46, 42, 29, 5, 96, 46, 182, 0, 106, 159, 1, 19, 3, 172, 43, 42, 29, 4, 96, 46]
abbrev dktL_law_28 : List UInt8 := dkwL_law_28 ++ dktL_law_29
def dkwL_law_27 : List UInt8 := [182, 0, 102, 159, 1, 52, 3, 172, 43, 42, 29, 4, 96, 46, 42, 29, 5, 96, 46, 182, 0, 103, 44, 42]
abbrev dktL_law_27 : List UInt8 := dkwL_law_27 ++ dktL_law_28
def dkwL_law_26 : List UInt8 := [182, 0, 98, 159, 1, 75, 3, 172, 43, 42, 29, 4, 96, 46, 182, 0, 99, 44, 42, 29, 4, 96, 46]
abbrev dktL_law_26 : List UInt8 := dkwL_law_26 ++ dktL_law_27
def dkwL_law_25 : List UInt8 := [96, 46, 182, 0, 91, 44, 42, 29, 4, 96, 46, 182, 0, 94, 159, 1, 88, 3, 172, 43, 182, 0, 95, 44]
abbrev dktL_law_25 : List UInt8 := dkwL_law_25 ++ dktL_law_26
def dkwL_law_24 : List UInt8 := [4, 96, 46, 182, 0, 87, 44, 42, 29, 4, 96, 46, 182, 0, 90, 159, 1, 111, 3, 172, 43, 42, 29, 4]
abbrev dktL_law_24 : List UInt8 := dkwL_law_24 ++ dktL_law_25
def dkwL_law_23 : List UInt8 := [182, 0, 82, 159, 1, 147, 3, 172, 43, 182, 0, 83, 44, 182, 0, 86, 159, 1, 134, 3, 172, 43, 42, 29]
abbrev dktL_law_23 : List UInt8 := dkwL_law_23 ++ dktL_law_24
def dkwL_law_22 : List UInt8 := [4, 96, 46, 42, 29, 5, 96, 46, 182, 0, 79, 44, 42, 29, 4, 96, 46, 42, 29, 5, 96, 46]
abbrev dktL_law_22 : List UInt8 := dkwL_law_22 ++ dktL_law_23
def dkwL_law_21 : List UInt8 := [182, 0, 74, 159, 1, 193, 3, 172, 43, 182, 0, 75, 44, 182, 0, 78, 159, 1, 180, 3, 172, 43, 42, 29]
abbrev dktL_law_21 : List UInt8 := dkwL_law_21 ++ dktL_law_22
def dkwL_law_20 : List UInt8 := [4, 96, 46, 42, 29, 5, 96, 46, 182, 0, 71, 44, 42, 29, 4, 96, 46, 42, 29, 5, 96, 46]
abbrev dktL_law_20 : List UInt8 := dkwL_law_20 ++ dktL_law_21
def dkwL_law_19 : List UInt8 := [29, 4, 96, 46, 182, 0, 67, 44, 42, 29, 4, 96, 46, 182, 0, 70, 159, 1, 226, 3, 172, 43, 42, 29]
abbrev dktL_law_19 : List UInt8 := dkwL_law_19 ++ dktL_law_20
def dkwL_law_18 : List UInt8 := [182, 0, 63, 44, 42, 29, 4, 96, 46, 42, 29, 5, 96, 46, 182, 0, 66, 159, 1, 249, 3, 172, 43, 42]
abbrev dktL_law_18 : List UInt8 := dkwL_law_18 ++ dktL_law_19
def dkwL_law_17 : List UInt8 := [5, 96, 46, 182, 0, 62, 159, 2, 26, 3, 172, 43, 42, 29, 4, 96, 46, 42, 29, 5, 96, 46]
abbrev dktL_law_17 : List UInt8 := dkwL_law_17 ++ dktL_law_18
def dkwL_law_16 : List UInt8 := [3, 172, 43, 42, 29, 4, 96, 46, 42, 29, 5, 96, 46, 182, 0, 59, 44, 42, 29, 4, 96, 46, 42, 29]
abbrev dktL_law_16 : List UInt8 := dkwL_law_16 ++ dktL_law_17
def dkwL_law_15 : List UInt8 := [29, 5, 96, 46, 182, 0, 55, 44, 42, 29, 4, 96, 46, 42, 29, 5, 96, 46, 182, 0, 58, 159, 2, 59]
abbrev dktL_law_15 : List UInt8 := dkwL_law_15 ++ dktL_law_16
def dkwL_law_14 : List UInt8 := [182, 0, 51, 44, 42, 29, 4, 96, 46, 182, 0, 54, 159, 2, 92, 3, 172, 43, 42, 29, 4, 96, 46, 42]
abbrev dktL_law_14 : List UInt8 := dkwL_law_14 ++ dktL_law_15
def dkwL_law_13 : List UInt8 := [42, 29, 4, 96, 46, 42, 29, 5, 96, 46, 182, 0, 50, 159, 2, 115, 3, 172, 43, 42, 29, 4, 96, 46]
abbrev dktL_law_13 : List UInt8 := dkwL_law_13 ++ dktL_law_14
def dkwL_law_12 : List UInt8 := [46, 182, 0, 46, 159, 2, 148, 3, 172, 43, 42, 29, 4, 96, 46, 42, 29, 5, 96, 46, 182, 0, 47, 44]
abbrev dktL_law_12 : List UInt8 := dkwL_law_12 ++ dktL_law_13
def dkwL_law_11 : List UInt8 := [43, 42, 29, 4, 96, 46, 42, 29, 5, 96, 46, 182, 0, 42, 44, 42, 29, 4, 96, 46, 42, 29, 5, 96]
abbrev dktL_law_11 : List UInt8 := dkwL_law_11 ++ dktL_law_12
def dkwL_law_10 : List UInt8 := [44, 42, 29, 4, 96, 46, 42, 29, 5, 96, 46, 42, 29, 6, 96, 46, 182, 0, 41, 159, 2, 181, 3, 172]
abbrev dktL_law_10 : List UInt8 := dkwL_law_10 ++ dktL_law_11
def dkwL_law_9 : List UInt8 := [159, 2, 224, 3, 172, 43, 42, 29, 4, 96, 46, 42, 29, 5, 96, 46, 42, 29, 6, 96, 46, 182, 0, 37]
abbrev dktL_law_9 : List UInt8 := dkwL_law_9 ++ dktL_law_10
def dkwL_law_8 : List UInt8 := [159, 2, 247, 3, 172, 43, 42, 29, 4, 96, 46, 182, 0, 33, 44, 42, 29, 4, 96, 46, 182, 0, 36]
abbrev dktL_law_8 : List UInt8 := dkwL_law_8 ++ dktL_law_9
def dkwL_law_7 : List UInt8 := [159, 3, 14, 3, 172, 43, 42, 29, 4, 96, 46, 182, 0, 28, 44, 42, 29, 4, 96, 46, 182, 0, 32]
abbrev dktL_law_7 : List UInt8 := dkwL_law_7 ++ dktL_law_8
def dkwL_law_6 : List UInt8 := [44, 42, 29, 4, 96, 46, 182, 0, 22, 159, 3, 27, 3, 172, 43, 182, 0, 23, 44, 182, 0, 27]
abbrev dktL_law_6 : List UInt8 := dkwL_law_6 ++ dktL_law_7
def dkwL_law_5 : List UInt8 := [96, 46, 42, 29, 8, 96, 46, 182, 0, 17, 159, 3, 50, 3, 172, 43, 42, 29, 4, 96, 46, 182, 0, 18]
abbrev dktL_law_5 : List UInt8 := dkwL_law_5 ++ dktL_law_6
def dkwL_law_4 : List UInt8 := [96, 46, 182, 0, 13, 44, 42, 29, 4, 96, 46, 42, 29, 5, 96, 46, 42, 29, 6, 96, 46, 42, 29, 7]
abbrev dktL_law_4 : List UInt8 := dkwL_law_4 ++ dktL_law_5
def dkwL_law_3 : List UInt8 := [43, 42, 29, 4, 96, 46, 42, 29, 5, 96, 46, 42, 29, 6, 96, 46, 42, 29, 7, 96, 46, 42, 29, 8]
abbrev dktL_law_3 : List UInt8 := dkwL_law_3 ++ dktL_law_4
def dkwL_law_2 : List UInt8 := [170, 0, 0, 0, 0, 4, 7, 0, 0, 0, 0, 0, 0, 0, 34, 0, 0, 0, 155, 0, 0, 0, 218, 0, 0, 0, 241, 0, 0, 0, 254, 0, 0, 1, 21, 0, 0, 1, 44, 0, 0, 1, 87, 0, 0, 1, 120, 0, 0, 1, 153, 0, 0, 1, 176, 0, 0, 1, 209, 0, 0, 1, 242, 0, 0, 2, 19, 0, 0, 2, 42, 0, 0, 2, 75, 0, 0, 2, 88, 0, 0, 2, 121, 0, 0, 2, 134, 0, 0, 2, 157, 0, 0, 2, 180, 0, 0, 2, 193, 0, 0, 2, 216, 0, 0, 2, 249, 0, 0, 3, 16, 0, 0, 3, 39, 0, 0, 3, 62, 0, 0, 3, 95, 0, 0, 3, 118, 0, 0, 3, 141, 0, 0, 3, 154, 0, 0, 3, 177, 0, 0, 3, 191, 0, 0, 3, 204, 0, 0, 3, 227, 0, 0, 3, 240]
abbrev dktL_law_2 : List UInt8 := dkwL_law_2 ++ dktL_law_3
def dkwL_law_1 : List UInt8 := [163, 4, 22, 42, 29, 46, 16, 63, 126]
abbrev dktL_law_1 : List UInt8 := dkwL_law_1 ++ dktL_law_2
def dkwL_law_0 : List UInt8 := [187, 0, 7, 89, 183, 0, 9, 76, 187, 0, 10, 89, 183, 0, 12, 77, 3, 62, 29, 42, 190, 16, 6, 100]
abbrev dktL_law_0 : List UInt8 := dkwL_law_0 ++ dktL_law_1
theorem dksL_law_0 : cL_law.data.toList.drop 0 = dktL_law_0 := by decide +kernel
theorem dksL_law_1 : cL_law.data.toList.drop 24 = dktL_law_1 := dk_seg dksL_law_0 24 rfl rfl
theorem dksL_law_2 : cL_law.data.toList.drop 33 = dktL_law_2 := dk_seg dksL_law_1 9 rfl rfl
theorem dksL_law_3 : cL_law.data.toList.drop 188 = dktL_law_3 := dk_seg dksL_law_2 155 rfl rfl
theorem dksL_law_4 : cL_law.data.toList.drop 212 = dktL_law_4 := dk_seg dksL_law_3 24 rfl rfl
theorem dksL_law_5 : cL_law.data.toList.drop 236 = dktL_law_5 := dk_seg dksL_law_4 24 rfl rfl
theorem dksL_law_6 : cL_law.data.toList.drop 260 = dktL_law_6 := dk_seg dksL_law_5 24 rfl rfl
theorem dksL_law_7 : cL_law.data.toList.drop 282 = dktL_law_7 := dk_seg dksL_law_6 22 rfl rfl
theorem dksL_law_8 : cL_law.data.toList.drop 305 = dktL_law_8 := dk_seg dksL_law_7 23 rfl rfl
theorem dksL_law_9 : cL_law.data.toList.drop 328 = dktL_law_9 := dk_seg dksL_law_8 23 rfl rfl
theorem dksL_law_10 : cL_law.data.toList.drop 352 = dktL_law_10 := dk_seg dksL_law_9 24 rfl rfl
theorem dksL_law_11 : cL_law.data.toList.drop 376 = dktL_law_11 := dk_seg dksL_law_10 24 rfl rfl
theorem dksL_law_12 : cL_law.data.toList.drop 400 = dktL_law_12 := dk_seg dksL_law_11 24 rfl rfl
theorem dksL_law_13 : cL_law.data.toList.drop 424 = dktL_law_13 := dk_seg dksL_law_12 24 rfl rfl
theorem dksL_law_14 : cL_law.data.toList.drop 448 = dktL_law_14 := dk_seg dksL_law_13 24 rfl rfl
theorem dksL_law_15 : cL_law.data.toList.drop 472 = dktL_law_15 := dk_seg dksL_law_14 24 rfl rfl
theorem dksL_law_16 : cL_law.data.toList.drop 496 = dktL_law_16 := dk_seg dksL_law_15 24 rfl rfl
theorem dksL_law_17 : cL_law.data.toList.drop 520 = dktL_law_17 := dk_seg dksL_law_16 24 rfl rfl
theorem dksL_law_18 : cL_law.data.toList.drop 542 = dktL_law_18 := dk_seg dksL_law_17 22 rfl rfl
theorem dksL_law_19 : cL_law.data.toList.drop 566 = dktL_law_19 := dk_seg dksL_law_18 24 rfl rfl
theorem dksL_law_20 : cL_law.data.toList.drop 590 = dktL_law_20 := dk_seg dksL_law_19 24 rfl rfl
theorem dksL_law_21 : cL_law.data.toList.drop 612 = dktL_law_21 := dk_seg dksL_law_20 22 rfl rfl
theorem dksL_law_22 : cL_law.data.toList.drop 636 = dktL_law_22 := dk_seg dksL_law_21 24 rfl rfl
theorem dksL_law_23 : cL_law.data.toList.drop 658 = dktL_law_23 := dk_seg dksL_law_22 22 rfl rfl
theorem dksL_law_24 : cL_law.data.toList.drop 682 = dktL_law_24 := dk_seg dksL_law_23 24 rfl rfl
theorem dksL_law_25 : cL_law.data.toList.drop 706 = dktL_law_25 := dk_seg dksL_law_24 24 rfl rfl
theorem dksL_law_26 : cL_law.data.toList.drop 730 = dktL_law_26 := dk_seg dksL_law_25 24 rfl rfl
theorem dksL_law_27 : cL_law.data.toList.drop 753 = dktL_law_27 := dk_seg dksL_law_26 23 rfl rfl
theorem dksL_law_28 : cL_law.data.toList.drop 777 = dktL_law_28 := dk_seg dksL_law_27 24 rfl rfl
theorem dksL_law_29 : cL_law.data.toList.drop 800 = dktL_law_29 := dk_seg dksL_law_28 23 rfl rfl
theorem dksL_law_30 : cL_law.data.toList.drop 823 = dktL_law_30 := dk_seg dksL_law_29 23 rfl rfl
theorem dksL_law_31 : cL_law.data.toList.drop 846 = dktL_law_31 := dk_seg dksL_law_30 23 rfl rfl
theorem dksL_law_32 : cL_law.data.toList.drop 870 = dktL_law_32 := dk_seg dksL_law_31 24 rfl rfl
theorem dksL_law_33 : cL_law.data.toList.drop 894 = dktL_law_33 := dk_seg dksL_law_32 24 rfl rfl
theorem dksL_law_34 : cL_law.data.toList.drop 918 = dktL_law_34 := dk_seg dksL_law_33 24 rfl rfl
theorem dksL_law_35 : cL_law.data.toList.drop 942 = dktL_law_35 := dk_seg dksL_law_34 24 rfl rfl
theorem dksL_law_36 : cL_law.data.toList.drop 966 = dktL_law_36 := dk_seg dksL_law_35 24 rfl rfl
theorem dksL_law_37 : cL_law.data.toList.drop 990 = dktL_law_37 := dk_seg dksL_law_36 24 rfl rfl
theorem dksL_law_38 : cL_law.data.toList.drop 1014 = dktL_law_38 := dk_seg dksL_law_37 24 rfl rfl
theorem dksL_law_39 : cL_law.data.toList.drop 1036 = dktL_law_39 := dk_seg dksL_law_38 22 rfl rfl
theorem dksL_law_40 : cL_law.data.toList.drop 1059 = dktL_law_40 := dk_seg dksL_law_39 23 rfl rfl
theorem dL_law_0 : decode cL_law 0 = .ok (.new 7, 3) := dk_187 0 7 (dk_at dksL_law_0 0 rfl rfl)
theorem dL_law_3 : decode cL_law 3 = .ok (.dup, 1) := dk_89 (dk_at dksL_law_0 3 rfl rfl)
theorem dL_law_4 : decode cL_law 4 = .ok (.invokespecial 9, 3) := dk_183 0 9 (dk_at dksL_law_0 4 rfl rfl)
theorem dL_law_7 : decode cL_law 7 = .ok (.astore_n 1, 1) := dk_76 (dk_at dksL_law_0 7 rfl rfl)
theorem dL_law_8 : decode cL_law 8 = .ok (.new 10, 3) := dk_187 0 10 (dk_at dksL_law_0 8 rfl rfl)
theorem dL_law_11 : decode cL_law 11 = .ok (.dup, 1) := dk_89 (dk_at dksL_law_0 11 rfl rfl)
theorem dL_law_12 : decode cL_law 12 = .ok (.invokespecial 12, 3) := dk_183 0 12 (dk_at dksL_law_0 12 rfl rfl)
theorem dL_law_15 : decode cL_law 15 = .ok (.astore_n 2, 1) := dk_77 (dk_at dksL_law_0 15 rfl rfl)
theorem dL_law_16 : decode cL_law 16 = .ok (.iconst 0, 1) := dk_3 (dk_at dksL_law_0 16 rfl rfl)
theorem dL_law_17 : decode cL_law 17 = .ok (.istore_n 3, 1) := dk_62 (dk_at dksL_law_0 17 rfl rfl)
theorem dL_law_18 : decode cL_law 18 = .ok (.iload_n 3, 1) := dk_29 (dk_at dksL_law_0 18 rfl rfl)
theorem dL_law_19 : decode cL_law 19 = .ok (.aload_n 0, 1) := dk_42 (dk_at dksL_law_0 19 rfl rfl)
theorem dL_law_20 : decode cL_law 20 = .ok (.arraylength, 1) := dk_190 (dk_at dksL_law_0 20 rfl rfl)
theorem dL_law_21 : decode cL_law 21 = .ok (.bipush 6, 2) := dk_16 6 (dk_at dksL_law_0 21 rfl rfl)
theorem dL_law_23 : decode cL_law 23 = .ok (.isub, 1) := dk_100 (dk_at dksL_law_0 23 rfl rfl)
theorem dL_law_24 : decode cL_law 24 = .ok (.if_icmp .gt 1046, 3) := dk_163 4 22 (dk_at dksL_law_1 0 rfl rfl)
theorem dL_law_27 : decode cL_law 27 = .ok (.aload_n 0, 1) := dk_42 (dk_at dksL_law_1 3 rfl rfl)
theorem dL_law_28 : decode cL_law 28 = .ok (.iload_n 3, 1) := dk_29 (dk_at dksL_law_1 4 rfl rfl)
theorem dL_law_29 : decode cL_law 29 = .ok (.iaload, 1) := dk_46 (dk_at dksL_law_1 5 rfl rfl)
theorem dL_law_30 : decode cL_law 30 = .ok (.bipush 63, 2) := dk_16 63 (dk_at dksL_law_1 6 rfl rfl)
theorem dL_law_32 : decode cL_law 32 = .ok (.iand, 1) := dk_126 (dk_at dksL_law_1 8 rfl rfl)
theorem dL_law_33 : decode cL_law 33 = .ok (.tableswitch 1031 0 34 #[155, 218, 241, 254, 277, 300, 343, 376, 409, 432, 465, 498, 531, 554, 587, 600, 633, 646, 669, 692, 705, 728, 761, 784, 807, 830, 863, 886, 909, 922, 945, 959, 972, 995, 1008], 155) := by decide +kernel
theorem dL_law_188 : decode cL_law 188 = .ok (.aload_n 1, 1) := dk_43 (dk_at dksL_law_3 0 rfl rfl)
theorem dL_law_189 : decode cL_law 189 = .ok (.aload_n 0, 1) := dk_42 (dk_at dksL_law_3 1 rfl rfl)
theorem dL_law_190 : decode cL_law 190 = .ok (.iload_n 3, 1) := dk_29 (dk_at dksL_law_3 2 rfl rfl)
theorem dL_law_191 : decode cL_law 191 = .ok (.iconst 1, 1) := dk_4 (dk_at dksL_law_3 3 rfl rfl)
theorem dL_law_192 : decode cL_law 192 = .ok (.iadd, 1) := dk_96 (dk_at dksL_law_3 4 rfl rfl)
theorem dL_law_193 : decode cL_law 193 = .ok (.iaload, 1) := dk_46 (dk_at dksL_law_3 5 rfl rfl)
theorem dL_law_194 : decode cL_law 194 = .ok (.aload_n 0, 1) := dk_42 (dk_at dksL_law_3 6 rfl rfl)
theorem dL_law_195 : decode cL_law 195 = .ok (.iload_n 3, 1) := dk_29 (dk_at dksL_law_3 7 rfl rfl)
theorem dL_law_196 : decode cL_law 196 = .ok (.iconst 2, 1) := dk_5 (dk_at dksL_law_3 8 rfl rfl)
theorem dL_law_197 : decode cL_law 197 = .ok (.iadd, 1) := dk_96 (dk_at dksL_law_3 9 rfl rfl)
theorem dL_law_198 : decode cL_law 198 = .ok (.iaload, 1) := dk_46 (dk_at dksL_law_3 10 rfl rfl)
theorem dL_law_199 : decode cL_law 199 = .ok (.aload_n 0, 1) := dk_42 (dk_at dksL_law_3 11 rfl rfl)
theorem dL_law_200 : decode cL_law 200 = .ok (.iload_n 3, 1) := dk_29 (dk_at dksL_law_3 12 rfl rfl)
theorem dL_law_201 : decode cL_law 201 = .ok (.iconst 3, 1) := dk_6 (dk_at dksL_law_3 13 rfl rfl)
theorem dL_law_202 : decode cL_law 202 = .ok (.iadd, 1) := dk_96 (dk_at dksL_law_3 14 rfl rfl)
theorem dL_law_203 : decode cL_law 203 = .ok (.iaload, 1) := dk_46 (dk_at dksL_law_3 15 rfl rfl)
theorem dL_law_204 : decode cL_law 204 = .ok (.aload_n 0, 1) := dk_42 (dk_at dksL_law_3 16 rfl rfl)
theorem dL_law_205 : decode cL_law 205 = .ok (.iload_n 3, 1) := dk_29 (dk_at dksL_law_3 17 rfl rfl)
theorem dL_law_206 : decode cL_law 206 = .ok (.iconst 4, 1) := dk_7 (dk_at dksL_law_3 18 rfl rfl)
theorem dL_law_207 : decode cL_law 207 = .ok (.iadd, 1) := dk_96 (dk_at dksL_law_3 19 rfl rfl)
theorem dL_law_208 : decode cL_law 208 = .ok (.iaload, 1) := dk_46 (dk_at dksL_law_3 20 rfl rfl)
theorem dL_law_209 : decode cL_law 209 = .ok (.aload_n 0, 1) := dk_42 (dk_at dksL_law_3 21 rfl rfl)
theorem dL_law_210 : decode cL_law 210 = .ok (.iload_n 3, 1) := dk_29 (dk_at dksL_law_3 22 rfl rfl)
theorem dL_law_211 : decode cL_law 211 = .ok (.iconst 5, 1) := dk_8 (dk_at dksL_law_3 23 rfl rfl)
theorem dL_law_212 : decode cL_law 212 = .ok (.iadd, 1) := dk_96 (dk_at dksL_law_4 0 rfl rfl)
theorem dL_law_213 : decode cL_law 213 = .ok (.iaload, 1) := dk_46 (dk_at dksL_law_4 1 rfl rfl)
theorem dL_law_214 : decode cL_law 214 = .ok (.invokevirtual 13, 3) := dk_182 0 13 (dk_at dksL_law_4 2 rfl rfl)
theorem dL_law_217 : decode cL_law 217 = .ok (.aload_n 2, 1) := dk_44 (dk_at dksL_law_4 5 rfl rfl)
theorem dL_law_218 : decode cL_law 218 = .ok (.aload_n 0, 1) := dk_42 (dk_at dksL_law_4 6 rfl rfl)
theorem dL_law_219 : decode cL_law 219 = .ok (.iload_n 3, 1) := dk_29 (dk_at dksL_law_4 7 rfl rfl)
theorem dL_law_220 : decode cL_law 220 = .ok (.iconst 1, 1) := dk_4 (dk_at dksL_law_4 8 rfl rfl)
theorem dL_law_221 : decode cL_law 221 = .ok (.iadd, 1) := dk_96 (dk_at dksL_law_4 9 rfl rfl)
theorem dL_law_222 : decode cL_law 222 = .ok (.iaload, 1) := dk_46 (dk_at dksL_law_4 10 rfl rfl)
theorem dL_law_223 : decode cL_law 223 = .ok (.aload_n 0, 1) := dk_42 (dk_at dksL_law_4 11 rfl rfl)
theorem dL_law_224 : decode cL_law 224 = .ok (.iload_n 3, 1) := dk_29 (dk_at dksL_law_4 12 rfl rfl)
theorem dL_law_225 : decode cL_law 225 = .ok (.iconst 2, 1) := dk_5 (dk_at dksL_law_4 13 rfl rfl)
theorem dL_law_226 : decode cL_law 226 = .ok (.iadd, 1) := dk_96 (dk_at dksL_law_4 14 rfl rfl)
theorem dL_law_227 : decode cL_law 227 = .ok (.iaload, 1) := dk_46 (dk_at dksL_law_4 15 rfl rfl)
theorem dL_law_228 : decode cL_law 228 = .ok (.aload_n 0, 1) := dk_42 (dk_at dksL_law_4 16 rfl rfl)
theorem dL_law_229 : decode cL_law 229 = .ok (.iload_n 3, 1) := dk_29 (dk_at dksL_law_4 17 rfl rfl)
theorem dL_law_230 : decode cL_law 230 = .ok (.iconst 3, 1) := dk_6 (dk_at dksL_law_4 18 rfl rfl)
theorem dL_law_231 : decode cL_law 231 = .ok (.iadd, 1) := dk_96 (dk_at dksL_law_4 19 rfl rfl)
theorem dL_law_232 : decode cL_law 232 = .ok (.iaload, 1) := dk_46 (dk_at dksL_law_4 20 rfl rfl)
theorem dL_law_233 : decode cL_law 233 = .ok (.aload_n 0, 1) := dk_42 (dk_at dksL_law_4 21 rfl rfl)
theorem dL_law_234 : decode cL_law 234 = .ok (.iload_n 3, 1) := dk_29 (dk_at dksL_law_4 22 rfl rfl)
theorem dL_law_235 : decode cL_law 235 = .ok (.iconst 4, 1) := dk_7 (dk_at dksL_law_4 23 rfl rfl)
theorem dL_law_236 : decode cL_law 236 = .ok (.iadd, 1) := dk_96 (dk_at dksL_law_5 0 rfl rfl)
theorem dL_law_237 : decode cL_law 237 = .ok (.iaload, 1) := dk_46 (dk_at dksL_law_5 1 rfl rfl)
theorem dL_law_238 : decode cL_law 238 = .ok (.aload_n 0, 1) := dk_42 (dk_at dksL_law_5 2 rfl rfl)
theorem dL_law_239 : decode cL_law 239 = .ok (.iload_n 3, 1) := dk_29 (dk_at dksL_law_5 3 rfl rfl)
theorem dL_law_240 : decode cL_law 240 = .ok (.iconst 5, 1) := dk_8 (dk_at dksL_law_5 4 rfl rfl)
theorem dL_law_241 : decode cL_law 241 = .ok (.iadd, 1) := dk_96 (dk_at dksL_law_5 5 rfl rfl)
theorem dL_law_242 : decode cL_law 242 = .ok (.iaload, 1) := dk_46 (dk_at dksL_law_5 6 rfl rfl)
theorem dL_law_243 : decode cL_law 243 = .ok (.invokevirtual 17, 3) := dk_182 0 17 (dk_at dksL_law_5 7 rfl rfl)
theorem dL_law_246 : decode cL_law 246 = .ok (.if_icmp .eq 818, 3) := dk_159 3 50 (dk_at dksL_law_5 10 rfl rfl)
theorem dL_law_249 : decode cL_law 249 = .ok (.iconst 0, 1) := dk_3 (dk_at dksL_law_5 13 rfl rfl)
theorem dL_law_250 : decode cL_law 250 = .ok (.ireturn, 1) := dk_172 (dk_at dksL_law_5 14 rfl rfl)
theorem dL_law_251 : decode cL_law 251 = .ok (.aload_n 1, 1) := dk_43 (dk_at dksL_law_5 15 rfl rfl)
theorem dL_law_252 : decode cL_law 252 = .ok (.aload_n 0, 1) := dk_42 (dk_at dksL_law_5 16 rfl rfl)
theorem dL_law_253 : decode cL_law 253 = .ok (.iload_n 3, 1) := dk_29 (dk_at dksL_law_5 17 rfl rfl)
theorem dL_law_254 : decode cL_law 254 = .ok (.iconst 1, 1) := dk_4 (dk_at dksL_law_5 18 rfl rfl)
theorem dL_law_255 : decode cL_law 255 = .ok (.iadd, 1) := dk_96 (dk_at dksL_law_5 19 rfl rfl)
theorem dL_law_256 : decode cL_law 256 = .ok (.iaload, 1) := dk_46 (dk_at dksL_law_5 20 rfl rfl)
theorem dL_law_257 : decode cL_law 257 = .ok (.invokevirtual 18, 3) := dk_182 0 18 (dk_at dksL_law_5 21 rfl rfl)
theorem dL_law_260 : decode cL_law 260 = .ok (.aload_n 2, 1) := dk_44 (dk_at dksL_law_6 0 rfl rfl)
theorem dL_law_261 : decode cL_law 261 = .ok (.aload_n 0, 1) := dk_42 (dk_at dksL_law_6 1 rfl rfl)
theorem dL_law_262 : decode cL_law 262 = .ok (.iload_n 3, 1) := dk_29 (dk_at dksL_law_6 2 rfl rfl)
theorem dL_law_263 : decode cL_law 263 = .ok (.iconst 1, 1) := dk_4 (dk_at dksL_law_6 3 rfl rfl)
theorem dL_law_264 : decode cL_law 264 = .ok (.iadd, 1) := dk_96 (dk_at dksL_law_6 4 rfl rfl)
theorem dL_law_265 : decode cL_law 265 = .ok (.iaload, 1) := dk_46 (dk_at dksL_law_6 5 rfl rfl)
theorem dL_law_266 : decode cL_law 266 = .ok (.invokevirtual 22, 3) := dk_182 0 22 (dk_at dksL_law_6 6 rfl rfl)
theorem dL_law_269 : decode cL_law 269 = .ok (.if_icmp .eq 795, 3) := dk_159 3 27 (dk_at dksL_law_6 9 rfl rfl)
theorem dL_law_272 : decode cL_law 272 = .ok (.iconst 0, 1) := dk_3 (dk_at dksL_law_6 12 rfl rfl)
theorem dL_law_273 : decode cL_law 273 = .ok (.ireturn, 1) := dk_172 (dk_at dksL_law_6 13 rfl rfl)
theorem dL_law_274 : decode cL_law 274 = .ok (.aload_n 1, 1) := dk_43 (dk_at dksL_law_6 14 rfl rfl)
theorem dL_law_275 : decode cL_law 275 = .ok (.invokevirtual 23, 3) := dk_182 0 23 (dk_at dksL_law_6 15 rfl rfl)
theorem dL_law_278 : decode cL_law 278 = .ok (.aload_n 2, 1) := dk_44 (dk_at dksL_law_6 18 rfl rfl)
theorem dL_law_279 : decode cL_law 279 = .ok (.invokevirtual 27, 3) := dk_182 0 27 (dk_at dksL_law_6 19 rfl rfl)
theorem dL_law_282 : decode cL_law 282 = .ok (.if_icmp .eq 782, 3) := dk_159 3 14 (dk_at dksL_law_7 0 rfl rfl)
theorem dL_law_285 : decode cL_law 285 = .ok (.iconst 0, 1) := dk_3 (dk_at dksL_law_7 3 rfl rfl)
theorem dL_law_286 : decode cL_law 286 = .ok (.ireturn, 1) := dk_172 (dk_at dksL_law_7 4 rfl rfl)
theorem dL_law_287 : decode cL_law 287 = .ok (.aload_n 1, 1) := dk_43 (dk_at dksL_law_7 5 rfl rfl)
theorem dL_law_288 : decode cL_law 288 = .ok (.aload_n 0, 1) := dk_42 (dk_at dksL_law_7 6 rfl rfl)
theorem dL_law_289 : decode cL_law 289 = .ok (.iload_n 3, 1) := dk_29 (dk_at dksL_law_7 7 rfl rfl)
theorem dL_law_290 : decode cL_law 290 = .ok (.iconst 1, 1) := dk_4 (dk_at dksL_law_7 8 rfl rfl)
theorem dL_law_291 : decode cL_law 291 = .ok (.iadd, 1) := dk_96 (dk_at dksL_law_7 9 rfl rfl)
theorem dL_law_292 : decode cL_law 292 = .ok (.iaload, 1) := dk_46 (dk_at dksL_law_7 10 rfl rfl)
theorem dL_law_293 : decode cL_law 293 = .ok (.invokevirtual 28, 3) := dk_182 0 28 (dk_at dksL_law_7 11 rfl rfl)
theorem dL_law_296 : decode cL_law 296 = .ok (.aload_n 2, 1) := dk_44 (dk_at dksL_law_7 14 rfl rfl)
theorem dL_law_297 : decode cL_law 297 = .ok (.aload_n 0, 1) := dk_42 (dk_at dksL_law_7 15 rfl rfl)
theorem dL_law_298 : decode cL_law 298 = .ok (.iload_n 3, 1) := dk_29 (dk_at dksL_law_7 16 rfl rfl)
theorem dL_law_299 : decode cL_law 299 = .ok (.iconst 1, 1) := dk_4 (dk_at dksL_law_7 17 rfl rfl)
theorem dL_law_300 : decode cL_law 300 = .ok (.iadd, 1) := dk_96 (dk_at dksL_law_7 18 rfl rfl)
theorem dL_law_301 : decode cL_law 301 = .ok (.iaload, 1) := dk_46 (dk_at dksL_law_7 19 rfl rfl)
theorem dL_law_302 : decode cL_law 302 = .ok (.invokevirtual 32, 3) := dk_182 0 32 (dk_at dksL_law_7 20 rfl rfl)
theorem dL_law_305 : decode cL_law 305 = .ok (.if_icmp .eq 759, 3) := dk_159 2 247 (dk_at dksL_law_8 0 rfl rfl)
theorem dL_law_308 : decode cL_law 308 = .ok (.iconst 0, 1) := dk_3 (dk_at dksL_law_8 3 rfl rfl)
theorem dL_law_309 : decode cL_law 309 = .ok (.ireturn, 1) := dk_172 (dk_at dksL_law_8 4 rfl rfl)
theorem dL_law_310 : decode cL_law 310 = .ok (.aload_n 1, 1) := dk_43 (dk_at dksL_law_8 5 rfl rfl)
theorem dL_law_311 : decode cL_law 311 = .ok (.aload_n 0, 1) := dk_42 (dk_at dksL_law_8 6 rfl rfl)
theorem dL_law_312 : decode cL_law 312 = .ok (.iload_n 3, 1) := dk_29 (dk_at dksL_law_8 7 rfl rfl)
theorem dL_law_313 : decode cL_law 313 = .ok (.iconst 1, 1) := dk_4 (dk_at dksL_law_8 8 rfl rfl)
theorem dL_law_314 : decode cL_law 314 = .ok (.iadd, 1) := dk_96 (dk_at dksL_law_8 9 rfl rfl)
theorem dL_law_315 : decode cL_law 315 = .ok (.iaload, 1) := dk_46 (dk_at dksL_law_8 10 rfl rfl)
theorem dL_law_316 : decode cL_law 316 = .ok (.invokevirtual 33, 3) := dk_182 0 33 (dk_at dksL_law_8 11 rfl rfl)
theorem dL_law_319 : decode cL_law 319 = .ok (.aload_n 2, 1) := dk_44 (dk_at dksL_law_8 14 rfl rfl)
theorem dL_law_320 : decode cL_law 320 = .ok (.aload_n 0, 1) := dk_42 (dk_at dksL_law_8 15 rfl rfl)
theorem dL_law_321 : decode cL_law 321 = .ok (.iload_n 3, 1) := dk_29 (dk_at dksL_law_8 16 rfl rfl)
theorem dL_law_322 : decode cL_law 322 = .ok (.iconst 1, 1) := dk_4 (dk_at dksL_law_8 17 rfl rfl)
theorem dL_law_323 : decode cL_law 323 = .ok (.iadd, 1) := dk_96 (dk_at dksL_law_8 18 rfl rfl)
theorem dL_law_324 : decode cL_law 324 = .ok (.iaload, 1) := dk_46 (dk_at dksL_law_8 19 rfl rfl)
theorem dL_law_325 : decode cL_law 325 = .ok (.invokevirtual 36, 3) := dk_182 0 36 (dk_at dksL_law_8 20 rfl rfl)
theorem dL_law_328 : decode cL_law 328 = .ok (.if_icmp .eq 736, 3) := dk_159 2 224 (dk_at dksL_law_9 0 rfl rfl)
theorem dL_law_331 : decode cL_law 331 = .ok (.iconst 0, 1) := dk_3 (dk_at dksL_law_9 3 rfl rfl)
theorem dL_law_332 : decode cL_law 332 = .ok (.ireturn, 1) := dk_172 (dk_at dksL_law_9 4 rfl rfl)
theorem dL_law_333 : decode cL_law 333 = .ok (.aload_n 1, 1) := dk_43 (dk_at dksL_law_9 5 rfl rfl)
theorem dL_law_334 : decode cL_law 334 = .ok (.aload_n 0, 1) := dk_42 (dk_at dksL_law_9 6 rfl rfl)
theorem dL_law_335 : decode cL_law 335 = .ok (.iload_n 3, 1) := dk_29 (dk_at dksL_law_9 7 rfl rfl)
theorem dL_law_336 : decode cL_law 336 = .ok (.iconst 1, 1) := dk_4 (dk_at dksL_law_9 8 rfl rfl)
theorem dL_law_337 : decode cL_law 337 = .ok (.iadd, 1) := dk_96 (dk_at dksL_law_9 9 rfl rfl)
theorem dL_law_338 : decode cL_law 338 = .ok (.iaload, 1) := dk_46 (dk_at dksL_law_9 10 rfl rfl)
theorem dL_law_339 : decode cL_law 339 = .ok (.aload_n 0, 1) := dk_42 (dk_at dksL_law_9 11 rfl rfl)
theorem dL_law_340 : decode cL_law 340 = .ok (.iload_n 3, 1) := dk_29 (dk_at dksL_law_9 12 rfl rfl)
theorem dL_law_341 : decode cL_law 341 = .ok (.iconst 2, 1) := dk_5 (dk_at dksL_law_9 13 rfl rfl)
theorem dL_law_342 : decode cL_law 342 = .ok (.iadd, 1) := dk_96 (dk_at dksL_law_9 14 rfl rfl)
theorem dL_law_343 : decode cL_law 343 = .ok (.iaload, 1) := dk_46 (dk_at dksL_law_9 15 rfl rfl)
theorem dL_law_344 : decode cL_law 344 = .ok (.aload_n 0, 1) := dk_42 (dk_at dksL_law_9 16 rfl rfl)
theorem dL_law_345 : decode cL_law 345 = .ok (.iload_n 3, 1) := dk_29 (dk_at dksL_law_9 17 rfl rfl)
theorem dL_law_346 : decode cL_law 346 = .ok (.iconst 3, 1) := dk_6 (dk_at dksL_law_9 18 rfl rfl)
theorem dL_law_347 : decode cL_law 347 = .ok (.iadd, 1) := dk_96 (dk_at dksL_law_9 19 rfl rfl)
theorem dL_law_348 : decode cL_law 348 = .ok (.iaload, 1) := dk_46 (dk_at dksL_law_9 20 rfl rfl)
theorem dL_law_349 : decode cL_law 349 = .ok (.invokevirtual 37, 3) := dk_182 0 37 (dk_at dksL_law_9 21 rfl rfl)
theorem dL_law_352 : decode cL_law 352 = .ok (.aload_n 2, 1) := dk_44 (dk_at dksL_law_10 0 rfl rfl)
theorem dL_law_353 : decode cL_law 353 = .ok (.aload_n 0, 1) := dk_42 (dk_at dksL_law_10 1 rfl rfl)
theorem dL_law_354 : decode cL_law 354 = .ok (.iload_n 3, 1) := dk_29 (dk_at dksL_law_10 2 rfl rfl)
theorem dL_law_355 : decode cL_law 355 = .ok (.iconst 1, 1) := dk_4 (dk_at dksL_law_10 3 rfl rfl)
theorem dL_law_356 : decode cL_law 356 = .ok (.iadd, 1) := dk_96 (dk_at dksL_law_10 4 rfl rfl)
theorem dL_law_357 : decode cL_law 357 = .ok (.iaload, 1) := dk_46 (dk_at dksL_law_10 5 rfl rfl)
theorem dL_law_358 : decode cL_law 358 = .ok (.aload_n 0, 1) := dk_42 (dk_at dksL_law_10 6 rfl rfl)
theorem dL_law_359 : decode cL_law 359 = .ok (.iload_n 3, 1) := dk_29 (dk_at dksL_law_10 7 rfl rfl)
theorem dL_law_360 : decode cL_law 360 = .ok (.iconst 2, 1) := dk_5 (dk_at dksL_law_10 8 rfl rfl)
theorem dL_law_361 : decode cL_law 361 = .ok (.iadd, 1) := dk_96 (dk_at dksL_law_10 9 rfl rfl)
theorem dL_law_362 : decode cL_law 362 = .ok (.iaload, 1) := dk_46 (dk_at dksL_law_10 10 rfl rfl)
theorem dL_law_363 : decode cL_law 363 = .ok (.aload_n 0, 1) := dk_42 (dk_at dksL_law_10 11 rfl rfl)
theorem dL_law_364 : decode cL_law 364 = .ok (.iload_n 3, 1) := dk_29 (dk_at dksL_law_10 12 rfl rfl)
theorem dL_law_365 : decode cL_law 365 = .ok (.iconst 3, 1) := dk_6 (dk_at dksL_law_10 13 rfl rfl)
theorem dL_law_366 : decode cL_law 366 = .ok (.iadd, 1) := dk_96 (dk_at dksL_law_10 14 rfl rfl)
theorem dL_law_367 : decode cL_law 367 = .ok (.iaload, 1) := dk_46 (dk_at dksL_law_10 15 rfl rfl)
theorem dL_law_368 : decode cL_law 368 = .ok (.invokevirtual 41, 3) := dk_182 0 41 (dk_at dksL_law_10 16 rfl rfl)
theorem dL_law_371 : decode cL_law 371 = .ok (.if_icmp .eq 693, 3) := dk_159 2 181 (dk_at dksL_law_10 19 rfl rfl)
theorem dL_law_374 : decode cL_law 374 = .ok (.iconst 0, 1) := dk_3 (dk_at dksL_law_10 22 rfl rfl)
theorem dL_law_375 : decode cL_law 375 = .ok (.ireturn, 1) := dk_172 (dk_at dksL_law_10 23 rfl rfl)
theorem dL_law_376 : decode cL_law 376 = .ok (.aload_n 1, 1) := dk_43 (dk_at dksL_law_11 0 rfl rfl)
theorem dL_law_377 : decode cL_law 377 = .ok (.aload_n 0, 1) := dk_42 (dk_at dksL_law_11 1 rfl rfl)
theorem dL_law_378 : decode cL_law 378 = .ok (.iload_n 3, 1) := dk_29 (dk_at dksL_law_11 2 rfl rfl)
theorem dL_law_379 : decode cL_law 379 = .ok (.iconst 1, 1) := dk_4 (dk_at dksL_law_11 3 rfl rfl)
theorem dL_law_380 : decode cL_law 380 = .ok (.iadd, 1) := dk_96 (dk_at dksL_law_11 4 rfl rfl)
theorem dL_law_381 : decode cL_law 381 = .ok (.iaload, 1) := dk_46 (dk_at dksL_law_11 5 rfl rfl)
theorem dL_law_382 : decode cL_law 382 = .ok (.aload_n 0, 1) := dk_42 (dk_at dksL_law_11 6 rfl rfl)
theorem dL_law_383 : decode cL_law 383 = .ok (.iload_n 3, 1) := dk_29 (dk_at dksL_law_11 7 rfl rfl)
theorem dL_law_384 : decode cL_law 384 = .ok (.iconst 2, 1) := dk_5 (dk_at dksL_law_11 8 rfl rfl)
theorem dL_law_385 : decode cL_law 385 = .ok (.iadd, 1) := dk_96 (dk_at dksL_law_11 9 rfl rfl)
theorem dL_law_386 : decode cL_law 386 = .ok (.iaload, 1) := dk_46 (dk_at dksL_law_11 10 rfl rfl)
theorem dL_law_387 : decode cL_law 387 = .ok (.invokevirtual 42, 3) := dk_182 0 42 (dk_at dksL_law_11 11 rfl rfl)
theorem dL_law_390 : decode cL_law 390 = .ok (.aload_n 2, 1) := dk_44 (dk_at dksL_law_11 14 rfl rfl)
theorem dL_law_391 : decode cL_law 391 = .ok (.aload_n 0, 1) := dk_42 (dk_at dksL_law_11 15 rfl rfl)
theorem dL_law_392 : decode cL_law 392 = .ok (.iload_n 3, 1) := dk_29 (dk_at dksL_law_11 16 rfl rfl)
theorem dL_law_393 : decode cL_law 393 = .ok (.iconst 1, 1) := dk_4 (dk_at dksL_law_11 17 rfl rfl)
theorem dL_law_394 : decode cL_law 394 = .ok (.iadd, 1) := dk_96 (dk_at dksL_law_11 18 rfl rfl)
theorem dL_law_395 : decode cL_law 395 = .ok (.iaload, 1) := dk_46 (dk_at dksL_law_11 19 rfl rfl)
theorem dL_law_396 : decode cL_law 396 = .ok (.aload_n 0, 1) := dk_42 (dk_at dksL_law_11 20 rfl rfl)
theorem dL_law_397 : decode cL_law 397 = .ok (.iload_n 3, 1) := dk_29 (dk_at dksL_law_11 21 rfl rfl)
theorem dL_law_398 : decode cL_law 398 = .ok (.iconst 2, 1) := dk_5 (dk_at dksL_law_11 22 rfl rfl)
theorem dL_law_399 : decode cL_law 399 = .ok (.iadd, 1) := dk_96 (dk_at dksL_law_11 23 rfl rfl)
theorem dL_law_400 : decode cL_law 400 = .ok (.iaload, 1) := dk_46 (dk_at dksL_law_12 0 rfl rfl)
theorem dL_law_401 : decode cL_law 401 = .ok (.invokevirtual 46, 3) := dk_182 0 46 (dk_at dksL_law_12 1 rfl rfl)
theorem dL_law_404 : decode cL_law 404 = .ok (.if_icmp .eq 660, 3) := dk_159 2 148 (dk_at dksL_law_12 4 rfl rfl)
theorem dL_law_407 : decode cL_law 407 = .ok (.iconst 0, 1) := dk_3 (dk_at dksL_law_12 7 rfl rfl)
theorem dL_law_408 : decode cL_law 408 = .ok (.ireturn, 1) := dk_172 (dk_at dksL_law_12 8 rfl rfl)
theorem dL_law_409 : decode cL_law 409 = .ok (.aload_n 1, 1) := dk_43 (dk_at dksL_law_12 9 rfl rfl)
theorem dL_law_410 : decode cL_law 410 = .ok (.aload_n 0, 1) := dk_42 (dk_at dksL_law_12 10 rfl rfl)
theorem dL_law_411 : decode cL_law 411 = .ok (.iload_n 3, 1) := dk_29 (dk_at dksL_law_12 11 rfl rfl)
theorem dL_law_412 : decode cL_law 412 = .ok (.iconst 1, 1) := dk_4 (dk_at dksL_law_12 12 rfl rfl)
theorem dL_law_413 : decode cL_law 413 = .ok (.iadd, 1) := dk_96 (dk_at dksL_law_12 13 rfl rfl)
theorem dL_law_414 : decode cL_law 414 = .ok (.iaload, 1) := dk_46 (dk_at dksL_law_12 14 rfl rfl)
theorem dL_law_415 : decode cL_law 415 = .ok (.aload_n 0, 1) := dk_42 (dk_at dksL_law_12 15 rfl rfl)
theorem dL_law_416 : decode cL_law 416 = .ok (.iload_n 3, 1) := dk_29 (dk_at dksL_law_12 16 rfl rfl)
theorem dL_law_417 : decode cL_law 417 = .ok (.iconst 2, 1) := dk_5 (dk_at dksL_law_12 17 rfl rfl)
theorem dL_law_418 : decode cL_law 418 = .ok (.iadd, 1) := dk_96 (dk_at dksL_law_12 18 rfl rfl)
theorem dL_law_419 : decode cL_law 419 = .ok (.iaload, 1) := dk_46 (dk_at dksL_law_12 19 rfl rfl)
theorem dL_law_420 : decode cL_law 420 = .ok (.invokevirtual 47, 3) := dk_182 0 47 (dk_at dksL_law_12 20 rfl rfl)
theorem dL_law_423 : decode cL_law 423 = .ok (.aload_n 2, 1) := dk_44 (dk_at dksL_law_12 23 rfl rfl)
theorem dL_law_424 : decode cL_law 424 = .ok (.aload_n 0, 1) := dk_42 (dk_at dksL_law_13 0 rfl rfl)
theorem dL_law_425 : decode cL_law 425 = .ok (.iload_n 3, 1) := dk_29 (dk_at dksL_law_13 1 rfl rfl)
theorem dL_law_426 : decode cL_law 426 = .ok (.iconst 1, 1) := dk_4 (dk_at dksL_law_13 2 rfl rfl)
theorem dL_law_427 : decode cL_law 427 = .ok (.iadd, 1) := dk_96 (dk_at dksL_law_13 3 rfl rfl)
theorem dL_law_428 : decode cL_law 428 = .ok (.iaload, 1) := dk_46 (dk_at dksL_law_13 4 rfl rfl)
theorem dL_law_429 : decode cL_law 429 = .ok (.aload_n 0, 1) := dk_42 (dk_at dksL_law_13 5 rfl rfl)
theorem dL_law_430 : decode cL_law 430 = .ok (.iload_n 3, 1) := dk_29 (dk_at dksL_law_13 6 rfl rfl)
theorem dL_law_431 : decode cL_law 431 = .ok (.iconst 2, 1) := dk_5 (dk_at dksL_law_13 7 rfl rfl)
theorem dL_law_432 : decode cL_law 432 = .ok (.iadd, 1) := dk_96 (dk_at dksL_law_13 8 rfl rfl)
theorem dL_law_433 : decode cL_law 433 = .ok (.iaload, 1) := dk_46 (dk_at dksL_law_13 9 rfl rfl)
theorem dL_law_434 : decode cL_law 434 = .ok (.invokevirtual 50, 3) := dk_182 0 50 (dk_at dksL_law_13 10 rfl rfl)
theorem dL_law_437 : decode cL_law 437 = .ok (.if_icmp .eq 627, 3) := dk_159 2 115 (dk_at dksL_law_13 13 rfl rfl)
theorem dL_law_440 : decode cL_law 440 = .ok (.iconst 0, 1) := dk_3 (dk_at dksL_law_13 16 rfl rfl)
theorem dL_law_441 : decode cL_law 441 = .ok (.ireturn, 1) := dk_172 (dk_at dksL_law_13 17 rfl rfl)
theorem dL_law_442 : decode cL_law 442 = .ok (.aload_n 1, 1) := dk_43 (dk_at dksL_law_13 18 rfl rfl)
theorem dL_law_443 : decode cL_law 443 = .ok (.aload_n 0, 1) := dk_42 (dk_at dksL_law_13 19 rfl rfl)
theorem dL_law_444 : decode cL_law 444 = .ok (.iload_n 3, 1) := dk_29 (dk_at dksL_law_13 20 rfl rfl)
theorem dL_law_445 : decode cL_law 445 = .ok (.iconst 1, 1) := dk_4 (dk_at dksL_law_13 21 rfl rfl)
theorem dL_law_446 : decode cL_law 446 = .ok (.iadd, 1) := dk_96 (dk_at dksL_law_13 22 rfl rfl)
theorem dL_law_447 : decode cL_law 447 = .ok (.iaload, 1) := dk_46 (dk_at dksL_law_13 23 rfl rfl)
theorem dL_law_448 : decode cL_law 448 = .ok (.invokevirtual 51, 3) := dk_182 0 51 (dk_at dksL_law_14 0 rfl rfl)
theorem dL_law_451 : decode cL_law 451 = .ok (.aload_n 2, 1) := dk_44 (dk_at dksL_law_14 3 rfl rfl)
theorem dL_law_452 : decode cL_law 452 = .ok (.aload_n 0, 1) := dk_42 (dk_at dksL_law_14 4 rfl rfl)
theorem dL_law_453 : decode cL_law 453 = .ok (.iload_n 3, 1) := dk_29 (dk_at dksL_law_14 5 rfl rfl)
theorem dL_law_454 : decode cL_law 454 = .ok (.iconst 1, 1) := dk_4 (dk_at dksL_law_14 6 rfl rfl)
theorem dL_law_455 : decode cL_law 455 = .ok (.iadd, 1) := dk_96 (dk_at dksL_law_14 7 rfl rfl)
theorem dL_law_456 : decode cL_law 456 = .ok (.iaload, 1) := dk_46 (dk_at dksL_law_14 8 rfl rfl)
theorem dL_law_457 : decode cL_law 457 = .ok (.invokevirtual 54, 3) := dk_182 0 54 (dk_at dksL_law_14 9 rfl rfl)
theorem dL_law_460 : decode cL_law 460 = .ok (.if_icmp .eq 604, 3) := dk_159 2 92 (dk_at dksL_law_14 12 rfl rfl)
theorem dL_law_463 : decode cL_law 463 = .ok (.iconst 0, 1) := dk_3 (dk_at dksL_law_14 15 rfl rfl)
theorem dL_law_464 : decode cL_law 464 = .ok (.ireturn, 1) := dk_172 (dk_at dksL_law_14 16 rfl rfl)
theorem dL_law_465 : decode cL_law 465 = .ok (.aload_n 1, 1) := dk_43 (dk_at dksL_law_14 17 rfl rfl)
theorem dL_law_466 : decode cL_law 466 = .ok (.aload_n 0, 1) := dk_42 (dk_at dksL_law_14 18 rfl rfl)
theorem dL_law_467 : decode cL_law 467 = .ok (.iload_n 3, 1) := dk_29 (dk_at dksL_law_14 19 rfl rfl)
theorem dL_law_468 : decode cL_law 468 = .ok (.iconst 1, 1) := dk_4 (dk_at dksL_law_14 20 rfl rfl)
theorem dL_law_469 : decode cL_law 469 = .ok (.iadd, 1) := dk_96 (dk_at dksL_law_14 21 rfl rfl)
theorem dL_law_470 : decode cL_law 470 = .ok (.iaload, 1) := dk_46 (dk_at dksL_law_14 22 rfl rfl)
theorem dL_law_471 : decode cL_law 471 = .ok (.aload_n 0, 1) := dk_42 (dk_at dksL_law_14 23 rfl rfl)
theorem dL_law_472 : decode cL_law 472 = .ok (.iload_n 3, 1) := dk_29 (dk_at dksL_law_15 0 rfl rfl)
theorem dL_law_473 : decode cL_law 473 = .ok (.iconst 2, 1) := dk_5 (dk_at dksL_law_15 1 rfl rfl)
theorem dL_law_474 : decode cL_law 474 = .ok (.iadd, 1) := dk_96 (dk_at dksL_law_15 2 rfl rfl)
theorem dL_law_475 : decode cL_law 475 = .ok (.iaload, 1) := dk_46 (dk_at dksL_law_15 3 rfl rfl)
theorem dL_law_476 : decode cL_law 476 = .ok (.invokevirtual 55, 3) := dk_182 0 55 (dk_at dksL_law_15 4 rfl rfl)
theorem dL_law_479 : decode cL_law 479 = .ok (.aload_n 2, 1) := dk_44 (dk_at dksL_law_15 7 rfl rfl)
theorem dL_law_480 : decode cL_law 480 = .ok (.aload_n 0, 1) := dk_42 (dk_at dksL_law_15 8 rfl rfl)
theorem dL_law_481 : decode cL_law 481 = .ok (.iload_n 3, 1) := dk_29 (dk_at dksL_law_15 9 rfl rfl)
theorem dL_law_482 : decode cL_law 482 = .ok (.iconst 1, 1) := dk_4 (dk_at dksL_law_15 10 rfl rfl)
theorem dL_law_483 : decode cL_law 483 = .ok (.iadd, 1) := dk_96 (dk_at dksL_law_15 11 rfl rfl)
theorem dL_law_484 : decode cL_law 484 = .ok (.iaload, 1) := dk_46 (dk_at dksL_law_15 12 rfl rfl)
theorem dL_law_485 : decode cL_law 485 = .ok (.aload_n 0, 1) := dk_42 (dk_at dksL_law_15 13 rfl rfl)
theorem dL_law_486 : decode cL_law 486 = .ok (.iload_n 3, 1) := dk_29 (dk_at dksL_law_15 14 rfl rfl)
theorem dL_law_487 : decode cL_law 487 = .ok (.iconst 2, 1) := dk_5 (dk_at dksL_law_15 15 rfl rfl)
theorem dL_law_488 : decode cL_law 488 = .ok (.iadd, 1) := dk_96 (dk_at dksL_law_15 16 rfl rfl)
theorem dL_law_489 : decode cL_law 489 = .ok (.iaload, 1) := dk_46 (dk_at dksL_law_15 17 rfl rfl)
theorem dL_law_490 : decode cL_law 490 = .ok (.invokevirtual 58, 3) := dk_182 0 58 (dk_at dksL_law_15 18 rfl rfl)
theorem dL_law_493 : decode cL_law 493 = .ok (.if_icmp .eq 571, 3) := dk_159 2 59 (dk_at dksL_law_15 21 rfl rfl)
theorem dL_law_496 : decode cL_law 496 = .ok (.iconst 0, 1) := dk_3 (dk_at dksL_law_16 0 rfl rfl)
theorem dL_law_497 : decode cL_law 497 = .ok (.ireturn, 1) := dk_172 (dk_at dksL_law_16 1 rfl rfl)
theorem dL_law_498 : decode cL_law 498 = .ok (.aload_n 1, 1) := dk_43 (dk_at dksL_law_16 2 rfl rfl)
theorem dL_law_499 : decode cL_law 499 = .ok (.aload_n 0, 1) := dk_42 (dk_at dksL_law_16 3 rfl rfl)
theorem dL_law_500 : decode cL_law 500 = .ok (.iload_n 3, 1) := dk_29 (dk_at dksL_law_16 4 rfl rfl)
theorem dL_law_501 : decode cL_law 501 = .ok (.iconst 1, 1) := dk_4 (dk_at dksL_law_16 5 rfl rfl)
theorem dL_law_502 : decode cL_law 502 = .ok (.iadd, 1) := dk_96 (dk_at dksL_law_16 6 rfl rfl)
theorem dL_law_503 : decode cL_law 503 = .ok (.iaload, 1) := dk_46 (dk_at dksL_law_16 7 rfl rfl)
theorem dL_law_504 : decode cL_law 504 = .ok (.aload_n 0, 1) := dk_42 (dk_at dksL_law_16 8 rfl rfl)
theorem dL_law_505 : decode cL_law 505 = .ok (.iload_n 3, 1) := dk_29 (dk_at dksL_law_16 9 rfl rfl)
theorem dL_law_506 : decode cL_law 506 = .ok (.iconst 2, 1) := dk_5 (dk_at dksL_law_16 10 rfl rfl)
theorem dL_law_507 : decode cL_law 507 = .ok (.iadd, 1) := dk_96 (dk_at dksL_law_16 11 rfl rfl)
theorem dL_law_508 : decode cL_law 508 = .ok (.iaload, 1) := dk_46 (dk_at dksL_law_16 12 rfl rfl)
theorem dL_law_509 : decode cL_law 509 = .ok (.invokevirtual 59, 3) := dk_182 0 59 (dk_at dksL_law_16 13 rfl rfl)
theorem dL_law_512 : decode cL_law 512 = .ok (.aload_n 2, 1) := dk_44 (dk_at dksL_law_16 16 rfl rfl)
theorem dL_law_513 : decode cL_law 513 = .ok (.aload_n 0, 1) := dk_42 (dk_at dksL_law_16 17 rfl rfl)
theorem dL_law_514 : decode cL_law 514 = .ok (.iload_n 3, 1) := dk_29 (dk_at dksL_law_16 18 rfl rfl)
theorem dL_law_515 : decode cL_law 515 = .ok (.iconst 1, 1) := dk_4 (dk_at dksL_law_16 19 rfl rfl)
theorem dL_law_516 : decode cL_law 516 = .ok (.iadd, 1) := dk_96 (dk_at dksL_law_16 20 rfl rfl)
theorem dL_law_517 : decode cL_law 517 = .ok (.iaload, 1) := dk_46 (dk_at dksL_law_16 21 rfl rfl)
theorem dL_law_518 : decode cL_law 518 = .ok (.aload_n 0, 1) := dk_42 (dk_at dksL_law_16 22 rfl rfl)
theorem dL_law_519 : decode cL_law 519 = .ok (.iload_n 3, 1) := dk_29 (dk_at dksL_law_16 23 rfl rfl)
theorem dL_law_520 : decode cL_law 520 = .ok (.iconst 2, 1) := dk_5 (dk_at dksL_law_17 0 rfl rfl)
theorem dL_law_521 : decode cL_law 521 = .ok (.iadd, 1) := dk_96 (dk_at dksL_law_17 1 rfl rfl)
theorem dL_law_522 : decode cL_law 522 = .ok (.iaload, 1) := dk_46 (dk_at dksL_law_17 2 rfl rfl)
theorem dL_law_523 : decode cL_law 523 = .ok (.invokevirtual 62, 3) := dk_182 0 62 (dk_at dksL_law_17 3 rfl rfl)
theorem dL_law_526 : decode cL_law 526 = .ok (.if_icmp .eq 538, 3) := dk_159 2 26 (dk_at dksL_law_17 6 rfl rfl)
theorem dL_law_529 : decode cL_law 529 = .ok (.iconst 0, 1) := dk_3 (dk_at dksL_law_17 9 rfl rfl)
theorem dL_law_530 : decode cL_law 530 = .ok (.ireturn, 1) := dk_172 (dk_at dksL_law_17 10 rfl rfl)
theorem dL_law_531 : decode cL_law 531 = .ok (.aload_n 1, 1) := dk_43 (dk_at dksL_law_17 11 rfl rfl)
theorem dL_law_532 : decode cL_law 532 = .ok (.aload_n 0, 1) := dk_42 (dk_at dksL_law_17 12 rfl rfl)
theorem dL_law_533 : decode cL_law 533 = .ok (.iload_n 3, 1) := dk_29 (dk_at dksL_law_17 13 rfl rfl)
theorem dL_law_534 : decode cL_law 534 = .ok (.iconst 1, 1) := dk_4 (dk_at dksL_law_17 14 rfl rfl)
theorem dL_law_535 : decode cL_law 535 = .ok (.iadd, 1) := dk_96 (dk_at dksL_law_17 15 rfl rfl)
theorem dL_law_536 : decode cL_law 536 = .ok (.iaload, 1) := dk_46 (dk_at dksL_law_17 16 rfl rfl)
theorem dL_law_537 : decode cL_law 537 = .ok (.aload_n 0, 1) := dk_42 (dk_at dksL_law_17 17 rfl rfl)
theorem dL_law_538 : decode cL_law 538 = .ok (.iload_n 3, 1) := dk_29 (dk_at dksL_law_17 18 rfl rfl)
theorem dL_law_539 : decode cL_law 539 = .ok (.iconst 2, 1) := dk_5 (dk_at dksL_law_17 19 rfl rfl)
theorem dL_law_540 : decode cL_law 540 = .ok (.iadd, 1) := dk_96 (dk_at dksL_law_17 20 rfl rfl)
theorem dL_law_541 : decode cL_law 541 = .ok (.iaload, 1) := dk_46 (dk_at dksL_law_17 21 rfl rfl)
theorem dL_law_542 : decode cL_law 542 = .ok (.invokevirtual 63, 3) := dk_182 0 63 (dk_at dksL_law_18 0 rfl rfl)
theorem dL_law_545 : decode cL_law 545 = .ok (.aload_n 2, 1) := dk_44 (dk_at dksL_law_18 3 rfl rfl)
theorem dL_law_546 : decode cL_law 546 = .ok (.aload_n 0, 1) := dk_42 (dk_at dksL_law_18 4 rfl rfl)
theorem dL_law_547 : decode cL_law 547 = .ok (.iload_n 3, 1) := dk_29 (dk_at dksL_law_18 5 rfl rfl)
theorem dL_law_548 : decode cL_law 548 = .ok (.iconst 1, 1) := dk_4 (dk_at dksL_law_18 6 rfl rfl)
theorem dL_law_549 : decode cL_law 549 = .ok (.iadd, 1) := dk_96 (dk_at dksL_law_18 7 rfl rfl)
theorem dL_law_550 : decode cL_law 550 = .ok (.iaload, 1) := dk_46 (dk_at dksL_law_18 8 rfl rfl)
theorem dL_law_551 : decode cL_law 551 = .ok (.aload_n 0, 1) := dk_42 (dk_at dksL_law_18 9 rfl rfl)
theorem dL_law_552 : decode cL_law 552 = .ok (.iload_n 3, 1) := dk_29 (dk_at dksL_law_18 10 rfl rfl)
theorem dL_law_553 : decode cL_law 553 = .ok (.iconst 2, 1) := dk_5 (dk_at dksL_law_18 11 rfl rfl)
theorem dL_law_554 : decode cL_law 554 = .ok (.iadd, 1) := dk_96 (dk_at dksL_law_18 12 rfl rfl)
theorem dL_law_555 : decode cL_law 555 = .ok (.iaload, 1) := dk_46 (dk_at dksL_law_18 13 rfl rfl)
theorem dL_law_556 : decode cL_law 556 = .ok (.invokevirtual 66, 3) := dk_182 0 66 (dk_at dksL_law_18 14 rfl rfl)
theorem dL_law_559 : decode cL_law 559 = .ok (.if_icmp .eq 505, 3) := dk_159 1 249 (dk_at dksL_law_18 17 rfl rfl)
theorem dL_law_562 : decode cL_law 562 = .ok (.iconst 0, 1) := dk_3 (dk_at dksL_law_18 20 rfl rfl)
theorem dL_law_563 : decode cL_law 563 = .ok (.ireturn, 1) := dk_172 (dk_at dksL_law_18 21 rfl rfl)
theorem dL_law_564 : decode cL_law 564 = .ok (.aload_n 1, 1) := dk_43 (dk_at dksL_law_18 22 rfl rfl)
theorem dL_law_565 : decode cL_law 565 = .ok (.aload_n 0, 1) := dk_42 (dk_at dksL_law_18 23 rfl rfl)
theorem dL_law_566 : decode cL_law 566 = .ok (.iload_n 3, 1) := dk_29 (dk_at dksL_law_19 0 rfl rfl)
theorem dL_law_567 : decode cL_law 567 = .ok (.iconst 1, 1) := dk_4 (dk_at dksL_law_19 1 rfl rfl)
theorem dL_law_568 : decode cL_law 568 = .ok (.iadd, 1) := dk_96 (dk_at dksL_law_19 2 rfl rfl)
theorem dL_law_569 : decode cL_law 569 = .ok (.iaload, 1) := dk_46 (dk_at dksL_law_19 3 rfl rfl)
theorem dL_law_570 : decode cL_law 570 = .ok (.invokevirtual 67, 3) := dk_182 0 67 (dk_at dksL_law_19 4 rfl rfl)
theorem dL_law_573 : decode cL_law 573 = .ok (.aload_n 2, 1) := dk_44 (dk_at dksL_law_19 7 rfl rfl)
theorem dL_law_574 : decode cL_law 574 = .ok (.aload_n 0, 1) := dk_42 (dk_at dksL_law_19 8 rfl rfl)
theorem dL_law_575 : decode cL_law 575 = .ok (.iload_n 3, 1) := dk_29 (dk_at dksL_law_19 9 rfl rfl)
theorem dL_law_576 : decode cL_law 576 = .ok (.iconst 1, 1) := dk_4 (dk_at dksL_law_19 10 rfl rfl)
theorem dL_law_577 : decode cL_law 577 = .ok (.iadd, 1) := dk_96 (dk_at dksL_law_19 11 rfl rfl)
theorem dL_law_578 : decode cL_law 578 = .ok (.iaload, 1) := dk_46 (dk_at dksL_law_19 12 rfl rfl)
theorem dL_law_579 : decode cL_law 579 = .ok (.invokevirtual 70, 3) := dk_182 0 70 (dk_at dksL_law_19 13 rfl rfl)
theorem dL_law_582 : decode cL_law 582 = .ok (.if_icmp .eq 482, 3) := dk_159 1 226 (dk_at dksL_law_19 16 rfl rfl)
theorem dL_law_585 : decode cL_law 585 = .ok (.iconst 0, 1) := dk_3 (dk_at dksL_law_19 19 rfl rfl)
theorem dL_law_586 : decode cL_law 586 = .ok (.ireturn, 1) := dk_172 (dk_at dksL_law_19 20 rfl rfl)
theorem dL_law_587 : decode cL_law 587 = .ok (.aload_n 1, 1) := dk_43 (dk_at dksL_law_19 21 rfl rfl)
theorem dL_law_588 : decode cL_law 588 = .ok (.aload_n 0, 1) := dk_42 (dk_at dksL_law_19 22 rfl rfl)
theorem dL_law_589 : decode cL_law 589 = .ok (.iload_n 3, 1) := dk_29 (dk_at dksL_law_19 23 rfl rfl)
theorem dL_law_590 : decode cL_law 590 = .ok (.iconst 1, 1) := dk_4 (dk_at dksL_law_20 0 rfl rfl)
theorem dL_law_591 : decode cL_law 591 = .ok (.iadd, 1) := dk_96 (dk_at dksL_law_20 1 rfl rfl)
theorem dL_law_592 : decode cL_law 592 = .ok (.iaload, 1) := dk_46 (dk_at dksL_law_20 2 rfl rfl)
theorem dL_law_593 : decode cL_law 593 = .ok (.aload_n 0, 1) := dk_42 (dk_at dksL_law_20 3 rfl rfl)
theorem dL_law_594 : decode cL_law 594 = .ok (.iload_n 3, 1) := dk_29 (dk_at dksL_law_20 4 rfl rfl)
theorem dL_law_595 : decode cL_law 595 = .ok (.iconst 2, 1) := dk_5 (dk_at dksL_law_20 5 rfl rfl)
theorem dL_law_596 : decode cL_law 596 = .ok (.iadd, 1) := dk_96 (dk_at dksL_law_20 6 rfl rfl)
theorem dL_law_597 : decode cL_law 597 = .ok (.iaload, 1) := dk_46 (dk_at dksL_law_20 7 rfl rfl)
theorem dL_law_598 : decode cL_law 598 = .ok (.invokevirtual 71, 3) := dk_182 0 71 (dk_at dksL_law_20 8 rfl rfl)
theorem dL_law_601 : decode cL_law 601 = .ok (.aload_n 2, 1) := dk_44 (dk_at dksL_law_20 11 rfl rfl)
theorem dL_law_602 : decode cL_law 602 = .ok (.aload_n 0, 1) := dk_42 (dk_at dksL_law_20 12 rfl rfl)
theorem dL_law_603 : decode cL_law 603 = .ok (.iload_n 3, 1) := dk_29 (dk_at dksL_law_20 13 rfl rfl)
theorem dL_law_604 : decode cL_law 604 = .ok (.iconst 1, 1) := dk_4 (dk_at dksL_law_20 14 rfl rfl)
theorem dL_law_605 : decode cL_law 605 = .ok (.iadd, 1) := dk_96 (dk_at dksL_law_20 15 rfl rfl)
theorem dL_law_606 : decode cL_law 606 = .ok (.iaload, 1) := dk_46 (dk_at dksL_law_20 16 rfl rfl)
theorem dL_law_607 : decode cL_law 607 = .ok (.aload_n 0, 1) := dk_42 (dk_at dksL_law_20 17 rfl rfl)
theorem dL_law_608 : decode cL_law 608 = .ok (.iload_n 3, 1) := dk_29 (dk_at dksL_law_20 18 rfl rfl)
theorem dL_law_609 : decode cL_law 609 = .ok (.iconst 2, 1) := dk_5 (dk_at dksL_law_20 19 rfl rfl)
theorem dL_law_610 : decode cL_law 610 = .ok (.iadd, 1) := dk_96 (dk_at dksL_law_20 20 rfl rfl)
theorem dL_law_611 : decode cL_law 611 = .ok (.iaload, 1) := dk_46 (dk_at dksL_law_20 21 rfl rfl)
theorem dL_law_612 : decode cL_law 612 = .ok (.invokevirtual 74, 3) := dk_182 0 74 (dk_at dksL_law_21 0 rfl rfl)
theorem dL_law_615 : decode cL_law 615 = .ok (.if_icmp .eq 449, 3) := dk_159 1 193 (dk_at dksL_law_21 3 rfl rfl)
theorem dL_law_618 : decode cL_law 618 = .ok (.iconst 0, 1) := dk_3 (dk_at dksL_law_21 6 rfl rfl)
theorem dL_law_619 : decode cL_law 619 = .ok (.ireturn, 1) := dk_172 (dk_at dksL_law_21 7 rfl rfl)
theorem dL_law_620 : decode cL_law 620 = .ok (.aload_n 1, 1) := dk_43 (dk_at dksL_law_21 8 rfl rfl)
theorem dL_law_621 : decode cL_law 621 = .ok (.invokevirtual 75, 3) := dk_182 0 75 (dk_at dksL_law_21 9 rfl rfl)
theorem dL_law_624 : decode cL_law 624 = .ok (.aload_n 2, 1) := dk_44 (dk_at dksL_law_21 12 rfl rfl)
theorem dL_law_625 : decode cL_law 625 = .ok (.invokevirtual 78, 3) := dk_182 0 78 (dk_at dksL_law_21 13 rfl rfl)
theorem dL_law_628 : decode cL_law 628 = .ok (.if_icmp .eq 436, 3) := dk_159 1 180 (dk_at dksL_law_21 16 rfl rfl)
theorem dL_law_631 : decode cL_law 631 = .ok (.iconst 0, 1) := dk_3 (dk_at dksL_law_21 19 rfl rfl)
theorem dL_law_632 : decode cL_law 632 = .ok (.ireturn, 1) := dk_172 (dk_at dksL_law_21 20 rfl rfl)
theorem dL_law_633 : decode cL_law 633 = .ok (.aload_n 1, 1) := dk_43 (dk_at dksL_law_21 21 rfl rfl)
theorem dL_law_634 : decode cL_law 634 = .ok (.aload_n 0, 1) := dk_42 (dk_at dksL_law_21 22 rfl rfl)
theorem dL_law_635 : decode cL_law 635 = .ok (.iload_n 3, 1) := dk_29 (dk_at dksL_law_21 23 rfl rfl)
theorem dL_law_636 : decode cL_law 636 = .ok (.iconst 1, 1) := dk_4 (dk_at dksL_law_22 0 rfl rfl)
theorem dL_law_637 : decode cL_law 637 = .ok (.iadd, 1) := dk_96 (dk_at dksL_law_22 1 rfl rfl)
theorem dL_law_638 : decode cL_law 638 = .ok (.iaload, 1) := dk_46 (dk_at dksL_law_22 2 rfl rfl)
theorem dL_law_639 : decode cL_law 639 = .ok (.aload_n 0, 1) := dk_42 (dk_at dksL_law_22 3 rfl rfl)
theorem dL_law_640 : decode cL_law 640 = .ok (.iload_n 3, 1) := dk_29 (dk_at dksL_law_22 4 rfl rfl)
theorem dL_law_641 : decode cL_law 641 = .ok (.iconst 2, 1) := dk_5 (dk_at dksL_law_22 5 rfl rfl)
theorem dL_law_642 : decode cL_law 642 = .ok (.iadd, 1) := dk_96 (dk_at dksL_law_22 6 rfl rfl)
theorem dL_law_643 : decode cL_law 643 = .ok (.iaload, 1) := dk_46 (dk_at dksL_law_22 7 rfl rfl)
theorem dL_law_644 : decode cL_law 644 = .ok (.invokevirtual 79, 3) := dk_182 0 79 (dk_at dksL_law_22 8 rfl rfl)
theorem dL_law_647 : decode cL_law 647 = .ok (.aload_n 2, 1) := dk_44 (dk_at dksL_law_22 11 rfl rfl)
theorem dL_law_648 : decode cL_law 648 = .ok (.aload_n 0, 1) := dk_42 (dk_at dksL_law_22 12 rfl rfl)
theorem dL_law_649 : decode cL_law 649 = .ok (.iload_n 3, 1) := dk_29 (dk_at dksL_law_22 13 rfl rfl)
theorem dL_law_650 : decode cL_law 650 = .ok (.iconst 1, 1) := dk_4 (dk_at dksL_law_22 14 rfl rfl)
theorem dL_law_651 : decode cL_law 651 = .ok (.iadd, 1) := dk_96 (dk_at dksL_law_22 15 rfl rfl)
theorem dL_law_652 : decode cL_law 652 = .ok (.iaload, 1) := dk_46 (dk_at dksL_law_22 16 rfl rfl)
theorem dL_law_653 : decode cL_law 653 = .ok (.aload_n 0, 1) := dk_42 (dk_at dksL_law_22 17 rfl rfl)
theorem dL_law_654 : decode cL_law 654 = .ok (.iload_n 3, 1) := dk_29 (dk_at dksL_law_22 18 rfl rfl)
theorem dL_law_655 : decode cL_law 655 = .ok (.iconst 2, 1) := dk_5 (dk_at dksL_law_22 19 rfl rfl)
theorem dL_law_656 : decode cL_law 656 = .ok (.iadd, 1) := dk_96 (dk_at dksL_law_22 20 rfl rfl)
theorem dL_law_657 : decode cL_law 657 = .ok (.iaload, 1) := dk_46 (dk_at dksL_law_22 21 rfl rfl)
theorem dL_law_658 : decode cL_law 658 = .ok (.invokevirtual 82, 3) := dk_182 0 82 (dk_at dksL_law_23 0 rfl rfl)
theorem dL_law_661 : decode cL_law 661 = .ok (.if_icmp .eq 403, 3) := dk_159 1 147 (dk_at dksL_law_23 3 rfl rfl)
theorem dL_law_664 : decode cL_law 664 = .ok (.iconst 0, 1) := dk_3 (dk_at dksL_law_23 6 rfl rfl)
theorem dL_law_665 : decode cL_law 665 = .ok (.ireturn, 1) := dk_172 (dk_at dksL_law_23 7 rfl rfl)
theorem dL_law_666 : decode cL_law 666 = .ok (.aload_n 1, 1) := dk_43 (dk_at dksL_law_23 8 rfl rfl)
theorem dL_law_667 : decode cL_law 667 = .ok (.invokevirtual 83, 3) := dk_182 0 83 (dk_at dksL_law_23 9 rfl rfl)
theorem dL_law_670 : decode cL_law 670 = .ok (.aload_n 2, 1) := dk_44 (dk_at dksL_law_23 12 rfl rfl)
theorem dL_law_671 : decode cL_law 671 = .ok (.invokevirtual 86, 3) := dk_182 0 86 (dk_at dksL_law_23 13 rfl rfl)
theorem dL_law_674 : decode cL_law 674 = .ok (.if_icmp .eq 390, 3) := dk_159 1 134 (dk_at dksL_law_23 16 rfl rfl)
theorem dL_law_677 : decode cL_law 677 = .ok (.iconst 0, 1) := dk_3 (dk_at dksL_law_23 19 rfl rfl)
theorem dL_law_678 : decode cL_law 678 = .ok (.ireturn, 1) := dk_172 (dk_at dksL_law_23 20 rfl rfl)
theorem dL_law_679 : decode cL_law 679 = .ok (.aload_n 1, 1) := dk_43 (dk_at dksL_law_23 21 rfl rfl)
theorem dL_law_680 : decode cL_law 680 = .ok (.aload_n 0, 1) := dk_42 (dk_at dksL_law_23 22 rfl rfl)
theorem dL_law_681 : decode cL_law 681 = .ok (.iload_n 3, 1) := dk_29 (dk_at dksL_law_23 23 rfl rfl)
theorem dL_law_682 : decode cL_law 682 = .ok (.iconst 1, 1) := dk_4 (dk_at dksL_law_24 0 rfl rfl)
theorem dL_law_683 : decode cL_law 683 = .ok (.iadd, 1) := dk_96 (dk_at dksL_law_24 1 rfl rfl)
theorem dL_law_684 : decode cL_law 684 = .ok (.iaload, 1) := dk_46 (dk_at dksL_law_24 2 rfl rfl)
theorem dL_law_685 : decode cL_law 685 = .ok (.invokevirtual 87, 3) := dk_182 0 87 (dk_at dksL_law_24 3 rfl rfl)
theorem dL_law_688 : decode cL_law 688 = .ok (.aload_n 2, 1) := dk_44 (dk_at dksL_law_24 6 rfl rfl)
theorem dL_law_689 : decode cL_law 689 = .ok (.aload_n 0, 1) := dk_42 (dk_at dksL_law_24 7 rfl rfl)
theorem dL_law_690 : decode cL_law 690 = .ok (.iload_n 3, 1) := dk_29 (dk_at dksL_law_24 8 rfl rfl)
theorem dL_law_691 : decode cL_law 691 = .ok (.iconst 1, 1) := dk_4 (dk_at dksL_law_24 9 rfl rfl)
theorem dL_law_692 : decode cL_law 692 = .ok (.iadd, 1) := dk_96 (dk_at dksL_law_24 10 rfl rfl)
theorem dL_law_693 : decode cL_law 693 = .ok (.iaload, 1) := dk_46 (dk_at dksL_law_24 11 rfl rfl)
theorem dL_law_694 : decode cL_law 694 = .ok (.invokevirtual 90, 3) := dk_182 0 90 (dk_at dksL_law_24 12 rfl rfl)
theorem dL_law_697 : decode cL_law 697 = .ok (.if_icmp .eq 367, 3) := dk_159 1 111 (dk_at dksL_law_24 15 rfl rfl)
theorem dL_law_700 : decode cL_law 700 = .ok (.iconst 0, 1) := dk_3 (dk_at dksL_law_24 18 rfl rfl)
theorem dL_law_701 : decode cL_law 701 = .ok (.ireturn, 1) := dk_172 (dk_at dksL_law_24 19 rfl rfl)
theorem dL_law_702 : decode cL_law 702 = .ok (.aload_n 1, 1) := dk_43 (dk_at dksL_law_24 20 rfl rfl)
theorem dL_law_703 : decode cL_law 703 = .ok (.aload_n 0, 1) := dk_42 (dk_at dksL_law_24 21 rfl rfl)
theorem dL_law_704 : decode cL_law 704 = .ok (.iload_n 3, 1) := dk_29 (dk_at dksL_law_24 22 rfl rfl)
theorem dL_law_705 : decode cL_law 705 = .ok (.iconst 1, 1) := dk_4 (dk_at dksL_law_24 23 rfl rfl)
theorem dL_law_706 : decode cL_law 706 = .ok (.iadd, 1) := dk_96 (dk_at dksL_law_25 0 rfl rfl)
theorem dL_law_707 : decode cL_law 707 = .ok (.iaload, 1) := dk_46 (dk_at dksL_law_25 1 rfl rfl)
theorem dL_law_708 : decode cL_law 708 = .ok (.invokevirtual 91, 3) := dk_182 0 91 (dk_at dksL_law_25 2 rfl rfl)
theorem dL_law_711 : decode cL_law 711 = .ok (.aload_n 2, 1) := dk_44 (dk_at dksL_law_25 5 rfl rfl)
theorem dL_law_712 : decode cL_law 712 = .ok (.aload_n 0, 1) := dk_42 (dk_at dksL_law_25 6 rfl rfl)
theorem dL_law_713 : decode cL_law 713 = .ok (.iload_n 3, 1) := dk_29 (dk_at dksL_law_25 7 rfl rfl)
theorem dL_law_714 : decode cL_law 714 = .ok (.iconst 1, 1) := dk_4 (dk_at dksL_law_25 8 rfl rfl)
theorem dL_law_715 : decode cL_law 715 = .ok (.iadd, 1) := dk_96 (dk_at dksL_law_25 9 rfl rfl)
theorem dL_law_716 : decode cL_law 716 = .ok (.iaload, 1) := dk_46 (dk_at dksL_law_25 10 rfl rfl)
theorem dL_law_717 : decode cL_law 717 = .ok (.invokevirtual 94, 3) := dk_182 0 94 (dk_at dksL_law_25 11 rfl rfl)
theorem dL_law_720 : decode cL_law 720 = .ok (.if_icmp .eq 344, 3) := dk_159 1 88 (dk_at dksL_law_25 14 rfl rfl)
theorem dL_law_723 : decode cL_law 723 = .ok (.iconst 0, 1) := dk_3 (dk_at dksL_law_25 17 rfl rfl)
theorem dL_law_724 : decode cL_law 724 = .ok (.ireturn, 1) := dk_172 (dk_at dksL_law_25 18 rfl rfl)
theorem dL_law_725 : decode cL_law 725 = .ok (.aload_n 1, 1) := dk_43 (dk_at dksL_law_25 19 rfl rfl)
theorem dL_law_726 : decode cL_law 726 = .ok (.invokevirtual 95, 3) := dk_182 0 95 (dk_at dksL_law_25 20 rfl rfl)
theorem dL_law_729 : decode cL_law 729 = .ok (.aload_n 2, 1) := dk_44 (dk_at dksL_law_25 23 rfl rfl)
theorem dL_law_730 : decode cL_law 730 = .ok (.invokevirtual 98, 3) := dk_182 0 98 (dk_at dksL_law_26 0 rfl rfl)
theorem dL_law_733 : decode cL_law 733 = .ok (.if_icmp .eq 331, 3) := dk_159 1 75 (dk_at dksL_law_26 3 rfl rfl)
theorem dL_law_736 : decode cL_law 736 = .ok (.iconst 0, 1) := dk_3 (dk_at dksL_law_26 6 rfl rfl)
theorem dL_law_737 : decode cL_law 737 = .ok (.ireturn, 1) := dk_172 (dk_at dksL_law_26 7 rfl rfl)
theorem dL_law_738 : decode cL_law 738 = .ok (.aload_n 1, 1) := dk_43 (dk_at dksL_law_26 8 rfl rfl)
theorem dL_law_739 : decode cL_law 739 = .ok (.aload_n 0, 1) := dk_42 (dk_at dksL_law_26 9 rfl rfl)
theorem dL_law_740 : decode cL_law 740 = .ok (.iload_n 3, 1) := dk_29 (dk_at dksL_law_26 10 rfl rfl)
theorem dL_law_741 : decode cL_law 741 = .ok (.iconst 1, 1) := dk_4 (dk_at dksL_law_26 11 rfl rfl)
theorem dL_law_742 : decode cL_law 742 = .ok (.iadd, 1) := dk_96 (dk_at dksL_law_26 12 rfl rfl)
theorem dL_law_743 : decode cL_law 743 = .ok (.iaload, 1) := dk_46 (dk_at dksL_law_26 13 rfl rfl)
theorem dL_law_744 : decode cL_law 744 = .ok (.invokevirtual 99, 3) := dk_182 0 99 (dk_at dksL_law_26 14 rfl rfl)
theorem dL_law_747 : decode cL_law 747 = .ok (.aload_n 2, 1) := dk_44 (dk_at dksL_law_26 17 rfl rfl)
theorem dL_law_748 : decode cL_law 748 = .ok (.aload_n 0, 1) := dk_42 (dk_at dksL_law_26 18 rfl rfl)
theorem dL_law_749 : decode cL_law 749 = .ok (.iload_n 3, 1) := dk_29 (dk_at dksL_law_26 19 rfl rfl)
theorem dL_law_750 : decode cL_law 750 = .ok (.iconst 1, 1) := dk_4 (dk_at dksL_law_26 20 rfl rfl)
theorem dL_law_751 : decode cL_law 751 = .ok (.iadd, 1) := dk_96 (dk_at dksL_law_26 21 rfl rfl)
theorem dL_law_752 : decode cL_law 752 = .ok (.iaload, 1) := dk_46 (dk_at dksL_law_26 22 rfl rfl)
theorem dL_law_753 : decode cL_law 753 = .ok (.invokevirtual 102, 3) := dk_182 0 102 (dk_at dksL_law_27 0 rfl rfl)
theorem dL_law_756 : decode cL_law 756 = .ok (.if_icmp .eq 308, 3) := dk_159 1 52 (dk_at dksL_law_27 3 rfl rfl)
theorem dL_law_759 : decode cL_law 759 = .ok (.iconst 0, 1) := dk_3 (dk_at dksL_law_27 6 rfl rfl)
theorem dL_law_760 : decode cL_law 760 = .ok (.ireturn, 1) := dk_172 (dk_at dksL_law_27 7 rfl rfl)
theorem dL_law_761 : decode cL_law 761 = .ok (.aload_n 1, 1) := dk_43 (dk_at dksL_law_27 8 rfl rfl)
theorem dL_law_762 : decode cL_law 762 = .ok (.aload_n 0, 1) := dk_42 (dk_at dksL_law_27 9 rfl rfl)
theorem dL_law_763 : decode cL_law 763 = .ok (.iload_n 3, 1) := dk_29 (dk_at dksL_law_27 10 rfl rfl)
theorem dL_law_764 : decode cL_law 764 = .ok (.iconst 1, 1) := dk_4 (dk_at dksL_law_27 11 rfl rfl)
theorem dL_law_765 : decode cL_law 765 = .ok (.iadd, 1) := dk_96 (dk_at dksL_law_27 12 rfl rfl)
theorem dL_law_766 : decode cL_law 766 = .ok (.iaload, 1) := dk_46 (dk_at dksL_law_27 13 rfl rfl)
theorem dL_law_767 : decode cL_law 767 = .ok (.aload_n 0, 1) := dk_42 (dk_at dksL_law_27 14 rfl rfl)
theorem dL_law_768 : decode cL_law 768 = .ok (.iload_n 3, 1) := dk_29 (dk_at dksL_law_27 15 rfl rfl)
theorem dL_law_769 : decode cL_law 769 = .ok (.iconst 2, 1) := dk_5 (dk_at dksL_law_27 16 rfl rfl)
theorem dL_law_770 : decode cL_law 770 = .ok (.iadd, 1) := dk_96 (dk_at dksL_law_27 17 rfl rfl)
theorem dL_law_771 : decode cL_law 771 = .ok (.iaload, 1) := dk_46 (dk_at dksL_law_27 18 rfl rfl)
theorem dL_law_772 : decode cL_law 772 = .ok (.invokevirtual 103, 3) := dk_182 0 103 (dk_at dksL_law_27 19 rfl rfl)
theorem dL_law_775 : decode cL_law 775 = .ok (.aload_n 2, 1) := dk_44 (dk_at dksL_law_27 22 rfl rfl)
theorem dL_law_776 : decode cL_law 776 = .ok (.aload_n 0, 1) := dk_42 (dk_at dksL_law_27 23 rfl rfl)
theorem dL_law_777 : decode cL_law 777 = .ok (.iload_n 3, 1) := dk_29 (dk_at dksL_law_28 0 rfl rfl)
theorem dL_law_778 : decode cL_law 778 = .ok (.iconst 1, 1) := dk_4 (dk_at dksL_law_28 1 rfl rfl)
theorem dL_law_779 : decode cL_law 779 = .ok (.iadd, 1) := dk_96 (dk_at dksL_law_28 2 rfl rfl)
theorem dL_law_780 : decode cL_law 780 = .ok (.iaload, 1) := dk_46 (dk_at dksL_law_28 3 rfl rfl)
theorem dL_law_781 : decode cL_law 781 = .ok (.aload_n 0, 1) := dk_42 (dk_at dksL_law_28 4 rfl rfl)
theorem dL_law_782 : decode cL_law 782 = .ok (.iload_n 3, 1) := dk_29 (dk_at dksL_law_28 5 rfl rfl)
theorem dL_law_783 : decode cL_law 783 = .ok (.iconst 2, 1) := dk_5 (dk_at dksL_law_28 6 rfl rfl)
theorem dL_law_784 : decode cL_law 784 = .ok (.iadd, 1) := dk_96 (dk_at dksL_law_28 7 rfl rfl)
theorem dL_law_785 : decode cL_law 785 = .ok (.iaload, 1) := dk_46 (dk_at dksL_law_28 8 rfl rfl)
theorem dL_law_786 : decode cL_law 786 = .ok (.invokevirtual 106, 3) := dk_182 0 106 (dk_at dksL_law_28 9 rfl rfl)
theorem dL_law_789 : decode cL_law 789 = .ok (.if_icmp .eq 275, 3) := dk_159 1 19 (dk_at dksL_law_28 12 rfl rfl)
theorem dL_law_792 : decode cL_law 792 = .ok (.iconst 0, 1) := dk_3 (dk_at dksL_law_28 15 rfl rfl)
theorem dL_law_793 : decode cL_law 793 = .ok (.ireturn, 1) := dk_172 (dk_at dksL_law_28 16 rfl rfl)
theorem dL_law_794 : decode cL_law 794 = .ok (.aload_n 1, 1) := dk_43 (dk_at dksL_law_28 17 rfl rfl)
theorem dL_law_795 : decode cL_law 795 = .ok (.aload_n 0, 1) := dk_42 (dk_at dksL_law_28 18 rfl rfl)
theorem dL_law_796 : decode cL_law 796 = .ok (.iload_n 3, 1) := dk_29 (dk_at dksL_law_28 19 rfl rfl)
theorem dL_law_797 : decode cL_law 797 = .ok (.iconst 1, 1) := dk_4 (dk_at dksL_law_28 20 rfl rfl)
theorem dL_law_798 : decode cL_law 798 = .ok (.iadd, 1) := dk_96 (dk_at dksL_law_28 21 rfl rfl)
theorem dL_law_799 : decode cL_law 799 = .ok (.iaload, 1) := dk_46 (dk_at dksL_law_28 22 rfl rfl)
theorem dL_law_800 : decode cL_law 800 = .ok (.invokevirtual 107, 3) := dk_182 0 107 (dk_at dksL_law_29 0 rfl rfl)
theorem dL_law_803 : decode cL_law 803 = .ok (.aload_n 2, 1) := dk_44 (dk_at dksL_law_29 3 rfl rfl)
theorem dL_law_804 : decode cL_law 804 = .ok (.aload_n 0, 1) := dk_42 (dk_at dksL_law_29 4 rfl rfl)
theorem dL_law_805 : decode cL_law 805 = .ok (.iload_n 3, 1) := dk_29 (dk_at dksL_law_29 5 rfl rfl)
theorem dL_law_806 : decode cL_law 806 = .ok (.iconst 1, 1) := dk_4 (dk_at dksL_law_29 6 rfl rfl)
theorem dL_law_807 : decode cL_law 807 = .ok (.iadd, 1) := dk_96 (dk_at dksL_law_29 7 rfl rfl)
theorem dL_law_808 : decode cL_law 808 = .ok (.iaload, 1) := dk_46 (dk_at dksL_law_29 8 rfl rfl)
theorem dL_law_809 : decode cL_law 809 = .ok (.invokevirtual 110, 3) := dk_182 0 110 (dk_at dksL_law_29 9 rfl rfl)
theorem dL_law_812 : decode cL_law 812 = .ok (.if_icmp .eq 252, 3) := dk_159 0 252 (dk_at dksL_law_29 12 rfl rfl)
theorem dL_law_815 : decode cL_law 815 = .ok (.iconst 0, 1) := dk_3 (dk_at dksL_law_29 15 rfl rfl)
theorem dL_law_816 : decode cL_law 816 = .ok (.ireturn, 1) := dk_172 (dk_at dksL_law_29 16 rfl rfl)
theorem dL_law_817 : decode cL_law 817 = .ok (.aload_n 1, 1) := dk_43 (dk_at dksL_law_29 17 rfl rfl)
theorem dL_law_818 : decode cL_law 818 = .ok (.aload_n 0, 1) := dk_42 (dk_at dksL_law_29 18 rfl rfl)
theorem dL_law_819 : decode cL_law 819 = .ok (.iload_n 3, 1) := dk_29 (dk_at dksL_law_29 19 rfl rfl)
theorem dL_law_820 : decode cL_law 820 = .ok (.iconst 1, 1) := dk_4 (dk_at dksL_law_29 20 rfl rfl)
theorem dL_law_821 : decode cL_law 821 = .ok (.iadd, 1) := dk_96 (dk_at dksL_law_29 21 rfl rfl)
theorem dL_law_822 : decode cL_law 822 = .ok (.iaload, 1) := dk_46 (dk_at dksL_law_29 22 rfl rfl)
theorem dL_law_823 : decode cL_law 823 = .ok (.invokevirtual 111, 3) := dk_182 0 111 (dk_at dksL_law_30 0 rfl rfl)
theorem dL_law_826 : decode cL_law 826 = .ok (.aload_n 2, 1) := dk_44 (dk_at dksL_law_30 3 rfl rfl)
theorem dL_law_827 : decode cL_law 827 = .ok (.aload_n 0, 1) := dk_42 (dk_at dksL_law_30 4 rfl rfl)
theorem dL_law_828 : decode cL_law 828 = .ok (.iload_n 3, 1) := dk_29 (dk_at dksL_law_30 5 rfl rfl)
theorem dL_law_829 : decode cL_law 829 = .ok (.iconst 1, 1) := dk_4 (dk_at dksL_law_30 6 rfl rfl)
theorem dL_law_830 : decode cL_law 830 = .ok (.iadd, 1) := dk_96 (dk_at dksL_law_30 7 rfl rfl)
theorem dL_law_831 : decode cL_law 831 = .ok (.iaload, 1) := dk_46 (dk_at dksL_law_30 8 rfl rfl)
theorem dL_law_832 : decode cL_law 832 = .ok (.invokevirtual 114, 3) := dk_182 0 114 (dk_at dksL_law_30 9 rfl rfl)
theorem dL_law_835 : decode cL_law 835 = .ok (.if_icmp .eq 229, 3) := dk_159 0 229 (dk_at dksL_law_30 12 rfl rfl)
theorem dL_law_838 : decode cL_law 838 = .ok (.iconst 0, 1) := dk_3 (dk_at dksL_law_30 15 rfl rfl)
theorem dL_law_839 : decode cL_law 839 = .ok (.ireturn, 1) := dk_172 (dk_at dksL_law_30 16 rfl rfl)
theorem dL_law_840 : decode cL_law 840 = .ok (.aload_n 1, 1) := dk_43 (dk_at dksL_law_30 17 rfl rfl)
theorem dL_law_841 : decode cL_law 841 = .ok (.aload_n 0, 1) := dk_42 (dk_at dksL_law_30 18 rfl rfl)
theorem dL_law_842 : decode cL_law 842 = .ok (.iload_n 3, 1) := dk_29 (dk_at dksL_law_30 19 rfl rfl)
theorem dL_law_843 : decode cL_law 843 = .ok (.iconst 1, 1) := dk_4 (dk_at dksL_law_30 20 rfl rfl)
theorem dL_law_844 : decode cL_law 844 = .ok (.iadd, 1) := dk_96 (dk_at dksL_law_30 21 rfl rfl)
theorem dL_law_845 : decode cL_law 845 = .ok (.iaload, 1) := dk_46 (dk_at dksL_law_30 22 rfl rfl)
theorem dL_law_846 : decode cL_law 846 = .ok (.invokevirtual 115, 3) := dk_182 0 115 (dk_at dksL_law_31 0 rfl rfl)
theorem dL_law_849 : decode cL_law 849 = .ok (.aload_n 2, 1) := dk_44 (dk_at dksL_law_31 3 rfl rfl)
theorem dL_law_850 : decode cL_law 850 = .ok (.aload_n 0, 1) := dk_42 (dk_at dksL_law_31 4 rfl rfl)
theorem dL_law_851 : decode cL_law 851 = .ok (.iload_n 3, 1) := dk_29 (dk_at dksL_law_31 5 rfl rfl)
theorem dL_law_852 : decode cL_law 852 = .ok (.iconst 1, 1) := dk_4 (dk_at dksL_law_31 6 rfl rfl)
theorem dL_law_853 : decode cL_law 853 = .ok (.iadd, 1) := dk_96 (dk_at dksL_law_31 7 rfl rfl)
theorem dL_law_854 : decode cL_law 854 = .ok (.iaload, 1) := dk_46 (dk_at dksL_law_31 8 rfl rfl)
theorem dL_law_855 : decode cL_law 855 = .ok (.invokevirtual 118, 3) := dk_182 0 118 (dk_at dksL_law_31 9 rfl rfl)
theorem dL_law_858 : decode cL_law 858 = .ok (.if_icmp .eq 206, 3) := dk_159 0 206 (dk_at dksL_law_31 12 rfl rfl)
theorem dL_law_861 : decode cL_law 861 = .ok (.iconst 0, 1) := dk_3 (dk_at dksL_law_31 15 rfl rfl)
theorem dL_law_862 : decode cL_law 862 = .ok (.ireturn, 1) := dk_172 (dk_at dksL_law_31 16 rfl rfl)
theorem dL_law_863 : decode cL_law 863 = .ok (.aload_n 1, 1) := dk_43 (dk_at dksL_law_31 17 rfl rfl)
theorem dL_law_864 : decode cL_law 864 = .ok (.aload_n 0, 1) := dk_42 (dk_at dksL_law_31 18 rfl rfl)
theorem dL_law_865 : decode cL_law 865 = .ok (.iload_n 3, 1) := dk_29 (dk_at dksL_law_31 19 rfl rfl)
theorem dL_law_866 : decode cL_law 866 = .ok (.iconst 1, 1) := dk_4 (dk_at dksL_law_31 20 rfl rfl)
theorem dL_law_867 : decode cL_law 867 = .ok (.iadd, 1) := dk_96 (dk_at dksL_law_31 21 rfl rfl)
theorem dL_law_868 : decode cL_law 868 = .ok (.iaload, 1) := dk_46 (dk_at dksL_law_31 22 rfl rfl)
theorem dL_law_869 : decode cL_law 869 = .ok (.aload_n 0, 1) := dk_42 (dk_at dksL_law_31 23 rfl rfl)
theorem dL_law_870 : decode cL_law 870 = .ok (.iload_n 3, 1) := dk_29 (dk_at dksL_law_32 0 rfl rfl)
theorem dL_law_871 : decode cL_law 871 = .ok (.iconst 2, 1) := dk_5 (dk_at dksL_law_32 1 rfl rfl)
theorem dL_law_872 : decode cL_law 872 = .ok (.iadd, 1) := dk_96 (dk_at dksL_law_32 2 rfl rfl)
theorem dL_law_873 : decode cL_law 873 = .ok (.iaload, 1) := dk_46 (dk_at dksL_law_32 3 rfl rfl)
theorem dL_law_874 : decode cL_law 874 = .ok (.invokevirtual 119, 3) := dk_182 0 119 (dk_at dksL_law_32 4 rfl rfl)
theorem dL_law_877 : decode cL_law 877 = .ok (.aload_n 2, 1) := dk_44 (dk_at dksL_law_32 7 rfl rfl)
theorem dL_law_878 : decode cL_law 878 = .ok (.aload_n 0, 1) := dk_42 (dk_at dksL_law_32 8 rfl rfl)
theorem dL_law_879 : decode cL_law 879 = .ok (.iload_n 3, 1) := dk_29 (dk_at dksL_law_32 9 rfl rfl)
theorem dL_law_880 : decode cL_law 880 = .ok (.iconst 1, 1) := dk_4 (dk_at dksL_law_32 10 rfl rfl)
theorem dL_law_881 : decode cL_law 881 = .ok (.iadd, 1) := dk_96 (dk_at dksL_law_32 11 rfl rfl)
theorem dL_law_882 : decode cL_law 882 = .ok (.iaload, 1) := dk_46 (dk_at dksL_law_32 12 rfl rfl)
theorem dL_law_883 : decode cL_law 883 = .ok (.aload_n 0, 1) := dk_42 (dk_at dksL_law_32 13 rfl rfl)
theorem dL_law_884 : decode cL_law 884 = .ok (.iload_n 3, 1) := dk_29 (dk_at dksL_law_32 14 rfl rfl)
theorem dL_law_885 : decode cL_law 885 = .ok (.iconst 2, 1) := dk_5 (dk_at dksL_law_32 15 rfl rfl)
theorem dL_law_886 : decode cL_law 886 = .ok (.iadd, 1) := dk_96 (dk_at dksL_law_32 16 rfl rfl)
theorem dL_law_887 : decode cL_law 887 = .ok (.iaload, 1) := dk_46 (dk_at dksL_law_32 17 rfl rfl)
theorem dL_law_888 : decode cL_law 888 = .ok (.invokevirtual 123, 3) := dk_182 0 123 (dk_at dksL_law_32 18 rfl rfl)
theorem dL_law_891 : decode cL_law 891 = .ok (.if_icmp .eq 173, 3) := dk_159 0 173 (dk_at dksL_law_32 21 rfl rfl)
theorem dL_law_894 : decode cL_law 894 = .ok (.iconst 0, 1) := dk_3 (dk_at dksL_law_33 0 rfl rfl)
theorem dL_law_895 : decode cL_law 895 = .ok (.ireturn, 1) := dk_172 (dk_at dksL_law_33 1 rfl rfl)
theorem dL_law_896 : decode cL_law 896 = .ok (.aload_n 1, 1) := dk_43 (dk_at dksL_law_33 2 rfl rfl)
theorem dL_law_897 : decode cL_law 897 = .ok (.aload_n 0, 1) := dk_42 (dk_at dksL_law_33 3 rfl rfl)
theorem dL_law_898 : decode cL_law 898 = .ok (.iload_n 3, 1) := dk_29 (dk_at dksL_law_33 4 rfl rfl)
theorem dL_law_899 : decode cL_law 899 = .ok (.iconst 1, 1) := dk_4 (dk_at dksL_law_33 5 rfl rfl)
theorem dL_law_900 : decode cL_law 900 = .ok (.iadd, 1) := dk_96 (dk_at dksL_law_33 6 rfl rfl)
theorem dL_law_901 : decode cL_law 901 = .ok (.iaload, 1) := dk_46 (dk_at dksL_law_33 7 rfl rfl)
theorem dL_law_902 : decode cL_law 902 = .ok (.invokevirtual 124, 3) := dk_182 0 124 (dk_at dksL_law_33 8 rfl rfl)
theorem dL_law_905 : decode cL_law 905 = .ok (.aload_n 2, 1) := dk_44 (dk_at dksL_law_33 11 rfl rfl)
theorem dL_law_906 : decode cL_law 906 = .ok (.aload_n 0, 1) := dk_42 (dk_at dksL_law_33 12 rfl rfl)
theorem dL_law_907 : decode cL_law 907 = .ok (.iload_n 3, 1) := dk_29 (dk_at dksL_law_33 13 rfl rfl)
theorem dL_law_908 : decode cL_law 908 = .ok (.iconst 1, 1) := dk_4 (dk_at dksL_law_33 14 rfl rfl)
theorem dL_law_909 : decode cL_law 909 = .ok (.iadd, 1) := dk_96 (dk_at dksL_law_33 15 rfl rfl)
theorem dL_law_910 : decode cL_law 910 = .ok (.iaload, 1) := dk_46 (dk_at dksL_law_33 16 rfl rfl)
theorem dL_law_911 : decode cL_law 911 = .ok (.invokevirtual 127, 3) := dk_182 0 127 (dk_at dksL_law_33 17 rfl rfl)
theorem dL_law_914 : decode cL_law 914 = .ok (.if_icmp .eq 150, 3) := dk_159 0 150 (dk_at dksL_law_33 20 rfl rfl)
theorem dL_law_917 : decode cL_law 917 = .ok (.iconst 0, 1) := dk_3 (dk_at dksL_law_33 23 rfl rfl)
theorem dL_law_918 : decode cL_law 918 = .ok (.ireturn, 1) := dk_172 (dk_at dksL_law_34 0 rfl rfl)
theorem dL_law_919 : decode cL_law 919 = .ok (.aload_n 1, 1) := dk_43 (dk_at dksL_law_34 1 rfl rfl)
theorem dL_law_920 : decode cL_law 920 = .ok (.aload_n 0, 1) := dk_42 (dk_at dksL_law_34 2 rfl rfl)
theorem dL_law_921 : decode cL_law 921 = .ok (.iload_n 3, 1) := dk_29 (dk_at dksL_law_34 3 rfl rfl)
theorem dL_law_922 : decode cL_law 922 = .ok (.iconst 1, 1) := dk_4 (dk_at dksL_law_34 4 rfl rfl)
theorem dL_law_923 : decode cL_law 923 = .ok (.iadd, 1) := dk_96 (dk_at dksL_law_34 5 rfl rfl)
theorem dL_law_924 : decode cL_law 924 = .ok (.iaload, 1) := dk_46 (dk_at dksL_law_34 6 rfl rfl)
theorem dL_law_925 : decode cL_law 925 = .ok (.invokevirtual 128, 3) := dk_182 0 128 (dk_at dksL_law_34 7 rfl rfl)
theorem dL_law_928 : decode cL_law 928 = .ok (.aload_n 2, 1) := dk_44 (dk_at dksL_law_34 10 rfl rfl)
theorem dL_law_929 : decode cL_law 929 = .ok (.aload_n 0, 1) := dk_42 (dk_at dksL_law_34 11 rfl rfl)
theorem dL_law_930 : decode cL_law 930 = .ok (.iload_n 3, 1) := dk_29 (dk_at dksL_law_34 12 rfl rfl)
theorem dL_law_931 : decode cL_law 931 = .ok (.iconst 1, 1) := dk_4 (dk_at dksL_law_34 13 rfl rfl)
theorem dL_law_932 : decode cL_law 932 = .ok (.iadd, 1) := dk_96 (dk_at dksL_law_34 14 rfl rfl)
theorem dL_law_933 : decode cL_law 933 = .ok (.iaload, 1) := dk_46 (dk_at dksL_law_34 15 rfl rfl)
theorem dL_law_934 : decode cL_law 934 = .ok (.invokevirtual 131, 3) := dk_182 0 131 (dk_at dksL_law_34 16 rfl rfl)
theorem dL_law_937 : decode cL_law 937 = .ok (.if_icmp .eq 127, 3) := dk_159 0 127 (dk_at dksL_law_34 19 rfl rfl)
theorem dL_law_940 : decode cL_law 940 = .ok (.iconst 0, 1) := dk_3 (dk_at dksL_law_34 22 rfl rfl)
theorem dL_law_941 : decode cL_law 941 = .ok (.ireturn, 1) := dk_172 (dk_at dksL_law_34 23 rfl rfl)
theorem dL_law_942 : decode cL_law 942 = .ok (.aload_n 1, 1) := dk_43 (dk_at dksL_law_35 0 rfl rfl)
theorem dL_law_943 : decode cL_law 943 = .ok (.invokevirtual 132, 3) := dk_182 0 132 (dk_at dksL_law_35 1 rfl rfl)
theorem dL_law_946 : decode cL_law 946 = .ok (.aload_n 2, 1) := dk_44 (dk_at dksL_law_35 4 rfl rfl)
theorem dL_law_947 : decode cL_law 947 = .ok (.invokevirtual 136, 3) := dk_182 0 136 (dk_at dksL_law_35 5 rfl rfl)
theorem dL_law_950 : decode cL_law 950 = .ok (.if_icmp .eq 114, 3) := dk_159 0 114 (dk_at dksL_law_35 8 rfl rfl)
theorem dL_law_953 : decode cL_law 953 = .ok (.iconst 0, 1) := dk_3 (dk_at dksL_law_35 11 rfl rfl)
theorem dL_law_954 : decode cL_law 954 = .ok (.ireturn, 1) := dk_172 (dk_at dksL_law_35 12 rfl rfl)
theorem dL_law_955 : decode cL_law 955 = .ok (.aload_n 1, 1) := dk_43 (dk_at dksL_law_35 13 rfl rfl)
theorem dL_law_956 : decode cL_law 956 = .ok (.aload_n 0, 1) := dk_42 (dk_at dksL_law_35 14 rfl rfl)
theorem dL_law_957 : decode cL_law 957 = .ok (.iload_n 3, 1) := dk_29 (dk_at dksL_law_35 15 rfl rfl)
theorem dL_law_958 : decode cL_law 958 = .ok (.iconst 1, 1) := dk_4 (dk_at dksL_law_35 16 rfl rfl)
theorem dL_law_959 : decode cL_law 959 = .ok (.iadd, 1) := dk_96 (dk_at dksL_law_35 17 rfl rfl)
theorem dL_law_960 : decode cL_law 960 = .ok (.iaload, 1) := dk_46 (dk_at dksL_law_35 18 rfl rfl)
theorem dL_law_961 : decode cL_law 961 = .ok (.invokevirtual 137, 3) := dk_182 0 137 (dk_at dksL_law_35 19 rfl rfl)
theorem dL_law_964 : decode cL_law 964 = .ok (.aload_n 2, 1) := dk_44 (dk_at dksL_law_35 22 rfl rfl)
theorem dL_law_965 : decode cL_law 965 = .ok (.aload_n 0, 1) := dk_42 (dk_at dksL_law_35 23 rfl rfl)
theorem dL_law_966 : decode cL_law 966 = .ok (.iload_n 3, 1) := dk_29 (dk_at dksL_law_36 0 rfl rfl)
theorem dL_law_967 : decode cL_law 967 = .ok (.iconst 1, 1) := dk_4 (dk_at dksL_law_36 1 rfl rfl)
theorem dL_law_968 : decode cL_law 968 = .ok (.iadd, 1) := dk_96 (dk_at dksL_law_36 2 rfl rfl)
theorem dL_law_969 : decode cL_law 969 = .ok (.iaload, 1) := dk_46 (dk_at dksL_law_36 3 rfl rfl)
theorem dL_law_970 : decode cL_law 970 = .ok (.invokevirtual 140, 3) := dk_182 0 140 (dk_at dksL_law_36 4 rfl rfl)
theorem dL_law_973 : decode cL_law 973 = .ok (.if_icmp .eq 91, 3) := dk_159 0 91 (dk_at dksL_law_36 7 rfl rfl)
theorem dL_law_976 : decode cL_law 976 = .ok (.iconst 0, 1) := dk_3 (dk_at dksL_law_36 10 rfl rfl)
theorem dL_law_977 : decode cL_law 977 = .ok (.ireturn, 1) := dk_172 (dk_at dksL_law_36 11 rfl rfl)
theorem dL_law_978 : decode cL_law 978 = .ok (.aload_n 1, 1) := dk_43 (dk_at dksL_law_36 12 rfl rfl)
theorem dL_law_979 : decode cL_law 979 = .ok (.invokevirtual 141, 3) := dk_182 0 141 (dk_at dksL_law_36 13 rfl rfl)
theorem dL_law_982 : decode cL_law 982 = .ok (.aload_n 2, 1) := dk_44 (dk_at dksL_law_36 16 rfl rfl)
theorem dL_law_983 : decode cL_law 983 = .ok (.invokevirtual 145, 3) := dk_182 0 145 (dk_at dksL_law_36 17 rfl rfl)
theorem dL_law_986 : decode cL_law 986 = .ok (.lcmp, 1) := dk_148 (dk_at dksL_law_36 20 rfl rfl)
theorem dL_law_987 : decode cL_law 987 = .ok (.ifCond .eq 77, 3) := dk_153 0 77 (dk_at dksL_law_36 21 rfl rfl)
theorem dL_law_990 : decode cL_law 990 = .ok (.iconst 0, 1) := dk_3 (dk_at dksL_law_37 0 rfl rfl)
theorem dL_law_991 : decode cL_law 991 = .ok (.ireturn, 1) := dk_172 (dk_at dksL_law_37 1 rfl rfl)
theorem dL_law_992 : decode cL_law 992 = .ok (.aload_n 1, 1) := dk_43 (dk_at dksL_law_37 2 rfl rfl)
theorem dL_law_993 : decode cL_law 993 = .ok (.invokevirtual 146, 3) := dk_182 0 146 (dk_at dksL_law_37 3 rfl rfl)
theorem dL_law_996 : decode cL_law 996 = .ok (.aload_n 2, 1) := dk_44 (dk_at dksL_law_37 6 rfl rfl)
theorem dL_law_997 : decode cL_law 997 = .ok (.invokevirtual 149, 3) := dk_182 0 149 (dk_at dksL_law_37 7 rfl rfl)
theorem dL_law_1000 : decode cL_law 1000 = .ok (.if_icmp .eq 64, 3) := dk_159 0 64 (dk_at dksL_law_37 10 rfl rfl)
theorem dL_law_1003 : decode cL_law 1003 = .ok (.iconst 0, 1) := dk_3 (dk_at dksL_law_37 13 rfl rfl)
theorem dL_law_1004 : decode cL_law 1004 = .ok (.ireturn, 1) := dk_172 (dk_at dksL_law_37 14 rfl rfl)
theorem dL_law_1005 : decode cL_law 1005 = .ok (.aload_n 1, 1) := dk_43 (dk_at dksL_law_37 15 rfl rfl)
theorem dL_law_1006 : decode cL_law 1006 = .ok (.aload_n 0, 1) := dk_42 (dk_at dksL_law_37 16 rfl rfl)
theorem dL_law_1007 : decode cL_law 1007 = .ok (.iload_n 3, 1) := dk_29 (dk_at dksL_law_37 17 rfl rfl)
theorem dL_law_1008 : decode cL_law 1008 = .ok (.iconst 1, 1) := dk_4 (dk_at dksL_law_37 18 rfl rfl)
theorem dL_law_1009 : decode cL_law 1009 = .ok (.iadd, 1) := dk_96 (dk_at dksL_law_37 19 rfl rfl)
theorem dL_law_1010 : decode cL_law 1010 = .ok (.iaload, 1) := dk_46 (dk_at dksL_law_37 20 rfl rfl)
theorem dL_law_1011 : decode cL_law 1011 = .ok (.invokevirtual 150, 3) := dk_182 0 150 (dk_at dksL_law_37 21 rfl rfl)
theorem dL_law_1014 : decode cL_law 1014 = .ok (.aload_n 2, 1) := dk_44 (dk_at dksL_law_38 0 rfl rfl)
theorem dL_law_1015 : decode cL_law 1015 = .ok (.aload_n 0, 1) := dk_42 (dk_at dksL_law_38 1 rfl rfl)
theorem dL_law_1016 : decode cL_law 1016 = .ok (.iload_n 3, 1) := dk_29 (dk_at dksL_law_38 2 rfl rfl)
theorem dL_law_1017 : decode cL_law 1017 = .ok (.iconst 1, 1) := dk_4 (dk_at dksL_law_38 3 rfl rfl)
theorem dL_law_1018 : decode cL_law 1018 = .ok (.iadd, 1) := dk_96 (dk_at dksL_law_38 4 rfl rfl)
theorem dL_law_1019 : decode cL_law 1019 = .ok (.iaload, 1) := dk_46 (dk_at dksL_law_38 5 rfl rfl)
theorem dL_law_1020 : decode cL_law 1020 = .ok (.invokevirtual 153, 3) := dk_182 0 153 (dk_at dksL_law_38 6 rfl rfl)
theorem dL_law_1023 : decode cL_law 1023 = .ok (.if_icmp .eq 41, 3) := dk_159 0 41 (dk_at dksL_law_38 9 rfl rfl)
theorem dL_law_1026 : decode cL_law 1026 = .ok (.iconst 0, 1) := dk_3 (dk_at dksL_law_38 12 rfl rfl)
theorem dL_law_1027 : decode cL_law 1027 = .ok (.ireturn, 1) := dk_172 (dk_at dksL_law_38 13 rfl rfl)
theorem dL_law_1028 : decode cL_law 1028 = .ok (.aload_n 1, 1) := dk_43 (dk_at dksL_law_38 14 rfl rfl)
theorem dL_law_1029 : decode cL_law 1029 = .ok (.invokevirtual 154, 3) := dk_182 0 154 (dk_at dksL_law_38 15 rfl rfl)
theorem dL_law_1032 : decode cL_law 1032 = .ok (.aload_n 2, 1) := dk_44 (dk_at dksL_law_38 18 rfl rfl)
theorem dL_law_1033 : decode cL_law 1033 = .ok (.invokevirtual 157, 3) := dk_182 0 157 (dk_at dksL_law_38 19 rfl rfl)
theorem dL_law_1036 : decode cL_law 1036 = .ok (.if_icmp .eq 28, 3) := dk_159 0 28 (dk_at dksL_law_39 0 rfl rfl)
theorem dL_law_1039 : decode cL_law 1039 = .ok (.iconst 0, 1) := dk_3 (dk_at dksL_law_39 3 rfl rfl)
theorem dL_law_1040 : decode cL_law 1040 = .ok (.ireturn, 1) := dk_172 (dk_at dksL_law_39 4 rfl rfl)
theorem dL_law_1041 : decode cL_law 1041 = .ok (.aload_n 1, 1) := dk_43 (dk_at dksL_law_39 5 rfl rfl)
theorem dL_law_1042 : decode cL_law 1042 = .ok (.aload_n 0, 1) := dk_42 (dk_at dksL_law_39 6 rfl rfl)
theorem dL_law_1043 : decode cL_law 1043 = .ok (.iload_n 3, 1) := dk_29 (dk_at dksL_law_39 7 rfl rfl)
theorem dL_law_1044 : decode cL_law 1044 = .ok (.iconst 1, 1) := dk_4 (dk_at dksL_law_39 8 rfl rfl)
theorem dL_law_1045 : decode cL_law 1045 = .ok (.iadd, 1) := dk_96 (dk_at dksL_law_39 9 rfl rfl)
theorem dL_law_1046 : decode cL_law 1046 = .ok (.iaload, 1) := dk_46 (dk_at dksL_law_39 10 rfl rfl)
theorem dL_law_1047 : decode cL_law 1047 = .ok (.invokevirtual 158, 3) := dk_182 0 158 (dk_at dksL_law_39 11 rfl rfl)
theorem dL_law_1050 : decode cL_law 1050 = .ok (.aload_n 2, 1) := dk_44 (dk_at dksL_law_39 14 rfl rfl)
theorem dL_law_1051 : decode cL_law 1051 = .ok (.aload_n 0, 1) := dk_42 (dk_at dksL_law_39 15 rfl rfl)
theorem dL_law_1052 : decode cL_law 1052 = .ok (.iload_n 3, 1) := dk_29 (dk_at dksL_law_39 16 rfl rfl)
theorem dL_law_1053 : decode cL_law 1053 = .ok (.iconst 1, 1) := dk_4 (dk_at dksL_law_39 17 rfl rfl)
theorem dL_law_1054 : decode cL_law 1054 = .ok (.iadd, 1) := dk_96 (dk_at dksL_law_39 18 rfl rfl)
theorem dL_law_1055 : decode cL_law 1055 = .ok (.iaload, 1) := dk_46 (dk_at dksL_law_39 19 rfl rfl)
theorem dL_law_1056 : decode cL_law 1056 = .ok (.invokevirtual 161, 3) := dk_182 0 161 (dk_at dksL_law_39 20 rfl rfl)
theorem dL_law_1059 : decode cL_law 1059 = .ok (.if_icmp .eq 5, 3) := dk_159 0 5 (dk_at dksL_law_40 0 rfl rfl)
theorem dL_law_1062 : decode cL_law 1062 = .ok (.iconst 0, 1) := dk_3 (dk_at dksL_law_40 3 rfl rfl)
theorem dL_law_1063 : decode cL_law 1063 = .ok (.ireturn, 1) := dk_172 (dk_at dksL_law_40 4 rfl rfl)
theorem dL_law_1064 : decode cL_law 1064 = .ok (.iinc 3 6, 3) := dk_132 3 6 (dk_at dksL_law_40 5 rfl rfl)
theorem dL_law_1067 : decode cL_law 1067 = .ok (.goto (-1049), 3) := dk_167 251 231 (dk_at dksL_law_40 8 rfl rfl)
theorem dL_law_1070 : decode cL_law 1070 = .ok (.iconst 1, 1) := dk_4 (dk_at dksL_law_40 11 rfl rfl)
theorem dL_law_1071 : decode cL_law 1071 = .ok (.ireturn, 1) := dk_172 (dk_at dksL_law_40 12 rfl rfl)
