theorem q128 : (Jvm.Cond.initialized "SkeletonsLaw") ∈ lw_all := lw_g (lw_at lw_m1 0 rfl) rfl
set_option maxRecDepth 100000
theorem q172 : (Jvm.Cond.methodLink "SkeletonsLaw" (86 : Nat) ({ cls := "Skeletons", name := "counted", desc := "(II)J" } : Jvm.MethodName)) ∈ lw_all := lw_g (lw_at lw_m1 44 rfl) rfl
theorem q258 : (Jvm.Cond.classLink "SkeletonsLaw" (7 : Nat) "Skeletons") ∈ lw_all := lw_g (lw_at lw_m1 130 rfl) rfl
theorem q259 : (Jvm.Cond.methodLink "SkeletonsLaw" (9 : Nat) ({ cls := "Skeletons", name := "<init>", desc := "()V" } : Jvm.MethodName)) ∈ lw_all := lw_g (lw_at lw_m1 131 rfl) rfl
theorem q392 : (Jvm.Cond.methodLink "SkeletonsLaw" (49 : Nat) ({ cls := "Skeletons", name := "undo", desc := "()I" } : Jvm.MethodName)) ∈ lw_all := lw_g (lw_at lw_m2 24 rfl) rfl
theorem q421 : (Jvm.Cond.methodLink "SkeletonsLaw" (13 : Nat) ({ cls := "Skeletons", name := "feed", desc := "(IIIII)I" } : Jvm.MethodName)) ∈ lw_all := lw_g (lw_at lw_m2 53 rfl) rfl
theorem q429 : (Jvm.Cond.methodLink "SkeletonsLaw" (18 : Nat) ({ cls := "Skeletons", name := "end", desc := "(I)I" } : Jvm.MethodName)) ∈ lw_all := lw_g (lw_at lw_m2 61 rfl) rfl
theorem q433 : (Jvm.Cond.methodLink "SkeletonsLaw" (23 : Nat) ({ cls := "Skeletons", name := "tell", desc := "(I)I" } : Jvm.MethodName)) ∈ lw_all := lw_g (lw_at lw_m2 65 rfl) rfl
theorem q731 : (Jvm.Cond.methodLink "SkeletonsLaw" (27 : Nat) ({ cls := "Skeletons", name := "take", desc := "(II)I" } : Jvm.MethodName)) ∈ lw_all := lw_g (lw_at lw_m3 123 rfl) rfl
theorem q1561 : (Jvm.Cond.methodLink "SkeletonsLaw" (32 : Nat) ({ cls := "Skeletons", name := "grow", desc := "(I)I" } : Jvm.MethodName)) ∈ lw_all := lw_g (lw_at lw_m6 233 rfl) rfl
theorem q1579 : (Jvm.Cond.methodLink "SkeletonsLaw" (36 : Nat) ({ cls := "Skeletons", name := "prune", desc := "(I)I" } : Jvm.MethodName)) ∈ lw_all := lw_g (lw_at lw_m7 11 rfl) rfl
theorem q1587 : (Jvm.Cond.methodLink "SkeletonsLaw" (40 : Nat) ({ cls := "Skeletons", name := "bind", desc := "(III)I" } : Jvm.MethodName)) ∈ lw_all := lw_g (lw_at lw_m7 19 rfl) rfl
theorem q1592 : (Jvm.Cond.methodLink "SkeletonsLaw" (45 : Nat) ({ cls := "Skeletons", name := "split", desc := "(II)I" } : Jvm.MethodName)) ∈ lw_all := lw_g (lw_at lw_m7 24 rfl) rfl
theorem q1609 : (Jvm.Cond.methodLink "SkeletonsLaw" (54 : Nat) ({ cls := "Skeletons", name := "keep", desc := "(I)I" } : Jvm.MethodName)) ∈ lw_all := lw_g (lw_at lw_m7 41 rfl) rfl
theorem q1613 : (Jvm.Cond.methodLink "SkeletonsLaw" (58 : Nat) ({ cls := "Skeletons", name := "like", desc := "(I)I" } : Jvm.MethodName)) ∈ lw_all := lw_g (lw_at lw_m7 45 rfl) rfl
theorem q1657 : (Jvm.Cond.methodLink "SkeletonsLaw" (62 : Nat) ({ cls := "Skeletons", name := "neighbour", desc := "(II)I" } : Jvm.MethodName)) ∈ lw_all := lw_g (lw_at lw_m7 89 rfl) rfl
theorem q1661 : (Jvm.Cond.methodLink "SkeletonsLaw" (66 : Nat) ({ cls := "Skeletons", name := "apart", desc := "(II)I" } : Jvm.MethodName)) ∈ lw_all := lw_g (lw_at lw_m7 93 rfl) rfl
theorem q1673 : (Jvm.Cond.methodLink "SkeletonsLaw" (70 : Nat) ({ cls := "Skeletons", name := "centroid", desc := "(I)I" } : Jvm.MethodName)) ∈ lw_all := lw_g (lw_at lw_m7 105 rfl) rfl
theorem q1678 : (Jvm.Cond.methodLink "SkeletonsLaw" (74 : Nat) ({ cls := "Skeletons", name := "code", desc := "(I)I" } : Jvm.MethodName)) ∈ lw_all := lw_g (lw_at lw_m7 110 rfl) rfl
theorem q1682 : (Jvm.Cond.methodLink "SkeletonsLaw" (78 : Nat) ({ cls := "Skeletons", name := "rank", desc := "()I" } : Jvm.MethodName)) ∈ lw_all := lw_g (lw_at lw_m7 114 rfl) rfl
theorem q1686 : (Jvm.Cond.methodLink "SkeletonsLaw" (82 : Nat) ({ cls := "Skeletons", name := "listed", desc := "(III)I" } : Jvm.MethodName)) ∈ lw_all := lw_g (lw_at lw_m7 118 rfl) rfl
theorem q1690 : (Jvm.Cond.methodLink "SkeletonsLaw" (91 : Nat) ({ cls := "Skeletons", name := "such", desc := "(III)I" } : Jvm.MethodName)) ∈ lw_all := lw_g (lw_at lw_m7 122 rfl) rfl
theorem q1736 : (Jvm.Cond.methodLink "SkeletonsLaw" (95 : Nat) ({ cls := "Skeletons", name := "about", desc := "(II)I" } : Jvm.MethodName)) ∈ lw_all := lw_g (lw_at lw_m7 168 rfl) rfl
theorem q1743 : (Jvm.Cond.methodLink "SkeletonsLaw" (99 : Nat) ({ cls := "Skeletons", name := "branch", desc := "(III)J" } : Jvm.MethodName)) ∈ lw_all := lw_g (lw_at lw_m7 175 rfl) rfl
theorem q1748 : (Jvm.Cond.methodLink "SkeletonsLaw" (104 : Nat) ({ cls := "Skeletons", name := "greater", desc := "(III)I" } : Jvm.MethodName)) ∈ lw_all := lw_g (lw_at lw_m7 180 rfl) rfl
theorem q1755 : (Jvm.Cond.methodLink "SkeletonsLaw" (108 : Nat) ({ cls := "Skeletons", name := "forms", desc := "(I)J" } : Jvm.MethodName)) ∈ lw_all := lw_g (lw_at lw_m7 187 rfl) rfl
theorem q1829 : (Jvm.Cond.methodLink "SkeletonsLaw" (113 : Nat) ({ cls := "Skeletons", name := "symmetry", desc := "()J" } : Jvm.MethodName)) ∈ lw_all := lw_g (lw_at lw_m8 21 rfl) rfl
theorem q1847 : (Jvm.Cond.methodLink "SkeletonsLaw" (118 : Nat) ({ cls := "Skeletons", name := "marked", desc := "(I)I" } : Jvm.MethodName)) ∈ lw_all := lw_g (lw_at lw_m8 39 rfl) rfl
theorem q1885 : (Jvm.Cond.methodLink "SkeletonsLaw" (122 : Nat) ({ cls := "Skeletons", name := "name", desc := "(I)I" } : Jvm.MethodName)) ∈ lw_all := lw_g (lw_at lw_m8 77 rfl) rfl
theorem q2045 : (Jvm.Cond.methodLink "SkeletonsLaw" (126 : Nat) ({ cls := "Skeletons", name := "count", desc := "(I)I" } : Jvm.MethodName)) ∈ lw_all := lw_g (lw_at lw_m8 237 rfl) rfl
theorem q2057 : (Jvm.Cond.classLink "SkeletonsLaw" (10 : Nat) "SkeletonsModel") ∈ lw_all := lw_g (lw_at lw_m9 9 rfl) rfl
theorem q2059 : (Jvm.Cond.methodLink "SkeletonsLaw" (12 : Nat) ({ cls := "SkeletonsModel", name := "<init>", desc := "()V" } : Jvm.MethodName)) ∈ lw_all := lw_g (lw_at lw_m9 11 rfl) rfl
theorem q2245 : (Jvm.Cond.methodLink "SkeletonsLaw" (53 : Nat) ({ cls := "SkeletonsModel", name := "undo", desc := "()I" } : Jvm.MethodName)) ∈ lw_all := lw_g (lw_at lw_m9 197 rfl) rfl
theorem q2249 : (Jvm.Cond.methodLink "SkeletonsLaw" (57 : Nat) ({ cls := "SkeletonsModel", name := "keep", desc := "(I)I" } : Jvm.MethodName)) ∈ lw_all := lw_g (lw_at lw_m9 201 rfl) rfl
theorem q2257 : (Jvm.Cond.methodLink "SkeletonsLaw" (35 : Nat) ({ cls := "SkeletonsModel", name := "grow", desc := "(I)I" } : Jvm.MethodName)) ∈ lw_all := lw_g (lw_at lw_m9 209 rfl) rfl
theorem q2280 : (Jvm.Cond.methodLink "SkeletonsLaw" (39 : Nat) ({ cls := "SkeletonsModel", name := "prune", desc := "(I)I" } : Jvm.MethodName)) ∈ lw_all := lw_g (lw_at lw_m9 232 rfl) rfl
theorem q2291 : (Jvm.Cond.methodLink "SkeletonsLaw" (44 : Nat) ({ cls := "SkeletonsModel", name := "bind", desc := "(III)I" } : Jvm.MethodName)) ∈ lw_all := lw_g (lw_at lw_m10 3 rfl) rfl
theorem q2295 : (Jvm.Cond.methodLink "SkeletonsLaw" (48 : Nat) ({ cls := "SkeletonsModel", name := "split", desc := "(II)I" } : Jvm.MethodName)) ∈ lw_all := lw_g (lw_at lw_m10 7 rfl) rfl
theorem q2306 : (Jvm.Cond.methodLink "SkeletonsLaw" (17 : Nat) ({ cls := "SkeletonsModel", name := "feed", desc := "(IIIII)I" } : Jvm.MethodName)) ∈ lw_all := lw_g (lw_at lw_m10 18 rfl) rfl
theorem q2310 : (Jvm.Cond.methodLink "SkeletonsLaw" (22 : Nat) ({ cls := "SkeletonsModel", name := "end", desc := "(I)I" } : Jvm.MethodName)) ∈ lw_all := lw_g (lw_at lw_m10 22 rfl) rfl
theorem q2314 : (Jvm.Cond.methodLink "SkeletonsLaw" (26 : Nat) ({ cls := "SkeletonsModel", name := "tell", desc := "(I)I" } : Jvm.MethodName)) ∈ lw_all := lw_g (lw_at lw_m10 26 rfl) rfl
theorem q2377 : (Jvm.Cond.methodLink "SkeletonsLaw" (31 : Nat) ({ cls := "SkeletonsModel", name := "take", desc := "(II)I" } : Jvm.MethodName)) ∈ lw_all := lw_g (lw_at lw_m10 89 rfl) rfl
theorem q2511 : (Jvm.Cond.methodLink "SkeletonsLaw" (85 : Nat) ({ cls := "SkeletonsModel", name := "listed", desc := "(III)I" } : Jvm.MethodName)) ∈ lw_all := lw_g (lw_at lw_m10 223 rfl) rfl
theorem q2515 : (Jvm.Cond.methodLink "SkeletonsLaw" (81 : Nat) ({ cls := "SkeletonsModel", name := "rank", desc := "()I" } : Jvm.MethodName)) ∈ lw_all := lw_g (lw_at lw_m10 227 rfl) rfl
theorem q2527 : (Jvm.Cond.methodLink "SkeletonsLaw" (77 : Nat) ({ cls := "SkeletonsModel", name := "code", desc := "(I)I" } : Jvm.MethodName)) ∈ lw_all := lw_g (lw_at lw_m10 239 rfl) rfl
theorem q2531 : (Jvm.Cond.methodLink "SkeletonsLaw" (61 : Nat) ({ cls := "SkeletonsModel", name := "like", desc := "(I)I" } : Jvm.MethodName)) ∈ lw_all := lw_g (lw_at lw_m11 3 rfl) rfl
theorem q2535 : (Jvm.Cond.methodLink "SkeletonsLaw" (73 : Nat) ({ cls := "SkeletonsModel", name := "centroid", desc := "(I)I" } : Jvm.MethodName)) ∈ lw_all := lw_g (lw_at lw_m11 7 rfl) rfl
theorem q2539 : (Jvm.Cond.methodLink "SkeletonsLaw" (90 : Nat) ({ cls := "SkeletonsModel", name := "counted", desc := "(II)J" } : Jvm.MethodName)) ∈ lw_all := lw_g (lw_at lw_m11 11 rfl) rfl
theorem q2591 : (Jvm.Cond.methodLink "SkeletonsLaw" (94 : Nat) ({ cls := "SkeletonsModel", name := "such", desc := "(III)I" } : Jvm.MethodName)) ∈ lw_all := lw_g (lw_at lw_m11 63 rfl) rfl
theorem q2631 : (Jvm.Cond.methodLink "SkeletonsLaw" (98 : Nat) ({ cls := "SkeletonsModel", name := "about", desc := "(II)I" } : Jvm.MethodName)) ∈ lw_all := lw_g (lw_at lw_m11 103 rfl) rfl
theorem q2639 : (Jvm.Cond.methodLink "SkeletonsLaw" (65 : Nat) ({ cls := "SkeletonsModel", name := "neighbour", desc := "(II)I" } : Jvm.MethodName)) ∈ lw_all := lw_g (lw_at lw_m11 111 rfl) rfl
theorem q2643 : (Jvm.Cond.methodLink "SkeletonsLaw" (69 : Nat) ({ cls := "SkeletonsModel", name := "apart", desc := "(II)I" } : Jvm.MethodName)) ∈ lw_all := lw_g (lw_at lw_m11 115 rfl) rfl
theorem q2647 : (Jvm.Cond.methodLink "SkeletonsLaw" (103 : Nat) ({ cls := "SkeletonsModel", name := "branch", desc := "(III)J" } : Jvm.MethodName)) ∈ lw_all := lw_g (lw_at lw_m11 119 rfl) rfl
theorem q2655 : (Jvm.Cond.methodLink "SkeletonsLaw" (107 : Nat) ({ cls := "SkeletonsModel", name := "greater", desc := "(III)I" } : Jvm.MethodName)) ∈ lw_all := lw_g (lw_at lw_m11 127 rfl) rfl
theorem q2659 : (Jvm.Cond.methodLink "SkeletonsLaw" (112 : Nat) ({ cls := "SkeletonsModel", name := "forms", desc := "(I)J" } : Jvm.MethodName)) ∈ lw_all := lw_g (lw_at lw_m11 131 rfl) rfl
theorem q2683 : (Jvm.Cond.methodLink "SkeletonsLaw" (117 : Nat) ({ cls := "SkeletonsModel", name := "symmetry", desc := "()J" } : Jvm.MethodName)) ∈ lw_all := lw_g (lw_at lw_m11 155 rfl) rfl
theorem q2687 : (Jvm.Cond.methodLink "SkeletonsLaw" (121 : Nat) ({ cls := "SkeletonsModel", name := "marked", desc := "(I)I" } : Jvm.MethodName)) ∈ lw_all := lw_g (lw_at lw_m11 159 rfl) rfl
theorem q2691 : (Jvm.Cond.methodLink "SkeletonsLaw" (125 : Nat) ({ cls := "SkeletonsModel", name := "name", desc := "(I)I" } : Jvm.MethodName)) ∈ lw_all := lw_g (lw_at lw_m11 163 rfl) rfl
theorem q2735 : (Jvm.Cond.methodLink "SkeletonsLaw" (129 : Nat) ({ cls := "SkeletonsModel", name := "count", desc := "(I)I" } : Jvm.MethodName)) ∈ lw_all := lw_g (lw_at lw_m11 207 rfl) rfl
theorem q1036 : (Jvm.Cond.sameMethod "[B" "java/lang/Object" "clone" "()Ljava/lang/Object;") ∈ lw_all := lw_g (lw_at lw_m4 188 rfl) rfl
set_option maxRecDepth 100000
theorem q1037 : (Jvm.Cond.selects "[B" ({ cls := "[B", name := "clone", desc := "()Ljava/lang/Object;" } : Jvm.MethodName) ({ cls := "java/lang/Object", name := "clone", desc := "()Ljava/lang/Object;" } : Jvm.MethodName)) ∈ lw_all := lw_g (lw_at lw_m4 189 rfl) rfl
theorem q1038 : (Jvm.Cond.castable "[B" "java/lang/Cloneable") ∈ lw_tbl := lw_at lw_m4 190 rfl
theorem q2815 : (Jvm.Cond.castable "[B" "java/lang/Object") ∈ lw_tbl := lw_at lw_m12 47 rfl
theorem q2809 : (Jvm.Cond.castable "[I" "java/lang/Object") ∈ lw_tbl := lw_at lw_m12 41 rfl
set_option maxRecDepth 100000
theorem q1869 : (Jvm.Cond.sameMethod "[J" "java/lang/Object" "clone" "()Ljava/lang/Object;") ∈ lw_all := lw_g (lw_at lw_m8 61 rfl) rfl
set_option maxRecDepth 100000
theorem q1870 : (Jvm.Cond.selects "[J" ({ cls := "[J", name := "clone", desc := "()Ljava/lang/Object;" } : Jvm.MethodName) ({ cls := "java/lang/Object", name := "clone", desc := "()Ljava/lang/Object;" } : Jvm.MethodName)) ∈ lw_all := lw_g (lw_at lw_m8 62 rfl) rfl
theorem q1871 : (Jvm.Cond.castable "[J" "java/lang/Cloneable") ∈ lw_tbl := lw_at lw_m8 63 rfl
theorem q2812 : (Jvm.Cond.castable "[J" "java/lang/Object") ∈ lw_tbl := lw_at lw_m12 44 rfl
theorem q2817 : (Jvm.Cond.castable "[LSkeletons$Branch;" "java/lang/Object") ∈ lw_tbl := lw_at lw_m12 49 rfl
set_option maxRecDepth 100000
theorem q2813 : (Jvm.Cond.castable "[LSkeletons$Skeleton;" "java/lang/Object") ∈ lw_tbl := lw_at lw_m12 45 rfl
set_option maxRecDepth 100000
theorem q332 : (Jvm.Cond.sameMethod "[LSkeletons$Such;" "java/lang/Object" "clone" "()Ljava/lang/Object;") ∈ lw_all := lw_g (lw_at lw_m1 204 rfl) rfl
set_option maxRecDepth 100000
theorem q335 : (Jvm.Cond.selects "[LSkeletons$Such;" ({ cls := "[LSkeletons$Such;", name := "clone", desc := "()Ljava/lang/Object;" } : Jvm.MethodName) ({ cls := "java/lang/Object", name := "clone", desc := "()Ljava/lang/Object;" } : Jvm.MethodName)) ∈ lw_all := lw_g (lw_at lw_m1 207 rfl) rfl
theorem q336 : (Jvm.Cond.castable "[LSkeletons$Such;" "java/lang/Cloneable") ∈ lw_tbl := lw_at lw_m1 208 rfl
theorem q2814 : (Jvm.Cond.castable "[LSkeletons$Such;" "java/lang/Object") ∈ lw_tbl := lw_at lw_m12 46 rfl
theorem q2804 : (Jvm.Cond.sameMethod "[Ljava/lang/Object;" "java/lang/Object" "getClass" "()Ljava/lang/Class;") ∈ lw_all := lw_g (lw_at lw_m12 36 rfl) rfl
set_option maxRecDepth 100000
theorem q2805 : (Jvm.Cond.selects "[Ljava/lang/Object;" ({ cls := "java/lang/Object", name := "getClass", desc := "()Ljava/lang/Class;" } : Jvm.MethodName) ({ cls := "java/lang/Object", name := "getClass", desc := "()Ljava/lang/Class;" } : Jvm.MethodName)) ∈ lw_all := lw_g (lw_at lw_m12 37 rfl) rfl
theorem q2816 : (Jvm.Cond.castable "[Ljava/lang/Object;" "java/lang/Object") ∈ lw_tbl := lw_at lw_m12 48 rfl
theorem q2818 : (Jvm.Cond.castable "[Ljava/lang/String;" "java/lang/Object") ∈ lw_tbl := lw_at lw_m12 50 rfl
set_option maxRecDepth 100000
theorem q2819 : (Jvm.Cond.castable "[Z" "java/lang/Object") ∈ lw_tbl := lw_at lw_m12 51 rfl
set_option maxRecDepth 100000
theorem q2811 : (Jvm.Cond.castable "[[I" "java/lang/Object") ∈ lw_tbl := lw_at lw_m12 43 rfl
set_option maxRecDepth 100000
theorem q2808 : (Jvm.Cond.castable "[[J" "java/lang/Object") ∈ lw_tbl := lw_at lw_m12 40 rfl
set_option maxRecDepth 100000
theorem q2810 : (Jvm.Cond.castable "[[[I" "java/lang/Object") ∈ lw_tbl := lw_at lw_m12 42 rfl
set_option maxRecDepth 100000
theorem q1171 : (Jvm.Cond.interfaceMethod "java/lang/Comparable" "java/lang/Comparable" "compareTo" "(Ljava/lang/Object;)I") ∈ lw_tbl := lw_at lw_m5 83 rfl
set_option maxRecDepth 100000
theorem q1172 : (Jvm.Cond.declares ({ cls := "java/lang/Comparable", name := "compareTo", desc := "(Ljava/lang/Object;)I" } : Jvm.MethodName)) ∈ lw_tbl := lw_at lw_m5 84 rfl
theorem q150 : (Jvm.Cond.initialized "java/lang/Number") ∈ lw_all := lw_g (lw_at lw_m1 22 rfl) rfl
set_option maxRecDepth 100000
theorem q146 : (Jvm.Cond.initialized "java/lang/System") ∈ lw_all := lw_g (lw_at lw_m1 18 rfl) rfl
set_option maxRecDepth 100000
theorem q415 : (Jvm.Cond.static ({ cls := "java/lang/System", name := "arraycopy", desc := "(Ljava/lang/Object;ILjava/lang/Object;II)V" } : Jvm.MethodName)) ∈ lw_all := lw_g (lw_at lw_m2 47 rfl) rfl
theorem q416 : (Jvm.Cond.native ({ cls := "java/lang/System", name := "arraycopy", desc := "(Ljava/lang/Object;ILjava/lang/Object;II)V" } : Jvm.MethodName)) ∈ lw_all := lw_g (lw_at lw_m2 48 rfl) rfl
theorem q1516 : (Jvm.Cond.interfaceMethod "java/util/Collection" "java/util/Collection" "iterator" "()Ljava/util/Iterator;") ∈ lw_tbl := lw_at lw_m6 188 rfl
set_option maxRecDepth 100000
theorem q1517 : (Jvm.Cond.declares ({ cls := "java/util/Collection", name := "iterator", desc := "()Ljava/util/Iterator;" } : Jvm.MethodName)) ∈ lw_tbl := lw_at lw_m6 189 rfl
theorem q1416 : (Jvm.Cond.interfaceMethod "java/util/Comparator" "java/util/Comparator" "compare" "(Ljava/lang/Object;Ljava/lang/Object;)I") ∈ lw_tbl := lw_at lw_m6 88 rfl
set_option maxRecDepth 100000
theorem q1417 : (Jvm.Cond.declares ({ cls := "java/util/Comparator", name := "compare", desc := "(Ljava/lang/Object;Ljava/lang/Object;)I" } : Jvm.MethodName)) ∈ lw_tbl := lw_at lw_m6 89 rfl
theorem q858 : (Jvm.Cond.interfaceMethod "java/util/Iterator" "java/util/Iterator" "hasNext" "()Z") ∈ lw_tbl := lw_at lw_m4 10 rfl
set_option maxRecDepth 100000
theorem q859 : (Jvm.Cond.declares ({ cls := "java/util/Iterator", name := "hasNext", desc := "()Z" } : Jvm.MethodName)) ∈ lw_tbl := lw_at lw_m4 11 rfl
theorem q874 : (Jvm.Cond.interfaceMethod "java/util/Iterator" "java/util/Iterator" "next" "()Ljava/lang/Object;") ∈ lw_tbl := lw_at lw_m4 26 rfl
theorem q875 : (Jvm.Cond.declares ({ cls := "java/util/Iterator", name := "next", desc := "()Ljava/lang/Object;" } : Jvm.MethodName)) ∈ lw_tbl := lw_at lw_m4 27 rfl
theorem q163 : (Jvm.Cond.initialized "jdk/internal/misc/UnsafeConstants") ∈ lw_all := lw_g (lw_at lw_m1 35 rfl) rfl
set_option maxRecDepth 100000
theorem q1290 : (Jvm.Cond.laysStatic "jdk/internal/misc/UnsafeConstants" "BIG_ENDIAN" "Z") ∈ lw_tbl := lw_at lw_m5 202 rfl
theorem q188 : (Jvm.Cond.arrayOver (Jvm.ClassFile.FieldType.array Jvm.ClassFile.FieldType.long)) ∈ lw_tbl := lw_at lw_m1 60 rfl
set_option maxRecDepth 100000
theorem q257 : (Jvm.Cond.arrayClass Jvm.ClassFile.FieldType.int) ∈ lw_all := lw_g (lw_at lw_m1 129 rfl) rfl
theorem q295 : (Jvm.Cond.arrayOver (Jvm.ClassFile.FieldType.array (Jvm.ClassFile.FieldType.array Jvm.ClassFile.FieldType.int))) ∈ lw_tbl := lw_at lw_m1 167 rfl
theorem q296 : (Jvm.Cond.arrayOver (Jvm.ClassFile.FieldType.array Jvm.ClassFile.FieldType.int)) ∈ lw_tbl := lw_at lw_m1 168 rfl
theorem q320 : (Jvm.Cond.arrayClass Jvm.ClassFile.FieldType.long) ∈ lw_all := lw_g (lw_at lw_m1 192 rfl) rfl
theorem q325 : (Jvm.Cond.arrayOver (Jvm.ClassFile.FieldType.object "Skeletons$Skeleton")) ∈ lw_tbl := lw_at lw_m1 197 rfl
theorem q337 : (Jvm.Cond.arrayOver (Jvm.ClassFile.FieldType.object "Skeletons$Such")) ∈ lw_tbl := lw_at lw_m1 209 rfl
theorem q391 : (Jvm.Cond.arrayClass Jvm.ClassFile.FieldType.byte) ∈ lw_all := lw_g (lw_at lw_m2 23 rfl) rfl
theorem q725 : (Jvm.Cond.arrayOver (Jvm.ClassFile.FieldType.object "java/lang/Object")) ∈ lw_tbl := lw_at lw_m3 117 rfl
theorem q745 : (Jvm.Cond.arrayOver (Jvm.ClassFile.FieldType.object "Skeletons$Branch")) ∈ lw_tbl := lw_at lw_m3 137 rfl
theorem q1936 : (Jvm.Cond.arrayOver (Jvm.ClassFile.FieldType.object "java/lang/String")) ∈ lw_tbl := lw_at lw_m8 128 rfl
theorem q2244 : (Jvm.Cond.arrayClass Jvm.ClassFile.FieldType.boolean) ∈ lw_all := lw_g (lw_at lw_m9 196 rfl) rfl
