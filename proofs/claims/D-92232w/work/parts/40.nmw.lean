theorem q69 : (Jvm.Cond.initialized "VillageHallsLaw") ∈ lw_all := lw_g (lw_at lw_m1 0 rfl) rfl
set_option maxRecDepth 100000
theorem q109 : (Jvm.Cond.classLink "VillageHallsLaw" (7 : Nat) "VillageHalls") ∈ lw_all := lw_g (lw_at lw_m1 40 rfl) rfl
theorem q111 : (Jvm.Cond.methodLink "VillageHallsLaw" (9 : Nat) ({ cls := "VillageHalls", name := "<init>", desc := "()V" } : Jvm.MethodName)) ∈ lw_all := lw_g (lw_at lw_m1 42 rfl) rfl
theorem q260 : (Jvm.Cond.methodLink "VillageHallsLaw" (13 : Nat) ({ cls := "VillageHalls", name := "sheet", desc := "(III)I" } : Jvm.MethodName)) ∈ lw_all := lw_g (lw_at lw_m1 191 rfl) rfl
theorem q366 : (Jvm.Cond.methodLink "VillageHallsLaw" (18 : Nat) ({ cls := "VillageHalls", name := "set", desc := "(III)I" } : Jvm.MethodName)) ∈ lw_all := lw_g (lw_at lw_m2 57 rfl) rfl
theorem q378 : (Jvm.Cond.methodLink "VillageHallsLaw" (22 : Nat) ({ cls := "VillageHalls", name := "copy", desc := "(IIIII)I" } : Jvm.MethodName)) ∈ lw_all := lw_g (lw_at lw_m2 69 rfl) rfl
theorem q419 : (Jvm.Cond.methodLink "VillageHallsLaw" (27 : Nat) ({ cls := "VillageHalls", name := "drop", desc := "(I)I" } : Jvm.MethodName)) ∈ lw_all := lw_g (lw_at lw_m2 110 rfl) rfl
theorem q423 : (Jvm.Cond.methodLink "VillageHallsLaw" (34 : Nat) ({ cls := "VillageHalls", name := "feed", desc := "(JI)I" } : Jvm.MethodName)) ∈ lw_all := lw_g (lw_at lw_m2 114 rfl) rfl
theorem q429 : (Jvm.Cond.methodLink "VillageHallsLaw" (39 : Nat) ({ cls := "VillageHalls", name := "rules", desc := "()I" } : Jvm.MethodName)) ∈ lw_all := lw_g (lw_at lw_m2 120 rfl) rfl
theorem q744 : (Jvm.Cond.methodLink "VillageHallsLaw" (44 : Nat) ({ cls := "VillageHalls", name := "fault", desc := "()I" } : Jvm.MethodName)) ∈ lw_all := lw_g (lw_at lw_m3 195 rfl) rfl
theorem q748 : (Jvm.Cond.methodLink "VillageHallsLaw" (48 : Nat) ({ cls := "VillageHalls", name := "hall", desc := "(II)I" } : Jvm.MethodName)) ∈ lw_all := lw_g (lw_at lw_m3 199 rfl) rfl
theorem q765 : (Jvm.Cond.methodLink "VillageHallsLaw" (53 : Nat) ({ cls := "VillageHalls", name := "book", desc := "(II)I" } : Jvm.MethodName)) ∈ lw_all := lw_g (lw_at lw_m3 216 rfl) rfl
theorem q919 : (Jvm.Cond.methodLink "VillageHallsLaw" (57 : Nat) ({ cls := "VillageHalls", name := "cancel", desc := "(II)I" } : Jvm.MethodName)) ∈ lw_all := lw_g (lw_at lw_m4 130 rfl) rfl
theorem q946 : (Jvm.Cond.methodLink "VillageHallsLaw" (61 : Nat) ({ cls := "VillageHalls", name := "told", desc := "(II)I" } : Jvm.MethodName)) ∈ lw_all := lw_g (lw_at lw_m4 157 rfl) rfl
theorem q954 : (Jvm.Cond.methodLink "VillageHallsLaw" (65 : Nat) ({ cls := "VillageHalls", name := "clash", desc := "(II)I" } : Jvm.MethodName)) ∈ lw_all := lw_g (lw_at lw_m4 165 rfl) rfl
theorem q970 : (Jvm.Cond.methodLink "VillageHallsLaw" (69 : Nat) ({ cls := "VillageHalls", name := "holding", desc := "(II)I" } : Jvm.MethodName)) ∈ lw_all := lw_g (lw_at lw_m4 181 rfl) rfl
theorem q990 : (Jvm.Cond.methodLink "VillageHallsLaw" (73 : Nat) ({ cls := "VillageHalls", name := "most", desc := "(IIII)I" } : Jvm.MethodName)) ∈ lw_all := lw_g (lw_at lw_m4 201 rfl) rfl
theorem q1006 : (Jvm.Cond.methodLink "VillageHallsLaw" (78 : Nat) ({ cls := "VillageHalls", name := "funeral", desc := "(IIIIII)I" } : Jvm.MethodName)) ∈ lw_all := lw_g (lw_at lw_m4 217 rfl) rfl
theorem q1081 : (Jvm.Cond.methodLink "VillageHallsLaw" (83 : Nat) ({ cls := "VillageHalls", name := "coin", desc := "(IIII)I" } : Jvm.MethodName)) ∈ lw_all := lw_g (lw_at lw_m5 52 rfl) rfl
theorem q1221 : (Jvm.Cond.methodLink "VillageHallsLaw" (87 : Nat) ({ cls := "VillageHalls", name := "run", desc := "(III)I" } : Jvm.MethodName)) ∈ lw_all := lw_g (lw_at lw_m5 192 rfl) rfl
theorem q1231 : (Jvm.Cond.methodLink "VillageHallsLaw" (91 : Nat) ({ cls := "VillageHalls", name := "meter", desc := "(IIII)I" } : Jvm.MethodName)) ∈ lw_all := lw_g (lw_at lw_m5 202 rfl) rfl
theorem q1239 : (Jvm.Cond.methodLink "VillageHallsLaw" (95 : Nat) ({ cls := "VillageHalls", name := "give", desc := "(IIII)I" } : Jvm.MethodName)) ∈ lw_all := lw_g (lw_at lw_m5 210 rfl) rfl
theorem q1250 : (Jvm.Cond.methodLink "VillageHallsLaw" (99 : Nat) ({ cls := "VillageHalls", name := "key", desc := "(III)I" } : Jvm.MethodName)) ∈ lw_all := lw_g (lw_at lw_m5 221 rfl) rfl
theorem q1254 : (Jvm.Cond.methodLink "VillageHallsLaw" (103 : Nat) ({ cls := "VillageHalls", name := "look", desc := "(IIII)I" } : Jvm.MethodName)) ∈ lw_all := lw_g (lw_at lw_m5 225 rfl) rfl
theorem q1259 : (Jvm.Cond.methodLink "VillageHallsLaw" (107 : Nat) ({ cls := "VillageHalls", name := "home", desc := "(II)I" } : Jvm.MethodName)) ∈ lw_all := lw_g (lw_at lw_m5 230 rfl) rfl
theorem q1263 : (Jvm.Cond.methodLink "VillageHallsLaw" (111 : Nat) ({ cls := "VillageHalls", name := "meeting", desc := "(IIIII)I" } : Jvm.MethodName)) ∈ lw_all := lw_g (lw_at lw_m5 234 rfl) rfl
theorem q1298 : (Jvm.Cond.methodLink "VillageHallsLaw" (115 : Nat) ({ cls := "VillageHalls", name := "met", desc := "(II)I" } : Jvm.MethodName)) ∈ lw_all := lw_g (lw_at lw_m6 29 rfl) rfl
theorem q1310 : (Jvm.Cond.methodLink "VillageHallsLaw" (119 : Nat) ({ cls := "VillageHalls", name := "day", desc := "(I)I" } : Jvm.MethodName)) ∈ lw_all := lw_g (lw_at lw_m6 41 rfl) rfl
theorem q1314 : (Jvm.Cond.methodLink "VillageHallsLaw" (123 : Nat) ({ cls := "VillageHalls", name := "kind", desc := "(I)I" } : Jvm.MethodName)) ∈ lw_all := lw_g (lw_at lw_m6 45 rfl) rfl
theorem q1388 : (Jvm.Cond.methodLink "VillageHallsLaw" (127 : Nat) ({ cls := "VillageHalls", name := "as", desc := "(II)I" } : Jvm.MethodName)) ∈ lw_all := lw_g (lw_at lw_m6 119 rfl) rfl
theorem q1406 : (Jvm.Cond.methodLink "VillageHallsLaw" (131 : Nat) ({ cls := "VillageHalls", name := "ask", desc := "(II)I" } : Jvm.MethodName)) ∈ lw_all := lw_g (lw_at lw_m6 137 rfl) rfl
theorem q1480 : (Jvm.Cond.methodLink "VillageHallsLaw" (135 : Nat) ({ cls := "VillageHalls", name := "trace", desc := "(I)I" } : Jvm.MethodName)) ∈ lw_all := lw_g (lw_at lw_m6 211 rfl) rfl
theorem q1484 : (Jvm.Cond.methodLink "VillageHallsLaw" (139 : Nat) ({ cls := "VillageHalls", name := "count", desc := "(I)I" } : Jvm.MethodName)) ∈ lw_all := lw_g (lw_at lw_m6 215 rfl) rfl
theorem q1492 : (Jvm.Cond.methodLink "VillageHallsLaw" (143 : Nat) ({ cls := "VillageHalls", name := "status", desc := "()I" } : Jvm.MethodName)) ∈ lw_all := lw_g (lw_at lw_m6 223 rfl) rfl
theorem q1496 : (Jvm.Cond.classLink "VillageHallsLaw" (10 : Nat) "VillageHallsModel") ∈ lw_all := lw_g (lw_at lw_m6 227 rfl) rfl
theorem q1498 : (Jvm.Cond.methodLink "VillageHallsLaw" (12 : Nat) ({ cls := "VillageHallsModel", name := "<init>", desc := "()V" } : Jvm.MethodName)) ∈ lw_all := lw_g (lw_at lw_m6 229 rfl) rfl
theorem q1667 : (Jvm.Cond.methodLink "VillageHallsLaw" (17 : Nat) ({ cls := "VillageHallsModel", name := "sheet", desc := "(III)I" } : Jvm.MethodName)) ∈ lw_all := lw_g (lw_at lw_m7 158 rfl) rfl
theorem q1685 : (Jvm.Cond.methodLink "VillageHallsLaw" (21 : Nat) ({ cls := "VillageHallsModel", name := "set", desc := "(III)I" } : Jvm.MethodName)) ∈ lw_all := lw_g (lw_at lw_m7 176 rfl) rfl
theorem q1689 : (Jvm.Cond.methodLink "VillageHallsLaw" (26 : Nat) ({ cls := "VillageHallsModel", name := "copy", desc := "(IIIII)I" } : Jvm.MethodName)) ∈ lw_all := lw_g (lw_at lw_m7 180 rfl) rfl
theorem q1693 : (Jvm.Cond.methodLink "VillageHallsLaw" (31 : Nat) ({ cls := "VillageHallsModel", name := "drop", desc := "(I)I" } : Jvm.MethodName)) ∈ lw_all := lw_g (lw_at lw_m7 184 rfl) rfl
theorem q1697 : (Jvm.Cond.methodLink "VillageHallsLaw" (38 : Nat) ({ cls := "VillageHallsModel", name := "feed", desc := "(JI)I" } : Jvm.MethodName)) ∈ lw_all := lw_g (lw_at lw_m7 188 rfl) rfl
theorem q1704 : (Jvm.Cond.methodLink "VillageHallsLaw" (43 : Nat) ({ cls := "VillageHallsModel", name := "rules", desc := "()I" } : Jvm.MethodName)) ∈ lw_all := lw_g (lw_at lw_m7 195 rfl) rfl
theorem q1776 : (Jvm.Cond.methodLink "VillageHallsLaw" (47 : Nat) ({ cls := "VillageHallsModel", name := "fault", desc := "()I" } : Jvm.MethodName)) ∈ lw_all := lw_g (lw_at lw_m8 27 rfl) rfl
theorem q1780 : (Jvm.Cond.methodLink "VillageHallsLaw" (52 : Nat) ({ cls := "VillageHallsModel", name := "hall", desc := "(II)I" } : Jvm.MethodName)) ∈ lw_all := lw_g (lw_at lw_m8 31 rfl) rfl
theorem q1794 : (Jvm.Cond.methodLink "VillageHallsLaw" (56 : Nat) ({ cls := "VillageHallsModel", name := "book", desc := "(II)I" } : Jvm.MethodName)) ∈ lw_all := lw_g (lw_at lw_m8 45 rfl) rfl
theorem q1806 : (Jvm.Cond.methodLink "VillageHallsLaw" (60 : Nat) ({ cls := "VillageHallsModel", name := "cancel", desc := "(II)I" } : Jvm.MethodName)) ∈ lw_all := lw_g (lw_at lw_m8 57 rfl) rfl
theorem q1819 : (Jvm.Cond.methodLink "VillageHallsLaw" (64 : Nat) ({ cls := "VillageHallsModel", name := "told", desc := "(II)I" } : Jvm.MethodName)) ∈ lw_all := lw_g (lw_at lw_m8 70 rfl) rfl
theorem q1827 : (Jvm.Cond.methodLink "VillageHallsLaw" (68 : Nat) ({ cls := "VillageHallsModel", name := "clash", desc := "(II)I" } : Jvm.MethodName)) ∈ lw_all := lw_g (lw_at lw_m8 78 rfl) rfl
theorem q1839 : (Jvm.Cond.methodLink "VillageHallsLaw" (72 : Nat) ({ cls := "VillageHallsModel", name := "holding", desc := "(II)I" } : Jvm.MethodName)) ∈ lw_all := lw_g (lw_at lw_m8 90 rfl) rfl
theorem q1863 : (Jvm.Cond.methodLink "VillageHallsLaw" (77 : Nat) ({ cls := "VillageHallsModel", name := "most", desc := "(IIII)I" } : Jvm.MethodName)) ∈ lw_all := lw_g (lw_at lw_m8 114 rfl) rfl
theorem q1867 : (Jvm.Cond.methodLink "VillageHallsLaw" (82 : Nat) ({ cls := "VillageHallsModel", name := "funeral", desc := "(IIIIII)I" } : Jvm.MethodName)) ∈ lw_all := lw_g (lw_at lw_m8 118 rfl) rfl
theorem q1884 : (Jvm.Cond.methodLink "VillageHallsLaw" (86 : Nat) ({ cls := "VillageHallsModel", name := "coin", desc := "(IIII)I" } : Jvm.MethodName)) ∈ lw_all := lw_g (lw_at lw_m8 135 rfl) rfl
theorem q1889 : (Jvm.Cond.methodLink "VillageHallsLaw" (90 : Nat) ({ cls := "VillageHallsModel", name := "run", desc := "(III)I" } : Jvm.MethodName)) ∈ lw_all := lw_g (lw_at lw_m8 140 rfl) rfl
theorem q1900 : (Jvm.Cond.methodLink "VillageHallsLaw" (94 : Nat) ({ cls := "VillageHallsModel", name := "meter", desc := "(IIII)I" } : Jvm.MethodName)) ∈ lw_all := lw_g (lw_at lw_m8 151 rfl) rfl
theorem q1907 : (Jvm.Cond.methodLink "VillageHallsLaw" (98 : Nat) ({ cls := "VillageHallsModel", name := "give", desc := "(IIII)I" } : Jvm.MethodName)) ∈ lw_all := lw_g (lw_at lw_m8 158 rfl) rfl
theorem q1911 : (Jvm.Cond.methodLink "VillageHallsLaw" (102 : Nat) ({ cls := "VillageHallsModel", name := "key", desc := "(III)I" } : Jvm.MethodName)) ∈ lw_all := lw_g (lw_at lw_m8 162 rfl) rfl
theorem q1915 : (Jvm.Cond.methodLink "VillageHallsLaw" (106 : Nat) ({ cls := "VillageHallsModel", name := "look", desc := "(IIII)I" } : Jvm.MethodName)) ∈ lw_all := lw_g (lw_at lw_m8 166 rfl) rfl
theorem q1919 : (Jvm.Cond.methodLink "VillageHallsLaw" (110 : Nat) ({ cls := "VillageHallsModel", name := "home", desc := "(II)I" } : Jvm.MethodName)) ∈ lw_all := lw_g (lw_at lw_m8 170 rfl) rfl
theorem q1923 : (Jvm.Cond.methodLink "VillageHallsLaw" (114 : Nat) ({ cls := "VillageHallsModel", name := "meeting", desc := "(IIIII)I" } : Jvm.MethodName)) ∈ lw_all := lw_g (lw_at lw_m8 174 rfl) rfl
theorem q1928 : (Jvm.Cond.methodLink "VillageHallsLaw" (118 : Nat) ({ cls := "VillageHallsModel", name := "met", desc := "(II)I" } : Jvm.MethodName)) ∈ lw_all := lw_g (lw_at lw_m8 179 rfl) rfl
theorem q1936 : (Jvm.Cond.methodLink "VillageHallsLaw" (122 : Nat) ({ cls := "VillageHallsModel", name := "day", desc := "(I)I" } : Jvm.MethodName)) ∈ lw_all := lw_g (lw_at lw_m8 187 rfl) rfl
theorem q1940 : (Jvm.Cond.methodLink "VillageHallsLaw" (126 : Nat) ({ cls := "VillageHallsModel", name := "kind", desc := "(I)I" } : Jvm.MethodName)) ∈ lw_all := lw_g (lw_at lw_m8 191 rfl) rfl
theorem q1948 : (Jvm.Cond.methodLink "VillageHallsLaw" (130 : Nat) ({ cls := "VillageHallsModel", name := "as", desc := "(II)I" } : Jvm.MethodName)) ∈ lw_all := lw_g (lw_at lw_m8 199 rfl) rfl
theorem q1955 : (Jvm.Cond.methodLink "VillageHallsLaw" (134 : Nat) ({ cls := "VillageHallsModel", name := "ask", desc := "(II)I" } : Jvm.MethodName)) ∈ lw_all := lw_g (lw_at lw_m8 206 rfl) rfl
theorem q1975 : (Jvm.Cond.methodLink "VillageHallsLaw" (138 : Nat) ({ cls := "VillageHallsModel", name := "trace", desc := "(I)I" } : Jvm.MethodName)) ∈ lw_all := lw_g (lw_at lw_m8 226 rfl) rfl
theorem q1979 : (Jvm.Cond.methodLink "VillageHallsLaw" (142 : Nat) ({ cls := "VillageHallsModel", name := "count", desc := "(I)I" } : Jvm.MethodName)) ∈ lw_all := lw_g (lw_at lw_m8 230 rfl) rfl
theorem q1983 : (Jvm.Cond.methodLink "VillageHallsLaw" (146 : Nat) ({ cls := "VillageHallsModel", name := "status", desc := "()I" } : Jvm.MethodName)) ∈ lw_all := lw_g (lw_at lw_m8 234 rfl) rfl
theorem q1987 : (Jvm.Cond.constantLong "VillageHallsLaw" (32 : Nat) (4294967295 : Int64)) ∈ lw_all := lw_g (lw_at lw_m8 238 rfl) rfl

theorem q550 : (Jvm.Cond.sameMethod "[B" "java/lang/Object" "clone" "()Ljava/lang/Object;") ∈ lw_all := lw_g (lw_at lw_m3 1 rfl) rfl
set_option maxRecDepth 100000
theorem q553 : (Jvm.Cond.selects "[B" ({ cls := "[B", name := "clone", desc := "()Ljava/lang/Object;" } : Jvm.MethodName) ({ cls := "java/lang/Object", name := "clone", desc := "()Ljava/lang/Object;" } : Jvm.MethodName)) ∈ lw_all := lw_g (lw_at lw_m3 4 rfl) rfl
theorem q554 : (Jvm.Cond.castable "[B" "java/lang/Cloneable") ∈ lw_tbl := lw_at lw_m3 5 rfl
theorem q2034 : (Jvm.Cond.castable "[B" "java/lang/Object") ∈ lw_tbl := lw_at lw_m9 45 rfl

theorem q2035 : (Jvm.Cond.castable "[I" "java/lang/Object") ∈ lw_tbl := lw_at lw_m9 46 rfl
set_option maxRecDepth 100000

theorem q2036 : (Jvm.Cond.castable "[LVillageHalls$Booking;" "java/lang/Object") ∈ lw_tbl := lw_at lw_m9 47 rfl
set_option maxRecDepth 100000

theorem q2033 : (Jvm.Cond.castable "[LVillageHalls$Hall;" "java/lang/Object") ∈ lw_tbl := lw_at lw_m9 44 rfl
set_option maxRecDepth 100000

theorem q2032 : (Jvm.Cond.castable "[LVillageHalls$Sheet;" "java/lang/Object") ∈ lw_tbl := lw_at lw_m9 43 rfl
set_option maxRecDepth 100000

theorem q2029 : (Jvm.Cond.sameMethod "[Ljava/lang/Object;" "java/lang/Object" "getClass" "()Ljava/lang/Class;") ∈ lw_all := lw_g (lw_at lw_m9 40 rfl) rfl
set_option maxRecDepth 100000
theorem q2030 : (Jvm.Cond.selects "[Ljava/lang/Object;" ({ cls := "java/lang/Object", name := "getClass", desc := "()Ljava/lang/Class;" } : Jvm.MethodName) ({ cls := "java/lang/Object", name := "getClass", desc := "()Ljava/lang/Class;" } : Jvm.MethodName)) ∈ lw_all := lw_g (lw_at lw_m9 41 rfl) rfl
theorem q2037 : (Jvm.Cond.castable "[Ljava/lang/Object;" "java/lang/Object") ∈ lw_tbl := lw_at lw_m9 48 rfl

theorem q2039 : (Jvm.Cond.castable "[Ljava/lang/String;" "java/lang/Object") ∈ lw_tbl := lw_at lw_m9 50 rfl
set_option maxRecDepth 100000

theorem q2038 : (Jvm.Cond.castable "[Z" "java/lang/Object") ∈ lw_tbl := lw_at lw_m9 49 rfl
set_option maxRecDepth 100000

theorem q99 : (Jvm.Cond.initialized "java/lang/Number") ∈ lw_all := lw_g (lw_at lw_m1 30 rfl) rfl
set_option maxRecDepth 100000

theorem q85 : (Jvm.Cond.initialized "java/lang/System") ∈ lw_all := lw_g (lw_at lw_m1 16 rfl) rfl
set_option maxRecDepth 100000
theorem q417 : (Jvm.Cond.static ({ cls := "java/lang/System", name := "arraycopy", desc := "(Ljava/lang/Object;ILjava/lang/Object;II)V" } : Jvm.MethodName)) ∈ lw_all := lw_g (lw_at lw_m2 108 rfl) rfl
theorem q418 : (Jvm.Cond.native ({ cls := "java/lang/System", name := "arraycopy", desc := "(Ljava/lang/Object;ILjava/lang/Object;II)V" } : Jvm.MethodName)) ∈ lw_all := lw_g (lw_at lw_m2 109 rfl) rfl

theorem q771 : (Jvm.Cond.interfaceMethod "java/util/List" "java/util/List" "size" "()I") ∈ lw_tbl := lw_at lw_m3 222 rfl
set_option maxRecDepth 100000
theorem q772 : (Jvm.Cond.declares ({ cls := "java/util/List", name := "size", desc := "()I" } : Jvm.MethodName)) ∈ lw_tbl := lw_at lw_m3 223 rfl
theorem q861 : (Jvm.Cond.interfaceMethod "java/util/List" "java/util/List" "add" "(Ljava/lang/Object;)Z") ∈ lw_tbl := lw_at lw_m4 72 rfl
theorem q862 : (Jvm.Cond.declares ({ cls := "java/util/List", name := "add", desc := "(Ljava/lang/Object;)Z" } : Jvm.MethodName)) ∈ lw_tbl := lw_at lw_m4 73 rfl
theorem q929 : (Jvm.Cond.interfaceMethod "java/util/List" "java/util/List" "get" "(I)Ljava/lang/Object;") ∈ lw_tbl := lw_at lw_m4 140 rfl
theorem q930 : (Jvm.Cond.declares ({ cls := "java/util/List", name := "get", desc := "(I)Ljava/lang/Object;" } : Jvm.MethodName)) ∈ lw_tbl := lw_at lw_m4 141 rfl
theorem q1117 : (Jvm.Cond.interfaceMethod "java/util/List" "java/util/List" "add" "(ILjava/lang/Object;)V") ∈ lw_tbl := lw_at lw_m5 88 rfl
theorem q1118 : (Jvm.Cond.declares ({ cls := "java/util/List", name := "add", desc := "(ILjava/lang/Object;)V" } : Jvm.MethodName)) ∈ lw_tbl := lw_at lw_m5 89 rfl

theorem q118 : (Jvm.Cond.arrayOver (Jvm.ClassFile.FieldType.object "VillageHalls$Sheet")) ∈ lw_tbl := lw_at lw_m1 49 rfl
set_option maxRecDepth 100000
theorem q120 : (Jvm.Cond.arrayOver (Jvm.ClassFile.FieldType.object "VillageHalls$Hall")) ∈ lw_tbl := lw_at lw_m1 51 rfl
theorem q162 : (Jvm.Cond.arrayClass Jvm.ClassFile.FieldType.byte) ∈ lw_all := lw_g (lw_at lw_m1 93 rfl) rfl
theorem q163 : (Jvm.Cond.arrayClass Jvm.ClassFile.FieldType.int) ∈ lw_all := lw_g (lw_at lw_m1 94 rfl) rfl
theorem q165 : (Jvm.Cond.arrayOver (Jvm.ClassFile.FieldType.object "VillageHalls$Booking")) ∈ lw_tbl := lw_at lw_m1 96 rfl
theorem q915 : (Jvm.Cond.arrayOver (Jvm.ClassFile.FieldType.object "java/lang/Object")) ∈ lw_tbl := lw_at lw_m4 126 rfl
theorem q1666 : (Jvm.Cond.arrayClass Jvm.ClassFile.FieldType.boolean) ∈ lw_all := lw_g (lw_at lw_m7 157 rfl) rfl
theorem q2045 : (Jvm.Cond.arrayOver (Jvm.ClassFile.FieldType.object "java/lang/String")) ∈ lw_tbl := lw_at lw_m9 56 rfl
