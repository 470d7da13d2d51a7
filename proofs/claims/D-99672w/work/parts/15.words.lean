theorem q150 : (Jvm.Cond.initialized "GingerRentsLaw") ∈ lw_all := lw_g (lw_at lw_m1 0 rfl) rfl
set_option maxRecDepth 100000
theorem q186 : (Jvm.Cond.classLink "GingerRentsLaw" (7 : Nat) "GingerRents") ∈ lw_all := lw_g (lw_at lw_m1 36 rfl) rfl
theorem q188 : (Jvm.Cond.methodLink "GingerRentsLaw" (9 : Nat) ({ cls := "GingerRents", name := "<init>", desc := "()V" } : Jvm.MethodName)) ∈ lw_all := lw_g (lw_at lw_m1 38 rfl) rfl
theorem q466 : (Jvm.Cond.methodLink "GingerRentsLaw" (36 : Nat) ({ cls := "GingerRents", name := "feed", desc := "(IIIII)I" } : Jvm.MethodName)) ∈ lw_all := lw_g (lw_at lw_m2 76 rfl) rfl
theorem q474 : (Jvm.Cond.methodLink "GingerRentsLaw" (41 : Nat) ({ cls := "GingerRents", name := "end", desc := "(I)Z" } : Jvm.MethodName)) ∈ lw_all := lw_g (lw_at lw_m2 84 rfl) rfl
theorem q481 : (Jvm.Cond.methodLink "GingerRentsLaw" (46 : Nat) ({ cls := "GingerRents", name := "text", desc := "(I)I" } : Jvm.MethodName)) ∈ lw_all := lw_g (lw_at lw_m2 91 rfl) rfl
theorem q980 : (Jvm.Cond.methodLink "GingerRentsLaw" (50 : Nat) ({ cls := "GingerRents", name := "fault", desc := "(I)I" } : Jvm.MethodName)) ∈ lw_all := lw_g (lw_at lw_m4 110 rfl) rfl
theorem q984 : (Jvm.Cond.methodLink "GingerRentsLaw" (164 : Nat) ({ cls := "GingerRents", name := "undo", desc := "()Z" } : Jvm.MethodName)) ∈ lw_all := lw_g (lw_at lw_m4 114 rfl) rfl
theorem q996 : (Jvm.Cond.methodLink "GingerRentsLaw" (13 : Nat) ({ cls := "GingerRents", name := "state", desc := "(I)I" } : Jvm.MethodName)) ∈ lw_all := lw_g (lw_at lw_m4 126 rfl) rfl
theorem q1000 : (Jvm.Cond.methodLink "GingerRentsLaw" (18 : Nat) ({ cls := "GingerRents", name := "house", desc := "(III)I" } : Jvm.MethodName)) ∈ lw_all := lw_g (lw_at lw_m4 130 rfl) rfl
theorem q1012 : (Jvm.Cond.methodLink "GingerRentsLaw" (23 : Nat) ({ cls := "GingerRents", name := "set", desc := "(III)Z" } : Jvm.MethodName)) ∈ lw_all := lw_g (lw_at lw_m4 142 rfl) rfl
theorem q1024 : (Jvm.Cond.methodLink "GingerRentsLaw" (28 : Nat) ({ cls := "GingerRents", name := "act", desc := "(III)Z" } : Jvm.MethodName)) ∈ lw_all := lw_g (lw_at lw_m4 154 rfl) rfl
theorem q1095 : (Jvm.Cond.methodLink "GingerRentsLaw" (32 : Nat) ({ cls := "GingerRents", name := "quarters", desc := "(I)I" } : Jvm.MethodName)) ∈ lw_all := lw_g (lw_at lw_m4 225 rfl) rfl
theorem q1254 : (Jvm.Cond.methodLink "GingerRentsLaw" (54 : Nat) ({ cls := "GingerRents", name := "of", desc := "(II)I" } : Jvm.MethodName)) ∈ lw_all := lw_g (lw_at lw_m5 144 rfl) rfl
theorem q1261 : (Jvm.Cond.methodLink "GingerRentsLaw" (59 : Nat) ({ cls := "GingerRents", name := "book", desc := "(II)I" } : Jvm.MethodName)) ∈ lw_all := lw_g (lw_at lw_m5 151 rfl) rfl
theorem q1265 : (Jvm.Cond.methodLink "GingerRentsLaw" (63 : Nat) ({ cls := "GingerRents", name := "goes", desc := "(II)I" } : Jvm.MethodName)) ∈ lw_all := lw_g (lw_at lw_m5 155 rfl) rfl
theorem q1276 : (Jvm.Cond.methodLink "GingerRentsLaw" (67 : Nat) ({ cls := "GingerRents", name := "stands", desc := "(I)I" } : Jvm.MethodName)) ∈ lw_all := lw_g (lw_at lw_m5 166 rfl) rfl
theorem q1280 : (Jvm.Cond.methodLink "GingerRentsLaw" (71 : Nat) ({ cls := "GingerRents", name := "hears", desc := "(II)I" } : Jvm.MethodName)) ∈ lw_all := lw_g (lw_at lw_m5 170 rfl) rfl
theorem q1298 : (Jvm.Cond.methodLink "GingerRentsLaw" (79 : Nat) ({ cls := "GingerRents", name := "ants", desc := "(II)I" } : Jvm.MethodName)) ∈ lw_all := lw_g (lw_at lw_m5 188 rfl) rfl
theorem q1302 : (Jvm.Cond.methodLink "GingerRentsLaw" (75 : Nat) ({ cls := "GingerRents", name := "heard", desc := "(II)I" } : Jvm.MethodName)) ∈ lw_all := lw_g (lw_at lw_m5 192 rfl) rfl
theorem q1306 : (Jvm.Cond.methodLink "GingerRentsLaw" (83 : Nat) ({ cls := "GingerRents", name := "piece", desc := "(I)I" } : Jvm.MethodName)) ∈ lw_all := lw_g (lw_at lw_m5 196 rfl) rfl
theorem q1318 : (Jvm.Cond.methodLink "GingerRentsLaw" (87 : Nat) ({ cls := "GingerRents", name := "plate", desc := "(II)I" } : Jvm.MethodName)) ∈ lw_all := lw_g (lw_at lw_m5 208 rfl) rfl
theorem q1334 : (Jvm.Cond.methodLink "GingerRentsLaw" (91 : Nat) ({ cls := "GingerRents", name := "dough", desc := "(I)I" } : Jvm.MethodName)) ∈ lw_all := lw_g (lw_at lw_m5 224 rfl) rfl
theorem q1338 : (Jvm.Cond.methodLink "GingerRentsLaw" (95 : Nat) ({ cls := "GingerRents", name := "pans", desc := "(II)I" } : Jvm.MethodName)) ∈ lw_all := lw_g (lw_at lw_m5 228 rfl) rfl
theorem q1350 : (Jvm.Cond.methodLink "GingerRentsLaw" (99 : Nat) ({ cls := "GingerRents", name := "mortgage", desc := "(IIII)I" } : Jvm.MethodName)) ∈ lw_all := lw_g (lw_at lw_m6 0 rfl) rfl
theorem q1354 : (Jvm.Cond.methodLink "GingerRentsLaw" (104 : Nat) ({ cls := "GingerRents", name := "mark", desc := "(I)I" } : Jvm.MethodName)) ∈ lw_all := lw_g (lw_at lw_m6 4 rfl) rfl
theorem q1358 : (Jvm.Cond.methodLink "GingerRentsLaw" (108 : Nat) ({ cls := "GingerRents", name := "measures", desc := "(I)I" } : Jvm.MethodName)) ∈ lw_all := lw_g (lw_at lw_m6 8 rfl) rfl
theorem q1369 : (Jvm.Cond.methodLink "GingerRentsLaw" (112 : Nat) ({ cls := "GingerRents", name := "bite", desc := "(II)I" } : Jvm.MethodName)) ∈ lw_all := lw_g (lw_at lw_m6 19 rfl) rfl
theorem q1376 : (Jvm.Cond.methodLink "GingerRentsLaw" (116 : Nat) ({ cls := "GingerRents", name := "whose", desc := "(II)I" } : Jvm.MethodName)) ∈ lw_all := lw_g (lw_at lw_m6 26 rfl) rfl
theorem q1384 : (Jvm.Cond.methodLink "GingerRentsLaw" (120 : Nat) ({ cls := "GingerRents", name := "crumb", desc := "(I)I" } : Jvm.MethodName)) ∈ lw_all := lw_g (lw_at lw_m6 34 rfl) rfl
theorem q1388 : (Jvm.Cond.methodLink "GingerRentsLaw" (124 : Nat) ({ cls := "GingerRents", name := "crumbs", desc := "(I)I" } : Jvm.MethodName)) ∈ lw_all := lw_g (lw_at lw_m6 38 rfl) rfl
theorem q1392 : (Jvm.Cond.methodLink "GingerRentsLaw" (128 : Nat) ({ cls := "GingerRents", name := "loaf", desc := "(II)I" } : Jvm.MethodName)) ∈ lw_all := lw_g (lw_at lw_m6 42 rfl) rfl
theorem q1396 : (Jvm.Cond.methodLink "GingerRentsLaw" (132 : Nat) ({ cls := "GingerRents", name := "ovens", desc := "(I)I" } : Jvm.MethodName)) ∈ lw_all := lw_g (lw_at lw_m6 46 rfl) rfl
theorem q1404 : (Jvm.Cond.methodLink "GingerRentsLaw" (136 : Nat) ({ cls := "GingerRents", name := "alone", desc := "(I)I" } : Jvm.MethodName)) ∈ lw_all := lw_g (lw_at lw_m6 54 rfl) rfl
theorem q1412 : (Jvm.Cond.methodLink "GingerRentsLaw" (140 : Nat) ({ cls := "GingerRents", name := "heir", desc := "(II)I" } : Jvm.MethodName)) ∈ lw_all := lw_g (lw_at lw_m6 62 rfl) rfl
theorem q1416 : (Jvm.Cond.methodLink "GingerRentsLaw" (144 : Nat) ({ cls := "GingerRents", name := "line", desc := "(II)I" } : Jvm.MethodName)) ∈ lw_all := lw_g (lw_at lw_m6 66 rfl) rfl
theorem q1424 : (Jvm.Cond.methodLink "GingerRentsLaw" (148 : Nat) ({ cls := "GingerRents", name := "window", desc := "(I)I" } : Jvm.MethodName)) ∈ lw_all := lw_g (lw_at lw_m6 74 rfl) rfl
theorem q1428 : (Jvm.Cond.methodLink "GingerRentsLaw" (152 : Nat) ({ cls := "GingerRents", name := "member", desc := "(II)I" } : Jvm.MethodName)) ∈ lw_all := lw_g (lw_at lw_m6 78 rfl) rfl
theorem q1432 : (Jvm.Cond.methodLink "GingerRentsLaw" (156 : Nat) ({ cls := "GingerRents", name := "council", desc := "(I)I" } : Jvm.MethodName)) ∈ lw_all := lw_g (lw_at lw_m6 82 rfl) rfl
theorem q1444 : (Jvm.Cond.methodLink "GingerRentsLaw" (160 : Nat) ({ cls := "GingerRents", name := "game", desc := "(II)I" } : Jvm.MethodName)) ∈ lw_all := lw_g (lw_at lw_m6 94 rfl) rfl
theorem q1462 : (Jvm.Cond.methodLink "GingerRentsLaw" (169 : Nat) ({ cls := "GingerRents", name := "image", desc := "(Z)Z" } : Jvm.MethodName)) ∈ lw_all := lw_g (lw_at lw_m6 112 rfl) rfl
theorem q1475 : (Jvm.Cond.methodLink "GingerRentsLaw" (174 : Nat) ({ cls := "GingerRents", name := "look", desc := "(I)I" } : Jvm.MethodName)) ∈ lw_all := lw_g (lw_at lw_m6 125 rfl) rfl
theorem q1479 : (Jvm.Cond.classLink "GingerRentsLaw" (10 : Nat) "GingerRentsModel") ∈ lw_all := lw_g (lw_at lw_m6 129 rfl) rfl
theorem q1481 : (Jvm.Cond.methodLink "GingerRentsLaw" (12 : Nat) ({ cls := "GingerRentsModel", name := "<init>", desc := "()V" } : Jvm.MethodName)) ∈ lw_all := lw_g (lw_at lw_m6 131 rfl) rfl
theorem q1711 : (Jvm.Cond.methodLink "GingerRentsLaw" (168 : Nat) ({ cls := "GingerRentsModel", name := "undo", desc := "()Z" } : Jvm.MethodName)) ∈ lw_all := lw_g (lw_at lw_m7 121 rfl) rfl
theorem q1715 : (Jvm.Cond.methodLink "GingerRentsLaw" (17 : Nat) ({ cls := "GingerRentsModel", name := "state", desc := "(I)I" } : Jvm.MethodName)) ∈ lw_all := lw_g (lw_at lw_m7 125 rfl) rfl
theorem q1719 : (Jvm.Cond.methodLink "GingerRentsLaw" (22 : Nat) ({ cls := "GingerRentsModel", name := "house", desc := "(III)I" } : Jvm.MethodName)) ∈ lw_all := lw_g (lw_at lw_m7 129 rfl) rfl
theorem q1727 : (Jvm.Cond.methodLink "GingerRentsLaw" (27 : Nat) ({ cls := "GingerRentsModel", name := "set", desc := "(III)Z" } : Jvm.MethodName)) ∈ lw_all := lw_g (lw_at lw_m7 137 rfl) rfl
theorem q1747 : (Jvm.Cond.methodLink "GingerRentsLaw" (40 : Nat) ({ cls := "GingerRentsModel", name := "feed", desc := "(IIIII)I" } : Jvm.MethodName)) ∈ lw_all := lw_g (lw_at lw_m7 157 rfl) rfl
theorem q1755 : (Jvm.Cond.methodLink "GingerRentsLaw" (45 : Nat) ({ cls := "GingerRentsModel", name := "end", desc := "(I)Z" } : Jvm.MethodName)) ∈ lw_all := lw_g (lw_at lw_m7 165 rfl) rfl
theorem q1759 : (Jvm.Cond.methodLink "GingerRentsLaw" (49 : Nat) ({ cls := "GingerRentsModel", name := "text", desc := "(I)I" } : Jvm.MethodName)) ∈ lw_all := lw_g (lw_at lw_m7 169 rfl) rfl
theorem q1891 : (Jvm.Cond.methodLink "GingerRentsLaw" (53 : Nat) ({ cls := "GingerRentsModel", name := "fault", desc := "(I)I" } : Jvm.MethodName)) ∈ lw_all := lw_g (lw_at lw_m8 61 rfl) rfl
theorem q1895 : (Jvm.Cond.methodLink "GingerRentsLaw" (31 : Nat) ({ cls := "GingerRentsModel", name := "act", desc := "(III)Z" } : Jvm.MethodName)) ∈ lw_all := lw_g (lw_at lw_m8 65 rfl) rfl
theorem q1951 : (Jvm.Cond.methodLink "GingerRentsLaw" (35 : Nat) ({ cls := "GingerRentsModel", name := "quarters", desc := "(I)I" } : Jvm.MethodName)) ∈ lw_all := lw_g (lw_at lw_m8 121 rfl) rfl
theorem q2033 : (Jvm.Cond.methodLink "GingerRentsLaw" (58 : Nat) ({ cls := "GingerRentsModel", name := "of", desc := "(II)I" } : Jvm.MethodName)) ∈ lw_all := lw_g (lw_at lw_m8 203 rfl) rfl
theorem q2037 : (Jvm.Cond.methodLink "GingerRentsLaw" (62 : Nat) ({ cls := "GingerRentsModel", name := "book", desc := "(II)I" } : Jvm.MethodName)) ∈ lw_all := lw_g (lw_at lw_m8 207 rfl) rfl
theorem q2041 : (Jvm.Cond.methodLink "GingerRentsLaw" (66 : Nat) ({ cls := "GingerRentsModel", name := "goes", desc := "(II)I" } : Jvm.MethodName)) ∈ lw_all := lw_g (lw_at lw_m8 211 rfl) rfl
theorem q2057 : (Jvm.Cond.methodLink "GingerRentsLaw" (70 : Nat) ({ cls := "GingerRentsModel", name := "stands", desc := "(I)I" } : Jvm.MethodName)) ∈ lw_all := lw_g (lw_at lw_m8 227 rfl) rfl
theorem q2061 : (Jvm.Cond.methodLink "GingerRentsLaw" (74 : Nat) ({ cls := "GingerRentsModel", name := "hears", desc := "(II)I" } : Jvm.MethodName)) ∈ lw_all := lw_g (lw_at lw_m8 231 rfl) rfl
theorem q2078 : (Jvm.Cond.methodLink "GingerRentsLaw" (78 : Nat) ({ cls := "GingerRentsModel", name := "heard", desc := "(II)I" } : Jvm.MethodName)) ∈ lw_all := lw_g (lw_at lw_m9 8 rfl) rfl
theorem q2082 : (Jvm.Cond.methodLink "GingerRentsLaw" (82 : Nat) ({ cls := "GingerRentsModel", name := "ants", desc := "(II)I" } : Jvm.MethodName)) ∈ lw_all := lw_g (lw_at lw_m9 12 rfl) rfl
theorem q2086 : (Jvm.Cond.methodLink "GingerRentsLaw" (86 : Nat) ({ cls := "GingerRentsModel", name := "piece", desc := "(I)I" } : Jvm.MethodName)) ∈ lw_all := lw_g (lw_at lw_m9 16 rfl) rfl
theorem q2090 : (Jvm.Cond.methodLink "GingerRentsLaw" (90 : Nat) ({ cls := "GingerRentsModel", name := "plate", desc := "(II)I" } : Jvm.MethodName)) ∈ lw_all := lw_g (lw_at lw_m9 20 rfl) rfl
theorem q2102 : (Jvm.Cond.methodLink "GingerRentsLaw" (94 : Nat) ({ cls := "GingerRentsModel", name := "dough", desc := "(I)I" } : Jvm.MethodName)) ∈ lw_all := lw_g (lw_at lw_m9 32 rfl) rfl
theorem q2106 : (Jvm.Cond.methodLink "GingerRentsLaw" (98 : Nat) ({ cls := "GingerRentsModel", name := "pans", desc := "(II)I" } : Jvm.MethodName)) ∈ lw_all := lw_g (lw_at lw_m9 36 rfl) rfl
theorem q2122 : (Jvm.Cond.methodLink "GingerRentsLaw" (103 : Nat) ({ cls := "GingerRentsModel", name := "mortgage", desc := "(IIII)I" } : Jvm.MethodName)) ∈ lw_all := lw_g (lw_at lw_m9 52 rfl) rfl
theorem q2126 : (Jvm.Cond.methodLink "GingerRentsLaw" (107 : Nat) ({ cls := "GingerRentsModel", name := "mark", desc := "(I)I" } : Jvm.MethodName)) ∈ lw_all := lw_g (lw_at lw_m9 56 rfl) rfl
theorem q2130 : (Jvm.Cond.methodLink "GingerRentsLaw" (111 : Nat) ({ cls := "GingerRentsModel", name := "measures", desc := "(I)I" } : Jvm.MethodName)) ∈ lw_all := lw_g (lw_at lw_m9 60 rfl) rfl
theorem q2142 : (Jvm.Cond.methodLink "GingerRentsLaw" (115 : Nat) ({ cls := "GingerRentsModel", name := "bite", desc := "(II)I" } : Jvm.MethodName)) ∈ lw_all := lw_g (lw_at lw_m9 72 rfl) rfl
theorem q2146 : (Jvm.Cond.methodLink "GingerRentsLaw" (119 : Nat) ({ cls := "GingerRentsModel", name := "whose", desc := "(II)I" } : Jvm.MethodName)) ∈ lw_all := lw_g (lw_at lw_m9 76 rfl) rfl
theorem q2150 : (Jvm.Cond.methodLink "GingerRentsLaw" (123 : Nat) ({ cls := "GingerRentsModel", name := "crumb", desc := "(I)I" } : Jvm.MethodName)) ∈ lw_all := lw_g (lw_at lw_m9 80 rfl) rfl
theorem q2154 : (Jvm.Cond.methodLink "GingerRentsLaw" (127 : Nat) ({ cls := "GingerRentsModel", name := "crumbs", desc := "(I)I" } : Jvm.MethodName)) ∈ lw_all := lw_g (lw_at lw_m9 84 rfl) rfl
theorem q2158 : (Jvm.Cond.methodLink "GingerRentsLaw" (131 : Nat) ({ cls := "GingerRentsModel", name := "loaf", desc := "(II)I" } : Jvm.MethodName)) ∈ lw_all := lw_g (lw_at lw_m9 88 rfl) rfl
theorem q2162 : (Jvm.Cond.methodLink "GingerRentsLaw" (135 : Nat) ({ cls := "GingerRentsModel", name := "ovens", desc := "(I)I" } : Jvm.MethodName)) ∈ lw_all := lw_g (lw_at lw_m9 92 rfl) rfl
theorem q2174 : (Jvm.Cond.methodLink "GingerRentsLaw" (139 : Nat) ({ cls := "GingerRentsModel", name := "alone", desc := "(I)I" } : Jvm.MethodName)) ∈ lw_all := lw_g (lw_at lw_m9 104 rfl) rfl
theorem q2182 : (Jvm.Cond.methodLink "GingerRentsLaw" (143 : Nat) ({ cls := "GingerRentsModel", name := "heir", desc := "(II)I" } : Jvm.MethodName)) ∈ lw_all := lw_g (lw_at lw_m9 112 rfl) rfl
theorem q2186 : (Jvm.Cond.methodLink "GingerRentsLaw" (147 : Nat) ({ cls := "GingerRentsModel", name := "line", desc := "(II)I" } : Jvm.MethodName)) ∈ lw_all := lw_g (lw_at lw_m9 116 rfl) rfl
theorem q2190 : (Jvm.Cond.methodLink "GingerRentsLaw" (151 : Nat) ({ cls := "GingerRentsModel", name := "window", desc := "(I)I" } : Jvm.MethodName)) ∈ lw_all := lw_g (lw_at lw_m9 120 rfl) rfl
theorem q2194 : (Jvm.Cond.methodLink "GingerRentsLaw" (155 : Nat) ({ cls := "GingerRentsModel", name := "member", desc := "(II)I" } : Jvm.MethodName)) ∈ lw_all := lw_g (lw_at lw_m9 124 rfl) rfl
theorem q2198 : (Jvm.Cond.methodLink "GingerRentsLaw" (159 : Nat) ({ cls := "GingerRentsModel", name := "council", desc := "(I)I" } : Jvm.MethodName)) ∈ lw_all := lw_g (lw_at lw_m9 128 rfl) rfl
theorem q2206 : (Jvm.Cond.methodLink "GingerRentsLaw" (163 : Nat) ({ cls := "GingerRentsModel", name := "game", desc := "(II)I" } : Jvm.MethodName)) ∈ lw_all := lw_g (lw_at lw_m9 136 rfl) rfl
theorem q2226 : (Jvm.Cond.methodLink "GingerRentsLaw" (173 : Nat) ({ cls := "GingerRentsModel", name := "image", desc := "(Z)Z" } : Jvm.MethodName)) ∈ lw_all := lw_g (lw_at lw_m9 156 rfl) rfl
theorem q2246 : (Jvm.Cond.methodLink "GingerRentsLaw" (177 : Nat) ({ cls := "GingerRentsModel", name := "look", desc := "(I)I" } : Jvm.MethodName)) ∈ lw_all := lw_g (lw_at lw_m9 176 rfl) rfl

theorem q1202 : (Jvm.Cond.interfaceMethod "GingerRents$Asker" "GingerRents$Asker" "fact" "(I)I") ∈ lw_tbl := lw_at lw_m5 92 rfl
set_option maxRecDepth 100000
theorem q1203 : (Jvm.Cond.declares ({ cls := "GingerRents$Asker", name := "fact", desc := "(I)I" } : Jvm.MethodName)) ∈ lw_tbl := lw_at lw_m5 93 rfl

theorem q2284 : (Jvm.Cond.castable "[B" "java/lang/Object") ∈ lw_tbl := lw_at lw_m9 214 rfl
set_option maxRecDepth 100000

theorem q2285 : (Jvm.Cond.castable "[I" "java/lang/Object") ∈ lw_tbl := lw_at lw_m9 215 rfl
set_option maxRecDepth 100000

theorem q2286 : (Jvm.Cond.castable "[LGingerRents$Borough;" "java/lang/Object") ∈ lw_tbl := lw_at lw_m9 216 rfl
set_option maxRecDepth 100000

theorem q2282 : (Jvm.Cond.castable "[LGingerRents$House;" "java/lang/Object") ∈ lw_tbl := lw_at lw_m9 212 rfl
set_option maxRecDepth 100000

theorem q2279 : (Jvm.Cond.sameMethod "[Ljava/lang/Object;" "java/lang/Object" "getClass" "()Ljava/lang/Class;") ∈ lw_all := lw_g (lw_at lw_m9 209 rfl) rfl
set_option maxRecDepth 100000
theorem q2280 : (Jvm.Cond.selects "[Ljava/lang/Object;" ({ cls := "java/lang/Object", name := "getClass", desc := "()Ljava/lang/Class;" } : Jvm.MethodName) ({ cls := "java/lang/Object", name := "getClass", desc := "()Ljava/lang/Class;" } : Jvm.MethodName)) ∈ lw_all := lw_g (lw_at lw_m9 210 rfl) rfl
theorem q2287 : (Jvm.Cond.castable "[Ljava/lang/Object;" "java/lang/Object") ∈ lw_tbl := lw_at lw_m9 217 rfl

theorem q2283 : (Jvm.Cond.castable "[[I" "java/lang/Object") ∈ lw_tbl := lw_at lw_m9 213 rfl
set_option maxRecDepth 100000

theorem q178 : (Jvm.Cond.initialized "java/lang/System") ∈ lw_all := lw_g (lw_at lw_m1 28 rfl) rfl
set_option maxRecDepth 100000
theorem q881 : (Jvm.Cond.static ({ cls := "java/lang/System", name := "arraycopy", desc := "(Ljava/lang/Object;ILjava/lang/Object;II)V" } : Jvm.MethodName)) ∈ lw_all := lw_g (lw_at lw_m4 11 rfl) rfl
theorem q882 : (Jvm.Cond.native ({ cls := "java/lang/System", name := "arraycopy", desc := "(Ljava/lang/Object;ILjava/lang/Object;II)V" } : Jvm.MethodName)) ∈ lw_all := lw_g (lw_at lw_m4 12 rfl) rfl

theorem q201 : (Jvm.Cond.arrayOver (Jvm.ClassFile.FieldType.object "GingerRents$House")) ∈ lw_tbl := lw_at lw_m1 51 rfl
set_option maxRecDepth 100000
theorem q203 : (Jvm.Cond.arrayOver (Jvm.ClassFile.FieldType.array Jvm.ClassFile.FieldType.int)) ∈ lw_tbl := lw_at lw_m1 53 rfl
theorem q219 : (Jvm.Cond.arrayClass Jvm.ClassFile.FieldType.byte) ∈ lw_all := lw_g (lw_at lw_m1 69 rfl) rfl
theorem q220 : (Jvm.Cond.arrayClass Jvm.ClassFile.FieldType.int) ∈ lw_all := lw_g (lw_at lw_m1 70 rfl) rfl
theorem q403 : (Jvm.Cond.arrayOver (Jvm.ClassFile.FieldType.object "GingerRents$Borough")) ∈ lw_tbl := lw_at lw_m2 13 rfl
theorem q875 : (Jvm.Cond.arrayOver (Jvm.ClassFile.FieldType.object "java/lang/Object")) ∈ lw_tbl := lw_at lw_m4 5 rfl
