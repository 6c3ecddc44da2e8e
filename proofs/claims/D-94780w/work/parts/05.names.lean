theorem q121 : (Jvm.Cond.initialized "UpAndDownLaw") ∈ lw_all := lw_g (lw_at lw_m1 0 rfl) rfl
set_option maxRecDepth 100000
theorem q166 : (Jvm.Cond.classLink "UpAndDownLaw" (7 : Nat) "UpAndDown") ∈ lw_all := lw_g (lw_at lw_m1 45 rfl) rfl
theorem q168 : (Jvm.Cond.methodLink "UpAndDownLaw" (9 : Nat) ({ cls := "UpAndDown", name := "<init>", desc := "()V" } : Jvm.MethodName)) ∈ lw_all := lw_g (lw_at lw_m1 47 rfl) rfl
theorem q389 : (Jvm.Cond.methodLink "UpAndDownLaw" (13 : Nat) ({ cls := "UpAndDown", name := "feed", desc := "(IIIII)I" } : Jvm.MethodName)) ∈ lw_all := lw_g (lw_at lw_m2 28 rfl) rfl
theorem q397 : (Jvm.Cond.methodLink "UpAndDownLaw" (18 : Nat) ({ cls := "UpAndDown", name := "end", desc := "(I)I" } : Jvm.MethodName)) ∈ lw_all := lw_g (lw_at lw_m2 36 rfl) rfl
theorem q404 : (Jvm.Cond.methodLink "UpAndDownLaw" (23 : Nat) ({ cls := "UpAndDown", name := "table", desc := "()I" } : Jvm.MethodName)) ∈ lw_all := lw_g (lw_at lw_m2 43 rfl) rfl
theorem q917 : (Jvm.Cond.methodLink "UpAndDownLaw" (28 : Nat) ({ cls := "UpAndDown", name := "fault", desc := "(I)I" } : Jvm.MethodName)) ∈ lw_all := lw_g (lw_at lw_m4 76 rfl) rfl
theorem q921 : (Jvm.Cond.methodLink "UpAndDownLaw" (32 : Nat) ({ cls := "UpAndDown", name := "word", desc := "(II)I" } : Jvm.MethodName)) ∈ lw_all := lw_g (lw_at lw_m4 80 rfl) rfl
theorem q945 : (Jvm.Cond.methodLink "UpAndDownLaw" (37 : Nat) ({ cls := "UpAndDown", name := "turn", desc := "(III)I" } : Jvm.MethodName)) ∈ lw_all := lw_g (lw_at lw_m4 104 rfl) rfl
theorem q969 : (Jvm.Cond.methodLink "UpAndDownLaw" (42 : Nat) ({ cls := "UpAndDown", name := "size", desc := "()I" } : Jvm.MethodName)) ∈ lw_all := lw_g (lw_at lw_m4 128 rfl) rfl
theorem q977 : (Jvm.Cond.methodLink "UpAndDownLaw" (46 : Nat) ({ cls := "UpAndDown", name := "figure", desc := "(II)I" } : Jvm.MethodName)) ∈ lw_all := lw_g (lw_at lw_m4 136 rfl) rfl
theorem q989 : (Jvm.Cond.methodLink "UpAndDownLaw" (50 : Nat) ({ cls := "UpAndDown", name := "next", desc := "(I)I" } : Jvm.MethodName)) ∈ lw_all := lw_g (lw_at lw_m4 148 rfl) rfl
theorem q1089 : (Jvm.Cond.methodLink "UpAndDownLaw" (54 : Nat) ({ cls := "UpAndDown", name := "through", desc := "(II)I" } : Jvm.MethodName)) ∈ lw_all := lw_g (lw_at lw_m5 8 rfl) rfl
theorem q1093 : (Jvm.Cond.methodLink "UpAndDownLaw" (58 : Nat) ({ cls := "UpAndDown", name := "after", desc := "(II)I" } : Jvm.MethodName)) ∈ lw_all := lw_g (lw_at lw_m5 12 rfl) rfl
theorem q1102 : (Jvm.Cond.methodLink "UpAndDownLaw" (62 : Nat) ({ cls := "UpAndDown", name := "ends", desc := "(II)I" } : Jvm.MethodName)) ∈ lw_all := lw_g (lw_at lw_m5 21 rfl) rfl
theorem q1106 : (Jvm.Cond.methodLink "UpAndDownLaw" (66 : Nat) ({ cls := "UpAndDown", name := "rounds", desc := "(I)I" } : Jvm.MethodName)) ∈ lw_all := lw_g (lw_at lw_m5 25 rfl) rfl
theorem q1122 : (Jvm.Cond.methodLink "UpAndDownLaw" (70 : Nat) ({ cls := "UpAndDown", name := "round", desc := "(II)I" } : Jvm.MethodName)) ∈ lw_all := lw_g (lw_at lw_m5 41 rfl) rfl
theorem q1131 : (Jvm.Cond.methodLink "UpAndDownLaw" (74 : Nat) ({ cls := "UpAndDown", name := "on", desc := "(II)I" } : Jvm.MethodName)) ∈ lw_all := lw_g (lw_at lw_m5 50 rfl) rfl
theorem q1135 : (Jvm.Cond.methodLink "UpAndDownLaw" (78 : Nat) ({ cls := "UpAndDown", name := "most", desc := "(I)I" } : Jvm.MethodName)) ∈ lw_all := lw_g (lw_at lw_m5 54 rfl) rfl
theorem q1147 : (Jvm.Cond.methodLink "UpAndDownLaw" (82 : Nat) ({ cls := "UpAndDown", name := "take", desc := "(I)I" } : Jvm.MethodName)) ∈ lw_all := lw_g (lw_at lw_m5 66 rfl) rfl
theorem q1151 : (Jvm.Cond.methodLink "UpAndDownLaw" (86 : Nat) ({ cls := "UpAndDown", name := "gardens", desc := "()I" } : Jvm.MethodName)) ∈ lw_all := lw_g (lw_at lw_m5 70 rfl) rfl
theorem q1159 : (Jvm.Cond.methodLink "UpAndDownLaw" (90 : Nat) ({ cls := "UpAndDown", name := "garden", desc := "(I)I" } : Jvm.MethodName)) ∈ lw_all := lw_g (lw_at lw_m5 78 rfl) rfl
theorem q1163 : (Jvm.Cond.methodLink "UpAndDownLaw" (94 : Nat) ({ cls := "UpAndDown", name := "from", desc := "(II)I" } : Jvm.MethodName)) ∈ lw_all := lw_g (lw_at lw_m5 82 rfl) rfl
theorem q1167 : (Jvm.Cond.methodLink "UpAndDownLaw" (98 : Nat) ({ cls := "UpAndDown", name := "back", desc := "(II)I" } : Jvm.MethodName)) ∈ lw_all := lw_g (lw_at lw_m5 86 rfl) rfl
theorem q1172 : (Jvm.Cond.methodLink "UpAndDownLaw" (102 : Nat) ({ cls := "UpAndDown", name := "meet", desc := "(II)I" } : Jvm.MethodName)) ∈ lw_all := lw_g (lw_at lw_m5 91 rfl) rfl
theorem q1176 : (Jvm.Cond.methodLink "UpAndDownLaw" (106 : Nat) ({ cls := "UpAndDown", name := "join", desc := "(III)I" } : Jvm.MethodName)) ∈ lw_all := lw_g (lw_at lw_m5 95 rfl) rfl
theorem q1184 : (Jvm.Cond.methodLink "UpAndDownLaw" (110 : Nat) ({ cls := "UpAndDown", name := "kinds", desc := "()I" } : Jvm.MethodName)) ∈ lw_all := lw_g (lw_at lw_m5 103 rfl) rfl
theorem q1196 : (Jvm.Cond.methodLink "UpAndDownLaw" (114 : Nat) ({ cls := "UpAndDown", name := "kind", desc := "(II)I" } : Jvm.MethodName)) ∈ lw_all := lw_g (lw_at lw_m5 115 rfl) rfl
theorem q1200 : (Jvm.Cond.methodLink "UpAndDownLaw" (118 : Nat) ({ cls := "UpAndDown", name := "odd", desc := "()I" } : Jvm.MethodName)) ∈ lw_all := lw_g (lw_at lw_m5 119 rfl) rfl
theorem q1204 : (Jvm.Cond.methodLink "UpAndDownLaw" (122 : Nat) ({ cls := "UpAndDown", name := "sure", desc := "(III)I" } : Jvm.MethodName)) ∈ lw_all := lw_g (lw_at lw_m5 123 rfl) rfl
theorem q1247 : (Jvm.Cond.methodLink "UpAndDownLaw" (126 : Nat) ({ cls := "UpAndDown", name := "fewest", desc := "(II)I" } : Jvm.MethodName)) ∈ lw_all := lw_g (lw_at lw_m5 166 rfl) rfl
theorem q1251 : (Jvm.Cond.methodLink "UpAndDownLaw" (130 : Nat) ({ cls := "UpAndDown", name := "left", desc := "(II)I" } : Jvm.MethodName)) ∈ lw_all := lw_g (lw_at lw_m5 170 rfl) rfl
theorem q1255 : (Jvm.Cond.methodLink "UpAndDownLaw" (134 : Nat) ({ cls := "UpAndDown", name := "rest", desc := "(II)I" } : Jvm.MethodName)) ∈ lw_all := lw_g (lw_at lw_m5 174 rfl) rfl
theorem q1263 : (Jvm.Cond.methodLink "UpAndDownLaw" (138 : Nat) ({ cls := "UpAndDown", name := "out", desc := "(III)I" } : Jvm.MethodName)) ∈ lw_all := lw_g (lw_at lw_m5 182 rfl) rfl
theorem q1268 : (Jvm.Cond.methodLink "UpAndDownLaw" (142 : Nat) ({ cls := "UpAndDown", name := "slip", desc := "(III)I" } : Jvm.MethodName)) ∈ lw_all := lw_g (lw_at lw_m5 187 rfl) rfl
theorem q1280 : (Jvm.Cond.methodLink "UpAndDownLaw" (146 : Nat) ({ cls := "UpAndDown", name := "fits", desc := "(II)I" } : Jvm.MethodName)) ∈ lw_all := lw_g (lw_at lw_m5 199 rfl) rfl
theorem q1288 : (Jvm.Cond.methodLink "UpAndDownLaw" (150 : Nat) ({ cls := "UpAndDown", name := "which", desc := "(II)I" } : Jvm.MethodName)) ∈ lw_all := lw_g (lw_at lw_m5 207 rfl) rfl
theorem q1292 : (Jvm.Cond.methodLink "UpAndDownLaw" (154 : Nat) ({ cls := "UpAndDown", name := "find", desc := "(II)I" } : Jvm.MethodName)) ∈ lw_all := lw_g (lw_at lw_m5 211 rfl) rfl
theorem q1305 : (Jvm.Cond.methodLink "UpAndDownLaw" (158 : Nat) ({ cls := "UpAndDown", name := "found", desc := "(III)I" } : Jvm.MethodName)) ∈ lw_all := lw_g (lw_at lw_m5 224 rfl) rfl
theorem q1309 : (Jvm.Cond.methodLink "UpAndDownLaw" (162 : Nat) ({ cls := "UpAndDown", name := "best", desc := "(II)I" } : Jvm.MethodName)) ∈ lw_all := lw_g (lw_at lw_m5 228 rfl) rfl
theorem q1318 : (Jvm.Cond.methodLink "UpAndDownLaw" (166 : Nat) ({ cls := "UpAndDown", name := "evening", desc := "(III)I" } : Jvm.MethodName)) ∈ lw_all := lw_g (lw_at lw_m5 237 rfl) rfl
theorem q1345 : (Jvm.Cond.methodLink "UpAndDownLaw" (170 : Nat) ({ cls := "UpAndDown", name := "judge", desc := "(I)I" } : Jvm.MethodName)) ∈ lw_all := lw_g (lw_at lw_m6 24 rfl) rfl
theorem q1392 : (Jvm.Cond.methodLink "UpAndDownLaw" (174 : Nat) ({ cls := "UpAndDown", name := "count", desc := "(I)I" } : Jvm.MethodName)) ∈ lw_all := lw_g (lw_at lw_m6 71 rfl) rfl
theorem q1396 : (Jvm.Cond.methodLink "UpAndDownLaw" (178 : Nat) ({ cls := "UpAndDown", name := "told", desc := "(I)I" } : Jvm.MethodName)) ∈ lw_all := lw_g (lw_at lw_m6 75 rfl) rfl
theorem q1400 : (Jvm.Cond.methodLink "UpAndDownLaw" (182 : Nat) ({ cls := "UpAndDown", name := "keep", desc := "(I)I" } : Jvm.MethodName)) ∈ lw_all := lw_g (lw_at lw_m6 79 rfl) rfl
theorem q1425 : (Jvm.Cond.methodLink "UpAndDownLaw" (186 : Nat) ({ cls := "UpAndDown", name := "restore", desc := "(I)I" } : Jvm.MethodName)) ∈ lw_all := lw_g (lw_at lw_m6 104 rfl) rfl
theorem q1429 : (Jvm.Cond.methodLink "UpAndDownLaw" (190 : Nat) ({ cls := "UpAndDown", name := "row", desc := "(III)I" } : Jvm.MethodName)) ∈ lw_all := lw_g (lw_at lw_m6 108 rfl) rfl
theorem q1466 : (Jvm.Cond.methodLink "UpAndDownLaw" (196 : Nat) ({ cls := "UpAndDown", name := "write", desc := "(IIJ)I" } : Jvm.MethodName)) ∈ lw_all := lw_g (lw_at lw_m6 145 rfl) rfl
theorem q1493 : (Jvm.Cond.methodLink "UpAndDownLaw" (201 : Nat) ({ cls := "UpAndDown", name := "paste", desc := "(IIIII)I" } : Jvm.MethodName)) ∈ lw_all := lw_g (lw_at lw_m6 172 rfl) rfl
theorem q1512 : (Jvm.Cond.classLink "UpAndDownLaw" (10 : Nat) "UpAndDownModel") ∈ lw_all := lw_g (lw_at lw_m6 191 rfl) rfl
theorem q1514 : (Jvm.Cond.methodLink "UpAndDownLaw" (12 : Nat) ({ cls := "UpAndDownModel", name := "<init>", desc := "()V" } : Jvm.MethodName)) ∈ lw_all := lw_g (lw_at lw_m6 193 rfl) rfl
theorem q1624 : (Jvm.Cond.methodLink "UpAndDownLaw" (193 : Nat) ({ cls := "UpAndDownModel", name := "row", desc := "(III)I" } : Jvm.MethodName)) ∈ lw_all := lw_g (lw_at lw_m7 63 rfl) rfl
theorem q1635 : (Jvm.Cond.methodLink "UpAndDownLaw" (200 : Nat) ({ cls := "UpAndDownModel", name := "write", desc := "(IIJ)I" } : Jvm.MethodName)) ∈ lw_all := lw_g (lw_at lw_m7 74 rfl) rfl
theorem q1642 : (Jvm.Cond.methodLink "UpAndDownLaw" (204 : Nat) ({ cls := "UpAndDownModel", name := "paste", desc := "(IIIII)I" } : Jvm.MethodName)) ∈ lw_all := lw_g (lw_at lw_m7 81 rfl) rfl
theorem q1646 : (Jvm.Cond.methodLink "UpAndDownLaw" (17 : Nat) ({ cls := "UpAndDownModel", name := "feed", desc := "(IIIII)I" } : Jvm.MethodName)) ∈ lw_all := lw_g (lw_at lw_m7 85 rfl) rfl
theorem q1654 : (Jvm.Cond.methodLink "UpAndDownLaw" (22 : Nat) ({ cls := "UpAndDownModel", name := "end", desc := "(I)I" } : Jvm.MethodName)) ∈ lw_all := lw_g (lw_at lw_m7 93 rfl) rfl
theorem q1658 : (Jvm.Cond.methodLink "UpAndDownLaw" (31 : Nat) ({ cls := "UpAndDownModel", name := "fault", desc := "(I)I" } : Jvm.MethodName)) ∈ lw_all := lw_g (lw_at lw_m7 97 rfl) rfl
theorem q1662 : (Jvm.Cond.methodLink "UpAndDownLaw" (27 : Nat) ({ cls := "UpAndDownModel", name := "table", desc := "()I" } : Jvm.MethodName)) ∈ lw_all := lw_g (lw_at lw_m7 101 rfl) rfl
theorem q1780 : (Jvm.Cond.methodLink "UpAndDownLaw" (36 : Nat) ({ cls := "UpAndDownModel", name := "word", desc := "(II)I" } : Jvm.MethodName)) ∈ lw_all := lw_g (lw_at lw_m7 219 rfl) rfl
theorem q1788 : (Jvm.Cond.methodLink "UpAndDownLaw" (41 : Nat) ({ cls := "UpAndDownModel", name := "turn", desc := "(III)I" } : Jvm.MethodName)) ∈ lw_all := lw_g (lw_at lw_m7 227 rfl) rfl
theorem q1794 : (Jvm.Cond.methodLink "UpAndDownLaw" (45 : Nat) ({ cls := "UpAndDownModel", name := "size", desc := "()I" } : Jvm.MethodName)) ∈ lw_all := lw_g (lw_at lw_m7 233 rfl) rfl
theorem q1802 : (Jvm.Cond.methodLink "UpAndDownLaw" (49 : Nat) ({ cls := "UpAndDownModel", name := "figure", desc := "(II)I" } : Jvm.MethodName)) ∈ lw_all := lw_g (lw_at lw_m8 1 rfl) rfl
theorem q1814 : (Jvm.Cond.methodLink "UpAndDownLaw" (53 : Nat) ({ cls := "UpAndDownModel", name := "next", desc := "(I)I" } : Jvm.MethodName)) ∈ lw_all := lw_g (lw_at lw_m8 13 rfl) rfl
theorem q1854 : (Jvm.Cond.methodLink "UpAndDownLaw" (57 : Nat) ({ cls := "UpAndDownModel", name := "through", desc := "(II)I" } : Jvm.MethodName)) ∈ lw_all := lw_g (lw_at lw_m8 53 rfl) rfl
theorem q1858 : (Jvm.Cond.methodLink "UpAndDownLaw" (61 : Nat) ({ cls := "UpAndDownModel", name := "after", desc := "(II)I" } : Jvm.MethodName)) ∈ lw_all := lw_g (lw_at lw_m8 57 rfl) rfl
theorem q1887 : (Jvm.Cond.methodLink "UpAndDownLaw" (65 : Nat) ({ cls := "UpAndDownModel", name := "ends", desc := "(II)I" } : Jvm.MethodName)) ∈ lw_all := lw_g (lw_at lw_m8 86 rfl) rfl
theorem q1891 : (Jvm.Cond.methodLink "UpAndDownLaw" (69 : Nat) ({ cls := "UpAndDownModel", name := "rounds", desc := "(I)I" } : Jvm.MethodName)) ∈ lw_all := lw_g (lw_at lw_m8 90 rfl) rfl
theorem q1907 : (Jvm.Cond.methodLink "UpAndDownLaw" (73 : Nat) ({ cls := "UpAndDownModel", name := "round", desc := "(II)I" } : Jvm.MethodName)) ∈ lw_all := lw_g (lw_at lw_m8 106 rfl) rfl
theorem q1915 : (Jvm.Cond.methodLink "UpAndDownLaw" (77 : Nat) ({ cls := "UpAndDownModel", name := "on", desc := "(II)I" } : Jvm.MethodName)) ∈ lw_all := lw_g (lw_at lw_m8 114 rfl) rfl
theorem q1919 : (Jvm.Cond.methodLink "UpAndDownLaw" (81 : Nat) ({ cls := "UpAndDownModel", name := "most", desc := "(I)I" } : Jvm.MethodName)) ∈ lw_all := lw_g (lw_at lw_m8 118 rfl) rfl
theorem q1932 : (Jvm.Cond.methodLink "UpAndDownLaw" (85 : Nat) ({ cls := "UpAndDownModel", name := "take", desc := "(I)I" } : Jvm.MethodName)) ∈ lw_all := lw_g (lw_at lw_m8 131 rfl) rfl
theorem q1936 : (Jvm.Cond.methodLink "UpAndDownLaw" (89 : Nat) ({ cls := "UpAndDownModel", name := "gardens", desc := "()I" } : Jvm.MethodName)) ∈ lw_all := lw_g (lw_at lw_m8 135 rfl) rfl
theorem q1944 : (Jvm.Cond.methodLink "UpAndDownLaw" (93 : Nat) ({ cls := "UpAndDownModel", name := "garden", desc := "(I)I" } : Jvm.MethodName)) ∈ lw_all := lw_g (lw_at lw_m8 143 rfl) rfl
theorem q1948 : (Jvm.Cond.methodLink "UpAndDownLaw" (97 : Nat) ({ cls := "UpAndDownModel", name := "from", desc := "(II)I" } : Jvm.MethodName)) ∈ lw_all := lw_g (lw_at lw_m8 147 rfl) rfl
theorem q1956 : (Jvm.Cond.methodLink "UpAndDownLaw" (101 : Nat) ({ cls := "UpAndDownModel", name := "back", desc := "(II)I" } : Jvm.MethodName)) ∈ lw_all := lw_g (lw_at lw_m8 155 rfl) rfl
theorem q1961 : (Jvm.Cond.methodLink "UpAndDownLaw" (105 : Nat) ({ cls := "UpAndDownModel", name := "meet", desc := "(II)I" } : Jvm.MethodName)) ∈ lw_all := lw_g (lw_at lw_m8 160 rfl) rfl
theorem q1965 : (Jvm.Cond.methodLink "UpAndDownLaw" (109 : Nat) ({ cls := "UpAndDownModel", name := "join", desc := "(III)I" } : Jvm.MethodName)) ∈ lw_all := lw_g (lw_at lw_m8 164 rfl) rfl
theorem q1969 : (Jvm.Cond.methodLink "UpAndDownLaw" (113 : Nat) ({ cls := "UpAndDownModel", name := "kinds", desc := "()I" } : Jvm.MethodName)) ∈ lw_all := lw_g (lw_at lw_m8 168 rfl) rfl
theorem q1973 : (Jvm.Cond.methodLink "UpAndDownLaw" (117 : Nat) ({ cls := "UpAndDownModel", name := "kind", desc := "(II)I" } : Jvm.MethodName)) ∈ lw_all := lw_g (lw_at lw_m8 172 rfl) rfl
theorem q1977 : (Jvm.Cond.methodLink "UpAndDownLaw" (121 : Nat) ({ cls := "UpAndDownModel", name := "odd", desc := "()I" } : Jvm.MethodName)) ∈ lw_all := lw_g (lw_at lw_m8 176 rfl) rfl
theorem q1981 : (Jvm.Cond.methodLink "UpAndDownLaw" (125 : Nat) ({ cls := "UpAndDownModel", name := "sure", desc := "(III)I" } : Jvm.MethodName)) ∈ lw_all := lw_g (lw_at lw_m8 180 rfl) rfl
theorem q2013 : (Jvm.Cond.methodLink "UpAndDownLaw" (129 : Nat) ({ cls := "UpAndDownModel", name := "fewest", desc := "(II)I" } : Jvm.MethodName)) ∈ lw_all := lw_g (lw_at lw_m8 212 rfl) rfl
theorem q2017 : (Jvm.Cond.methodLink "UpAndDownLaw" (133 : Nat) ({ cls := "UpAndDownModel", name := "left", desc := "(II)I" } : Jvm.MethodName)) ∈ lw_all := lw_g (lw_at lw_m8 216 rfl) rfl
theorem q2025 : (Jvm.Cond.methodLink "UpAndDownLaw" (137 : Nat) ({ cls := "UpAndDownModel", name := "rest", desc := "(II)I" } : Jvm.MethodName)) ∈ lw_all := lw_g (lw_at lw_m8 224 rfl) rfl
theorem q2033 : (Jvm.Cond.methodLink "UpAndDownLaw" (141 : Nat) ({ cls := "UpAndDownModel", name := "out", desc := "(III)I" } : Jvm.MethodName)) ∈ lw_all := lw_g (lw_at lw_m8 232 rfl) rfl
theorem q2037 : (Jvm.Cond.methodLink "UpAndDownLaw" (145 : Nat) ({ cls := "UpAndDownModel", name := "slip", desc := "(III)I" } : Jvm.MethodName)) ∈ lw_all := lw_g (lw_at lw_m8 236 rfl) rfl
theorem q2045 : (Jvm.Cond.methodLink "UpAndDownLaw" (149 : Nat) ({ cls := "UpAndDownModel", name := "fits", desc := "(II)I" } : Jvm.MethodName)) ∈ lw_all := lw_g (lw_at lw_m9 4 rfl) rfl
theorem q2049 : (Jvm.Cond.methodLink "UpAndDownLaw" (153 : Nat) ({ cls := "UpAndDownModel", name := "which", desc := "(II)I" } : Jvm.MethodName)) ∈ lw_all := lw_g (lw_at lw_m9 8 rfl) rfl
theorem q2053 : (Jvm.Cond.methodLink "UpAndDownLaw" (157 : Nat) ({ cls := "UpAndDownModel", name := "find", desc := "(II)I" } : Jvm.MethodName)) ∈ lw_all := lw_g (lw_at lw_m9 12 rfl) rfl
theorem q2065 : (Jvm.Cond.methodLink "UpAndDownLaw" (161 : Nat) ({ cls := "UpAndDownModel", name := "found", desc := "(III)I" } : Jvm.MethodName)) ∈ lw_all := lw_g (lw_at lw_m9 24 rfl) rfl
theorem q2069 : (Jvm.Cond.methodLink "UpAndDownLaw" (165 : Nat) ({ cls := "UpAndDownModel", name := "best", desc := "(II)I" } : Jvm.MethodName)) ∈ lw_all := lw_g (lw_at lw_m9 28 rfl) rfl
theorem q2073 : (Jvm.Cond.methodLink "UpAndDownLaw" (169 : Nat) ({ cls := "UpAndDownModel", name := "evening", desc := "(III)I" } : Jvm.MethodName)) ∈ lw_all := lw_g (lw_at lw_m9 32 rfl) rfl
theorem q2083 : (Jvm.Cond.methodLink "UpAndDownLaw" (173 : Nat) ({ cls := "UpAndDownModel", name := "judge", desc := "(I)I" } : Jvm.MethodName)) ∈ lw_all := lw_g (lw_at lw_m9 42 rfl) rfl
theorem q2087 : (Jvm.Cond.methodLink "UpAndDownLaw" (177 : Nat) ({ cls := "UpAndDownModel", name := "count", desc := "(I)I" } : Jvm.MethodName)) ∈ lw_all := lw_g (lw_at lw_m9 46 rfl) rfl
theorem q2091 : (Jvm.Cond.methodLink "UpAndDownLaw" (181 : Nat) ({ cls := "UpAndDownModel", name := "told", desc := "(I)I" } : Jvm.MethodName)) ∈ lw_all := lw_g (lw_at lw_m9 50 rfl) rfl
theorem q2095 : (Jvm.Cond.methodLink "UpAndDownLaw" (185 : Nat) ({ cls := "UpAndDownModel", name := "keep", desc := "(I)I" } : Jvm.MethodName)) ∈ lw_all := lw_g (lw_at lw_m9 54 rfl) rfl
theorem q2099 : (Jvm.Cond.methodLink "UpAndDownLaw" (189 : Nat) ({ cls := "UpAndDownModel", name := "restore", desc := "(I)I" } : Jvm.MethodName)) ∈ lw_all := lw_g (lw_at lw_m9 58 rfl) rfl
theorem q2103 : (Jvm.Cond.constantLong "UpAndDownLaw" (194 : Nat) (4294967295 : Int64)) ∈ lw_all := lw_g (lw_at lw_m9 62 rfl) rfl
theorem q131 : (Jvm.Cond.initialized "UpAndDown$Token") ∈ lw_all := lw_g (lw_at lw_m1 10 rfl) rfl
set_option maxRecDepth 100000
theorem q418 : (Jvm.Cond.laysStatic "UpAndDown$Token" "END" "LUpAndDown$Token;") ∈ lw_tbl := lw_at lw_m2 57 rfl
theorem q429 : (Jvm.Cond.laysStatic "UpAndDown$Token" "WORD" "LUpAndDown$Token;") ∈ lw_tbl := lw_at lw_m2 68 rfl
theorem q435 : (Jvm.Cond.laysStatic "UpAndDown$Token" "NUMBER" "LUpAndDown$Token;") ∈ lw_tbl := lw_at lw_m2 74 rfl
theorem q437 : (Jvm.Cond.laysStatic "UpAndDown$Token" "STOP" "LUpAndDown$Token;") ∈ lw_tbl := lw_at lw_m2 76 rfl
theorem q439 : (Jvm.Cond.laysStatic "UpAndDown$Token" "NONE" "LUpAndDown$Token;") ∈ lw_tbl := lw_at lw_m2 78 rfl
theorem q869 : (Jvm.Cond.selects "UpAndDown$Token" ({ cls := "java/lang/Object", name := "getClass", desc := "()Ljava/lang/Class;" } : Jvm.MethodName) ({ cls := "java/lang/Object", name := "getClass", desc := "()Ljava/lang/Class;" } : Jvm.MethodName)) ∈ lw_all := lw_g (lw_at lw_m4 28 rfl) rfl
theorem q2126 : (Jvm.Cond.castable "UpAndDown$Token" "java/lang/Object") ∈ lw_tbl := lw_at lw_m9 85 rfl
theorem q2153 : (Jvm.Cond.castable "[B" "java/lang/Object") ∈ lw_tbl := lw_at lw_m9 112 rfl
set_option maxRecDepth 100000
theorem q2150 : (Jvm.Cond.castable "[I" "java/lang/Object") ∈ lw_tbl := lw_at lw_m9 109 rfl
set_option maxRecDepth 100000
theorem q2157 : (Jvm.Cond.castable "[J" "java/lang/Object") ∈ lw_tbl := lw_at lw_m9 116 rfl
set_option maxRecDepth 100000
theorem q2152 : (Jvm.Cond.castable "[LUpAndDown$Slot;" "java/lang/Object") ∈ lw_tbl := lw_at lw_m9 111 rfl
set_option maxRecDepth 100000
theorem q2155 : (Jvm.Cond.castable "[LUpAndDown$Table;" "java/lang/Object") ∈ lw_tbl := lw_at lw_m9 114 rfl
set_option maxRecDepth 100000
theorem q2148 : (Jvm.Cond.castable "[LUpAndDown$Word;" "java/lang/Object") ∈ lw_tbl := lw_at lw_m9 107 rfl
set_option maxRecDepth 100000
theorem q2145 : (Jvm.Cond.sameMethod "[Ljava/lang/Object;" "java/lang/Object" "getClass" "()Ljava/lang/Class;") ∈ lw_all := lw_g (lw_at lw_m9 104 rfl) rfl
set_option maxRecDepth 100000
theorem q2146 : (Jvm.Cond.selects "[Ljava/lang/Object;" ({ cls := "java/lang/Object", name := "getClass", desc := "()Ljava/lang/Class;" } : Jvm.MethodName) ({ cls := "java/lang/Object", name := "getClass", desc := "()Ljava/lang/Class;" } : Jvm.MethodName)) ∈ lw_all := lw_g (lw_at lw_m9 105 rfl) rfl
theorem q2149 : (Jvm.Cond.castable "[Ljava/lang/Object;" "java/lang/Object") ∈ lw_tbl := lw_at lw_m9 108 rfl
theorem q2151 : (Jvm.Cond.castable "[Ljava/lang/String;" "java/lang/Object") ∈ lw_tbl := lw_at lw_m9 110 rfl
set_option maxRecDepth 100000
theorem q2156 : (Jvm.Cond.castable "[S" "java/lang/Object") ∈ lw_tbl := lw_at lw_m9 115 rfl
set_option maxRecDepth 100000
theorem q2154 : (Jvm.Cond.castable "[Z" "java/lang/Object") ∈ lw_tbl := lw_at lw_m9 113 rfl
set_option maxRecDepth 100000
theorem q130 : (Jvm.Cond.initialized "java/lang/Enum") ∈ lw_all := lw_g (lw_at lw_m1 9 rfl) rfl
set_option maxRecDepth 100000
theorem q157 : (Jvm.Cond.initialized "java/lang/Integer$IntegerCache") ∈ lw_all := lw_g (lw_at lw_m1 36 rfl) rfl
set_option maxRecDepth 100000
theorem q901 : (Jvm.Cond.laysStatic "java/lang/Integer$IntegerCache" "high" "I") ∈ lw_tbl := lw_at lw_m4 60 rfl
theorem q903 : (Jvm.Cond.laysStatic "java/lang/Integer$IntegerCache" "cache" "[Ljava/lang/Integer;") ∈ lw_tbl := lw_at lw_m4 62 rfl
theorem q154 : (Jvm.Cond.initialized "java/lang/System") ∈ lw_all := lw_g (lw_at lw_m1 33 rfl) rfl
set_option maxRecDepth 100000
theorem q887 : (Jvm.Cond.static ({ cls := "java/lang/System", name := "arraycopy", desc := "(Ljava/lang/Object;ILjava/lang/Object;II)V" } : Jvm.MethodName)) ∈ lw_all := lw_g (lw_at lw_m4 46 rfl) rfl
theorem q888 : (Jvm.Cond.native ({ cls := "java/lang/System", name := "arraycopy", desc := "(Ljava/lang/Object;ILjava/lang/Object;II)V" } : Jvm.MethodName)) ∈ lw_all := lw_g (lw_at lw_m4 47 rfl) rfl
theorem q1416 : (Jvm.Cond.interfaceMethod "java/util/Collection" "java/util/Collection" "toArray" "()[Ljava/lang/Object;") ∈ lw_tbl := lw_at lw_m6 95 rfl
set_option maxRecDepth 100000
theorem q1417 : (Jvm.Cond.declares ({ cls := "java/util/Collection", name := "toArray", desc := "()[Ljava/lang/Object;" } : Jvm.MethodName)) ∈ lw_tbl := lw_at lw_m6 96 rfl
theorem q175 : (Jvm.Cond.arrayOver (Jvm.ClassFile.FieldType.object "UpAndDown$Word")) ∈ lw_tbl := lw_at lw_m1 54 rfl
set_option maxRecDepth 100000
theorem q195 : (Jvm.Cond.arrayOver (Jvm.ClassFile.FieldType.object "java/lang/Object")) ∈ lw_tbl := lw_at lw_m1 74 rfl
theorem q210 : (Jvm.Cond.arrayClass Jvm.ClassFile.FieldType.int) ∈ lw_all := lw_g (lw_at lw_m1 89 rfl) rfl
theorem q262 : (Jvm.Cond.arrayOver (Jvm.ClassFile.FieldType.object "java/lang/String")) ∈ lw_tbl := lw_at lw_m1 141 rfl
theorem q279 : (Jvm.Cond.arrayOver (Jvm.ClassFile.FieldType.object "UpAndDown$Slot")) ∈ lw_tbl := lw_at lw_m1 158 rfl
theorem q290 : (Jvm.Cond.arrayClass Jvm.ClassFile.FieldType.byte) ∈ lw_all := lw_g (lw_at lw_m1 169 rfl) rfl
theorem q291 : (Jvm.Cond.arrayClass Jvm.ClassFile.FieldType.boolean) ∈ lw_all := lw_g (lw_at lw_m1 170 rfl) rfl
theorem q292 : (Jvm.Cond.arrayOver (Jvm.ClassFile.FieldType.object "UpAndDown$Table")) ∈ lw_tbl := lw_at lw_m1 171 rfl
theorem q1464 : (Jvm.Cond.arrayClass Jvm.ClassFile.FieldType.short) ∈ lw_all := lw_g (lw_at lw_m6 143 rfl) rfl
theorem q1465 : (Jvm.Cond.arrayClass Jvm.ClassFile.FieldType.long) ∈ lw_all := lw_g (lw_at lw_m6 144 rfl) rfl
/-! java/util/AbstractCollection -/
set_option maxRecDepth 100000
def RJ0 : String := "java/util/AbstractCollection"
abbrev cJ0_init : ByteArray := prog_46_method_1_code
def yJ0_init : MethodName := ⟨RJ0, "<init>", "()V"⟩
theorem dJ0_init_0 : decode cJ0_init 0 = .ok (.aload_n 0, 1) := by decide +kernel
theorem dJ0_init_1 : decode cJ0_init 1 = .ok (.invokespecial 1, 3) := by decide +kernel
theorem dJ0_init_4 : decode cJ0_init 4 = .ok (.return_, 1) := by decide +kernel
theorem q124 : (Jvm.Cond.initialized "java/util/AbstractCollection") ∈ lw_all := lw_g (lw_at lw_m1 3 rfl) rfl
theorem q191 : (Jvm.Cond.instanceMethod ({ cls := "java/util/AbstractCollection", name := "<init>", desc := "()V" } : Jvm.MethodName)) ∈ lw_all := lw_g (lw_at lw_m1 70 rfl) rfl
theorem q192 : (Jvm.Cond.code ({ cls := "java/util/AbstractCollection", name := "<init>", desc := "()V" } : Jvm.MethodName) prog_46_method_1_code (1 : Nat) (Option.none : Option Jvm.ClassFile.FieldType)) ∈ lw_all := lw_g (lw_at lw_m1 71 rfl) rfl
theorem q193 : (Jvm.Cond.methodLink "java/util/AbstractCollection" (1 : Nat) ({ cls := "java/lang/Object", name := "<init>", desc := "()V" } : Jvm.MethodName)) ∈ lw_all := lw_g (lw_at lw_m1 72 rfl) rfl
/-! java/util/AbstractList -/
set_option maxRecDepth 100000
def RJ1 : String := "java/util/AbstractList"
abbrev cJ1_init : ByteArray := prog_47_method_1_code
def yJ1_init : MethodName := ⟨RJ1, "<init>", "()V"⟩
def dkwJ1_init_0 : List UInt8 := [42, 183, 0, 1, 42, 3, 181, 0, 7, 177]
abbrev dktJ1_init_0 : List UInt8 := dkwJ1_init_0 ++ []
theorem dksJ1_init_0 : cJ1_init.data.toList.drop 0 = dktJ1_init_0 := by decide +kernel
theorem dJ1_init_0 : decode cJ1_init 0 = .ok (.aload_n 0, 1) := dk_42 (dk_at dksJ1_init_0 0 rfl rfl)
theorem dJ1_init_1 : decode cJ1_init 1 = .ok (.invokespecial 1, 3) := dk_183 0 1 (dk_at dksJ1_init_0 1 rfl rfl)
theorem dJ1_init_4 : decode cJ1_init 4 = .ok (.aload_n 0, 1) := dk_42 (dk_at dksJ1_init_0 4 rfl rfl)
theorem dJ1_init_5 : decode cJ1_init 5 = .ok (.iconst 0, 1) := dk_3 (dk_at dksJ1_init_0 5 rfl rfl)
theorem dJ1_init_6 : decode cJ1_init 6 = .ok (.putfield 7, 3) := dk_181 0 7 (dk_at dksJ1_init_0 6 rfl rfl)
theorem dJ1_init_9 : decode cJ1_init 9 = .ok (.return_, 1) := dk_177 (dk_at dksJ1_init_0 9 rfl rfl)
theorem q125 : (Jvm.Cond.initialized "java/util/AbstractList") ∈ lw_all := lw_g (lw_at lw_m1 4 rfl) rfl
theorem q188 : (Jvm.Cond.instanceMethod ({ cls := "java/util/AbstractList", name := "<init>", desc := "()V" } : Jvm.MethodName)) ∈ lw_all := lw_g (lw_at lw_m1 67 rfl) rfl
theorem q189 : (Jvm.Cond.code ({ cls := "java/util/AbstractList", name := "<init>", desc := "()V" } : Jvm.MethodName) prog_47_method_1_code (1 : Nat) (Option.none : Option Jvm.ClassFile.FieldType)) ∈ lw_all := lw_g (lw_at lw_m1 68 rfl) rfl
theorem q190 : (Jvm.Cond.methodLink "java/util/AbstractList" (1 : Nat) ({ cls := "java/util/AbstractCollection", name := "<init>", desc := "()V" } : Jvm.MethodName)) ∈ lw_all := lw_g (lw_at lw_m1 69 rfl) rfl
theorem q200 : (Jvm.Cond.fieldLink "java/util/AbstractList" (7 : Nat) "java/util/AbstractList" "modCount" "I") ∈ lw_all := lw_g (lw_at lw_m1 79 rfl) rfl
theorem q208 : (Jvm.Cond.soleField "java/util/AbstractList" "modCount") ∈ lw_all := lw_g (lw_at lw_m1 87 rfl) rfl
/-! jdk/internal/util/ArraysSupport -/
set_option maxRecDepth 100000
def RJ10 : String := "jdk/internal/util/ArraysSupport"
abbrev cJ10_newLength : ByteArray := prog_55_method_27_code
def yJ10_newLength : MethodName := ⟨RJ10, "newLength", "(III)I"⟩
def dkwJ10_newLength_1 : List UInt8 := [184, 0, 201, 172]
abbrev dktJ10_newLength_1 : List UInt8 := dkwJ10_newLength_1 ++ []
def dkwJ10_newLength_0 : List UInt8 := [26, 27, 28, 184, 0, 194, 96, 62, 3, 29, 162, 0, 11, 29, 18, 200, 163, 0, 5, 29, 172, 26, 27]
abbrev dktJ10_newLength_0 : List UInt8 := dkwJ10_newLength_0 ++ dktJ10_newLength_1
theorem dksJ10_newLength_0 : cJ10_newLength.data.toList.drop 0 = dktJ10_newLength_0 := by decide +kernel
theorem dksJ10_newLength_1 : cJ10_newLength.data.toList.drop 23 = dktJ10_newLength_1 := dk_seg dksJ10_newLength_0 23 rfl rfl
theorem dJ10_newLength_0 : decode cJ10_newLength 0 = .ok (.iload_n 0, 1) := dk_26 (dk_at dksJ10_newLength_0 0 rfl rfl)
theorem dJ10_newLength_1 : decode cJ10_newLength 1 = .ok (.iload_n 1, 1) := dk_27 (dk_at dksJ10_newLength_0 1 rfl rfl)
theorem dJ10_newLength_2 : decode cJ10_newLength 2 = .ok (.iload_n 2, 1) := dk_28 (dk_at dksJ10_newLength_0 2 rfl rfl)
theorem dJ10_newLength_3 : decode cJ10_newLength 3 = .ok (.invokestatic 194, 3) := dk_184 0 194 (dk_at dksJ10_newLength_0 3 rfl rfl)
theorem dJ10_newLength_6 : decode cJ10_newLength 6 = .ok (.iadd, 1) := dk_96 (dk_at dksJ10_newLength_0 6 rfl rfl)
theorem dJ10_newLength_7 : decode cJ10_newLength 7 = .ok (.istore_n 3, 1) := dk_62 (dk_at dksJ10_newLength_0 7 rfl rfl)
theorem dJ10_newLength_8 : decode cJ10_newLength 8 = .ok (.iconst 0, 1) := dk_3 (dk_at dksJ10_newLength_0 8 rfl rfl)
theorem dJ10_newLength_9 : decode cJ10_newLength 9 = .ok (.iload_n 3, 1) := dk_29 (dk_at dksJ10_newLength_0 9 rfl rfl)
theorem dJ10_newLength_10 : decode cJ10_newLength 10 = .ok (.if_icmp .ge 11, 3) := dk_162 0 11 (dk_at dksJ10_newLength_0 10 rfl rfl)
theorem dJ10_newLength_13 : decode cJ10_newLength 13 = .ok (.iload_n 3, 1) := dk_29 (dk_at dksJ10_newLength_0 13 rfl rfl)
theorem dJ10_newLength_14 : decode cJ10_newLength 14 = .ok (.ldc 200, 2) := dk_18 200 (dk_at dksJ10_newLength_0 14 rfl rfl)
theorem dJ10_newLength_16 : decode cJ10_newLength 16 = .ok (.if_icmp .gt 5, 3) := dk_163 0 5 (dk_at dksJ10_newLength_0 16 rfl rfl)
theorem dJ10_newLength_19 : decode cJ10_newLength 19 = .ok (.iload_n 3, 1) := dk_29 (dk_at dksJ10_newLength_0 19 rfl rfl)
theorem dJ10_newLength_20 : decode cJ10_newLength 20 = .ok (.ireturn, 1) := dk_172 (dk_at dksJ10_newLength_0 20 rfl rfl)
theorem dJ10_newLength_21 : decode cJ10_newLength 21 = .ok (.iload_n 0, 1) := dk_26 (dk_at dksJ10_newLength_0 21 rfl rfl)
theorem dJ10_newLength_22 : decode cJ10_newLength 22 = .ok (.iload_n 1, 1) := dk_27 (dk_at dksJ10_newLength_0 22 rfl rfl)
theorem dJ10_newLength_23 : decode cJ10_newLength 23 = .ok (.invokestatic 201, 3) := dk_184 0 201 (dk_at dksJ10_newLength_1 0 rfl rfl)
theorem dJ10_newLength_26 : decode cJ10_newLength 26 = .ok (.ireturn, 1) := dk_172 (dk_at dksJ10_newLength_1 3 rfl rfl)
abbrev cJ10_hugeLength : ByteArray := prog_55_method_28_code
def yJ10_hugeLength : MethodName := ⟨RJ10, "hugeLength", "(II)I"⟩
def dkwJ10_hugeLength_2 : List UInt8 := [191, 28, 18, 200, 163, 0, 6, 18, 200, 172, 28, 172]
abbrev dktJ10_hugeLength_2 : List UInt8 := dkwJ10_hugeLength_2 ++ []
def dkwJ10_hugeLength_1 : List UInt8 := [26, 182, 0, 98, 18, 208, 182, 0, 94, 27, 182, 0, 98, 18, 210, 182, 0, 94, 182, 0, 101, 183, 0, 212]
abbrev dktJ10_hugeLength_1 : List UInt8 := dkwJ10_hugeLength_1 ++ dktJ10_hugeLength_2
def dkwJ10_hugeLength_0 : List UInt8 := [26, 27, 96, 61, 28, 156, 0, 44, 187, 0, 204, 89, 187, 0, 89, 89, 183, 0, 91, 18, 206, 182, 0, 94]
abbrev dktJ10_hugeLength_0 : List UInt8 := dkwJ10_hugeLength_0 ++ dktJ10_hugeLength_1
theorem dksJ10_hugeLength_0 : cJ10_hugeLength.data.toList.drop 0 = dktJ10_hugeLength_0 := by decide +kernel
theorem dksJ10_hugeLength_1 : cJ10_hugeLength.data.toList.drop 24 = dktJ10_hugeLength_1 := dk_seg dksJ10_hugeLength_0 24 rfl rfl
theorem dksJ10_hugeLength_2 : cJ10_hugeLength.data.toList.drop 48 = dktJ10_hugeLength_2 := dk_seg dksJ10_hugeLength_1 24 rfl rfl
theorem dJ10_hugeLength_0 : decode cJ10_hugeLength 0 = .ok (.iload_n 0, 1) := dk_26 (dk_at dksJ10_hugeLength_0 0 rfl rfl)
theorem dJ10_hugeLength_1 : decode cJ10_hugeLength 1 = .ok (.iload_n 1, 1) := dk_27 (dk_at dksJ10_hugeLength_0 1 rfl rfl)
theorem dJ10_hugeLength_2 : decode cJ10_hugeLength 2 = .ok (.iadd, 1) := dk_96 (dk_at dksJ10_hugeLength_0 2 rfl rfl)
theorem dJ10_hugeLength_3 : decode cJ10_hugeLength 3 = .ok (.istore_n 2, 1) := dk_61 (dk_at dksJ10_hugeLength_0 3 rfl rfl)
theorem dJ10_hugeLength_4 : decode cJ10_hugeLength 4 = .ok (.iload_n 2, 1) := dk_28 (dk_at dksJ10_hugeLength_0 4 rfl rfl)
theorem dJ10_hugeLength_5 : decode cJ10_hugeLength 5 = .ok (.ifCond .ge 44, 3) := dk_156 0 44 (dk_at dksJ10_hugeLength_0 5 rfl rfl)
theorem dJ10_hugeLength_8 : decode cJ10_hugeLength 8 = .ok (.new 204, 3) := dk_187 0 204 (dk_at dksJ10_hugeLength_0 8 rfl rfl)
theorem dJ10_hugeLength_11 : decode cJ10_hugeLength 11 = .ok (.dup, 1) := dk_89 (dk_at dksJ10_hugeLength_0 11 rfl rfl)
theorem dJ10_hugeLength_12 : decode cJ10_hugeLength 12 = .ok (.new 89, 3) := dk_187 0 89 (dk_at dksJ10_hugeLength_0 12 rfl rfl)
theorem dJ10_hugeLength_15 : decode cJ10_hugeLength 15 = .ok (.dup, 1) := dk_89 (dk_at dksJ10_hugeLength_0 15 rfl rfl)
theorem dJ10_hugeLength_16 : decode cJ10_hugeLength 16 = .ok (.invokespecial 91, 3) := dk_183 0 91 (dk_at dksJ10_hugeLength_0 16 rfl rfl)
theorem dJ10_hugeLength_19 : decode cJ10_hugeLength 19 = .ok (.ldc 206, 2) := dk_18 206 (dk_at dksJ10_hugeLength_0 19 rfl rfl)
theorem dJ10_hugeLength_21 : decode cJ10_hugeLength 21 = .ok (.invokevirtual 94, 3) := dk_182 0 94 (dk_at dksJ10_hugeLength_0 21 rfl rfl)
theorem dJ10_hugeLength_24 : decode cJ10_hugeLength 24 = .ok (.iload_n 0, 1) := dk_26 (dk_at dksJ10_hugeLength_1 0 rfl rfl)
theorem dJ10_hugeLength_25 : decode cJ10_hugeLength 25 = .ok (.invokevirtual 98, 3) := dk_182 0 98 (dk_at dksJ10_hugeLength_1 1 rfl rfl)
theorem dJ10_hugeLength_28 : decode cJ10_hugeLength 28 = .ok (.ldc 208, 2) := dk_18 208 (dk_at dksJ10_hugeLength_1 4 rfl rfl)
theorem dJ10_hugeLength_30 : decode cJ10_hugeLength 30 = .ok (.invokevirtual 94, 3) := dk_182 0 94 (dk_at dksJ10_hugeLength_1 6 rfl rfl)
theorem dJ10_hugeLength_33 : decode cJ10_hugeLength 33 = .ok (.iload_n 1, 1) := dk_27 (dk_at dksJ10_hugeLength_1 9 rfl rfl)
theorem dJ10_hugeLength_34 : decode cJ10_hugeLength 34 = .ok (.invokevirtual 98, 3) := dk_182 0 98 (dk_at dksJ10_hugeLength_1 10 rfl rfl)
theorem dJ10_hugeLength_37 : decode cJ10_hugeLength 37 = .ok (.ldc 210, 2) := dk_18 210 (dk_at dksJ10_hugeLength_1 13 rfl rfl)
theorem dJ10_hugeLength_39 : decode cJ10_hugeLength 39 = .ok (.invokevirtual 94, 3) := dk_182 0 94 (dk_at dksJ10_hugeLength_1 15 rfl rfl)
theorem dJ10_hugeLength_42 : decode cJ10_hugeLength 42 = .ok (.invokevirtual 101, 3) := dk_182 0 101 (dk_at dksJ10_hugeLength_1 18 rfl rfl)
theorem dJ10_hugeLength_45 : decode cJ10_hugeLength 45 = .ok (.invokespecial 212, 3) := dk_183 0 212 (dk_at dksJ10_hugeLength_1 21 rfl rfl)
theorem dJ10_hugeLength_48 : decode cJ10_hugeLength 48 = .ok (.athrow, 1) := dk_191 (dk_at dksJ10_hugeLength_2 0 rfl rfl)
theorem dJ10_hugeLength_49 : decode cJ10_hugeLength 49 = .ok (.iload_n 2, 1) := dk_28 (dk_at dksJ10_hugeLength_2 1 rfl rfl)
theorem dJ10_hugeLength_50 : decode cJ10_hugeLength 50 = .ok (.ldc 200, 2) := dk_18 200 (dk_at dksJ10_hugeLength_2 2 rfl rfl)
theorem dJ10_hugeLength_52 : decode cJ10_hugeLength 52 = .ok (.if_icmp .gt 6, 3) := dk_163 0 6 (dk_at dksJ10_hugeLength_2 4 rfl rfl)
theorem dJ10_hugeLength_55 : decode cJ10_hugeLength 55 = .ok (.ldc 200, 2) := dk_18 200 (dk_at dksJ10_hugeLength_2 7 rfl rfl)
theorem dJ10_hugeLength_57 : decode cJ10_hugeLength 57 = .ok (.ireturn, 1) := dk_172 (dk_at dksJ10_hugeLength_2 9 rfl rfl)
theorem dJ10_hugeLength_58 : decode cJ10_hugeLength 58 = .ok (.iload_n 2, 1) := dk_28 (dk_at dksJ10_hugeLength_2 10 rfl rfl)
theorem dJ10_hugeLength_59 : decode cJ10_hugeLength 59 = .ok (.ireturn, 1) := dk_172 (dk_at dksJ10_hugeLength_2 11 rfl rfl)
theorem q152 : (Jvm.Cond.initialized "jdk/internal/util/ArraysSupport") ∈ lw_all := lw_g (lw_at lw_m1 31 rfl) rfl
theorem q840 : (Jvm.Cond.static ({ cls := "jdk/internal/util/ArraysSupport", name := "newLength", desc := "(III)I" } : Jvm.MethodName)) ∈ lw_all := lw_g (lw_at lw_m3 239 rfl) rfl
theorem q841 : (Jvm.Cond.code ({ cls := "jdk/internal/util/ArraysSupport", name := "newLength", desc := "(III)I" } : Jvm.MethodName) prog_55_method_27_code (4 : Nat) (Option.some Jvm.ClassFile.FieldType.int)) ∈ lw_all := lw_g (lw_at lw_m4 0 rfl) rfl
theorem q842 : (Jvm.Cond.methodLink "jdk/internal/util/ArraysSupport" (194 : Nat) ({ cls := "java/lang/Math", name := "max", desc := "(II)I" } : Jvm.MethodName)) ∈ lw_all := lw_g (lw_at lw_m4 1 rfl) rfl
theorem q845 : (Jvm.Cond.constant "jdk/internal/util/ArraysSupport" (200 : Nat) (2147483639 : Int32)) ∈ lw_all := lw_g (lw_at lw_m4 4 rfl) rfl
theorem q846 : (Jvm.Cond.methodLink "jdk/internal/util/ArraysSupport" (201 : Nat) ({ cls := "jdk/internal/util/ArraysSupport", name := "hugeLength", desc := "(II)I" } : Jvm.MethodName)) ∈ lw_all := lw_g (lw_at lw_m4 5 rfl) rfl
theorem q847 : (Jvm.Cond.static ({ cls := "jdk/internal/util/ArraysSupport", name := "hugeLength", desc := "(II)I" } : Jvm.MethodName)) ∈ lw_all := lw_g (lw_at lw_m4 6 rfl) rfl
theorem q848 : (Jvm.Cond.code ({ cls := "jdk/internal/util/ArraysSupport", name := "hugeLength", desc := "(II)I" } : Jvm.MethodName) prog_55_method_28_code (3 : Nat) (Option.some Jvm.ClassFile.FieldType.int)) ∈ lw_all := lw_g (lw_at lw_m4 7 rfl) rfl
/-! java/util/Arrays -/
set_option maxRecDepth 100000
def RJ11 : String := "java/util/Arrays"
abbrev cJ11_copyOf : ByteArray := prog_49_method_119_code
def yJ11_copyOf : MethodName := ⟨RJ11, "copyOf", "([Ljava/lang/Object;I)[Ljava/lang/Object;"⟩
def dkwJ11_copyOf_0 : List UInt8 := [42, 27, 42, 182, 0, 86, 184, 1, 44, 176]
abbrev dktJ11_copyOf_0 : List UInt8 := dkwJ11_copyOf_0 ++ []
theorem dksJ11_copyOf_0 : cJ11_copyOf.data.toList.drop 0 = dktJ11_copyOf_0 := by decide +kernel
theorem dJ11_copyOf_0 : decode cJ11_copyOf 0 = .ok (.aload_n 0, 1) := dk_42 (dk_at dksJ11_copyOf_0 0 rfl rfl)
theorem dJ11_copyOf_1 : decode cJ11_copyOf 1 = .ok (.iload_n 1, 1) := dk_27 (dk_at dksJ11_copyOf_0 1 rfl rfl)
theorem dJ11_copyOf_2 : decode cJ11_copyOf 2 = .ok (.aload_n 0, 1) := dk_42 (dk_at dksJ11_copyOf_0 2 rfl rfl)
theorem dJ11_copyOf_3 : decode cJ11_copyOf 3 = .ok (.invokevirtual 86, 3) := dk_182 0 86 (dk_at dksJ11_copyOf_0 3 rfl rfl)
theorem dJ11_copyOf_6 : decode cJ11_copyOf 6 = .ok (.invokestatic 300, 3) := dk_184 1 44 (dk_at dksJ11_copyOf_0 6 rfl rfl)
theorem dJ11_copyOf_9 : decode cJ11_copyOf 9 = .ok (.areturn, 1) := dk_176 (dk_at dksJ11_copyOf_0 9 rfl rfl)
abbrev cJ11_copyOf_2 : ByteArray := prog_49_method_120_code
def yJ11_copyOf_2 : MethodName := ⟨RJ11, "copyOf", "([Ljava/lang/Object;ILjava/lang/Class;)[Ljava/lang/Object;"⟩
def dkwJ11_copyOf_2_1 : List UInt8 := [78, 42, 3, 45, 3, 42, 190, 27, 184, 1, 48, 184, 0, 150, 45, 176]
abbrev dktJ11_copyOf_2_1 : List UInt8 := dkwJ11_copyOf_2_1 ++ []
def dkwJ11_copyOf_2_0 : List UInt8 := [44, 18, 110, 166, 0, 10, 27, 189, 0, 2, 167, 0, 14, 44, 182, 0, 90, 27, 184, 0, 95, 192, 0, 110]
abbrev dktJ11_copyOf_2_0 : List UInt8 := dkwJ11_copyOf_2_0 ++ dktJ11_copyOf_2_1
theorem dksJ11_copyOf_2_0 : cJ11_copyOf_2.data.toList.drop 0 = dktJ11_copyOf_2_0 := by decide +kernel
theorem dksJ11_copyOf_2_1 : cJ11_copyOf_2.data.toList.drop 24 = dktJ11_copyOf_2_1 := dk_seg dksJ11_copyOf_2_0 24 rfl rfl
theorem dJ11_copyOf_2_0 : decode cJ11_copyOf_2 0 = .ok (.aload_n 2, 1) := dk_44 (dk_at dksJ11_copyOf_2_0 0 rfl rfl)
theorem dJ11_copyOf_2_1 : decode cJ11_copyOf_2 1 = .ok (.ldc 110, 2) := dk_18 110 (dk_at dksJ11_copyOf_2_0 1 rfl rfl)
theorem dJ11_copyOf_2_3 : decode cJ11_copyOf_2 3 = .ok (.if_acmp .ne 10, 3) := dk_166 0 10 (dk_at dksJ11_copyOf_2_0 3 rfl rfl)
theorem dJ11_copyOf_2_6 : decode cJ11_copyOf_2 6 = .ok (.iload_n 1, 1) := dk_27 (dk_at dksJ11_copyOf_2_0 6 rfl rfl)
theorem dJ11_copyOf_2_7 : decode cJ11_copyOf_2 7 = .ok (.anewarray 2, 3) := dk_189 0 2 (dk_at dksJ11_copyOf_2_0 7 rfl rfl)
theorem dJ11_copyOf_2_10 : decode cJ11_copyOf_2 10 = .ok (.goto 14, 3) := dk_167 0 14 (dk_at dksJ11_copyOf_2_0 10 rfl rfl)
theorem dJ11_copyOf_2_13 : decode cJ11_copyOf_2 13 = .ok (.aload_n 2, 1) := dk_44 (dk_at dksJ11_copyOf_2_0 13 rfl rfl)
theorem dJ11_copyOf_2_14 : decode cJ11_copyOf_2 14 = .ok (.invokevirtual 90, 3) := dk_182 0 90 (dk_at dksJ11_copyOf_2_0 14 rfl rfl)
theorem dJ11_copyOf_2_17 : decode cJ11_copyOf_2 17 = .ok (.iload_n 1, 1) := dk_27 (dk_at dksJ11_copyOf_2_0 17 rfl rfl)
theorem dJ11_copyOf_2_18 : decode cJ11_copyOf_2 18 = .ok (.invokestatic 95, 3) := dk_184 0 95 (dk_at dksJ11_copyOf_2_0 18 rfl rfl)
theorem dJ11_copyOf_2_21 : decode cJ11_copyOf_2 21 = .ok (.checkcast 110, 3) := dk_192 0 110 (dk_at dksJ11_copyOf_2_0 21 rfl rfl)
theorem dJ11_copyOf_2_24 : decode cJ11_copyOf_2 24 = .ok (.astore_n 3, 1) := dk_78 (dk_at dksJ11_copyOf_2_1 0 rfl rfl)
theorem dJ11_copyOf_2_25 : decode cJ11_copyOf_2 25 = .ok (.aload_n 0, 1) := dk_42 (dk_at dksJ11_copyOf_2_1 1 rfl rfl)
theorem dJ11_copyOf_2_26 : decode cJ11_copyOf_2 26 = .ok (.iconst 0, 1) := dk_3 (dk_at dksJ11_copyOf_2_1 2 rfl rfl)
theorem dJ11_copyOf_2_27 : decode cJ11_copyOf_2 27 = .ok (.aload_n 3, 1) := dk_45 (dk_at dksJ11_copyOf_2_1 3 rfl rfl)
theorem dJ11_copyOf_2_28 : decode cJ11_copyOf_2 28 = .ok (.iconst 0, 1) := dk_3 (dk_at dksJ11_copyOf_2_1 4 rfl rfl)
theorem dJ11_copyOf_2_29 : decode cJ11_copyOf_2 29 = .ok (.aload_n 0, 1) := dk_42 (dk_at dksJ11_copyOf_2_1 5 rfl rfl)
theorem dJ11_copyOf_2_30 : decode cJ11_copyOf_2 30 = .ok (.arraylength, 1) := dk_190 (dk_at dksJ11_copyOf_2_1 6 rfl rfl)
theorem dJ11_copyOf_2_31 : decode cJ11_copyOf_2 31 = .ok (.iload_n 1, 1) := dk_27 (dk_at dksJ11_copyOf_2_1 7 rfl rfl)
theorem dJ11_copyOf_2_32 : decode cJ11_copyOf_2 32 = .ok (.invokestatic 304, 3) := dk_184 1 48 (dk_at dksJ11_copyOf_2_1 8 rfl rfl)
theorem dJ11_copyOf_2_35 : decode cJ11_copyOf_2 35 = .ok (.invokestatic 150, 3) := dk_184 0 150 (dk_at dksJ11_copyOf_2_1 11 rfl rfl)
theorem dJ11_copyOf_2_38 : decode cJ11_copyOf_2 38 = .ok (.aload_n 3, 1) := dk_45 (dk_at dksJ11_copyOf_2_1 14 rfl rfl)
theorem dJ11_copyOf_2_39 : decode cJ11_copyOf_2 39 = .ok (.areturn, 1) := dk_176 (dk_at dksJ11_copyOf_2_1 15 rfl rfl)
theorem q153 : (Jvm.Cond.initialized "java/util/Arrays") ∈ lw_all := lw_g (lw_at lw_m1 32 rfl) rfl
theorem q850 : (Jvm.Cond.static ({ cls := "java/util/Arrays", name := "copyOf", desc := "([Ljava/lang/Object;I)[Ljava/lang/Object;" } : Jvm.MethodName)) ∈ lw_all := lw_g (lw_at lw_m4 9 rfl) rfl
theorem q851 : (Jvm.Cond.code ({ cls := "java/util/Arrays", name := "copyOf", desc := "([Ljava/lang/Object;I)[Ljava/lang/Object;" } : Jvm.MethodName) prog_49_method_119_code (2 : Nat) (Option.some (Jvm.ClassFile.FieldType.array (Jvm.ClassFile.FieldType.object "java/lang/Object")))) ∈ lw_all := lw_g (lw_at lw_m4 10 rfl) rfl
theorem q852 : (Jvm.Cond.methodLink "java/util/Arrays" (86 : Nat) ({ cls := "java/lang/Object", name := "getClass", desc := "()Ljava/lang/Class;" } : Jvm.MethodName)) ∈ lw_all := lw_g (lw_at lw_m4 11 rfl) rfl
theorem q880 : (Jvm.Cond.methodLink "java/util/Arrays" (300 : Nat) ({ cls := "java/util/Arrays", name := "copyOf", desc := "([Ljava/lang/Object;ILjava/lang/Class;)[Ljava/lang/Object;" } : Jvm.MethodName)) ∈ lw_all := lw_g (lw_at lw_m4 39 rfl) rfl
theorem q881 : (Jvm.Cond.static ({ cls := "java/util/Arrays", name := "copyOf", desc := "([Ljava/lang/Object;ILjava/lang/Class;)[Ljava/lang/Object;" } : Jvm.MethodName)) ∈ lw_all := lw_g (lw_at lw_m4 40 rfl) rfl
theorem q882 : (Jvm.Cond.code ({ cls := "java/util/Arrays", name := "copyOf", desc := "([Ljava/lang/Object;ILjava/lang/Class;)[Ljava/lang/Object;" } : Jvm.MethodName) prog_49_method_120_code (4 : Nat) (Option.some (Jvm.ClassFile.FieldType.array (Jvm.ClassFile.FieldType.object "java/lang/Object")))) ∈ lw_all := lw_g (lw_at lw_m4 41 rfl) rfl
theorem q883 : (Jvm.Cond.classLink "java/util/Arrays" (110 : Nat) "[Ljava/lang/Object;") ∈ lw_all := lw_g (lw_at lw_m4 42 rfl) rfl
theorem q884 : (Jvm.Cond.classLink "java/util/Arrays" (2 : Nat) "java/lang/Object") ∈ lw_all := lw_g (lw_at lw_m4 43 rfl) rfl
theorem q885 : (Jvm.Cond.methodLink "java/util/Arrays" (304 : Nat) ({ cls := "java/lang/Math", name := "min", desc := "(II)I" } : Jvm.MethodName)) ∈ lw_all := lw_g (lw_at lw_m4 44 rfl) rfl
theorem q886 : (Jvm.Cond.methodLink "java/util/Arrays" (150 : Nat) ({ cls := "java/lang/System", name := "arraycopy", desc := "(Ljava/lang/Object;ILjava/lang/Object;II)V" } : Jvm.MethodName)) ∈ lw_all := lw_g (lw_at lw_m4 45 rfl) rfl
/-! java/lang/Number -/
set_option maxRecDepth 100000
def RJ12 : String := "java/lang/Number"
abbrev cJ12_init : ByteArray := prog_37_method_1_code
def yJ12_init : MethodName := ⟨RJ12, "<init>", "()V"⟩
theorem dJ12_init_0 : decode cJ12_init 0 = .ok (.aload_n 0, 1) := by decide +kernel
theorem dJ12_init_1 : decode cJ12_init 1 = .ok (.invokespecial 1, 3) := by decide +kernel
theorem dJ12_init_4 : decode cJ12_init 4 = .ok (.return_, 1) := by decide +kernel
theorem q155 : (Jvm.Cond.initialized "java/lang/Number") ∈ lw_all := lw_g (lw_at lw_m1 34 rfl) rfl
theorem q910 : (Jvm.Cond.instanceMethod ({ cls := "java/lang/Number", name := "<init>", desc := "()V" } : Jvm.MethodName)) ∈ lw_all := lw_g (lw_at lw_m4 69 rfl) rfl
theorem q911 : (Jvm.Cond.code ({ cls := "java/lang/Number", name := "<init>", desc := "()V" } : Jvm.MethodName) prog_37_method_1_code (1 : Nat) (Option.none : Option Jvm.ClassFile.FieldType)) ∈ lw_all := lw_g (lw_at lw_m4 70 rfl) rfl
theorem q912 : (Jvm.Cond.methodLink "java/lang/Number" (1 : Nat) ({ cls := "java/lang/Object", name := "<init>", desc := "()V" } : Jvm.MethodName)) ∈ lw_all := lw_g (lw_at lw_m4 71 rfl) rfl
/-! java/lang/Integer -/
set_option maxRecDepth 100000
def RJ13 : String := "java/lang/Integer"
def TJ13 : u_T := fun k => match k with
  | _ => ("java/lang/Integer", "value", "I", true)
def tyJ13 : Nat → FieldType := fun k => match k with
  | _ => .int
abbrev wsJ130 : List Cond := u_ws RJ13 TJ13 1
theorem nmJ13 : ∀ a, a < 1 → ∀ b, b < 1 → a ≠ b → (TJ13 a).2.1 ≠ (TJ13 b).2.1 := by decide +kernel
theorem tyJ13_ok : ∀ k, k < 1 → parseFieldDescriptor (TJ13 k).2.2.1 = some (tyJ13 k) := by decide +kernel
abbrev cJ13_valueOf : ByteArray := prog_31_method_22_code
def yJ13_valueOf : MethodName := ⟨RJ13, "valueOf", "(I)Ljava/lang/Integer;"⟩
def dkwJ13_valueOf_1 : List UInt8 := [187, 0, 1, 89, 26, 183, 0, 199, 176]
abbrev dktJ13_valueOf_1 : List UInt8 := dkwJ13_valueOf_1 ++ []
def dkwJ13_valueOf_0 : List UInt8 := [26, 16, 128, 161, 0, 20, 26, 178, 0, 191, 163, 0, 13, 178, 0, 195, 26, 17, 0, 128, 96, 50, 176]
abbrev dktJ13_valueOf_0 : List UInt8 := dkwJ13_valueOf_0 ++ dktJ13_valueOf_1
theorem dksJ13_valueOf_0 : cJ13_valueOf.data.toList.drop 0 = dktJ13_valueOf_0 := by decide +kernel
theorem dksJ13_valueOf_1 : cJ13_valueOf.data.toList.drop 23 = dktJ13_valueOf_1 := dk_seg dksJ13_valueOf_0 23 rfl rfl
theorem dJ13_valueOf_0 : decode cJ13_valueOf 0 = .ok (.iload_n 0, 1) := dk_26 (dk_at dksJ13_valueOf_0 0 rfl rfl)
theorem dJ13_valueOf_1 : decode cJ13_valueOf 1 = .ok (.bipush (-128), 2) := dk_16 128 (dk_at dksJ13_valueOf_0 1 rfl rfl)
theorem dJ13_valueOf_3 : decode cJ13_valueOf 3 = .ok (.if_icmp .lt 20, 3) := dk_161 0 20 (dk_at dksJ13_valueOf_0 3 rfl rfl)
theorem dJ13_valueOf_6 : decode cJ13_valueOf 6 = .ok (.iload_n 0, 1) := dk_26 (dk_at dksJ13_valueOf_0 6 rfl rfl)
theorem dJ13_valueOf_7 : decode cJ13_valueOf 7 = .ok (.getstatic 191, 3) := dk_178 0 191 (dk_at dksJ13_valueOf_0 7 rfl rfl)
theorem dJ13_valueOf_10 : decode cJ13_valueOf 10 = .ok (.if_icmp .gt 13, 3) := dk_163 0 13 (dk_at dksJ13_valueOf_0 10 rfl rfl)
theorem dJ13_valueOf_13 : decode cJ13_valueOf 13 = .ok (.getstatic 195, 3) := dk_178 0 195 (dk_at dksJ13_valueOf_0 13 rfl rfl)
theorem dJ13_valueOf_16 : decode cJ13_valueOf 16 = .ok (.iload_n 0, 1) := dk_26 (dk_at dksJ13_valueOf_0 16 rfl rfl)
theorem dJ13_valueOf_17 : decode cJ13_valueOf 17 = .ok (.sipush 128, 3) := dk_17 0 128 (dk_at dksJ13_valueOf_0 17 rfl rfl)
theorem dJ13_valueOf_20 : decode cJ13_valueOf 20 = .ok (.iadd, 1) := dk_96 (dk_at dksJ13_valueOf_0 20 rfl rfl)
theorem dJ13_valueOf_21 : decode cJ13_valueOf 21 = .ok (.aaload, 1) := dk_50 (dk_at dksJ13_valueOf_0 21 rfl rfl)
theorem dJ13_valueOf_22 : decode cJ13_valueOf 22 = .ok (.areturn, 1) := dk_176 (dk_at dksJ13_valueOf_0 22 rfl rfl)
theorem dJ13_valueOf_23 : decode cJ13_valueOf 23 = .ok (.new 1, 3) := dk_187 0 1 (dk_at dksJ13_valueOf_1 0 rfl rfl)
theorem dJ13_valueOf_26 : decode cJ13_valueOf 26 = .ok (.dup, 1) := dk_89 (dk_at dksJ13_valueOf_1 3 rfl rfl)
theorem dJ13_valueOf_27 : decode cJ13_valueOf 27 = .ok (.iload_n 0, 1) := dk_26 (dk_at dksJ13_valueOf_1 4 rfl rfl)
theorem dJ13_valueOf_28 : decode cJ13_valueOf 28 = .ok (.invokespecial 199, 3) := dk_183 0 199 (dk_at dksJ13_valueOf_1 5 rfl rfl)
theorem dJ13_valueOf_31 : decode cJ13_valueOf 31 = .ok (.areturn, 1) := dk_176 (dk_at dksJ13_valueOf_1 8 rfl rfl)
abbrev cJ13_init : ByteArray := prog_31_method_23_code
def yJ13_init : MethodName := ⟨RJ13, "<init>", "(I)V"⟩
def dkwJ13_init_0 : List UInt8 := [42, 183, 0, 202, 42, 27, 181, 0, 205, 177]
abbrev dktJ13_init_0 : List UInt8 := dkwJ13_init_0 ++ []
theorem dksJ13_init_0 : cJ13_init.data.toList.drop 0 = dktJ13_init_0 := by decide +kernel
theorem dJ13_init_0 : decode cJ13_init 0 = .ok (.aload_n 0, 1) := dk_42 (dk_at dksJ13_init_0 0 rfl rfl)
theorem dJ13_init_1 : decode cJ13_init 1 = .ok (.invokespecial 202, 3) := dk_183 0 202 (dk_at dksJ13_init_0 1 rfl rfl)
theorem dJ13_init_4 : decode cJ13_init 4 = .ok (.aload_n 0, 1) := dk_42 (dk_at dksJ13_init_0 4 rfl rfl)
theorem dJ13_init_5 : decode cJ13_init 5 = .ok (.iload_n 1, 1) := dk_27 (dk_at dksJ13_init_0 5 rfl rfl)
theorem dJ13_init_6 : decode cJ13_init 6 = .ok (.putfield 205, 3) := dk_181 0 205 (dk_at dksJ13_init_0 6 rfl rfl)
theorem dJ13_init_9 : decode cJ13_init 9 = .ok (.return_, 1) := dk_177 (dk_at dksJ13_init_0 9 rfl rfl)
abbrev cJ13_intValue : ByteArray := prog_31_method_27_code
def yJ13_intValue : MethodName := ⟨RJ13, "intValue", "()I"⟩
theorem dJ13_intValue_0 : decode cJ13_intValue 0 = .ok (.aload_n 0, 1) := by decide +kernel
theorem dJ13_intValue_1 : decode cJ13_intValue 1 = .ok (.getfield 205, 3) := by decide +kernel
theorem dJ13_intValue_4 : decode cJ13_intValue 4 = .ok (.ireturn, 1) := by decide +kernel
abbrev cJ13_bitCount : ByteArray := prog_31_method_49_code
def yJ13_bitCount : MethodName := ⟨RJ13, "bitCount", "(I)I"⟩
def dkwJ13_bitCount_2 : List UInt8 := [26, 16, 63, 126, 172]
abbrev dktJ13_bitCount_2 : List UInt8 := dkwJ13_bitCount_2 ++ []
def dkwJ13_bitCount_1 : List UInt8 := [26, 26, 7, 124, 96, 19, 1, 11, 126, 59, 26, 26, 16, 8, 124, 96, 59, 26, 26, 16, 16, 124, 96, 59]
abbrev dktJ13_bitCount_1 : List UInt8 := dkwJ13_bitCount_1 ++ dktJ13_bitCount_2
def dkwJ13_bitCount_0 : List UInt8 := [26, 26, 4, 124, 19, 1, 9, 126, 100, 59, 26, 19, 1, 10, 126, 26, 5, 124, 19, 1, 10, 126, 96, 59]
abbrev dktJ13_bitCount_0 : List UInt8 := dkwJ13_bitCount_0 ++ dktJ13_bitCount_1
theorem dksJ13_bitCount_0 : cJ13_bitCount.data.toList.drop 0 = dktJ13_bitCount_0 := by decide +kernel
theorem dksJ13_bitCount_1 : cJ13_bitCount.data.toList.drop 24 = dktJ13_bitCount_1 := dk_seg dksJ13_bitCount_0 24 rfl rfl
theorem dksJ13_bitCount_2 : cJ13_bitCount.data.toList.drop 48 = dktJ13_bitCount_2 := dk_seg dksJ13_bitCount_1 24 rfl rfl
theorem dJ13_bitCount_0 : decode cJ13_bitCount 0 = .ok (.iload_n 0, 1) := dk_26 (dk_at dksJ13_bitCount_0 0 rfl rfl)
theorem dJ13_bitCount_1 : decode cJ13_bitCount 1 = .ok (.iload_n 0, 1) := dk_26 (dk_at dksJ13_bitCount_0 1 rfl rfl)
theorem dJ13_bitCount_2 : decode cJ13_bitCount 2 = .ok (.iconst 1, 1) := dk_4 (dk_at dksJ13_bitCount_0 2 rfl rfl)
theorem dJ13_bitCount_3 : decode cJ13_bitCount 3 = .ok (.iushr, 1) := dk_124 (dk_at dksJ13_bitCount_0 3 rfl rfl)
theorem dJ13_bitCount_4 : decode cJ13_bitCount 4 = .ok (.ldc_w 265, 3) := dk_19 1 9 (dk_at dksJ13_bitCount_0 4 rfl rfl)
theorem dJ13_bitCount_7 : decode cJ13_bitCount 7 = .ok (.iand, 1) := dk_126 (dk_at dksJ13_bitCount_0 7 rfl rfl)
theorem dJ13_bitCount_8 : decode cJ13_bitCount 8 = .ok (.isub, 1) := dk_100 (dk_at dksJ13_bitCount_0 8 rfl rfl)
theorem dJ13_bitCount_9 : decode cJ13_bitCount 9 = .ok (.istore_n 0, 1) := dk_59 (dk_at dksJ13_bitCount_0 9 rfl rfl)
theorem dJ13_bitCount_10 : decode cJ13_bitCount 10 = .ok (.iload_n 0, 1) := dk_26 (dk_at dksJ13_bitCount_0 10 rfl rfl)
theorem dJ13_bitCount_11 : decode cJ13_bitCount 11 = .ok (.ldc_w 266, 3) := dk_19 1 10 (dk_at dksJ13_bitCount_0 11 rfl rfl)
theorem dJ13_bitCount_14 : decode cJ13_bitCount 14 = .ok (.iand, 1) := dk_126 (dk_at dksJ13_bitCount_0 14 rfl rfl)
theorem dJ13_bitCount_15 : decode cJ13_bitCount 15 = .ok (.iload_n 0, 1) := dk_26 (dk_at dksJ13_bitCount_0 15 rfl rfl)
theorem dJ13_bitCount_16 : decode cJ13_bitCount 16 = .ok (.iconst 2, 1) := dk_5 (dk_at dksJ13_bitCount_0 16 rfl rfl)
theorem dJ13_bitCount_17 : decode cJ13_bitCount 17 = .ok (.iushr, 1) := dk_124 (dk_at dksJ13_bitCount_0 17 rfl rfl)
theorem dJ13_bitCount_18 : decode cJ13_bitCount 18 = .ok (.ldc_w 266, 3) := dk_19 1 10 (dk_at dksJ13_bitCount_0 18 rfl rfl)
theorem dJ13_bitCount_21 : decode cJ13_bitCount 21 = .ok (.iand, 1) := dk_126 (dk_at dksJ13_bitCount_0 21 rfl rfl)
theorem dJ13_bitCount_22 : decode cJ13_bitCount 22 = .ok (.iadd, 1) := dk_96 (dk_at dksJ13_bitCount_0 22 rfl rfl)
theorem dJ13_bitCount_23 : decode cJ13_bitCount 23 = .ok (.istore_n 0, 1) := dk_59 (dk_at dksJ13_bitCount_0 23 rfl rfl)
theorem dJ13_bitCount_24 : decode cJ13_bitCount 24 = .ok (.iload_n 0, 1) := dk_26 (dk_at dksJ13_bitCount_1 0 rfl rfl)
theorem dJ13_bitCount_25 : decode cJ13_bitCount 25 = .ok (.iload_n 0, 1) := dk_26 (dk_at dksJ13_bitCount_1 1 rfl rfl)
theorem dJ13_bitCount_26 : decode cJ13_bitCount 26 = .ok (.iconst 4, 1) := dk_7 (dk_at dksJ13_bitCount_1 2 rfl rfl)
theorem dJ13_bitCount_27 : decode cJ13_bitCount 27 = .ok (.iushr, 1) := dk_124 (dk_at dksJ13_bitCount_1 3 rfl rfl)
theorem dJ13_bitCount_28 : decode cJ13_bitCount 28 = .ok (.iadd, 1) := dk_96 (dk_at dksJ13_bitCount_1 4 rfl rfl)
theorem dJ13_bitCount_29 : decode cJ13_bitCount 29 = .ok (.ldc_w 267, 3) := dk_19 1 11 (dk_at dksJ13_bitCount_1 5 rfl rfl)
theorem dJ13_bitCount_32 : decode cJ13_bitCount 32 = .ok (.iand, 1) := dk_126 (dk_at dksJ13_bitCount_1 8 rfl rfl)
theorem dJ13_bitCount_33 : decode cJ13_bitCount 33 = .ok (.istore_n 0, 1) := dk_59 (dk_at dksJ13_bitCount_1 9 rfl rfl)
theorem dJ13_bitCount_34 : decode cJ13_bitCount 34 = .ok (.iload_n 0, 1) := dk_26 (dk_at dksJ13_bitCount_1 10 rfl rfl)
theorem dJ13_bitCount_35 : decode cJ13_bitCount 35 = .ok (.iload_n 0, 1) := dk_26 (dk_at dksJ13_bitCount_1 11 rfl rfl)
theorem dJ13_bitCount_36 : decode cJ13_bitCount 36 = .ok (.bipush 8, 2) := dk_16 8 (dk_at dksJ13_bitCount_1 12 rfl rfl)
theorem dJ13_bitCount_38 : decode cJ13_bitCount 38 = .ok (.iushr, 1) := dk_124 (dk_at dksJ13_bitCount_1 14 rfl rfl)
theorem dJ13_bitCount_39 : decode cJ13_bitCount 39 = .ok (.iadd, 1) := dk_96 (dk_at dksJ13_bitCount_1 15 rfl rfl)
theorem dJ13_bitCount_40 : decode cJ13_bitCount 40 = .ok (.istore_n 0, 1) := dk_59 (dk_at dksJ13_bitCount_1 16 rfl rfl)
theorem dJ13_bitCount_41 : decode cJ13_bitCount 41 = .ok (.iload_n 0, 1) := dk_26 (dk_at dksJ13_bitCount_1 17 rfl rfl)
theorem dJ13_bitCount_42 : decode cJ13_bitCount 42 = .ok (.iload_n 0, 1) := dk_26 (dk_at dksJ13_bitCount_1 18 rfl rfl)
theorem dJ13_bitCount_43 : decode cJ13_bitCount 43 = .ok (.bipush 16, 2) := dk_16 16 (dk_at dksJ13_bitCount_1 19 rfl rfl)
theorem dJ13_bitCount_45 : decode cJ13_bitCount 45 = .ok (.iushr, 1) := dk_124 (dk_at dksJ13_bitCount_1 21 rfl rfl)
theorem dJ13_bitCount_46 : decode cJ13_bitCount 46 = .ok (.iadd, 1) := dk_96 (dk_at dksJ13_bitCount_1 22 rfl rfl)
theorem dJ13_bitCount_47 : decode cJ13_bitCount 47 = .ok (.istore_n 0, 1) := dk_59 (dk_at dksJ13_bitCount_1 23 rfl rfl)
theorem dJ13_bitCount_48 : decode cJ13_bitCount 48 = .ok (.iload_n 0, 1) := dk_26 (dk_at dksJ13_bitCount_2 0 rfl rfl)
theorem dJ13_bitCount_49 : decode cJ13_bitCount 49 = .ok (.bipush 63, 2) := dk_16 63 (dk_at dksJ13_bitCount_2 1 rfl rfl)
theorem dJ13_bitCount_51 : decode cJ13_bitCount 51 = .ok (.iand, 1) := dk_126 (dk_at dksJ13_bitCount_2 3 rfl rfl)
theorem dJ13_bitCount_52 : decode cJ13_bitCount 52 = .ok (.ireturn, 1) := dk_172 (dk_at dksJ13_bitCount_2 4 rfl rfl)
theorem q156 : (Jvm.Cond.initialized "java/lang/Integer") ∈ lw_all := lw_g (lw_at lw_m1 35 rfl) rfl
theorem q875 : (Jvm.Cond.selects "java/lang/Integer" ({ cls := "java/lang/Object", name := "getClass", desc := "()Ljava/lang/Class;" } : Jvm.MethodName) ({ cls := "java/lang/Object", name := "getClass", desc := "()Ljava/lang/Class;" } : Jvm.MethodName)) ∈ lw_all := lw_g (lw_at lw_m4 34 rfl) rfl
theorem q898 : (Jvm.Cond.static ({ cls := "java/lang/Integer", name := "valueOf", desc := "(I)Ljava/lang/Integer;" } : Jvm.MethodName)) ∈ lw_all := lw_g (lw_at lw_m4 57 rfl) rfl
theorem q899 : (Jvm.Cond.code ({ cls := "java/lang/Integer", name := "valueOf", desc := "(I)Ljava/lang/Integer;" } : Jvm.MethodName) prog_31_method_22_code (1 : Nat) (Option.some (Jvm.ClassFile.FieldType.object "java/lang/Integer"))) ∈ lw_all := lw_g (lw_at lw_m4 58 rfl) rfl
theorem q900 : (Jvm.Cond.fieldLink "java/lang/Integer" (191 : Nat) "java/lang/Integer$IntegerCache" "high" "I") ∈ lw_all := lw_g (lw_at lw_m4 59 rfl) rfl
theorem q902 : (Jvm.Cond.fieldLink "java/lang/Integer" (195 : Nat) "java/lang/Integer$IntegerCache" "cache" "[Ljava/lang/Integer;") ∈ lw_all := lw_g (lw_at lw_m4 61 rfl) rfl
theorem q904 : (Jvm.Cond.classLink "java/lang/Integer" (1 : Nat) "java/lang/Integer") ∈ lw_all := lw_g (lw_at lw_m4 63 rfl) rfl
theorem q905 : (Jvm.Cond.instantiable "java/lang/Integer" (1 : Nat)) ∈ lw_all := lw_g (lw_at lw_m4 64 rfl) rfl
theorem q906 : (Jvm.Cond.methodLink "java/lang/Integer" (199 : Nat) ({ cls := "java/lang/Integer", name := "<init>", desc := "(I)V" } : Jvm.MethodName)) ∈ lw_all := lw_g (lw_at lw_m4 65 rfl) rfl
theorem q907 : (Jvm.Cond.instanceMethod ({ cls := "java/lang/Integer", name := "<init>", desc := "(I)V" } : Jvm.MethodName)) ∈ lw_all := lw_g (lw_at lw_m4 66 rfl) rfl
theorem q908 : (Jvm.Cond.code ({ cls := "java/lang/Integer", name := "<init>", desc := "(I)V" } : Jvm.MethodName) prog_31_method_23_code (2 : Nat) (Option.none : Option Jvm.ClassFile.FieldType)) ∈ lw_all := lw_g (lw_at lw_m4 67 rfl) rfl
theorem q909 : (Jvm.Cond.methodLink "java/lang/Integer" (202 : Nat) ({ cls := "java/lang/Number", name := "<init>", desc := "()V" } : Jvm.MethodName)) ∈ lw_all := lw_g (lw_at lw_m4 68 rfl) rfl
theorem q913 : (Jvm.Cond.fieldLink "java/lang/Integer" (205 : Nat) "java/lang/Integer" "value" "I") ∈ lw_all := lw_g (lw_at lw_m4 72 rfl) rfl
theorem q914 : (Jvm.Cond.laysFinal "java/lang/Integer" "java/lang/Integer" "value" "I") ∈ lw_all := lw_g (lw_at lw_m4 73 rfl) rfl
theorem q915 : (Jvm.Cond.soleField "java/lang/Integer" "value") ∈ lw_all := lw_g (lw_at lw_m4 74 rfl) rfl
theorem q916 : (Jvm.Cond.superclass "java/lang/Integer" "java/lang/Number") ∈ lw_all := lw_g (lw_at lw_m4 75 rfl) rfl
theorem q1222 : (Jvm.Cond.instanceMethod ({ cls := "java/lang/Integer", name := "intValue", desc := "()I" } : Jvm.MethodName)) ∈ lw_all := lw_g (lw_at lw_m5 141 rfl) rfl
theorem q1223 : (Jvm.Cond.selects "java/lang/Integer" ({ cls := "java/lang/Integer", name := "intValue", desc := "()I" } : Jvm.MethodName) ({ cls := "java/lang/Integer", name := "intValue", desc := "()I" } : Jvm.MethodName)) ∈ lw_all := lw_g (lw_at lw_m5 142 rfl) rfl
theorem q1224 : (Jvm.Cond.code ({ cls := "java/lang/Integer", name := "intValue", desc := "()I" } : Jvm.MethodName) prog_31_method_27_code (1 : Nat) (Option.some Jvm.ClassFile.FieldType.int)) ∈ lw_all := lw_g (lw_at lw_m5 143 rfl) rfl
theorem q1234 : (Jvm.Cond.static ({ cls := "java/lang/Integer", name := "bitCount", desc := "(I)I" } : Jvm.MethodName)) ∈ lw_all := lw_g (lw_at lw_m5 153 rfl) rfl
theorem q1235 : (Jvm.Cond.code ({ cls := "java/lang/Integer", name := "bitCount", desc := "(I)I" } : Jvm.MethodName) prog_31_method_49_code (1 : Nat) (Option.some Jvm.ClassFile.FieldType.int)) ∈ lw_all := lw_g (lw_at lw_m5 154 rfl) rfl
theorem q1236 : (Jvm.Cond.constant "java/lang/Integer" (265 : Nat) (1431655765 : Int32)) ∈ lw_all := lw_g (lw_at lw_m5 155 rfl) rfl
theorem q1237 : (Jvm.Cond.constant "java/lang/Integer" (266 : Nat) (858993459 : Int32)) ∈ lw_all := lw_g (lw_at lw_m5 156 rfl) rfl
theorem q1238 : (Jvm.Cond.constant "java/lang/Integer" (267 : Nat) (252645135 : Int32)) ∈ lw_all := lw_g (lw_at lw_m5 157 rfl) rfl
theorem q2138 : (Jvm.Cond.castable "java/lang/Integer" "java/lang/Object") ∈ lw_tbl := lw_at lw_m9 97 rfl
theorem in_J13 : ∀ w ∈ wsJ130, w ∈ lw_all := lw_in wsJ130 [914] (by decide +kernel) (by decide +kernel)
/-! java/util/Objects -/
set_option maxRecDepth 100000
def RJ14 : String := "java/util/Objects"
abbrev cJ14_checkIndex : ByteArray := prog_52_method_17_code
def yJ14_checkIndex : MethodName := ⟨RJ14, "checkIndex", "(II)I"⟩
def dkwJ14_checkIndex_0 : List UInt8 := [26, 27, 1, 184, 0, 105, 172]
abbrev dktJ14_checkIndex_0 : List UInt8 := dkwJ14_checkIndex_0 ++ []
theorem dksJ14_checkIndex_0 : cJ14_checkIndex.data.toList.drop 0 = dktJ14_checkIndex_0 := by decide +kernel
theorem dJ14_checkIndex_0 : decode cJ14_checkIndex 0 = .ok (.iload_n 0, 1) := dk_26 (dk_at dksJ14_checkIndex_0 0 rfl rfl)
theorem dJ14_checkIndex_1 : decode cJ14_checkIndex 1 = .ok (.iload_n 1, 1) := dk_27 (dk_at dksJ14_checkIndex_0 1 rfl rfl)
theorem dJ14_checkIndex_2 : decode cJ14_checkIndex 2 = .ok (.aconst_null, 1) := dk_1 (dk_at dksJ14_checkIndex_0 2 rfl rfl)
theorem dJ14_checkIndex_3 : decode cJ14_checkIndex 3 = .ok (.invokestatic 105, 3) := dk_184 0 105 (dk_at dksJ14_checkIndex_0 3 rfl rfl)
theorem dJ14_checkIndex_6 : decode cJ14_checkIndex 6 = .ok (.ireturn, 1) := dk_172 (dk_at dksJ14_checkIndex_0 6 rfl rfl)
theorem q158 : (Jvm.Cond.initialized "java/util/Objects") ∈ lw_all := lw_g (lw_at lw_m1 37 rfl) rfl
theorem q938 : (Jvm.Cond.static ({ cls := "java/util/Objects", name := "checkIndex", desc := "(II)I" } : Jvm.MethodName)) ∈ lw_all := lw_g (lw_at lw_m4 97 rfl) rfl
theorem q939 : (Jvm.Cond.code ({ cls := "java/util/Objects", name := "checkIndex", desc := "(II)I" } : Jvm.MethodName) prog_52_method_17_code (2 : Nat) (Option.some Jvm.ClassFile.FieldType.int)) ∈ lw_all := lw_g (lw_at lw_m4 98 rfl) rfl
theorem q940 : (Jvm.Cond.methodLink "java/util/Objects" (105 : Nat) ({ cls := "jdk/internal/util/Preconditions", name := "checkIndex", desc := "(IILjava/util/function/BiFunction;)I" } : Jvm.MethodName)) ∈ lw_all := lw_g (lw_at lw_m4 99 rfl) rfl
/-! java/lang/RuntimeException -/
set_option maxRecDepth 100000
def RJ15 : String := "java/lang/RuntimeException"
abbrev cJ15_init : ByteArray := prog_38_method_1_code
def yJ15_init : MethodName := ⟨RJ15, "<init>", "()V"⟩
theorem dJ15_init_0 : decode cJ15_init 0 = .ok (.aload_n 0, 1) := by decide +kernel
theorem dJ15_init_1 : decode cJ15_init 1 = .ok (.invokespecial 1, 3) := by decide +kernel
theorem dJ15_init_4 : decode cJ15_init 4 = .ok (.return_, 1) := by decide +kernel
abbrev cJ15_init_2 : ByteArray := prog_38_method_2_code
def yJ15_init_2 : MethodName := ⟨RJ15, "<init>", "(Ljava/lang/String;)V"⟩
def dkwJ15_init_2_0 : List UInt8 := [42, 43, 183, 0, 7, 177]
abbrev dktJ15_init_2_0 : List UInt8 := dkwJ15_init_2_0 ++ []
theorem dksJ15_init_2_0 : cJ15_init_2.data.toList.drop 0 = dktJ15_init_2_0 := by decide +kernel
theorem dJ15_init_2_0 : decode cJ15_init_2 0 = .ok (.aload_n 0, 1) := dk_42 (dk_at dksJ15_init_2_0 0 rfl rfl)
theorem dJ15_init_2_1 : decode cJ15_init_2 1 = .ok (.aload_n 1, 1) := dk_43 (dk_at dksJ15_init_2_0 1 rfl rfl)
theorem dJ15_init_2_2 : decode cJ15_init_2 2 = .ok (.invokespecial 7, 3) := dk_183 0 7 (dk_at dksJ15_init_2_0 2 rfl rfl)
theorem dJ15_init_2_5 : decode cJ15_init_2 5 = .ok (.return_, 1) := dk_177 (dk_at dksJ15_init_2_0 5 rfl rfl)
theorem q160 : (Jvm.Cond.initialized "java/lang/RuntimeException") ∈ lw_all := lw_g (lw_at lw_m1 39 rfl) rfl
theorem q578 : (Jvm.Cond.sameMethod "java/lang/RuntimeException" "java/lang/Throwable" "fillInStackTrace" "()Ljava/lang/Throwable;") ∈ lw_all := lw_g (lw_at lw_m2 217 rfl) rfl
theorem q581 : (Jvm.Cond.superclass "java/lang/RuntimeException" "java/lang/Exception") ∈ lw_all := lw_g (lw_at lw_m2 220 rfl) rfl
theorem q1353 : (Jvm.Cond.instanceMethod ({ cls := "java/lang/RuntimeException", name := "<init>", desc := "()V" } : Jvm.MethodName)) ∈ lw_all := lw_g (lw_at lw_m6 32 rfl) rfl
theorem q1354 : (Jvm.Cond.code ({ cls := "java/lang/RuntimeException", name := "<init>", desc := "()V" } : Jvm.MethodName) prog_38_method_1_code (1 : Nat) (Option.none : Option Jvm.ClassFile.FieldType)) ∈ lw_all := lw_g (lw_at lw_m6 33 rfl) rfl
theorem q1355 : (Jvm.Cond.methodLink "java/lang/RuntimeException" (1 : Nat) ({ cls := "java/lang/Exception", name := "<init>", desc := "()V" } : Jvm.MethodName)) ∈ lw_all := lw_g (lw_at lw_m6 34 rfl) rfl
theorem q1372 : (Jvm.Cond.declares ({ cls := "java/lang/RuntimeException", name := "<init>", desc := "()V" } : Jvm.MethodName)) ∈ lw_tbl := lw_at lw_m6 51 rfl
theorem q1373 : (Jvm.Cond.declares ({ cls := "java/lang/RuntimeException", name := "<init>", desc := "(Ljava/lang/String;)V" } : Jvm.MethodName)) ∈ lw_tbl := lw_at lw_m6 52 rfl
theorem q1375 : (Jvm.Cond.castable "java/lang/RuntimeException" "java/lang/Throwable") ∈ lw_tbl := lw_at lw_m6 54 rfl
theorem q1438 : (Jvm.Cond.instanceMethod ({ cls := "java/lang/RuntimeException", name := "<init>", desc := "(Ljava/lang/String;)V" } : Jvm.MethodName)) ∈ lw_all := lw_g (lw_at lw_m6 117 rfl) rfl
theorem q1439 : (Jvm.Cond.code ({ cls := "java/lang/RuntimeException", name := "<init>", desc := "(Ljava/lang/String;)V" } : Jvm.MethodName) prog_38_method_2_code (2 : Nat) (Option.none : Option Jvm.ClassFile.FieldType)) ∈ lw_all := lw_g (lw_at lw_m6 118 rfl) rfl
theorem q1440 : (Jvm.Cond.methodLink "java/lang/RuntimeException" (7 : Nat) ({ cls := "java/lang/Exception", name := "<init>", desc := "(Ljava/lang/String;)V" } : Jvm.MethodName)) ∈ lw_all := lw_g (lw_at lw_m6 119 rfl) rfl
/-! java/lang/NullPointerException -/
set_option maxRecDepth 100000
def RJ16 : String := "java/lang/NullPointerException"
def TJ16 : u_T := fun k => match k with
  | 0 => ("java/lang/Throwable", "backtrace", "Ljava/lang/Object;", false)
  | 1 => ("java/lang/Throwable", "detailMessage", "Ljava/lang/String;", false)
  | 2 => ("java/lang/Throwable", "cause", "Ljava/lang/Throwable;", false)
  | 3 => ("java/lang/Throwable", "stackTrace", "[Ljava/lang/StackTraceElement;", false)
  | 4 => ("java/lang/Throwable", "depth", "I", false)
  | 5 => ("java/lang/Throwable", "suppressedExceptions", "Ljava/util/List;", false)
  | 6 => ("java/lang/NullPointerException", "extendedMessageState", "I", false)
  | _ => ("java/lang/NullPointerException", "extendedMessage", "Ljava/lang/String;", false)
def tyJ16 : Nat → FieldType := fun k => match k with
  | 0 => .object "java/lang/Object"
  | 1 => .object "java/lang/String"
  | 2 => .object "java/lang/Throwable"
  | 3 => .array (.object "java/lang/StackTraceElement")
  | 4 => .int
  | 5 => .object "java/util/List"
  | 6 => .int
  | _ => .object "java/lang/String"
abbrev wsJ160 : List Cond := u_ws RJ16 TJ16 8
theorem nmJ16 : ∀ a, a < 8 → ∀ b, b < 8 → a ≠ b → (TJ16 a).2.1 ≠ (TJ16 b).2.1 := by decide +kernel
theorem tyJ16_ok : ∀ k, k < 8 → parseFieldDescriptor (TJ16 k).2.2.1 = some (tyJ16 k) := by decide +kernel
abbrev cJ16_init : ByteArray := prog_36_method_1_code
def yJ16_init : MethodName := ⟨RJ16, "<init>", "()V"⟩
theorem dJ16_init_0 : decode cJ16_init 0 = .ok (.aload_n 0, 1) := by decide +kernel
theorem dJ16_init_1 : decode cJ16_init 1 = .ok (.invokespecial 1, 3) := by decide +kernel
theorem dJ16_init_4 : decode cJ16_init 4 = .ok (.return_, 1) := by decide +kernel
theorem q161 : (Jvm.Cond.initialized "java/lang/NullPointerException") ∈ lw_all := lw_g (lw_at lw_m1 40 rfl) rfl
theorem q569 : (Jvm.Cond.selects "java/lang/NullPointerException" ({ cls := "java/lang/Throwable", name := "fillInStackTrace", desc := "()Ljava/lang/Throwable;" } : Jvm.MethodName) ({ cls := "java/lang/NullPointerException", name := "fillInStackTrace", desc := "()Ljava/lang/Throwable;" } : Jvm.MethodName)) ∈ lw_all := lw_g (lw_at lw_m2 208 rfl) rfl
theorem q570 : (Jvm.Cond.instanceMethod ({ cls := "java/lang/NullPointerException", name := "fillInStackTrace", desc := "()Ljava/lang/Throwable;" } : Jvm.MethodName)) ∈ lw_all := lw_g (lw_at lw_m2 209 rfl) rfl
theorem q571 : (Jvm.Cond.codeSync ({ cls := "java/lang/NullPointerException", name := "fillInStackTrace", desc := "()Ljava/lang/Throwable;" } : Jvm.MethodName) prog_36_method_3_code (1 : Nat) (Option.some (Jvm.ClassFile.FieldType.object "java/lang/Throwable"))) ∈ lw_all := lw_g (lw_at lw_m2 210 rfl) rfl
theorem q572 : (Jvm.Cond.methodLink "java/lang/NullPointerException" (16 : Nat) ({ cls := "java/lang/NullPointerException", name := "getExtendedNPEMessage", desc := "()Ljava/lang/String;" } : Jvm.MethodName)) ∈ lw_all := lw_g (lw_at lw_m2 211 rfl) rfl
theorem q573 : (Jvm.Cond.privateMethod ({ cls := "java/lang/NullPointerException", name := "getExtendedNPEMessage", desc := "()Ljava/lang/String;" } : Jvm.MethodName)) ∈ lw_tbl := lw_at lw_m2 212 rfl
theorem q574 : (Jvm.Cond.instanceMethod ({ cls := "java/lang/NullPointerException", name := "getExtendedNPEMessage", desc := "()Ljava/lang/String;" } : Jvm.MethodName)) ∈ lw_all := lw_g (lw_at lw_m2 213 rfl) rfl
theorem q575 : (Jvm.Cond.instantiable "java/lang/NullPointerException" (8 : Nat)) ∈ lw_all := lw_g (lw_at lw_m2 214 rfl) rfl
theorem q576 : (Jvm.Cond.native ({ cls := "java/lang/NullPointerException", name := "getExtendedNPEMessage", desc := "()Ljava/lang/String;" } : Jvm.MethodName)) ∈ lw_all := lw_g (lw_at lw_m2 215 rfl) rfl
theorem q577 : (Jvm.Cond.methodLink "java/lang/NullPointerException" (24 : Nat) ({ cls := "java/lang/RuntimeException", name := "fillInStackTrace", desc := "()Ljava/lang/Throwable;" } : Jvm.MethodName)) ∈ lw_all := lw_g (lw_at lw_m2 216 rfl) rfl
theorem q580 : (Jvm.Cond.superclass "java/lang/NullPointerException" "java/lang/RuntimeException") ∈ lw_all := lw_g (lw_at lw_m2 219 rfl) rfl
theorem q877 : (Jvm.Cond.selects "java/lang/NullPointerException" ({ cls := "java/lang/Object", name := "getClass", desc := "()Ljava/lang/Class;" } : Jvm.MethodName) ({ cls := "java/lang/Object", name := "getClass", desc := "()Ljava/lang/Class;" } : Jvm.MethodName)) ∈ lw_all := lw_g (lw_at lw_m4 36 rfl) rfl
theorem q1350 : (Jvm.Cond.instanceMethod ({ cls := "java/lang/NullPointerException", name := "<init>", desc := "()V" } : Jvm.MethodName)) ∈ lw_all := lw_g (lw_at lw_m6 29 rfl) rfl
theorem q1351 : (Jvm.Cond.code ({ cls := "java/lang/NullPointerException", name := "<init>", desc := "()V" } : Jvm.MethodName) prog_36_method_1_code (1 : Nat) (Option.none : Option Jvm.ClassFile.FieldType)) ∈ lw_all := lw_g (lw_at lw_m6 30 rfl) rfl
theorem q1352 : (Jvm.Cond.methodLink "java/lang/NullPointerException" (1 : Nat) ({ cls := "java/lang/RuntimeException", name := "<init>", desc := "()V" } : Jvm.MethodName)) ∈ lw_all := lw_g (lw_at lw_m6 31 rfl) rfl
theorem q1359 : (Jvm.Cond.fieldLink "java/lang/NullPointerException" (10 : Nat) "java/lang/NullPointerException" "extendedMessageState" "I") ∈ lw_all := lw_g (lw_at lw_m6 38 rfl) rfl
theorem q1360 : (Jvm.Cond.fieldLink "java/lang/NullPointerException" (20 : Nat) "java/lang/NullPointerException" "extendedMessage" "Ljava/lang/String;") ∈ lw_all := lw_g (lw_at lw_m6 39 rfl) rfl
theorem q1361 : (Jvm.Cond.lays "java/lang/NullPointerException" "java/lang/NullPointerException" "extendedMessageState" "I") ∈ lw_all := lw_g (lw_at lw_m6 40 rfl) rfl
theorem q1362 : (Jvm.Cond.soleField "java/lang/NullPointerException" "extendedMessageState") ∈ lw_all := lw_g (lw_at lw_m6 41 rfl) rfl
theorem q1363 : (Jvm.Cond.lays "java/lang/NullPointerException" "java/lang/NullPointerException" "extendedMessage" "Ljava/lang/String;") ∈ lw_all := lw_g (lw_at lw_m6 42 rfl) rfl
theorem q1364 : (Jvm.Cond.soleField "java/lang/NullPointerException" "extendedMessage") ∈ lw_all := lw_g (lw_at lw_m6 43 rfl) rfl
theorem q1365 : (Jvm.Cond.lays "java/lang/NullPointerException" "java/lang/Throwable" "backtrace" "Ljava/lang/Object;") ∈ lw_all := lw_g (lw_at lw_m6 44 rfl) rfl
theorem q1366 : (Jvm.Cond.lays "java/lang/NullPointerException" "java/lang/Throwable" "detailMessage" "Ljava/lang/String;") ∈ lw_all := lw_g (lw_at lw_m6 45 rfl) rfl
theorem q1367 : (Jvm.Cond.lays "java/lang/NullPointerException" "java/lang/Throwable" "cause" "Ljava/lang/Throwable;") ∈ lw_all := lw_g (lw_at lw_m6 46 rfl) rfl
theorem q1368 : (Jvm.Cond.lays "java/lang/NullPointerException" "java/lang/Throwable" "stackTrace" "[Ljava/lang/StackTraceElement;") ∈ lw_all := lw_g (lw_at lw_m6 47 rfl) rfl
theorem q1369 : (Jvm.Cond.lays "java/lang/NullPointerException" "java/lang/Throwable" "depth" "I") ∈ lw_all := lw_g (lw_at lw_m6 48 rfl) rfl
theorem q1370 : (Jvm.Cond.lays "java/lang/NullPointerException" "java/lang/Throwable" "suppressedExceptions" "Ljava/util/List;") ∈ lw_all := lw_g (lw_at lw_m6 49 rfl) rfl
theorem q1371 : (Jvm.Cond.castable "java/lang/NullPointerException" "java/lang/NullPointerException") ∈ lw_tbl := lw_at lw_m6 50 rfl
theorem q1374 : (Jvm.Cond.selects "java/lang/NullPointerException" ({ cls := "java/lang/Throwable", name := "fillInStackTrace", desc := "(I)Ljava/lang/Throwable;" } : Jvm.MethodName) ({ cls := "java/lang/Throwable", name := "fillInStackTrace", desc := "(I)Ljava/lang/Throwable;" } : Jvm.MethodName)) ∈ lw_all := lw_g (lw_at lw_m6 53 rfl) rfl
theorem q2140 : (Jvm.Cond.castable "java/lang/NullPointerException" "java/lang/Object") ∈ lw_tbl := lw_at lw_m9 99 rfl
theorem in_J16 : ∀ w ∈ wsJ160, w ∈ lw_all := lw_in wsJ160 [1365, 1366, 1367, 1368, 1369, 1370, 1361, 1363] (by decide +kernel) (by decide +kernel)
/-! java/lang/NegativeArraySizeException -/
set_option maxRecDepth 100000
def RJ17 : String := "java/lang/NegativeArraySizeException"
def TJ17 : u_T := fun k => match k with
  | 0 => ("java/lang/Throwable", "backtrace", "Ljava/lang/Object;", false)
  | 1 => ("java/lang/Throwable", "detailMessage", "Ljava/lang/String;", false)
  | 2 => ("java/lang/Throwable", "cause", "Ljava/lang/Throwable;", false)
  | 3 => ("java/lang/Throwable", "stackTrace", "[Ljava/lang/StackTraceElement;", false)
  | 4 => ("java/lang/Throwable", "depth", "I", false)
  | _ => ("java/lang/Throwable", "suppressedExceptions", "Ljava/util/List;", false)
def tyJ17 : Nat → FieldType := fun k => match k with
  | 0 => .object "java/lang/Object"
  | 1 => .object "java/lang/String"
  | 2 => .object "java/lang/Throwable"
  | 3 => .array (.object "java/lang/StackTraceElement")
  | 4 => .int
  | _ => .object "java/util/List"
abbrev wsJ170 : List Cond := u_ws RJ17 TJ17 6
theorem nmJ17 : ∀ a, a < 6 → ∀ b, b < 6 → a ≠ b → (TJ17 a).2.1 ≠ (TJ17 b).2.1 := by decide +kernel
theorem tyJ17_ok : ∀ k, k < 6 → parseFieldDescriptor (TJ17 k).2.2.1 = some (tyJ17 k) := by decide +kernel
abbrev cJ17_init : ByteArray := prog_35_method_2_code
def yJ17_init : MethodName := ⟨RJ17, "<init>", "(Ljava/lang/String;)V"⟩
def dkwJ17_init_0 : List UInt8 := [42, 43, 183, 0, 7, 177]
abbrev dktJ17_init_0 : List UInt8 := dkwJ17_init_0 ++ []
theorem dksJ17_init_0 : cJ17_init.data.toList.drop 0 = dktJ17_init_0 := by decide +kernel
theorem dJ17_init_0 : decode cJ17_init 0 = .ok (.aload_n 0, 1) := dk_42 (dk_at dksJ17_init_0 0 rfl rfl)
theorem dJ17_init_1 : decode cJ17_init 1 = .ok (.aload_n 1, 1) := dk_43 (dk_at dksJ17_init_0 1 rfl rfl)
theorem dJ17_init_2 : decode cJ17_init 2 = .ok (.invokespecial 7, 3) := dk_183 0 7 (dk_at dksJ17_init_0 2 rfl rfl)
theorem dJ17_init_5 : decode cJ17_init 5 = .ok (.return_, 1) := dk_177 (dk_at dksJ17_init_0 5 rfl rfl)
theorem q162 : (Jvm.Cond.initialized "java/lang/NegativeArraySizeException") ∈ lw_all := lw_g (lw_at lw_m1 41 rfl) rfl
theorem q568 : (Jvm.Cond.selects "java/lang/NegativeArraySizeException" ({ cls := "java/lang/Throwable", name := "fillInStackTrace", desc := "()Ljava/lang/Throwable;" } : Jvm.MethodName) ({ cls := "java/lang/Throwable", name := "fillInStackTrace", desc := "()Ljava/lang/Throwable;" } : Jvm.MethodName)) ∈ lw_all := lw_g (lw_at lw_m2 207 rfl) rfl
theorem q876 : (Jvm.Cond.selects "java/lang/NegativeArraySizeException" ({ cls := "java/lang/Object", name := "getClass", desc := "()Ljava/lang/Class;" } : Jvm.MethodName) ({ cls := "java/lang/Object", name := "getClass", desc := "()Ljava/lang/Class;" } : Jvm.MethodName)) ∈ lw_all := lw_g (lw_at lw_m4 35 rfl) rfl
theorem q1434 : (Jvm.Cond.instantiable "java/lang/NegativeArraySizeException" (6 : Nat)) ∈ lw_all := lw_g (lw_at lw_m6 113 rfl) rfl
theorem q1435 : (Jvm.Cond.instanceMethod ({ cls := "java/lang/NegativeArraySizeException", name := "<init>", desc := "(Ljava/lang/String;)V" } : Jvm.MethodName)) ∈ lw_all := lw_g (lw_at lw_m6 114 rfl) rfl
theorem q1436 : (Jvm.Cond.code ({ cls := "java/lang/NegativeArraySizeException", name := "<init>", desc := "(Ljava/lang/String;)V" } : Jvm.MethodName) prog_35_method_2_code (2 : Nat) (Option.none : Option Jvm.ClassFile.FieldType)) ∈ lw_all := lw_g (lw_at lw_m6 115 rfl) rfl
theorem q1437 : (Jvm.Cond.methodLink "java/lang/NegativeArraySizeException" (7 : Nat) ({ cls := "java/lang/RuntimeException", name := "<init>", desc := "(Ljava/lang/String;)V" } : Jvm.MethodName)) ∈ lw_all := lw_g (lw_at lw_m6 116 rfl) rfl
theorem q1446 : (Jvm.Cond.lays "java/lang/NegativeArraySizeException" "java/lang/Throwable" "backtrace" "Ljava/lang/Object;") ∈ lw_all := lw_g (lw_at lw_m6 125 rfl) rfl
theorem q1447 : (Jvm.Cond.lays "java/lang/NegativeArraySizeException" "java/lang/Throwable" "detailMessage" "Ljava/lang/String;") ∈ lw_all := lw_g (lw_at lw_m6 126 rfl) rfl
theorem q1448 : (Jvm.Cond.lays "java/lang/NegativeArraySizeException" "java/lang/Throwable" "cause" "Ljava/lang/Throwable;") ∈ lw_all := lw_g (lw_at lw_m6 127 rfl) rfl
theorem q1449 : (Jvm.Cond.lays "java/lang/NegativeArraySizeException" "java/lang/Throwable" "stackTrace" "[Ljava/lang/StackTraceElement;") ∈ lw_all := lw_g (lw_at lw_m6 128 rfl) rfl
theorem q1450 : (Jvm.Cond.lays "java/lang/NegativeArraySizeException" "java/lang/Throwable" "depth" "I") ∈ lw_all := lw_g (lw_at lw_m6 129 rfl) rfl
theorem q1451 : (Jvm.Cond.lays "java/lang/NegativeArraySizeException" "java/lang/Throwable" "suppressedExceptions" "Ljava/util/List;") ∈ lw_all := lw_g (lw_at lw_m6 130 rfl) rfl
theorem q1452 : (Jvm.Cond.superclass "java/lang/NegativeArraySizeException" "java/lang/RuntimeException") ∈ lw_all := lw_g (lw_at lw_m6 131 rfl) rfl
theorem q1453 : (Jvm.Cond.castable "java/lang/NegativeArraySizeException" "java/lang/NegativeArraySizeException") ∈ lw_tbl := lw_at lw_m6 132 rfl
theorem q1454 : (Jvm.Cond.selects "java/lang/NegativeArraySizeException" ({ cls := "java/lang/Throwable", name := "fillInStackTrace", desc := "(I)Ljava/lang/Throwable;" } : Jvm.MethodName) ({ cls := "java/lang/Throwable", name := "fillInStackTrace", desc := "(I)Ljava/lang/Throwable;" } : Jvm.MethodName)) ∈ lw_all := lw_g (lw_at lw_m6 133 rfl) rfl
theorem q2141 : (Jvm.Cond.castable "java/lang/NegativeArraySizeException" "java/lang/Object") ∈ lw_tbl := lw_at lw_m9 100 rfl
theorem in_J17 : ∀ w ∈ wsJ170, w ∈ lw_all := lw_in wsJ170 [1446, 1447, 1448, 1449, 1450, 1451] (by decide +kernel) (by decide +kernel)
/-! java/lang/IndexOutOfBoundsException -/
set_option maxRecDepth 100000
def RJ18 : String := "java/lang/IndexOutOfBoundsException"
abbrev cJ18_init : ByteArray := prog_30_method_2_code
def yJ18_init : MethodName := ⟨RJ18, "<init>", "(Ljava/lang/String;)V"⟩
def dkwJ18_init_0 : List UInt8 := [42, 43, 183, 0, 7, 177]
abbrev dktJ18_init_0 : List UInt8 := dkwJ18_init_0 ++ []
theorem dksJ18_init_0 : cJ18_init.data.toList.drop 0 = dktJ18_init_0 := by decide +kernel
theorem dJ18_init_0 : decode cJ18_init 0 = .ok (.aload_n 0, 1) := dk_42 (dk_at dksJ18_init_0 0 rfl rfl)
theorem dJ18_init_1 : decode cJ18_init 1 = .ok (.aload_n 1, 1) := dk_43 (dk_at dksJ18_init_0 1 rfl rfl)
theorem dJ18_init_2 : decode cJ18_init 2 = .ok (.invokespecial 7, 3) := dk_183 0 7 (dk_at dksJ18_init_0 2 rfl rfl)
theorem dJ18_init_5 : decode cJ18_init 5 = .ok (.return_, 1) := dk_177 (dk_at dksJ18_init_0 5 rfl rfl)
theorem q163 : (Jvm.Cond.initialized "java/lang/IndexOutOfBoundsException") ∈ lw_all := lw_g (lw_at lw_m1 42 rfl) rfl
theorem q1475 : (Jvm.Cond.instanceMethod ({ cls := "java/lang/IndexOutOfBoundsException", name := "<init>", desc := "(Ljava/lang/String;)V" } : Jvm.MethodName)) ∈ lw_all := lw_g (lw_at lw_m6 154 rfl) rfl
theorem q1476 : (Jvm.Cond.code ({ cls := "java/lang/IndexOutOfBoundsException", name := "<init>", desc := "(Ljava/lang/String;)V" } : Jvm.MethodName) prog_30_method_2_code (2 : Nat) (Option.none : Option Jvm.ClassFile.FieldType)) ∈ lw_all := lw_g (lw_at lw_m6 155 rfl) rfl
theorem q1477 : (Jvm.Cond.methodLink "java/lang/IndexOutOfBoundsException" (7 : Nat) ({ cls := "java/lang/RuntimeException", name := "<init>", desc := "(Ljava/lang/String;)V" } : Jvm.MethodName)) ∈ lw_all := lw_g (lw_at lw_m6 156 rfl) rfl
theorem q1486 : (Jvm.Cond.declares ({ cls := "java/lang/IndexOutOfBoundsException", name := "<init>", desc := "()V" } : Jvm.MethodName)) ∈ lw_tbl := lw_at lw_m6 165 rfl
theorem q1487 : (Jvm.Cond.declares ({ cls := "java/lang/IndexOutOfBoundsException", name := "<init>", desc := "(Ljava/lang/String;)V" } : Jvm.MethodName)) ∈ lw_tbl := lw_at lw_m6 166 rfl
/-! java/lang/ArrayIndexOutOfBoundsException -/
set_option maxRecDepth 100000
def RJ19 : String := "java/lang/ArrayIndexOutOfBoundsException"
def TJ19 : u_T := fun k => match k with
  | 0 => ("java/lang/Throwable", "backtrace", "Ljava/lang/Object;", false)
  | 1 => ("java/lang/Throwable", "detailMessage", "Ljava/lang/String;", false)
  | 2 => ("java/lang/Throwable", "cause", "Ljava/lang/Throwable;", false)
  | 3 => ("java/lang/Throwable", "stackTrace", "[Ljava/lang/StackTraceElement;", false)
  | 4 => ("java/lang/Throwable", "depth", "I", false)
  | _ => ("java/lang/Throwable", "suppressedExceptions", "Ljava/util/List;", false)
def tyJ19 : Nat → FieldType := fun k => match k with
  | 0 => .object "java/lang/Object"
  | 1 => .object "java/lang/String"
  | 2 => .object "java/lang/Throwable"
  | 3 => .array (.object "java/lang/StackTraceElement")
  | 4 => .int
  | _ => .object "java/util/List"
abbrev wsJ190 : List Cond := u_ws RJ19 TJ19 6
theorem nmJ19 : ∀ a, a < 6 → ∀ b, b < 6 → a ≠ b → (TJ19 a).2.1 ≠ (TJ19 b).2.1 := by decide +kernel
theorem tyJ19_ok : ∀ k, k < 6 → parseFieldDescriptor (TJ19 k).2.2.1 = some (tyJ19 k) := by decide +kernel
abbrev cJ19_init : ByteArray := prog_23_method_2_code
def yJ19_init : MethodName := ⟨RJ19, "<init>", "(Ljava/lang/String;)V"⟩
def dkwJ19_init_0 : List UInt8 := [42, 43, 183, 0, 7, 177]
abbrev dktJ19_init_0 : List UInt8 := dkwJ19_init_0 ++ []
theorem dksJ19_init_0 : cJ19_init.data.toList.drop 0 = dktJ19_init_0 := by decide +kernel
theorem dJ19_init_0 : decode cJ19_init 0 = .ok (.aload_n 0, 1) := dk_42 (dk_at dksJ19_init_0 0 rfl rfl)
theorem dJ19_init_1 : decode cJ19_init 1 = .ok (.aload_n 1, 1) := dk_43 (dk_at dksJ19_init_0 1 rfl rfl)
theorem dJ19_init_2 : decode cJ19_init 2 = .ok (.invokespecial 7, 3) := dk_183 0 7 (dk_at dksJ19_init_0 2 rfl rfl)
theorem dJ19_init_5 : decode cJ19_init 5 = .ok (.return_, 1) := dk_177 (dk_at dksJ19_init_0 5 rfl rfl)
theorem q164 : (Jvm.Cond.initialized "java/lang/ArrayIndexOutOfBoundsException") ∈ lw_all := lw_g (lw_at lw_m1 43 rfl) rfl
theorem q566 : (Jvm.Cond.selects "java/lang/ArrayIndexOutOfBoundsException" ({ cls := "java/lang/Throwable", name := "fillInStackTrace", desc := "()Ljava/lang/Throwable;" } : Jvm.MethodName) ({ cls := "java/lang/Throwable", name := "fillInStackTrace", desc := "()Ljava/lang/Throwable;" } : Jvm.MethodName)) ∈ lw_all := lw_g (lw_at lw_m2 205 rfl) rfl
theorem q873 : (Jvm.Cond.selects "java/lang/ArrayIndexOutOfBoundsException" ({ cls := "java/lang/Object", name := "getClass", desc := "()Ljava/lang/Class;" } : Jvm.MethodName) ({ cls := "java/lang/Object", name := "getClass", desc := "()Ljava/lang/Class;" } : Jvm.MethodName)) ∈ lw_all := lw_g (lw_at lw_m4 32 rfl) rfl
theorem q1471 : (Jvm.Cond.instantiable "java/lang/ArrayIndexOutOfBoundsException" (6 : Nat)) ∈ lw_all := lw_g (lw_at lw_m6 150 rfl) rfl
theorem q1472 : (Jvm.Cond.instanceMethod ({ cls := "java/lang/ArrayIndexOutOfBoundsException", name := "<init>", desc := "(Ljava/lang/String;)V" } : Jvm.MethodName)) ∈ lw_all := lw_g (lw_at lw_m6 151 rfl) rfl
theorem q1473 : (Jvm.Cond.code ({ cls := "java/lang/ArrayIndexOutOfBoundsException", name := "<init>", desc := "(Ljava/lang/String;)V" } : Jvm.MethodName) prog_23_method_2_code (2 : Nat) (Option.none : Option Jvm.ClassFile.FieldType)) ∈ lw_all := lw_g (lw_at lw_m6 152 rfl) rfl
theorem q1474 : (Jvm.Cond.methodLink "java/lang/ArrayIndexOutOfBoundsException" (7 : Nat) ({ cls := "java/lang/IndexOutOfBoundsException", name := "<init>", desc := "(Ljava/lang/String;)V" } : Jvm.MethodName)) ∈ lw_all := lw_g (lw_at lw_m6 153 rfl) rfl
theorem q1478 : (Jvm.Cond.lays "java/lang/ArrayIndexOutOfBoundsException" "java/lang/Throwable" "backtrace" "Ljava/lang/Object;") ∈ lw_all := lw_g (lw_at lw_m6 157 rfl) rfl
theorem q1479 : (Jvm.Cond.lays "java/lang/ArrayIndexOutOfBoundsException" "java/lang/Throwable" "detailMessage" "Ljava/lang/String;") ∈ lw_all := lw_g (lw_at lw_m6 158 rfl) rfl
theorem q1480 : (Jvm.Cond.lays "java/lang/ArrayIndexOutOfBoundsException" "java/lang/Throwable" "cause" "Ljava/lang/Throwable;") ∈ lw_all := lw_g (lw_at lw_m6 159 rfl) rfl
theorem q1481 : (Jvm.Cond.lays "java/lang/ArrayIndexOutOfBoundsException" "java/lang/Throwable" "stackTrace" "[Ljava/lang/StackTraceElement;") ∈ lw_all := lw_g (lw_at lw_m6 160 rfl) rfl
theorem q1482 : (Jvm.Cond.lays "java/lang/ArrayIndexOutOfBoundsException" "java/lang/Throwable" "depth" "I") ∈ lw_all := lw_g (lw_at lw_m6 161 rfl) rfl
theorem q1483 : (Jvm.Cond.lays "java/lang/ArrayIndexOutOfBoundsException" "java/lang/Throwable" "suppressedExceptions" "Ljava/util/List;") ∈ lw_all := lw_g (lw_at lw_m6 162 rfl) rfl
theorem q1484 : (Jvm.Cond.superclass "java/lang/ArrayIndexOutOfBoundsException" "java/lang/IndexOutOfBoundsException") ∈ lw_all := lw_g (lw_at lw_m6 163 rfl) rfl
theorem q1485 : (Jvm.Cond.castable "java/lang/ArrayIndexOutOfBoundsException" "java/lang/ArrayIndexOutOfBoundsException") ∈ lw_tbl := lw_at lw_m6 164 rfl
theorem q1488 : (Jvm.Cond.selects "java/lang/ArrayIndexOutOfBoundsException" ({ cls := "java/lang/Throwable", name := "fillInStackTrace", desc := "(I)Ljava/lang/Throwable;" } : Jvm.MethodName) ({ cls := "java/lang/Throwable", name := "fillInStackTrace", desc := "(I)Ljava/lang/Throwable;" } : Jvm.MethodName)) ∈ lw_all := lw_g (lw_at lw_m6 167 rfl) rfl
theorem q2107 : (Jvm.Cond.castable "java/lang/ArrayIndexOutOfBoundsException" "java/lang/IndexOutOfBoundsException") ∈ lw_tbl := lw_at lw_m9 66 rfl
theorem q2142 : (Jvm.Cond.castable "java/lang/ArrayIndexOutOfBoundsException" "java/lang/Object") ∈ lw_tbl := lw_at lw_m9 101 rfl
theorem in_J19 : ∀ w ∈ wsJ190, w ∈ lw_all := lw_in wsJ190 [1478, 1479, 1480, 1481, 1482, 1483] (by decide +kernel) (by decide +kernel)
/-! java/util/ArrayList -/
set_option maxRecDepth 100000
def RJ2 : String := "java/util/ArrayList"
def TJ2 : u_T := fun k => match k with
  | 0 => ("java/util/AbstractList", "modCount", "I", false)
  | 1 => ("java/util/ArrayList", "elementData", "[Ljava/lang/Object;", false)
  | _ => ("java/util/ArrayList", "size", "I", false)
def tyJ2 : Nat → FieldType := fun k => match k with
  | 0 => .int
  | 1 => .array (.object "java/lang/Object")
  | _ => .int
abbrev wsJ20 : List Cond := u_ws RJ2 TJ2 3
theorem nmJ2 : ∀ a, a < 3 → ∀ b, b < 3 → a ≠ b → (TJ2 a).2.1 ≠ (TJ2 b).2.1 := by decide +kernel
theorem tyJ2_ok : ∀ k, k < 3 → parseFieldDescriptor (TJ2 k).2.2.1 = some (tyJ2 k) := by decide +kernel
abbrev cJ2_init : ByteArray := prog_48_method_1_code
def yJ2_init : MethodName := ⟨RJ2, "<init>", "(I)V"⟩
def dkwJ2_init_2 : List UInt8 := [182, 0, 25, 27, 182, 0, 29, 182, 0, 32, 183, 0, 36, 191, 177]
abbrev dktJ2_init_2 : List UInt8 := dkwJ2_init_2 ++ []
def dkwJ2_init_1 : List UInt8 := [178, 0, 15, 181, 0, 9, 167, 0, 30, 187, 0, 18, 89, 187, 0, 20, 89, 183, 0, 22, 18, 23]
abbrev dktJ2_init_1 : List UInt8 := dkwJ2_init_1 ++ dktJ2_init_2
def dkwJ2_init_0 : List UInt8 := [42, 183, 0, 1, 27, 158, 0, 14, 42, 27, 189, 0, 7, 181, 0, 9, 167, 0, 44, 27, 154, 0, 13, 42]
abbrev dktJ2_init_0 : List UInt8 := dkwJ2_init_0 ++ dktJ2_init_1
theorem dksJ2_init_0 : cJ2_init.data.toList.drop 0 = dktJ2_init_0 := by decide +kernel
theorem dksJ2_init_1 : cJ2_init.data.toList.drop 24 = dktJ2_init_1 := dk_seg dksJ2_init_0 24 rfl rfl
theorem dksJ2_init_2 : cJ2_init.data.toList.drop 46 = dktJ2_init_2 := dk_seg dksJ2_init_1 22 rfl rfl
theorem dJ2_init_0 : decode cJ2_init 0 = .ok (.aload_n 0, 1) := dk_42 (dk_at dksJ2_init_0 0 rfl rfl)
theorem dJ2_init_1 : decode cJ2_init 1 = .ok (.invokespecial 1, 3) := dk_183 0 1 (dk_at dksJ2_init_0 1 rfl rfl)
theorem dJ2_init_4 : decode cJ2_init 4 = .ok (.iload_n 1, 1) := dk_27 (dk_at dksJ2_init_0 4 rfl rfl)
theorem dJ2_init_5 : decode cJ2_init 5 = .ok (.ifCond .le 14, 3) := dk_158 0 14 (dk_at dksJ2_init_0 5 rfl rfl)
theorem dJ2_init_8 : decode cJ2_init 8 = .ok (.aload_n 0, 1) := dk_42 (dk_at dksJ2_init_0 8 rfl rfl)
theorem dJ2_init_9 : decode cJ2_init 9 = .ok (.iload_n 1, 1) := dk_27 (dk_at dksJ2_init_0 9 rfl rfl)
theorem dJ2_init_10 : decode cJ2_init 10 = .ok (.anewarray 7, 3) := dk_189 0 7 (dk_at dksJ2_init_0 10 rfl rfl)
theorem dJ2_init_13 : decode cJ2_init 13 = .ok (.putfield 9, 3) := dk_181 0 9 (dk_at dksJ2_init_0 13 rfl rfl)
theorem dJ2_init_16 : decode cJ2_init 16 = .ok (.goto 44, 3) := dk_167 0 44 (dk_at dksJ2_init_0 16 rfl rfl)
theorem dJ2_init_19 : decode cJ2_init 19 = .ok (.iload_n 1, 1) := dk_27 (dk_at dksJ2_init_0 19 rfl rfl)
theorem dJ2_init_20 : decode cJ2_init 20 = .ok (.ifCond .ne 13, 3) := dk_154 0 13 (dk_at dksJ2_init_0 20 rfl rfl)
theorem dJ2_init_23 : decode cJ2_init 23 = .ok (.aload_n 0, 1) := dk_42 (dk_at dksJ2_init_0 23 rfl rfl)
theorem dJ2_init_24 : decode cJ2_init 24 = .ok (.getstatic 15, 3) := dk_178 0 15 (dk_at dksJ2_init_1 0 rfl rfl)
theorem dJ2_init_27 : decode cJ2_init 27 = .ok (.putfield 9, 3) := dk_181 0 9 (dk_at dksJ2_init_1 3 rfl rfl)
theorem dJ2_init_30 : decode cJ2_init 30 = .ok (.goto 30, 3) := dk_167 0 30 (dk_at dksJ2_init_1 6 rfl rfl)
theorem dJ2_init_33 : decode cJ2_init 33 = .ok (.new 18, 3) := dk_187 0 18 (dk_at dksJ2_init_1 9 rfl rfl)
theorem dJ2_init_36 : decode cJ2_init 36 = .ok (.dup, 1) := dk_89 (dk_at dksJ2_init_1 12 rfl rfl)
theorem dJ2_init_37 : decode cJ2_init 37 = .ok (.new 20, 3) := dk_187 0 20 (dk_at dksJ2_init_1 13 rfl rfl)
theorem dJ2_init_40 : decode cJ2_init 40 = .ok (.dup, 1) := dk_89 (dk_at dksJ2_init_1 16 rfl rfl)
theorem dJ2_init_41 : decode cJ2_init 41 = .ok (.invokespecial 22, 3) := dk_183 0 22 (dk_at dksJ2_init_1 17 rfl rfl)
theorem dJ2_init_44 : decode cJ2_init 44 = .ok (.ldc 23, 2) := dk_18 23 (dk_at dksJ2_init_1 20 rfl rfl)
theorem dJ2_init_46 : decode cJ2_init 46 = .ok (.invokevirtual 25, 3) := dk_182 0 25 (dk_at dksJ2_init_2 0 rfl rfl)
theorem dJ2_init_49 : decode cJ2_init 49 = .ok (.iload_n 1, 1) := dk_27 (dk_at dksJ2_init_2 3 rfl rfl)
theorem dJ2_init_50 : decode cJ2_init 50 = .ok (.invokevirtual 29, 3) := dk_182 0 29 (dk_at dksJ2_init_2 4 rfl rfl)
theorem dJ2_init_53 : decode cJ2_init 53 = .ok (.invokevirtual 32, 3) := dk_182 0 32 (dk_at dksJ2_init_2 7 rfl rfl)
theorem dJ2_init_56 : decode cJ2_init 56 = .ok (.invokespecial 36, 3) := dk_183 0 36 (dk_at dksJ2_init_2 10 rfl rfl)
theorem dJ2_init_59 : decode cJ2_init 59 = .ok (.athrow, 1) := dk_191 (dk_at dksJ2_init_2 13 rfl rfl)
theorem dJ2_init_60 : decode cJ2_init 60 = .ok (.return_, 1) := dk_177 (dk_at dksJ2_init_2 14 rfl rfl)
abbrev cJ2_size : ByteArray := prog_48_method_8_code
def yJ2_size : MethodName := ⟨RJ2, "size", "()I"⟩
theorem dJ2_size_0 : decode cJ2_size 0 = .ok (.aload_n 0, 1) := by decide +kernel
theorem dJ2_size_1 : decode cJ2_size 1 = .ok (.getfield 48, 3) := by decide +kernel
theorem dJ2_size_4 : decode cJ2_size 4 = .ok (.ireturn, 1) := by decide +kernel
abbrev cJ2_add : ByteArray := prog_48_method_25_code
def yJ2_add : MethodName := ⟨RJ2, "add", "(Ljava/lang/Object;)Z"⟩
def dkwJ2_add_1 : List UInt8 := [172]
abbrev dktJ2_add_1 : List UInt8 := dkwJ2_add_1 ++ []
def dkwJ2_add_0 : List UInt8 := [42, 89, 180, 0, 63, 4, 96, 181, 0, 63, 42, 43, 42, 180, 0, 9, 42, 180, 0, 48, 182, 0, 131, 4]
abbrev dktJ2_add_0 : List UInt8 := dkwJ2_add_0 ++ dktJ2_add_1
theorem dksJ2_add_0 : cJ2_add.data.toList.drop 0 = dktJ2_add_0 := by decide +kernel
theorem dksJ2_add_1 : cJ2_add.data.toList.drop 24 = dktJ2_add_1 := dk_seg dksJ2_add_0 24 rfl rfl
theorem dJ2_add_0 : decode cJ2_add 0 = .ok (.aload_n 0, 1) := dk_42 (dk_at dksJ2_add_0 0 rfl rfl)
theorem dJ2_add_1 : decode cJ2_add 1 = .ok (.dup, 1) := dk_89 (dk_at dksJ2_add_0 1 rfl rfl)
theorem dJ2_add_2 : decode cJ2_add 2 = .ok (.getfield 63, 3) := dk_180 0 63 (dk_at dksJ2_add_0 2 rfl rfl)
theorem dJ2_add_5 : decode cJ2_add 5 = .ok (.iconst 1, 1) := dk_4 (dk_at dksJ2_add_0 5 rfl rfl)
theorem dJ2_add_6 : decode cJ2_add 6 = .ok (.iadd, 1) := dk_96 (dk_at dksJ2_add_0 6 rfl rfl)
theorem dJ2_add_7 : decode cJ2_add 7 = .ok (.putfield 63, 3) := dk_181 0 63 (dk_at dksJ2_add_0 7 rfl rfl)
theorem dJ2_add_10 : decode cJ2_add 10 = .ok (.aload_n 0, 1) := dk_42 (dk_at dksJ2_add_0 10 rfl rfl)
theorem dJ2_add_11 : decode cJ2_add 11 = .ok (.aload_n 1, 1) := dk_43 (dk_at dksJ2_add_0 11 rfl rfl)
theorem dJ2_add_12 : decode cJ2_add 12 = .ok (.aload_n 0, 1) := dk_42 (dk_at dksJ2_add_0 12 rfl rfl)
theorem dJ2_add_13 : decode cJ2_add 13 = .ok (.getfield 9, 3) := dk_180 0 9 (dk_at dksJ2_add_0 13 rfl rfl)
theorem dJ2_add_16 : decode cJ2_add 16 = .ok (.aload_n 0, 1) := dk_42 (dk_at dksJ2_add_0 16 rfl rfl)
theorem dJ2_add_17 : decode cJ2_add 17 = .ok (.getfield 48, 3) := dk_180 0 48 (dk_at dksJ2_add_0 17 rfl rfl)
theorem dJ2_add_20 : decode cJ2_add 20 = .ok (.invokevirtual 131, 3) := dk_182 0 131 (dk_at dksJ2_add_0 20 rfl rfl)
theorem dJ2_add_23 : decode cJ2_add 23 = .ok (.iconst 1, 1) := dk_4 (dk_at dksJ2_add_0 23 rfl rfl)
theorem dJ2_add_24 : decode cJ2_add 24 = .ok (.ireturn, 1) := dk_172 (dk_at dksJ2_add_1 0 rfl rfl)
abbrev cJ2_add_2 : ByteArray := prog_48_method_24_code
def yJ2_add_2 : MethodName := ⟨RJ2, "add", "(Ljava/lang/Object;[Ljava/lang/Object;I)V"⟩
def dkwJ2_add_2_0 : List UInt8 := [29, 44, 190, 160, 0, 8, 42, 182, 0, 129, 77, 44, 29, 43, 83, 42, 29, 4, 96, 181, 0, 48, 177]
abbrev dktJ2_add_2_0 : List UInt8 := dkwJ2_add_2_0 ++ []
theorem dksJ2_add_2_0 : cJ2_add_2.data.toList.drop 0 = dktJ2_add_2_0 := by decide +kernel
theorem dJ2_add_2_0 : decode cJ2_add_2 0 = .ok (.iload_n 3, 1) := dk_29 (dk_at dksJ2_add_2_0 0 rfl rfl)
theorem dJ2_add_2_1 : decode cJ2_add_2 1 = .ok (.aload_n 2, 1) := dk_44 (dk_at dksJ2_add_2_0 1 rfl rfl)
theorem dJ2_add_2_2 : decode cJ2_add_2 2 = .ok (.arraylength, 1) := dk_190 (dk_at dksJ2_add_2_0 2 rfl rfl)
theorem dJ2_add_2_3 : decode cJ2_add_2 3 = .ok (.if_icmp .ne 8, 3) := dk_160 0 8 (dk_at dksJ2_add_2_0 3 rfl rfl)
theorem dJ2_add_2_6 : decode cJ2_add_2 6 = .ok (.aload_n 0, 1) := dk_42 (dk_at dksJ2_add_2_0 6 rfl rfl)
theorem dJ2_add_2_7 : decode cJ2_add_2 7 = .ok (.invokevirtual 129, 3) := dk_182 0 129 (dk_at dksJ2_add_2_0 7 rfl rfl)
theorem dJ2_add_2_10 : decode cJ2_add_2 10 = .ok (.astore_n 2, 1) := dk_77 (dk_at dksJ2_add_2_0 10 rfl rfl)
theorem dJ2_add_2_11 : decode cJ2_add_2 11 = .ok (.aload_n 2, 1) := dk_44 (dk_at dksJ2_add_2_0 11 rfl rfl)
theorem dJ2_add_2_12 : decode cJ2_add_2 12 = .ok (.iload_n 3, 1) := dk_29 (dk_at dksJ2_add_2_0 12 rfl rfl)
theorem dJ2_add_2_13 : decode cJ2_add_2 13 = .ok (.aload_n 1, 1) := dk_43 (dk_at dksJ2_add_2_0 13 rfl rfl)
theorem dJ2_add_2_14 : decode cJ2_add_2 14 = .ok (.aastore, 1) := dk_83 (dk_at dksJ2_add_2_0 14 rfl rfl)
theorem dJ2_add_2_15 : decode cJ2_add_2 15 = .ok (.aload_n 0, 1) := dk_42 (dk_at dksJ2_add_2_0 15 rfl rfl)
theorem dJ2_add_2_16 : decode cJ2_add_2 16 = .ok (.iload_n 3, 1) := dk_29 (dk_at dksJ2_add_2_0 16 rfl rfl)
theorem dJ2_add_2_17 : decode cJ2_add_2 17 = .ok (.iconst 1, 1) := dk_4 (dk_at dksJ2_add_2_0 17 rfl rfl)
theorem dJ2_add_2_18 : decode cJ2_add_2 18 = .ok (.iadd, 1) := dk_96 (dk_at dksJ2_add_2_0 18 rfl rfl)
theorem dJ2_add_2_19 : decode cJ2_add_2 19 = .ok (.putfield 48, 3) := dk_181 0 48 (dk_at dksJ2_add_2_0 19 rfl rfl)
theorem dJ2_add_2_22 : decode cJ2_add_2 22 = .ok (.return_, 1) := dk_177 (dk_at dksJ2_add_2_0 22 rfl rfl)
abbrev cJ2_grow : ByteArray := prog_48_method_7_code
def yJ2_grow : MethodName := ⟨RJ2, "grow", "()[Ljava/lang/Object;"⟩
def dkwJ2_grow_0 : List UInt8 := [42, 42, 180, 0, 48, 4, 96, 182, 0, 69, 176]
abbrev dktJ2_grow_0 : List UInt8 := dkwJ2_grow_0 ++ []
theorem dksJ2_grow_0 : cJ2_grow.data.toList.drop 0 = dktJ2_grow_0 := by decide +kernel
theorem dJ2_grow_0 : decode cJ2_grow 0 = .ok (.aload_n 0, 1) := dk_42 (dk_at dksJ2_grow_0 0 rfl rfl)
theorem dJ2_grow_1 : decode cJ2_grow 1 = .ok (.aload_n 0, 1) := dk_42 (dk_at dksJ2_grow_0 1 rfl rfl)
theorem dJ2_grow_2 : decode cJ2_grow 2 = .ok (.getfield 48, 3) := dk_180 0 48 (dk_at dksJ2_grow_0 2 rfl rfl)
theorem dJ2_grow_5 : decode cJ2_grow 5 = .ok (.iconst 1, 1) := dk_4 (dk_at dksJ2_grow_0 5 rfl rfl)
theorem dJ2_grow_6 : decode cJ2_grow 6 = .ok (.iadd, 1) := dk_96 (dk_at dksJ2_grow_0 6 rfl rfl)
theorem dJ2_grow_7 : decode cJ2_grow 7 = .ok (.invokevirtual 69, 3) := dk_182 0 69 (dk_at dksJ2_grow_0 7 rfl rfl)
theorem dJ2_grow_10 : decode cJ2_grow 10 = .ok (.areturn, 1) := dk_176 (dk_at dksJ2_grow_0 10 rfl rfl)
abbrev cJ2_grow_2 : ByteArray := prog_48_method_6_code
def yJ2_grow_2 : MethodName := ⟨RJ2, "grow", "(I)[Ljava/lang/Object;"⟩
def dkwJ2_grow_2_2 : List UInt8 := [27, 184, 0, 79, 189, 0, 7, 90, 181, 0, 9, 176]
abbrev dktJ2_grow_2_2 : List UInt8 := dkwJ2_grow_2_2 ++ []
def dkwJ2_grow_2_1 : List UInt8 := [28, 4, 122, 184, 0, 73, 62, 42, 42, 180, 0, 9, 29, 184, 0, 66, 90, 181, 0, 9, 176, 42, 16, 10]
abbrev dktJ2_grow_2_1 : List UInt8 := dkwJ2_grow_2_1 ++ dktJ2_grow_2_2
def dkwJ2_grow_2_0 : List UInt8 := [42, 180, 0, 9, 190, 61, 28, 157, 0, 13, 42, 180, 0, 9, 178, 0, 39, 165, 0, 28, 28, 27, 28, 100]
abbrev dktJ2_grow_2_0 : List UInt8 := dkwJ2_grow_2_0 ++ dktJ2_grow_2_1
theorem dksJ2_grow_2_0 : cJ2_grow_2.data.toList.drop 0 = dktJ2_grow_2_0 := by decide +kernel
theorem dksJ2_grow_2_1 : cJ2_grow_2.data.toList.drop 24 = dktJ2_grow_2_1 := dk_seg dksJ2_grow_2_0 24 rfl rfl
theorem dksJ2_grow_2_2 : cJ2_grow_2.data.toList.drop 48 = dktJ2_grow_2_2 := dk_seg dksJ2_grow_2_1 24 rfl rfl
theorem dJ2_grow_2_0 : decode cJ2_grow_2 0 = .ok (.aload_n 0, 1) := dk_42 (dk_at dksJ2_grow_2_0 0 rfl rfl)
theorem dJ2_grow_2_1 : decode cJ2_grow_2 1 = .ok (.getfield 9, 3) := dk_180 0 9 (dk_at dksJ2_grow_2_0 1 rfl rfl)
theorem dJ2_grow_2_4 : decode cJ2_grow_2 4 = .ok (.arraylength, 1) := dk_190 (dk_at dksJ2_grow_2_0 4 rfl rfl)
theorem dJ2_grow_2_5 : decode cJ2_grow_2 5 = .ok (.istore_n 2, 1) := dk_61 (dk_at dksJ2_grow_2_0 5 rfl rfl)
theorem dJ2_grow_2_6 : decode cJ2_grow_2 6 = .ok (.iload_n 2, 1) := dk_28 (dk_at dksJ2_grow_2_0 6 rfl rfl)
theorem dJ2_grow_2_7 : decode cJ2_grow_2 7 = .ok (.ifCond .gt 13, 3) := dk_157 0 13 (dk_at dksJ2_grow_2_0 7 rfl rfl)
theorem dJ2_grow_2_10 : decode cJ2_grow_2 10 = .ok (.aload_n 0, 1) := dk_42 (dk_at dksJ2_grow_2_0 10 rfl rfl)
theorem dJ2_grow_2_11 : decode cJ2_grow_2 11 = .ok (.getfield 9, 3) := dk_180 0 9 (dk_at dksJ2_grow_2_0 11 rfl rfl)
theorem dJ2_grow_2_14 : decode cJ2_grow_2 14 = .ok (.getstatic 39, 3) := dk_178 0 39 (dk_at dksJ2_grow_2_0 14 rfl rfl)
theorem dJ2_grow_2_17 : decode cJ2_grow_2 17 = .ok (.if_acmp .eq 28, 3) := dk_165 0 28 (dk_at dksJ2_grow_2_0 17 rfl rfl)
theorem dJ2_grow_2_20 : decode cJ2_grow_2 20 = .ok (.iload_n 2, 1) := dk_28 (dk_at dksJ2_grow_2_0 20 rfl rfl)
theorem dJ2_grow_2_21 : decode cJ2_grow_2 21 = .ok (.iload_n 1, 1) := dk_27 (dk_at dksJ2_grow_2_0 21 rfl rfl)
theorem dJ2_grow_2_22 : decode cJ2_grow_2 22 = .ok (.iload_n 2, 1) := dk_28 (dk_at dksJ2_grow_2_0 22 rfl rfl)
theorem dJ2_grow_2_23 : decode cJ2_grow_2 23 = .ok (.isub, 1) := dk_100 (dk_at dksJ2_grow_2_0 23 rfl rfl)
theorem dJ2_grow_2_24 : decode cJ2_grow_2 24 = .ok (.iload_n 2, 1) := dk_28 (dk_at dksJ2_grow_2_1 0 rfl rfl)
theorem dJ2_grow_2_25 : decode cJ2_grow_2 25 = .ok (.iconst 1, 1) := dk_4 (dk_at dksJ2_grow_2_1 1 rfl rfl)
theorem dJ2_grow_2_26 : decode cJ2_grow_2 26 = .ok (.ishr, 1) := dk_122 (dk_at dksJ2_grow_2_1 2 rfl rfl)
theorem dJ2_grow_2_27 : decode cJ2_grow_2 27 = .ok (.invokestatic 73, 3) := dk_184 0 73 (dk_at dksJ2_grow_2_1 3 rfl rfl)
theorem dJ2_grow_2_30 : decode cJ2_grow_2 30 = .ok (.istore_n 3, 1) := dk_62 (dk_at dksJ2_grow_2_1 6 rfl rfl)
theorem dJ2_grow_2_31 : decode cJ2_grow_2 31 = .ok (.aload_n 0, 1) := dk_42 (dk_at dksJ2_grow_2_1 7 rfl rfl)
theorem dJ2_grow_2_32 : decode cJ2_grow_2 32 = .ok (.aload_n 0, 1) := dk_42 (dk_at dksJ2_grow_2_1 8 rfl rfl)
theorem dJ2_grow_2_33 : decode cJ2_grow_2 33 = .ok (.getfield 9, 3) := dk_180 0 9 (dk_at dksJ2_grow_2_1 9 rfl rfl)
theorem dJ2_grow_2_36 : decode cJ2_grow_2 36 = .ok (.iload_n 3, 1) := dk_29 (dk_at dksJ2_grow_2_1 12 rfl rfl)
theorem dJ2_grow_2_37 : decode cJ2_grow_2 37 = .ok (.invokestatic 66, 3) := dk_184 0 66 (dk_at dksJ2_grow_2_1 13 rfl rfl)
theorem dJ2_grow_2_40 : decode cJ2_grow_2 40 = .ok (.dup_x1, 1) := dk_90 (dk_at dksJ2_grow_2_1 16 rfl rfl)
theorem dJ2_grow_2_41 : decode cJ2_grow_2 41 = .ok (.putfield 9, 3) := dk_181 0 9 (dk_at dksJ2_grow_2_1 17 rfl rfl)
theorem dJ2_grow_2_44 : decode cJ2_grow_2 44 = .ok (.areturn, 1) := dk_176 (dk_at dksJ2_grow_2_1 20 rfl rfl)
theorem dJ2_grow_2_45 : decode cJ2_grow_2 45 = .ok (.aload_n 0, 1) := dk_42 (dk_at dksJ2_grow_2_1 21 rfl rfl)
theorem dJ2_grow_2_46 : decode cJ2_grow_2 46 = .ok (.bipush 10, 2) := dk_16 10 (dk_at dksJ2_grow_2_1 22 rfl rfl)
theorem dJ2_grow_2_48 : decode cJ2_grow_2 48 = .ok (.iload_n 1, 1) := dk_27 (dk_at dksJ2_grow_2_2 0 rfl rfl)
theorem dJ2_grow_2_49 : decode cJ2_grow_2 49 = .ok (.invokestatic 79, 3) := dk_184 0 79 (dk_at dksJ2_grow_2_2 1 rfl rfl)
theorem dJ2_grow_2_52 : decode cJ2_grow_2 52 = .ok (.anewarray 7, 3) := dk_189 0 7 (dk_at dksJ2_grow_2_2 4 rfl rfl)
theorem dJ2_grow_2_55 : decode cJ2_grow_2 55 = .ok (.dup_x1, 1) := dk_90 (dk_at dksJ2_grow_2_2 7 rfl rfl)
theorem dJ2_grow_2_56 : decode cJ2_grow_2 56 = .ok (.putfield 9, 3) := dk_181 0 9 (dk_at dksJ2_grow_2_2 8 rfl rfl)
theorem dJ2_grow_2_59 : decode cJ2_grow_2 59 = .ok (.areturn, 1) := dk_176 (dk_at dksJ2_grow_2_2 11 rfl rfl)
abbrev cJ2_get : ByteArray := prog_48_method_20_code
def yJ2_get : MethodName := ⟨RJ2, "get", "(I)Ljava/lang/Object;"⟩
def dkwJ2_get_0 : List UInt8 := [27, 42, 180, 0, 48, 184, 0, 118, 87, 42, 27, 182, 0, 123, 176]
abbrev dktJ2_get_0 : List UInt8 := dkwJ2_get_0 ++ []
theorem dksJ2_get_0 : cJ2_get.data.toList.drop 0 = dktJ2_get_0 := by decide +kernel
theorem dJ2_get_0 : decode cJ2_get 0 = .ok (.iload_n 1, 1) := dk_27 (dk_at dksJ2_get_0 0 rfl rfl)
theorem dJ2_get_1 : decode cJ2_get 1 = .ok (.aload_n 0, 1) := dk_42 (dk_at dksJ2_get_0 1 rfl rfl)
theorem dJ2_get_2 : decode cJ2_get 2 = .ok (.getfield 48, 3) := dk_180 0 48 (dk_at dksJ2_get_0 2 rfl rfl)
theorem dJ2_get_5 : decode cJ2_get 5 = .ok (.invokestatic 118, 3) := dk_184 0 118 (dk_at dksJ2_get_0 5 rfl rfl)
theorem dJ2_get_8 : decode cJ2_get 8 = .ok (.pop, 1) := dk_87 (dk_at dksJ2_get_0 8 rfl rfl)
theorem dJ2_get_9 : decode cJ2_get 9 = .ok (.aload_n 0, 1) := dk_42 (dk_at dksJ2_get_0 9 rfl rfl)
theorem dJ2_get_10 : decode cJ2_get 10 = .ok (.iload_n 1, 1) := dk_27 (dk_at dksJ2_get_0 10 rfl rfl)
theorem dJ2_get_11 : decode cJ2_get 11 = .ok (.invokevirtual 123, 3) := dk_182 0 123 (dk_at dksJ2_get_0 11 rfl rfl)
theorem dJ2_get_14 : decode cJ2_get 14 = .ok (.areturn, 1) := dk_176 (dk_at dksJ2_get_0 14 rfl rfl)
abbrev cJ2_elementData : ByteArray := prog_48_method_18_code
def yJ2_elementData : MethodName := ⟨RJ2, "elementData", "(I)Ljava/lang/Object;"⟩
def dkwJ2_elementData_0 : List UInt8 := [42, 180, 0, 9, 27, 50, 176]
abbrev dktJ2_elementData_0 : List UInt8 := dkwJ2_elementData_0 ++ []
theorem dksJ2_elementData_0 : cJ2_elementData.data.toList.drop 0 = dktJ2_elementData_0 := by decide +kernel
theorem dJ2_elementData_0 : decode cJ2_elementData 0 = .ok (.aload_n 0, 1) := dk_42 (dk_at dksJ2_elementData_0 0 rfl rfl)
theorem dJ2_elementData_1 : decode cJ2_elementData 1 = .ok (.getfield 9, 3) := dk_180 0 9 (dk_at dksJ2_elementData_0 1 rfl rfl)
theorem dJ2_elementData_4 : decode cJ2_elementData 4 = .ok (.iload_n 1, 1) := dk_27 (dk_at dksJ2_elementData_0 4 rfl rfl)
theorem dJ2_elementData_5 : decode cJ2_elementData 5 = .ok (.aaload, 1) := dk_50 (dk_at dksJ2_elementData_0 5 rfl rfl)
theorem dJ2_elementData_6 : decode cJ2_elementData 6 = .ok (.areturn, 1) := dk_176 (dk_at dksJ2_elementData_0 6 rfl rfl)
abbrev cJ2_set : ByteArray := prog_48_method_23_code
def yJ2_set : MethodName := ⟨RJ2, "set", "(ILjava/lang/Object;)Ljava/lang/Object;"⟩
def dkwJ2_set_0 : List UInt8 := [27, 42, 180, 0, 48, 184, 0, 118, 87, 42, 27, 182, 0, 123, 78, 42, 180, 0, 9, 27, 44, 83, 45, 176]
abbrev dktJ2_set_0 : List UInt8 := dkwJ2_set_0 ++ []
theorem dksJ2_set_0 : cJ2_set.data.toList.drop 0 = dktJ2_set_0 := by decide +kernel
theorem dJ2_set_0 : decode cJ2_set 0 = .ok (.iload_n 1, 1) := dk_27 (dk_at dksJ2_set_0 0 rfl rfl)
theorem dJ2_set_1 : decode cJ2_set 1 = .ok (.aload_n 0, 1) := dk_42 (dk_at dksJ2_set_0 1 rfl rfl)
theorem dJ2_set_2 : decode cJ2_set 2 = .ok (.getfield 48, 3) := dk_180 0 48 (dk_at dksJ2_set_0 2 rfl rfl)
theorem dJ2_set_5 : decode cJ2_set 5 = .ok (.invokestatic 118, 3) := dk_184 0 118 (dk_at dksJ2_set_0 5 rfl rfl)
theorem dJ2_set_8 : decode cJ2_set 8 = .ok (.pop, 1) := dk_87 (dk_at dksJ2_set_0 8 rfl rfl)
theorem dJ2_set_9 : decode cJ2_set 9 = .ok (.aload_n 0, 1) := dk_42 (dk_at dksJ2_set_0 9 rfl rfl)
theorem dJ2_set_10 : decode cJ2_set 10 = .ok (.iload_n 1, 1) := dk_27 (dk_at dksJ2_set_0 10 rfl rfl)
theorem dJ2_set_11 : decode cJ2_set 11 = .ok (.invokevirtual 123, 3) := dk_182 0 123 (dk_at dksJ2_set_0 11 rfl rfl)
theorem dJ2_set_14 : decode cJ2_set 14 = .ok (.astore_n 3, 1) := dk_78 (dk_at dksJ2_set_0 14 rfl rfl)
theorem dJ2_set_15 : decode cJ2_set 15 = .ok (.aload_n 0, 1) := dk_42 (dk_at dksJ2_set_0 15 rfl rfl)
theorem dJ2_set_16 : decode cJ2_set 16 = .ok (.getfield 9, 3) := dk_180 0 9 (dk_at dksJ2_set_0 16 rfl rfl)
theorem dJ2_set_19 : decode cJ2_set 19 = .ok (.iload_n 1, 1) := dk_27 (dk_at dksJ2_set_0 19 rfl rfl)
theorem dJ2_set_20 : decode cJ2_set 20 = .ok (.aload_n 2, 1) := dk_44 (dk_at dksJ2_set_0 20 rfl rfl)
theorem dJ2_set_21 : decode cJ2_set 21 = .ok (.aastore, 1) := dk_83 (dk_at dksJ2_set_0 21 rfl rfl)
theorem dJ2_set_22 : decode cJ2_set 22 = .ok (.aload_n 3, 1) := dk_45 (dk_at dksJ2_set_0 22 rfl rfl)
theorem dJ2_set_23 : decode cJ2_set 23 = .ok (.areturn, 1) := dk_176 (dk_at dksJ2_set_0 23 rfl rfl)
abbrev cJ2_addAll : ByteArray := prog_48_method_41_code
def yJ2_addAll : MethodName := ⟨RJ2, "addAll", "(Ljava/util/Collection;)Z"⟩
def dkwJ2_addAll_3 : List UInt8 := [181, 0, 48, 4, 172]
abbrev dktJ2_addAll_3 : List UInt8 := dkwJ2_addAll_3 ++ []
def dkwJ2_addAll_2 : List UInt8 := [21, 5, 29, 96, 182, 0, 69, 58, 4, 44, 3, 25, 4, 21, 5, 29, 184, 0, 112, 42, 21, 5, 29, 96]
abbrev dktJ2_addAll_2 : List UInt8 := dkwJ2_addAll_2 ++ dktJ2_addAll_3
def dkwJ2_addAll_1 : List UInt8 := [3, 172, 29, 42, 180, 0, 9, 89, 58, 4, 190, 42, 180, 0, 48, 89, 54, 5, 100, 164, 0, 13, 42]
abbrev dktJ2_addAll_1 : List UInt8 := dkwJ2_addAll_1 ++ dktJ2_addAll_2
def dkwJ2_addAll_0 : List UInt8 := [43, 185, 0, 42, 1, 0, 77, 42, 89, 180, 0, 63, 4, 96, 181, 0, 63, 44, 190, 62, 29, 154, 0, 5]
abbrev dktJ2_addAll_0 : List UInt8 := dkwJ2_addAll_0 ++ dktJ2_addAll_1
theorem dksJ2_addAll_0 : cJ2_addAll.data.toList.drop 0 = dktJ2_addAll_0 := by decide +kernel
theorem dksJ2_addAll_1 : cJ2_addAll.data.toList.drop 24 = dktJ2_addAll_1 := dk_seg dksJ2_addAll_0 24 rfl rfl
theorem dksJ2_addAll_2 : cJ2_addAll.data.toList.drop 47 = dktJ2_addAll_2 := dk_seg dksJ2_addAll_1 23 rfl rfl
theorem dksJ2_addAll_3 : cJ2_addAll.data.toList.drop 71 = dktJ2_addAll_3 := dk_seg dksJ2_addAll_2 24 rfl rfl
theorem dJ2_addAll_0 : decode cJ2_addAll 0 = .ok (.aload_n 1, 1) := dk_43 (dk_at dksJ2_addAll_0 0 rfl rfl)
theorem dJ2_addAll_1 : decode cJ2_addAll 1 = .ok (.invokeinterface 42 1, 5) := by decide +kernel
theorem dJ2_addAll_6 : decode cJ2_addAll 6 = .ok (.astore_n 2, 1) := dk_77 (dk_at dksJ2_addAll_0 6 rfl rfl)
theorem dJ2_addAll_7 : decode cJ2_addAll 7 = .ok (.aload_n 0, 1) := dk_42 (dk_at dksJ2_addAll_0 7 rfl rfl)
theorem dJ2_addAll_8 : decode cJ2_addAll 8 = .ok (.dup, 1) := dk_89 (dk_at dksJ2_addAll_0 8 rfl rfl)
theorem dJ2_addAll_9 : decode cJ2_addAll 9 = .ok (.getfield 63, 3) := dk_180 0 63 (dk_at dksJ2_addAll_0 9 rfl rfl)
theorem dJ2_addAll_12 : decode cJ2_addAll 12 = .ok (.iconst 1, 1) := dk_4 (dk_at dksJ2_addAll_0 12 rfl rfl)
theorem dJ2_addAll_13 : decode cJ2_addAll 13 = .ok (.iadd, 1) := dk_96 (dk_at dksJ2_addAll_0 13 rfl rfl)
theorem dJ2_addAll_14 : decode cJ2_addAll 14 = .ok (.putfield 63, 3) := dk_181 0 63 (dk_at dksJ2_addAll_0 14 rfl rfl)
theorem dJ2_addAll_17 : decode cJ2_addAll 17 = .ok (.aload_n 2, 1) := dk_44 (dk_at dksJ2_addAll_0 17 rfl rfl)
theorem dJ2_addAll_18 : decode cJ2_addAll 18 = .ok (.arraylength, 1) := dk_190 (dk_at dksJ2_addAll_0 18 rfl rfl)
theorem dJ2_addAll_19 : decode cJ2_addAll 19 = .ok (.istore_n 3, 1) := dk_62 (dk_at dksJ2_addAll_0 19 rfl rfl)
theorem dJ2_addAll_20 : decode cJ2_addAll 20 = .ok (.iload_n 3, 1) := dk_29 (dk_at dksJ2_addAll_0 20 rfl rfl)
theorem dJ2_addAll_21 : decode cJ2_addAll 21 = .ok (.ifCond .ne 5, 3) := dk_154 0 5 (dk_at dksJ2_addAll_0 21 rfl rfl)
theorem dJ2_addAll_24 : decode cJ2_addAll 24 = .ok (.iconst 0, 1) := dk_3 (dk_at dksJ2_addAll_1 0 rfl rfl)
theorem dJ2_addAll_25 : decode cJ2_addAll 25 = .ok (.ireturn, 1) := dk_172 (dk_at dksJ2_addAll_1 1 rfl rfl)
theorem dJ2_addAll_26 : decode cJ2_addAll 26 = .ok (.iload_n 3, 1) := dk_29 (dk_at dksJ2_addAll_1 2 rfl rfl)
theorem dJ2_addAll_27 : decode cJ2_addAll 27 = .ok (.aload_n 0, 1) := dk_42 (dk_at dksJ2_addAll_1 3 rfl rfl)
theorem dJ2_addAll_28 : decode cJ2_addAll 28 = .ok (.getfield 9, 3) := dk_180 0 9 (dk_at dksJ2_addAll_1 4 rfl rfl)
theorem dJ2_addAll_31 : decode cJ2_addAll 31 = .ok (.dup, 1) := dk_89 (dk_at dksJ2_addAll_1 7 rfl rfl)
theorem dJ2_addAll_32 : decode cJ2_addAll 32 = .ok (.astore 4, 2) := dk_58 4 (dk_at dksJ2_addAll_1 8 rfl rfl)
theorem dJ2_addAll_34 : decode cJ2_addAll 34 = .ok (.arraylength, 1) := dk_190 (dk_at dksJ2_addAll_1 10 rfl rfl)
theorem dJ2_addAll_35 : decode cJ2_addAll 35 = .ok (.aload_n 0, 1) := dk_42 (dk_at dksJ2_addAll_1 11 rfl rfl)
theorem dJ2_addAll_36 : decode cJ2_addAll 36 = .ok (.getfield 48, 3) := dk_180 0 48 (dk_at dksJ2_addAll_1 12 rfl rfl)
theorem dJ2_addAll_39 : decode cJ2_addAll 39 = .ok (.dup, 1) := dk_89 (dk_at dksJ2_addAll_1 15 rfl rfl)
theorem dJ2_addAll_40 : decode cJ2_addAll 40 = .ok (.istore 5, 2) := dk_54 5 (dk_at dksJ2_addAll_1 16 rfl rfl)
theorem dJ2_addAll_42 : decode cJ2_addAll 42 = .ok (.isub, 1) := dk_100 (dk_at dksJ2_addAll_1 18 rfl rfl)
theorem dJ2_addAll_43 : decode cJ2_addAll 43 = .ok (.if_icmp .le 13, 3) := dk_164 0 13 (dk_at dksJ2_addAll_1 19 rfl rfl)
theorem dJ2_addAll_46 : decode cJ2_addAll 46 = .ok (.aload_n 0, 1) := dk_42 (dk_at dksJ2_addAll_1 22 rfl rfl)
theorem dJ2_addAll_47 : decode cJ2_addAll 47 = .ok (.iload 5, 2) := dk_21 5 (dk_at dksJ2_addAll_2 0 rfl rfl)
theorem dJ2_addAll_49 : decode cJ2_addAll 49 = .ok (.iload_n 3, 1) := dk_29 (dk_at dksJ2_addAll_2 2 rfl rfl)
theorem dJ2_addAll_50 : decode cJ2_addAll 50 = .ok (.iadd, 1) := dk_96 (dk_at dksJ2_addAll_2 3 rfl rfl)
theorem dJ2_addAll_51 : decode cJ2_addAll 51 = .ok (.invokevirtual 69, 3) := dk_182 0 69 (dk_at dksJ2_addAll_2 4 rfl rfl)
theorem dJ2_addAll_54 : decode cJ2_addAll 54 = .ok (.astore 4, 2) := dk_58 4 (dk_at dksJ2_addAll_2 7 rfl rfl)
theorem dJ2_addAll_56 : decode cJ2_addAll 56 = .ok (.aload_n 2, 1) := dk_44 (dk_at dksJ2_addAll_2 9 rfl rfl)
theorem dJ2_addAll_57 : decode cJ2_addAll 57 = .ok (.iconst 0, 1) := dk_3 (dk_at dksJ2_addAll_2 10 rfl rfl)
theorem dJ2_addAll_58 : decode cJ2_addAll 58 = .ok (.aload 4, 2) := dk_25 4 (dk_at dksJ2_addAll_2 11 rfl rfl)
theorem dJ2_addAll_60 : decode cJ2_addAll 60 = .ok (.iload 5, 2) := dk_21 5 (dk_at dksJ2_addAll_2 13 rfl rfl)
theorem dJ2_addAll_62 : decode cJ2_addAll 62 = .ok (.iload_n 3, 1) := dk_29 (dk_at dksJ2_addAll_2 15 rfl rfl)
theorem dJ2_addAll_63 : decode cJ2_addAll 63 = .ok (.invokestatic 112, 3) := dk_184 0 112 (dk_at dksJ2_addAll_2 16 rfl rfl)
theorem dJ2_addAll_66 : decode cJ2_addAll 66 = .ok (.aload_n 0, 1) := dk_42 (dk_at dksJ2_addAll_2 19 rfl rfl)
theorem dJ2_addAll_67 : decode cJ2_addAll 67 = .ok (.iload 5, 2) := dk_21 5 (dk_at dksJ2_addAll_2 20 rfl rfl)
theorem dJ2_addAll_69 : decode cJ2_addAll 69 = .ok (.iload_n 3, 1) := dk_29 (dk_at dksJ2_addAll_2 22 rfl rfl)
theorem dJ2_addAll_70 : decode cJ2_addAll 70 = .ok (.iadd, 1) := dk_96 (dk_at dksJ2_addAll_2 23 rfl rfl)
theorem dJ2_addAll_71 : decode cJ2_addAll 71 = .ok (.putfield 48, 3) := dk_181 0 48 (dk_at dksJ2_addAll_3 0 rfl rfl)
theorem dJ2_addAll_74 : decode cJ2_addAll 74 = .ok (.iconst 1, 1) := dk_4 (dk_at dksJ2_addAll_3 3 rfl rfl)
theorem dJ2_addAll_75 : decode cJ2_addAll 75 = .ok (.ireturn, 1) := dk_172 (dk_at dksJ2_addAll_3 4 rfl rfl)
abbrev cJ2_toArray : ByteArray := prog_48_method_16_code
def yJ2_toArray : MethodName := ⟨RJ2, "toArray", "()[Ljava/lang/Object;"⟩
def dkwJ2_toArray_0 : List UInt8 := [42, 180, 0, 9, 42, 180, 0, 48, 184, 0, 66, 176]
abbrev dktJ2_toArray_0 : List UInt8 := dkwJ2_toArray_0 ++ []
theorem dksJ2_toArray_0 : cJ2_toArray.data.toList.drop 0 = dktJ2_toArray_0 := by decide +kernel
theorem dJ2_toArray_0 : decode cJ2_toArray 0 = .ok (.aload_n 0, 1) := dk_42 (dk_at dksJ2_toArray_0 0 rfl rfl)
theorem dJ2_toArray_1 : decode cJ2_toArray 1 = .ok (.getfield 9, 3) := dk_180 0 9 (dk_at dksJ2_toArray_0 1 rfl rfl)
theorem dJ2_toArray_4 : decode cJ2_toArray 4 = .ok (.aload_n 0, 1) := dk_42 (dk_at dksJ2_toArray_0 4 rfl rfl)
theorem dJ2_toArray_5 : decode cJ2_toArray 5 = .ok (.getfield 48, 3) := dk_180 0 48 (dk_at dksJ2_toArray_0 5 rfl rfl)
theorem dJ2_toArray_8 : decode cJ2_toArray 8 = .ok (.invokestatic 66, 3) := dk_184 0 66 (dk_at dksJ2_toArray_0 8 rfl rfl)
theorem dJ2_toArray_11 : decode cJ2_toArray 11 = .ok (.areturn, 1) := dk_176 (dk_at dksJ2_toArray_0 11 rfl rfl)
theorem q126 : (Jvm.Cond.initialized "java/util/ArrayList") ∈ lw_all := lw_g (lw_at lw_m1 5 rfl) rfl
theorem q183 : (Jvm.Cond.instantiable "java/util/ArrayList" (3 : Nat)) ∈ lw_all := lw_g (lw_at lw_m1 62 rfl) rfl
theorem q185 : (Jvm.Cond.instanceMethod ({ cls := "java/util/ArrayList", name := "<init>", desc := "(I)V" } : Jvm.MethodName)) ∈ lw_all := lw_g (lw_at lw_m1 64 rfl) rfl
theorem q186 : (Jvm.Cond.code ({ cls := "java/util/ArrayList", name := "<init>", desc := "(I)V" } : Jvm.MethodName) prog_48_method_1_code (2 : Nat) (Option.none : Option Jvm.ClassFile.FieldType)) ∈ lw_all := lw_g (lw_at lw_m1 65 rfl) rfl
theorem q187 : (Jvm.Cond.methodLink "java/util/ArrayList" (1 : Nat) ({ cls := "java/util/AbstractList", name := "<init>", desc := "()V" } : Jvm.MethodName)) ∈ lw_all := lw_g (lw_at lw_m1 66 rfl) rfl
theorem q194 : (Jvm.Cond.classLink "java/util/ArrayList" (7 : Nat) "java/lang/Object") ∈ lw_all := lw_g (lw_at lw_m1 73 rfl) rfl
theorem q196 : (Jvm.Cond.fieldLink "java/util/ArrayList" (15 : Nat) "java/util/ArrayList" "EMPTY_ELEMENTDATA" "[Ljava/lang/Object;") ∈ lw_all := lw_g (lw_at lw_m1 75 rfl) rfl
theorem q197 : (Jvm.Cond.laysStatic "java/util/ArrayList" "EMPTY_ELEMENTDATA" "[Ljava/lang/Object;") ∈ lw_tbl := lw_at lw_m1 76 rfl
theorem q198 : (Jvm.Cond.fieldLink "java/util/ArrayList" (9 : Nat) "java/util/ArrayList" "elementData" "[Ljava/lang/Object;") ∈ lw_all := lw_g (lw_at lw_m1 77 rfl) rfl
theorem q199 : (Jvm.Cond.fieldLink "java/util/ArrayList" (48 : Nat) "java/util/ArrayList" "size" "I") ∈ lw_all := lw_g (lw_at lw_m1 78 rfl) rfl
theorem q201 : (Jvm.Cond.fieldLink "java/util/ArrayList" (63 : Nat) "java/util/ArrayList" "modCount" "I") ∈ lw_all := lw_g (lw_at lw_m1 80 rfl) rfl
theorem q202 : (Jvm.Cond.sameField "java/util/ArrayList" "java/util/AbstractList" "modCount" "I") ∈ lw_all := lw_g (lw_at lw_m1 81 rfl) rfl
theorem q203 : (Jvm.Cond.lays "java/util/ArrayList" "java/util/ArrayList" "elementData" "[Ljava/lang/Object;") ∈ lw_all := lw_g (lw_at lw_m1 82 rfl) rfl
theorem q204 : (Jvm.Cond.soleField "java/util/ArrayList" "elementData") ∈ lw_all := lw_g (lw_at lw_m1 83 rfl) rfl
theorem q205 : (Jvm.Cond.lays "java/util/ArrayList" "java/util/ArrayList" "size" "I") ∈ lw_all := lw_g (lw_at lw_m1 84 rfl) rfl
theorem q206 : (Jvm.Cond.soleField "java/util/ArrayList" "size") ∈ lw_all := lw_g (lw_at lw_m1 85 rfl) rfl
theorem q207 : (Jvm.Cond.lays "java/util/ArrayList" "java/util/AbstractList" "modCount" "I") ∈ lw_all := lw_g (lw_at lw_m1 86 rfl) rfl
theorem q209 : (Jvm.Cond.superclass "java/util/ArrayList" "java/util/AbstractList") ∈ lw_all := lw_g (lw_at lw_m1 88 rfl) rfl
theorem q643 : (Jvm.Cond.instanceMethod ({ cls := "java/util/ArrayList", name := "size", desc := "()I" } : Jvm.MethodName)) ∈ lw_all := lw_g (lw_at lw_m3 42 rfl) rfl
theorem q644 : (Jvm.Cond.selects "java/util/ArrayList" ({ cls := "java/util/ArrayList", name := "size", desc := "()I" } : Jvm.MethodName) ({ cls := "java/util/ArrayList", name := "size", desc := "()I" } : Jvm.MethodName)) ∈ lw_all := lw_g (lw_at lw_m3 43 rfl) rfl
theorem q645 : (Jvm.Cond.code ({ cls := "java/util/ArrayList", name := "size", desc := "()I" } : Jvm.MethodName) prog_48_method_8_code (1 : Nat) (Option.some Jvm.ClassFile.FieldType.int)) ∈ lw_all := lw_g (lw_at lw_m3 44 rfl) rfl
theorem q822 : (Jvm.Cond.instanceMethod ({ cls := "java/util/ArrayList", name := "add", desc := "(Ljava/lang/Object;)Z" } : Jvm.MethodName)) ∈ lw_all := lw_g (lw_at lw_m3 221 rfl) rfl
theorem q823 : (Jvm.Cond.selects "java/util/ArrayList" ({ cls := "java/util/ArrayList", name := "add", desc := "(Ljava/lang/Object;)Z" } : Jvm.MethodName) ({ cls := "java/util/ArrayList", name := "add", desc := "(Ljava/lang/Object;)Z" } : Jvm.MethodName)) ∈ lw_all := lw_g (lw_at lw_m3 222 rfl) rfl
theorem q824 : (Jvm.Cond.code ({ cls := "java/util/ArrayList", name := "add", desc := "(Ljava/lang/Object;)Z" } : Jvm.MethodName) prog_48_method_25_code (2 : Nat) (Option.some Jvm.ClassFile.FieldType.boolean)) ∈ lw_all := lw_g (lw_at lw_m3 223 rfl) rfl
theorem q825 : (Jvm.Cond.methodLink "java/util/ArrayList" (131 : Nat) ({ cls := "java/util/ArrayList", name := "add", desc := "(Ljava/lang/Object;[Ljava/lang/Object;I)V" } : Jvm.MethodName)) ∈ lw_all := lw_g (lw_at lw_m3 224 rfl) rfl
theorem q826 : (Jvm.Cond.privateMethod ({ cls := "java/util/ArrayList", name := "add", desc := "(Ljava/lang/Object;[Ljava/lang/Object;I)V" } : Jvm.MethodName)) ∈ lw_tbl := lw_at lw_m3 225 rfl
theorem q827 : (Jvm.Cond.instanceMethod ({ cls := "java/util/ArrayList", name := "add", desc := "(Ljava/lang/Object;[Ljava/lang/Object;I)V" } : Jvm.MethodName)) ∈ lw_all := lw_g (lw_at lw_m3 226 rfl) rfl
theorem q828 : (Jvm.Cond.code ({ cls := "java/util/ArrayList", name := "add", desc := "(Ljava/lang/Object;[Ljava/lang/Object;I)V" } : Jvm.MethodName) prog_48_method_24_code (4 : Nat) (Option.none : Option Jvm.ClassFile.FieldType)) ∈ lw_all := lw_g (lw_at lw_m3 227 rfl) rfl
theorem q829 : (Jvm.Cond.methodLink "java/util/ArrayList" (129 : Nat) ({ cls := "java/util/ArrayList", name := "grow", desc := "()[Ljava/lang/Object;" } : Jvm.MethodName)) ∈ lw_all := lw_g (lw_at lw_m3 228 rfl) rfl
theorem q830 : (Jvm.Cond.privateMethod ({ cls := "java/util/ArrayList", name := "grow", desc := "()[Ljava/lang/Object;" } : Jvm.MethodName)) ∈ lw_tbl := lw_at lw_m3 229 rfl
theorem q831 : (Jvm.Cond.instanceMethod ({ cls := "java/util/ArrayList", name := "grow", desc := "()[Ljava/lang/Object;" } : Jvm.MethodName)) ∈ lw_all := lw_g (lw_at lw_m3 230 rfl) rfl
theorem q832 : (Jvm.Cond.code ({ cls := "java/util/ArrayList", name := "grow", desc := "()[Ljava/lang/Object;" } : Jvm.MethodName) prog_48_method_7_code (1 : Nat) (Option.some (Jvm.ClassFile.FieldType.array (Jvm.ClassFile.FieldType.object "java/lang/Object")))) ∈ lw_all := lw_g (lw_at lw_m3 231 rfl) rfl
theorem q833 : (Jvm.Cond.methodLink "java/util/ArrayList" (69 : Nat) ({ cls := "java/util/ArrayList", name := "grow", desc := "(I)[Ljava/lang/Object;" } : Jvm.MethodName)) ∈ lw_all := lw_g (lw_at lw_m3 232 rfl) rfl
theorem q834 : (Jvm.Cond.privateMethod ({ cls := "java/util/ArrayList", name := "grow", desc := "(I)[Ljava/lang/Object;" } : Jvm.MethodName)) ∈ lw_tbl := lw_at lw_m3 233 rfl
theorem q835 : (Jvm.Cond.instanceMethod ({ cls := "java/util/ArrayList", name := "grow", desc := "(I)[Ljava/lang/Object;" } : Jvm.MethodName)) ∈ lw_all := lw_g (lw_at lw_m3 234 rfl) rfl
theorem q836 : (Jvm.Cond.code ({ cls := "java/util/ArrayList", name := "grow", desc := "(I)[Ljava/lang/Object;" } : Jvm.MethodName) prog_48_method_6_code (4 : Nat) (Option.some (Jvm.ClassFile.FieldType.array (Jvm.ClassFile.FieldType.object "java/lang/Object")))) ∈ lw_all := lw_g (lw_at lw_m3 235 rfl) rfl
theorem q837 : (Jvm.Cond.fieldLink "java/util/ArrayList" (39 : Nat) "java/util/ArrayList" "DEFAULTCAPACITY_EMPTY_ELEMENTDATA" "[Ljava/lang/Object;") ∈ lw_all := lw_g (lw_at lw_m3 236 rfl) rfl
theorem q838 : (Jvm.Cond.laysStatic "java/util/ArrayList" "DEFAULTCAPACITY_EMPTY_ELEMENTDATA" "[Ljava/lang/Object;") ∈ lw_tbl := lw_at lw_m3 237 rfl
theorem q839 : (Jvm.Cond.methodLink "java/util/ArrayList" (73 : Nat) ({ cls := "jdk/internal/util/ArraysSupport", name := "newLength", desc := "(III)I" } : Jvm.MethodName)) ∈ lw_all := lw_g (lw_at lw_m3 238 rfl) rfl
theorem q849 : (Jvm.Cond.methodLink "java/util/ArrayList" (66 : Nat) ({ cls := "java/util/Arrays", name := "copyOf", desc := "([Ljava/lang/Object;I)[Ljava/lang/Object;" } : Jvm.MethodName)) ∈ lw_all := lw_g (lw_at lw_m4 8 rfl) rfl
theorem q878 : (Jvm.Cond.selects "java/util/ArrayList" ({ cls := "java/lang/Object", name := "getClass", desc := "()Ljava/lang/Class;" } : Jvm.MethodName) ({ cls := "java/lang/Object", name := "getClass", desc := "()Ljava/lang/Class;" } : Jvm.MethodName)) ∈ lw_all := lw_g (lw_at lw_m4 37 rfl) rfl
theorem q889 : (Jvm.Cond.methodLink "java/util/ArrayList" (79 : Nat) ({ cls := "java/lang/Math", name := "max", desc := "(II)I" } : Jvm.MethodName)) ∈ lw_all := lw_g (lw_at lw_m4 48 rfl) rfl
theorem q934 : (Jvm.Cond.instanceMethod ({ cls := "java/util/ArrayList", name := "get", desc := "(I)Ljava/lang/Object;" } : Jvm.MethodName)) ∈ lw_all := lw_g (lw_at lw_m4 93 rfl) rfl
theorem q935 : (Jvm.Cond.selects "java/util/ArrayList" ({ cls := "java/util/ArrayList", name := "get", desc := "(I)Ljava/lang/Object;" } : Jvm.MethodName) ({ cls := "java/util/ArrayList", name := "get", desc := "(I)Ljava/lang/Object;" } : Jvm.MethodName)) ∈ lw_all := lw_g (lw_at lw_m4 94 rfl) rfl
theorem q936 : (Jvm.Cond.code ({ cls := "java/util/ArrayList", name := "get", desc := "(I)Ljava/lang/Object;" } : Jvm.MethodName) prog_48_method_20_code (2 : Nat) (Option.some (Jvm.ClassFile.FieldType.object "java/lang/Object"))) ∈ lw_all := lw_g (lw_at lw_m4 95 rfl) rfl
theorem q937 : (Jvm.Cond.methodLink "java/util/ArrayList" (118 : Nat) ({ cls := "java/util/Objects", name := "checkIndex", desc := "(II)I" } : Jvm.MethodName)) ∈ lw_all := lw_g (lw_at lw_m4 96 rfl) rfl
theorem q941 : (Jvm.Cond.methodLink "java/util/ArrayList" (123 : Nat) ({ cls := "java/util/ArrayList", name := "elementData", desc := "(I)Ljava/lang/Object;" } : Jvm.MethodName)) ∈ lw_all := lw_g (lw_at lw_m4 100 rfl) rfl
theorem q942 : (Jvm.Cond.instanceMethod ({ cls := "java/util/ArrayList", name := "elementData", desc := "(I)Ljava/lang/Object;" } : Jvm.MethodName)) ∈ lw_all := lw_g (lw_at lw_m4 101 rfl) rfl
theorem q943 : (Jvm.Cond.selects "java/util/ArrayList" ({ cls := "java/util/ArrayList", name := "elementData", desc := "(I)Ljava/lang/Object;" } : Jvm.MethodName) ({ cls := "java/util/ArrayList", name := "elementData", desc := "(I)Ljava/lang/Object;" } : Jvm.MethodName)) ∈ lw_all := lw_g (lw_at lw_m4 102 rfl) rfl
theorem q944 : (Jvm.Cond.code ({ cls := "java/util/ArrayList", name := "elementData", desc := "(I)Ljava/lang/Object;" } : Jvm.MethodName) prog_48_method_18_code (2 : Nat) (Option.some (Jvm.ClassFile.FieldType.object "java/lang/Object"))) ∈ lw_all := lw_g (lw_at lw_m4 103 rfl) rfl
theorem q966 : (Jvm.Cond.instanceMethod ({ cls := "java/util/ArrayList", name := "set", desc := "(ILjava/lang/Object;)Ljava/lang/Object;" } : Jvm.MethodName)) ∈ lw_all := lw_g (lw_at lw_m4 125 rfl) rfl
theorem q967 : (Jvm.Cond.selects "java/util/ArrayList" ({ cls := "java/util/ArrayList", name := "set", desc := "(ILjava/lang/Object;)Ljava/lang/Object;" } : Jvm.MethodName) ({ cls := "java/util/ArrayList", name := "set", desc := "(ILjava/lang/Object;)Ljava/lang/Object;" } : Jvm.MethodName)) ∈ lw_all := lw_g (lw_at lw_m4 126 rfl) rfl
theorem q968 : (Jvm.Cond.code ({ cls := "java/util/ArrayList", name := "set", desc := "(ILjava/lang/Object;)Ljava/lang/Object;" } : Jvm.MethodName) prog_48_method_23_code (4 : Nat) (Option.some (Jvm.ClassFile.FieldType.object "java/lang/Object"))) ∈ lw_all := lw_g (lw_at lw_m4 127 rfl) rfl
theorem q1411 : (Jvm.Cond.instanceMethod ({ cls := "java/util/ArrayList", name := "addAll", desc := "(Ljava/util/Collection;)Z" } : Jvm.MethodName)) ∈ lw_all := lw_g (lw_at lw_m6 90 rfl) rfl
theorem q1412 : (Jvm.Cond.selects "java/util/ArrayList" ({ cls := "java/util/ArrayList", name := "addAll", desc := "(Ljava/util/Collection;)Z" } : Jvm.MethodName) ({ cls := "java/util/ArrayList", name := "addAll", desc := "(Ljava/util/Collection;)Z" } : Jvm.MethodName)) ∈ lw_all := lw_g (lw_at lw_m6 91 rfl) rfl
theorem q1413 : (Jvm.Cond.code ({ cls := "java/util/ArrayList", name := "addAll", desc := "(Ljava/util/Collection;)Z" } : Jvm.MethodName) prog_48_method_41_code (6 : Nat) (Option.some Jvm.ClassFile.FieldType.boolean)) ∈ lw_all := lw_g (lw_at lw_m6 92 rfl) rfl
theorem q1414 : (Jvm.Cond.interfaceEntry "java/util/ArrayList" (42 : Nat)) ∈ lw_tbl := lw_at lw_m6 93 rfl
theorem q1415 : (Jvm.Cond.methodLink "java/util/ArrayList" (42 : Nat) ({ cls := "java/util/Collection", name := "toArray", desc := "()[Ljava/lang/Object;" } : Jvm.MethodName)) ∈ lw_all := lw_g (lw_at lw_m6 94 rfl) rfl
theorem q1418 : (Jvm.Cond.castable "java/util/ArrayList" "java/util/Collection") ∈ lw_tbl := lw_at lw_m6 97 rfl
theorem q1419 : (Jvm.Cond.selects "java/util/ArrayList" ({ cls := "java/util/Collection", name := "toArray", desc := "()[Ljava/lang/Object;" } : Jvm.MethodName) ({ cls := "java/util/ArrayList", name := "toArray", desc := "()[Ljava/lang/Object;" } : Jvm.MethodName)) ∈ lw_all := lw_g (lw_at lw_m6 98 rfl) rfl
theorem q1420 : (Jvm.Cond.unhidden "java/util/ArrayList" "toArray" "()[Ljava/lang/Object;") ∈ lw_tbl := lw_at lw_m6 99 rfl
theorem q1421 : (Jvm.Cond.instanceMethod ({ cls := "java/util/ArrayList", name := "toArray", desc := "()[Ljava/lang/Object;" } : Jvm.MethodName)) ∈ lw_all := lw_g (lw_at lw_m6 100 rfl) rfl
theorem q1422 : (Jvm.Cond.publicMethod ({ cls := "java/util/ArrayList", name := "toArray", desc := "()[Ljava/lang/Object;" } : Jvm.MethodName)) ∈ lw_tbl := lw_at lw_m6 101 rfl
theorem q1423 : (Jvm.Cond.code ({ cls := "java/util/ArrayList", name := "toArray", desc := "()[Ljava/lang/Object;" } : Jvm.MethodName) prog_48_method_16_code (1 : Nat) (Option.some (Jvm.ClassFile.FieldType.array (Jvm.ClassFile.FieldType.object "java/lang/Object")))) ∈ lw_all := lw_g (lw_at lw_m6 102 rfl) rfl
theorem q1424 : (Jvm.Cond.methodLink "java/util/ArrayList" (112 : Nat) ({ cls := "java/lang/System", name := "arraycopy", desc := "(Ljava/lang/Object;ILjava/lang/Object;II)V" } : Jvm.MethodName)) ∈ lw_all := lw_g (lw_at lw_m6 103 rfl) rfl
theorem q2123 : (Jvm.Cond.castable "java/util/ArrayList" "java/lang/Object") ∈ lw_tbl := lw_at lw_m9 82 rfl
theorem in_J2 : ∀ w ∈ wsJ20, w ∈ lw_all := lw_in wsJ20 [207, 203, 205] (by decide +kernel) (by decide +kernel)
/-! java/lang/ArrayStoreException -/
set_option maxRecDepth 100000
def RJ20 : String := "java/lang/ArrayStoreException"
def TJ20 : u_T := fun k => match k with
  | 0 => ("java/lang/Throwable", "backtrace", "Ljava/lang/Object;", false)
  | 1 => ("java/lang/Throwable", "detailMessage", "Ljava/lang/String;", false)
  | 2 => ("java/lang/Throwable", "cause", "Ljava/lang/Throwable;", false)
  | 3 => ("java/lang/Throwable", "stackTrace", "[Ljava/lang/StackTraceElement;", false)
  | 4 => ("java/lang/Throwable", "depth", "I", false)
  | _ => ("java/lang/Throwable", "suppressedExceptions", "Ljava/util/List;", false)
def tyJ20 : Nat → FieldType := fun k => match k with
  | 0 => .object "java/lang/Object"
  | 1 => .object "java/lang/String"
  | 2 => .object "java/lang/Throwable"
  | 3 => .array (.object "java/lang/StackTraceElement")
  | 4 => .int
  | _ => .object "java/util/List"
abbrev wsJ200 : List Cond := u_ws RJ20 TJ20 6
theorem nmJ20 : ∀ a, a < 6 → ∀ b, b < 6 → a ≠ b → (TJ20 a).2.1 ≠ (TJ20 b).2.1 := by decide +kernel
theorem tyJ20_ok : ∀ k, k < 6 → parseFieldDescriptor (TJ20 k).2.2.1 = some (tyJ20 k) := by decide +kernel
abbrev cJ20_init : ByteArray := prog_24_method_2_code
def yJ20_init : MethodName := ⟨RJ20, "<init>", "(Ljava/lang/String;)V"⟩
def dkwJ20_init_0 : List UInt8 := [42, 43, 183, 0, 7, 177]
abbrev dktJ20_init_0 : List UInt8 := dkwJ20_init_0 ++ []
theorem dksJ20_init_0 : cJ20_init.data.toList.drop 0 = dktJ20_init_0 := by decide +kernel
theorem dJ20_init_0 : decode cJ20_init 0 = .ok (.aload_n 0, 1) := dk_42 (dk_at dksJ20_init_0 0 rfl rfl)
theorem dJ20_init_1 : decode cJ20_init 1 = .ok (.aload_n 1, 1) := dk_43 (dk_at dksJ20_init_0 1 rfl rfl)
theorem dJ20_init_2 : decode cJ20_init 2 = .ok (.invokespecial 7, 3) := dk_183 0 7 (dk_at dksJ20_init_0 2 rfl rfl)
theorem dJ20_init_5 : decode cJ20_init 5 = .ok (.return_, 1) := dk_177 (dk_at dksJ20_init_0 5 rfl rfl)
theorem q165 : (Jvm.Cond.initialized "java/lang/ArrayStoreException") ∈ lw_all := lw_g (lw_at lw_m1 44 rfl) rfl
theorem q567 : (Jvm.Cond.selects "java/lang/ArrayStoreException" ({ cls := "java/lang/Throwable", name := "fillInStackTrace", desc := "()Ljava/lang/Throwable;" } : Jvm.MethodName) ({ cls := "java/lang/Throwable", name := "fillInStackTrace", desc := "()Ljava/lang/Throwable;" } : Jvm.MethodName)) ∈ lw_all := lw_g (lw_at lw_m2 206 rfl) rfl
theorem q874 : (Jvm.Cond.selects "java/lang/ArrayStoreException" ({ cls := "java/lang/Object", name := "getClass", desc := "()Ljava/lang/Class;" } : Jvm.MethodName) ({ cls := "java/lang/Object", name := "getClass", desc := "()Ljava/lang/Class;" } : Jvm.MethodName)) ∈ lw_all := lw_g (lw_at lw_m4 33 rfl) rfl
theorem q1498 : (Jvm.Cond.instantiable "java/lang/ArrayStoreException" (6 : Nat)) ∈ lw_all := lw_g (lw_at lw_m6 177 rfl) rfl
theorem q1499 : (Jvm.Cond.instanceMethod ({ cls := "java/lang/ArrayStoreException", name := "<init>", desc := "(Ljava/lang/String;)V" } : Jvm.MethodName)) ∈ lw_all := lw_g (lw_at lw_m6 178 rfl) rfl
theorem q1500 : (Jvm.Cond.code ({ cls := "java/lang/ArrayStoreException", name := "<init>", desc := "(Ljava/lang/String;)V" } : Jvm.MethodName) prog_24_method_2_code (2 : Nat) (Option.none : Option Jvm.ClassFile.FieldType)) ∈ lw_all := lw_g (lw_at lw_m6 179 rfl) rfl
theorem q1501 : (Jvm.Cond.methodLink "java/lang/ArrayStoreException" (7 : Nat) ({ cls := "java/lang/RuntimeException", name := "<init>", desc := "(Ljava/lang/String;)V" } : Jvm.MethodName)) ∈ lw_all := lw_g (lw_at lw_m6 180 rfl) rfl
theorem q1502 : (Jvm.Cond.lays "java/lang/ArrayStoreException" "java/lang/Throwable" "backtrace" "Ljava/lang/Object;") ∈ lw_all := lw_g (lw_at lw_m6 181 rfl) rfl
theorem q1503 : (Jvm.Cond.lays "java/lang/ArrayStoreException" "java/lang/Throwable" "detailMessage" "Ljava/lang/String;") ∈ lw_all := lw_g (lw_at lw_m6 182 rfl) rfl
theorem q1504 : (Jvm.Cond.lays "java/lang/ArrayStoreException" "java/lang/Throwable" "cause" "Ljava/lang/Throwable;") ∈ lw_all := lw_g (lw_at lw_m6 183 rfl) rfl
theorem q1505 : (Jvm.Cond.lays "java/lang/ArrayStoreException" "java/lang/Throwable" "stackTrace" "[Ljava/lang/StackTraceElement;") ∈ lw_all := lw_g (lw_at lw_m6 184 rfl) rfl
theorem q1506 : (Jvm.Cond.lays "java/lang/ArrayStoreException" "java/lang/Throwable" "depth" "I") ∈ lw_all := lw_g (lw_at lw_m6 185 rfl) rfl
theorem q1507 : (Jvm.Cond.lays "java/lang/ArrayStoreException" "java/lang/Throwable" "suppressedExceptions" "Ljava/util/List;") ∈ lw_all := lw_g (lw_at lw_m6 186 rfl) rfl
theorem q1508 : (Jvm.Cond.superclass "java/lang/ArrayStoreException" "java/lang/RuntimeException") ∈ lw_all := lw_g (lw_at lw_m6 187 rfl) rfl
theorem q1509 : (Jvm.Cond.castable "java/lang/ArrayStoreException" "java/lang/ArrayStoreException") ∈ lw_tbl := lw_at lw_m6 188 rfl
theorem q1510 : (Jvm.Cond.selects "java/lang/ArrayStoreException" ({ cls := "java/lang/Throwable", name := "fillInStackTrace", desc := "(I)Ljava/lang/Throwable;" } : Jvm.MethodName) ({ cls := "java/lang/Throwable", name := "fillInStackTrace", desc := "(I)Ljava/lang/Throwable;" } : Jvm.MethodName)) ∈ lw_all := lw_g (lw_at lw_m6 189 rfl) rfl
theorem q2143 : (Jvm.Cond.castable "java/lang/ArrayStoreException" "java/lang/Object") ∈ lw_tbl := lw_at lw_m9 102 rfl
theorem in_J20 : ∀ w ∈ wsJ200, w ∈ lw_all := lw_in wsJ200 [1502, 1503, 1504, 1505, 1506, 1507] (by decide +kernel) (by decide +kernel)
/-! java/lang/Object -/
set_option maxRecDepth 100000
def RJ21 : String := "java/lang/Object"
abbrev cJ21_init : ByteArray := object_method_1_code
def yJ21_init : MethodName := ⟨RJ21, "<init>", "()V"⟩
theorem dJ21_init_0 : decode cJ21_init 0 = .ok (.return_, 1) := by decide +kernel
theorem q172 : (Jvm.Cond.instanceMethod ({ cls := "java/lang/Object", name := "<init>", desc := "()V" } : Jvm.MethodName)) ∈ lw_all := lw_g (lw_at lw_m1 51 rfl) rfl
theorem q173 : (Jvm.Cond.code ({ cls := "java/lang/Object", name := "<init>", desc := "()V" } : Jvm.MethodName) object_method_1_code (1 : Nat) (Option.none : Option Jvm.ClassFile.FieldType)) ∈ lw_all := lw_g (lw_at lw_m1 52 rfl) rfl
theorem q853 : (Jvm.Cond.instanceMethod ({ cls := "java/lang/Object", name := "getClass", desc := "()Ljava/lang/Class;" } : Jvm.MethodName)) ∈ lw_all := lw_g (lw_at lw_m4 12 rfl) rfl
theorem q854 : (Jvm.Cond.sameMethod "java/lang/Object" "java/lang/Object" "getClass" "()Ljava/lang/Class;") ∈ lw_all := lw_g (lw_at lw_m4 13 rfl) rfl
theorem q879 : (Jvm.Cond.native ({ cls := "java/lang/Object", name := "getClass", desc := "()Ljava/lang/Class;" } : Jvm.MethodName)) ∈ lw_all := lw_g (lw_at lw_m4 38 rfl) rfl
theorem q2106 : (Jvm.Cond.initialized "java/lang/Object") ∈ lw_all := lw_g (lw_at lw_m9 65 rfl) rfl
theorem q2147 : (Jvm.Cond.declares ({ cls := "java/lang/Object", name := "getClass", desc := "()Ljava/lang/Class;" } : Jvm.MethodName)) ∈ lw_tbl := lw_at lw_m9 106 rfl
/-! java/lang/Math -/
set_option maxRecDepth 100000
def RJ3 : String := "java/lang/Math"
abbrev cJ3_min : ByteArray := prog_34_method_69_code
def yJ3_min : MethodName := ⟨RJ3, "min", "(II)I"⟩
def dkwJ3_min_0 : List UInt8 := [26, 27, 163, 0, 7, 26, 167, 0, 4, 27, 172]
abbrev dktJ3_min_0 : List UInt8 := dkwJ3_min_0 ++ []
theorem dksJ3_min_0 : cJ3_min.data.toList.drop 0 = dktJ3_min_0 := by decide +kernel
theorem dJ3_min_0 : decode cJ3_min 0 = .ok (.iload_n 0, 1) := dk_26 (dk_at dksJ3_min_0 0 rfl rfl)
theorem dJ3_min_1 : decode cJ3_min 1 = .ok (.iload_n 1, 1) := dk_27 (dk_at dksJ3_min_0 1 rfl rfl)
theorem dJ3_min_2 : decode cJ3_min 2 = .ok (.if_icmp .gt 7, 3) := dk_163 0 7 (dk_at dksJ3_min_0 2 rfl rfl)
theorem dJ3_min_5 : decode cJ3_min 5 = .ok (.iload_n 0, 1) := dk_26 (dk_at dksJ3_min_0 5 rfl rfl)
theorem dJ3_min_6 : decode cJ3_min 6 = .ok (.goto 4, 3) := dk_167 0 4 (dk_at dksJ3_min_0 6 rfl rfl)
theorem dJ3_min_9 : decode cJ3_min 9 = .ok (.iload_n 1, 1) := dk_27 (dk_at dksJ3_min_0 9 rfl rfl)
theorem dJ3_min_10 : decode cJ3_min 10 = .ok (.ireturn, 1) := dk_172 (dk_at dksJ3_min_0 10 rfl rfl)
abbrev cJ3_max : ByteArray := prog_34_method_65_code
def yJ3_max : MethodName := ⟨RJ3, "max", "(II)I"⟩
def dkwJ3_max_0 : List UInt8 := [26, 27, 161, 0, 7, 26, 167, 0, 4, 27, 172]
abbrev dktJ3_max_0 : List UInt8 := dkwJ3_max_0 ++ []
theorem dksJ3_max_0 : cJ3_max.data.toList.drop 0 = dktJ3_max_0 := by decide +kernel
theorem dJ3_max_0 : decode cJ3_max 0 = .ok (.iload_n 0, 1) := dk_26 (dk_at dksJ3_max_0 0 rfl rfl)
theorem dJ3_max_1 : decode cJ3_max 1 = .ok (.iload_n 1, 1) := dk_27 (dk_at dksJ3_max_0 1 rfl rfl)
theorem dJ3_max_2 : decode cJ3_max 2 = .ok (.if_icmp .lt 7, 3) := dk_161 0 7 (dk_at dksJ3_max_0 2 rfl rfl)
theorem dJ3_max_5 : decode cJ3_max 5 = .ok (.iload_n 0, 1) := dk_26 (dk_at dksJ3_max_0 5 rfl rfl)
theorem dJ3_max_6 : decode cJ3_max 6 = .ok (.goto 4, 3) := dk_167 0 4 (dk_at dksJ3_max_0 6 rfl rfl)
theorem dJ3_max_9 : decode cJ3_max 9 = .ok (.iload_n 1, 1) := dk_27 (dk_at dksJ3_max_0 9 rfl rfl)
theorem dJ3_max_10 : decode cJ3_max 10 = .ok (.ireturn, 1) := dk_172 (dk_at dksJ3_max_0 10 rfl rfl)
abbrev cJ3_abs : ByteArray := prog_34_method_59_code
def yJ3_abs : MethodName := ⟨RJ3, "abs", "(I)I"⟩
def dkwJ3_abs_0 : List UInt8 := [26, 156, 0, 8, 26, 116, 167, 0, 4, 26, 172]
abbrev dktJ3_abs_0 : List UInt8 := dkwJ3_abs_0 ++ []
theorem dksJ3_abs_0 : cJ3_abs.data.toList.drop 0 = dktJ3_abs_0 := by decide +kernel
theorem dJ3_abs_0 : decode cJ3_abs 0 = .ok (.iload_n 0, 1) := dk_26 (dk_at dksJ3_abs_0 0 rfl rfl)
theorem dJ3_abs_1 : decode cJ3_abs 1 = .ok (.ifCond .ge 8, 3) := dk_156 0 8 (dk_at dksJ3_abs_0 1 rfl rfl)
theorem dJ3_abs_4 : decode cJ3_abs 4 = .ok (.iload_n 0, 1) := dk_26 (dk_at dksJ3_abs_0 4 rfl rfl)
theorem dJ3_abs_5 : decode cJ3_abs 5 = .ok (.ineg, 1) := dk_116 (dk_at dksJ3_abs_0 5 rfl rfl)
theorem dJ3_abs_6 : decode cJ3_abs 6 = .ok (.goto 4, 3) := dk_167 0 4 (dk_at dksJ3_abs_0 6 rfl rfl)
theorem dJ3_abs_9 : decode cJ3_abs 9 = .ok (.iload_n 0, 1) := dk_26 (dk_at dksJ3_abs_0 9 rfl rfl)
theorem dJ3_abs_10 : decode cJ3_abs 10 = .ok (.ireturn, 1) := dk_172 (dk_at dksJ3_abs_0 10 rfl rfl)
theorem q132 : (Jvm.Cond.initialized "java/lang/Math") ∈ lw_all := lw_g (lw_at lw_m1 11 rfl) rfl
theorem q432 : (Jvm.Cond.static ({ cls := "java/lang/Math", name := "min", desc := "(II)I" } : Jvm.MethodName)) ∈ lw_all := lw_g (lw_at lw_m2 71 rfl) rfl
theorem q433 : (Jvm.Cond.code ({ cls := "java/lang/Math", name := "min", desc := "(II)I" } : Jvm.MethodName) prog_34_method_69_code (2 : Nat) (Option.some Jvm.ClassFile.FieldType.int)) ∈ lw_all := lw_g (lw_at lw_m2 72 rfl) rfl
theorem q843 : (Jvm.Cond.static ({ cls := "java/lang/Math", name := "max", desc := "(II)I" } : Jvm.MethodName)) ∈ lw_all := lw_g (lw_at lw_m4 2 rfl) rfl
theorem q844 : (Jvm.Cond.code ({ cls := "java/lang/Math", name := "max", desc := "(II)I" } : Jvm.MethodName) prog_34_method_65_code (2 : Nat) (Option.some Jvm.ClassFile.FieldType.int)) ∈ lw_all := lw_g (lw_at lw_m4 3 rfl) rfl
theorem q1071 : (Jvm.Cond.static ({ cls := "java/lang/Math", name := "abs", desc := "(I)I" } : Jvm.MethodName)) ∈ lw_all := lw_g (lw_at lw_m4 230 rfl) rfl
theorem q1072 : (Jvm.Cond.code ({ cls := "java/lang/Math", name := "abs", desc := "(I)I" } : Jvm.MethodName) prog_34_method_59_code (1 : Nat) (Option.some Jvm.ClassFile.FieldType.int)) ∈ lw_all := lw_g (lw_at lw_m4 231 rfl) rfl
/-! java/lang/String -/
set_option maxRecDepth 100000
def RJ4 : String := "java/lang/String"
def TJ4 : u_T := fun k => match k with
  | 0 => ("java/lang/String", "value", "[B", true)
  | _ => ("java/lang/String", "coder", "B", true)
def tyJ4 : Nat → FieldType := fun k => match k with
  | 0 => .array .byte
  | _ => .byte
abbrev wsJ40 : List Cond := u_ws RJ4 TJ4 2
theorem nmJ4 : ∀ a, a < 2 → ∀ b, b < 2 → a ≠ b → (TJ4 a).2.1 ≠ (TJ4 b).2.1 := by decide +kernel
theorem tyJ4_ok : ∀ k, k < 2 → parseFieldDescriptor (TJ4 k).2.2.1 = some (tyJ4 k) := by decide +kernel
abbrev cJ4_length : ByteArray := prog_39_method_54_code
def yJ4_length : MethodName := ⟨RJ4, "length", "()I"⟩
def dkwJ4_length_0 : List UInt8 := [42, 180, 0, 9, 190, 42, 182, 1, 79, 122, 172]
abbrev dktJ4_length_0 : List UInt8 := dkwJ4_length_0 ++ []
theorem dksJ4_length_0 : cJ4_length.data.toList.drop 0 = dktJ4_length_0 := by decide +kernel
theorem dJ4_length_0 : decode cJ4_length 0 = .ok (.aload_n 0, 1) := dk_42 (dk_at dksJ4_length_0 0 rfl rfl)
theorem dJ4_length_1 : decode cJ4_length 1 = .ok (.getfield 9, 3) := dk_180 0 9 (dk_at dksJ4_length_0 1 rfl rfl)
theorem dJ4_length_4 : decode cJ4_length 4 = .ok (.arraylength, 1) := dk_190 (dk_at dksJ4_length_0 4 rfl rfl)
theorem dJ4_length_5 : decode cJ4_length 5 = .ok (.aload_n 0, 1) := dk_42 (dk_at dksJ4_length_0 5 rfl rfl)
theorem dJ4_length_6 : decode cJ4_length 6 = .ok (.invokevirtual 335, 3) := dk_182 1 79 (dk_at dksJ4_length_0 6 rfl rfl)
theorem dJ4_length_9 : decode cJ4_length 9 = .ok (.ishr, 1) := dk_122 (dk_at dksJ4_length_0 9 rfl rfl)
theorem dJ4_length_10 : decode cJ4_length 10 = .ok (.ireturn, 1) := dk_172 (dk_at dksJ4_length_0 10 rfl rfl)
abbrev cJ4_coder : ByteArray := prog_39_method_152_code
def yJ4_coder : MethodName := ⟨RJ4, "coder", "()B"⟩
def dkwJ4_coder_0 : List UInt8 := [178, 0, 38, 153, 0, 10, 42, 180, 0, 15, 167, 0, 4, 4, 172]
abbrev dktJ4_coder_0 : List UInt8 := dkwJ4_coder_0 ++ []
theorem dksJ4_coder_0 : cJ4_coder.data.toList.drop 0 = dktJ4_coder_0 := by decide +kernel
theorem dJ4_coder_0 : decode cJ4_coder 0 = .ok (.getstatic 38, 3) := dk_178 0 38 (dk_at dksJ4_coder_0 0 rfl rfl)
theorem dJ4_coder_3 : decode cJ4_coder 3 = .ok (.ifCond .eq 10, 3) := dk_153 0 10 (dk_at dksJ4_coder_0 3 rfl rfl)
theorem dJ4_coder_6 : decode cJ4_coder 6 = .ok (.aload_n 0, 1) := dk_42 (dk_at dksJ4_coder_0 6 rfl rfl)
theorem dJ4_coder_7 : decode cJ4_coder 7 = .ok (.getfield 15, 3) := dk_180 0 15 (dk_at dksJ4_coder_0 7 rfl rfl)
theorem dJ4_coder_10 : decode cJ4_coder 10 = .ok (.goto 4, 3) := dk_167 0 4 (dk_at dksJ4_coder_0 10 rfl rfl)
theorem dJ4_coder_13 : decode cJ4_coder 13 = .ok (.iconst 1, 1) := dk_4 (dk_at dksJ4_coder_0 13 rfl rfl)
theorem dJ4_coder_14 : decode cJ4_coder 14 = .ok (.ireturn, 1) := dk_172 (dk_at dksJ4_coder_0 14 rfl rfl)
abbrev cJ4_charAt : ByteArray := prog_39_method_56_code
def yJ4_charAt : MethodName := ⟨RJ4, "charAt", "(I)C"⟩
def dkwJ4_charAt_1 : List UInt8 := [172]
abbrev dktJ4_charAt_1 : List UInt8 := dkwJ4_charAt_1 ++ []
def dkwJ4_charAt_0 : List UInt8 := [42, 182, 1, 236, 153, 0, 12, 42, 180, 0, 9, 27, 184, 1, 239, 172, 42, 180, 0, 9, 27, 184, 1, 242]
abbrev dktJ4_charAt_0 : List UInt8 := dkwJ4_charAt_0 ++ dktJ4_charAt_1
theorem dksJ4_charAt_0 : cJ4_charAt.data.toList.drop 0 = dktJ4_charAt_0 := by decide +kernel
theorem dksJ4_charAt_1 : cJ4_charAt.data.toList.drop 24 = dktJ4_charAt_1 := dk_seg dksJ4_charAt_0 24 rfl rfl
theorem dJ4_charAt_0 : decode cJ4_charAt 0 = .ok (.aload_n 0, 1) := dk_42 (dk_at dksJ4_charAt_0 0 rfl rfl)
theorem dJ4_charAt_1 : decode cJ4_charAt 1 = .ok (.invokevirtual 492, 3) := dk_182 1 236 (dk_at dksJ4_charAt_0 1 rfl rfl)
theorem dJ4_charAt_4 : decode cJ4_charAt 4 = .ok (.ifCond .eq 12, 3) := dk_153 0 12 (dk_at dksJ4_charAt_0 4 rfl rfl)
theorem dJ4_charAt_7 : decode cJ4_charAt 7 = .ok (.aload_n 0, 1) := dk_42 (dk_at dksJ4_charAt_0 7 rfl rfl)
theorem dJ4_charAt_8 : decode cJ4_charAt 8 = .ok (.getfield 9, 3) := dk_180 0 9 (dk_at dksJ4_charAt_0 8 rfl rfl)
theorem dJ4_charAt_11 : decode cJ4_charAt 11 = .ok (.iload_n 1, 1) := dk_27 (dk_at dksJ4_charAt_0 11 rfl rfl)
theorem dJ4_charAt_12 : decode cJ4_charAt 12 = .ok (.invokestatic 495, 3) := dk_184 1 239 (dk_at dksJ4_charAt_0 12 rfl rfl)
theorem dJ4_charAt_15 : decode cJ4_charAt 15 = .ok (.ireturn, 1) := dk_172 (dk_at dksJ4_charAt_0 15 rfl rfl)
theorem dJ4_charAt_16 : decode cJ4_charAt 16 = .ok (.aload_n 0, 1) := dk_42 (dk_at dksJ4_charAt_0 16 rfl rfl)
theorem dJ4_charAt_17 : decode cJ4_charAt 17 = .ok (.getfield 9, 3) := dk_180 0 9 (dk_at dksJ4_charAt_0 17 rfl rfl)
theorem dJ4_charAt_20 : decode cJ4_charAt 20 = .ok (.iload_n 1, 1) := dk_27 (dk_at dksJ4_charAt_0 20 rfl rfl)
theorem dJ4_charAt_21 : decode cJ4_charAt 21 = .ok (.invokestatic 498, 3) := dk_184 1 242 (dk_at dksJ4_charAt_0 21 rfl rfl)
theorem dJ4_charAt_24 : decode cJ4_charAt 24 = .ok (.ireturn, 1) := dk_172 (dk_at dksJ4_charAt_1 0 rfl rfl)
abbrev cJ4_isLatin1 : ByteArray := prog_39_method_154_code
def yJ4_isLatin1 : MethodName := ⟨RJ4, "isLatin1", "()Z"⟩
def dkwJ4_isLatin1_0 : List UInt8 := [178, 0, 38, 153, 0, 14, 42, 180, 0, 15, 154, 0, 7, 4, 167, 0, 4, 3, 172]
abbrev dktJ4_isLatin1_0 : List UInt8 := dkwJ4_isLatin1_0 ++ []
theorem dksJ4_isLatin1_0 : cJ4_isLatin1.data.toList.drop 0 = dktJ4_isLatin1_0 := by decide +kernel
theorem dJ4_isLatin1_0 : decode cJ4_isLatin1 0 = .ok (.getstatic 38, 3) := dk_178 0 38 (dk_at dksJ4_isLatin1_0 0 rfl rfl)
theorem dJ4_isLatin1_3 : decode cJ4_isLatin1 3 = .ok (.ifCond .eq 14, 3) := dk_153 0 14 (dk_at dksJ4_isLatin1_0 3 rfl rfl)
theorem dJ4_isLatin1_6 : decode cJ4_isLatin1 6 = .ok (.aload_n 0, 1) := dk_42 (dk_at dksJ4_isLatin1_0 6 rfl rfl)
theorem dJ4_isLatin1_7 : decode cJ4_isLatin1 7 = .ok (.getfield 15, 3) := dk_180 0 15 (dk_at dksJ4_isLatin1_0 7 rfl rfl)
theorem dJ4_isLatin1_10 : decode cJ4_isLatin1 10 = .ok (.ifCond .ne 7, 3) := dk_154 0 7 (dk_at dksJ4_isLatin1_0 10 rfl rfl)
theorem dJ4_isLatin1_13 : decode cJ4_isLatin1 13 = .ok (.iconst 1, 1) := dk_4 (dk_at dksJ4_isLatin1_0 13 rfl rfl)
theorem dJ4_isLatin1_14 : decode cJ4_isLatin1 14 = .ok (.goto 4, 3) := dk_167 0 4 (dk_at dksJ4_isLatin1_0 14 rfl rfl)
theorem dJ4_isLatin1_17 : decode cJ4_isLatin1 17 = .ok (.iconst 0, 1) := dk_3 (dk_at dksJ4_isLatin1_0 17 rfl rfl)
theorem dJ4_isLatin1_18 : decode cJ4_isLatin1 18 = .ok (.ireturn, 1) := dk_172 (dk_at dksJ4_isLatin1_0 18 rfl rfl)
abbrev cJ4_checkIndex : ByteArray := prog_39_method_155_code
def yJ4_checkIndex : MethodName := ⟨RJ4, "checkIndex", "(II)V"⟩
def dkwJ4_checkIndex_0 : List UInt8 := [26, 27, 178, 4, 29, 184, 4, 35, 87, 177]
abbrev dktJ4_checkIndex_0 : List UInt8 := dkwJ4_checkIndex_0 ++ []
theorem dksJ4_checkIndex_0 : cJ4_checkIndex.data.toList.drop 0 = dktJ4_checkIndex_0 := by decide +kernel
theorem dJ4_checkIndex_0 : decode cJ4_checkIndex 0 = .ok (.iload_n 0, 1) := dk_26 (dk_at dksJ4_checkIndex_0 0 rfl rfl)
theorem dJ4_checkIndex_1 : decode cJ4_checkIndex 1 = .ok (.iload_n 1, 1) := dk_27 (dk_at dksJ4_checkIndex_0 1 rfl rfl)
theorem dJ4_checkIndex_2 : decode cJ4_checkIndex 2 = .ok (.getstatic 1053, 3) := dk_178 4 29 (dk_at dksJ4_checkIndex_0 2 rfl rfl)
theorem dJ4_checkIndex_5 : decode cJ4_checkIndex 5 = .ok (.invokestatic 1059, 3) := dk_184 4 35 (dk_at dksJ4_checkIndex_0 5 rfl rfl)
theorem dJ4_checkIndex_8 : decode cJ4_checkIndex 8 = .ok (.pop, 1) := dk_87 (dk_at dksJ4_checkIndex_0 8 rfl rfl)
theorem dJ4_checkIndex_9 : decode cJ4_checkIndex 9 = .ok (.return_, 1) := dk_177 (dk_at dksJ4_checkIndex_0 9 rfl rfl)
theorem q133 : (Jvm.Cond.initialized "java/lang/String") ∈ lw_all := lw_g (lw_at lw_m1 12 rfl) rfl
theorem q484 : (Jvm.Cond.instanceMethod ({ cls := "java/lang/String", name := "length", desc := "()I" } : Jvm.MethodName)) ∈ lw_all := lw_g (lw_at lw_m2 123 rfl) rfl
theorem q485 : (Jvm.Cond.selects "java/lang/String" ({ cls := "java/lang/String", name := "length", desc := "()I" } : Jvm.MethodName) ({ cls := "java/lang/String", name := "length", desc := "()I" } : Jvm.MethodName)) ∈ lw_all := lw_g (lw_at lw_m2 124 rfl) rfl
theorem q486 : (Jvm.Cond.code ({ cls := "java/lang/String", name := "length", desc := "()I" } : Jvm.MethodName) prog_39_method_54_code (1 : Nat) (Option.some Jvm.ClassFile.FieldType.int)) ∈ lw_all := lw_g (lw_at lw_m2 125 rfl) rfl
theorem q487 : (Jvm.Cond.methodLink "java/lang/String" (335 : Nat) ({ cls := "java/lang/String", name := "coder", desc := "()B" } : Jvm.MethodName)) ∈ lw_all := lw_g (lw_at lw_m2 126 rfl) rfl
theorem q488 : (Jvm.Cond.instanceMethod ({ cls := "java/lang/String", name := "coder", desc := "()B" } : Jvm.MethodName)) ∈ lw_all := lw_g (lw_at lw_m2 127 rfl) rfl
theorem q489 : (Jvm.Cond.selects "java/lang/String" ({ cls := "java/lang/String", name := "coder", desc := "()B" } : Jvm.MethodName) ({ cls := "java/lang/String", name := "coder", desc := "()B" } : Jvm.MethodName)) ∈ lw_all := lw_g (lw_at lw_m2 128 rfl) rfl
theorem q490 : (Jvm.Cond.code ({ cls := "java/lang/String", name := "coder", desc := "()B" } : Jvm.MethodName) prog_39_method_152_code (1 : Nat) (Option.some Jvm.ClassFile.FieldType.byte)) ∈ lw_all := lw_g (lw_at lw_m2 129 rfl) rfl
theorem q491 : (Jvm.Cond.fieldLink "java/lang/String" (38 : Nat) "java/lang/String" "COMPACT_STRINGS" "Z") ∈ lw_all := lw_g (lw_at lw_m2 130 rfl) rfl
theorem q492 : (Jvm.Cond.laysStatic "java/lang/String" "COMPACT_STRINGS" "Z") ∈ lw_tbl := lw_at lw_m2 131 rfl
theorem q494 : (Jvm.Cond.instanceMethod ({ cls := "java/lang/String", name := "charAt", desc := "(I)C" } : Jvm.MethodName)) ∈ lw_all := lw_g (lw_at lw_m2 133 rfl) rfl
theorem q495 : (Jvm.Cond.selects "java/lang/String" ({ cls := "java/lang/String", name := "charAt", desc := "(I)C" } : Jvm.MethodName) ({ cls := "java/lang/String", name := "charAt", desc := "(I)C" } : Jvm.MethodName)) ∈ lw_all := lw_g (lw_at lw_m2 134 rfl) rfl
theorem q496 : (Jvm.Cond.code ({ cls := "java/lang/String", name := "charAt", desc := "(I)C" } : Jvm.MethodName) prog_39_method_56_code (2 : Nat) (Option.some Jvm.ClassFile.FieldType.char)) ∈ lw_all := lw_g (lw_at lw_m2 135 rfl) rfl
theorem q497 : (Jvm.Cond.methodLink "java/lang/String" (492 : Nat) ({ cls := "java/lang/String", name := "isLatin1", desc := "()Z" } : Jvm.MethodName)) ∈ lw_all := lw_g (lw_at lw_m2 136 rfl) rfl
theorem q498 : (Jvm.Cond.instanceMethod ({ cls := "java/lang/String", name := "isLatin1", desc := "()Z" } : Jvm.MethodName)) ∈ lw_all := lw_g (lw_at lw_m2 137 rfl) rfl
theorem q499 : (Jvm.Cond.selects "java/lang/String" ({ cls := "java/lang/String", name := "isLatin1", desc := "()Z" } : Jvm.MethodName) ({ cls := "java/lang/String", name := "isLatin1", desc := "()Z" } : Jvm.MethodName)) ∈ lw_all := lw_g (lw_at lw_m2 138 rfl) rfl
theorem q500 : (Jvm.Cond.code ({ cls := "java/lang/String", name := "isLatin1", desc := "()Z" } : Jvm.MethodName) prog_39_method_154_code (1 : Nat) (Option.some Jvm.ClassFile.FieldType.boolean)) ∈ lw_all := lw_g (lw_at lw_m2 139 rfl) rfl
theorem q501 : (Jvm.Cond.methodLink "java/lang/String" (495 : Nat) ({ cls := "java/lang/StringLatin1", name := "charAt", desc := "([BI)C" } : Jvm.MethodName)) ∈ lw_all := lw_g (lw_at lw_m2 140 rfl) rfl
theorem q505 : (Jvm.Cond.static ({ cls := "java/lang/String", name := "checkIndex", desc := "(II)V" } : Jvm.MethodName)) ∈ lw_all := lw_g (lw_at lw_m2 144 rfl) rfl
theorem q506 : (Jvm.Cond.code ({ cls := "java/lang/String", name := "checkIndex", desc := "(II)V" } : Jvm.MethodName) prog_39_method_155_code (2 : Nat) (Option.none : Option Jvm.ClassFile.FieldType)) ∈ lw_all := lw_g (lw_at lw_m2 145 rfl) rfl
theorem q507 : (Jvm.Cond.fieldLink "java/lang/String" (1053 : Nat) "jdk/internal/util/Preconditions" "SIOOBE_FORMATTER" "Ljava/util/function/BiFunction;") ∈ lw_all := lw_g (lw_at lw_m2 146 rfl) rfl
theorem q509 : (Jvm.Cond.methodLink "java/lang/String" (1059 : Nat) ({ cls := "jdk/internal/util/Preconditions", name := "checkIndex", desc := "(IILjava/util/function/BiFunction;)I" } : Jvm.MethodName)) ∈ lw_all := lw_g (lw_at lw_m2 148 rfl) rfl
theorem q512 : (Jvm.Cond.methodLink "java/lang/String" (498 : Nat) ({ cls := "java/lang/StringUTF16", name := "charAt", desc := "([BI)C" } : Jvm.MethodName)) ∈ lw_all := lw_g (lw_at lw_m2 151 rfl) rfl
theorem q1455 : (Jvm.Cond.instantiable "java/lang/String" (4 : Nat)) ∈ lw_all := lw_g (lw_at lw_m6 134 rfl) rfl
theorem q1456 : (Jvm.Cond.laysFinal "java/lang/String" "java/lang/String" "value" "[B") ∈ lw_all := lw_g (lw_at lw_m6 135 rfl) rfl
theorem q1457 : (Jvm.Cond.soleField "java/lang/String" "value") ∈ lw_all := lw_g (lw_at lw_m6 136 rfl) rfl
theorem q1458 : (Jvm.Cond.laysFinal "java/lang/String" "java/lang/String" "coder" "B") ∈ lw_all := lw_g (lw_at lw_m6 137 rfl) rfl
theorem q1459 : (Jvm.Cond.soleField "java/lang/String" "coder") ∈ lw_all := lw_g (lw_at lw_m6 138 rfl) rfl
theorem q2119 : (Jvm.Cond.castable "java/lang/String" "java/lang/Object") ∈ lw_tbl := lw_at lw_m9 78 rfl
theorem q2158 : (Jvm.Cond.fieldLink "java/lang/String" (9 : Nat) "java/lang/String" "value" "[B") ∈ lw_all := lw_g (lw_at lw_m9 117 rfl) rfl
theorem q2159 : (Jvm.Cond.fieldLink "java/lang/String" (15 : Nat) "java/lang/String" "coder" "B") ∈ lw_all := lw_g (lw_at lw_m9 118 rfl) rfl
theorem in_J4 : ∀ w ∈ wsJ40, w ∈ lw_all := lw_in wsJ40 [1456, 1458] (by decide +kernel) (by decide +kernel)
/-! java/lang/StringLatin1 -/
set_option maxRecDepth 100000
def RJ5 : String := "java/lang/StringLatin1"
abbrev cJ5_charAt : ByteArray := prog_40_method_2_code
def yJ5_charAt : MethodName := ⟨RJ5, "charAt", "([BI)C"⟩
def dkwJ5_charAt_0 : List UInt8 := [27, 42, 190, 184, 0, 9, 42, 27, 51, 17, 0, 255, 126, 146, 172]
abbrev dktJ5_charAt_0 : List UInt8 := dkwJ5_charAt_0 ++ []
theorem dksJ5_charAt_0 : cJ5_charAt.data.toList.drop 0 = dktJ5_charAt_0 := by decide +kernel
theorem dJ5_charAt_0 : decode cJ5_charAt 0 = .ok (.iload_n 1, 1) := dk_27 (dk_at dksJ5_charAt_0 0 rfl rfl)
theorem dJ5_charAt_1 : decode cJ5_charAt 1 = .ok (.aload_n 0, 1) := dk_42 (dk_at dksJ5_charAt_0 1 rfl rfl)
theorem dJ5_charAt_2 : decode cJ5_charAt 2 = .ok (.arraylength, 1) := dk_190 (dk_at dksJ5_charAt_0 2 rfl rfl)
theorem dJ5_charAt_3 : decode cJ5_charAt 3 = .ok (.invokestatic 9, 3) := dk_184 0 9 (dk_at dksJ5_charAt_0 3 rfl rfl)
theorem dJ5_charAt_6 : decode cJ5_charAt 6 = .ok (.aload_n 0, 1) := dk_42 (dk_at dksJ5_charAt_0 6 rfl rfl)
theorem dJ5_charAt_7 : decode cJ5_charAt 7 = .ok (.iload_n 1, 1) := dk_27 (dk_at dksJ5_charAt_0 7 rfl rfl)
theorem dJ5_charAt_8 : decode cJ5_charAt 8 = .ok (.baload, 1) := dk_51 (dk_at dksJ5_charAt_0 8 rfl rfl)
theorem dJ5_charAt_9 : decode cJ5_charAt 9 = .ok (.sipush 255, 3) := dk_17 0 255 (dk_at dksJ5_charAt_0 9 rfl rfl)
theorem dJ5_charAt_12 : decode cJ5_charAt 12 = .ok (.iand, 1) := dk_126 (dk_at dksJ5_charAt_0 12 rfl rfl)
theorem dJ5_charAt_13 : decode cJ5_charAt 13 = .ok (.i2c, 1) := dk_146 (dk_at dksJ5_charAt_0 13 rfl rfl)
theorem dJ5_charAt_14 : decode cJ5_charAt 14 = .ok (.ireturn, 1) := dk_172 (dk_at dksJ5_charAt_0 14 rfl rfl)
theorem q134 : (Jvm.Cond.initialized "java/lang/StringLatin1") ∈ lw_all := lw_g (lw_at lw_m1 13 rfl) rfl
theorem q502 : (Jvm.Cond.static ({ cls := "java/lang/StringLatin1", name := "charAt", desc := "([BI)C" } : Jvm.MethodName)) ∈ lw_all := lw_g (lw_at lw_m2 141 rfl) rfl
theorem q503 : (Jvm.Cond.code ({ cls := "java/lang/StringLatin1", name := "charAt", desc := "([BI)C" } : Jvm.MethodName) prog_40_method_2_code (2 : Nat) (Option.some Jvm.ClassFile.FieldType.char)) ∈ lw_all := lw_g (lw_at lw_m2 142 rfl) rfl
theorem q504 : (Jvm.Cond.methodLink "java/lang/StringLatin1" (9 : Nat) ({ cls := "java/lang/String", name := "checkIndex", desc := "(II)V" } : Jvm.MethodName)) ∈ lw_all := lw_g (lw_at lw_m2 143 rfl) rfl
/-! jdk/internal/util/Preconditions -/
set_option maxRecDepth 100000
def RJ6 : String := "jdk/internal/util/Preconditions"
abbrev cJ6_checkIndex : ByteArray := prog_56_method_11_code
def yJ6_checkIndex : MethodName := ⟨RJ6, "checkIndex", "(IILjava/util/function/BiFunction;)I"⟩
def dkwJ6_checkIndex_0 : List UInt8 := [26, 155, 0, 8, 26, 27, 161, 0, 10, 44, 26, 27, 184, 0, 95, 191, 26, 172]
abbrev dktJ6_checkIndex_0 : List UInt8 := dkwJ6_checkIndex_0 ++ []
theorem dksJ6_checkIndex_0 : cJ6_checkIndex.data.toList.drop 0 = dktJ6_checkIndex_0 := by decide +kernel
theorem dJ6_checkIndex_0 : decode cJ6_checkIndex 0 = .ok (.iload_n 0, 1) := dk_26 (dk_at dksJ6_checkIndex_0 0 rfl rfl)
theorem dJ6_checkIndex_1 : decode cJ6_checkIndex 1 = .ok (.ifCond .lt 8, 3) := dk_155 0 8 (dk_at dksJ6_checkIndex_0 1 rfl rfl)
theorem dJ6_checkIndex_4 : decode cJ6_checkIndex 4 = .ok (.iload_n 0, 1) := dk_26 (dk_at dksJ6_checkIndex_0 4 rfl rfl)
theorem dJ6_checkIndex_5 : decode cJ6_checkIndex 5 = .ok (.iload_n 1, 1) := dk_27 (dk_at dksJ6_checkIndex_0 5 rfl rfl)
theorem dJ6_checkIndex_6 : decode cJ6_checkIndex 6 = .ok (.if_icmp .lt 10, 3) := dk_161 0 10 (dk_at dksJ6_checkIndex_0 6 rfl rfl)
theorem dJ6_checkIndex_9 : decode cJ6_checkIndex 9 = .ok (.aload_n 2, 1) := dk_44 (dk_at dksJ6_checkIndex_0 9 rfl rfl)
theorem dJ6_checkIndex_10 : decode cJ6_checkIndex 10 = .ok (.iload_n 0, 1) := dk_26 (dk_at dksJ6_checkIndex_0 10 rfl rfl)
theorem dJ6_checkIndex_11 : decode cJ6_checkIndex 11 = .ok (.iload_n 1, 1) := dk_27 (dk_at dksJ6_checkIndex_0 11 rfl rfl)
theorem dJ6_checkIndex_12 : decode cJ6_checkIndex 12 = .ok (.invokestatic 95, 3) := dk_184 0 95 (dk_at dksJ6_checkIndex_0 12 rfl rfl)
theorem dJ6_checkIndex_15 : decode cJ6_checkIndex 15 = .ok (.athrow, 1) := dk_191 (dk_at dksJ6_checkIndex_0 15 rfl rfl)
theorem dJ6_checkIndex_16 : decode cJ6_checkIndex 16 = .ok (.iload_n 0, 1) := dk_26 (dk_at dksJ6_checkIndex_0 16 rfl rfl)
theorem dJ6_checkIndex_17 : decode cJ6_checkIndex 17 = .ok (.ireturn, 1) := dk_172 (dk_at dksJ6_checkIndex_0 17 rfl rfl)
theorem q135 : (Jvm.Cond.initialized "jdk/internal/util/Preconditions") ∈ lw_all := lw_g (lw_at lw_m1 14 rfl) rfl
theorem q508 : (Jvm.Cond.laysStatic "jdk/internal/util/Preconditions" "SIOOBE_FORMATTER" "Ljava/util/function/BiFunction;") ∈ lw_tbl := lw_at lw_m2 147 rfl
theorem q510 : (Jvm.Cond.static ({ cls := "jdk/internal/util/Preconditions", name := "checkIndex", desc := "(IILjava/util/function/BiFunction;)I" } : Jvm.MethodName)) ∈ lw_all := lw_g (lw_at lw_m2 149 rfl) rfl
theorem q511 : (Jvm.Cond.code ({ cls := "jdk/internal/util/Preconditions", name := "checkIndex", desc := "(IILjava/util/function/BiFunction;)I" } : Jvm.MethodName) prog_56_method_11_code (3 : Nat) (Option.some Jvm.ClassFile.FieldType.int)) ∈ lw_all := lw_g (lw_at lw_m2 150 rfl) rfl
/-! java/lang/StringUTF16 -/
set_option maxRecDepth 100000
def RJ7 : String := "java/lang/StringUTF16"
abbrev cJ7_charAt : ByteArray := prog_41_method_83_code
def yJ7_charAt : MethodName := ⟨RJ7, "charAt", "([BI)C"⟩
def dkwJ7_charAt_0 : List UInt8 := [27, 42, 184, 0, 67, 42, 27, 184, 0, 71, 172]
abbrev dktJ7_charAt_0 : List UInt8 := dkwJ7_charAt_0 ++ []
theorem dksJ7_charAt_0 : cJ7_charAt.data.toList.drop 0 = dktJ7_charAt_0 := by decide +kernel
theorem dJ7_charAt_0 : decode cJ7_charAt 0 = .ok (.iload_n 1, 1) := dk_27 (dk_at dksJ7_charAt_0 0 rfl rfl)
theorem dJ7_charAt_1 : decode cJ7_charAt 1 = .ok (.aload_n 0, 1) := dk_42 (dk_at dksJ7_charAt_0 1 rfl rfl)
theorem dJ7_charAt_2 : decode cJ7_charAt 2 = .ok (.invokestatic 67, 3) := dk_184 0 67 (dk_at dksJ7_charAt_0 2 rfl rfl)
theorem dJ7_charAt_5 : decode cJ7_charAt 5 = .ok (.aload_n 0, 1) := dk_42 (dk_at dksJ7_charAt_0 5 rfl rfl)
theorem dJ7_charAt_6 : decode cJ7_charAt 6 = .ok (.iload_n 1, 1) := dk_27 (dk_at dksJ7_charAt_0 6 rfl rfl)
theorem dJ7_charAt_7 : decode cJ7_charAt 7 = .ok (.invokestatic 71, 3) := dk_184 0 71 (dk_at dksJ7_charAt_0 7 rfl rfl)
theorem dJ7_charAt_10 : decode cJ7_charAt 10 = .ok (.ireturn, 1) := dk_172 (dk_at dksJ7_charAt_0 10 rfl rfl)
abbrev cJ7_checkIndex : ByteArray := prog_41_method_91_code
def yJ7_checkIndex : MethodName := ⟨RJ7, "checkIndex", "(I[B)V"⟩
def dkwJ7_checkIndex_0 : List UInt8 := [26, 43, 184, 0, 48, 184, 1, 158, 177]
abbrev dktJ7_checkIndex_0 : List UInt8 := dkwJ7_checkIndex_0 ++ []
theorem dksJ7_checkIndex_0 : cJ7_checkIndex.data.toList.drop 0 = dktJ7_checkIndex_0 := by decide +kernel
theorem dJ7_checkIndex_0 : decode cJ7_checkIndex 0 = .ok (.iload_n 0, 1) := dk_26 (dk_at dksJ7_checkIndex_0 0 rfl rfl)
theorem dJ7_checkIndex_1 : decode cJ7_checkIndex 1 = .ok (.aload_n 1, 1) := dk_43 (dk_at dksJ7_checkIndex_0 1 rfl rfl)
theorem dJ7_checkIndex_2 : decode cJ7_checkIndex 2 = .ok (.invokestatic 48, 3) := dk_184 0 48 (dk_at dksJ7_checkIndex_0 2 rfl rfl)
theorem dJ7_checkIndex_5 : decode cJ7_checkIndex 5 = .ok (.invokestatic 414, 3) := dk_184 1 158 (dk_at dksJ7_checkIndex_0 5 rfl rfl)
theorem dJ7_checkIndex_8 : decode cJ7_checkIndex 8 = .ok (.return_, 1) := dk_177 (dk_at dksJ7_checkIndex_0 8 rfl rfl)
abbrev cJ7_length : ByteArray := prog_41_method_6_code
def yJ7_length : MethodName := ⟨RJ7, "length", "([B)I"⟩
def dkwJ7_length_0 : List UInt8 := [42, 190, 4, 122, 172]
abbrev dktJ7_length_0 : List UInt8 := dkwJ7_length_0 ++ []
theorem dksJ7_length_0 : cJ7_length.data.toList.drop 0 = dktJ7_length_0 := by decide +kernel
theorem dJ7_length_0 : decode cJ7_length 0 = .ok (.aload_n 0, 1) := dk_42 (dk_at dksJ7_length_0 0 rfl rfl)
theorem dJ7_length_1 : decode cJ7_length 1 = .ok (.arraylength, 1) := dk_190 (dk_at dksJ7_length_0 1 rfl rfl)
theorem dJ7_length_2 : decode cJ7_length 2 = .ok (.iconst 1, 1) := dk_4 (dk_at dksJ7_length_0 2 rfl rfl)
theorem dJ7_length_3 : decode cJ7_length 3 = .ok (.ishr, 1) := dk_122 (dk_at dksJ7_length_0 3 rfl rfl)
theorem dJ7_length_4 : decode cJ7_length 4 = .ok (.ireturn, 1) := dk_172 (dk_at dksJ7_length_0 4 rfl rfl)
abbrev cJ7_getChar : ByteArray := prog_41_method_5_code
def yJ7_getChar : MethodName := ⟨RJ7, "getChar", "([BI)C"⟩
def dkwJ7_getChar_2 : List UInt8 := [51, 17, 0, 255, 126, 178, 0, 63, 120, 128, 146, 172]
abbrev dktJ7_getChar_2 : List UInt8 := dkwJ7_getChar_2 ++ []
def dkwJ7_getChar_1 : List UInt8 := [183, 0, 56, 191, 27, 4, 120, 60, 42, 27, 132, 1, 1, 51, 17, 0, 255, 126, 178, 0, 59, 120, 42, 27]
abbrev dktJ7_getChar_1 : List UInt8 := dkwJ7_getChar_1 ++ dktJ7_getChar_2
def dkwJ7_getChar_0 : List UInt8 := [178, 0, 44, 154, 0, 25, 27, 155, 0, 11, 27, 42, 184, 0, 48, 161, 0, 13, 187, 0, 52, 89, 18, 54]
abbrev dktJ7_getChar_0 : List UInt8 := dkwJ7_getChar_0 ++ dktJ7_getChar_1
theorem dksJ7_getChar_0 : cJ7_getChar.data.toList.drop 0 = dktJ7_getChar_0 := by decide +kernel
theorem dksJ7_getChar_1 : cJ7_getChar.data.toList.drop 24 = dktJ7_getChar_1 := dk_seg dksJ7_getChar_0 24 rfl rfl
theorem dksJ7_getChar_2 : cJ7_getChar.data.toList.drop 48 = dktJ7_getChar_2 := dk_seg dksJ7_getChar_1 24 rfl rfl
theorem dJ7_getChar_0 : decode cJ7_getChar 0 = .ok (.getstatic 44, 3) := dk_178 0 44 (dk_at dksJ7_getChar_0 0 rfl rfl)
theorem dJ7_getChar_3 : decode cJ7_getChar 3 = .ok (.ifCond .ne 25, 3) := dk_154 0 25 (dk_at dksJ7_getChar_0 3 rfl rfl)
theorem dJ7_getChar_6 : decode cJ7_getChar 6 = .ok (.iload_n 1, 1) := dk_27 (dk_at dksJ7_getChar_0 6 rfl rfl)
theorem dJ7_getChar_7 : decode cJ7_getChar 7 = .ok (.ifCond .lt 11, 3) := dk_155 0 11 (dk_at dksJ7_getChar_0 7 rfl rfl)
theorem dJ7_getChar_10 : decode cJ7_getChar 10 = .ok (.iload_n 1, 1) := dk_27 (dk_at dksJ7_getChar_0 10 rfl rfl)
theorem dJ7_getChar_11 : decode cJ7_getChar 11 = .ok (.aload_n 0, 1) := dk_42 (dk_at dksJ7_getChar_0 11 rfl rfl)
theorem dJ7_getChar_12 : decode cJ7_getChar 12 = .ok (.invokestatic 48, 3) := dk_184 0 48 (dk_at dksJ7_getChar_0 12 rfl rfl)
theorem dJ7_getChar_15 : decode cJ7_getChar 15 = .ok (.if_icmp .lt 13, 3) := dk_161 0 13 (dk_at dksJ7_getChar_0 15 rfl rfl)
theorem dJ7_getChar_18 : decode cJ7_getChar 18 = .ok (.new 52, 3) := dk_187 0 52 (dk_at dksJ7_getChar_0 18 rfl rfl)
theorem dJ7_getChar_21 : decode cJ7_getChar 21 = .ok (.dup, 1) := dk_89 (dk_at dksJ7_getChar_0 21 rfl rfl)
theorem dJ7_getChar_22 : decode cJ7_getChar 22 = .ok (.ldc 54, 2) := dk_18 54 (dk_at dksJ7_getChar_0 22 rfl rfl)
theorem dJ7_getChar_24 : decode cJ7_getChar 24 = .ok (.invokespecial 56, 3) := dk_183 0 56 (dk_at dksJ7_getChar_1 0 rfl rfl)
theorem dJ7_getChar_27 : decode cJ7_getChar 27 = .ok (.athrow, 1) := dk_191 (dk_at dksJ7_getChar_1 3 rfl rfl)
theorem dJ7_getChar_28 : decode cJ7_getChar 28 = .ok (.iload_n 1, 1) := dk_27 (dk_at dksJ7_getChar_1 4 rfl rfl)
theorem dJ7_getChar_29 : decode cJ7_getChar 29 = .ok (.iconst 1, 1) := dk_4 (dk_at dksJ7_getChar_1 5 rfl rfl)
theorem dJ7_getChar_30 : decode cJ7_getChar 30 = .ok (.ishl, 1) := dk_120 (dk_at dksJ7_getChar_1 6 rfl rfl)
theorem dJ7_getChar_31 : decode cJ7_getChar 31 = .ok (.istore_n 1, 1) := dk_60 (dk_at dksJ7_getChar_1 7 rfl rfl)
theorem dJ7_getChar_32 : decode cJ7_getChar 32 = .ok (.aload_n 0, 1) := dk_42 (dk_at dksJ7_getChar_1 8 rfl rfl)
theorem dJ7_getChar_33 : decode cJ7_getChar 33 = .ok (.iload_n 1, 1) := dk_27 (dk_at dksJ7_getChar_1 9 rfl rfl)
theorem dJ7_getChar_34 : decode cJ7_getChar 34 = .ok (.iinc 1 1, 3) := dk_132 1 1 (dk_at dksJ7_getChar_1 10 rfl rfl)
theorem dJ7_getChar_37 : decode cJ7_getChar 37 = .ok (.baload, 1) := dk_51 (dk_at dksJ7_getChar_1 13 rfl rfl)
theorem dJ7_getChar_38 : decode cJ7_getChar 38 = .ok (.sipush 255, 3) := dk_17 0 255 (dk_at dksJ7_getChar_1 14 rfl rfl)
theorem dJ7_getChar_41 : decode cJ7_getChar 41 = .ok (.iand, 1) := dk_126 (dk_at dksJ7_getChar_1 17 rfl rfl)
theorem dJ7_getChar_42 : decode cJ7_getChar 42 = .ok (.getstatic 59, 3) := dk_178 0 59 (dk_at dksJ7_getChar_1 18 rfl rfl)
theorem dJ7_getChar_45 : decode cJ7_getChar 45 = .ok (.ishl, 1) := dk_120 (dk_at dksJ7_getChar_1 21 rfl rfl)
theorem dJ7_getChar_46 : decode cJ7_getChar 46 = .ok (.aload_n 0, 1) := dk_42 (dk_at dksJ7_getChar_1 22 rfl rfl)
theorem dJ7_getChar_47 : decode cJ7_getChar 47 = .ok (.iload_n 1, 1) := dk_27 (dk_at dksJ7_getChar_1 23 rfl rfl)
theorem dJ7_getChar_48 : decode cJ7_getChar 48 = .ok (.baload, 1) := dk_51 (dk_at dksJ7_getChar_2 0 rfl rfl)
theorem dJ7_getChar_49 : decode cJ7_getChar 49 = .ok (.sipush 255, 3) := dk_17 0 255 (dk_at dksJ7_getChar_2 1 rfl rfl)
theorem dJ7_getChar_52 : decode cJ7_getChar 52 = .ok (.iand, 1) := dk_126 (dk_at dksJ7_getChar_2 4 rfl rfl)
theorem dJ7_getChar_53 : decode cJ7_getChar 53 = .ok (.getstatic 63, 3) := dk_178 0 63 (dk_at dksJ7_getChar_2 5 rfl rfl)
theorem dJ7_getChar_56 : decode cJ7_getChar 56 = .ok (.ishl, 1) := dk_120 (dk_at dksJ7_getChar_2 8 rfl rfl)
theorem dJ7_getChar_57 : decode cJ7_getChar 57 = .ok (.ior, 1) := dk_128 (dk_at dksJ7_getChar_2 9 rfl rfl)
theorem dJ7_getChar_58 : decode cJ7_getChar 58 = .ok (.i2c, 1) := dk_146 (dk_at dksJ7_getChar_2 10 rfl rfl)
theorem dJ7_getChar_59 : decode cJ7_getChar 59 = .ok (.ireturn, 1) := dk_172 (dk_at dksJ7_getChar_2 11 rfl rfl)
theorem q136 : (Jvm.Cond.initialized "java/lang/StringUTF16") ∈ lw_all := lw_g (lw_at lw_m1 15 rfl) rfl
theorem q513 : (Jvm.Cond.static ({ cls := "java/lang/StringUTF16", name := "charAt", desc := "([BI)C" } : Jvm.MethodName)) ∈ lw_all := lw_g (lw_at lw_m2 152 rfl) rfl
theorem q514 : (Jvm.Cond.code ({ cls := "java/lang/StringUTF16", name := "charAt", desc := "([BI)C" } : Jvm.MethodName) prog_41_method_83_code (2 : Nat) (Option.some Jvm.ClassFile.FieldType.char)) ∈ lw_all := lw_g (lw_at lw_m2 153 rfl) rfl
theorem q515 : (Jvm.Cond.methodLink "java/lang/StringUTF16" (67 : Nat) ({ cls := "java/lang/StringUTF16", name := "checkIndex", desc := "(I[B)V" } : Jvm.MethodName)) ∈ lw_all := lw_g (lw_at lw_m2 154 rfl) rfl
theorem q516 : (Jvm.Cond.static ({ cls := "java/lang/StringUTF16", name := "checkIndex", desc := "(I[B)V" } : Jvm.MethodName)) ∈ lw_all := lw_g (lw_at lw_m2 155 rfl) rfl
theorem q517 : (Jvm.Cond.code ({ cls := "java/lang/StringUTF16", name := "checkIndex", desc := "(I[B)V" } : Jvm.MethodName) prog_41_method_91_code (2 : Nat) (Option.none : Option Jvm.ClassFile.FieldType)) ∈ lw_all := lw_g (lw_at lw_m2 156 rfl) rfl
theorem q518 : (Jvm.Cond.methodLink "java/lang/StringUTF16" (48 : Nat) ({ cls := "java/lang/StringUTF16", name := "length", desc := "([B)I" } : Jvm.MethodName)) ∈ lw_all := lw_g (lw_at lw_m2 157 rfl) rfl
theorem q519 : (Jvm.Cond.static ({ cls := "java/lang/StringUTF16", name := "length", desc := "([B)I" } : Jvm.MethodName)) ∈ lw_all := lw_g (lw_at lw_m2 158 rfl) rfl
theorem q520 : (Jvm.Cond.code ({ cls := "java/lang/StringUTF16", name := "length", desc := "([B)I" } : Jvm.MethodName) prog_41_method_6_code (1 : Nat) (Option.some Jvm.ClassFile.FieldType.int)) ∈ lw_all := lw_g (lw_at lw_m2 159 rfl) rfl
theorem q521 : (Jvm.Cond.methodLink "java/lang/StringUTF16" (414 : Nat) ({ cls := "java/lang/String", name := "checkIndex", desc := "(II)V" } : Jvm.MethodName)) ∈ lw_all := lw_g (lw_at lw_m2 160 rfl) rfl
theorem q522 : (Jvm.Cond.methodLink "java/lang/StringUTF16" (71 : Nat) ({ cls := "java/lang/StringUTF16", name := "getChar", desc := "([BI)C" } : Jvm.MethodName)) ∈ lw_all := lw_g (lw_at lw_m2 161 rfl) rfl
theorem q523 : (Jvm.Cond.static ({ cls := "java/lang/StringUTF16", name := "getChar", desc := "([BI)C" } : Jvm.MethodName)) ∈ lw_all := lw_g (lw_at lw_m2 162 rfl) rfl
theorem q524 : (Jvm.Cond.code ({ cls := "java/lang/StringUTF16", name := "getChar", desc := "([BI)C" } : Jvm.MethodName) prog_41_method_5_code (2 : Nat) (Option.some Jvm.ClassFile.FieldType.char)) ∈ lw_all := lw_g (lw_at lw_m2 163 rfl) rfl
theorem q525 : (Jvm.Cond.fieldLink "java/lang/StringUTF16" (44 : Nat) "java/lang/StringUTF16" "$assertionsDisabled" "Z") ∈ lw_all := lw_g (lw_at lw_m2 164 rfl) rfl
theorem q526 : (Jvm.Cond.laysStatic "java/lang/StringUTF16" "$assertionsDisabled" "Z") ∈ lw_tbl := lw_at lw_m2 165 rfl
theorem q527 : (Jvm.Cond.fieldLink "java/lang/StringUTF16" (59 : Nat) "java/lang/StringUTF16" "HI_BYTE_SHIFT" "I") ∈ lw_all := lw_g (lw_at lw_m2 166 rfl) rfl
theorem q528 : (Jvm.Cond.laysStatic "java/lang/StringUTF16" "HI_BYTE_SHIFT" "I") ∈ lw_tbl := lw_at lw_m2 167 rfl
theorem q529 : (Jvm.Cond.fieldLink "java/lang/StringUTF16" (63 : Nat) "java/lang/StringUTF16" "LO_BYTE_SHIFT" "I") ∈ lw_all := lw_g (lw_at lw_m2 168 rfl) rfl
theorem q530 : (Jvm.Cond.laysStatic "java/lang/StringUTF16" "LO_BYTE_SHIFT" "I") ∈ lw_tbl := lw_at lw_m2 169 rfl
/-! java/lang/Throwable -/
set_option maxRecDepth 100000
def RJ8 : String := "java/lang/Throwable"
def TJ8 : u_T := fun k => match k with
  | 0 => ("java/lang/Throwable", "cause", "Ljava/lang/Throwable;", false)
  | 1 => ("java/lang/Throwable", "stackTrace", "[Ljava/lang/StackTraceElement;", false)
  | 2 => ("java/lang/Throwable", "suppressedExceptions", "Ljava/util/List;", false)
  | 3 => ("java/lang/Throwable", "detailMessage", "Ljava/lang/String;", false)
  | _ => ("java/lang/Throwable", "backtrace", "Ljava/lang/Object;", false)
def tyJ8 : Nat → FieldType := fun k => match k with
  | 0 => .object "java/lang/Throwable"
  | 1 => .array (.object "java/lang/StackTraceElement")
  | 2 => .object "java/util/List"
  | 3 => .object "java/lang/String"
  | _ => .object "java/lang/Object"
abbrev wsJ80 : List Cond := u_ws RJ8 TJ8 5
theorem nmJ8 : ∀ a, a < 5 → ∀ b, b < 5 → a ≠ b → (TJ8 a).2.1 ≠ (TJ8 b).2.1 := by decide +kernel
theorem tyJ8_ok : ∀ k, k < 5 → parseFieldDescriptor (TJ8 k).2.2.1 = some (tyJ8 k) := by decide +kernel
abbrev cJ8_init : ByteArray := prog_43_method_1_code
def yJ8_init : MethodName := ⟨RJ8, "<init>", "()V"⟩
def dkwJ8_init_1 : List UInt8 := [182, 0, 27, 87, 177]
abbrev dktJ8_init_1 : List UInt8 := dkwJ8_init_1 ++ []
def dkwJ8_init_0 : List UInt8 := [42, 183, 0, 1, 42, 42, 181, 0, 7, 42, 178, 0, 13, 181, 0, 17, 42, 178, 0, 20, 181, 0, 24, 42]
abbrev dktJ8_init_0 : List UInt8 := dkwJ8_init_0 ++ dktJ8_init_1
theorem dksJ8_init_0 : cJ8_init.data.toList.drop 0 = dktJ8_init_0 := by decide +kernel
theorem dksJ8_init_1 : cJ8_init.data.toList.drop 24 = dktJ8_init_1 := dk_seg dksJ8_init_0 24 rfl rfl
theorem dJ8_init_0 : decode cJ8_init 0 = .ok (.aload_n 0, 1) := dk_42 (dk_at dksJ8_init_0 0 rfl rfl)
theorem dJ8_init_1 : decode cJ8_init 1 = .ok (.invokespecial 1, 3) := dk_183 0 1 (dk_at dksJ8_init_0 1 rfl rfl)
theorem dJ8_init_4 : decode cJ8_init 4 = .ok (.aload_n 0, 1) := dk_42 (dk_at dksJ8_init_0 4 rfl rfl)
theorem dJ8_init_5 : decode cJ8_init 5 = .ok (.aload_n 0, 1) := dk_42 (dk_at dksJ8_init_0 5 rfl rfl)
theorem dJ8_init_6 : decode cJ8_init 6 = .ok (.putfield 7, 3) := dk_181 0 7 (dk_at dksJ8_init_0 6 rfl rfl)
theorem dJ8_init_9 : decode cJ8_init 9 = .ok (.aload_n 0, 1) := dk_42 (dk_at dksJ8_init_0 9 rfl rfl)
theorem dJ8_init_10 : decode cJ8_init 10 = .ok (.getstatic 13, 3) := dk_178 0 13 (dk_at dksJ8_init_0 10 rfl rfl)
theorem dJ8_init_13 : decode cJ8_init 13 = .ok (.putfield 17, 3) := dk_181 0 17 (dk_at dksJ8_init_0 13 rfl rfl)
theorem dJ8_init_16 : decode cJ8_init 16 = .ok (.aload_n 0, 1) := dk_42 (dk_at dksJ8_init_0 16 rfl rfl)
theorem dJ8_init_17 : decode cJ8_init 17 = .ok (.getstatic 20, 3) := dk_178 0 20 (dk_at dksJ8_init_0 17 rfl rfl)
theorem dJ8_init_20 : decode cJ8_init 20 = .ok (.putfield 24, 3) := dk_181 0 24 (dk_at dksJ8_init_0 20 rfl rfl)
theorem dJ8_init_23 : decode cJ8_init 23 = .ok (.aload_n 0, 1) := dk_42 (dk_at dksJ8_init_0 23 rfl rfl)
theorem dJ8_init_24 : decode cJ8_init 24 = .ok (.invokevirtual 27, 3) := dk_182 0 27 (dk_at dksJ8_init_1 0 rfl rfl)
theorem dJ8_init_27 : decode cJ8_init 27 = .ok (.pop, 1) := dk_87 (dk_at dksJ8_init_1 3 rfl rfl)
theorem dJ8_init_28 : decode cJ8_init 28 = .ok (.return_, 1) := dk_177 (dk_at dksJ8_init_1 4 rfl rfl)
abbrev cJ8_init_2 : ByteArray := prog_43_method_5_code
def yJ8_init_2 : MethodName := ⟨RJ8, "<init>", "(Ljava/lang/String;Ljava/lang/Throwable;ZZ)V"⟩
def dkwJ8_init_2_2 : List UInt8 := [44, 181, 0, 7, 29, 154, 0, 8, 42, 1, 181, 0, 24, 177]
abbrev dktJ8_init_2_2 : List UInt8 := dkwJ8_init_2_2 ++ []
def dkwJ8_init_2_1 : List UInt8 := [21, 4, 153, 0, 11, 42, 182, 0, 27, 87, 167, 0, 8, 42, 1, 181, 0, 17, 42, 43, 181, 0, 31, 42]
abbrev dktJ8_init_2_1 : List UInt8 := dkwJ8_init_2_1 ++ dktJ8_init_2_2
def dkwJ8_init_2_0 : List UInt8 := [42, 183, 0, 1, 42, 42, 181, 0, 7, 42, 178, 0, 13, 181, 0, 17, 42, 178, 0, 20, 181, 0, 24]
abbrev dktJ8_init_2_0 : List UInt8 := dkwJ8_init_2_0 ++ dktJ8_init_2_1
theorem dksJ8_init_2_0 : cJ8_init_2.data.toList.drop 0 = dktJ8_init_2_0 := by decide +kernel
theorem dksJ8_init_2_1 : cJ8_init_2.data.toList.drop 23 = dktJ8_init_2_1 := dk_seg dksJ8_init_2_0 23 rfl rfl
theorem dksJ8_init_2_2 : cJ8_init_2.data.toList.drop 47 = dktJ8_init_2_2 := dk_seg dksJ8_init_2_1 24 rfl rfl
theorem dJ8_init_2_0 : decode cJ8_init_2 0 = .ok (.aload_n 0, 1) := dk_42 (dk_at dksJ8_init_2_0 0 rfl rfl)
theorem dJ8_init_2_1 : decode cJ8_init_2 1 = .ok (.invokespecial 1, 3) := dk_183 0 1 (dk_at dksJ8_init_2_0 1 rfl rfl)
theorem dJ8_init_2_4 : decode cJ8_init_2 4 = .ok (.aload_n 0, 1) := dk_42 (dk_at dksJ8_init_2_0 4 rfl rfl)
theorem dJ8_init_2_5 : decode cJ8_init_2 5 = .ok (.aload_n 0, 1) := dk_42 (dk_at dksJ8_init_2_0 5 rfl rfl)
theorem dJ8_init_2_6 : decode cJ8_init_2 6 = .ok (.putfield 7, 3) := dk_181 0 7 (dk_at dksJ8_init_2_0 6 rfl rfl)
theorem dJ8_init_2_9 : decode cJ8_init_2 9 = .ok (.aload_n 0, 1) := dk_42 (dk_at dksJ8_init_2_0 9 rfl rfl)
theorem dJ8_init_2_10 : decode cJ8_init_2 10 = .ok (.getstatic 13, 3) := dk_178 0 13 (dk_at dksJ8_init_2_0 10 rfl rfl)
theorem dJ8_init_2_13 : decode cJ8_init_2 13 = .ok (.putfield 17, 3) := dk_181 0 17 (dk_at dksJ8_init_2_0 13 rfl rfl)
theorem dJ8_init_2_16 : decode cJ8_init_2 16 = .ok (.aload_n 0, 1) := dk_42 (dk_at dksJ8_init_2_0 16 rfl rfl)
theorem dJ8_init_2_17 : decode cJ8_init_2 17 = .ok (.getstatic 20, 3) := dk_178 0 20 (dk_at dksJ8_init_2_0 17 rfl rfl)
theorem dJ8_init_2_20 : decode cJ8_init_2 20 = .ok (.putfield 24, 3) := dk_181 0 24 (dk_at dksJ8_init_2_0 20 rfl rfl)
theorem dJ8_init_2_23 : decode cJ8_init_2 23 = .ok (.iload 4, 2) := dk_21 4 (dk_at dksJ8_init_2_1 0 rfl rfl)
theorem dJ8_init_2_25 : decode cJ8_init_2 25 = .ok (.ifCond .eq 11, 3) := dk_153 0 11 (dk_at dksJ8_init_2_1 2 rfl rfl)
theorem dJ8_init_2_28 : decode cJ8_init_2 28 = .ok (.aload_n 0, 1) := dk_42 (dk_at dksJ8_init_2_1 5 rfl rfl)
theorem dJ8_init_2_29 : decode cJ8_init_2 29 = .ok (.invokevirtual 27, 3) := dk_182 0 27 (dk_at dksJ8_init_2_1 6 rfl rfl)
theorem dJ8_init_2_32 : decode cJ8_init_2 32 = .ok (.pop, 1) := dk_87 (dk_at dksJ8_init_2_1 9 rfl rfl)
theorem dJ8_init_2_33 : decode cJ8_init_2 33 = .ok (.goto 8, 3) := dk_167 0 8 (dk_at dksJ8_init_2_1 10 rfl rfl)
theorem dJ8_init_2_36 : decode cJ8_init_2 36 = .ok (.aload_n 0, 1) := dk_42 (dk_at dksJ8_init_2_1 13 rfl rfl)
theorem dJ8_init_2_37 : decode cJ8_init_2 37 = .ok (.aconst_null, 1) := dk_1 (dk_at dksJ8_init_2_1 14 rfl rfl)
theorem dJ8_init_2_38 : decode cJ8_init_2 38 = .ok (.putfield 17, 3) := dk_181 0 17 (dk_at dksJ8_init_2_1 15 rfl rfl)
theorem dJ8_init_2_41 : decode cJ8_init_2 41 = .ok (.aload_n 0, 1) := dk_42 (dk_at dksJ8_init_2_1 18 rfl rfl)
theorem dJ8_init_2_42 : decode cJ8_init_2 42 = .ok (.aload_n 1, 1) := dk_43 (dk_at dksJ8_init_2_1 19 rfl rfl)
theorem dJ8_init_2_43 : decode cJ8_init_2 43 = .ok (.putfield 31, 3) := dk_181 0 31 (dk_at dksJ8_init_2_1 20 rfl rfl)
theorem dJ8_init_2_46 : decode cJ8_init_2 46 = .ok (.aload_n 0, 1) := dk_42 (dk_at dksJ8_init_2_1 23 rfl rfl)
theorem dJ8_init_2_47 : decode cJ8_init_2 47 = .ok (.aload_n 2, 1) := dk_44 (dk_at dksJ8_init_2_2 0 rfl rfl)
theorem dJ8_init_2_48 : decode cJ8_init_2 48 = .ok (.putfield 7, 3) := dk_181 0 7 (dk_at dksJ8_init_2_2 1 rfl rfl)
theorem dJ8_init_2_51 : decode cJ8_init_2 51 = .ok (.iload_n 3, 1) := dk_29 (dk_at dksJ8_init_2_2 4 rfl rfl)
theorem dJ8_init_2_52 : decode cJ8_init_2 52 = .ok (.ifCond .ne 8, 3) := dk_154 0 8 (dk_at dksJ8_init_2_2 5 rfl rfl)
theorem dJ8_init_2_55 : decode cJ8_init_2 55 = .ok (.aload_n 0, 1) := dk_42 (dk_at dksJ8_init_2_2 8 rfl rfl)
theorem dJ8_init_2_56 : decode cJ8_init_2 56 = .ok (.aconst_null, 1) := dk_1 (dk_at dksJ8_init_2_2 9 rfl rfl)
theorem dJ8_init_2_57 : decode cJ8_init_2 57 = .ok (.putfield 24, 3) := dk_181 0 24 (dk_at dksJ8_init_2_2 10 rfl rfl)
theorem dJ8_init_2_60 : decode cJ8_init_2 60 = .ok (.return_, 1) := dk_177 (dk_at dksJ8_init_2_2 13 rfl rfl)
abbrev cJ8_init_3 : ByteArray := prog_43_method_2_code
def yJ8_init_3 : MethodName := ⟨RJ8, "<init>", "(Ljava/lang/String;)V"⟩
def dkwJ8_init_3_1 : List UInt8 := [182, 0, 27, 87, 42, 43, 181, 0, 31, 177]
abbrev dktJ8_init_3_1 : List UInt8 := dkwJ8_init_3_1 ++ []
def dkwJ8_init_3_0 : List UInt8 := [42, 183, 0, 1, 42, 42, 181, 0, 7, 42, 178, 0, 13, 181, 0, 17, 42, 178, 0, 20, 181, 0, 24, 42]
abbrev dktJ8_init_3_0 : List UInt8 := dkwJ8_init_3_0 ++ dktJ8_init_3_1
theorem dksJ8_init_3_0 : cJ8_init_3.data.toList.drop 0 = dktJ8_init_3_0 := by decide +kernel
theorem dksJ8_init_3_1 : cJ8_init_3.data.toList.drop 24 = dktJ8_init_3_1 := dk_seg dksJ8_init_3_0 24 rfl rfl
theorem dJ8_init_3_0 : decode cJ8_init_3 0 = .ok (.aload_n 0, 1) := dk_42 (dk_at dksJ8_init_3_0 0 rfl rfl)
theorem dJ8_init_3_1 : decode cJ8_init_3 1 = .ok (.invokespecial 1, 3) := dk_183 0 1 (dk_at dksJ8_init_3_0 1 rfl rfl)
theorem dJ8_init_3_4 : decode cJ8_init_3 4 = .ok (.aload_n 0, 1) := dk_42 (dk_at dksJ8_init_3_0 4 rfl rfl)
theorem dJ8_init_3_5 : decode cJ8_init_3 5 = .ok (.aload_n 0, 1) := dk_42 (dk_at dksJ8_init_3_0 5 rfl rfl)
theorem dJ8_init_3_6 : decode cJ8_init_3 6 = .ok (.putfield 7, 3) := dk_181 0 7 (dk_at dksJ8_init_3_0 6 rfl rfl)
theorem dJ8_init_3_9 : decode cJ8_init_3 9 = .ok (.aload_n 0, 1) := dk_42 (dk_at dksJ8_init_3_0 9 rfl rfl)
theorem dJ8_init_3_10 : decode cJ8_init_3 10 = .ok (.getstatic 13, 3) := dk_178 0 13 (dk_at dksJ8_init_3_0 10 rfl rfl)
theorem dJ8_init_3_13 : decode cJ8_init_3 13 = .ok (.putfield 17, 3) := dk_181 0 17 (dk_at dksJ8_init_3_0 13 rfl rfl)
theorem dJ8_init_3_16 : decode cJ8_init_3 16 = .ok (.aload_n 0, 1) := dk_42 (dk_at dksJ8_init_3_0 16 rfl rfl)
theorem dJ8_init_3_17 : decode cJ8_init_3 17 = .ok (.getstatic 20, 3) := dk_178 0 20 (dk_at dksJ8_init_3_0 17 rfl rfl)
theorem dJ8_init_3_20 : decode cJ8_init_3 20 = .ok (.putfield 24, 3) := dk_181 0 24 (dk_at dksJ8_init_3_0 20 rfl rfl)
theorem dJ8_init_3_23 : decode cJ8_init_3 23 = .ok (.aload_n 0, 1) := dk_42 (dk_at dksJ8_init_3_0 23 rfl rfl)
theorem dJ8_init_3_24 : decode cJ8_init_3 24 = .ok (.invokevirtual 27, 3) := dk_182 0 27 (dk_at dksJ8_init_3_1 0 rfl rfl)
theorem dJ8_init_3_27 : decode cJ8_init_3 27 = .ok (.pop, 1) := dk_87 (dk_at dksJ8_init_3_1 3 rfl rfl)
theorem dJ8_init_3_28 : decode cJ8_init_3 28 = .ok (.aload_n 0, 1) := dk_42 (dk_at dksJ8_init_3_1 4 rfl rfl)
theorem dJ8_init_3_29 : decode cJ8_init_3 29 = .ok (.aload_n 1, 1) := dk_43 (dk_at dksJ8_init_3_1 5 rfl rfl)
theorem dJ8_init_3_30 : decode cJ8_init_3 30 = .ok (.putfield 31, 3) := dk_181 0 31 (dk_at dksJ8_init_3_1 6 rfl rfl)
theorem dJ8_init_3_33 : decode cJ8_init_3 33 = .ok (.return_, 1) := dk_177 (dk_at dksJ8_init_3_1 9 rfl rfl)
theorem q137 : (Jvm.Cond.initialized "java/lang/Throwable") ∈ lw_all := lw_g (lw_at lw_m1 16 rfl) rfl
theorem q540 : (Jvm.Cond.declares ({ cls := "java/lang/Throwable", name := "<init>", desc := "()V" } : Jvm.MethodName)) ∈ lw_tbl := lw_at lw_m2 179 rfl
theorem q541 : (Jvm.Cond.declares ({ cls := "java/lang/Throwable", name := "<init>", desc := "(Ljava/lang/String;)V" } : Jvm.MethodName)) ∈ lw_tbl := lw_at lw_m2 180 rfl
theorem q545 : (Jvm.Cond.lays "java/lang/Throwable" "java/lang/Throwable" "cause" "Ljava/lang/Throwable;") ∈ lw_all := lw_g (lw_at lw_m2 184 rfl) rfl
theorem q547 : (Jvm.Cond.lays "java/lang/Throwable" "java/lang/Throwable" "stackTrace" "[Ljava/lang/StackTraceElement;") ∈ lw_all := lw_g (lw_at lw_m2 186 rfl) rfl
theorem q549 : (Jvm.Cond.lays "java/lang/Throwable" "java/lang/Throwable" "suppressedExceptions" "Ljava/util/List;") ∈ lw_all := lw_g (lw_at lw_m2 188 rfl) rfl
theorem q551 : (Jvm.Cond.lays "java/lang/Throwable" "java/lang/Throwable" "detailMessage" "Ljava/lang/String;") ∈ lw_all := lw_g (lw_at lw_m2 190 rfl) rfl
theorem q553 : (Jvm.Cond.lays "java/lang/Throwable" "java/lang/Throwable" "backtrace" "Ljava/lang/Object;") ∈ lw_all := lw_g (lw_at lw_m2 192 rfl) rfl
theorem q554 : (Jvm.Cond.fieldLink "java/lang/Throwable" (198 : Nat) "java/lang/Throwable" "backtrace" "Ljava/lang/Object;") ∈ lw_all := lw_g (lw_at lw_m2 193 rfl) rfl
theorem q555 : (Jvm.Cond.superclass "java/lang/Throwable" "java/lang/Object") ∈ lw_all := lw_g (lw_at lw_m2 194 rfl) rfl
theorem q556 : (Jvm.Cond.instanceMethod ({ cls := "java/lang/Throwable", name := "<init>", desc := "()V" } : Jvm.MethodName)) ∈ lw_all := lw_g (lw_at lw_m2 195 rfl) rfl
theorem q557 : (Jvm.Cond.code ({ cls := "java/lang/Throwable", name := "<init>", desc := "()V" } : Jvm.MethodName) prog_43_method_1_code (1 : Nat) (Option.none : Option Jvm.ClassFile.FieldType)) ∈ lw_all := lw_g (lw_at lw_m2 196 rfl) rfl
theorem q558 : (Jvm.Cond.methodLink "java/lang/Throwable" (1 : Nat) ({ cls := "java/lang/Object", name := "<init>", desc := "()V" } : Jvm.MethodName)) ∈ lw_all := lw_g (lw_at lw_m2 197 rfl) rfl
theorem q559 : (Jvm.Cond.fieldLink "java/lang/Throwable" (13 : Nat) "java/lang/Throwable" "UNASSIGNED_STACK" "[Ljava/lang/StackTraceElement;") ∈ lw_all := lw_g (lw_at lw_m2 198 rfl) rfl
theorem q560 : (Jvm.Cond.laysStatic "java/lang/Throwable" "UNASSIGNED_STACK" "[Ljava/lang/StackTraceElement;") ∈ lw_tbl := lw_at lw_m2 199 rfl
theorem q561 : (Jvm.Cond.fieldLink "java/lang/Throwable" (20 : Nat) "java/lang/Throwable" "SUPPRESSED_SENTINEL" "Ljava/util/List;") ∈ lw_all := lw_g (lw_at lw_m2 200 rfl) rfl
theorem q562 : (Jvm.Cond.laysStatic "java/lang/Throwable" "SUPPRESSED_SENTINEL" "Ljava/util/List;") ∈ lw_tbl := lw_at lw_m2 201 rfl
theorem q563 : (Jvm.Cond.methodLink "java/lang/Throwable" (27 : Nat) ({ cls := "java/lang/Throwable", name := "fillInStackTrace", desc := "()Ljava/lang/Throwable;" } : Jvm.MethodName)) ∈ lw_all := lw_g (lw_at lw_m2 202 rfl) rfl
theorem q564 : (Jvm.Cond.instanceMethod ({ cls := "java/lang/Throwable", name := "fillInStackTrace", desc := "()Ljava/lang/Throwable;" } : Jvm.MethodName)) ∈ lw_all := lw_g (lw_at lw_m2 203 rfl) rfl
theorem q565 : (Jvm.Cond.sameMethod "java/lang/Throwable" "java/lang/Throwable" "fillInStackTrace" "()Ljava/lang/Throwable;") ∈ lw_all := lw_g (lw_at lw_m2 204 rfl) rfl
theorem q579 : (Jvm.Cond.declares ({ cls := "java/lang/Throwable", name := "fillInStackTrace", desc := "()Ljava/lang/Throwable;" } : Jvm.MethodName)) ∈ lw_tbl := lw_at lw_m2 218 rfl
theorem q583 : (Jvm.Cond.codeSync ({ cls := "java/lang/Throwable", name := "fillInStackTrace", desc := "()Ljava/lang/Throwable;" } : Jvm.MethodName) prog_43_method_18_code (1 : Nat) (Option.some (Jvm.ClassFile.FieldType.object "java/lang/Throwable"))) ∈ lw_all := lw_g (lw_at lw_m2 222 rfl) rfl
theorem q584 : (Jvm.Cond.methodLink "java/lang/Throwable" (202 : Nat) ({ cls := "java/lang/Throwable", name := "fillInStackTrace", desc := "(I)Ljava/lang/Throwable;" } : Jvm.MethodName)) ∈ lw_all := lw_g (lw_at lw_m2 223 rfl) rfl
theorem q585 : (Jvm.Cond.privateMethod ({ cls := "java/lang/Throwable", name := "fillInStackTrace", desc := "(I)Ljava/lang/Throwable;" } : Jvm.MethodName)) ∈ lw_tbl := lw_at lw_m2 224 rfl
theorem q586 : (Jvm.Cond.instanceMethod ({ cls := "java/lang/Throwable", name := "fillInStackTrace", desc := "(I)Ljava/lang/Throwable;" } : Jvm.MethodName)) ∈ lw_all := lw_g (lw_at lw_m2 225 rfl) rfl
theorem q587 : (Jvm.Cond.instantiable "java/lang/Throwable" (6 : Nat)) ∈ lw_all := lw_g (lw_at lw_m2 226 rfl) rfl
theorem q588 : (Jvm.Cond.native ({ cls := "java/lang/Throwable", name := "fillInStackTrace", desc := "(I)Ljava/lang/Throwable;" } : Jvm.MethodName)) ∈ lw_all := lw_g (lw_at lw_m2 227 rfl) rfl
theorem q596 : (Jvm.Cond.instanceMethod ({ cls := "java/lang/Throwable", name := "<init>", desc := "(Ljava/lang/String;Ljava/lang/Throwable;ZZ)V" } : Jvm.MethodName)) ∈ lw_all := lw_g (lw_at lw_m2 235 rfl) rfl
theorem q597 : (Jvm.Cond.code ({ cls := "java/lang/Throwable", name := "<init>", desc := "(Ljava/lang/String;Ljava/lang/Throwable;ZZ)V" } : Jvm.MethodName) prog_43_method_5_code (5 : Nat) (Option.none : Option Jvm.ClassFile.FieldType)) ∈ lw_all := lw_g (lw_at lw_m2 236 rfl) rfl
theorem q602 : (Jvm.Cond.fieldLink "java/lang/Throwable" (198 : Nat) "java/lang/Throwable" "backtrace" "Ljava/lang/Object;") ∈ lw_all := lw_g (lw_at lw_m3 1 rfl) rfl
theorem q603 : (Jvm.Cond.fieldLink "java/lang/Throwable" (31 : Nat) "java/lang/Throwable" "detailMessage" "Ljava/lang/String;") ∈ lw_all := lw_g (lw_at lw_m3 2 rfl) rfl
theorem q604 : (Jvm.Cond.fieldLink "java/lang/Throwable" (7 : Nat) "java/lang/Throwable" "cause" "Ljava/lang/Throwable;") ∈ lw_all := lw_g (lw_at lw_m3 3 rfl) rfl
theorem q605 : (Jvm.Cond.fieldLink "java/lang/Throwable" (17 : Nat) "java/lang/Throwable" "stackTrace" "[Ljava/lang/StackTraceElement;") ∈ lw_all := lw_g (lw_at lw_m3 4 rfl) rfl
theorem q606 : (Jvm.Cond.fieldLink "java/lang/Throwable" (24 : Nat) "java/lang/Throwable" "suppressedExceptions" "Ljava/util/List;") ∈ lw_all := lw_g (lw_at lw_m3 5 rfl) rfl
theorem q611 : (Jvm.Cond.soleField "java/lang/Throwable" "backtrace") ∈ lw_all := lw_g (lw_at lw_m3 10 rfl) rfl
theorem q612 : (Jvm.Cond.soleField "java/lang/Throwable" "detailMessage") ∈ lw_all := lw_g (lw_at lw_m3 11 rfl) rfl
theorem q613 : (Jvm.Cond.soleField "java/lang/Throwable" "cause") ∈ lw_all := lw_g (lw_at lw_m3 12 rfl) rfl
theorem q614 : (Jvm.Cond.soleField "java/lang/Throwable" "stackTrace") ∈ lw_all := lw_g (lw_at lw_m3 13 rfl) rfl
theorem q616 : (Jvm.Cond.soleField "java/lang/Throwable" "depth") ∈ lw_all := lw_g (lw_at lw_m3 15 rfl) rfl
theorem q617 : (Jvm.Cond.soleField "java/lang/Throwable" "suppressedExceptions") ∈ lw_all := lw_g (lw_at lw_m3 16 rfl) rfl
theorem q1444 : (Jvm.Cond.instanceMethod ({ cls := "java/lang/Throwable", name := "<init>", desc := "(Ljava/lang/String;)V" } : Jvm.MethodName)) ∈ lw_all := lw_g (lw_at lw_m6 123 rfl) rfl
theorem q1445 : (Jvm.Cond.code ({ cls := "java/lang/Throwable", name := "<init>", desc := "(Ljava/lang/String;)V" } : Jvm.MethodName) prog_43_method_2_code (2 : Nat) (Option.none : Option Jvm.ClassFile.FieldType)) ∈ lw_all := lw_g (lw_at lw_m6 124 rfl) rfl
theorem q2104 : (Jvm.Cond.sameMethod "java/lang/Throwable" "java/lang/Throwable" "fillInStackTrace" "(I)Ljava/lang/Throwable;") ∈ lw_all := lw_g (lw_at lw_m9 63 rfl) rfl
theorem q2144 : (Jvm.Cond.castable "java/lang/Throwable" "java/lang/Object") ∈ lw_tbl := lw_at lw_m9 103 rfl
theorem in_J8 : ∀ w ∈ wsJ80, w ∈ lw_all := lw_in wsJ80 [545, 547, 549, 551, 553] (by decide +kernel) (by decide +kernel)
/-! java/lang/Exception -/
set_option maxRecDepth 100000
def RJ9 : String := "java/lang/Exception"
abbrev cJ9_init : ByteArray := prog_29_method_5_code
def yJ9_init : MethodName := ⟨RJ9, "<init>", "(Ljava/lang/String;Ljava/lang/Throwable;ZZ)V"⟩
def dkwJ9_init_0 : List UInt8 := [42, 43, 44, 29, 21, 4, 183, 0, 16, 177]
abbrev dktJ9_init_0 : List UInt8 := dkwJ9_init_0 ++ []
theorem dksJ9_init_0 : cJ9_init.data.toList.drop 0 = dktJ9_init_0 := by decide +kernel
theorem dJ9_init_0 : decode cJ9_init 0 = .ok (.aload_n 0, 1) := dk_42 (dk_at dksJ9_init_0 0 rfl rfl)
theorem dJ9_init_1 : decode cJ9_init 1 = .ok (.aload_n 1, 1) := dk_43 (dk_at dksJ9_init_0 1 rfl rfl)
theorem dJ9_init_2 : decode cJ9_init 2 = .ok (.aload_n 2, 1) := dk_44 (dk_at dksJ9_init_0 2 rfl rfl)
theorem dJ9_init_3 : decode cJ9_init 3 = .ok (.iload_n 3, 1) := dk_29 (dk_at dksJ9_init_0 3 rfl rfl)
theorem dJ9_init_4 : decode cJ9_init 4 = .ok (.iload 4, 2) := dk_21 4 (dk_at dksJ9_init_0 4 rfl rfl)
theorem dJ9_init_6 : decode cJ9_init 6 = .ok (.invokespecial 16, 3) := dk_183 0 16 (dk_at dksJ9_init_0 6 rfl rfl)
theorem dJ9_init_9 : decode cJ9_init 9 = .ok (.return_, 1) := dk_177 (dk_at dksJ9_init_0 9 rfl rfl)
abbrev cJ9_init_2 : ByteArray := prog_29_method_1_code
def yJ9_init_2 : MethodName := ⟨RJ9, "<init>", "()V"⟩
theorem dJ9_init_2_0 : decode cJ9_init_2 0 = .ok (.aload_n 0, 1) := by decide +kernel
theorem dJ9_init_2_1 : decode cJ9_init_2 1 = .ok (.invokespecial 1, 3) := by decide +kernel
theorem dJ9_init_2_4 : decode cJ9_init_2 4 = .ok (.return_, 1) := by decide +kernel
abbrev cJ9_init_3 : ByteArray := prog_29_method_2_code
def yJ9_init_3 : MethodName := ⟨RJ9, "<init>", "(Ljava/lang/String;)V"⟩
def dkwJ9_init_3_0 : List UInt8 := [42, 43, 183, 0, 7, 177]
abbrev dktJ9_init_3_0 : List UInt8 := dkwJ9_init_3_0 ++ []
theorem dksJ9_init_3_0 : cJ9_init_3.data.toList.drop 0 = dktJ9_init_3_0 := by decide +kernel
theorem dJ9_init_3_0 : decode cJ9_init_3 0 = .ok (.aload_n 0, 1) := dk_42 (dk_at dksJ9_init_3_0 0 rfl rfl)
theorem dJ9_init_3_1 : decode cJ9_init_3 1 = .ok (.aload_n 1, 1) := dk_43 (dk_at dksJ9_init_3_0 1 rfl rfl)
theorem dJ9_init_3_2 : decode cJ9_init_3 2 = .ok (.invokespecial 7, 3) := dk_183 0 7 (dk_at dksJ9_init_3_0 2 rfl rfl)
theorem dJ9_init_3_5 : decode cJ9_init_3 5 = .ok (.return_, 1) := dk_177 (dk_at dksJ9_init_3_0 5 rfl rfl)
theorem q138 : (Jvm.Cond.initialized "java/lang/Exception") ∈ lw_all := lw_g (lw_at lw_m1 17 rfl) rfl
theorem q538 : (Jvm.Cond.declares ({ cls := "java/lang/Exception", name := "<init>", desc := "()V" } : Jvm.MethodName)) ∈ lw_tbl := lw_at lw_m2 177 rfl
theorem q539 : (Jvm.Cond.declares ({ cls := "java/lang/Exception", name := "<init>", desc := "(Ljava/lang/String;)V" } : Jvm.MethodName)) ∈ lw_tbl := lw_at lw_m2 178 rfl
theorem q582 : (Jvm.Cond.superclass "java/lang/Exception" "java/lang/Throwable") ∈ lw_all := lw_g (lw_at lw_m2 221 rfl) rfl
theorem q593 : (Jvm.Cond.instanceMethod ({ cls := "java/lang/Exception", name := "<init>", desc := "(Ljava/lang/String;Ljava/lang/Throwable;ZZ)V" } : Jvm.MethodName)) ∈ lw_all := lw_g (lw_at lw_m2 232 rfl) rfl
theorem q594 : (Jvm.Cond.code ({ cls := "java/lang/Exception", name := "<init>", desc := "(Ljava/lang/String;Ljava/lang/Throwable;ZZ)V" } : Jvm.MethodName) prog_29_method_5_code (5 : Nat) (Option.none : Option Jvm.ClassFile.FieldType)) ∈ lw_all := lw_g (lw_at lw_m2 233 rfl) rfl
theorem q595 : (Jvm.Cond.methodLink "java/lang/Exception" (16 : Nat) ({ cls := "java/lang/Throwable", name := "<init>", desc := "(Ljava/lang/String;Ljava/lang/Throwable;ZZ)V" } : Jvm.MethodName)) ∈ lw_all := lw_g (lw_at lw_m2 234 rfl) rfl
theorem q1356 : (Jvm.Cond.instanceMethod ({ cls := "java/lang/Exception", name := "<init>", desc := "()V" } : Jvm.MethodName)) ∈ lw_all := lw_g (lw_at lw_m6 35 rfl) rfl
theorem q1357 : (Jvm.Cond.code ({ cls := "java/lang/Exception", name := "<init>", desc := "()V" } : Jvm.MethodName) prog_29_method_1_code (1 : Nat) (Option.none : Option Jvm.ClassFile.FieldType)) ∈ lw_all := lw_g (lw_at lw_m6 36 rfl) rfl
theorem q1358 : (Jvm.Cond.methodLink "java/lang/Exception" (1 : Nat) ({ cls := "java/lang/Throwable", name := "<init>", desc := "()V" } : Jvm.MethodName)) ∈ lw_all := lw_g (lw_at lw_m6 37 rfl) rfl
theorem q1441 : (Jvm.Cond.instanceMethod ({ cls := "java/lang/Exception", name := "<init>", desc := "(Ljava/lang/String;)V" } : Jvm.MethodName)) ∈ lw_all := lw_g (lw_at lw_m6 120 rfl) rfl
theorem q1442 : (Jvm.Cond.code ({ cls := "java/lang/Exception", name := "<init>", desc := "(Ljava/lang/String;)V" } : Jvm.MethodName) prog_29_method_2_code (2 : Nat) (Option.none : Option Jvm.ClassFile.FieldType)) ∈ lw_all := lw_g (lw_at lw_m6 121 rfl) rfl
theorem q1443 : (Jvm.Cond.methodLink "java/lang/Exception" (7 : Nat) ({ cls := "java/lang/Throwable", name := "<init>", desc := "(Ljava/lang/String;)V" } : Jvm.MethodName)) ∈ lw_all := lw_g (lw_at lw_m6 122 rfl) rfl
/-! UpAndDown$Table -/
set_option maxRecDepth 100000
def RX1 : String := "UpAndDown$Table"
def TX1 : u_T := fun k => match k with
  | 0 => ("UpAndDown$Table", "base", "I", false)
  | 1 => ("UpAndDown$Table", "length", "I", false)
  | 2 => ("UpAndDown$Table", "size", "I", false)
  | 3 => ("UpAndDown$Table", "lines", "I", false)
  | 4 => ("UpAndDown$Table", "hasDoing", "Z", false)
  | 5 => ("UpAndDown$Table", "doing", "Ljava/util/ArrayList;", true)
  | 6 => ("UpAndDown$Table", "slipDone", "Ljava/util/ArrayList;", true)
  | 7 => ("UpAndDown$Table", "slipFor", "Ljava/util/ArrayList;", true)
  | _ => ("UpAndDown$Table", "numbers", "Ljava/util/ArrayList;", true)
def tyX1 : Nat → FieldType := fun k => match k with
  | 0 => .int
  | 1 => .int
  | 2 => .int
  | 3 => .int
  | 4 => .boolean
  | 5 => .object "java/util/ArrayList"
  | 6 => .object "java/util/ArrayList"
  | 7 => .object "java/util/ArrayList"
  | _ => .object "java/util/ArrayList"
abbrev wsX10 : List Cond := u_ws RX1 TX1 9
theorem nmX1 : ∀ a, a < 9 → ∀ b, b < 9 → a ≠ b → (TX1 a).2.1 ≠ (TX1 b).2.1 := by decide +kernel
theorem tyX1_ok : ∀ k, k < 9 → parseFieldDescriptor (TX1 k).2.2.1 = some (tyX1 k) := by decide +kernel
abbrev cX1_init : ByteArray := prog_15_method_1_code
def yX1_init : MethodName := ⟨RX1, "<init>", "()V"⟩
def dkwX1_init_2 : List UInt8 := [183, 0, 9, 181, 0, 24, 177]
abbrev dktX1_init_2 : List UInt8 := dkwX1_init_2 ++ []
def dkwX1_init_1 : List UInt8 := [183, 0, 9, 181, 0, 18, 42, 187, 0, 7, 89, 5, 183, 0, 9, 181, 0, 21, 42, 187, 0, 7, 89, 5]
abbrev dktX1_init_1 : List UInt8 := dkwX1_init_1 ++ dktX1_init_2
def dkwX1_init_0 : List UInt8 := [42, 183, 0, 1, 42, 187, 0, 7, 89, 5, 183, 0, 9, 181, 0, 12, 42, 187, 0, 7, 89, 5]
abbrev dktX1_init_0 : List UInt8 := dkwX1_init_0 ++ dktX1_init_1
theorem dksX1_init_0 : cX1_init.data.toList.drop 0 = dktX1_init_0 := by decide +kernel
theorem dksX1_init_1 : cX1_init.data.toList.drop 22 = dktX1_init_1 := dk_seg dksX1_init_0 22 rfl rfl
theorem dksX1_init_2 : cX1_init.data.toList.drop 46 = dktX1_init_2 := dk_seg dksX1_init_1 24 rfl rfl
theorem dX1_init_0 : decode cX1_init 0 = .ok (.aload_n 0, 1) := dk_42 (dk_at dksX1_init_0 0 rfl rfl)
theorem dX1_init_1 : decode cX1_init 1 = .ok (.invokespecial 1, 3) := dk_183 0 1 (dk_at dksX1_init_0 1 rfl rfl)
theorem dX1_init_4 : decode cX1_init 4 = .ok (.aload_n 0, 1) := dk_42 (dk_at dksX1_init_0 4 rfl rfl)
theorem dX1_init_5 : decode cX1_init 5 = .ok (.new 7, 3) := dk_187 0 7 (dk_at dksX1_init_0 5 rfl rfl)
theorem dX1_init_8 : decode cX1_init 8 = .ok (.dup, 1) := dk_89 (dk_at dksX1_init_0 8 rfl rfl)
theorem dX1_init_9 : decode cX1_init 9 = .ok (.iconst 2, 1) := dk_5 (dk_at dksX1_init_0 9 rfl rfl)
theorem dX1_init_10 : decode cX1_init 10 = .ok (.invokespecial 9, 3) := dk_183 0 9 (dk_at dksX1_init_0 10 rfl rfl)
theorem dX1_init_13 : decode cX1_init 13 = .ok (.putfield 12, 3) := dk_181 0 12 (dk_at dksX1_init_0 13 rfl rfl)
theorem dX1_init_16 : decode cX1_init 16 = .ok (.aload_n 0, 1) := dk_42 (dk_at dksX1_init_0 16 rfl rfl)
theorem dX1_init_17 : decode cX1_init 17 = .ok (.new 7, 3) := dk_187 0 7 (dk_at dksX1_init_0 17 rfl rfl)
theorem dX1_init_20 : decode cX1_init 20 = .ok (.dup, 1) := dk_89 (dk_at dksX1_init_0 20 rfl rfl)
theorem dX1_init_21 : decode cX1_init 21 = .ok (.iconst 2, 1) := dk_5 (dk_at dksX1_init_0 21 rfl rfl)
theorem dX1_init_22 : decode cX1_init 22 = .ok (.invokespecial 9, 3) := dk_183 0 9 (dk_at dksX1_init_1 0 rfl rfl)
theorem dX1_init_25 : decode cX1_init 25 = .ok (.putfield 18, 3) := dk_181 0 18 (dk_at dksX1_init_1 3 rfl rfl)
theorem dX1_init_28 : decode cX1_init 28 = .ok (.aload_n 0, 1) := dk_42 (dk_at dksX1_init_1 6 rfl rfl)
theorem dX1_init_29 : decode cX1_init 29 = .ok (.new 7, 3) := dk_187 0 7 (dk_at dksX1_init_1 7 rfl rfl)
theorem dX1_init_32 : decode cX1_init 32 = .ok (.dup, 1) := dk_89 (dk_at dksX1_init_1 10 rfl rfl)
theorem dX1_init_33 : decode cX1_init 33 = .ok (.iconst 2, 1) := dk_5 (dk_at dksX1_init_1 11 rfl rfl)
theorem dX1_init_34 : decode cX1_init 34 = .ok (.invokespecial 9, 3) := dk_183 0 9 (dk_at dksX1_init_1 12 rfl rfl)
theorem dX1_init_37 : decode cX1_init 37 = .ok (.putfield 21, 3) := dk_181 0 21 (dk_at dksX1_init_1 15 rfl rfl)
theorem dX1_init_40 : decode cX1_init 40 = .ok (.aload_n 0, 1) := dk_42 (dk_at dksX1_init_1 18 rfl rfl)
theorem dX1_init_41 : decode cX1_init 41 = .ok (.new 7, 3) := dk_187 0 7 (dk_at dksX1_init_1 19 rfl rfl)
theorem dX1_init_44 : decode cX1_init 44 = .ok (.dup, 1) := dk_89 (dk_at dksX1_init_1 22 rfl rfl)
theorem dX1_init_45 : decode cX1_init 45 = .ok (.iconst 2, 1) := dk_5 (dk_at dksX1_init_1 23 rfl rfl)
theorem dX1_init_46 : decode cX1_init 46 = .ok (.invokespecial 9, 3) := dk_183 0 9 (dk_at dksX1_init_2 0 rfl rfl)
theorem dX1_init_49 : decode cX1_init 49 = .ok (.putfield 24, 3) := dk_181 0 24 (dk_at dksX1_init_2 3 rfl rfl)
theorem dX1_init_52 : decode cX1_init 52 = .ok (.return_, 1) := dk_177 (dk_at dksX1_init_2 6 rfl rfl)
abbrev cX1_copy : ByteArray := prog_15_method_2_code
def yX1_copy : MethodName := ⟨RX1, "copy", "()LUpAndDown$Table;"⟩
def dkwX1_copy_3 : List UInt8 := [182, 0, 41, 87, 43, 180, 0, 24, 42, 180, 0, 24, 182, 0, 41, 87, 43, 176]
abbrev dktX1_copy_3 : List UInt8 := dkwX1_copy_3 ++ []
def dkwX1_copy_2 : List UInt8 := [182, 0, 41, 87, 43, 180, 0, 18, 42, 180, 0, 18, 182, 0, 41, 87, 43, 180, 0, 21, 42, 180, 0, 21]
abbrev dktX1_copy_2 : List UInt8 := dkwX1_copy_2 ++ dktX1_copy_3
def dkwX1_copy_1 : List UInt8 := [43, 42, 180, 0, 35, 181, 0, 35, 43, 42, 180, 0, 38, 181, 0, 38, 43, 180, 0, 12, 42, 180, 0, 12]
abbrev dktX1_copy_1 : List UInt8 := dkwX1_copy_1 ++ dktX1_copy_2
def dkwX1_copy_0 : List UInt8 := [187, 0, 13, 89, 183, 0, 27, 76, 43, 42, 180, 0, 28, 181, 0, 28, 43, 42, 180, 0, 32, 181, 0, 32]
abbrev dktX1_copy_0 : List UInt8 := dkwX1_copy_0 ++ dktX1_copy_1
theorem dksX1_copy_0 : cX1_copy.data.toList.drop 0 = dktX1_copy_0 := by decide +kernel
theorem dksX1_copy_1 : cX1_copy.data.toList.drop 24 = dktX1_copy_1 := dk_seg dksX1_copy_0 24 rfl rfl
theorem dksX1_copy_2 : cX1_copy.data.toList.drop 48 = dktX1_copy_2 := dk_seg dksX1_copy_1 24 rfl rfl
theorem dksX1_copy_3 : cX1_copy.data.toList.drop 72 = dktX1_copy_3 := dk_seg dksX1_copy_2 24 rfl rfl
theorem dX1_copy_0 : decode cX1_copy 0 = .ok (.new 13, 3) := dk_187 0 13 (dk_at dksX1_copy_0 0 rfl rfl)
theorem dX1_copy_3 : decode cX1_copy 3 = .ok (.dup, 1) := dk_89 (dk_at dksX1_copy_0 3 rfl rfl)
theorem dX1_copy_4 : decode cX1_copy 4 = .ok (.invokespecial 27, 3) := dk_183 0 27 (dk_at dksX1_copy_0 4 rfl rfl)
theorem dX1_copy_7 : decode cX1_copy 7 = .ok (.astore_n 1, 1) := dk_76 (dk_at dksX1_copy_0 7 rfl rfl)
theorem dX1_copy_8 : decode cX1_copy 8 = .ok (.aload_n 1, 1) := dk_43 (dk_at dksX1_copy_0 8 rfl rfl)
theorem dX1_copy_9 : decode cX1_copy 9 = .ok (.aload_n 0, 1) := dk_42 (dk_at dksX1_copy_0 9 rfl rfl)
theorem dX1_copy_10 : decode cX1_copy 10 = .ok (.getfield 28, 3) := dk_180 0 28 (dk_at dksX1_copy_0 10 rfl rfl)
theorem dX1_copy_13 : decode cX1_copy 13 = .ok (.putfield 28, 3) := dk_181 0 28 (dk_at dksX1_copy_0 13 rfl rfl)
theorem dX1_copy_16 : decode cX1_copy 16 = .ok (.aload_n 1, 1) := dk_43 (dk_at dksX1_copy_0 16 rfl rfl)
theorem dX1_copy_17 : decode cX1_copy 17 = .ok (.aload_n 0, 1) := dk_42 (dk_at dksX1_copy_0 17 rfl rfl)
theorem dX1_copy_18 : decode cX1_copy 18 = .ok (.getfield 32, 3) := dk_180 0 32 (dk_at dksX1_copy_0 18 rfl rfl)
theorem dX1_copy_21 : decode cX1_copy 21 = .ok (.putfield 32, 3) := dk_181 0 32 (dk_at dksX1_copy_0 21 rfl rfl)
theorem dX1_copy_24 : decode cX1_copy 24 = .ok (.aload_n 1, 1) := dk_43 (dk_at dksX1_copy_1 0 rfl rfl)
theorem dX1_copy_25 : decode cX1_copy 25 = .ok (.aload_n 0, 1) := dk_42 (dk_at dksX1_copy_1 1 rfl rfl)
theorem dX1_copy_26 : decode cX1_copy 26 = .ok (.getfield 35, 3) := dk_180 0 35 (dk_at dksX1_copy_1 2 rfl rfl)
theorem dX1_copy_29 : decode cX1_copy 29 = .ok (.putfield 35, 3) := dk_181 0 35 (dk_at dksX1_copy_1 5 rfl rfl)
theorem dX1_copy_32 : decode cX1_copy 32 = .ok (.aload_n 1, 1) := dk_43 (dk_at dksX1_copy_1 8 rfl rfl)
theorem dX1_copy_33 : decode cX1_copy 33 = .ok (.aload_n 0, 1) := dk_42 (dk_at dksX1_copy_1 9 rfl rfl)
theorem dX1_copy_34 : decode cX1_copy 34 = .ok (.getfield 38, 3) := dk_180 0 38 (dk_at dksX1_copy_1 10 rfl rfl)
theorem dX1_copy_37 : decode cX1_copy 37 = .ok (.putfield 38, 3) := dk_181 0 38 (dk_at dksX1_copy_1 13 rfl rfl)
theorem dX1_copy_40 : decode cX1_copy 40 = .ok (.aload_n 1, 1) := dk_43 (dk_at dksX1_copy_1 16 rfl rfl)
theorem dX1_copy_41 : decode cX1_copy 41 = .ok (.getfield 12, 3) := dk_180 0 12 (dk_at dksX1_copy_1 17 rfl rfl)
theorem dX1_copy_44 : decode cX1_copy 44 = .ok (.aload_n 0, 1) := dk_42 (dk_at dksX1_copy_1 20 rfl rfl)
theorem dX1_copy_45 : decode cX1_copy 45 = .ok (.getfield 12, 3) := dk_180 0 12 (dk_at dksX1_copy_1 21 rfl rfl)
theorem dX1_copy_48 : decode cX1_copy 48 = .ok (.invokevirtual 41, 3) := dk_182 0 41 (dk_at dksX1_copy_2 0 rfl rfl)
theorem dX1_copy_51 : decode cX1_copy 51 = .ok (.pop, 1) := dk_87 (dk_at dksX1_copy_2 3 rfl rfl)
theorem dX1_copy_52 : decode cX1_copy 52 = .ok (.aload_n 1, 1) := dk_43 (dk_at dksX1_copy_2 4 rfl rfl)
theorem dX1_copy_53 : decode cX1_copy 53 = .ok (.getfield 18, 3) := dk_180 0 18 (dk_at dksX1_copy_2 5 rfl rfl)
theorem dX1_copy_56 : decode cX1_copy 56 = .ok (.aload_n 0, 1) := dk_42 (dk_at dksX1_copy_2 8 rfl rfl)
theorem dX1_copy_57 : decode cX1_copy 57 = .ok (.getfield 18, 3) := dk_180 0 18 (dk_at dksX1_copy_2 9 rfl rfl)
theorem dX1_copy_60 : decode cX1_copy 60 = .ok (.invokevirtual 41, 3) := dk_182 0 41 (dk_at dksX1_copy_2 12 rfl rfl)
theorem dX1_copy_63 : decode cX1_copy 63 = .ok (.pop, 1) := dk_87 (dk_at dksX1_copy_2 15 rfl rfl)
theorem dX1_copy_64 : decode cX1_copy 64 = .ok (.aload_n 1, 1) := dk_43 (dk_at dksX1_copy_2 16 rfl rfl)
theorem dX1_copy_65 : decode cX1_copy 65 = .ok (.getfield 21, 3) := dk_180 0 21 (dk_at dksX1_copy_2 17 rfl rfl)
theorem dX1_copy_68 : decode cX1_copy 68 = .ok (.aload_n 0, 1) := dk_42 (dk_at dksX1_copy_2 20 rfl rfl)
theorem dX1_copy_69 : decode cX1_copy 69 = .ok (.getfield 21, 3) := dk_180 0 21 (dk_at dksX1_copy_2 21 rfl rfl)
theorem dX1_copy_72 : decode cX1_copy 72 = .ok (.invokevirtual 41, 3) := dk_182 0 41 (dk_at dksX1_copy_3 0 rfl rfl)
theorem dX1_copy_75 : decode cX1_copy 75 = .ok (.pop, 1) := dk_87 (dk_at dksX1_copy_3 3 rfl rfl)
theorem dX1_copy_76 : decode cX1_copy 76 = .ok (.aload_n 1, 1) := dk_43 (dk_at dksX1_copy_3 4 rfl rfl)
theorem dX1_copy_77 : decode cX1_copy 77 = .ok (.getfield 24, 3) := dk_180 0 24 (dk_at dksX1_copy_3 5 rfl rfl)
theorem dX1_copy_80 : decode cX1_copy 80 = .ok (.aload_n 0, 1) := dk_42 (dk_at dksX1_copy_3 8 rfl rfl)
theorem dX1_copy_81 : decode cX1_copy 81 = .ok (.getfield 24, 3) := dk_180 0 24 (dk_at dksX1_copy_3 9 rfl rfl)
theorem dX1_copy_84 : decode cX1_copy 84 = .ok (.invokevirtual 41, 3) := dk_182 0 41 (dk_at dksX1_copy_3 12 rfl rfl)
theorem dX1_copy_87 : decode cX1_copy 87 = .ok (.pop, 1) := dk_87 (dk_at dksX1_copy_3 15 rfl rfl)
theorem dX1_copy_88 : decode cX1_copy 88 = .ok (.aload_n 1, 1) := dk_43 (dk_at dksX1_copy_3 16 rfl rfl)
theorem dX1_copy_89 : decode cX1_copy 89 = .ok (.areturn, 1) := dk_176 (dk_at dksX1_copy_3 17 rfl rfl)
theorem q123 : (Jvm.Cond.initialized "UpAndDown$Table") ∈ lw_all := lw_g (lw_at lw_m1 2 rfl) rfl
theorem q177 : (Jvm.Cond.instantiable "UpAndDown$Table" (9 : Nat)) ∈ lw_all := lw_g (lw_at lw_m1 56 rfl) rfl
theorem q179 : (Jvm.Cond.instanceMethod ({ cls := "UpAndDown$Table", name := "<init>", desc := "()V" } : Jvm.MethodName)) ∈ lw_all := lw_g (lw_at lw_m1 58 rfl) rfl
theorem q180 : (Jvm.Cond.code ({ cls := "UpAndDown$Table", name := "<init>", desc := "()V" } : Jvm.MethodName) prog_15_method_1_code (1 : Nat) (Option.none : Option Jvm.ClassFile.FieldType)) ∈ lw_all := lw_g (lw_at lw_m1 59 rfl) rfl
theorem q181 : (Jvm.Cond.methodLink "UpAndDown$Table" (1 : Nat) ({ cls := "java/lang/Object", name := "<init>", desc := "()V" } : Jvm.MethodName)) ∈ lw_all := lw_g (lw_at lw_m1 60 rfl) rfl
theorem q182 : (Jvm.Cond.classLink "UpAndDown$Table" (7 : Nat) "java/util/ArrayList") ∈ lw_all := lw_g (lw_at lw_m1 61 rfl) rfl
theorem q184 : (Jvm.Cond.methodLink "UpAndDown$Table" (9 : Nat) ({ cls := "java/util/ArrayList", name := "<init>", desc := "(I)V" } : Jvm.MethodName)) ∈ lw_all := lw_g (lw_at lw_m1 63 rfl) rfl
theorem q211 : (Jvm.Cond.fieldLink "UpAndDown$Table" (28 : Nat) "UpAndDown$Table" "base" "I") ∈ lw_all := lw_g (lw_at lw_m1 90 rfl) rfl
theorem q216 : (Jvm.Cond.fieldLink "UpAndDown$Table" (32 : Nat) "UpAndDown$Table" "length" "I") ∈ lw_all := lw_g (lw_at lw_m1 95 rfl) rfl
theorem q223 : (Jvm.Cond.fieldLink "UpAndDown$Table" (35 : Nat) "UpAndDown$Table" "size" "I") ∈ lw_all := lw_g (lw_at lw_m1 102 rfl) rfl
theorem q226 : (Jvm.Cond.fieldLink "UpAndDown$Table" (38 : Nat) "UpAndDown$Table" "lines" "I") ∈ lw_all := lw_g (lw_at lw_m1 105 rfl) rfl
theorem q230 : (Jvm.Cond.fieldLink "UpAndDown$Table" (12 : Nat) "UpAndDown$Table" "doing" "Ljava/util/ArrayList;") ∈ lw_all := lw_g (lw_at lw_m1 109 rfl) rfl
theorem q233 : (Jvm.Cond.fieldLink "UpAndDown$Table" (18 : Nat) "UpAndDown$Table" "slipDone" "Ljava/util/ArrayList;") ∈ lw_all := lw_g (lw_at lw_m1 112 rfl) rfl
theorem q236 : (Jvm.Cond.fieldLink "UpAndDown$Table" (21 : Nat) "UpAndDown$Table" "slipFor" "Ljava/util/ArrayList;") ∈ lw_all := lw_g (lw_at lw_m1 115 rfl) rfl
theorem q239 : (Jvm.Cond.fieldLink "UpAndDown$Table" (24 : Nat) "UpAndDown$Table" "numbers" "Ljava/util/ArrayList;") ∈ lw_all := lw_g (lw_at lw_m1 118 rfl) rfl
theorem q242 : (Jvm.Cond.lays "UpAndDown$Table" "UpAndDown$Table" "base" "I") ∈ lw_all := lw_g (lw_at lw_m1 121 rfl) rfl
theorem q243 : (Jvm.Cond.soleField "UpAndDown$Table" "base") ∈ lw_all := lw_g (lw_at lw_m1 122 rfl) rfl
theorem q244 : (Jvm.Cond.lays "UpAndDown$Table" "UpAndDown$Table" "length" "I") ∈ lw_all := lw_g (lw_at lw_m1 123 rfl) rfl
theorem q245 : (Jvm.Cond.soleField "UpAndDown$Table" "length") ∈ lw_all := lw_g (lw_at lw_m1 124 rfl) rfl
theorem q246 : (Jvm.Cond.lays "UpAndDown$Table" "UpAndDown$Table" "size" "I") ∈ lw_all := lw_g (lw_at lw_m1 125 rfl) rfl
theorem q247 : (Jvm.Cond.soleField "UpAndDown$Table" "size") ∈ lw_all := lw_g (lw_at lw_m1 126 rfl) rfl
theorem q248 : (Jvm.Cond.lays "UpAndDown$Table" "UpAndDown$Table" "lines" "I") ∈ lw_all := lw_g (lw_at lw_m1 127 rfl) rfl
theorem q249 : (Jvm.Cond.soleField "UpAndDown$Table" "lines") ∈ lw_all := lw_g (lw_at lw_m1 128 rfl) rfl
theorem q250 : (Jvm.Cond.lays "UpAndDown$Table" "UpAndDown$Table" "hasDoing" "Z") ∈ lw_all := lw_g (lw_at lw_m1 129 rfl) rfl
theorem q251 : (Jvm.Cond.soleField "UpAndDown$Table" "hasDoing") ∈ lw_all := lw_g (lw_at lw_m1 130 rfl) rfl
theorem q252 : (Jvm.Cond.laysFinal "UpAndDown$Table" "UpAndDown$Table" "doing" "Ljava/util/ArrayList;") ∈ lw_all := lw_g (lw_at lw_m1 131 rfl) rfl
theorem q253 : (Jvm.Cond.soleField "UpAndDown$Table" "doing") ∈ lw_all := lw_g (lw_at lw_m1 132 rfl) rfl
theorem q254 : (Jvm.Cond.laysFinal "UpAndDown$Table" "UpAndDown$Table" "slipDone" "Ljava/util/ArrayList;") ∈ lw_all := lw_g (lw_at lw_m1 133 rfl) rfl
theorem q255 : (Jvm.Cond.soleField "UpAndDown$Table" "slipDone") ∈ lw_all := lw_g (lw_at lw_m1 134 rfl) rfl
theorem q256 : (Jvm.Cond.laysFinal "UpAndDown$Table" "UpAndDown$Table" "slipFor" "Ljava/util/ArrayList;") ∈ lw_all := lw_g (lw_at lw_m1 135 rfl) rfl
theorem q257 : (Jvm.Cond.soleField "UpAndDown$Table" "slipFor") ∈ lw_all := lw_g (lw_at lw_m1 136 rfl) rfl
theorem q258 : (Jvm.Cond.laysFinal "UpAndDown$Table" "UpAndDown$Table" "numbers" "Ljava/util/ArrayList;") ∈ lw_all := lw_g (lw_at lw_m1 137 rfl) rfl
theorem q259 : (Jvm.Cond.soleField "UpAndDown$Table" "numbers") ∈ lw_all := lw_g (lw_at lw_m1 138 rfl) rfl
theorem q260 : (Jvm.Cond.superclass "UpAndDown$Table" "java/lang/Object") ∈ lw_all := lw_g (lw_at lw_m1 139 rfl) rfl
theorem q868 : (Jvm.Cond.selects "UpAndDown$Table" ({ cls := "java/lang/Object", name := "getClass", desc := "()Ljava/lang/Class;" } : Jvm.MethodName) ({ cls := "java/lang/Object", name := "getClass", desc := "()Ljava/lang/Class;" } : Jvm.MethodName)) ∈ lw_all := lw_g (lw_at lw_m4 27 rfl) rfl
theorem q1405 : (Jvm.Cond.instanceMethod ({ cls := "UpAndDown$Table", name := "copy", desc := "()LUpAndDown$Table;" } : Jvm.MethodName)) ∈ lw_all := lw_g (lw_at lw_m6 84 rfl) rfl
theorem q1406 : (Jvm.Cond.selects "UpAndDown$Table" ({ cls := "UpAndDown$Table", name := "copy", desc := "()LUpAndDown$Table;" } : Jvm.MethodName) ({ cls := "UpAndDown$Table", name := "copy", desc := "()LUpAndDown$Table;" } : Jvm.MethodName)) ∈ lw_all := lw_g (lw_at lw_m6 85 rfl) rfl
theorem q1407 : (Jvm.Cond.code ({ cls := "UpAndDown$Table", name := "copy", desc := "()LUpAndDown$Table;" } : Jvm.MethodName) prog_15_method_2_code (2 : Nat) (Option.some (Jvm.ClassFile.FieldType.object "UpAndDown$Table"))) ∈ lw_all := lw_g (lw_at lw_m6 86 rfl) rfl
theorem q1408 : (Jvm.Cond.classLink "UpAndDown$Table" (13 : Nat) "UpAndDown$Table") ∈ lw_all := lw_g (lw_at lw_m6 87 rfl) rfl
theorem q1409 : (Jvm.Cond.methodLink "UpAndDown$Table" (27 : Nat) ({ cls := "UpAndDown$Table", name := "<init>", desc := "()V" } : Jvm.MethodName)) ∈ lw_all := lw_g (lw_at lw_m6 88 rfl) rfl
theorem q1410 : (Jvm.Cond.methodLink "UpAndDown$Table" (41 : Nat) ({ cls := "java/util/ArrayList", name := "addAll", desc := "(Ljava/util/Collection;)Z" } : Jvm.MethodName)) ∈ lw_all := lw_g (lw_at lw_m6 89 rfl) rfl
theorem q2121 : (Jvm.Cond.castable "UpAndDown$Table" "java/lang/Object") ∈ lw_tbl := lw_at lw_m9 80 rfl
theorem in_X1 : ∀ w ∈ wsX10, w ∈ lw_all := lw_in wsX10 [242, 244, 246, 248, 250, 252, 254, 256, 258] (by decide +kernel) (by decide +kernel)
/-! UpAndDown$Turn -/
set_option maxRecDepth 100000
def RX10 : String := "UpAndDown$Turn"
def TX10 : u_T := fun k => match k with
  | 0 => ("UpAndDown$ByFigures", "this$0", "LUpAndDown;", true)
  | 1 => ("UpAndDown$Word", "sort", "I", true)
  | 2 => ("UpAndDown$Word", "number", "I", true)
  | 3 => ("UpAndDown$Word", "this$0", "LUpAndDown;", true)
  | _ => ("UpAndDown$Turn", "this$0", "LUpAndDown;", true)
def tyX10 : Nat → FieldType := fun k => match k with
  | 0 => .object "UpAndDown"
  | 1 => .int
  | 2 => .int
  | 3 => .object "UpAndDown"
  | _ => .object "UpAndDown"
abbrev wsX100 : List Cond := u_ws RX10 TX10 5
-- two fields of one name: no nmX10
theorem tyX10_ok : ∀ k, k < 5 → parseFieldDescriptor (TX10 k).2.2.1 = some (tyX10 k) := by decide +kernel
abbrev cX10_init : ByteArray := prog_17_method_1_code
def yX10_init : MethodName := ⟨RX10, "<init>", "(LUpAndDown;)V"⟩
def dkwX10_init_0 : List UInt8 := [42, 43, 181, 0, 1, 42, 43, 5, 3, 183, 0, 7, 177]
abbrev dktX10_init_0 : List UInt8 := dkwX10_init_0 ++ []
theorem dksX10_init_0 : cX10_init.data.toList.drop 0 = dktX10_init_0 := by decide +kernel
theorem dX10_init_0 : decode cX10_init 0 = .ok (.aload_n 0, 1) := dk_42 (dk_at dksX10_init_0 0 rfl rfl)
theorem dX10_init_1 : decode cX10_init 1 = .ok (.aload_n 1, 1) := dk_43 (dk_at dksX10_init_0 1 rfl rfl)
theorem dX10_init_2 : decode cX10_init 2 = .ok (.putfield 1, 3) := dk_181 0 1 (dk_at dksX10_init_0 2 rfl rfl)
theorem dX10_init_5 : decode cX10_init 5 = .ok (.aload_n 0, 1) := dk_42 (dk_at dksX10_init_0 5 rfl rfl)
theorem dX10_init_6 : decode cX10_init 6 = .ok (.aload_n 1, 1) := dk_43 (dk_at dksX10_init_0 6 rfl rfl)
theorem dX10_init_7 : decode cX10_init 7 = .ok (.iconst 2, 1) := dk_5 (dk_at dksX10_init_0 7 rfl rfl)
theorem dX10_init_8 : decode cX10_init 8 = .ok (.iconst 0, 1) := dk_3 (dk_at dksX10_init_0 8 rfl rfl)
theorem dX10_init_9 : decode cX10_init 9 = .ok (.invokespecial 7, 3) := dk_183 0 7 (dk_at dksX10_init_0 9 rfl rfl)
theorem dX10_init_12 : decode cX10_init 12 = .ok (.return_, 1) := dk_177 (dk_at dksX10_init_0 12 rfl rfl)
abbrev cX10_ofRow : ByteArray := prog_17_method_2_code
def yX10_ofRow : MethodName := ⟨RX10, "ofRow", "()J"⟩
def dkwX10_ofRow_1 : List UInt8 := [180, 0, 23, 180, 0, 27, 182, 0, 33, 173]
abbrev dktX10_ofRow_1 : List UInt8 := dkwX10_ofRow_1 ++ []
def dkwX10_ofRow_0 : List UInt8 := [42, 180, 0, 1, 182, 0, 13, 42, 180, 0, 1, 42, 180, 0, 1, 180, 0, 19, 42, 180, 0, 1]
abbrev dktX10_ofRow_0 : List UInt8 := dkwX10_ofRow_0 ++ dktX10_ofRow_1
theorem dksX10_ofRow_0 : cX10_ofRow.data.toList.drop 0 = dktX10_ofRow_0 := by decide +kernel
theorem dksX10_ofRow_1 : cX10_ofRow.data.toList.drop 22 = dktX10_ofRow_1 := dk_seg dksX10_ofRow_0 22 rfl rfl
theorem dX10_ofRow_0 : decode cX10_ofRow 0 = .ok (.aload_n 0, 1) := dk_42 (dk_at dksX10_ofRow_0 0 rfl rfl)
theorem dX10_ofRow_1 : decode cX10_ofRow 1 = .ok (.getfield 1, 3) := dk_180 0 1 (dk_at dksX10_ofRow_0 1 rfl rfl)
theorem dX10_ofRow_4 : decode cX10_ofRow 4 = .ok (.invokevirtual 13, 3) := dk_182 0 13 (dk_at dksX10_ofRow_0 4 rfl rfl)
theorem dX10_ofRow_7 : decode cX10_ofRow 7 = .ok (.aload_n 0, 1) := dk_42 (dk_at dksX10_ofRow_0 7 rfl rfl)
theorem dX10_ofRow_8 : decode cX10_ofRow 8 = .ok (.getfield 1, 3) := dk_180 0 1 (dk_at dksX10_ofRow_0 8 rfl rfl)
theorem dX10_ofRow_11 : decode cX10_ofRow 11 = .ok (.aload_n 0, 1) := dk_42 (dk_at dksX10_ofRow_0 11 rfl rfl)
theorem dX10_ofRow_12 : decode cX10_ofRow 12 = .ok (.getfield 1, 3) := dk_180 0 1 (dk_at dksX10_ofRow_0 12 rfl rfl)
theorem dX10_ofRow_15 : decode cX10_ofRow 15 = .ok (.getfield 19, 3) := dk_180 0 19 (dk_at dksX10_ofRow_0 15 rfl rfl)
theorem dX10_ofRow_18 : decode cX10_ofRow 18 = .ok (.aload_n 0, 1) := dk_42 (dk_at dksX10_ofRow_0 18 rfl rfl)
theorem dX10_ofRow_19 : decode cX10_ofRow 19 = .ok (.getfield 1, 3) := dk_180 0 1 (dk_at dksX10_ofRow_0 19 rfl rfl)
theorem dX10_ofRow_22 : decode cX10_ofRow 22 = .ok (.getfield 23, 3) := dk_180 0 23 (dk_at dksX10_ofRow_1 0 rfl rfl)
theorem dX10_ofRow_25 : decode cX10_ofRow 25 = .ok (.getfield 27, 3) := dk_180 0 27 (dk_at dksX10_ofRow_1 3 rfl rfl)
theorem dX10_ofRow_28 : decode cX10_ofRow 28 = .ok (.invokevirtual 33, 3) := dk_182 0 33 (dk_at dksX10_ofRow_1 6 rfl rfl)
theorem dX10_ofRow_31 : decode cX10_ofRow 31 = .ok (.lreturn, 1) := dk_173 (dk_at dksX10_ofRow_1 9 rfl rfl)
theorem q144 : (Jvm.Cond.initialized "UpAndDown$Turn") ∈ lw_all := lw_g (lw_at lw_m1 23 rfl) rfl
theorem q219 : (Jvm.Cond.fieldLinkNest "UpAndDown$Turn" (27 : Nat) "UpAndDown$Table" "length" "I" "UpAndDown") ∈ lw_tbl := lw_at lw_m1 98 rfl
theorem q296 : (Jvm.Cond.fieldLinkNest "UpAndDown$Turn" (19 : Nat) "UpAndDown" "figures" "[I" "UpAndDown") ∈ lw_tbl := lw_at lw_m1 175 rfl
theorem q308 : (Jvm.Cond.fieldLinkNest "UpAndDown$Turn" (23 : Nat) "UpAndDown" "table" "LUpAndDown$Table;" "UpAndDown") ∈ lw_tbl := lw_at lw_m1 187 rfl
theorem q714 : (Jvm.Cond.instantiable "UpAndDown$Turn" (5 : Nat)) ∈ lw_all := lw_g (lw_at lw_m3 113 rfl) rfl
theorem q716 : (Jvm.Cond.instanceMethod ({ cls := "UpAndDown$Turn", name := "<init>", desc := "(LUpAndDown;)V" } : Jvm.MethodName)) ∈ lw_all := lw_g (lw_at lw_m3 115 rfl) rfl
theorem q717 : (Jvm.Cond.code ({ cls := "UpAndDown$Turn", name := "<init>", desc := "(LUpAndDown;)V" } : Jvm.MethodName) prog_17_method_1_code (2 : Nat) (Option.none : Option Jvm.ClassFile.FieldType)) ∈ lw_all := lw_g (lw_at lw_m3 116 rfl) rfl
theorem q718 : (Jvm.Cond.methodLink "UpAndDown$Turn" (7 : Nat) ({ cls := "UpAndDown$ByFigures", name := "<init>", desc := "(LUpAndDown;II)V" } : Jvm.MethodName)) ∈ lw_all := lw_g (lw_at lw_m3 117 rfl) rfl
theorem q719 : (Jvm.Cond.fieldLink "UpAndDown$Turn" (1 : Nat) "UpAndDown$Turn" "this$0" "LUpAndDown;") ∈ lw_all := lw_g (lw_at lw_m3 118 rfl) rfl
theorem q720 : (Jvm.Cond.laysFinal "UpAndDown$Turn" "UpAndDown$Turn" "this$0" "LUpAndDown;") ∈ lw_all := lw_g (lw_at lw_m3 119 rfl) rfl
theorem q721 : (Jvm.Cond.soleField "UpAndDown$Turn" "this$0") ∈ lw_all := lw_g (lw_at lw_m3 120 rfl) rfl
theorem q722 : (Jvm.Cond.laysFinal "UpAndDown$Turn" "UpAndDown$ByFigures" "this$0" "LUpAndDown;") ∈ lw_all := lw_g (lw_at lw_m3 121 rfl) rfl
theorem q723 : (Jvm.Cond.laysFinal "UpAndDown$Turn" "UpAndDown$Word" "sort" "I") ∈ lw_all := lw_g (lw_at lw_m3 122 rfl) rfl
theorem q724 : (Jvm.Cond.laysFinal "UpAndDown$Turn" "UpAndDown$Word" "number" "I") ∈ lw_all := lw_g (lw_at lw_m3 123 rfl) rfl
theorem q725 : (Jvm.Cond.laysFinal "UpAndDown$Turn" "UpAndDown$Word" "this$0" "LUpAndDown;") ∈ lw_all := lw_g (lw_at lw_m3 124 rfl) rfl
theorem q726 : (Jvm.Cond.superclass "UpAndDown$Turn" "UpAndDown$ByFigures") ∈ lw_all := lw_g (lw_at lw_m3 125 rfl) rfl
theorem q870 : (Jvm.Cond.selects "UpAndDown$Turn" ({ cls := "java/lang/Object", name := "getClass", desc := "()Ljava/lang/Class;" } : Jvm.MethodName) ({ cls := "java/lang/Object", name := "getClass", desc := "()Ljava/lang/Class;" } : Jvm.MethodName)) ∈ lw_all := lw_g (lw_at lw_m4 29 rfl) rfl
theorem q962 : (Jvm.Cond.selects "UpAndDown$Turn" ({ cls := "UpAndDown$Word", name := "isLike", desc := "(LUpAndDown$Word;)Z" } : Jvm.MethodName) ({ cls := "UpAndDown$Word", name := "isLike", desc := "(LUpAndDown$Word;)Z" } : Jvm.MethodName)) ∈ lw_all := lw_g (lw_at lw_m4 121 rfl) rfl
theorem q1045 : (Jvm.Cond.selects "UpAndDown$Turn" ({ cls := "UpAndDown$ByFigures", name := "ofRow", desc := "()J" } : Jvm.MethodName) ({ cls := "UpAndDown$Turn", name := "ofRow", desc := "()J" } : Jvm.MethodName)) ∈ lw_all := lw_g (lw_at lw_m4 204 rfl) rfl
theorem q1046 : (Jvm.Cond.instanceMethod ({ cls := "UpAndDown$Turn", name := "ofRow", desc := "()J" } : Jvm.MethodName)) ∈ lw_all := lw_g (lw_at lw_m4 205 rfl) rfl
theorem q1047 : (Jvm.Cond.code ({ cls := "UpAndDown$Turn", name := "ofRow", desc := "()J" } : Jvm.MethodName) prog_17_method_2_code (1 : Nat) (Option.some Jvm.ClassFile.FieldType.long)) ∈ lw_all := lw_g (lw_at lw_m4 206 rfl) rfl
theorem q1048 : (Jvm.Cond.methodLinkNest "UpAndDown$Turn" (13 : Nat) ({ cls := "UpAndDown", name := "turns", desc := "()V" } : Jvm.MethodName) "UpAndDown") ∈ lw_tbl := lw_at lw_m4 207 rfl
theorem q1052 : (Jvm.Cond.methodLinkNest "UpAndDown$Turn" (33 : Nat) ({ cls := "UpAndDown", name := "joined", desc := "([II)J" } : Jvm.MethodName) "UpAndDown") ∈ lw_tbl := lw_at lw_m4 211 rfl
theorem q1078 : (Jvm.Cond.selects "UpAndDown$Turn" ({ cls := "UpAndDown$Word", name := "does", desc := "(I)J" } : Jvm.MethodName) ({ cls := "UpAndDown$ByFigures", name := "does", desc := "(I)J" } : Jvm.MethodName)) ∈ lw_all := lw_g (lw_at lw_m4 237 rfl) rfl
theorem q2116 : (Jvm.Cond.castable "UpAndDown$Turn" "UpAndDown$Word") ∈ lw_tbl := lw_at lw_m9 75 rfl
theorem q2130 : (Jvm.Cond.castable "UpAndDown$Turn" "java/lang/Object") ∈ lw_tbl := lw_at lw_m9 89 rfl
theorem in_X10 : ∀ w ∈ wsX100, w ∈ lw_all := lw_in wsX100 [722, 723, 724, 725, 720] (by decide +kernel) (by decide +kernel)
/-! UpAndDown$Keep -/
set_option maxRecDepth 100000
def RX11 : String := "UpAndDown$Keep"
def TX11 : u_T := fun k => match k with
  | 0 => ("UpAndDown$Word", "sort", "I", true)
  | 1 => ("UpAndDown$Word", "number", "I", true)
  | 2 => ("UpAndDown$Word", "this$0", "LUpAndDown;", true)
  | _ => ("UpAndDown$Keep", "this$0", "LUpAndDown;", true)
def tyX11 : Nat → FieldType := fun k => match k with
  | 0 => .int
  | 1 => .int
  | 2 => .object "UpAndDown"
  | _ => .object "UpAndDown"
abbrev wsX110 : List Cond := u_ws RX11 TX11 4
-- two fields of one name: no nmX11
theorem tyX11_ok : ∀ k, k < 4 → parseFieldDescriptor (TX11 k).2.2.1 = some (tyX11 k) := by decide +kernel
abbrev cX11_init : ByteArray := prog_8_method_1_code
def yX11_init : MethodName := ⟨RX11, "<init>", "(LUpAndDown;)V"⟩
def dkwX11_init_0 : List UInt8 := [42, 43, 181, 0, 1, 42, 43, 6, 3, 183, 0, 7, 177]
abbrev dktX11_init_0 : List UInt8 := dkwX11_init_0 ++ []
theorem dksX11_init_0 : cX11_init.data.toList.drop 0 = dktX11_init_0 := by decide +kernel
theorem dX11_init_0 : decode cX11_init 0 = .ok (.aload_n 0, 1) := dk_42 (dk_at dksX11_init_0 0 rfl rfl)
theorem dX11_init_1 : decode cX11_init 1 = .ok (.aload_n 1, 1) := dk_43 (dk_at dksX11_init_0 1 rfl rfl)
theorem dX11_init_2 : decode cX11_init 2 = .ok (.putfield 1, 3) := dk_181 0 1 (dk_at dksX11_init_0 2 rfl rfl)
theorem dX11_init_5 : decode cX11_init 5 = .ok (.aload_n 0, 1) := dk_42 (dk_at dksX11_init_0 5 rfl rfl)
theorem dX11_init_6 : decode cX11_init 6 = .ok (.aload_n 1, 1) := dk_43 (dk_at dksX11_init_0 6 rfl rfl)
theorem dX11_init_7 : decode cX11_init 7 = .ok (.iconst 3, 1) := dk_6 (dk_at dksX11_init_0 7 rfl rfl)
theorem dX11_init_8 : decode cX11_init 8 = .ok (.iconst 0, 1) := dk_3 (dk_at dksX11_init_0 8 rfl rfl)
theorem dX11_init_9 : decode cX11_init 9 = .ok (.invokespecial 7, 3) := dk_183 0 7 (dk_at dksX11_init_0 9 rfl rfl)
theorem dX11_init_12 : decode cX11_init 12 = .ok (.return_, 1) := dk_177 (dk_at dksX11_init_0 12 rfl rfl)
abbrev cX11_does : ByteArray := prog_8_method_2_code
def yX11_does : MethodName := ⟨RX11, "does", "(I)J"⟩
def dkwX11_does_0 : List UInt8 := [42, 180, 0, 1, 27, 181, 0, 13, 27, 133, 173]
abbrev dktX11_does_0 : List UInt8 := dkwX11_does_0 ++ []
theorem dksX11_does_0 : cX11_does.data.toList.drop 0 = dktX11_does_0 := by decide +kernel
theorem dX11_does_0 : decode cX11_does 0 = .ok (.aload_n 0, 1) := dk_42 (dk_at dksX11_does_0 0 rfl rfl)
theorem dX11_does_1 : decode cX11_does 1 = .ok (.getfield 1, 3) := dk_180 0 1 (dk_at dksX11_does_0 1 rfl rfl)
theorem dX11_does_4 : decode cX11_does 4 = .ok (.iload_n 1, 1) := dk_27 (dk_at dksX11_does_0 4 rfl rfl)
theorem dX11_does_5 : decode cX11_does 5 = .ok (.putfield 13, 3) := dk_181 0 13 (dk_at dksX11_does_0 5 rfl rfl)
theorem dX11_does_8 : decode cX11_does 8 = .ok (.iload_n 1, 1) := dk_27 (dk_at dksX11_does_0 8 rfl rfl)
theorem dX11_does_9 : decode cX11_does 9 = .ok (.i2l, 1) := dk_133 (dk_at dksX11_does_0 9 rfl rfl)
theorem dX11_does_10 : decode cX11_does 10 = .ok (.lreturn, 1) := dk_173 (dk_at dksX11_does_0 10 rfl rfl)
theorem q145 : (Jvm.Cond.initialized "UpAndDown$Keep") ∈ lw_all := lw_g (lw_at lw_m1 24 rfl) rfl
theorem q301 : (Jvm.Cond.fieldLinkNest "UpAndDown$Keep" (13 : Nat) "UpAndDown" "kept" "I" "UpAndDown") ∈ lw_tbl := lw_at lw_m1 180 rfl
theorem q728 : (Jvm.Cond.instantiable "UpAndDown$Keep" (4 : Nat)) ∈ lw_all := lw_g (lw_at lw_m3 127 rfl) rfl
theorem q730 : (Jvm.Cond.instanceMethod ({ cls := "UpAndDown$Keep", name := "<init>", desc := "(LUpAndDown;)V" } : Jvm.MethodName)) ∈ lw_all := lw_g (lw_at lw_m3 129 rfl) rfl
theorem q731 : (Jvm.Cond.code ({ cls := "UpAndDown$Keep", name := "<init>", desc := "(LUpAndDown;)V" } : Jvm.MethodName) prog_8_method_1_code (2 : Nat) (Option.none : Option Jvm.ClassFile.FieldType)) ∈ lw_all := lw_g (lw_at lw_m3 130 rfl) rfl
theorem q732 : (Jvm.Cond.methodLink "UpAndDown$Keep" (7 : Nat) ({ cls := "UpAndDown$Word", name := "<init>", desc := "(LUpAndDown;II)V" } : Jvm.MethodName)) ∈ lw_all := lw_g (lw_at lw_m3 131 rfl) rfl
theorem q733 : (Jvm.Cond.fieldLink "UpAndDown$Keep" (1 : Nat) "UpAndDown$Keep" "this$0" "LUpAndDown;") ∈ lw_all := lw_g (lw_at lw_m3 132 rfl) rfl
theorem q734 : (Jvm.Cond.laysFinal "UpAndDown$Keep" "UpAndDown$Keep" "this$0" "LUpAndDown;") ∈ lw_all := lw_g (lw_at lw_m3 133 rfl) rfl
theorem q735 : (Jvm.Cond.soleField "UpAndDown$Keep" "this$0") ∈ lw_all := lw_g (lw_at lw_m3 134 rfl) rfl
theorem q736 : (Jvm.Cond.laysFinal "UpAndDown$Keep" "UpAndDown$Word" "sort" "I") ∈ lw_all := lw_g (lw_at lw_m3 135 rfl) rfl
theorem q737 : (Jvm.Cond.laysFinal "UpAndDown$Keep" "UpAndDown$Word" "number" "I") ∈ lw_all := lw_g (lw_at lw_m3 136 rfl) rfl
theorem q738 : (Jvm.Cond.laysFinal "UpAndDown$Keep" "UpAndDown$Word" "this$0" "LUpAndDown;") ∈ lw_all := lw_g (lw_at lw_m3 137 rfl) rfl
theorem q739 : (Jvm.Cond.superclass "UpAndDown$Keep" "UpAndDown$Word") ∈ lw_all := lw_g (lw_at lw_m3 138 rfl) rfl
theorem q861 : (Jvm.Cond.selects "UpAndDown$Keep" ({ cls := "java/lang/Object", name := "getClass", desc := "()Ljava/lang/Class;" } : Jvm.MethodName) ({ cls := "java/lang/Object", name := "getClass", desc := "()Ljava/lang/Class;" } : Jvm.MethodName)) ∈ lw_all := lw_g (lw_at lw_m4 20 rfl) rfl
theorem q957 : (Jvm.Cond.selects "UpAndDown$Keep" ({ cls := "UpAndDown$Word", name := "isLike", desc := "(LUpAndDown$Word;)Z" } : Jvm.MethodName) ({ cls := "UpAndDown$Word", name := "isLike", desc := "(LUpAndDown$Word;)Z" } : Jvm.MethodName)) ∈ lw_all := lw_g (lw_at lw_m4 116 rfl) rfl
theorem q1064 : (Jvm.Cond.selects "UpAndDown$Keep" ({ cls := "UpAndDown$Word", name := "does", desc := "(I)J" } : Jvm.MethodName) ({ cls := "UpAndDown$Keep", name := "does", desc := "(I)J" } : Jvm.MethodName)) ∈ lw_all := lw_g (lw_at lw_m4 223 rfl) rfl
theorem q1065 : (Jvm.Cond.instanceMethod ({ cls := "UpAndDown$Keep", name := "does", desc := "(I)J" } : Jvm.MethodName)) ∈ lw_all := lw_g (lw_at lw_m4 224 rfl) rfl
theorem q1066 : (Jvm.Cond.code ({ cls := "UpAndDown$Keep", name := "does", desc := "(I)J" } : Jvm.MethodName) prog_8_method_2_code (2 : Nat) (Option.some Jvm.ClassFile.FieldType.long)) ∈ lw_all := lw_g (lw_at lw_m4 225 rfl) rfl
theorem q2111 : (Jvm.Cond.castable "UpAndDown$Keep" "UpAndDown$Word") ∈ lw_tbl := lw_at lw_m9 70 rfl
theorem q2131 : (Jvm.Cond.castable "UpAndDown$Keep" "java/lang/Object") ∈ lw_tbl := lw_at lw_m9 90 rfl
theorem in_X11 : ∀ w ∈ wsX110, w ∈ lw_all := lw_in wsX110 [736, 737, 738, 734] (by decide +kernel) (by decide +kernel)
/-! UpAndDown$Kept -/
set_option maxRecDepth 100000
def RX12 : String := "UpAndDown$Kept"
def TX12 : u_T := fun k => match k with
  | 0 => ("UpAndDown$Word", "sort", "I", true)
  | 1 => ("UpAndDown$Word", "number", "I", true)
  | 2 => ("UpAndDown$Word", "this$0", "LUpAndDown;", true)
  | _ => ("UpAndDown$Kept", "this$0", "LUpAndDown;", true)
def tyX12 : Nat → FieldType := fun k => match k with
  | 0 => .int
  | 1 => .int
  | 2 => .object "UpAndDown"
  | _ => .object "UpAndDown"
abbrev wsX120 : List Cond := u_ws RX12 TX12 4
-- two fields of one name: no nmX12
theorem tyX12_ok : ∀ k, k < 4 → parseFieldDescriptor (TX12 k).2.2.1 = some (tyX12 k) := by decide +kernel
abbrev cX12_init : ByteArray := prog_9_method_1_code
def yX12_init : MethodName := ⟨RX12, "<init>", "(LUpAndDown;I)V"⟩
def dkwX12_init_0 : List UInt8 := [42, 43, 181, 0, 1, 42, 43, 28, 3, 183, 0, 7, 177]
abbrev dktX12_init_0 : List UInt8 := dkwX12_init_0 ++ []
theorem dksX12_init_0 : cX12_init.data.toList.drop 0 = dktX12_init_0 := by decide +kernel
theorem dX12_init_0 : decode cX12_init 0 = .ok (.aload_n 0, 1) := dk_42 (dk_at dksX12_init_0 0 rfl rfl)
theorem dX12_init_1 : decode cX12_init 1 = .ok (.aload_n 1, 1) := dk_43 (dk_at dksX12_init_0 1 rfl rfl)
theorem dX12_init_2 : decode cX12_init 2 = .ok (.putfield 1, 3) := dk_181 0 1 (dk_at dksX12_init_0 2 rfl rfl)
theorem dX12_init_5 : decode cX12_init 5 = .ok (.aload_n 0, 1) := dk_42 (dk_at dksX12_init_0 5 rfl rfl)
theorem dX12_init_6 : decode cX12_init 6 = .ok (.aload_n 1, 1) := dk_43 (dk_at dksX12_init_0 6 rfl rfl)
theorem dX12_init_7 : decode cX12_init 7 = .ok (.iload_n 2, 1) := dk_28 (dk_at dksX12_init_0 7 rfl rfl)
theorem dX12_init_8 : decode cX12_init 8 = .ok (.iconst 0, 1) := dk_3 (dk_at dksX12_init_0 8 rfl rfl)
theorem dX12_init_9 : decode cX12_init 9 = .ok (.invokespecial 7, 3) := dk_183 0 7 (dk_at dksX12_init_0 9 rfl rfl)
theorem dX12_init_12 : decode cX12_init 12 = .ok (.return_, 1) := dk_177 (dk_at dksX12_init_0 12 rfl rfl)
abbrev cX12_does : ByteArray := prog_9_method_2_code
def yX12_does : MethodName := ⟨RX12, "does", "(I)J"⟩
def dkwX12_does_2 : List UInt8 := [180, 0, 1, 180, 0, 17, 133, 97, 173]
abbrev dktX12_does_2 : List UInt8 := dkwX12_does_2 ++ []
def dkwX12_does_1 : List UInt8 := [160, 0, 19, 27, 42, 180, 0, 1, 180, 0, 17, 100, 184, 0, 22, 133, 167, 0, 14, 27, 133, 42]
abbrev dktX12_does_1 : List UInt8 := dkwX12_does_1 ++ dktX12_does_2
def dkwX12_does_0 : List UInt8 := [42, 180, 0, 13, 7, 160, 0, 14, 42, 180, 0, 1, 180, 0, 17, 133, 167, 0, 38, 42, 180, 0, 13, 8]
abbrev dktX12_does_0 : List UInt8 := dkwX12_does_0 ++ dktX12_does_1
theorem dksX12_does_0 : cX12_does.data.toList.drop 0 = dktX12_does_0 := by decide +kernel
theorem dksX12_does_1 : cX12_does.data.toList.drop 24 = dktX12_does_1 := dk_seg dksX12_does_0 24 rfl rfl
theorem dksX12_does_2 : cX12_does.data.toList.drop 46 = dktX12_does_2 := dk_seg dksX12_does_1 22 rfl rfl
theorem dX12_does_0 : decode cX12_does 0 = .ok (.aload_n 0, 1) := dk_42 (dk_at dksX12_does_0 0 rfl rfl)
theorem dX12_does_1 : decode cX12_does 1 = .ok (.getfield 13, 3) := dk_180 0 13 (dk_at dksX12_does_0 1 rfl rfl)
theorem dX12_does_4 : decode cX12_does 4 = .ok (.iconst 4, 1) := dk_7 (dk_at dksX12_does_0 4 rfl rfl)
theorem dX12_does_5 : decode cX12_does 5 = .ok (.if_icmp .ne 14, 3) := dk_160 0 14 (dk_at dksX12_does_0 5 rfl rfl)
theorem dX12_does_8 : decode cX12_does 8 = .ok (.aload_n 0, 1) := dk_42 (dk_at dksX12_does_0 8 rfl rfl)
theorem dX12_does_9 : decode cX12_does 9 = .ok (.getfield 1, 3) := dk_180 0 1 (dk_at dksX12_does_0 9 rfl rfl)
theorem dX12_does_12 : decode cX12_does 12 = .ok (.getfield 17, 3) := dk_180 0 17 (dk_at dksX12_does_0 12 rfl rfl)
theorem dX12_does_15 : decode cX12_does 15 = .ok (.i2l, 1) := dk_133 (dk_at dksX12_does_0 15 rfl rfl)
theorem dX12_does_16 : decode cX12_does 16 = .ok (.goto 38, 3) := dk_167 0 38 (dk_at dksX12_does_0 16 rfl rfl)
theorem dX12_does_19 : decode cX12_does 19 = .ok (.aload_n 0, 1) := dk_42 (dk_at dksX12_does_0 19 rfl rfl)
theorem dX12_does_20 : decode cX12_does 20 = .ok (.getfield 13, 3) := dk_180 0 13 (dk_at dksX12_does_0 20 rfl rfl)
theorem dX12_does_23 : decode cX12_does 23 = .ok (.iconst 5, 1) := dk_8 (dk_at dksX12_does_0 23 rfl rfl)
theorem dX12_does_24 : decode cX12_does 24 = .ok (.if_icmp .ne 19, 3) := dk_160 0 19 (dk_at dksX12_does_1 0 rfl rfl)
theorem dX12_does_27 : decode cX12_does 27 = .ok (.iload_n 1, 1) := dk_27 (dk_at dksX12_does_1 3 rfl rfl)
theorem dX12_does_28 : decode cX12_does 28 = .ok (.aload_n 0, 1) := dk_42 (dk_at dksX12_does_1 4 rfl rfl)
theorem dX12_does_29 : decode cX12_does 29 = .ok (.getfield 1, 3) := dk_180 0 1 (dk_at dksX12_does_1 5 rfl rfl)
theorem dX12_does_32 : decode cX12_does 32 = .ok (.getfield 17, 3) := dk_180 0 17 (dk_at dksX12_does_1 8 rfl rfl)
theorem dX12_does_35 : decode cX12_does 35 = .ok (.isub, 1) := dk_100 (dk_at dksX12_does_1 11 rfl rfl)
theorem dX12_does_36 : decode cX12_does 36 = .ok (.invokestatic 22, 3) := dk_184 0 22 (dk_at dksX12_does_1 12 rfl rfl)
theorem dX12_does_39 : decode cX12_does 39 = .ok (.i2l, 1) := dk_133 (dk_at dksX12_does_1 15 rfl rfl)
theorem dX12_does_40 : decode cX12_does 40 = .ok (.goto 14, 3) := dk_167 0 14 (dk_at dksX12_does_1 16 rfl rfl)
theorem dX12_does_43 : decode cX12_does 43 = .ok (.iload_n 1, 1) := dk_27 (dk_at dksX12_does_1 19 rfl rfl)
theorem dX12_does_44 : decode cX12_does 44 = .ok (.i2l, 1) := dk_133 (dk_at dksX12_does_1 20 rfl rfl)
theorem dX12_does_45 : decode cX12_does 45 = .ok (.aload_n 0, 1) := dk_42 (dk_at dksX12_does_1 21 rfl rfl)
theorem dX12_does_46 : decode cX12_does 46 = .ok (.getfield 1, 3) := dk_180 0 1 (dk_at dksX12_does_2 0 rfl rfl)
theorem dX12_does_49 : decode cX12_does 49 = .ok (.getfield 17, 3) := dk_180 0 17 (dk_at dksX12_does_2 3 rfl rfl)
theorem dX12_does_52 : decode cX12_does 52 = .ok (.i2l, 1) := dk_133 (dk_at dksX12_does_2 6 rfl rfl)
theorem dX12_does_53 : decode cX12_does 53 = .ok (.ladd, 1) := dk_97 (dk_at dksX12_does_2 7 rfl rfl)
theorem dX12_does_54 : decode cX12_does 54 = .ok (.lreturn, 1) := dk_173 (dk_at dksX12_does_2 8 rfl rfl)
theorem q146 : (Jvm.Cond.initialized "UpAndDown$Kept") ∈ lw_all := lw_g (lw_at lw_m1 25 rfl) rfl
theorem q302 : (Jvm.Cond.fieldLinkNest "UpAndDown$Kept" (17 : Nat) "UpAndDown" "kept" "I" "UpAndDown") ∈ lw_tbl := lw_at lw_m1 181 rfl
theorem q673 : (Jvm.Cond.fieldLink "UpAndDown$Kept" (13 : Nat) "UpAndDown$Kept" "sort" "I") ∈ lw_all := lw_g (lw_at lw_m3 72 rfl) rfl
theorem q674 : (Jvm.Cond.sameField "UpAndDown$Kept" "UpAndDown$Word" "sort" "I") ∈ lw_all := lw_g (lw_at lw_m3 73 rfl) rfl
theorem q741 : (Jvm.Cond.instantiable "UpAndDown$Kept" (4 : Nat)) ∈ lw_all := lw_g (lw_at lw_m3 140 rfl) rfl
theorem q743 : (Jvm.Cond.instanceMethod ({ cls := "UpAndDown$Kept", name := "<init>", desc := "(LUpAndDown;I)V" } : Jvm.MethodName)) ∈ lw_all := lw_g (lw_at lw_m3 142 rfl) rfl
theorem q744 : (Jvm.Cond.code ({ cls := "UpAndDown$Kept", name := "<init>", desc := "(LUpAndDown;I)V" } : Jvm.MethodName) prog_9_method_1_code (3 : Nat) (Option.none : Option Jvm.ClassFile.FieldType)) ∈ lw_all := lw_g (lw_at lw_m3 143 rfl) rfl
theorem q745 : (Jvm.Cond.methodLink "UpAndDown$Kept" (7 : Nat) ({ cls := "UpAndDown$Word", name := "<init>", desc := "(LUpAndDown;II)V" } : Jvm.MethodName)) ∈ lw_all := lw_g (lw_at lw_m3 144 rfl) rfl
theorem q746 : (Jvm.Cond.fieldLink "UpAndDown$Kept" (1 : Nat) "UpAndDown$Kept" "this$0" "LUpAndDown;") ∈ lw_all := lw_g (lw_at lw_m3 145 rfl) rfl
theorem q747 : (Jvm.Cond.laysFinal "UpAndDown$Kept" "UpAndDown$Kept" "this$0" "LUpAndDown;") ∈ lw_all := lw_g (lw_at lw_m3 146 rfl) rfl
theorem q748 : (Jvm.Cond.soleField "UpAndDown$Kept" "this$0") ∈ lw_all := lw_g (lw_at lw_m3 147 rfl) rfl
theorem q749 : (Jvm.Cond.laysFinal "UpAndDown$Kept" "UpAndDown$Word" "sort" "I") ∈ lw_all := lw_g (lw_at lw_m3 148 rfl) rfl
theorem q750 : (Jvm.Cond.laysFinal "UpAndDown$Kept" "UpAndDown$Word" "number" "I") ∈ lw_all := lw_g (lw_at lw_m3 149 rfl) rfl
theorem q751 : (Jvm.Cond.laysFinal "UpAndDown$Kept" "UpAndDown$Word" "this$0" "LUpAndDown;") ∈ lw_all := lw_g (lw_at lw_m3 150 rfl) rfl
theorem q752 : (Jvm.Cond.superclass "UpAndDown$Kept" "UpAndDown$Word") ∈ lw_all := lw_g (lw_at lw_m3 151 rfl) rfl
theorem q862 : (Jvm.Cond.selects "UpAndDown$Kept" ({ cls := "java/lang/Object", name := "getClass", desc := "()Ljava/lang/Class;" } : Jvm.MethodName) ({ cls := "java/lang/Object", name := "getClass", desc := "()Ljava/lang/Class;" } : Jvm.MethodName)) ∈ lw_all := lw_g (lw_at lw_m4 21 rfl) rfl
theorem q958 : (Jvm.Cond.selects "UpAndDown$Kept" ({ cls := "UpAndDown$Word", name := "isLike", desc := "(LUpAndDown$Word;)Z" } : Jvm.MethodName) ({ cls := "UpAndDown$Word", name := "isLike", desc := "(LUpAndDown$Word;)Z" } : Jvm.MethodName)) ∈ lw_all := lw_g (lw_at lw_m4 117 rfl) rfl
theorem q1067 : (Jvm.Cond.selects "UpAndDown$Kept" ({ cls := "UpAndDown$Word", name := "does", desc := "(I)J" } : Jvm.MethodName) ({ cls := "UpAndDown$Kept", name := "does", desc := "(I)J" } : Jvm.MethodName)) ∈ lw_all := lw_g (lw_at lw_m4 226 rfl) rfl
theorem q1068 : (Jvm.Cond.instanceMethod ({ cls := "UpAndDown$Kept", name := "does", desc := "(I)J" } : Jvm.MethodName)) ∈ lw_all := lw_g (lw_at lw_m4 227 rfl) rfl
theorem q1069 : (Jvm.Cond.code ({ cls := "UpAndDown$Kept", name := "does", desc := "(I)J" } : Jvm.MethodName) prog_9_method_2_code (2 : Nat) (Option.some Jvm.ClassFile.FieldType.long)) ∈ lw_all := lw_g (lw_at lw_m4 228 rfl) rfl
theorem q1070 : (Jvm.Cond.methodLink "UpAndDown$Kept" (22 : Nat) ({ cls := "java/lang/Math", name := "abs", desc := "(I)I" } : Jvm.MethodName)) ∈ lw_all := lw_g (lw_at lw_m4 229 rfl) rfl
theorem q2112 : (Jvm.Cond.castable "UpAndDown$Kept" "UpAndDown$Word") ∈ lw_tbl := lw_at lw_m9 71 rfl
theorem q2132 : (Jvm.Cond.castable "UpAndDown$Kept" "java/lang/Object") ∈ lw_tbl := lw_at lw_m9 91 rfl
theorem in_X12 : ∀ w ∈ wsX120, w ∈ lw_all := lw_in wsX120 [749, 750, 751, 747] (by decide +kernel) (by decide +kernel)
/-! UpAndDown$Powers -/
set_option maxRecDepth 100000
def RX13 : String := "UpAndDown$Powers"
def TX13 : u_T := fun k => match k with
  | 0 => ("UpAndDown$ByFigures", "this$0", "LUpAndDown;", true)
  | 1 => ("UpAndDown$Word", "sort", "I", true)
  | 2 => ("UpAndDown$Word", "number", "I", true)
  | 3 => ("UpAndDown$Word", "this$0", "LUpAndDown;", true)
  | _ => ("UpAndDown$Powers", "this$0", "LUpAndDown;", true)
def tyX13 : Nat → FieldType := fun k => match k with
  | 0 => .object "UpAndDown"
  | 1 => .int
  | 2 => .int
  | 3 => .object "UpAndDown"
  | _ => .object "UpAndDown"
abbrev wsX130 : List Cond := u_ws RX13 TX13 5
-- two fields of one name: no nmX13
theorem tyX13_ok : ∀ k, k < 5 → parseFieldDescriptor (TX13 k).2.2.1 = some (tyX13 k) := by decide +kernel
abbrev cX13_init : ByteArray := prog_11_method_1_code
def yX13_init : MethodName := ⟨RX13, "<init>", "(LUpAndDown;I)V"⟩
def dkwX13_init_0 : List UInt8 := [42, 43, 181, 0, 1, 42, 43, 28, 3, 183, 0, 7, 177]
abbrev dktX13_init_0 : List UInt8 := dkwX13_init_0 ++ []
theorem dksX13_init_0 : cX13_init.data.toList.drop 0 = dktX13_init_0 := by decide +kernel
theorem dX13_init_0 : decode cX13_init 0 = .ok (.aload_n 0, 1) := dk_42 (dk_at dksX13_init_0 0 rfl rfl)
theorem dX13_init_1 : decode cX13_init 1 = .ok (.aload_n 1, 1) := dk_43 (dk_at dksX13_init_0 1 rfl rfl)
theorem dX13_init_2 : decode cX13_init 2 = .ok (.putfield 1, 3) := dk_181 0 1 (dk_at dksX13_init_0 2 rfl rfl)
theorem dX13_init_5 : decode cX13_init 5 = .ok (.aload_n 0, 1) := dk_42 (dk_at dksX13_init_0 5 rfl rfl)
theorem dX13_init_6 : decode cX13_init 6 = .ok (.aload_n 1, 1) := dk_43 (dk_at dksX13_init_0 6 rfl rfl)
theorem dX13_init_7 : decode cX13_init 7 = .ok (.iload_n 2, 1) := dk_28 (dk_at dksX13_init_0 7 rfl rfl)
theorem dX13_init_8 : decode cX13_init 8 = .ok (.iconst 0, 1) := dk_3 (dk_at dksX13_init_0 8 rfl rfl)
theorem dX13_init_9 : decode cX13_init 9 = .ok (.invokespecial 7, 3) := dk_183 0 7 (dk_at dksX13_init_0 9 rfl rfl)
theorem dX13_init_12 : decode cX13_init 12 = .ok (.return_, 1) := dk_177 (dk_at dksX13_init_0 12 rfl rfl)
abbrev cX13_ofRow : ByteArray := prog_11_method_2_code
def yX13_ofRow : MethodName := ⟨RX13, "ofRow", "()J"⟩
def dkwX13_ofRow_1 : List UInt8 := [180, 0, 25, 29, 46, 133, 182, 0, 29, 97, 64, 132, 3, 1, 167, 255, 222, 31, 173]
abbrev dktX13_ofRow_1 : List UInt8 := dkwX13_ofRow_1 ++ []
def dkwX13_ofRow_0 : List UInt8 := [9, 64, 3, 62, 29, 42, 180, 0, 1, 180, 0, 13, 180, 0, 19, 162, 0, 26, 31, 42, 42, 180, 0, 1]
abbrev dktX13_ofRow_0 : List UInt8 := dkwX13_ofRow_0 ++ dktX13_ofRow_1
theorem dksX13_ofRow_0 : cX13_ofRow.data.toList.drop 0 = dktX13_ofRow_0 := by decide +kernel
theorem dksX13_ofRow_1 : cX13_ofRow.data.toList.drop 24 = dktX13_ofRow_1 := dk_seg dksX13_ofRow_0 24 rfl rfl
theorem dX13_ofRow_0 : decode cX13_ofRow 0 = .ok (.lconst 0, 1) := dk_9 (dk_at dksX13_ofRow_0 0 rfl rfl)
theorem dX13_ofRow_1 : decode cX13_ofRow 1 = .ok (.lstore_n 1, 1) := dk_64 (dk_at dksX13_ofRow_0 1 rfl rfl)
theorem dX13_ofRow_2 : decode cX13_ofRow 2 = .ok (.iconst 0, 1) := dk_3 (dk_at dksX13_ofRow_0 2 rfl rfl)
theorem dX13_ofRow_3 : decode cX13_ofRow 3 = .ok (.istore_n 3, 1) := dk_62 (dk_at dksX13_ofRow_0 3 rfl rfl)
theorem dX13_ofRow_4 : decode cX13_ofRow 4 = .ok (.iload_n 3, 1) := dk_29 (dk_at dksX13_ofRow_0 4 rfl rfl)
theorem dX13_ofRow_5 : decode cX13_ofRow 5 = .ok (.aload_n 0, 1) := dk_42 (dk_at dksX13_ofRow_0 5 rfl rfl)
theorem dX13_ofRow_6 : decode cX13_ofRow 6 = .ok (.getfield 1, 3) := dk_180 0 1 (dk_at dksX13_ofRow_0 6 rfl rfl)
theorem dX13_ofRow_9 : decode cX13_ofRow 9 = .ok (.getfield 13, 3) := dk_180 0 13 (dk_at dksX13_ofRow_0 9 rfl rfl)
theorem dX13_ofRow_12 : decode cX13_ofRow 12 = .ok (.getfield 19, 3) := dk_180 0 19 (dk_at dksX13_ofRow_0 12 rfl rfl)
theorem dX13_ofRow_15 : decode cX13_ofRow 15 = .ok (.if_icmp .ge 26, 3) := dk_162 0 26 (dk_at dksX13_ofRow_0 15 rfl rfl)
theorem dX13_ofRow_18 : decode cX13_ofRow 18 = .ok (.lload_n 1, 1) := dk_31 (dk_at dksX13_ofRow_0 18 rfl rfl)
theorem dX13_ofRow_19 : decode cX13_ofRow 19 = .ok (.aload_n 0, 1) := dk_42 (dk_at dksX13_ofRow_0 19 rfl rfl)
theorem dX13_ofRow_20 : decode cX13_ofRow 20 = .ok (.aload_n 0, 1) := dk_42 (dk_at dksX13_ofRow_0 20 rfl rfl)
theorem dX13_ofRow_21 : decode cX13_ofRow 21 = .ok (.getfield 1, 3) := dk_180 0 1 (dk_at dksX13_ofRow_0 21 rfl rfl)
theorem dX13_ofRow_24 : decode cX13_ofRow 24 = .ok (.getfield 25, 3) := dk_180 0 25 (dk_at dksX13_ofRow_1 0 rfl rfl)
theorem dX13_ofRow_27 : decode cX13_ofRow 27 = .ok (.iload_n 3, 1) := dk_29 (dk_at dksX13_ofRow_1 3 rfl rfl)
theorem dX13_ofRow_28 : decode cX13_ofRow 28 = .ok (.iaload, 1) := dk_46 (dk_at dksX13_ofRow_1 4 rfl rfl)
theorem dX13_ofRow_29 : decode cX13_ofRow 29 = .ok (.i2l, 1) := dk_133 (dk_at dksX13_ofRow_1 5 rfl rfl)
theorem dX13_ofRow_30 : decode cX13_ofRow 30 = .ok (.invokevirtual 29, 3) := dk_182 0 29 (dk_at dksX13_ofRow_1 6 rfl rfl)
theorem dX13_ofRow_33 : decode cX13_ofRow 33 = .ok (.ladd, 1) := dk_97 (dk_at dksX13_ofRow_1 9 rfl rfl)
theorem dX13_ofRow_34 : decode cX13_ofRow 34 = .ok (.lstore_n 1, 1) := dk_64 (dk_at dksX13_ofRow_1 10 rfl rfl)
theorem dX13_ofRow_35 : decode cX13_ofRow 35 = .ok (.iinc 3 1, 3) := dk_132 3 1 (dk_at dksX13_ofRow_1 11 rfl rfl)
theorem dX13_ofRow_38 : decode cX13_ofRow 38 = .ok (.goto (-34), 3) := dk_167 255 222 (dk_at dksX13_ofRow_1 14 rfl rfl)
theorem dX13_ofRow_41 : decode cX13_ofRow 41 = .ok (.lload_n 1, 1) := dk_31 (dk_at dksX13_ofRow_1 17 rfl rfl)
theorem dX13_ofRow_42 : decode cX13_ofRow 42 = .ok (.lreturn, 1) := dk_173 (dk_at dksX13_ofRow_1 18 rfl rfl)
abbrev cX13_power : ByteArray := prog_11_method_3_code
def yX13_power : MethodName := ⟨RX13, "power", "(J)J"⟩
def dkwX13_power_1 : List UInt8 := [31, 31, 105, 31, 105, 167, 0, 4, 31, 173]
abbrev dktX13_power_1 : List UInt8 := dkwX13_power_1 ++ []
def dkwX13_power_0 : List UInt8 := [42, 180, 0, 33, 16, 7, 160, 0, 9, 31, 31, 105, 167, 0, 21, 42, 180, 0, 33, 16, 8, 160, 0, 11]
abbrev dktX13_power_0 : List UInt8 := dkwX13_power_0 ++ dktX13_power_1
theorem dksX13_power_0 : cX13_power.data.toList.drop 0 = dktX13_power_0 := by decide +kernel
theorem dksX13_power_1 : cX13_power.data.toList.drop 24 = dktX13_power_1 := dk_seg dksX13_power_0 24 rfl rfl
theorem dX13_power_0 : decode cX13_power 0 = .ok (.aload_n 0, 1) := dk_42 (dk_at dksX13_power_0 0 rfl rfl)
theorem dX13_power_1 : decode cX13_power 1 = .ok (.getfield 33, 3) := dk_180 0 33 (dk_at dksX13_power_0 1 rfl rfl)
theorem dX13_power_4 : decode cX13_power 4 = .ok (.bipush 7, 2) := dk_16 7 (dk_at dksX13_power_0 4 rfl rfl)
theorem dX13_power_6 : decode cX13_power 6 = .ok (.if_icmp .ne 9, 3) := dk_160 0 9 (dk_at dksX13_power_0 6 rfl rfl)
theorem dX13_power_9 : decode cX13_power 9 = .ok (.lload_n 1, 1) := dk_31 (dk_at dksX13_power_0 9 rfl rfl)
theorem dX13_power_10 : decode cX13_power 10 = .ok (.lload_n 1, 1) := dk_31 (dk_at dksX13_power_0 10 rfl rfl)
theorem dX13_power_11 : decode cX13_power 11 = .ok (.lmul, 1) := dk_105 (dk_at dksX13_power_0 11 rfl rfl)
theorem dX13_power_12 : decode cX13_power 12 = .ok (.goto 21, 3) := dk_167 0 21 (dk_at dksX13_power_0 12 rfl rfl)
theorem dX13_power_15 : decode cX13_power 15 = .ok (.aload_n 0, 1) := dk_42 (dk_at dksX13_power_0 15 rfl rfl)
theorem dX13_power_16 : decode cX13_power 16 = .ok (.getfield 33, 3) := dk_180 0 33 (dk_at dksX13_power_0 16 rfl rfl)
theorem dX13_power_19 : decode cX13_power 19 = .ok (.bipush 8, 2) := dk_16 8 (dk_at dksX13_power_0 19 rfl rfl)
theorem dX13_power_21 : decode cX13_power 21 = .ok (.if_icmp .ne 11, 3) := dk_160 0 11 (dk_at dksX13_power_0 21 rfl rfl)
theorem dX13_power_24 : decode cX13_power 24 = .ok (.lload_n 1, 1) := dk_31 (dk_at dksX13_power_1 0 rfl rfl)
theorem dX13_power_25 : decode cX13_power 25 = .ok (.lload_n 1, 1) := dk_31 (dk_at dksX13_power_1 1 rfl rfl)
theorem dX13_power_26 : decode cX13_power 26 = .ok (.lmul, 1) := dk_105 (dk_at dksX13_power_1 2 rfl rfl)
theorem dX13_power_27 : decode cX13_power 27 = .ok (.lload_n 1, 1) := dk_31 (dk_at dksX13_power_1 3 rfl rfl)
theorem dX13_power_28 : decode cX13_power 28 = .ok (.lmul, 1) := dk_105 (dk_at dksX13_power_1 4 rfl rfl)
theorem dX13_power_29 : decode cX13_power 29 = .ok (.goto 4, 3) := dk_167 0 4 (dk_at dksX13_power_1 5 rfl rfl)
theorem dX13_power_32 : decode cX13_power 32 = .ok (.lload_n 1, 1) := dk_31 (dk_at dksX13_power_1 8 rfl rfl)
theorem dX13_power_33 : decode cX13_power 33 = .ok (.lreturn, 1) := dk_173 (dk_at dksX13_power_1 9 rfl rfl)
theorem q147 : (Jvm.Cond.initialized "UpAndDown$Powers") ∈ lw_all := lw_g (lw_at lw_m1 26 rfl) rfl
theorem q215 : (Jvm.Cond.fieldLinkNest "UpAndDown$Powers" (19 : Nat) "UpAndDown$Table" "length" "I" "UpAndDown") ∈ lw_tbl := lw_at lw_m1 94 rfl
theorem q298 : (Jvm.Cond.fieldLinkNest "UpAndDown$Powers" (25 : Nat) "UpAndDown" "figures" "[I" "UpAndDown") ∈ lw_tbl := lw_at lw_m1 177 rfl
theorem q305 : (Jvm.Cond.fieldLinkNest "UpAndDown$Powers" (13 : Nat) "UpAndDown" "table" "LUpAndDown$Table;" "UpAndDown") ∈ lw_tbl := lw_at lw_m1 184 rfl
theorem q677 : (Jvm.Cond.fieldLink "UpAndDown$Powers" (33 : Nat) "UpAndDown$Powers" "sort" "I") ∈ lw_all := lw_g (lw_at lw_m3 76 rfl) rfl
theorem q678 : (Jvm.Cond.sameField "UpAndDown$Powers" "UpAndDown$Word" "sort" "I") ∈ lw_all := lw_g (lw_at lw_m3 77 rfl) rfl
theorem q754 : (Jvm.Cond.instantiable "UpAndDown$Powers" (5 : Nat)) ∈ lw_all := lw_g (lw_at lw_m3 153 rfl) rfl
theorem q756 : (Jvm.Cond.instanceMethod ({ cls := "UpAndDown$Powers", name := "<init>", desc := "(LUpAndDown;I)V" } : Jvm.MethodName)) ∈ lw_all := lw_g (lw_at lw_m3 155 rfl) rfl
theorem q757 : (Jvm.Cond.code ({ cls := "UpAndDown$Powers", name := "<init>", desc := "(LUpAndDown;I)V" } : Jvm.MethodName) prog_11_method_1_code (3 : Nat) (Option.none : Option Jvm.ClassFile.FieldType)) ∈ lw_all := lw_g (lw_at lw_m3 156 rfl) rfl
theorem q758 : (Jvm.Cond.methodLink "UpAndDown$Powers" (7 : Nat) ({ cls := "UpAndDown$ByFigures", name := "<init>", desc := "(LUpAndDown;II)V" } : Jvm.MethodName)) ∈ lw_all := lw_g (lw_at lw_m3 157 rfl) rfl
theorem q759 : (Jvm.Cond.fieldLink "UpAndDown$Powers" (1 : Nat) "UpAndDown$Powers" "this$0" "LUpAndDown;") ∈ lw_all := lw_g (lw_at lw_m3 158 rfl) rfl
theorem q760 : (Jvm.Cond.laysFinal "UpAndDown$Powers" "UpAndDown$Powers" "this$0" "LUpAndDown;") ∈ lw_all := lw_g (lw_at lw_m3 159 rfl) rfl
theorem q761 : (Jvm.Cond.soleField "UpAndDown$Powers" "this$0") ∈ lw_all := lw_g (lw_at lw_m3 160 rfl) rfl
theorem q762 : (Jvm.Cond.laysFinal "UpAndDown$Powers" "UpAndDown$ByFigures" "this$0" "LUpAndDown;") ∈ lw_all := lw_g (lw_at lw_m3 161 rfl) rfl
theorem q763 : (Jvm.Cond.laysFinal "UpAndDown$Powers" "UpAndDown$Word" "sort" "I") ∈ lw_all := lw_g (lw_at lw_m3 162 rfl) rfl
theorem q764 : (Jvm.Cond.laysFinal "UpAndDown$Powers" "UpAndDown$Word" "number" "I") ∈ lw_all := lw_g (lw_at lw_m3 163 rfl) rfl
theorem q765 : (Jvm.Cond.laysFinal "UpAndDown$Powers" "UpAndDown$Word" "this$0" "LUpAndDown;") ∈ lw_all := lw_g (lw_at lw_m3 164 rfl) rfl
theorem q766 : (Jvm.Cond.superclass "UpAndDown$Powers" "UpAndDown$ByFigures") ∈ lw_all := lw_g (lw_at lw_m3 165 rfl) rfl
theorem q864 : (Jvm.Cond.selects "UpAndDown$Powers" ({ cls := "java/lang/Object", name := "getClass", desc := "()Ljava/lang/Class;" } : Jvm.MethodName) ({ cls := "java/lang/Object", name := "getClass", desc := "()Ljava/lang/Class;" } : Jvm.MethodName)) ∈ lw_all := lw_g (lw_at lw_m4 23 rfl) rfl
theorem q960 : (Jvm.Cond.selects "UpAndDown$Powers" ({ cls := "UpAndDown$Word", name := "isLike", desc := "(LUpAndDown$Word;)Z" } : Jvm.MethodName) ({ cls := "UpAndDown$Word", name := "isLike", desc := "(LUpAndDown$Word;)Z" } : Jvm.MethodName)) ∈ lw_all := lw_g (lw_at lw_m4 119 rfl) rfl
theorem q1038 : (Jvm.Cond.selects "UpAndDown$Powers" ({ cls := "UpAndDown$ByFigures", name := "ofRow", desc := "()J" } : Jvm.MethodName) ({ cls := "UpAndDown$Powers", name := "ofRow", desc := "()J" } : Jvm.MethodName)) ∈ lw_all := lw_g (lw_at lw_m4 197 rfl) rfl
theorem q1039 : (Jvm.Cond.instanceMethod ({ cls := "UpAndDown$Powers", name := "ofRow", desc := "()J" } : Jvm.MethodName)) ∈ lw_all := lw_g (lw_at lw_m4 198 rfl) rfl
theorem q1040 : (Jvm.Cond.code ({ cls := "UpAndDown$Powers", name := "ofRow", desc := "()J" } : Jvm.MethodName) prog_11_method_2_code (4 : Nat) (Option.some Jvm.ClassFile.FieldType.long)) ∈ lw_all := lw_g (lw_at lw_m4 199 rfl) rfl
theorem q1041 : (Jvm.Cond.methodLink "UpAndDown$Powers" (29 : Nat) ({ cls := "UpAndDown$Powers", name := "power", desc := "(J)J" } : Jvm.MethodName)) ∈ lw_all := lw_g (lw_at lw_m4 200 rfl) rfl
theorem q1042 : (Jvm.Cond.privateMethod ({ cls := "UpAndDown$Powers", name := "power", desc := "(J)J" } : Jvm.MethodName)) ∈ lw_tbl := lw_at lw_m4 201 rfl
theorem q1043 : (Jvm.Cond.instanceMethod ({ cls := "UpAndDown$Powers", name := "power", desc := "(J)J" } : Jvm.MethodName)) ∈ lw_all := lw_g (lw_at lw_m4 202 rfl) rfl
theorem q1044 : (Jvm.Cond.code ({ cls := "UpAndDown$Powers", name := "power", desc := "(J)J" } : Jvm.MethodName) prog_11_method_3_code (3 : Nat) (Option.some Jvm.ClassFile.FieldType.long)) ∈ lw_all := lw_g (lw_at lw_m4 203 rfl) rfl
theorem q1074 : (Jvm.Cond.selects "UpAndDown$Powers" ({ cls := "UpAndDown$Word", name := "does", desc := "(I)J" } : Jvm.MethodName) ({ cls := "UpAndDown$ByFigures", name := "does", desc := "(I)J" } : Jvm.MethodName)) ∈ lw_all := lw_g (lw_at lw_m4 233 rfl) rfl
theorem q2114 : (Jvm.Cond.castable "UpAndDown$Powers" "UpAndDown$Word") ∈ lw_tbl := lw_at lw_m9 73 rfl
theorem q2133 : (Jvm.Cond.castable "UpAndDown$Powers" "java/lang/Object") ∈ lw_tbl := lw_at lw_m9 92 rfl
theorem in_X13 : ∀ w ∈ wsX130, w ∈ lw_all := lw_in wsX130 [762, 763, 764, 765, 760] (by decide +kernel) (by decide +kernel)
/-! UpAndDown$Half -/
set_option maxRecDepth 100000
def RX14 : String := "UpAndDown$Half"
def TX14 : u_T := fun k => match k with
  | 0 => ("UpAndDown$Word", "sort", "I", true)
  | 1 => ("UpAndDown$Word", "number", "I", true)
  | 2 => ("UpAndDown$Word", "this$0", "LUpAndDown;", true)
  | _ => ("UpAndDown$Half", "this$0", "LUpAndDown;", true)
def tyX14 : Nat → FieldType := fun k => match k with
  | 0 => .int
  | 1 => .int
  | 2 => .object "UpAndDown"
  | _ => .object "UpAndDown"
abbrev wsX140 : List Cond := u_ws RX14 TX14 4
-- two fields of one name: no nmX14
theorem tyX14_ok : ∀ k, k < 4 → parseFieldDescriptor (TX14 k).2.2.1 = some (tyX14 k) := by decide +kernel
abbrev cX14_init : ByteArray := prog_7_method_1_code
def yX14_init : MethodName := ⟨RX14, "<init>", "(LUpAndDown;)V"⟩
def dkwX14_init_0 : List UInt8 := [42, 43, 181, 0, 1, 42, 43, 16, 10, 3, 183, 0, 7, 177]
abbrev dktX14_init_0 : List UInt8 := dkwX14_init_0 ++ []
theorem dksX14_init_0 : cX14_init.data.toList.drop 0 = dktX14_init_0 := by decide +kernel
theorem dX14_init_0 : decode cX14_init 0 = .ok (.aload_n 0, 1) := dk_42 (dk_at dksX14_init_0 0 rfl rfl)
theorem dX14_init_1 : decode cX14_init 1 = .ok (.aload_n 1, 1) := dk_43 (dk_at dksX14_init_0 1 rfl rfl)
theorem dX14_init_2 : decode cX14_init 2 = .ok (.putfield 1, 3) := dk_181 0 1 (dk_at dksX14_init_0 2 rfl rfl)
theorem dX14_init_5 : decode cX14_init 5 = .ok (.aload_n 0, 1) := dk_42 (dk_at dksX14_init_0 5 rfl rfl)
theorem dX14_init_6 : decode cX14_init 6 = .ok (.aload_n 1, 1) := dk_43 (dk_at dksX14_init_0 6 rfl rfl)
theorem dX14_init_7 : decode cX14_init 7 = .ok (.bipush 10, 2) := dk_16 10 (dk_at dksX14_init_0 7 rfl rfl)
theorem dX14_init_9 : decode cX14_init 9 = .ok (.iconst 0, 1) := dk_3 (dk_at dksX14_init_0 9 rfl rfl)
theorem dX14_init_10 : decode cX14_init 10 = .ok (.invokespecial 7, 3) := dk_183 0 7 (dk_at dksX14_init_0 10 rfl rfl)
theorem dX14_init_13 : decode cX14_init 13 = .ok (.return_, 1) := dk_177 (dk_at dksX14_init_0 13 rfl rfl)
abbrev cX14_does : ByteArray := prog_7_method_2_code
def yX14_does : MethodName := ⟨RX14, "does", "(I)J"⟩
def dkwX14_does_0 : List UInt8 := [27, 4, 126, 154, 0, 10, 27, 5, 108, 133, 167, 0, 5, 27, 133, 173]
abbrev dktX14_does_0 : List UInt8 := dkwX14_does_0 ++ []
theorem dksX14_does_0 : cX14_does.data.toList.drop 0 = dktX14_does_0 := by decide +kernel
theorem dX14_does_0 : decode cX14_does 0 = .ok (.iload_n 1, 1) := dk_27 (dk_at dksX14_does_0 0 rfl rfl)
theorem dX14_does_1 : decode cX14_does 1 = .ok (.iconst 1, 1) := dk_4 (dk_at dksX14_does_0 1 rfl rfl)
theorem dX14_does_2 : decode cX14_does 2 = .ok (.iand, 1) := dk_126 (dk_at dksX14_does_0 2 rfl rfl)
theorem dX14_does_3 : decode cX14_does 3 = .ok (.ifCond .ne 10, 3) := dk_154 0 10 (dk_at dksX14_does_0 3 rfl rfl)
theorem dX14_does_6 : decode cX14_does 6 = .ok (.iload_n 1, 1) := dk_27 (dk_at dksX14_does_0 6 rfl rfl)
theorem dX14_does_7 : decode cX14_does 7 = .ok (.iconst 2, 1) := dk_5 (dk_at dksX14_does_0 7 rfl rfl)
theorem dX14_does_8 : decode cX14_does 8 = .ok (.idiv, 1) := dk_108 (dk_at dksX14_does_0 8 rfl rfl)
theorem dX14_does_9 : decode cX14_does 9 = .ok (.i2l, 1) := dk_133 (dk_at dksX14_does_0 9 rfl rfl)
theorem dX14_does_10 : decode cX14_does 10 = .ok (.goto 5, 3) := dk_167 0 5 (dk_at dksX14_does_0 10 rfl rfl)
theorem dX14_does_13 : decode cX14_does 13 = .ok (.iload_n 1, 1) := dk_27 (dk_at dksX14_does_0 13 rfl rfl)
theorem dX14_does_14 : decode cX14_does 14 = .ok (.i2l, 1) := dk_133 (dk_at dksX14_does_0 14 rfl rfl)
theorem dX14_does_15 : decode cX14_does 15 = .ok (.lreturn, 1) := dk_173 (dk_at dksX14_does_0 15 rfl rfl)
theorem q148 : (Jvm.Cond.initialized "UpAndDown$Half") ∈ lw_all := lw_g (lw_at lw_m1 27 rfl) rfl
theorem q768 : (Jvm.Cond.instantiable "UpAndDown$Half" (4 : Nat)) ∈ lw_all := lw_g (lw_at lw_m3 167 rfl) rfl
theorem q770 : (Jvm.Cond.instanceMethod ({ cls := "UpAndDown$Half", name := "<init>", desc := "(LUpAndDown;)V" } : Jvm.MethodName)) ∈ lw_all := lw_g (lw_at lw_m3 169 rfl) rfl
theorem q771 : (Jvm.Cond.code ({ cls := "UpAndDown$Half", name := "<init>", desc := "(LUpAndDown;)V" } : Jvm.MethodName) prog_7_method_1_code (2 : Nat) (Option.none : Option Jvm.ClassFile.FieldType)) ∈ lw_all := lw_g (lw_at lw_m3 170 rfl) rfl
theorem q772 : (Jvm.Cond.methodLink "UpAndDown$Half" (7 : Nat) ({ cls := "UpAndDown$Word", name := "<init>", desc := "(LUpAndDown;II)V" } : Jvm.MethodName)) ∈ lw_all := lw_g (lw_at lw_m3 171 rfl) rfl
theorem q773 : (Jvm.Cond.fieldLink "UpAndDown$Half" (1 : Nat) "UpAndDown$Half" "this$0" "LUpAndDown;") ∈ lw_all := lw_g (lw_at lw_m3 172 rfl) rfl
theorem q774 : (Jvm.Cond.laysFinal "UpAndDown$Half" "UpAndDown$Half" "this$0" "LUpAndDown;") ∈ lw_all := lw_g (lw_at lw_m3 173 rfl) rfl
theorem q775 : (Jvm.Cond.soleField "UpAndDown$Half" "this$0") ∈ lw_all := lw_g (lw_at lw_m3 174 rfl) rfl
theorem q776 : (Jvm.Cond.laysFinal "UpAndDown$Half" "UpAndDown$Word" "sort" "I") ∈ lw_all := lw_g (lw_at lw_m3 175 rfl) rfl
theorem q777 : (Jvm.Cond.laysFinal "UpAndDown$Half" "UpAndDown$Word" "number" "I") ∈ lw_all := lw_g (lw_at lw_m3 176 rfl) rfl
theorem q778 : (Jvm.Cond.laysFinal "UpAndDown$Half" "UpAndDown$Word" "this$0" "LUpAndDown;") ∈ lw_all := lw_g (lw_at lw_m3 177 rfl) rfl
theorem q779 : (Jvm.Cond.superclass "UpAndDown$Half" "UpAndDown$Word") ∈ lw_all := lw_g (lw_at lw_m3 178 rfl) rfl
theorem q860 : (Jvm.Cond.selects "UpAndDown$Half" ({ cls := "java/lang/Object", name := "getClass", desc := "()Ljava/lang/Class;" } : Jvm.MethodName) ({ cls := "java/lang/Object", name := "getClass", desc := "()Ljava/lang/Class;" } : Jvm.MethodName)) ∈ lw_all := lw_g (lw_at lw_m4 19 rfl) rfl
theorem q956 : (Jvm.Cond.selects "UpAndDown$Half" ({ cls := "UpAndDown$Word", name := "isLike", desc := "(LUpAndDown$Word;)Z" } : Jvm.MethodName) ({ cls := "UpAndDown$Word", name := "isLike", desc := "(LUpAndDown$Word;)Z" } : Jvm.MethodName)) ∈ lw_all := lw_g (lw_at lw_m4 115 rfl) rfl
theorem q1061 : (Jvm.Cond.selects "UpAndDown$Half" ({ cls := "UpAndDown$Word", name := "does", desc := "(I)J" } : Jvm.MethodName) ({ cls := "UpAndDown$Half", name := "does", desc := "(I)J" } : Jvm.MethodName)) ∈ lw_all := lw_g (lw_at lw_m4 220 rfl) rfl
theorem q1062 : (Jvm.Cond.instanceMethod ({ cls := "UpAndDown$Half", name := "does", desc := "(I)J" } : Jvm.MethodName)) ∈ lw_all := lw_g (lw_at lw_m4 221 rfl) rfl
theorem q1063 : (Jvm.Cond.code ({ cls := "UpAndDown$Half", name := "does", desc := "(I)J" } : Jvm.MethodName) prog_7_method_2_code (2 : Nat) (Option.some Jvm.ClassFile.FieldType.long)) ∈ lw_all := lw_g (lw_at lw_m4 222 rfl) rfl
theorem q2110 : (Jvm.Cond.castable "UpAndDown$Half" "UpAndDown$Word") ∈ lw_tbl := lw_at lw_m9 69 rfl
theorem q2134 : (Jvm.Cond.castable "UpAndDown$Half" "java/lang/Object") ∈ lw_tbl := lw_at lw_m9 93 rfl
theorem in_X14 : ∀ w ∈ wsX140, w ∈ lw_all := lw_in wsX140 [776, 777, 778, 774] (by decide +kernel) (by decide +kernel)
/-! UpAndDown$First -/
set_option maxRecDepth 100000
def RX15 : String := "UpAndDown$First"
def TX15 : u_T := fun k => match k with
  | 0 => ("UpAndDown$ByFigures", "this$0", "LUpAndDown;", true)
  | 1 => ("UpAndDown$Word", "sort", "I", true)
  | 2 => ("UpAndDown$Word", "number", "I", true)
  | 3 => ("UpAndDown$Word", "this$0", "LUpAndDown;", true)
  | _ => ("UpAndDown$First", "this$0", "LUpAndDown;", true)
def tyX15 : Nat → FieldType := fun k => match k with
  | 0 => .object "UpAndDown"
  | 1 => .int
  | 2 => .int
  | 3 => .object "UpAndDown"
  | _ => .object "UpAndDown"
abbrev wsX150 : List Cond := u_ws RX15 TX15 5
-- two fields of one name: no nmX15
theorem tyX15_ok : ∀ k, k < 5 → parseFieldDescriptor (TX15 k).2.2.1 = some (tyX15 k) := by decide +kernel
abbrev cX15_init : ByteArray := prog_6_method_1_code
def yX15_init : MethodName := ⟨RX15, "<init>", "(LUpAndDown;)V"⟩
def dkwX15_init_0 : List UInt8 := [42, 43, 181, 0, 1, 42, 43, 16, 11, 3, 183, 0, 7, 177]
abbrev dktX15_init_0 : List UInt8 := dkwX15_init_0 ++ []
theorem dksX15_init_0 : cX15_init.data.toList.drop 0 = dktX15_init_0 := by decide +kernel
theorem dX15_init_0 : decode cX15_init 0 = .ok (.aload_n 0, 1) := dk_42 (dk_at dksX15_init_0 0 rfl rfl)
theorem dX15_init_1 : decode cX15_init 1 = .ok (.aload_n 1, 1) := dk_43 (dk_at dksX15_init_0 1 rfl rfl)
theorem dX15_init_2 : decode cX15_init 2 = .ok (.putfield 1, 3) := dk_181 0 1 (dk_at dksX15_init_0 2 rfl rfl)
theorem dX15_init_5 : decode cX15_init 5 = .ok (.aload_n 0, 1) := dk_42 (dk_at dksX15_init_0 5 rfl rfl)
theorem dX15_init_6 : decode cX15_init 6 = .ok (.aload_n 1, 1) := dk_43 (dk_at dksX15_init_0 6 rfl rfl)
theorem dX15_init_7 : decode cX15_init 7 = .ok (.bipush 11, 2) := dk_16 11 (dk_at dksX15_init_0 7 rfl rfl)
theorem dX15_init_9 : decode cX15_init 9 = .ok (.iconst 0, 1) := dk_3 (dk_at dksX15_init_0 9 rfl rfl)
theorem dX15_init_10 : decode cX15_init 10 = .ok (.invokespecial 7, 3) := dk_183 0 7 (dk_at dksX15_init_0 10 rfl rfl)
theorem dX15_init_13 : decode cX15_init 13 = .ok (.return_, 1) := dk_177 (dk_at dksX15_init_0 13 rfl rfl)
abbrev cX15_ofRow : ByteArray := prog_6_method_2_code
def yX15_ofRow : MethodName := ⟨RX15, "ofRow", "()J"⟩
def dkwX15_ofRow_4 : List UInt8 := [182, 0, 29, 173]
abbrev dktX15_ofRow_4 : List UInt8 := dkwX15_ofRow_4 ++ []
def dkwX15_ofRow_3 : List UInt8 := [100, 27, 79, 42, 180, 0, 1, 42, 180, 0, 1, 180, 0, 13, 42, 180, 0, 1, 180, 0, 19, 180, 0, 23]
abbrev dktX15_ofRow_3 : List UInt8 := dkwX15_ofRow_3 ++ dktX15_ofRow_4
def dkwX15_ofRow_2 : List UInt8 := [132, 2, 1, 167, 255, 219, 42, 180, 0, 1, 180, 0, 13, 42, 180, 0, 1, 180, 0, 19, 180, 0, 23, 4]
abbrev dktX15_ofRow_2 : List UInt8 := dkwX15_ofRow_2 ++ dktX15_ofRow_3
def dkwX15_ofRow_1 : List UInt8 := [162, 0, 29, 42, 180, 0, 1, 180, 0, 13, 28, 4, 100, 42, 180, 0, 1, 180, 0, 13, 28, 46, 79]
abbrev dktX15_ofRow_1 : List UInt8 := dkwX15_ofRow_1 ++ dktX15_ofRow_2
def dkwX15_ofRow_0 : List UInt8 := [42, 180, 0, 1, 180, 0, 13, 3, 46, 60, 4, 61, 28, 42, 180, 0, 1, 180, 0, 19, 180, 0, 23]
abbrev dktX15_ofRow_0 : List UInt8 := dkwX15_ofRow_0 ++ dktX15_ofRow_1
theorem dksX15_ofRow_0 : cX15_ofRow.data.toList.drop 0 = dktX15_ofRow_0 := by decide +kernel
theorem dksX15_ofRow_1 : cX15_ofRow.data.toList.drop 23 = dktX15_ofRow_1 := dk_seg dksX15_ofRow_0 23 rfl rfl
theorem dksX15_ofRow_2 : cX15_ofRow.data.toList.drop 46 = dktX15_ofRow_2 := dk_seg dksX15_ofRow_1 23 rfl rfl
theorem dksX15_ofRow_3 : cX15_ofRow.data.toList.drop 70 = dktX15_ofRow_3 := dk_seg dksX15_ofRow_2 24 rfl rfl
theorem dksX15_ofRow_4 : cX15_ofRow.data.toList.drop 94 = dktX15_ofRow_4 := dk_seg dksX15_ofRow_3 24 rfl rfl
theorem dX15_ofRow_0 : decode cX15_ofRow 0 = .ok (.aload_n 0, 1) := dk_42 (dk_at dksX15_ofRow_0 0 rfl rfl)
theorem dX15_ofRow_1 : decode cX15_ofRow 1 = .ok (.getfield 1, 3) := dk_180 0 1 (dk_at dksX15_ofRow_0 1 rfl rfl)
theorem dX15_ofRow_4 : decode cX15_ofRow 4 = .ok (.getfield 13, 3) := dk_180 0 13 (dk_at dksX15_ofRow_0 4 rfl rfl)
theorem dX15_ofRow_7 : decode cX15_ofRow 7 = .ok (.iconst 0, 1) := dk_3 (dk_at dksX15_ofRow_0 7 rfl rfl)
theorem dX15_ofRow_8 : decode cX15_ofRow 8 = .ok (.iaload, 1) := dk_46 (dk_at dksX15_ofRow_0 8 rfl rfl)
theorem dX15_ofRow_9 : decode cX15_ofRow 9 = .ok (.istore_n 1, 1) := dk_60 (dk_at dksX15_ofRow_0 9 rfl rfl)
theorem dX15_ofRow_10 : decode cX15_ofRow 10 = .ok (.iconst 1, 1) := dk_4 (dk_at dksX15_ofRow_0 10 rfl rfl)
theorem dX15_ofRow_11 : decode cX15_ofRow 11 = .ok (.istore_n 2, 1) := dk_61 (dk_at dksX15_ofRow_0 11 rfl rfl)
theorem dX15_ofRow_12 : decode cX15_ofRow 12 = .ok (.iload_n 2, 1) := dk_28 (dk_at dksX15_ofRow_0 12 rfl rfl)
theorem dX15_ofRow_13 : decode cX15_ofRow 13 = .ok (.aload_n 0, 1) := dk_42 (dk_at dksX15_ofRow_0 13 rfl rfl)
theorem dX15_ofRow_14 : decode cX15_ofRow 14 = .ok (.getfield 1, 3) := dk_180 0 1 (dk_at dksX15_ofRow_0 14 rfl rfl)
theorem dX15_ofRow_17 : decode cX15_ofRow 17 = .ok (.getfield 19, 3) := dk_180 0 19 (dk_at dksX15_ofRow_0 17 rfl rfl)
theorem dX15_ofRow_20 : decode cX15_ofRow 20 = .ok (.getfield 23, 3) := dk_180 0 23 (dk_at dksX15_ofRow_0 20 rfl rfl)
theorem dX15_ofRow_23 : decode cX15_ofRow 23 = .ok (.if_icmp .ge 29, 3) := dk_162 0 29 (dk_at dksX15_ofRow_1 0 rfl rfl)
theorem dX15_ofRow_26 : decode cX15_ofRow 26 = .ok (.aload_n 0, 1) := dk_42 (dk_at dksX15_ofRow_1 3 rfl rfl)
theorem dX15_ofRow_27 : decode cX15_ofRow 27 = .ok (.getfield 1, 3) := dk_180 0 1 (dk_at dksX15_ofRow_1 4 rfl rfl)
theorem dX15_ofRow_30 : decode cX15_ofRow 30 = .ok (.getfield 13, 3) := dk_180 0 13 (dk_at dksX15_ofRow_1 7 rfl rfl)
theorem dX15_ofRow_33 : decode cX15_ofRow 33 = .ok (.iload_n 2, 1) := dk_28 (dk_at dksX15_ofRow_1 10 rfl rfl)
theorem dX15_ofRow_34 : decode cX15_ofRow 34 = .ok (.iconst 1, 1) := dk_4 (dk_at dksX15_ofRow_1 11 rfl rfl)
theorem dX15_ofRow_35 : decode cX15_ofRow 35 = .ok (.isub, 1) := dk_100 (dk_at dksX15_ofRow_1 12 rfl rfl)
theorem dX15_ofRow_36 : decode cX15_ofRow 36 = .ok (.aload_n 0, 1) := dk_42 (dk_at dksX15_ofRow_1 13 rfl rfl)
theorem dX15_ofRow_37 : decode cX15_ofRow 37 = .ok (.getfield 1, 3) := dk_180 0 1 (dk_at dksX15_ofRow_1 14 rfl rfl)
theorem dX15_ofRow_40 : decode cX15_ofRow 40 = .ok (.getfield 13, 3) := dk_180 0 13 (dk_at dksX15_ofRow_1 17 rfl rfl)
theorem dX15_ofRow_43 : decode cX15_ofRow 43 = .ok (.iload_n 2, 1) := dk_28 (dk_at dksX15_ofRow_1 20 rfl rfl)
theorem dX15_ofRow_44 : decode cX15_ofRow 44 = .ok (.iaload, 1) := dk_46 (dk_at dksX15_ofRow_1 21 rfl rfl)
theorem dX15_ofRow_45 : decode cX15_ofRow 45 = .ok (.iastore, 1) := dk_79 (dk_at dksX15_ofRow_1 22 rfl rfl)
theorem dX15_ofRow_46 : decode cX15_ofRow 46 = .ok (.iinc 2 1, 3) := dk_132 2 1 (dk_at dksX15_ofRow_2 0 rfl rfl)
theorem dX15_ofRow_49 : decode cX15_ofRow 49 = .ok (.goto (-37), 3) := dk_167 255 219 (dk_at dksX15_ofRow_2 3 rfl rfl)
theorem dX15_ofRow_52 : decode cX15_ofRow 52 = .ok (.aload_n 0, 1) := dk_42 (dk_at dksX15_ofRow_2 6 rfl rfl)
theorem dX15_ofRow_53 : decode cX15_ofRow 53 = .ok (.getfield 1, 3) := dk_180 0 1 (dk_at dksX15_ofRow_2 7 rfl rfl)
theorem dX15_ofRow_56 : decode cX15_ofRow 56 = .ok (.getfield 13, 3) := dk_180 0 13 (dk_at dksX15_ofRow_2 10 rfl rfl)
theorem dX15_ofRow_59 : decode cX15_ofRow 59 = .ok (.aload_n 0, 1) := dk_42 (dk_at dksX15_ofRow_2 13 rfl rfl)
theorem dX15_ofRow_60 : decode cX15_ofRow 60 = .ok (.getfield 1, 3) := dk_180 0 1 (dk_at dksX15_ofRow_2 14 rfl rfl)
theorem dX15_ofRow_63 : decode cX15_ofRow 63 = .ok (.getfield 19, 3) := dk_180 0 19 (dk_at dksX15_ofRow_2 17 rfl rfl)
theorem dX15_ofRow_66 : decode cX15_ofRow 66 = .ok (.getfield 23, 3) := dk_180 0 23 (dk_at dksX15_ofRow_2 20 rfl rfl)
theorem dX15_ofRow_69 : decode cX15_ofRow 69 = .ok (.iconst 1, 1) := dk_4 (dk_at dksX15_ofRow_2 23 rfl rfl)
theorem dX15_ofRow_70 : decode cX15_ofRow 70 = .ok (.isub, 1) := dk_100 (dk_at dksX15_ofRow_3 0 rfl rfl)
theorem dX15_ofRow_71 : decode cX15_ofRow 71 = .ok (.iload_n 1, 1) := dk_27 (dk_at dksX15_ofRow_3 1 rfl rfl)
theorem dX15_ofRow_72 : decode cX15_ofRow 72 = .ok (.iastore, 1) := dk_79 (dk_at dksX15_ofRow_3 2 rfl rfl)
theorem dX15_ofRow_73 : decode cX15_ofRow 73 = .ok (.aload_n 0, 1) := dk_42 (dk_at dksX15_ofRow_3 3 rfl rfl)
theorem dX15_ofRow_74 : decode cX15_ofRow 74 = .ok (.getfield 1, 3) := dk_180 0 1 (dk_at dksX15_ofRow_3 4 rfl rfl)
theorem dX15_ofRow_77 : decode cX15_ofRow 77 = .ok (.aload_n 0, 1) := dk_42 (dk_at dksX15_ofRow_3 7 rfl rfl)
theorem dX15_ofRow_78 : decode cX15_ofRow 78 = .ok (.getfield 1, 3) := dk_180 0 1 (dk_at dksX15_ofRow_3 8 rfl rfl)
theorem dX15_ofRow_81 : decode cX15_ofRow 81 = .ok (.getfield 13, 3) := dk_180 0 13 (dk_at dksX15_ofRow_3 11 rfl rfl)
theorem dX15_ofRow_84 : decode cX15_ofRow 84 = .ok (.aload_n 0, 1) := dk_42 (dk_at dksX15_ofRow_3 14 rfl rfl)
theorem dX15_ofRow_85 : decode cX15_ofRow 85 = .ok (.getfield 1, 3) := dk_180 0 1 (dk_at dksX15_ofRow_3 15 rfl rfl)
theorem dX15_ofRow_88 : decode cX15_ofRow 88 = .ok (.getfield 19, 3) := dk_180 0 19 (dk_at dksX15_ofRow_3 18 rfl rfl)
theorem dX15_ofRow_91 : decode cX15_ofRow 91 = .ok (.getfield 23, 3) := dk_180 0 23 (dk_at dksX15_ofRow_3 21 rfl rfl)
theorem dX15_ofRow_94 : decode cX15_ofRow 94 = .ok (.invokevirtual 29, 3) := dk_182 0 29 (dk_at dksX15_ofRow_4 0 rfl rfl)
theorem dX15_ofRow_97 : decode cX15_ofRow 97 = .ok (.lreturn, 1) := dk_173 (dk_at dksX15_ofRow_4 3 rfl rfl)
theorem q149 : (Jvm.Cond.initialized "UpAndDown$First") ∈ lw_all := lw_g (lw_at lw_m1 28 rfl) rfl
theorem q217 : (Jvm.Cond.fieldLinkNest "UpAndDown$First" (23 : Nat) "UpAndDown$Table" "length" "I" "UpAndDown") ∈ lw_tbl := lw_at lw_m1 96 rfl
theorem q294 : (Jvm.Cond.fieldLinkNest "UpAndDown$First" (13 : Nat) "UpAndDown" "figures" "[I" "UpAndDown") ∈ lw_tbl := lw_at lw_m1 173 rfl
theorem q306 : (Jvm.Cond.fieldLinkNest "UpAndDown$First" (19 : Nat) "UpAndDown" "table" "LUpAndDown$Table;" "UpAndDown") ∈ lw_tbl := lw_at lw_m1 185 rfl
theorem q781 : (Jvm.Cond.instantiable "UpAndDown$First" (5 : Nat)) ∈ lw_all := lw_g (lw_at lw_m3 180 rfl) rfl
theorem q783 : (Jvm.Cond.instanceMethod ({ cls := "UpAndDown$First", name := "<init>", desc := "(LUpAndDown;)V" } : Jvm.MethodName)) ∈ lw_all := lw_g (lw_at lw_m3 182 rfl) rfl
theorem q784 : (Jvm.Cond.code ({ cls := "UpAndDown$First", name := "<init>", desc := "(LUpAndDown;)V" } : Jvm.MethodName) prog_6_method_1_code (2 : Nat) (Option.none : Option Jvm.ClassFile.FieldType)) ∈ lw_all := lw_g (lw_at lw_m3 183 rfl) rfl
theorem q785 : (Jvm.Cond.methodLink "UpAndDown$First" (7 : Nat) ({ cls := "UpAndDown$ByFigures", name := "<init>", desc := "(LUpAndDown;II)V" } : Jvm.MethodName)) ∈ lw_all := lw_g (lw_at lw_m3 184 rfl) rfl
theorem q786 : (Jvm.Cond.fieldLink "UpAndDown$First" (1 : Nat) "UpAndDown$First" "this$0" "LUpAndDown;") ∈ lw_all := lw_g (lw_at lw_m3 185 rfl) rfl
theorem q787 : (Jvm.Cond.laysFinal "UpAndDown$First" "UpAndDown$First" "this$0" "LUpAndDown;") ∈ lw_all := lw_g (lw_at lw_m3 186 rfl) rfl
theorem q788 : (Jvm.Cond.soleField "UpAndDown$First" "this$0") ∈ lw_all := lw_g (lw_at lw_m3 187 rfl) rfl
theorem q789 : (Jvm.Cond.laysFinal "UpAndDown$First" "UpAndDown$ByFigures" "this$0" "LUpAndDown;") ∈ lw_all := lw_g (lw_at lw_m3 188 rfl) rfl
theorem q790 : (Jvm.Cond.laysFinal "UpAndDown$First" "UpAndDown$Word" "sort" "I") ∈ lw_all := lw_g (lw_at lw_m3 189 rfl) rfl
theorem q791 : (Jvm.Cond.laysFinal "UpAndDown$First" "UpAndDown$Word" "number" "I") ∈ lw_all := lw_g (lw_at lw_m3 190 rfl) rfl
theorem q792 : (Jvm.Cond.laysFinal "UpAndDown$First" "UpAndDown$Word" "this$0" "LUpAndDown;") ∈ lw_all := lw_g (lw_at lw_m3 191 rfl) rfl
theorem q793 : (Jvm.Cond.superclass "UpAndDown$First" "UpAndDown$ByFigures") ∈ lw_all := lw_g (lw_at lw_m3 192 rfl) rfl
theorem q859 : (Jvm.Cond.selects "UpAndDown$First" ({ cls := "java/lang/Object", name := "getClass", desc := "()Ljava/lang/Class;" } : Jvm.MethodName) ({ cls := "java/lang/Object", name := "getClass", desc := "()Ljava/lang/Class;" } : Jvm.MethodName)) ∈ lw_all := lw_g (lw_at lw_m4 18 rfl) rfl
theorem q955 : (Jvm.Cond.selects "UpAndDown$First" ({ cls := "UpAndDown$Word", name := "isLike", desc := "(LUpAndDown$Word;)Z" } : Jvm.MethodName) ({ cls := "UpAndDown$Word", name := "isLike", desc := "(LUpAndDown$Word;)Z" } : Jvm.MethodName)) ∈ lw_all := lw_g (lw_at lw_m4 114 rfl) rfl
theorem q1030 : (Jvm.Cond.selects "UpAndDown$First" ({ cls := "UpAndDown$ByFigures", name := "ofRow", desc := "()J" } : Jvm.MethodName) ({ cls := "UpAndDown$First", name := "ofRow", desc := "()J" } : Jvm.MethodName)) ∈ lw_all := lw_g (lw_at lw_m4 189 rfl) rfl
theorem q1031 : (Jvm.Cond.instanceMethod ({ cls := "UpAndDown$First", name := "ofRow", desc := "()J" } : Jvm.MethodName)) ∈ lw_all := lw_g (lw_at lw_m4 190 rfl) rfl
theorem q1032 : (Jvm.Cond.code ({ cls := "UpAndDown$First", name := "ofRow", desc := "()J" } : Jvm.MethodName) prog_6_method_2_code (3 : Nat) (Option.some Jvm.ClassFile.FieldType.long)) ∈ lw_all := lw_g (lw_at lw_m4 191 rfl) rfl
theorem q1033 : (Jvm.Cond.methodLinkNest "UpAndDown$First" (29 : Nat) ({ cls := "UpAndDown", name := "joined", desc := "([II)J" } : Jvm.MethodName) "UpAndDown") ∈ lw_tbl := lw_at lw_m4 192 rfl
theorem q1060 : (Jvm.Cond.selects "UpAndDown$First" ({ cls := "UpAndDown$Word", name := "does", desc := "(I)J" } : Jvm.MethodName) ({ cls := "UpAndDown$ByFigures", name := "does", desc := "(I)J" } : Jvm.MethodName)) ∈ lw_all := lw_g (lw_at lw_m4 219 rfl) rfl
theorem q2109 : (Jvm.Cond.castable "UpAndDown$First" "UpAndDown$Word") ∈ lw_tbl := lw_at lw_m9 68 rfl
theorem q2135 : (Jvm.Cond.castable "UpAndDown$First" "java/lang/Object") ∈ lw_tbl := lw_at lw_m9 94 rfl
theorem in_X15 : ∀ w ∈ wsX150, w ∈ lw_all := lw_in wsX150 [789, 790, 791, 792, 787] (by decide +kernel) (by decide +kernel)
/-! UpAndDown$Reckoned -/
set_option maxRecDepth 100000
def RX16 : String := "UpAndDown$Reckoned"
def TX16 : u_T := fun k => match k with
  | 0 => ("UpAndDown$Word", "sort", "I", true)
  | 1 => ("UpAndDown$Word", "number", "I", true)
  | 2 => ("UpAndDown$Word", "this$0", "LUpAndDown;", true)
  | _ => ("UpAndDown$Reckoned", "this$0", "LUpAndDown;", true)
def tyX16 : Nat → FieldType := fun k => match k with
  | 0 => .int
  | 1 => .int
  | 2 => .object "UpAndDown"
  | _ => .object "UpAndDown"
abbrev wsX160 : List Cond := u_ws RX16 TX16 4
-- two fields of one name: no nmX16
theorem tyX16_ok : ∀ k, k < 4 → parseFieldDescriptor (TX16 k).2.2.1 = some (tyX16 k) := by decide +kernel
abbrev cX16_init : ByteArray := prog_13_method_1_code
def yX16_init : MethodName := ⟨RX16, "<init>", "(LUpAndDown;II)V"⟩
def dkwX16_init_0 : List UInt8 := [42, 43, 181, 0, 1, 42, 43, 28, 29, 183, 0, 7, 177]
abbrev dktX16_init_0 : List UInt8 := dkwX16_init_0 ++ []
theorem dksX16_init_0 : cX16_init.data.toList.drop 0 = dktX16_init_0 := by decide +kernel
theorem dX16_init_0 : decode cX16_init 0 = .ok (.aload_n 0, 1) := dk_42 (dk_at dksX16_init_0 0 rfl rfl)
theorem dX16_init_1 : decode cX16_init 1 = .ok (.aload_n 1, 1) := dk_43 (dk_at dksX16_init_0 1 rfl rfl)
theorem dX16_init_2 : decode cX16_init 2 = .ok (.putfield 1, 3) := dk_181 0 1 (dk_at dksX16_init_0 2 rfl rfl)
theorem dX16_init_5 : decode cX16_init 5 = .ok (.aload_n 0, 1) := dk_42 (dk_at dksX16_init_0 5 rfl rfl)
theorem dX16_init_6 : decode cX16_init 6 = .ok (.aload_n 1, 1) := dk_43 (dk_at dksX16_init_0 6 rfl rfl)
theorem dX16_init_7 : decode cX16_init 7 = .ok (.iload_n 2, 1) := dk_28 (dk_at dksX16_init_0 7 rfl rfl)
theorem dX16_init_8 : decode cX16_init 8 = .ok (.iload_n 3, 1) := dk_29 (dk_at dksX16_init_0 8 rfl rfl)
theorem dX16_init_9 : decode cX16_init 9 = .ok (.invokespecial 7, 3) := dk_183 0 7 (dk_at dksX16_init_0 9 rfl rfl)
theorem dX16_init_12 : decode cX16_init 12 = .ok (.return_, 1) := dk_177 (dk_at dksX16_init_0 12 rfl rfl)
abbrev cX16_does : ByteArray := prog_13_method_2_code
def yX16_does : MethodName := ⟨RX16, "does", "(I)J"⟩
def dkwX16_does_1 : List UInt8 := [180, 0, 17, 133, 97, 173]
abbrev dktX16_does_1 : List UInt8 := dkwX16_does_1 ++ []
def dkwX16_does_0 : List UInt8 := [42, 180, 0, 13, 16, 12, 160, 0, 14, 27, 133, 42, 180, 0, 17, 133, 105, 167, 0, 11, 27, 133, 42]
abbrev dktX16_does_0 : List UInt8 := dkwX16_does_0 ++ dktX16_does_1
theorem dksX16_does_0 : cX16_does.data.toList.drop 0 = dktX16_does_0 := by decide +kernel
theorem dksX16_does_1 : cX16_does.data.toList.drop 23 = dktX16_does_1 := dk_seg dksX16_does_0 23 rfl rfl
theorem dX16_does_0 : decode cX16_does 0 = .ok (.aload_n 0, 1) := dk_42 (dk_at dksX16_does_0 0 rfl rfl)
theorem dX16_does_1 : decode cX16_does 1 = .ok (.getfield 13, 3) := dk_180 0 13 (dk_at dksX16_does_0 1 rfl rfl)
theorem dX16_does_4 : decode cX16_does 4 = .ok (.bipush 12, 2) := dk_16 12 (dk_at dksX16_does_0 4 rfl rfl)
theorem dX16_does_6 : decode cX16_does 6 = .ok (.if_icmp .ne 14, 3) := dk_160 0 14 (dk_at dksX16_does_0 6 rfl rfl)
theorem dX16_does_9 : decode cX16_does 9 = .ok (.iload_n 1, 1) := dk_27 (dk_at dksX16_does_0 9 rfl rfl)
theorem dX16_does_10 : decode cX16_does 10 = .ok (.i2l, 1) := dk_133 (dk_at dksX16_does_0 10 rfl rfl)
theorem dX16_does_11 : decode cX16_does 11 = .ok (.aload_n 0, 1) := dk_42 (dk_at dksX16_does_0 11 rfl rfl)
theorem dX16_does_12 : decode cX16_does 12 = .ok (.getfield 17, 3) := dk_180 0 17 (dk_at dksX16_does_0 12 rfl rfl)
theorem dX16_does_15 : decode cX16_does 15 = .ok (.i2l, 1) := dk_133 (dk_at dksX16_does_0 15 rfl rfl)
theorem dX16_does_16 : decode cX16_does 16 = .ok (.lmul, 1) := dk_105 (dk_at dksX16_does_0 16 rfl rfl)
theorem dX16_does_17 : decode cX16_does 17 = .ok (.goto 11, 3) := dk_167 0 11 (dk_at dksX16_does_0 17 rfl rfl)
theorem dX16_does_20 : decode cX16_does 20 = .ok (.iload_n 1, 1) := dk_27 (dk_at dksX16_does_0 20 rfl rfl)
theorem dX16_does_21 : decode cX16_does 21 = .ok (.i2l, 1) := dk_133 (dk_at dksX16_does_0 21 rfl rfl)
theorem dX16_does_22 : decode cX16_does 22 = .ok (.aload_n 0, 1) := dk_42 (dk_at dksX16_does_0 22 rfl rfl)
theorem dX16_does_23 : decode cX16_does 23 = .ok (.getfield 17, 3) := dk_180 0 17 (dk_at dksX16_does_1 0 rfl rfl)
theorem dX16_does_26 : decode cX16_does 26 = .ok (.i2l, 1) := dk_133 (dk_at dksX16_does_1 3 rfl rfl)
theorem dX16_does_27 : decode cX16_does 27 = .ok (.ladd, 1) := dk_97 (dk_at dksX16_does_1 4 rfl rfl)
theorem dX16_does_28 : decode cX16_does 28 = .ok (.lreturn, 1) := dk_173 (dk_at dksX16_does_1 5 rfl rfl)
theorem q150 : (Jvm.Cond.initialized "UpAndDown$Reckoned") ∈ lw_all := lw_g (lw_at lw_m1 29 rfl) rfl
theorem q675 : (Jvm.Cond.fieldLink "UpAndDown$Reckoned" (13 : Nat) "UpAndDown$Reckoned" "sort" "I") ∈ lw_all := lw_g (lw_at lw_m3 74 rfl) rfl
theorem q676 : (Jvm.Cond.sameField "UpAndDown$Reckoned" "UpAndDown$Word" "sort" "I") ∈ lw_all := lw_g (lw_at lw_m3 75 rfl) rfl
theorem q681 : (Jvm.Cond.fieldLink "UpAndDown$Reckoned" (17 : Nat) "UpAndDown$Reckoned" "number" "I") ∈ lw_all := lw_g (lw_at lw_m3 80 rfl) rfl
theorem q682 : (Jvm.Cond.sameField "UpAndDown$Reckoned" "UpAndDown$Word" "number" "I") ∈ lw_all := lw_g (lw_at lw_m3 81 rfl) rfl
theorem q795 : (Jvm.Cond.instantiable "UpAndDown$Reckoned" (4 : Nat)) ∈ lw_all := lw_g (lw_at lw_m3 194 rfl) rfl
theorem q797 : (Jvm.Cond.instanceMethod ({ cls := "UpAndDown$Reckoned", name := "<init>", desc := "(LUpAndDown;II)V" } : Jvm.MethodName)) ∈ lw_all := lw_g (lw_at lw_m3 196 rfl) rfl
theorem q798 : (Jvm.Cond.code ({ cls := "UpAndDown$Reckoned", name := "<init>", desc := "(LUpAndDown;II)V" } : Jvm.MethodName) prog_13_method_1_code (4 : Nat) (Option.none : Option Jvm.ClassFile.FieldType)) ∈ lw_all := lw_g (lw_at lw_m3 197 rfl) rfl
theorem q799 : (Jvm.Cond.methodLink "UpAndDown$Reckoned" (7 : Nat) ({ cls := "UpAndDown$Word", name := "<init>", desc := "(LUpAndDown;II)V" } : Jvm.MethodName)) ∈ lw_all := lw_g (lw_at lw_m3 198 rfl) rfl
theorem q800 : (Jvm.Cond.fieldLink "UpAndDown$Reckoned" (1 : Nat) "UpAndDown$Reckoned" "this$0" "LUpAndDown;") ∈ lw_all := lw_g (lw_at lw_m3 199 rfl) rfl
theorem q801 : (Jvm.Cond.laysFinal "UpAndDown$Reckoned" "UpAndDown$Reckoned" "this$0" "LUpAndDown;") ∈ lw_all := lw_g (lw_at lw_m3 200 rfl) rfl
theorem q802 : (Jvm.Cond.soleField "UpAndDown$Reckoned" "this$0") ∈ lw_all := lw_g (lw_at lw_m3 201 rfl) rfl
theorem q803 : (Jvm.Cond.laysFinal "UpAndDown$Reckoned" "UpAndDown$Word" "sort" "I") ∈ lw_all := lw_g (lw_at lw_m3 202 rfl) rfl
theorem q804 : (Jvm.Cond.laysFinal "UpAndDown$Reckoned" "UpAndDown$Word" "number" "I") ∈ lw_all := lw_g (lw_at lw_m3 203 rfl) rfl
theorem q805 : (Jvm.Cond.laysFinal "UpAndDown$Reckoned" "UpAndDown$Word" "this$0" "LUpAndDown;") ∈ lw_all := lw_g (lw_at lw_m3 204 rfl) rfl
theorem q806 : (Jvm.Cond.superclass "UpAndDown$Reckoned" "UpAndDown$Word") ∈ lw_all := lw_g (lw_at lw_m3 205 rfl) rfl
theorem q866 : (Jvm.Cond.selects "UpAndDown$Reckoned" ({ cls := "java/lang/Object", name := "getClass", desc := "()Ljava/lang/Class;" } : Jvm.MethodName) ({ cls := "java/lang/Object", name := "getClass", desc := "()Ljava/lang/Class;" } : Jvm.MethodName)) ∈ lw_all := lw_g (lw_at lw_m4 25 rfl) rfl
theorem q961 : (Jvm.Cond.selects "UpAndDown$Reckoned" ({ cls := "UpAndDown$Word", name := "isLike", desc := "(LUpAndDown$Word;)Z" } : Jvm.MethodName) ({ cls := "UpAndDown$Word", name := "isLike", desc := "(LUpAndDown$Word;)Z" } : Jvm.MethodName)) ∈ lw_all := lw_g (lw_at lw_m4 120 rfl) rfl
theorem q1075 : (Jvm.Cond.selects "UpAndDown$Reckoned" ({ cls := "UpAndDown$Word", name := "does", desc := "(I)J" } : Jvm.MethodName) ({ cls := "UpAndDown$Reckoned", name := "does", desc := "(I)J" } : Jvm.MethodName)) ∈ lw_all := lw_g (lw_at lw_m4 234 rfl) rfl
theorem q1076 : (Jvm.Cond.instanceMethod ({ cls := "UpAndDown$Reckoned", name := "does", desc := "(I)J" } : Jvm.MethodName)) ∈ lw_all := lw_g (lw_at lw_m4 235 rfl) rfl
theorem q1077 : (Jvm.Cond.code ({ cls := "UpAndDown$Reckoned", name := "does", desc := "(I)J" } : Jvm.MethodName) prog_13_method_2_code (2 : Nat) (Option.some Jvm.ClassFile.FieldType.long)) ∈ lw_all := lw_g (lw_at lw_m4 236 rfl) rfl
theorem q2115 : (Jvm.Cond.castable "UpAndDown$Reckoned" "UpAndDown$Word") ∈ lw_tbl := lw_at lw_m9 74 rfl
theorem q2136 : (Jvm.Cond.castable "UpAndDown$Reckoned" "java/lang/Object") ∈ lw_tbl := lw_at lw_m9 95 rfl
theorem in_X16 : ∀ w ∈ wsX160, w ∈ lw_all := lw_in wsX160 [803, 804, 805, 801] (by decide +kernel) (by decide +kernel)
/-! UpAndDown$Out -/
set_option maxRecDepth 100000
def RX17 : String := "UpAndDown$Out"
def TX17 : u_T := fun k => match k with
  | 0 => ("UpAndDown$ByFigures", "this$0", "LUpAndDown;", true)
  | 1 => ("UpAndDown$Word", "sort", "I", true)
  | 2 => ("UpAndDown$Word", "number", "I", true)
  | 3 => ("UpAndDown$Word", "this$0", "LUpAndDown;", true)
  | _ => ("UpAndDown$Out", "this$0", "LUpAndDown;", true)
def tyX17 : Nat → FieldType := fun k => match k with
  | 0 => .object "UpAndDown"
  | 1 => .int
  | 2 => .int
  | 3 => .object "UpAndDown"
  | _ => .object "UpAndDown"
abbrev wsX170 : List Cond := u_ws RX17 TX17 5
-- two fields of one name: no nmX17
theorem tyX17_ok : ∀ k, k < 5 → parseFieldDescriptor (TX17 k).2.2.1 = some (tyX17 k) := by decide +kernel
abbrev cX17_init : ByteArray := prog_10_method_1_code
def yX17_init : MethodName := ⟨RX17, "<init>", "(LUpAndDown;I)V"⟩
def dkwX17_init_0 : List UInt8 := [42, 43, 181, 0, 1, 42, 43, 16, 14, 28, 183, 0, 7, 177]
abbrev dktX17_init_0 : List UInt8 := dkwX17_init_0 ++ []
theorem dksX17_init_0 : cX17_init.data.toList.drop 0 = dktX17_init_0 := by decide +kernel
theorem dX17_init_0 : decode cX17_init 0 = .ok (.aload_n 0, 1) := dk_42 (dk_at dksX17_init_0 0 rfl rfl)
theorem dX17_init_1 : decode cX17_init 1 = .ok (.aload_n 1, 1) := dk_43 (dk_at dksX17_init_0 1 rfl rfl)
theorem dX17_init_2 : decode cX17_init 2 = .ok (.putfield 1, 3) := dk_181 0 1 (dk_at dksX17_init_0 2 rfl rfl)
theorem dX17_init_5 : decode cX17_init 5 = .ok (.aload_n 0, 1) := dk_42 (dk_at dksX17_init_0 5 rfl rfl)
theorem dX17_init_6 : decode cX17_init 6 = .ok (.aload_n 1, 1) := dk_43 (dk_at dksX17_init_0 6 rfl rfl)
theorem dX17_init_7 : decode cX17_init 7 = .ok (.bipush 14, 2) := dk_16 14 (dk_at dksX17_init_0 7 rfl rfl)
theorem dX17_init_9 : decode cX17_init 9 = .ok (.iload_n 2, 1) := dk_28 (dk_at dksX17_init_0 9 rfl rfl)
theorem dX17_init_10 : decode cX17_init 10 = .ok (.invokespecial 7, 3) := dk_183 0 7 (dk_at dksX17_init_0 10 rfl rfl)
theorem dX17_init_13 : decode cX17_init 13 = .ok (.return_, 1) := dk_177 (dk_at dksX17_init_0 13 rfl rfl)
abbrev cX17_ofRow : ByteArray := prog_10_method_2_code
def yX17_ofRow : MethodName := ⟨RX17, "ofRow", "()J"⟩
def dkwX17_ofRow_3 : List UInt8 := [180, 0, 1, 180, 0, 25, 27, 182, 0, 32, 173]
abbrev dktX17_ofRow_3 : List UInt8 := dkwX17_ofRow_3 ++ []
def dkwX17_ofRow_2 : List UInt8 := [180, 0, 1, 180, 0, 25, 28, 46, 79, 132, 1, 1, 132, 2, 1, 167, 255, 199, 42, 180, 0, 1, 42]
abbrev dktX17_ofRow_2 : List UInt8 := dkwX17_ofRow_2 ++ dktX17_ofRow_3
def dkwX17_ofRow_1 : List UInt8 := [180, 0, 25, 28, 46, 42, 180, 0, 29, 160, 0, 6, 167, 0, 24, 42, 180, 0, 1, 180, 0, 25, 27, 42]
abbrev dktX17_ofRow_1 : List UInt8 := dkwX17_ofRow_1 ++ dktX17_ofRow_2
def dkwX17_ofRow_0 : List UInt8 := [3, 60, 3, 61, 28, 42, 180, 0, 1, 180, 0, 13, 180, 0, 19, 162, 0, 49, 42, 180, 0, 1]
abbrev dktX17_ofRow_0 : List UInt8 := dkwX17_ofRow_0 ++ dktX17_ofRow_1
theorem dksX17_ofRow_0 : cX17_ofRow.data.toList.drop 0 = dktX17_ofRow_0 := by decide +kernel
theorem dksX17_ofRow_1 : cX17_ofRow.data.toList.drop 22 = dktX17_ofRow_1 := dk_seg dksX17_ofRow_0 22 rfl rfl
theorem dksX17_ofRow_2 : cX17_ofRow.data.toList.drop 46 = dktX17_ofRow_2 := dk_seg dksX17_ofRow_1 24 rfl rfl
theorem dksX17_ofRow_3 : cX17_ofRow.data.toList.drop 69 = dktX17_ofRow_3 := dk_seg dksX17_ofRow_2 23 rfl rfl
theorem dX17_ofRow_0 : decode cX17_ofRow 0 = .ok (.iconst 0, 1) := dk_3 (dk_at dksX17_ofRow_0 0 rfl rfl)
theorem dX17_ofRow_1 : decode cX17_ofRow 1 = .ok (.istore_n 1, 1) := dk_60 (dk_at dksX17_ofRow_0 1 rfl rfl)
theorem dX17_ofRow_2 : decode cX17_ofRow 2 = .ok (.iconst 0, 1) := dk_3 (dk_at dksX17_ofRow_0 2 rfl rfl)
theorem dX17_ofRow_3 : decode cX17_ofRow 3 = .ok (.istore_n 2, 1) := dk_61 (dk_at dksX17_ofRow_0 3 rfl rfl)
theorem dX17_ofRow_4 : decode cX17_ofRow 4 = .ok (.iload_n 2, 1) := dk_28 (dk_at dksX17_ofRow_0 4 rfl rfl)
theorem dX17_ofRow_5 : decode cX17_ofRow 5 = .ok (.aload_n 0, 1) := dk_42 (dk_at dksX17_ofRow_0 5 rfl rfl)
theorem dX17_ofRow_6 : decode cX17_ofRow 6 = .ok (.getfield 1, 3) := dk_180 0 1 (dk_at dksX17_ofRow_0 6 rfl rfl)
theorem dX17_ofRow_9 : decode cX17_ofRow 9 = .ok (.getfield 13, 3) := dk_180 0 13 (dk_at dksX17_ofRow_0 9 rfl rfl)
theorem dX17_ofRow_12 : decode cX17_ofRow 12 = .ok (.getfield 19, 3) := dk_180 0 19 (dk_at dksX17_ofRow_0 12 rfl rfl)
theorem dX17_ofRow_15 : decode cX17_ofRow 15 = .ok (.if_icmp .ge 49, 3) := dk_162 0 49 (dk_at dksX17_ofRow_0 15 rfl rfl)
theorem dX17_ofRow_18 : decode cX17_ofRow 18 = .ok (.aload_n 0, 1) := dk_42 (dk_at dksX17_ofRow_0 18 rfl rfl)
theorem dX17_ofRow_19 : decode cX17_ofRow 19 = .ok (.getfield 1, 3) := dk_180 0 1 (dk_at dksX17_ofRow_0 19 rfl rfl)
theorem dX17_ofRow_22 : decode cX17_ofRow 22 = .ok (.getfield 25, 3) := dk_180 0 25 (dk_at dksX17_ofRow_1 0 rfl rfl)
theorem dX17_ofRow_25 : decode cX17_ofRow 25 = .ok (.iload_n 2, 1) := dk_28 (dk_at dksX17_ofRow_1 3 rfl rfl)
theorem dX17_ofRow_26 : decode cX17_ofRow 26 = .ok (.iaload, 1) := dk_46 (dk_at dksX17_ofRow_1 4 rfl rfl)
theorem dX17_ofRow_27 : decode cX17_ofRow 27 = .ok (.aload_n 0, 1) := dk_42 (dk_at dksX17_ofRow_1 5 rfl rfl)
theorem dX17_ofRow_28 : decode cX17_ofRow 28 = .ok (.getfield 29, 3) := dk_180 0 29 (dk_at dksX17_ofRow_1 6 rfl rfl)
theorem dX17_ofRow_31 : decode cX17_ofRow 31 = .ok (.if_icmp .ne 6, 3) := dk_160 0 6 (dk_at dksX17_ofRow_1 9 rfl rfl)
theorem dX17_ofRow_34 : decode cX17_ofRow 34 = .ok (.goto 24, 3) := dk_167 0 24 (dk_at dksX17_ofRow_1 12 rfl rfl)
theorem dX17_ofRow_37 : decode cX17_ofRow 37 = .ok (.aload_n 0, 1) := dk_42 (dk_at dksX17_ofRow_1 15 rfl rfl)
theorem dX17_ofRow_38 : decode cX17_ofRow 38 = .ok (.getfield 1, 3) := dk_180 0 1 (dk_at dksX17_ofRow_1 16 rfl rfl)
theorem dX17_ofRow_41 : decode cX17_ofRow 41 = .ok (.getfield 25, 3) := dk_180 0 25 (dk_at dksX17_ofRow_1 19 rfl rfl)
theorem dX17_ofRow_44 : decode cX17_ofRow 44 = .ok (.iload_n 1, 1) := dk_27 (dk_at dksX17_ofRow_1 22 rfl rfl)
theorem dX17_ofRow_45 : decode cX17_ofRow 45 = .ok (.aload_n 0, 1) := dk_42 (dk_at dksX17_ofRow_1 23 rfl rfl)
theorem dX17_ofRow_46 : decode cX17_ofRow 46 = .ok (.getfield 1, 3) := dk_180 0 1 (dk_at dksX17_ofRow_2 0 rfl rfl)
theorem dX17_ofRow_49 : decode cX17_ofRow 49 = .ok (.getfield 25, 3) := dk_180 0 25 (dk_at dksX17_ofRow_2 3 rfl rfl)
theorem dX17_ofRow_52 : decode cX17_ofRow 52 = .ok (.iload_n 2, 1) := dk_28 (dk_at dksX17_ofRow_2 6 rfl rfl)
theorem dX17_ofRow_53 : decode cX17_ofRow 53 = .ok (.iaload, 1) := dk_46 (dk_at dksX17_ofRow_2 7 rfl rfl)
theorem dX17_ofRow_54 : decode cX17_ofRow 54 = .ok (.iastore, 1) := dk_79 (dk_at dksX17_ofRow_2 8 rfl rfl)
theorem dX17_ofRow_55 : decode cX17_ofRow 55 = .ok (.iinc 1 1, 3) := dk_132 1 1 (dk_at dksX17_ofRow_2 9 rfl rfl)
theorem dX17_ofRow_58 : decode cX17_ofRow 58 = .ok (.iinc 2 1, 3) := dk_132 2 1 (dk_at dksX17_ofRow_2 12 rfl rfl)
theorem dX17_ofRow_61 : decode cX17_ofRow 61 = .ok (.goto (-57), 3) := dk_167 255 199 (dk_at dksX17_ofRow_2 15 rfl rfl)
theorem dX17_ofRow_64 : decode cX17_ofRow 64 = .ok (.aload_n 0, 1) := dk_42 (dk_at dksX17_ofRow_2 18 rfl rfl)
theorem dX17_ofRow_65 : decode cX17_ofRow 65 = .ok (.getfield 1, 3) := dk_180 0 1 (dk_at dksX17_ofRow_2 19 rfl rfl)
theorem dX17_ofRow_68 : decode cX17_ofRow 68 = .ok (.aload_n 0, 1) := dk_42 (dk_at dksX17_ofRow_2 22 rfl rfl)
theorem dX17_ofRow_69 : decode cX17_ofRow 69 = .ok (.getfield 1, 3) := dk_180 0 1 (dk_at dksX17_ofRow_3 0 rfl rfl)
theorem dX17_ofRow_72 : decode cX17_ofRow 72 = .ok (.getfield 25, 3) := dk_180 0 25 (dk_at dksX17_ofRow_3 3 rfl rfl)
theorem dX17_ofRow_75 : decode cX17_ofRow 75 = .ok (.iload_n 1, 1) := dk_27 (dk_at dksX17_ofRow_3 6 rfl rfl)
theorem dX17_ofRow_76 : decode cX17_ofRow 76 = .ok (.invokevirtual 32, 3) := dk_182 0 32 (dk_at dksX17_ofRow_3 7 rfl rfl)
theorem dX17_ofRow_79 : decode cX17_ofRow 79 = .ok (.lreturn, 1) := dk_173 (dk_at dksX17_ofRow_3 10 rfl rfl)
theorem q151 : (Jvm.Cond.initialized "UpAndDown$Out") ∈ lw_all := lw_g (lw_at lw_m1 30 rfl) rfl
theorem q214 : (Jvm.Cond.fieldLinkNest "UpAndDown$Out" (19 : Nat) "UpAndDown$Table" "length" "I" "UpAndDown") ∈ lw_tbl := lw_at lw_m1 93 rfl
theorem q297 : (Jvm.Cond.fieldLinkNest "UpAndDown$Out" (25 : Nat) "UpAndDown" "figures" "[I" "UpAndDown") ∈ lw_tbl := lw_at lw_m1 176 rfl
theorem q304 : (Jvm.Cond.fieldLinkNest "UpAndDown$Out" (13 : Nat) "UpAndDown" "table" "LUpAndDown$Table;" "UpAndDown") ∈ lw_tbl := lw_at lw_m1 183 rfl
theorem q683 : (Jvm.Cond.fieldLink "UpAndDown$Out" (29 : Nat) "UpAndDown$Out" "number" "I") ∈ lw_all := lw_g (lw_at lw_m3 82 rfl) rfl
theorem q684 : (Jvm.Cond.sameField "UpAndDown$Out" "UpAndDown$Word" "number" "I") ∈ lw_all := lw_g (lw_at lw_m3 83 rfl) rfl
theorem q808 : (Jvm.Cond.instantiable "UpAndDown$Out" (5 : Nat)) ∈ lw_all := lw_g (lw_at lw_m3 207 rfl) rfl
theorem q810 : (Jvm.Cond.instanceMethod ({ cls := "UpAndDown$Out", name := "<init>", desc := "(LUpAndDown;I)V" } : Jvm.MethodName)) ∈ lw_all := lw_g (lw_at lw_m3 209 rfl) rfl
theorem q811 : (Jvm.Cond.code ({ cls := "UpAndDown$Out", name := "<init>", desc := "(LUpAndDown;I)V" } : Jvm.MethodName) prog_10_method_1_code (3 : Nat) (Option.none : Option Jvm.ClassFile.FieldType)) ∈ lw_all := lw_g (lw_at lw_m3 210 rfl) rfl
theorem q812 : (Jvm.Cond.methodLink "UpAndDown$Out" (7 : Nat) ({ cls := "UpAndDown$ByFigures", name := "<init>", desc := "(LUpAndDown;II)V" } : Jvm.MethodName)) ∈ lw_all := lw_g (lw_at lw_m3 211 rfl) rfl
theorem q813 : (Jvm.Cond.fieldLink "UpAndDown$Out" (1 : Nat) "UpAndDown$Out" "this$0" "LUpAndDown;") ∈ lw_all := lw_g (lw_at lw_m3 212 rfl) rfl
theorem q814 : (Jvm.Cond.laysFinal "UpAndDown$Out" "UpAndDown$Out" "this$0" "LUpAndDown;") ∈ lw_all := lw_g (lw_at lw_m3 213 rfl) rfl
theorem q815 : (Jvm.Cond.soleField "UpAndDown$Out" "this$0") ∈ lw_all := lw_g (lw_at lw_m3 214 rfl) rfl
theorem q816 : (Jvm.Cond.laysFinal "UpAndDown$Out" "UpAndDown$ByFigures" "this$0" "LUpAndDown;") ∈ lw_all := lw_g (lw_at lw_m3 215 rfl) rfl
theorem q817 : (Jvm.Cond.laysFinal "UpAndDown$Out" "UpAndDown$Word" "sort" "I") ∈ lw_all := lw_g (lw_at lw_m3 216 rfl) rfl
theorem q818 : (Jvm.Cond.laysFinal "UpAndDown$Out" "UpAndDown$Word" "number" "I") ∈ lw_all := lw_g (lw_at lw_m3 217 rfl) rfl
theorem q819 : (Jvm.Cond.laysFinal "UpAndDown$Out" "UpAndDown$Word" "this$0" "LUpAndDown;") ∈ lw_all := lw_g (lw_at lw_m3 218 rfl) rfl
theorem q820 : (Jvm.Cond.superclass "UpAndDown$Out" "UpAndDown$ByFigures") ∈ lw_all := lw_g (lw_at lw_m3 219 rfl) rfl
theorem q863 : (Jvm.Cond.selects "UpAndDown$Out" ({ cls := "java/lang/Object", name := "getClass", desc := "()Ljava/lang/Class;" } : Jvm.MethodName) ({ cls := "java/lang/Object", name := "getClass", desc := "()Ljava/lang/Class;" } : Jvm.MethodName)) ∈ lw_all := lw_g (lw_at lw_m4 22 rfl) rfl
theorem q959 : (Jvm.Cond.selects "UpAndDown$Out" ({ cls := "UpAndDown$Word", name := "isLike", desc := "(LUpAndDown$Word;)Z" } : Jvm.MethodName) ({ cls := "UpAndDown$Word", name := "isLike", desc := "(LUpAndDown$Word;)Z" } : Jvm.MethodName)) ∈ lw_all := lw_g (lw_at lw_m4 118 rfl) rfl
theorem q1034 : (Jvm.Cond.selects "UpAndDown$Out" ({ cls := "UpAndDown$ByFigures", name := "ofRow", desc := "()J" } : Jvm.MethodName) ({ cls := "UpAndDown$Out", name := "ofRow", desc := "()J" } : Jvm.MethodName)) ∈ lw_all := lw_g (lw_at lw_m4 193 rfl) rfl
theorem q1035 : (Jvm.Cond.instanceMethod ({ cls := "UpAndDown$Out", name := "ofRow", desc := "()J" } : Jvm.MethodName)) ∈ lw_all := lw_g (lw_at lw_m4 194 rfl) rfl
theorem q1036 : (Jvm.Cond.code ({ cls := "UpAndDown$Out", name := "ofRow", desc := "()J" } : Jvm.MethodName) prog_10_method_2_code (3 : Nat) (Option.some Jvm.ClassFile.FieldType.long)) ∈ lw_all := lw_g (lw_at lw_m4 195 rfl) rfl
theorem q1037 : (Jvm.Cond.methodLinkNest "UpAndDown$Out" (32 : Nat) ({ cls := "UpAndDown", name := "joined", desc := "([II)J" } : Jvm.MethodName) "UpAndDown") ∈ lw_tbl := lw_at lw_m4 196 rfl
theorem q1073 : (Jvm.Cond.selects "UpAndDown$Out" ({ cls := "UpAndDown$Word", name := "does", desc := "(I)J" } : Jvm.MethodName) ({ cls := "UpAndDown$ByFigures", name := "does", desc := "(I)J" } : Jvm.MethodName)) ∈ lw_all := lw_g (lw_at lw_m4 232 rfl) rfl
theorem q2113 : (Jvm.Cond.castable "UpAndDown$Out" "UpAndDown$Word") ∈ lw_tbl := lw_at lw_m9 72 rfl
theorem q2137 : (Jvm.Cond.castable "UpAndDown$Out" "java/lang/Object") ∈ lw_tbl := lw_at lw_m9 96 rfl
theorem in_X17 : ∀ w ∈ wsX170, w ∈ lw_all := lw_in wsX170 [816, 817, 818, 819, 814] (by decide +kernel) (by decide +kernel)
/-! UpAndDown$Draws -/
set_option maxRecDepth 100000
def RX18 : String := "UpAndDown$Draws"
def TX18 : u_T := fun k => match k with
  | _ => ("UpAndDown$Draws", "x", "J", false)
def tyX18 : Nat → FieldType := fun k => match k with
  | _ => .long
abbrev wsX180 : List Cond := u_ws RX18 TX18 1
theorem nmX18 : ∀ a, a < 1 → ∀ b, b < 1 → a ≠ b → (TX18 a).2.1 ≠ (TX18 b).2.1 := by decide +kernel
theorem tyX18_ok : ∀ k, k < 1 → parseFieldDescriptor (TX18 k).2.2.1 = some (tyX18 k) := by decide +kernel
abbrev cX18_init : ByteArray := prog_4_method_1_code
def yX18_init : MethodName := ⟨RX18, "<init>", "(J)V"⟩
def dkwX18_init_0 : List UInt8 := [42, 183, 0, 3, 42, 31, 181, 0, 9, 177]
abbrev dktX18_init_0 : List UInt8 := dkwX18_init_0 ++ []
theorem dksX18_init_0 : cX18_init.data.toList.drop 0 = dktX18_init_0 := by decide +kernel
theorem dX18_init_0 : decode cX18_init 0 = .ok (.aload_n 0, 1) := dk_42 (dk_at dksX18_init_0 0 rfl rfl)
theorem dX18_init_1 : decode cX18_init 1 = .ok (.invokespecial 3, 3) := dk_183 0 3 (dk_at dksX18_init_0 1 rfl rfl)
theorem dX18_init_4 : decode cX18_init 4 = .ok (.aload_n 0, 1) := dk_42 (dk_at dksX18_init_0 4 rfl rfl)
theorem dX18_init_5 : decode cX18_init 5 = .ok (.lload_n 1, 1) := dk_31 (dk_at dksX18_init_0 5 rfl rfl)
theorem dX18_init_6 : decode cX18_init 6 = .ok (.putfield 9, 3) := dk_181 0 9 (dk_at dksX18_init_0 6 rfl rfl)
theorem dX18_init_9 : decode cX18_init 9 = .ok (.return_, 1) := dk_177 (dk_at dksX18_init_0 9 rfl rfl)
abbrev cX18_next : ByteArray := prog_4_method_2_code
def yX18_next : MethodName := ⟨RX18, "next", "(I)I"⟩
def dkwX18_next_1 : List UInt8 := [20, 0, 21, 109, 27, 133, 113, 136, 172]
abbrev dktX18_next_1 : List UInt8 := dkwX18_next_1 ++ []
def dkwX18_next_0 : List UInt8 := [42, 20, 0, 15, 42, 180, 0, 9, 105, 20, 0, 17, 97, 20, 0, 19, 113, 181, 0, 9, 42, 180, 0, 9]
abbrev dktX18_next_0 : List UInt8 := dkwX18_next_0 ++ dktX18_next_1
theorem dksX18_next_0 : cX18_next.data.toList.drop 0 = dktX18_next_0 := by decide +kernel
theorem dksX18_next_1 : cX18_next.data.toList.drop 24 = dktX18_next_1 := dk_seg dksX18_next_0 24 rfl rfl
theorem dX18_next_0 : decode cX18_next 0 = .ok (.aload_n 0, 1) := dk_42 (dk_at dksX18_next_0 0 rfl rfl)
theorem dX18_next_1 : decode cX18_next 1 = .ok (.ldc2_w 15, 3) := dk_20 0 15 (dk_at dksX18_next_0 1 rfl rfl)
theorem dX18_next_4 : decode cX18_next 4 = .ok (.aload_n 0, 1) := dk_42 (dk_at dksX18_next_0 4 rfl rfl)
theorem dX18_next_5 : decode cX18_next 5 = .ok (.getfield 9, 3) := dk_180 0 9 (dk_at dksX18_next_0 5 rfl rfl)
theorem dX18_next_8 : decode cX18_next 8 = .ok (.lmul, 1) := dk_105 (dk_at dksX18_next_0 8 rfl rfl)
theorem dX18_next_9 : decode cX18_next 9 = .ok (.ldc2_w 17, 3) := dk_20 0 17 (dk_at dksX18_next_0 9 rfl rfl)
theorem dX18_next_12 : decode cX18_next 12 = .ok (.ladd, 1) := dk_97 (dk_at dksX18_next_0 12 rfl rfl)
theorem dX18_next_13 : decode cX18_next 13 = .ok (.ldc2_w 19, 3) := dk_20 0 19 (dk_at dksX18_next_0 13 rfl rfl)
theorem dX18_next_16 : decode cX18_next 16 = .ok (.lrem, 1) := dk_113 (dk_at dksX18_next_0 16 rfl rfl)
theorem dX18_next_17 : decode cX18_next 17 = .ok (.putfield 9, 3) := dk_181 0 9 (dk_at dksX18_next_0 17 rfl rfl)
theorem dX18_next_20 : decode cX18_next 20 = .ok (.aload_n 0, 1) := dk_42 (dk_at dksX18_next_0 20 rfl rfl)
theorem dX18_next_21 : decode cX18_next 21 = .ok (.getfield 9, 3) := dk_180 0 9 (dk_at dksX18_next_0 21 rfl rfl)
theorem dX18_next_24 : decode cX18_next 24 = .ok (.ldc2_w 21, 3) := dk_20 0 21 (dk_at dksX18_next_1 0 rfl rfl)
theorem dX18_next_27 : decode cX18_next 27 = .ok (.ldiv, 1) := dk_109 (dk_at dksX18_next_1 3 rfl rfl)
theorem dX18_next_28 : decode cX18_next 28 = .ok (.iload_n 1, 1) := dk_27 (dk_at dksX18_next_1 4 rfl rfl)
theorem dX18_next_29 : decode cX18_next 29 = .ok (.i2l, 1) := dk_133 (dk_at dksX18_next_1 5 rfl rfl)
theorem dX18_next_30 : decode cX18_next 30 = .ok (.lrem, 1) := dk_113 (dk_at dksX18_next_1 6 rfl rfl)
theorem dX18_next_31 : decode cX18_next 31 = .ok (.l2i, 1) := dk_136 (dk_at dksX18_next_1 7 rfl rfl)
theorem dX18_next_32 : decode cX18_next 32 = .ok (.ireturn, 1) := dk_172 (dk_at dksX18_next_1 8 rfl rfl)
theorem q159 : (Jvm.Cond.initialized "UpAndDown$Draws") ∈ lw_all := lw_g (lw_at lw_m1 38 rfl) rfl
theorem q857 : (Jvm.Cond.selects "UpAndDown$Draws" ({ cls := "java/lang/Object", name := "getClass", desc := "()Ljava/lang/Class;" } : Jvm.MethodName) ({ cls := "java/lang/Object", name := "getClass", desc := "()Ljava/lang/Class;" } : Jvm.MethodName)) ∈ lw_all := lw_g (lw_at lw_m4 16 rfl) rfl
theorem q1328 : (Jvm.Cond.instantiable "UpAndDown$Draws" (1 : Nat)) ∈ lw_all := lw_g (lw_at lw_m6 7 rfl) rfl
theorem q1330 : (Jvm.Cond.instanceMethod ({ cls := "UpAndDown$Draws", name := "<init>", desc := "(J)V" } : Jvm.MethodName)) ∈ lw_all := lw_g (lw_at lw_m6 9 rfl) rfl
theorem q1331 : (Jvm.Cond.code ({ cls := "UpAndDown$Draws", name := "<init>", desc := "(J)V" } : Jvm.MethodName) prog_4_method_1_code (3 : Nat) (Option.none : Option Jvm.ClassFile.FieldType)) ∈ lw_all := lw_g (lw_at lw_m6 10 rfl) rfl
theorem q1332 : (Jvm.Cond.methodLink "UpAndDown$Draws" (3 : Nat) ({ cls := "java/lang/Object", name := "<init>", desc := "()V" } : Jvm.MethodName)) ∈ lw_all := lw_g (lw_at lw_m6 11 rfl) rfl
theorem q1333 : (Jvm.Cond.fieldLink "UpAndDown$Draws" (9 : Nat) "UpAndDown$Draws" "x" "J") ∈ lw_all := lw_g (lw_at lw_m6 12 rfl) rfl
theorem q1334 : (Jvm.Cond.lays "UpAndDown$Draws" "UpAndDown$Draws" "x" "J") ∈ lw_all := lw_g (lw_at lw_m6 13 rfl) rfl
theorem q1335 : (Jvm.Cond.soleField "UpAndDown$Draws" "x") ∈ lw_all := lw_g (lw_at lw_m6 14 rfl) rfl
theorem q1336 : (Jvm.Cond.superclass "UpAndDown$Draws" "java/lang/Object") ∈ lw_all := lw_g (lw_at lw_m6 15 rfl) rfl
theorem q1338 : (Jvm.Cond.instanceMethod ({ cls := "UpAndDown$Draws", name := "next", desc := "(I)I" } : Jvm.MethodName)) ∈ lw_all := lw_g (lw_at lw_m6 17 rfl) rfl
theorem q1339 : (Jvm.Cond.selects "UpAndDown$Draws" ({ cls := "UpAndDown$Draws", name := "next", desc := "(I)I" } : Jvm.MethodName) ({ cls := "UpAndDown$Draws", name := "next", desc := "(I)I" } : Jvm.MethodName)) ∈ lw_all := lw_g (lw_at lw_m6 18 rfl) rfl
theorem q1340 : (Jvm.Cond.code ({ cls := "UpAndDown$Draws", name := "next", desc := "(I)I" } : Jvm.MethodName) prog_4_method_2_code (2 : Nat) (Option.some Jvm.ClassFile.FieldType.int)) ∈ lw_all := lw_g (lw_at lw_m6 19 rfl) rfl
theorem q1341 : (Jvm.Cond.constantLong "UpAndDown$Draws" (15 : Nat) (1103515245 : Int64)) ∈ lw_all := lw_g (lw_at lw_m6 20 rfl) rfl
theorem q1342 : (Jvm.Cond.constantLong "UpAndDown$Draws" (17 : Nat) (12345 : Int64)) ∈ lw_all := lw_g (lw_at lw_m6 21 rfl) rfl
theorem q1343 : (Jvm.Cond.constantLong "UpAndDown$Draws" (19 : Nat) (2147483648 : Int64)) ∈ lw_all := lw_g (lw_at lw_m6 22 rfl) rfl
theorem q1344 : (Jvm.Cond.constantLong "UpAndDown$Draws" (21 : Nat) (65536 : Int64)) ∈ lw_all := lw_g (lw_at lw_m6 23 rfl) rfl
theorem q2139 : (Jvm.Cond.castable "UpAndDown$Draws" "java/lang/Object") ∈ lw_tbl := lw_at lw_m9 98 rfl
theorem in_X18 : ∀ w ∈ wsX180, w ∈ lw_all := lw_in wsX180 [1334] (by decide +kernel) (by decide +kernel)
/-! UpAndDown$Slot -/
set_option maxRecDepth 100000
def RX2 : String := "UpAndDown$Slot"
def TX2 : u_T := fun k => match k with
  | _ => ("UpAndDown$Slot", "row", "Ljava/lang/Object;", false)
def tyX2 : Nat → FieldType := fun k => match k with
  | _ => .object "java/lang/Object"
abbrev wsX20 : List Cond := u_ws RX2 TX2 1
theorem nmX2 : ∀ a, a < 1 → ∀ b, b < 1 → a ≠ b → (TX2 a).2.1 ≠ (TX2 b).2.1 := by decide +kernel
theorem tyX2_ok : ∀ k, k < 1 → parseFieldDescriptor (TX2 k).2.2.1 = some (tyX2 k) := by decide +kernel
abbrev cX2_init : ByteArray := prog_14_method_1_code
def yX2_init : MethodName := ⟨RX2, "<init>", "()V"⟩
theorem dX2_init_0 : decode cX2_init 0 = .ok (.aload_n 0, 1) := by decide +kernel
theorem dX2_init_1 : decode cX2_init 1 = .ok (.invokespecial 1, 3) := by decide +kernel
theorem dX2_init_4 : decode cX2_init 4 = .ok (.return_, 1) := by decide +kernel
abbrev cX2_size : ByteArray := prog_14_method_3_code
def yX2_size : MethodName := ⟨RX2, "size", "()I"⟩
def dkwX2_size_3 : List UInt8 := [190, 172]
abbrev dktX2_size_3 : List UInt8 := dkwX2_size_3 ++ []
def dkwX2_size_2 : List UInt8 := [193, 0, 17, 153, 0, 14, 42, 180, 0, 7, 192, 0, 17, 190, 167, 0, 11, 42, 180, 0, 7, 192, 0, 19]
abbrev dktX2_size_2 : List UInt8 := dkwX2_size_2 ++ dktX2_size_3
def dkwX2_size_1 : List UInt8 := [180, 0, 7, 193, 0, 15, 153, 0, 14, 42, 180, 0, 7, 192, 0, 15, 190, 167, 0, 32, 42, 180, 0, 7]
abbrev dktX2_size_1 : List UInt8 := dkwX2_size_1 ++ dktX2_size_2
def dkwX2_size_0 : List UInt8 := [42, 180, 0, 7, 193, 0, 13, 153, 0, 14, 42, 180, 0, 7, 192, 0, 13, 190, 167, 0, 53, 42]
abbrev dktX2_size_0 : List UInt8 := dkwX2_size_0 ++ dktX2_size_1
theorem dksX2_size_0 : cX2_size.data.toList.drop 0 = dktX2_size_0 := by decide +kernel
theorem dksX2_size_1 : cX2_size.data.toList.drop 22 = dktX2_size_1 := dk_seg dksX2_size_0 22 rfl rfl
theorem dksX2_size_2 : cX2_size.data.toList.drop 46 = dktX2_size_2 := dk_seg dksX2_size_1 24 rfl rfl
theorem dksX2_size_3 : cX2_size.data.toList.drop 70 = dktX2_size_3 := dk_seg dksX2_size_2 24 rfl rfl
theorem dX2_size_0 : decode cX2_size 0 = .ok (.aload_n 0, 1) := dk_42 (dk_at dksX2_size_0 0 rfl rfl)
theorem dX2_size_1 : decode cX2_size 1 = .ok (.getfield 7, 3) := dk_180 0 7 (dk_at dksX2_size_0 1 rfl rfl)
theorem dX2_size_4 : decode cX2_size 4 = .ok (.instanceof 13, 3) := dk_193 0 13 (dk_at dksX2_size_0 4 rfl rfl)
theorem dX2_size_7 : decode cX2_size 7 = .ok (.ifCond .eq 14, 3) := dk_153 0 14 (dk_at dksX2_size_0 7 rfl rfl)
theorem dX2_size_10 : decode cX2_size 10 = .ok (.aload_n 0, 1) := dk_42 (dk_at dksX2_size_0 10 rfl rfl)
theorem dX2_size_11 : decode cX2_size 11 = .ok (.getfield 7, 3) := dk_180 0 7 (dk_at dksX2_size_0 11 rfl rfl)
theorem dX2_size_14 : decode cX2_size 14 = .ok (.checkcast 13, 3) := dk_192 0 13 (dk_at dksX2_size_0 14 rfl rfl)
theorem dX2_size_17 : decode cX2_size 17 = .ok (.arraylength, 1) := dk_190 (dk_at dksX2_size_0 17 rfl rfl)
theorem dX2_size_18 : decode cX2_size 18 = .ok (.goto 53, 3) := dk_167 0 53 (dk_at dksX2_size_0 18 rfl rfl)
theorem dX2_size_21 : decode cX2_size 21 = .ok (.aload_n 0, 1) := dk_42 (dk_at dksX2_size_0 21 rfl rfl)
theorem dX2_size_22 : decode cX2_size 22 = .ok (.getfield 7, 3) := dk_180 0 7 (dk_at dksX2_size_1 0 rfl rfl)
theorem dX2_size_25 : decode cX2_size 25 = .ok (.instanceof 15, 3) := dk_193 0 15 (dk_at dksX2_size_1 3 rfl rfl)
theorem dX2_size_28 : decode cX2_size 28 = .ok (.ifCond .eq 14, 3) := dk_153 0 14 (dk_at dksX2_size_1 6 rfl rfl)
theorem dX2_size_31 : decode cX2_size 31 = .ok (.aload_n 0, 1) := dk_42 (dk_at dksX2_size_1 9 rfl rfl)
theorem dX2_size_32 : decode cX2_size 32 = .ok (.getfield 7, 3) := dk_180 0 7 (dk_at dksX2_size_1 10 rfl rfl)
theorem dX2_size_35 : decode cX2_size 35 = .ok (.checkcast 15, 3) := dk_192 0 15 (dk_at dksX2_size_1 13 rfl rfl)
theorem dX2_size_38 : decode cX2_size 38 = .ok (.arraylength, 1) := dk_190 (dk_at dksX2_size_1 16 rfl rfl)
theorem dX2_size_39 : decode cX2_size 39 = .ok (.goto 32, 3) := dk_167 0 32 (dk_at dksX2_size_1 17 rfl rfl)
theorem dX2_size_42 : decode cX2_size 42 = .ok (.aload_n 0, 1) := dk_42 (dk_at dksX2_size_1 20 rfl rfl)
theorem dX2_size_43 : decode cX2_size 43 = .ok (.getfield 7, 3) := dk_180 0 7 (dk_at dksX2_size_1 21 rfl rfl)
theorem dX2_size_46 : decode cX2_size 46 = .ok (.instanceof 17, 3) := dk_193 0 17 (dk_at dksX2_size_2 0 rfl rfl)
theorem dX2_size_49 : decode cX2_size 49 = .ok (.ifCond .eq 14, 3) := dk_153 0 14 (dk_at dksX2_size_2 3 rfl rfl)
theorem dX2_size_52 : decode cX2_size 52 = .ok (.aload_n 0, 1) := dk_42 (dk_at dksX2_size_2 6 rfl rfl)
theorem dX2_size_53 : decode cX2_size 53 = .ok (.getfield 7, 3) := dk_180 0 7 (dk_at dksX2_size_2 7 rfl rfl)
theorem dX2_size_56 : decode cX2_size 56 = .ok (.checkcast 17, 3) := dk_192 0 17 (dk_at dksX2_size_2 10 rfl rfl)
theorem dX2_size_59 : decode cX2_size 59 = .ok (.arraylength, 1) := dk_190 (dk_at dksX2_size_2 13 rfl rfl)
theorem dX2_size_60 : decode cX2_size 60 = .ok (.goto 11, 3) := dk_167 0 11 (dk_at dksX2_size_2 14 rfl rfl)
theorem dX2_size_63 : decode cX2_size 63 = .ok (.aload_n 0, 1) := dk_42 (dk_at dksX2_size_2 17 rfl rfl)
theorem dX2_size_64 : decode cX2_size 64 = .ok (.getfield 7, 3) := dk_180 0 7 (dk_at dksX2_size_2 18 rfl rfl)
theorem dX2_size_67 : decode cX2_size 67 = .ok (.checkcast 19, 3) := dk_192 0 19 (dk_at dksX2_size_2 21 rfl rfl)
theorem dX2_size_70 : decode cX2_size 70 = .ok (.arraylength, 1) := dk_190 (dk_at dksX2_size_3 0 rfl rfl)
theorem dX2_size_71 : decode cX2_size 71 = .ok (.ireturn, 1) := dk_172 (dk_at dksX2_size_3 1 rfl rfl)
abbrev cX2_at : ByteArray := prog_14_method_4_code
def yX2_at : MethodName := ⟨RX2, "at", "(I)J"⟩
def dkwX2_at_3 : List UInt8 := [180, 0, 7, 192, 0, 19, 27, 47, 173]
abbrev dktX2_at_3 : List UInt8 := dkwX2_at_3 ++ []
def dkwX2_at_2 : List UInt8 := [180, 0, 7, 193, 0, 17, 153, 0, 16, 42, 180, 0, 7, 192, 0, 17, 27, 46, 133, 167, 0, 12, 42]
abbrev dktX2_at_2 : List UInt8 := dkwX2_at_2 ++ dktX2_at_3
def dkwX2_at_1 : List UInt8 := [180, 0, 7, 193, 0, 15, 153, 0, 16, 42, 180, 0, 7, 192, 0, 15, 27, 53, 133, 167, 0, 35, 42]
abbrev dktX2_at_1 : List UInt8 := dkwX2_at_1 ++ dktX2_at_2
def dkwX2_at_0 : List UInt8 := [42, 180, 0, 7, 193, 0, 13, 153, 0, 16, 42, 180, 0, 7, 192, 0, 13, 27, 51, 133, 167, 0, 58, 42]
abbrev dktX2_at_0 : List UInt8 := dkwX2_at_0 ++ dktX2_at_1
theorem dksX2_at_0 : cX2_at.data.toList.drop 0 = dktX2_at_0 := by decide +kernel
theorem dksX2_at_1 : cX2_at.data.toList.drop 24 = dktX2_at_1 := dk_seg dksX2_at_0 24 rfl rfl
theorem dksX2_at_2 : cX2_at.data.toList.drop 47 = dktX2_at_2 := dk_seg dksX2_at_1 23 rfl rfl
theorem dksX2_at_3 : cX2_at.data.toList.drop 70 = dktX2_at_3 := dk_seg dksX2_at_2 23 rfl rfl
theorem dX2_at_0 : decode cX2_at 0 = .ok (.aload_n 0, 1) := dk_42 (dk_at dksX2_at_0 0 rfl rfl)
theorem dX2_at_1 : decode cX2_at 1 = .ok (.getfield 7, 3) := dk_180 0 7 (dk_at dksX2_at_0 1 rfl rfl)
theorem dX2_at_4 : decode cX2_at 4 = .ok (.instanceof 13, 3) := dk_193 0 13 (dk_at dksX2_at_0 4 rfl rfl)
theorem dX2_at_7 : decode cX2_at 7 = .ok (.ifCond .eq 16, 3) := dk_153 0 16 (dk_at dksX2_at_0 7 rfl rfl)
theorem dX2_at_10 : decode cX2_at 10 = .ok (.aload_n 0, 1) := dk_42 (dk_at dksX2_at_0 10 rfl rfl)
theorem dX2_at_11 : decode cX2_at 11 = .ok (.getfield 7, 3) := dk_180 0 7 (dk_at dksX2_at_0 11 rfl rfl)
theorem dX2_at_14 : decode cX2_at 14 = .ok (.checkcast 13, 3) := dk_192 0 13 (dk_at dksX2_at_0 14 rfl rfl)
theorem dX2_at_17 : decode cX2_at 17 = .ok (.iload_n 1, 1) := dk_27 (dk_at dksX2_at_0 17 rfl rfl)
theorem dX2_at_18 : decode cX2_at 18 = .ok (.baload, 1) := dk_51 (dk_at dksX2_at_0 18 rfl rfl)
theorem dX2_at_19 : decode cX2_at 19 = .ok (.i2l, 1) := dk_133 (dk_at dksX2_at_0 19 rfl rfl)
theorem dX2_at_20 : decode cX2_at 20 = .ok (.goto 58, 3) := dk_167 0 58 (dk_at dksX2_at_0 20 rfl rfl)
theorem dX2_at_23 : decode cX2_at 23 = .ok (.aload_n 0, 1) := dk_42 (dk_at dksX2_at_0 23 rfl rfl)
theorem dX2_at_24 : decode cX2_at 24 = .ok (.getfield 7, 3) := dk_180 0 7 (dk_at dksX2_at_1 0 rfl rfl)
theorem dX2_at_27 : decode cX2_at 27 = .ok (.instanceof 15, 3) := dk_193 0 15 (dk_at dksX2_at_1 3 rfl rfl)
theorem dX2_at_30 : decode cX2_at 30 = .ok (.ifCond .eq 16, 3) := dk_153 0 16 (dk_at dksX2_at_1 6 rfl rfl)
theorem dX2_at_33 : decode cX2_at 33 = .ok (.aload_n 0, 1) := dk_42 (dk_at dksX2_at_1 9 rfl rfl)
theorem dX2_at_34 : decode cX2_at 34 = .ok (.getfield 7, 3) := dk_180 0 7 (dk_at dksX2_at_1 10 rfl rfl)
theorem dX2_at_37 : decode cX2_at 37 = .ok (.checkcast 15, 3) := dk_192 0 15 (dk_at dksX2_at_1 13 rfl rfl)
theorem dX2_at_40 : decode cX2_at 40 = .ok (.iload_n 1, 1) := dk_27 (dk_at dksX2_at_1 16 rfl rfl)
theorem dX2_at_41 : decode cX2_at 41 = .ok (.saload, 1) := dk_53 (dk_at dksX2_at_1 17 rfl rfl)
theorem dX2_at_42 : decode cX2_at 42 = .ok (.i2l, 1) := dk_133 (dk_at dksX2_at_1 18 rfl rfl)
theorem dX2_at_43 : decode cX2_at 43 = .ok (.goto 35, 3) := dk_167 0 35 (dk_at dksX2_at_1 19 rfl rfl)
theorem dX2_at_46 : decode cX2_at 46 = .ok (.aload_n 0, 1) := dk_42 (dk_at dksX2_at_1 22 rfl rfl)
theorem dX2_at_47 : decode cX2_at 47 = .ok (.getfield 7, 3) := dk_180 0 7 (dk_at dksX2_at_2 0 rfl rfl)
theorem dX2_at_50 : decode cX2_at 50 = .ok (.instanceof 17, 3) := dk_193 0 17 (dk_at dksX2_at_2 3 rfl rfl)
theorem dX2_at_53 : decode cX2_at 53 = .ok (.ifCond .eq 16, 3) := dk_153 0 16 (dk_at dksX2_at_2 6 rfl rfl)
theorem dX2_at_56 : decode cX2_at 56 = .ok (.aload_n 0, 1) := dk_42 (dk_at dksX2_at_2 9 rfl rfl)
theorem dX2_at_57 : decode cX2_at 57 = .ok (.getfield 7, 3) := dk_180 0 7 (dk_at dksX2_at_2 10 rfl rfl)
theorem dX2_at_60 : decode cX2_at 60 = .ok (.checkcast 17, 3) := dk_192 0 17 (dk_at dksX2_at_2 13 rfl rfl)
theorem dX2_at_63 : decode cX2_at 63 = .ok (.iload_n 1, 1) := dk_27 (dk_at dksX2_at_2 16 rfl rfl)
theorem dX2_at_64 : decode cX2_at 64 = .ok (.iaload, 1) := dk_46 (dk_at dksX2_at_2 17 rfl rfl)
theorem dX2_at_65 : decode cX2_at 65 = .ok (.i2l, 1) := dk_133 (dk_at dksX2_at_2 18 rfl rfl)
theorem dX2_at_66 : decode cX2_at 66 = .ok (.goto 12, 3) := dk_167 0 12 (dk_at dksX2_at_2 19 rfl rfl)
theorem dX2_at_69 : decode cX2_at 69 = .ok (.aload_n 0, 1) := dk_42 (dk_at dksX2_at_2 22 rfl rfl)
theorem dX2_at_70 : decode cX2_at 70 = .ok (.getfield 7, 3) := dk_180 0 7 (dk_at dksX2_at_3 0 rfl rfl)
theorem dX2_at_73 : decode cX2_at 73 = .ok (.checkcast 19, 3) := dk_192 0 19 (dk_at dksX2_at_3 3 rfl rfl)
theorem dX2_at_76 : decode cX2_at 76 = .ok (.iload_n 1, 1) := dk_27 (dk_at dksX2_at_3 6 rfl rfl)
theorem dX2_at_77 : decode cX2_at 77 = .ok (.laload, 1) := dk_47 (dk_at dksX2_at_3 7 rfl rfl)
theorem dX2_at_78 : decode cX2_at 78 = .ok (.lreturn, 1) := dk_173 (dk_at dksX2_at_3 8 rfl rfl)
abbrev cX2_make : ByteArray := prog_14_method_2_code
def yX2_make : MethodName := ⟨RX2, "make", "(II)V"⟩
def dkwX2_make_1 : List UInt8 := [160, 0, 9, 28, 188, 10, 167, 0, 6, 28, 188, 11, 181, 0, 7, 177]
abbrev dktX2_make_1 : List UInt8 := dkwX2_make_1 ++ []
def dkwX2_make_0 : List UInt8 := [42, 27, 154, 0, 9, 28, 188, 8, 167, 0, 28, 27, 4, 160, 0, 9, 28, 188, 9, 167, 0, 17, 27, 5]
abbrev dktX2_make_0 : List UInt8 := dkwX2_make_0 ++ dktX2_make_1
theorem dksX2_make_0 : cX2_make.data.toList.drop 0 = dktX2_make_0 := by decide +kernel
theorem dksX2_make_1 : cX2_make.data.toList.drop 24 = dktX2_make_1 := dk_seg dksX2_make_0 24 rfl rfl
theorem dX2_make_0 : decode cX2_make 0 = .ok (.aload_n 0, 1) := dk_42 (dk_at dksX2_make_0 0 rfl rfl)
theorem dX2_make_1 : decode cX2_make 1 = .ok (.iload_n 1, 1) := dk_27 (dk_at dksX2_make_0 1 rfl rfl)
theorem dX2_make_2 : decode cX2_make 2 = .ok (.ifCond .ne 9, 3) := dk_154 0 9 (dk_at dksX2_make_0 2 rfl rfl)
theorem dX2_make_5 : decode cX2_make 5 = .ok (.iload_n 2, 1) := dk_28 (dk_at dksX2_make_0 5 rfl rfl)
theorem dX2_make_6 : decode cX2_make 6 = .ok (.newarray .byte, 2) := dk_188_8 (dk_at dksX2_make_0 6 rfl rfl)
theorem dX2_make_8 : decode cX2_make 8 = .ok (.goto 28, 3) := dk_167 0 28 (dk_at dksX2_make_0 8 rfl rfl)
theorem dX2_make_11 : decode cX2_make 11 = .ok (.iload_n 1, 1) := dk_27 (dk_at dksX2_make_0 11 rfl rfl)
theorem dX2_make_12 : decode cX2_make 12 = .ok (.iconst 1, 1) := dk_4 (dk_at dksX2_make_0 12 rfl rfl)
theorem dX2_make_13 : decode cX2_make 13 = .ok (.if_icmp .ne 9, 3) := dk_160 0 9 (dk_at dksX2_make_0 13 rfl rfl)
theorem dX2_make_16 : decode cX2_make 16 = .ok (.iload_n 2, 1) := dk_28 (dk_at dksX2_make_0 16 rfl rfl)
theorem dX2_make_17 : decode cX2_make 17 = .ok (.newarray .short, 2) := dk_188_9 (dk_at dksX2_make_0 17 rfl rfl)
theorem dX2_make_19 : decode cX2_make 19 = .ok (.goto 17, 3) := dk_167 0 17 (dk_at dksX2_make_0 19 rfl rfl)
theorem dX2_make_22 : decode cX2_make 22 = .ok (.iload_n 1, 1) := dk_27 (dk_at dksX2_make_0 22 rfl rfl)
theorem dX2_make_23 : decode cX2_make 23 = .ok (.iconst 2, 1) := dk_5 (dk_at dksX2_make_0 23 rfl rfl)
theorem dX2_make_24 : decode cX2_make 24 = .ok (.if_icmp .ne 9, 3) := dk_160 0 9 (dk_at dksX2_make_1 0 rfl rfl)
theorem dX2_make_27 : decode cX2_make 27 = .ok (.iload_n 2, 1) := dk_28 (dk_at dksX2_make_1 3 rfl rfl)
theorem dX2_make_28 : decode cX2_make 28 = .ok (.newarray .int, 2) := dk_188_10 (dk_at dksX2_make_1 4 rfl rfl)
theorem dX2_make_30 : decode cX2_make 30 = .ok (.goto 6, 3) := dk_167 0 6 (dk_at dksX2_make_1 6 rfl rfl)
theorem dX2_make_33 : decode cX2_make 33 = .ok (.iload_n 2, 1) := dk_28 (dk_at dksX2_make_1 9 rfl rfl)
theorem dX2_make_34 : decode cX2_make 34 = .ok (.newarray .long, 2) := dk_188_11 (dk_at dksX2_make_1 10 rfl rfl)
theorem dX2_make_36 : decode cX2_make 36 = .ok (.putfield 7, 3) := dk_181 0 7 (dk_at dksX2_make_1 12 rfl rfl)
theorem dX2_make_39 : decode cX2_make 39 = .ok (.return_, 1) := dk_177 (dk_at dksX2_make_1 15 rfl rfl)
abbrev cX2_put : ByteArray := prog_14_method_5_code
def yX2_put : MethodName := ⟨RX2, "put", "(IJ)V"⟩
def dkwX2_put_3 : List UInt8 := [79, 167, 0, 13, 42, 180, 0, 7, 192, 0, 19, 27, 32, 80, 177]
abbrev dktX2_put_3 : List UInt8 := dkwX2_put_3 ++ []
def dkwX2_put_2 : List UInt8 := [86, 167, 0, 37, 42, 180, 0, 7, 193, 0, 17, 153, 0, 17, 42, 180, 0, 7, 192, 0, 17, 27, 32, 136]
abbrev dktX2_put_2 : List UInt8 := dkwX2_put_2 ++ dktX2_put_3
def dkwX2_put_1 : List UInt8 := [167, 0, 62, 42, 180, 0, 7, 193, 0, 15, 153, 0, 18, 42, 180, 0, 7, 192, 0, 15, 27, 32, 136, 147]
abbrev dktX2_put_1 : List UInt8 := dkwX2_put_1 ++ dktX2_put_2
def dkwX2_put_0 : List UInt8 := [42, 180, 0, 7, 193, 0, 13, 153, 0, 18, 42, 180, 0, 7, 192, 0, 13, 27, 32, 136, 145, 84]
abbrev dktX2_put_0 : List UInt8 := dkwX2_put_0 ++ dktX2_put_1
theorem dksX2_put_0 : cX2_put.data.toList.drop 0 = dktX2_put_0 := by decide +kernel
theorem dksX2_put_1 : cX2_put.data.toList.drop 22 = dktX2_put_1 := dk_seg dksX2_put_0 22 rfl rfl
theorem dksX2_put_2 : cX2_put.data.toList.drop 46 = dktX2_put_2 := dk_seg dksX2_put_1 24 rfl rfl
theorem dksX2_put_3 : cX2_put.data.toList.drop 70 = dktX2_put_3 := dk_seg dksX2_put_2 24 rfl rfl
theorem dX2_put_0 : decode cX2_put 0 = .ok (.aload_n 0, 1) := dk_42 (dk_at dksX2_put_0 0 rfl rfl)
theorem dX2_put_1 : decode cX2_put 1 = .ok (.getfield 7, 3) := dk_180 0 7 (dk_at dksX2_put_0 1 rfl rfl)
theorem dX2_put_4 : decode cX2_put 4 = .ok (.instanceof 13, 3) := dk_193 0 13 (dk_at dksX2_put_0 4 rfl rfl)
theorem dX2_put_7 : decode cX2_put 7 = .ok (.ifCond .eq 18, 3) := dk_153 0 18 (dk_at dksX2_put_0 7 rfl rfl)
theorem dX2_put_10 : decode cX2_put 10 = .ok (.aload_n 0, 1) := dk_42 (dk_at dksX2_put_0 10 rfl rfl)
theorem dX2_put_11 : decode cX2_put 11 = .ok (.getfield 7, 3) := dk_180 0 7 (dk_at dksX2_put_0 11 rfl rfl)
theorem dX2_put_14 : decode cX2_put 14 = .ok (.checkcast 13, 3) := dk_192 0 13 (dk_at dksX2_put_0 14 rfl rfl)
theorem dX2_put_17 : decode cX2_put 17 = .ok (.iload_n 1, 1) := dk_27 (dk_at dksX2_put_0 17 rfl rfl)
theorem dX2_put_18 : decode cX2_put 18 = .ok (.lload_n 2, 1) := dk_32 (dk_at dksX2_put_0 18 rfl rfl)
theorem dX2_put_19 : decode cX2_put 19 = .ok (.l2i, 1) := dk_136 (dk_at dksX2_put_0 19 rfl rfl)
theorem dX2_put_20 : decode cX2_put 20 = .ok (.i2b, 1) := dk_145 (dk_at dksX2_put_0 20 rfl rfl)
theorem dX2_put_21 : decode cX2_put 21 = .ok (.bastore, 1) := dk_84 (dk_at dksX2_put_0 21 rfl rfl)
theorem dX2_put_22 : decode cX2_put 22 = .ok (.goto 62, 3) := dk_167 0 62 (dk_at dksX2_put_1 0 rfl rfl)
theorem dX2_put_25 : decode cX2_put 25 = .ok (.aload_n 0, 1) := dk_42 (dk_at dksX2_put_1 3 rfl rfl)
theorem dX2_put_26 : decode cX2_put 26 = .ok (.getfield 7, 3) := dk_180 0 7 (dk_at dksX2_put_1 4 rfl rfl)
theorem dX2_put_29 : decode cX2_put 29 = .ok (.instanceof 15, 3) := dk_193 0 15 (dk_at dksX2_put_1 7 rfl rfl)
theorem dX2_put_32 : decode cX2_put 32 = .ok (.ifCond .eq 18, 3) := dk_153 0 18 (dk_at dksX2_put_1 10 rfl rfl)
theorem dX2_put_35 : decode cX2_put 35 = .ok (.aload_n 0, 1) := dk_42 (dk_at dksX2_put_1 13 rfl rfl)
theorem dX2_put_36 : decode cX2_put 36 = .ok (.getfield 7, 3) := dk_180 0 7 (dk_at dksX2_put_1 14 rfl rfl)
theorem dX2_put_39 : decode cX2_put 39 = .ok (.checkcast 15, 3) := dk_192 0 15 (dk_at dksX2_put_1 17 rfl rfl)
theorem dX2_put_42 : decode cX2_put 42 = .ok (.iload_n 1, 1) := dk_27 (dk_at dksX2_put_1 20 rfl rfl)
theorem dX2_put_43 : decode cX2_put 43 = .ok (.lload_n 2, 1) := dk_32 (dk_at dksX2_put_1 21 rfl rfl)
theorem dX2_put_44 : decode cX2_put 44 = .ok (.l2i, 1) := dk_136 (dk_at dksX2_put_1 22 rfl rfl)
theorem dX2_put_45 : decode cX2_put 45 = .ok (.i2s, 1) := dk_147 (dk_at dksX2_put_1 23 rfl rfl)
theorem dX2_put_46 : decode cX2_put 46 = .ok (.sastore, 1) := dk_86 (dk_at dksX2_put_2 0 rfl rfl)
theorem dX2_put_47 : decode cX2_put 47 = .ok (.goto 37, 3) := dk_167 0 37 (dk_at dksX2_put_2 1 rfl rfl)
theorem dX2_put_50 : decode cX2_put 50 = .ok (.aload_n 0, 1) := dk_42 (dk_at dksX2_put_2 4 rfl rfl)
theorem dX2_put_51 : decode cX2_put 51 = .ok (.getfield 7, 3) := dk_180 0 7 (dk_at dksX2_put_2 5 rfl rfl)
theorem dX2_put_54 : decode cX2_put 54 = .ok (.instanceof 17, 3) := dk_193 0 17 (dk_at dksX2_put_2 8 rfl rfl)
theorem dX2_put_57 : decode cX2_put 57 = .ok (.ifCond .eq 17, 3) := dk_153 0 17 (dk_at dksX2_put_2 11 rfl rfl)
theorem dX2_put_60 : decode cX2_put 60 = .ok (.aload_n 0, 1) := dk_42 (dk_at dksX2_put_2 14 rfl rfl)
theorem dX2_put_61 : decode cX2_put 61 = .ok (.getfield 7, 3) := dk_180 0 7 (dk_at dksX2_put_2 15 rfl rfl)
theorem dX2_put_64 : decode cX2_put 64 = .ok (.checkcast 17, 3) := dk_192 0 17 (dk_at dksX2_put_2 18 rfl rfl)
theorem dX2_put_67 : decode cX2_put 67 = .ok (.iload_n 1, 1) := dk_27 (dk_at dksX2_put_2 21 rfl rfl)
theorem dX2_put_68 : decode cX2_put 68 = .ok (.lload_n 2, 1) := dk_32 (dk_at dksX2_put_2 22 rfl rfl)
theorem dX2_put_69 : decode cX2_put 69 = .ok (.l2i, 1) := dk_136 (dk_at dksX2_put_2 23 rfl rfl)
theorem dX2_put_70 : decode cX2_put 70 = .ok (.iastore, 1) := dk_79 (dk_at dksX2_put_3 0 rfl rfl)
theorem dX2_put_71 : decode cX2_put 71 = .ok (.goto 13, 3) := dk_167 0 13 (dk_at dksX2_put_3 1 rfl rfl)
theorem dX2_put_74 : decode cX2_put 74 = .ok (.aload_n 0, 1) := dk_42 (dk_at dksX2_put_3 4 rfl rfl)
theorem dX2_put_75 : decode cX2_put 75 = .ok (.getfield 7, 3) := dk_180 0 7 (dk_at dksX2_put_3 5 rfl rfl)
theorem dX2_put_78 : decode cX2_put 78 = .ok (.checkcast 19, 3) := dk_192 0 19 (dk_at dksX2_put_3 8 rfl rfl)
theorem dX2_put_81 : decode cX2_put 81 = .ok (.iload_n 1, 1) := dk_27 (dk_at dksX2_put_3 11 rfl rfl)
theorem dX2_put_82 : decode cX2_put 82 = .ok (.lload_n 2, 1) := dk_32 (dk_at dksX2_put_3 12 rfl rfl)
theorem dX2_put_83 : decode cX2_put 83 = .ok (.lastore, 1) := dk_80 (dk_at dksX2_put_3 13 rfl rfl)
theorem dX2_put_84 : decode cX2_put 84 = .ok (.return_, 1) := dk_177 (dk_at dksX2_put_3 14 rfl rfl)
theorem q127 : (Jvm.Cond.initialized "UpAndDown$Slot") ∈ lw_all := lw_g (lw_at lw_m1 6 rfl) rfl
theorem q280 : (Jvm.Cond.instantiable "UpAndDown$Slot" (1 : Nat)) ∈ lw_all := lw_g (lw_at lw_m1 159 rfl) rfl
theorem q282 : (Jvm.Cond.instanceMethod ({ cls := "UpAndDown$Slot", name := "<init>", desc := "()V" } : Jvm.MethodName)) ∈ lw_all := lw_g (lw_at lw_m1 161 rfl) rfl
theorem q283 : (Jvm.Cond.code ({ cls := "UpAndDown$Slot", name := "<init>", desc := "()V" } : Jvm.MethodName) prog_14_method_1_code (1 : Nat) (Option.none : Option Jvm.ClassFile.FieldType)) ∈ lw_all := lw_g (lw_at lw_m1 162 rfl) rfl
theorem q284 : (Jvm.Cond.methodLink "UpAndDown$Slot" (1 : Nat) ({ cls := "java/lang/Object", name := "<init>", desc := "()V" } : Jvm.MethodName)) ∈ lw_all := lw_g (lw_at lw_m1 163 rfl) rfl
theorem q285 : (Jvm.Cond.fieldLink "UpAndDown$Slot" (7 : Nat) "UpAndDown$Slot" "row" "Ljava/lang/Object;") ∈ lw_all := lw_g (lw_at lw_m1 164 rfl) rfl
theorem q287 : (Jvm.Cond.lays "UpAndDown$Slot" "UpAndDown$Slot" "row" "Ljava/lang/Object;") ∈ lw_all := lw_g (lw_at lw_m1 166 rfl) rfl
theorem q288 : (Jvm.Cond.soleField "UpAndDown$Slot" "row") ∈ lw_all := lw_g (lw_at lw_m1 167 rfl) rfl
theorem q289 : (Jvm.Cond.superclass "UpAndDown$Slot" "java/lang/Object") ∈ lw_all := lw_g (lw_at lw_m1 168 rfl) rfl
theorem q867 : (Jvm.Cond.selects "UpAndDown$Slot" ({ cls := "java/lang/Object", name := "getClass", desc := "()Ljava/lang/Class;" } : Jvm.MethodName) ({ cls := "java/lang/Object", name := "getClass", desc := "()Ljava/lang/Class;" } : Jvm.MethodName)) ∈ lw_all := lw_g (lw_at lw_m4 26 rfl) rfl
theorem q1381 : (Jvm.Cond.instanceMethod ({ cls := "UpAndDown$Slot", name := "size", desc := "()I" } : Jvm.MethodName)) ∈ lw_all := lw_g (lw_at lw_m6 60 rfl) rfl
theorem q1382 : (Jvm.Cond.selects "UpAndDown$Slot" ({ cls := "UpAndDown$Slot", name := "size", desc := "()I" } : Jvm.MethodName) ({ cls := "UpAndDown$Slot", name := "size", desc := "()I" } : Jvm.MethodName)) ∈ lw_all := lw_g (lw_at lw_m6 61 rfl) rfl
theorem q1383 : (Jvm.Cond.code ({ cls := "UpAndDown$Slot", name := "size", desc := "()I" } : Jvm.MethodName) prog_14_method_3_code (1 : Nat) (Option.some Jvm.ClassFile.FieldType.int)) ∈ lw_all := lw_g (lw_at lw_m6 62 rfl) rfl
theorem q1384 : (Jvm.Cond.classLink "UpAndDown$Slot" (13 : Nat) "[B") ∈ lw_all := lw_g (lw_at lw_m6 63 rfl) rfl
theorem q1385 : (Jvm.Cond.classLink "UpAndDown$Slot" (15 : Nat) "[S") ∈ lw_all := lw_g (lw_at lw_m6 64 rfl) rfl
theorem q1386 : (Jvm.Cond.classLink "UpAndDown$Slot" (17 : Nat) "[I") ∈ lw_all := lw_g (lw_at lw_m6 65 rfl) rfl
theorem q1387 : (Jvm.Cond.classLink "UpAndDown$Slot" (19 : Nat) "[J") ∈ lw_all := lw_g (lw_at lw_m6 66 rfl) rfl
theorem q1389 : (Jvm.Cond.instanceMethod ({ cls := "UpAndDown$Slot", name := "at", desc := "(I)J" } : Jvm.MethodName)) ∈ lw_all := lw_g (lw_at lw_m6 68 rfl) rfl
theorem q1390 : (Jvm.Cond.selects "UpAndDown$Slot" ({ cls := "UpAndDown$Slot", name := "at", desc := "(I)J" } : Jvm.MethodName) ({ cls := "UpAndDown$Slot", name := "at", desc := "(I)J" } : Jvm.MethodName)) ∈ lw_all := lw_g (lw_at lw_m6 69 rfl) rfl
theorem q1391 : (Jvm.Cond.code ({ cls := "UpAndDown$Slot", name := "at", desc := "(I)J" } : Jvm.MethodName) prog_14_method_4_code (2 : Nat) (Option.some Jvm.ClassFile.FieldType.long)) ∈ lw_all := lw_g (lw_at lw_m6 70 rfl) rfl
theorem q1461 : (Jvm.Cond.instanceMethod ({ cls := "UpAndDown$Slot", name := "make", desc := "(II)V" } : Jvm.MethodName)) ∈ lw_all := lw_g (lw_at lw_m6 140 rfl) rfl
theorem q1462 : (Jvm.Cond.selects "UpAndDown$Slot" ({ cls := "UpAndDown$Slot", name := "make", desc := "(II)V" } : Jvm.MethodName) ({ cls := "UpAndDown$Slot", name := "make", desc := "(II)V" } : Jvm.MethodName)) ∈ lw_all := lw_g (lw_at lw_m6 141 rfl) rfl
theorem q1463 : (Jvm.Cond.code ({ cls := "UpAndDown$Slot", name := "make", desc := "(II)V" } : Jvm.MethodName) prog_14_method_2_code (3 : Nat) (Option.none : Option Jvm.ClassFile.FieldType)) ∈ lw_all := lw_g (lw_at lw_m6 142 rfl) rfl
theorem q1490 : (Jvm.Cond.instanceMethod ({ cls := "UpAndDown$Slot", name := "put", desc := "(IJ)V" } : Jvm.MethodName)) ∈ lw_all := lw_g (lw_at lw_m6 169 rfl) rfl
theorem q1491 : (Jvm.Cond.selects "UpAndDown$Slot" ({ cls := "UpAndDown$Slot", name := "put", desc := "(IJ)V" } : Jvm.MethodName) ({ cls := "UpAndDown$Slot", name := "put", desc := "(IJ)V" } : Jvm.MethodName)) ∈ lw_all := lw_g (lw_at lw_m6 170 rfl) rfl
theorem q1492 : (Jvm.Cond.code ({ cls := "UpAndDown$Slot", name := "put", desc := "(IJ)V" } : Jvm.MethodName) prog_14_method_5_code (4 : Nat) (Option.none : Option Jvm.ClassFile.FieldType)) ∈ lw_all := lw_g (lw_at lw_m6 171 rfl) rfl
theorem q2120 : (Jvm.Cond.castable "UpAndDown$Slot" "java/lang/Object") ∈ lw_tbl := lw_at lw_m9 79 rfl
theorem in_X2 : ∀ w ∈ wsX20, w ∈ lw_all := lw_in wsX20 [287] (by decide +kernel) (by decide +kernel)
/-! UpAndDown$Reader -/
set_option maxRecDepth 100000
def RX4 : String := "UpAndDown$Reader"
def TX4 : u_T := fun k => match k with
  | 0 => ("UpAndDown$Reader", "size", "I", true)
  | 1 => ("UpAndDown$Reader", "table", "LUpAndDown$Table;", true)
  | 2 => ("UpAndDown$Reader", "at", "I", false)
  | 3 => ("UpAndDown$Reader", "from", "I", false)
  | 4 => ("UpAndDown$Reader", "value", "I", false)
  | 5 => ("UpAndDown$Reader", "token", "LUpAndDown$Token;", false)
  | _ => ("UpAndDown$Reader", "this$0", "LUpAndDown;", true)
def tyX4 : Nat → FieldType := fun k => match k with
  | 0 => .int
  | 1 => .object "UpAndDown$Table"
  | 2 => .int
  | 3 => .int
  | 4 => .int
  | 5 => .object "UpAndDown$Token"
  | _ => .object "UpAndDown"
abbrev wsX40 : List Cond := u_ws RX4 TX4 7
theorem nmX4 : ∀ a, a < 7 → ∀ b, b < 7 → a ≠ b → (TX4 a).2.1 ≠ (TX4 b).2.1 := by decide +kernel
theorem tyX4_ok : ∀ k, k < 7 → parseFieldDescriptor (TX4 k).2.2.1 = some (tyX4 k) := by decide +kernel
abbrev cX4_init : ByteArray := prog_12_method_1_code
def yX4_init : MethodName := ⟨RX4, "<init>", "(LUpAndDown;)V"⟩
def dkwX4_init_1 : List UInt8 := [89, 183, 0, 24, 181, 0, 25, 42, 178, 0, 29, 181, 0, 35, 42, 182, 0, 38, 177]
abbrev dktX4_init_1 : List UInt8 := dkwX4_init_1 ++ []
def dkwX4_init_0 : List UInt8 := [42, 43, 181, 0, 3, 42, 183, 0, 9, 42, 42, 180, 0, 3, 180, 0, 15, 181, 0, 19, 42, 187, 0, 22]
abbrev dktX4_init_0 : List UInt8 := dkwX4_init_0 ++ dktX4_init_1
theorem dksX4_init_0 : cX4_init.data.toList.drop 0 = dktX4_init_0 := by decide +kernel
theorem dksX4_init_1 : cX4_init.data.toList.drop 24 = dktX4_init_1 := dk_seg dksX4_init_0 24 rfl rfl
theorem dX4_init_0 : decode cX4_init 0 = .ok (.aload_n 0, 1) := dk_42 (dk_at dksX4_init_0 0 rfl rfl)
theorem dX4_init_1 : decode cX4_init 1 = .ok (.aload_n 1, 1) := dk_43 (dk_at dksX4_init_0 1 rfl rfl)
theorem dX4_init_2 : decode cX4_init 2 = .ok (.putfield 3, 3) := dk_181 0 3 (dk_at dksX4_init_0 2 rfl rfl)
theorem dX4_init_5 : decode cX4_init 5 = .ok (.aload_n 0, 1) := dk_42 (dk_at dksX4_init_0 5 rfl rfl)
theorem dX4_init_6 : decode cX4_init 6 = .ok (.invokespecial 9, 3) := dk_183 0 9 (dk_at dksX4_init_0 6 rfl rfl)
theorem dX4_init_9 : decode cX4_init 9 = .ok (.aload_n 0, 1) := dk_42 (dk_at dksX4_init_0 9 rfl rfl)
theorem dX4_init_10 : decode cX4_init 10 = .ok (.aload_n 0, 1) := dk_42 (dk_at dksX4_init_0 10 rfl rfl)
theorem dX4_init_11 : decode cX4_init 11 = .ok (.getfield 3, 3) := dk_180 0 3 (dk_at dksX4_init_0 11 rfl rfl)
theorem dX4_init_14 : decode cX4_init 14 = .ok (.getfield 15, 3) := dk_180 0 15 (dk_at dksX4_init_0 14 rfl rfl)
theorem dX4_init_17 : decode cX4_init 17 = .ok (.putfield 19, 3) := dk_181 0 19 (dk_at dksX4_init_0 17 rfl rfl)
theorem dX4_init_20 : decode cX4_init 20 = .ok (.aload_n 0, 1) := dk_42 (dk_at dksX4_init_0 20 rfl rfl)
theorem dX4_init_21 : decode cX4_init 21 = .ok (.new 22, 3) := dk_187 0 22 (dk_at dksX4_init_0 21 rfl rfl)
theorem dX4_init_24 : decode cX4_init 24 = .ok (.dup, 1) := dk_89 (dk_at dksX4_init_1 0 rfl rfl)
theorem dX4_init_25 : decode cX4_init 25 = .ok (.invokespecial 24, 3) := dk_183 0 24 (dk_at dksX4_init_1 1 rfl rfl)
theorem dX4_init_28 : decode cX4_init 28 = .ok (.putfield 25, 3) := dk_181 0 25 (dk_at dksX4_init_1 4 rfl rfl)
theorem dX4_init_31 : decode cX4_init 31 = .ok (.aload_n 0, 1) := dk_42 (dk_at dksX4_init_1 7 rfl rfl)
theorem dX4_init_32 : decode cX4_init 32 = .ok (.getstatic 29, 3) := dk_178 0 29 (dk_at dksX4_init_1 8 rfl rfl)
theorem dX4_init_35 : decode cX4_init 35 = .ok (.putfield 35, 3) := dk_181 0 35 (dk_at dksX4_init_1 11 rfl rfl)
theorem dX4_init_38 : decode cX4_init 38 = .ok (.aload_n 0, 1) := dk_42 (dk_at dksX4_init_1 14 rfl rfl)
theorem dX4_init_39 : decode cX4_init 39 = .ok (.invokevirtual 38, 3) := dk_182 0 38 (dk_at dksX4_init_1 15 rfl rfl)
theorem dX4_init_42 : decode cX4_init 42 = .ok (.return_, 1) := dk_177 (dk_at dksX4_init_1 18 rfl rfl)
abbrev cX4_next : ByteArray := prog_12_method_3_code
def yX4_next : MethodName := ⟨RX4, "next", "()V"⟩
def dkwX4_next_10 : List UInt8 := [167, 0, 6, 178, 0, 78, 181, 0, 35, 42, 89, 180, 0, 41, 4, 96, 181, 0, 41, 177]
abbrev dktX4_next_10 : List UInt8 := dkwX4_next_10 ++ []
def dkwX4_next_9 : List UInt8 := [167, 0, 43, 42, 42, 180, 0, 3, 180, 0, 44, 42, 180, 0, 41, 51, 16, 59, 160, 0, 9, 178, 0, 75]
abbrev dktX4_next_9 : List UInt8 := dkwX4_next_9 ++ dktX4_next_10
def dkwX4_next_8 : List UInt8 := [181, 0, 62, 42, 89, 180, 0, 41, 4, 96, 181, 0, 41, 167, 255, 203, 42, 178, 0, 72, 181, 0, 35]
abbrev dktX4_next_8 : List UInt8 := dkwX4_next_8 ++ dktX4_next_9
def dkwX4_next_7 : List UInt8 := [180, 0, 62, 104, 42, 180, 0, 3, 180, 0, 44, 42, 180, 0, 41, 51, 96, 16, 48, 100, 184, 0, 66]
abbrev dktX4_next_7 : List UInt8 := dkwX4_next_7 ++ dktX4_next_8
def dkwX4_next_6 : List UInt8 := [42, 3, 181, 0, 62, 42, 16, 48, 16, 57, 182, 0, 55, 153, 0, 48, 42, 18, 65, 16, 10, 42]
abbrev dktX4_next_6 : List UInt8 := dkwX4_next_6 ++ dktX4_next_7
def dkwX4_next_5 : List UInt8 := [167, 255, 235, 42, 178, 0, 59, 181, 0, 35, 167, 0, 125, 42, 16, 48, 16, 57, 182, 0, 55, 153, 0, 74]
abbrev dktX4_next_5 : List UInt8 := dkwX4_next_5 ++ dktX4_next_6
def dkwX4_next_4 : List UInt8 := [153, 0, 37, 42, 16, 97, 16, 122, 182, 0, 55, 153, 0, 16, 42, 89, 180, 0, 41, 4, 96, 181, 0, 41]
abbrev dktX4_next_4 : List UInt8 := dkwX4_next_4 ++ dktX4_next_5
def dkwX4_next_3 : List UInt8 := [180, 0, 19, 160, 0, 13, 42, 178, 0, 29, 181, 0, 35, 167, 0, 170, 42, 16, 97, 16, 122, 182, 0, 55]
abbrev dktX4_next_3 : List UInt8 := dkwX4_next_3 ++ dktX4_next_4
def dkwX4_next_2 : List UInt8 := [180, 0, 41, 4, 96, 181, 0, 41, 167, 255, 201, 42, 42, 180, 0, 41, 181, 0, 52, 42, 180, 0, 41, 42]
abbrev dktX4_next_2 : List UInt8 := dkwX4_next_2 ++ dktX4_next_3
def dkwX4_next_1 : List UInt8 := [16, 32, 159, 0, 20, 42, 180, 0, 3, 180, 0, 44, 42, 180, 0, 41, 51, 16, 10, 160, 0, 16, 42, 89]
abbrev dktX4_next_1 : List UInt8 := dkwX4_next_1 ++ dktX4_next_2
def dkwX4_next_0 : List UInt8 := [42, 180, 0, 41, 42, 180, 0, 19, 162, 0, 50, 42, 180, 0, 3, 180, 0, 44, 42, 180, 0, 41, 51]
abbrev dktX4_next_0 : List UInt8 := dkwX4_next_0 ++ dktX4_next_1
theorem dksX4_next_0 : cX4_next.data.toList.drop 0 = dktX4_next_0 := by decide +kernel
theorem dksX4_next_1 : cX4_next.data.toList.drop 23 = dktX4_next_1 := dk_seg dksX4_next_0 23 rfl rfl
theorem dksX4_next_2 : cX4_next.data.toList.drop 47 = dktX4_next_2 := dk_seg dksX4_next_1 24 rfl rfl
theorem dksX4_next_3 : cX4_next.data.toList.drop 71 = dktX4_next_3 := dk_seg dksX4_next_2 24 rfl rfl
theorem dksX4_next_4 : cX4_next.data.toList.drop 95 = dktX4_next_4 := dk_seg dksX4_next_3 24 rfl rfl
theorem dksX4_next_5 : cX4_next.data.toList.drop 119 = dktX4_next_5 := dk_seg dksX4_next_4 24 rfl rfl
theorem dksX4_next_6 : cX4_next.data.toList.drop 143 = dktX4_next_6 := dk_seg dksX4_next_5 24 rfl rfl
theorem dksX4_next_7 : cX4_next.data.toList.drop 165 = dktX4_next_7 := dk_seg dksX4_next_6 22 rfl rfl
theorem dksX4_next_8 : cX4_next.data.toList.drop 188 = dktX4_next_8 := dk_seg dksX4_next_7 23 rfl rfl
theorem dksX4_next_9 : cX4_next.data.toList.drop 211 = dktX4_next_9 := dk_seg dksX4_next_8 23 rfl rfl
theorem dksX4_next_10 : cX4_next.data.toList.drop 235 = dktX4_next_10 := dk_seg dksX4_next_9 24 rfl rfl
theorem dX4_next_0 : decode cX4_next 0 = .ok (.aload_n 0, 1) := dk_42 (dk_at dksX4_next_0 0 rfl rfl)
theorem dX4_next_1 : decode cX4_next 1 = .ok (.getfield 41, 3) := dk_180 0 41 (dk_at dksX4_next_0 1 rfl rfl)
theorem dX4_next_4 : decode cX4_next 4 = .ok (.aload_n 0, 1) := dk_42 (dk_at dksX4_next_0 4 rfl rfl)
theorem dX4_next_5 : decode cX4_next 5 = .ok (.getfield 19, 3) := dk_180 0 19 (dk_at dksX4_next_0 5 rfl rfl)
theorem dX4_next_8 : decode cX4_next 8 = .ok (.if_icmp .ge 50, 3) := dk_162 0 50 (dk_at dksX4_next_0 8 rfl rfl)
theorem dX4_next_11 : decode cX4_next 11 = .ok (.aload_n 0, 1) := dk_42 (dk_at dksX4_next_0 11 rfl rfl)
theorem dX4_next_12 : decode cX4_next 12 = .ok (.getfield 3, 3) := dk_180 0 3 (dk_at dksX4_next_0 12 rfl rfl)
theorem dX4_next_15 : decode cX4_next 15 = .ok (.getfield 44, 3) := dk_180 0 44 (dk_at dksX4_next_0 15 rfl rfl)
theorem dX4_next_18 : decode cX4_next 18 = .ok (.aload_n 0, 1) := dk_42 (dk_at dksX4_next_0 18 rfl rfl)
theorem dX4_next_19 : decode cX4_next 19 = .ok (.getfield 41, 3) := dk_180 0 41 (dk_at dksX4_next_0 19 rfl rfl)
theorem dX4_next_22 : decode cX4_next 22 = .ok (.baload, 1) := dk_51 (dk_at dksX4_next_0 22 rfl rfl)
theorem dX4_next_23 : decode cX4_next 23 = .ok (.bipush 32, 2) := dk_16 32 (dk_at dksX4_next_1 0 rfl rfl)
theorem dX4_next_25 : decode cX4_next 25 = .ok (.if_icmp .eq 20, 3) := dk_159 0 20 (dk_at dksX4_next_1 2 rfl rfl)
theorem dX4_next_28 : decode cX4_next 28 = .ok (.aload_n 0, 1) := dk_42 (dk_at dksX4_next_1 5 rfl rfl)
theorem dX4_next_29 : decode cX4_next 29 = .ok (.getfield 3, 3) := dk_180 0 3 (dk_at dksX4_next_1 6 rfl rfl)
theorem dX4_next_32 : decode cX4_next 32 = .ok (.getfield 44, 3) := dk_180 0 44 (dk_at dksX4_next_1 9 rfl rfl)
theorem dX4_next_35 : decode cX4_next 35 = .ok (.aload_n 0, 1) := dk_42 (dk_at dksX4_next_1 12 rfl rfl)
theorem dX4_next_36 : decode cX4_next 36 = .ok (.getfield 41, 3) := dk_180 0 41 (dk_at dksX4_next_1 13 rfl rfl)
theorem dX4_next_39 : decode cX4_next 39 = .ok (.baload, 1) := dk_51 (dk_at dksX4_next_1 16 rfl rfl)
theorem dX4_next_40 : decode cX4_next 40 = .ok (.bipush 10, 2) := dk_16 10 (dk_at dksX4_next_1 17 rfl rfl)
theorem dX4_next_42 : decode cX4_next 42 = .ok (.if_icmp .ne 16, 3) := dk_160 0 16 (dk_at dksX4_next_1 19 rfl rfl)
theorem dX4_next_45 : decode cX4_next 45 = .ok (.aload_n 0, 1) := dk_42 (dk_at dksX4_next_1 22 rfl rfl)
theorem dX4_next_46 : decode cX4_next 46 = .ok (.dup, 1) := dk_89 (dk_at dksX4_next_1 23 rfl rfl)
theorem dX4_next_47 : decode cX4_next 47 = .ok (.getfield 41, 3) := dk_180 0 41 (dk_at dksX4_next_2 0 rfl rfl)
theorem dX4_next_50 : decode cX4_next 50 = .ok (.iconst 1, 1) := dk_4 (dk_at dksX4_next_2 3 rfl rfl)
theorem dX4_next_51 : decode cX4_next 51 = .ok (.iadd, 1) := dk_96 (dk_at dksX4_next_2 4 rfl rfl)
theorem dX4_next_52 : decode cX4_next 52 = .ok (.putfield 41, 3) := dk_181 0 41 (dk_at dksX4_next_2 5 rfl rfl)
theorem dX4_next_55 : decode cX4_next 55 = .ok (.goto (-55), 3) := dk_167 255 201 (dk_at dksX4_next_2 8 rfl rfl)
theorem dX4_next_58 : decode cX4_next 58 = .ok (.aload_n 0, 1) := dk_42 (dk_at dksX4_next_2 11 rfl rfl)
theorem dX4_next_59 : decode cX4_next 59 = .ok (.aload_n 0, 1) := dk_42 (dk_at dksX4_next_2 12 rfl rfl)
theorem dX4_next_60 : decode cX4_next 60 = .ok (.getfield 41, 3) := dk_180 0 41 (dk_at dksX4_next_2 13 rfl rfl)
theorem dX4_next_63 : decode cX4_next 63 = .ok (.putfield 52, 3) := dk_181 0 52 (dk_at dksX4_next_2 16 rfl rfl)
theorem dX4_next_66 : decode cX4_next 66 = .ok (.aload_n 0, 1) := dk_42 (dk_at dksX4_next_2 19 rfl rfl)
theorem dX4_next_67 : decode cX4_next 67 = .ok (.getfield 41, 3) := dk_180 0 41 (dk_at dksX4_next_2 20 rfl rfl)
theorem dX4_next_70 : decode cX4_next 70 = .ok (.aload_n 0, 1) := dk_42 (dk_at dksX4_next_2 23 rfl rfl)
theorem dX4_next_71 : decode cX4_next 71 = .ok (.getfield 19, 3) := dk_180 0 19 (dk_at dksX4_next_3 0 rfl rfl)
theorem dX4_next_74 : decode cX4_next 74 = .ok (.if_icmp .ne 13, 3) := dk_160 0 13 (dk_at dksX4_next_3 3 rfl rfl)
theorem dX4_next_77 : decode cX4_next 77 = .ok (.aload_n 0, 1) := dk_42 (dk_at dksX4_next_3 6 rfl rfl)
theorem dX4_next_78 : decode cX4_next 78 = .ok (.getstatic 29, 3) := dk_178 0 29 (dk_at dksX4_next_3 7 rfl rfl)
theorem dX4_next_81 : decode cX4_next 81 = .ok (.putfield 35, 3) := dk_181 0 35 (dk_at dksX4_next_3 10 rfl rfl)
theorem dX4_next_84 : decode cX4_next 84 = .ok (.goto 170, 3) := dk_167 0 170 (dk_at dksX4_next_3 13 rfl rfl)
theorem dX4_next_87 : decode cX4_next 87 = .ok (.aload_n 0, 1) := dk_42 (dk_at dksX4_next_3 16 rfl rfl)
theorem dX4_next_88 : decode cX4_next 88 = .ok (.bipush 97, 2) := dk_16 97 (dk_at dksX4_next_3 17 rfl rfl)
theorem dX4_next_90 : decode cX4_next 90 = .ok (.bipush 122, 2) := dk_16 122 (dk_at dksX4_next_3 19 rfl rfl)
theorem dX4_next_92 : decode cX4_next 92 = .ok (.invokevirtual 55, 3) := dk_182 0 55 (dk_at dksX4_next_3 21 rfl rfl)
theorem dX4_next_95 : decode cX4_next 95 = .ok (.ifCond .eq 37, 3) := dk_153 0 37 (dk_at dksX4_next_4 0 rfl rfl)
theorem dX4_next_98 : decode cX4_next 98 = .ok (.aload_n 0, 1) := dk_42 (dk_at dksX4_next_4 3 rfl rfl)
theorem dX4_next_99 : decode cX4_next 99 = .ok (.bipush 97, 2) := dk_16 97 (dk_at dksX4_next_4 4 rfl rfl)
theorem dX4_next_101 : decode cX4_next 101 = .ok (.bipush 122, 2) := dk_16 122 (dk_at dksX4_next_4 6 rfl rfl)
theorem dX4_next_103 : decode cX4_next 103 = .ok (.invokevirtual 55, 3) := dk_182 0 55 (dk_at dksX4_next_4 8 rfl rfl)
theorem dX4_next_106 : decode cX4_next 106 = .ok (.ifCond .eq 16, 3) := dk_153 0 16 (dk_at dksX4_next_4 11 rfl rfl)
theorem dX4_next_109 : decode cX4_next 109 = .ok (.aload_n 0, 1) := dk_42 (dk_at dksX4_next_4 14 rfl rfl)
theorem dX4_next_110 : decode cX4_next 110 = .ok (.dup, 1) := dk_89 (dk_at dksX4_next_4 15 rfl rfl)
theorem dX4_next_111 : decode cX4_next 111 = .ok (.getfield 41, 3) := dk_180 0 41 (dk_at dksX4_next_4 16 rfl rfl)
theorem dX4_next_114 : decode cX4_next 114 = .ok (.iconst 1, 1) := dk_4 (dk_at dksX4_next_4 19 rfl rfl)
theorem dX4_next_115 : decode cX4_next 115 = .ok (.iadd, 1) := dk_96 (dk_at dksX4_next_4 20 rfl rfl)
theorem dX4_next_116 : decode cX4_next 116 = .ok (.putfield 41, 3) := dk_181 0 41 (dk_at dksX4_next_4 21 rfl rfl)
theorem dX4_next_119 : decode cX4_next 119 = .ok (.goto (-21), 3) := dk_167 255 235 (dk_at dksX4_next_5 0 rfl rfl)
theorem dX4_next_122 : decode cX4_next 122 = .ok (.aload_n 0, 1) := dk_42 (dk_at dksX4_next_5 3 rfl rfl)
theorem dX4_next_123 : decode cX4_next 123 = .ok (.getstatic 59, 3) := dk_178 0 59 (dk_at dksX4_next_5 4 rfl rfl)
theorem dX4_next_126 : decode cX4_next 126 = .ok (.putfield 35, 3) := dk_181 0 35 (dk_at dksX4_next_5 7 rfl rfl)
theorem dX4_next_129 : decode cX4_next 129 = .ok (.goto 125, 3) := dk_167 0 125 (dk_at dksX4_next_5 10 rfl rfl)
theorem dX4_next_132 : decode cX4_next 132 = .ok (.aload_n 0, 1) := dk_42 (dk_at dksX4_next_5 13 rfl rfl)
theorem dX4_next_133 : decode cX4_next 133 = .ok (.bipush 48, 2) := dk_16 48 (dk_at dksX4_next_5 14 rfl rfl)
theorem dX4_next_135 : decode cX4_next 135 = .ok (.bipush 57, 2) := dk_16 57 (dk_at dksX4_next_5 16 rfl rfl)
theorem dX4_next_137 : decode cX4_next 137 = .ok (.invokevirtual 55, 3) := dk_182 0 55 (dk_at dksX4_next_5 18 rfl rfl)
theorem dX4_next_140 : decode cX4_next 140 = .ok (.ifCond .eq 74, 3) := dk_153 0 74 (dk_at dksX4_next_5 21 rfl rfl)
theorem dX4_next_143 : decode cX4_next 143 = .ok (.aload_n 0, 1) := dk_42 (dk_at dksX4_next_6 0 rfl rfl)
theorem dX4_next_144 : decode cX4_next 144 = .ok (.iconst 0, 1) := dk_3 (dk_at dksX4_next_6 1 rfl rfl)
theorem dX4_next_145 : decode cX4_next 145 = .ok (.putfield 62, 3) := dk_181 0 62 (dk_at dksX4_next_6 2 rfl rfl)
theorem dX4_next_148 : decode cX4_next 148 = .ok (.aload_n 0, 1) := dk_42 (dk_at dksX4_next_6 5 rfl rfl)
theorem dX4_next_149 : decode cX4_next 149 = .ok (.bipush 48, 2) := dk_16 48 (dk_at dksX4_next_6 6 rfl rfl)
theorem dX4_next_151 : decode cX4_next 151 = .ok (.bipush 57, 2) := dk_16 57 (dk_at dksX4_next_6 8 rfl rfl)
theorem dX4_next_153 : decode cX4_next 153 = .ok (.invokevirtual 55, 3) := dk_182 0 55 (dk_at dksX4_next_6 10 rfl rfl)
theorem dX4_next_156 : decode cX4_next 156 = .ok (.ifCond .eq 48, 3) := dk_153 0 48 (dk_at dksX4_next_6 13 rfl rfl)
theorem dX4_next_159 : decode cX4_next 159 = .ok (.aload_n 0, 1) := dk_42 (dk_at dksX4_next_6 16 rfl rfl)
theorem dX4_next_160 : decode cX4_next 160 = .ok (.ldc 65, 2) := dk_18 65 (dk_at dksX4_next_6 17 rfl rfl)
theorem dX4_next_162 : decode cX4_next 162 = .ok (.bipush 10, 2) := dk_16 10 (dk_at dksX4_next_6 19 rfl rfl)
theorem dX4_next_164 : decode cX4_next 164 = .ok (.aload_n 0, 1) := dk_42 (dk_at dksX4_next_6 21 rfl rfl)
theorem dX4_next_165 : decode cX4_next 165 = .ok (.getfield 62, 3) := dk_180 0 62 (dk_at dksX4_next_7 0 rfl rfl)
theorem dX4_next_168 : decode cX4_next 168 = .ok (.imul, 1) := dk_104 (dk_at dksX4_next_7 3 rfl rfl)
theorem dX4_next_169 : decode cX4_next 169 = .ok (.aload_n 0, 1) := dk_42 (dk_at dksX4_next_7 4 rfl rfl)
theorem dX4_next_170 : decode cX4_next 170 = .ok (.getfield 3, 3) := dk_180 0 3 (dk_at dksX4_next_7 5 rfl rfl)
theorem dX4_next_173 : decode cX4_next 173 = .ok (.getfield 44, 3) := dk_180 0 44 (dk_at dksX4_next_7 8 rfl rfl)
theorem dX4_next_176 : decode cX4_next 176 = .ok (.aload_n 0, 1) := dk_42 (dk_at dksX4_next_7 11 rfl rfl)
theorem dX4_next_177 : decode cX4_next 177 = .ok (.getfield 41, 3) := dk_180 0 41 (dk_at dksX4_next_7 12 rfl rfl)
theorem dX4_next_180 : decode cX4_next 180 = .ok (.baload, 1) := dk_51 (dk_at dksX4_next_7 15 rfl rfl)
theorem dX4_next_181 : decode cX4_next 181 = .ok (.iadd, 1) := dk_96 (dk_at dksX4_next_7 16 rfl rfl)
theorem dX4_next_182 : decode cX4_next 182 = .ok (.bipush 48, 2) := dk_16 48 (dk_at dksX4_next_7 17 rfl rfl)
theorem dX4_next_184 : decode cX4_next 184 = .ok (.isub, 1) := dk_100 (dk_at dksX4_next_7 19 rfl rfl)
theorem dX4_next_185 : decode cX4_next 185 = .ok (.invokestatic 66, 3) := dk_184 0 66 (dk_at dksX4_next_7 20 rfl rfl)
theorem dX4_next_188 : decode cX4_next 188 = .ok (.putfield 62, 3) := dk_181 0 62 (dk_at dksX4_next_8 0 rfl rfl)
theorem dX4_next_191 : decode cX4_next 191 = .ok (.aload_n 0, 1) := dk_42 (dk_at dksX4_next_8 3 rfl rfl)
theorem dX4_next_192 : decode cX4_next 192 = .ok (.dup, 1) := dk_89 (dk_at dksX4_next_8 4 rfl rfl)
theorem dX4_next_193 : decode cX4_next 193 = .ok (.getfield 41, 3) := dk_180 0 41 (dk_at dksX4_next_8 5 rfl rfl)
theorem dX4_next_196 : decode cX4_next 196 = .ok (.iconst 1, 1) := dk_4 (dk_at dksX4_next_8 8 rfl rfl)
theorem dX4_next_197 : decode cX4_next 197 = .ok (.iadd, 1) := dk_96 (dk_at dksX4_next_8 9 rfl rfl)
theorem dX4_next_198 : decode cX4_next 198 = .ok (.putfield 41, 3) := dk_181 0 41 (dk_at dksX4_next_8 10 rfl rfl)
theorem dX4_next_201 : decode cX4_next 201 = .ok (.goto (-53), 3) := dk_167 255 203 (dk_at dksX4_next_8 13 rfl rfl)
theorem dX4_next_204 : decode cX4_next 204 = .ok (.aload_n 0, 1) := dk_42 (dk_at dksX4_next_8 16 rfl rfl)
theorem dX4_next_205 : decode cX4_next 205 = .ok (.getstatic 72, 3) := dk_178 0 72 (dk_at dksX4_next_8 17 rfl rfl)
theorem dX4_next_208 : decode cX4_next 208 = .ok (.putfield 35, 3) := dk_181 0 35 (dk_at dksX4_next_8 20 rfl rfl)
theorem dX4_next_211 : decode cX4_next 211 = .ok (.goto 43, 3) := dk_167 0 43 (dk_at dksX4_next_9 0 rfl rfl)
theorem dX4_next_214 : decode cX4_next 214 = .ok (.aload_n 0, 1) := dk_42 (dk_at dksX4_next_9 3 rfl rfl)
theorem dX4_next_215 : decode cX4_next 215 = .ok (.aload_n 0, 1) := dk_42 (dk_at dksX4_next_9 4 rfl rfl)
theorem dX4_next_216 : decode cX4_next 216 = .ok (.getfield 3, 3) := dk_180 0 3 (dk_at dksX4_next_9 5 rfl rfl)
theorem dX4_next_219 : decode cX4_next 219 = .ok (.getfield 44, 3) := dk_180 0 44 (dk_at dksX4_next_9 8 rfl rfl)
theorem dX4_next_222 : decode cX4_next 222 = .ok (.aload_n 0, 1) := dk_42 (dk_at dksX4_next_9 11 rfl rfl)
theorem dX4_next_223 : decode cX4_next 223 = .ok (.getfield 41, 3) := dk_180 0 41 (dk_at dksX4_next_9 12 rfl rfl)
theorem dX4_next_226 : decode cX4_next 226 = .ok (.baload, 1) := dk_51 (dk_at dksX4_next_9 15 rfl rfl)
theorem dX4_next_227 : decode cX4_next 227 = .ok (.bipush 59, 2) := dk_16 59 (dk_at dksX4_next_9 16 rfl rfl)
theorem dX4_next_229 : decode cX4_next 229 = .ok (.if_icmp .ne 9, 3) := dk_160 0 9 (dk_at dksX4_next_9 18 rfl rfl)
theorem dX4_next_232 : decode cX4_next 232 = .ok (.getstatic 75, 3) := dk_178 0 75 (dk_at dksX4_next_9 21 rfl rfl)
theorem dX4_next_235 : decode cX4_next 235 = .ok (.goto 6, 3) := dk_167 0 6 (dk_at dksX4_next_10 0 rfl rfl)
theorem dX4_next_238 : decode cX4_next 238 = .ok (.getstatic 78, 3) := dk_178 0 78 (dk_at dksX4_next_10 3 rfl rfl)
theorem dX4_next_241 : decode cX4_next 241 = .ok (.putfield 35, 3) := dk_181 0 35 (dk_at dksX4_next_10 6 rfl rfl)
theorem dX4_next_244 : decode cX4_next 244 = .ok (.aload_n 0, 1) := dk_42 (dk_at dksX4_next_10 9 rfl rfl)
theorem dX4_next_245 : decode cX4_next 245 = .ok (.dup, 1) := dk_89 (dk_at dksX4_next_10 10 rfl rfl)
theorem dX4_next_246 : decode cX4_next 246 = .ok (.getfield 41, 3) := dk_180 0 41 (dk_at dksX4_next_10 11 rfl rfl)
theorem dX4_next_249 : decode cX4_next 249 = .ok (.iconst 1, 1) := dk_4 (dk_at dksX4_next_10 14 rfl rfl)
theorem dX4_next_250 : decode cX4_next 250 = .ok (.iadd, 1) := dk_96 (dk_at dksX4_next_10 15 rfl rfl)
theorem dX4_next_251 : decode cX4_next 251 = .ok (.putfield 41, 3) := dk_181 0 41 (dk_at dksX4_next_10 16 rfl rfl)
theorem dX4_next_254 : decode cX4_next 254 = .ok (.return_, 1) := dk_177 (dk_at dksX4_next_10 19 rfl rfl)
abbrev cX4_isNext : ByteArray := prog_12_method_2_code
def yX4_isNext : MethodName := ⟨RX4, "isNext", "(II)Z"⟩
def dkwX4_isNext_1 : List UInt8 := [27, 133, 28, 133, 184, 0, 48, 153, 0, 7, 4, 167, 0, 4, 3, 172]
abbrev dktX4_isNext_1 : List UInt8 := dkwX4_isNext_1 ++ []
def dkwX4_isNext_0 : List UInt8 := [42, 180, 0, 41, 42, 180, 0, 19, 162, 0, 30, 42, 180, 0, 3, 180, 0, 44, 42, 180, 0, 41, 51, 133]
abbrev dktX4_isNext_0 : List UInt8 := dkwX4_isNext_0 ++ dktX4_isNext_1
theorem dksX4_isNext_0 : cX4_isNext.data.toList.drop 0 = dktX4_isNext_0 := by decide +kernel
theorem dksX4_isNext_1 : cX4_isNext.data.toList.drop 24 = dktX4_isNext_1 := dk_seg dksX4_isNext_0 24 rfl rfl
theorem dX4_isNext_0 : decode cX4_isNext 0 = .ok (.aload_n 0, 1) := dk_42 (dk_at dksX4_isNext_0 0 rfl rfl)
theorem dX4_isNext_1 : decode cX4_isNext 1 = .ok (.getfield 41, 3) := dk_180 0 41 (dk_at dksX4_isNext_0 1 rfl rfl)
theorem dX4_isNext_4 : decode cX4_isNext 4 = .ok (.aload_n 0, 1) := dk_42 (dk_at dksX4_isNext_0 4 rfl rfl)
theorem dX4_isNext_5 : decode cX4_isNext 5 = .ok (.getfield 19, 3) := dk_180 0 19 (dk_at dksX4_isNext_0 5 rfl rfl)
theorem dX4_isNext_8 : decode cX4_isNext 8 = .ok (.if_icmp .ge 30, 3) := dk_162 0 30 (dk_at dksX4_isNext_0 8 rfl rfl)
theorem dX4_isNext_11 : decode cX4_isNext 11 = .ok (.aload_n 0, 1) := dk_42 (dk_at dksX4_isNext_0 11 rfl rfl)
theorem dX4_isNext_12 : decode cX4_isNext 12 = .ok (.getfield 3, 3) := dk_180 0 3 (dk_at dksX4_isNext_0 12 rfl rfl)
theorem dX4_isNext_15 : decode cX4_isNext 15 = .ok (.getfield 44, 3) := dk_180 0 44 (dk_at dksX4_isNext_0 15 rfl rfl)
theorem dX4_isNext_18 : decode cX4_isNext 18 = .ok (.aload_n 0, 1) := dk_42 (dk_at dksX4_isNext_0 18 rfl rfl)
theorem dX4_isNext_19 : decode cX4_isNext 19 = .ok (.getfield 41, 3) := dk_180 0 41 (dk_at dksX4_isNext_0 19 rfl rfl)
theorem dX4_isNext_22 : decode cX4_isNext 22 = .ok (.baload, 1) := dk_51 (dk_at dksX4_isNext_0 22 rfl rfl)
theorem dX4_isNext_23 : decode cX4_isNext 23 = .ok (.i2l, 1) := dk_133 (dk_at dksX4_isNext_0 23 rfl rfl)
theorem dX4_isNext_24 : decode cX4_isNext 24 = .ok (.iload_n 1, 1) := dk_27 (dk_at dksX4_isNext_1 0 rfl rfl)
theorem dX4_isNext_25 : decode cX4_isNext 25 = .ok (.i2l, 1) := dk_133 (dk_at dksX4_isNext_1 1 rfl rfl)
theorem dX4_isNext_26 : decode cX4_isNext 26 = .ok (.iload_n 2, 1) := dk_28 (dk_at dksX4_isNext_1 2 rfl rfl)
theorem dX4_isNext_27 : decode cX4_isNext 27 = .ok (.i2l, 1) := dk_133 (dk_at dksX4_isNext_1 3 rfl rfl)
theorem dX4_isNext_28 : decode cX4_isNext 28 = .ok (.invokestatic 48, 3) := dk_184 0 48 (dk_at dksX4_isNext_1 4 rfl rfl)
theorem dX4_isNext_31 : decode cX4_isNext 31 = .ok (.ifCond .eq 7, 3) := dk_153 0 7 (dk_at dksX4_isNext_1 7 rfl rfl)
theorem dX4_isNext_34 : decode cX4_isNext 34 = .ok (.iconst 1, 1) := dk_4 (dk_at dksX4_isNext_1 10 rfl rfl)
theorem dX4_isNext_35 : decode cX4_isNext 35 = .ok (.goto 4, 3) := dk_167 0 4 (dk_at dksX4_isNext_1 11 rfl rfl)
theorem dX4_isNext_38 : decode cX4_isNext 38 = .ok (.iconst 0, 1) := dk_3 (dk_at dksX4_isNext_1 14 rfl rfl)
theorem dX4_isNext_39 : decode cX4_isNext 39 = .ok (.ireturn, 1) := dk_172 (dk_at dksX4_isNext_1 15 rfl rfl)
abbrev cX4_read : ByteArray := prog_12_method_17_code
def yX4_read : MethodName := ⟨RX4, "read", "()LUpAndDown$Table;"⟩
def dkwX4_read_2 : List UInt8 := [182, 0, 38, 42, 180, 0, 25, 89, 180, 0, 187, 4, 96, 181, 0, 187, 167, 255, 192, 42, 180, 0, 25, 176]
abbrev dktX4_read_2 : List UInt8 := dkwX4_read_2 ++ []
def dkwX4_read_1 : List UInt8 := [167, 0, 7, 42, 182, 0, 193, 42, 180, 0, 35, 178, 0, 75, 165, 0, 9, 42, 4, 182, 0, 103, 191, 42]
abbrev dktX4_read_1 : List UInt8 := dkwX4_read_1 ++ dktX4_read_2
def dkwX4_read_0 : List UInt8 := [42, 180, 0, 35, 178, 0, 29, 165, 0, 60, 42, 180, 0, 25, 180, 0, 187, 154, 0, 10, 42, 182, 0, 190]
abbrev dktX4_read_0 : List UInt8 := dkwX4_read_0 ++ dktX4_read_1
theorem dksX4_read_0 : cX4_read.data.toList.drop 0 = dktX4_read_0 := by decide +kernel
theorem dksX4_read_1 : cX4_read.data.toList.drop 24 = dktX4_read_1 := dk_seg dksX4_read_0 24 rfl rfl
theorem dksX4_read_2 : cX4_read.data.toList.drop 48 = dktX4_read_2 := dk_seg dksX4_read_1 24 rfl rfl
theorem dX4_read_0 : decode cX4_read 0 = .ok (.aload_n 0, 1) := dk_42 (dk_at dksX4_read_0 0 rfl rfl)
theorem dX4_read_1 : decode cX4_read 1 = .ok (.getfield 35, 3) := dk_180 0 35 (dk_at dksX4_read_0 1 rfl rfl)
theorem dX4_read_4 : decode cX4_read 4 = .ok (.getstatic 29, 3) := dk_178 0 29 (dk_at dksX4_read_0 4 rfl rfl)
theorem dX4_read_7 : decode cX4_read 7 = .ok (.if_acmp .eq 60, 3) := dk_165 0 60 (dk_at dksX4_read_0 7 rfl rfl)
theorem dX4_read_10 : decode cX4_read 10 = .ok (.aload_n 0, 1) := dk_42 (dk_at dksX4_read_0 10 rfl rfl)
theorem dX4_read_11 : decode cX4_read 11 = .ok (.getfield 25, 3) := dk_180 0 25 (dk_at dksX4_read_0 11 rfl rfl)
theorem dX4_read_14 : decode cX4_read 14 = .ok (.getfield 187, 3) := dk_180 0 187 (dk_at dksX4_read_0 14 rfl rfl)
theorem dX4_read_17 : decode cX4_read 17 = .ok (.ifCond .ne 10, 3) := dk_154 0 10 (dk_at dksX4_read_0 17 rfl rfl)
theorem dX4_read_20 : decode cX4_read 20 = .ok (.aload_n 0, 1) := dk_42 (dk_at dksX4_read_0 20 rfl rfl)
theorem dX4_read_21 : decode cX4_read 21 = .ok (.invokevirtual 190, 3) := dk_182 0 190 (dk_at dksX4_read_0 21 rfl rfl)
theorem dX4_read_24 : decode cX4_read 24 = .ok (.goto 7, 3) := dk_167 0 7 (dk_at dksX4_read_1 0 rfl rfl)
theorem dX4_read_27 : decode cX4_read 27 = .ok (.aload_n 0, 1) := dk_42 (dk_at dksX4_read_1 3 rfl rfl)
theorem dX4_read_28 : decode cX4_read 28 = .ok (.invokevirtual 193, 3) := dk_182 0 193 (dk_at dksX4_read_1 4 rfl rfl)
theorem dX4_read_31 : decode cX4_read 31 = .ok (.aload_n 0, 1) := dk_42 (dk_at dksX4_read_1 7 rfl rfl)
theorem dX4_read_32 : decode cX4_read 32 = .ok (.getfield 35, 3) := dk_180 0 35 (dk_at dksX4_read_1 8 rfl rfl)
theorem dX4_read_35 : decode cX4_read 35 = .ok (.getstatic 75, 3) := dk_178 0 75 (dk_at dksX4_read_1 11 rfl rfl)
theorem dX4_read_38 : decode cX4_read 38 = .ok (.if_acmp .eq 9, 3) := dk_165 0 9 (dk_at dksX4_read_1 14 rfl rfl)
theorem dX4_read_41 : decode cX4_read 41 = .ok (.aload_n 0, 1) := dk_42 (dk_at dksX4_read_1 17 rfl rfl)
theorem dX4_read_42 : decode cX4_read 42 = .ok (.iconst 1, 1) := dk_4 (dk_at dksX4_read_1 18 rfl rfl)
theorem dX4_read_43 : decode cX4_read 43 = .ok (.invokevirtual 103, 3) := dk_182 0 103 (dk_at dksX4_read_1 19 rfl rfl)
theorem dX4_read_46 : decode cX4_read 46 = .ok (.athrow, 1) := dk_191 (dk_at dksX4_read_1 22 rfl rfl)
theorem dX4_read_47 : decode cX4_read 47 = .ok (.aload_n 0, 1) := dk_42 (dk_at dksX4_read_1 23 rfl rfl)
theorem dX4_read_48 : decode cX4_read 48 = .ok (.invokevirtual 38, 3) := dk_182 0 38 (dk_at dksX4_read_2 0 rfl rfl)
theorem dX4_read_51 : decode cX4_read 51 = .ok (.aload_n 0, 1) := dk_42 (dk_at dksX4_read_2 3 rfl rfl)
theorem dX4_read_52 : decode cX4_read 52 = .ok (.getfield 25, 3) := dk_180 0 25 (dk_at dksX4_read_2 4 rfl rfl)
theorem dX4_read_55 : decode cX4_read 55 = .ok (.dup, 1) := dk_89 (dk_at dksX4_read_2 7 rfl rfl)
theorem dX4_read_56 : decode cX4_read 56 = .ok (.getfield 187, 3) := dk_180 0 187 (dk_at dksX4_read_2 8 rfl rfl)
theorem dX4_read_59 : decode cX4_read 59 = .ok (.iconst 1, 1) := dk_4 (dk_at dksX4_read_2 11 rfl rfl)
theorem dX4_read_60 : decode cX4_read 60 = .ok (.iadd, 1) := dk_96 (dk_at dksX4_read_2 12 rfl rfl)
theorem dX4_read_61 : decode cX4_read 61 = .ok (.putfield 187, 3) := dk_181 0 187 (dk_at dksX4_read_2 13 rfl rfl)
theorem dX4_read_64 : decode cX4_read 64 = .ok (.goto (-64), 3) := dk_167 255 192 (dk_at dksX4_read_2 16 rfl rfl)
theorem dX4_read_67 : decode cX4_read 67 = .ok (.aload_n 0, 1) := dk_42 (dk_at dksX4_read_2 19 rfl rfl)
theorem dX4_read_68 : decode cX4_read 68 = .ok (.getfield 25, 3) := dk_180 0 25 (dk_at dksX4_read_2 20 rfl rfl)
theorem dX4_read_71 : decode cX4_read 71 = .ok (.areturn, 1) := dk_176 (dk_at dksX4_read_2 23 rfl rfl)
abbrev cX4_first : ByteArray := prog_12_method_10_code
def yX4_first : MethodName := ⟨RX4, "first", "()V"⟩
def dkwX4_first_5 : List UInt8 := [104, 181, 0, 127, 132, 2, 1, 167, 255, 223, 177]
abbrev dktX4_first_5 : List UInt8 := dkwX4_first_5 ++ []
def dkwX4_first_4 : List UInt8 := [180, 0, 25, 180, 0, 125, 162, 0, 28, 42, 180, 0, 25, 89, 180, 0, 127, 42, 180, 0, 25, 180, 0, 121]
abbrev dktX4_first_4 : List UInt8 := dkwX4_first_4 ++ dktX4_first_5
def dkwX4_first_3 : List UInt8 := [180, 0, 25, 42, 4, 27, 182, 0, 111, 181, 0, 125, 42, 180, 0, 25, 4, 181, 0, 127, 3, 61, 28, 42]
abbrev dktX4_first_3 : List UInt8 := dkwX4_first_3 ++ dktX4_first_4
def dkwX4_first_2 : List UInt8 := [17, 39, 16, 163, 0, 19, 132, 1, 1, 28, 42, 180, 0, 25, 180, 0, 121, 104, 61, 167, 255, 222, 42]
abbrev dktX4_first_2 : List UInt8 := dkwX4_first_2 ++ dktX4_first_3
def dkwX4_first_1 : List UInt8 := [18, 123, 182, 0, 107, 3, 60, 4, 61, 27, 16, 8, 162, 0, 34, 28, 42, 180, 0, 25, 180, 0, 121, 104]
abbrev dktX4_first_1 : List UInt8 := dkwX4_first_1 ++ dktX4_first_2
def dkwX4_first_0 : List UInt8 := [42, 18, 114, 182, 0, 107, 42, 180, 0, 25, 42, 18, 115, 5, 16, 16, 182, 0, 117, 181, 0, 121, 42]
abbrev dktX4_first_0 : List UInt8 := dkwX4_first_0 ++ dktX4_first_1
theorem dksX4_first_0 : cX4_first.data.toList.drop 0 = dktX4_first_0 := by decide +kernel
theorem dksX4_first_1 : cX4_first.data.toList.drop 23 = dktX4_first_1 := dk_seg dksX4_first_0 23 rfl rfl
theorem dksX4_first_2 : cX4_first.data.toList.drop 47 = dktX4_first_2 := dk_seg dksX4_first_1 24 rfl rfl
theorem dksX4_first_3 : cX4_first.data.toList.drop 70 = dktX4_first_3 := dk_seg dksX4_first_2 23 rfl rfl
theorem dksX4_first_4 : cX4_first.data.toList.drop 94 = dktX4_first_4 := dk_seg dksX4_first_3 24 rfl rfl
theorem dksX4_first_5 : cX4_first.data.toList.drop 118 = dktX4_first_5 := dk_seg dksX4_first_4 24 rfl rfl
theorem dX4_first_0 : decode cX4_first 0 = .ok (.aload_n 0, 1) := dk_42 (dk_at dksX4_first_0 0 rfl rfl)
theorem dX4_first_1 : decode cX4_first 1 = .ok (.ldc 114, 2) := dk_18 114 (dk_at dksX4_first_0 1 rfl rfl)
theorem dX4_first_3 : decode cX4_first 3 = .ok (.invokevirtual 107, 3) := dk_182 0 107 (dk_at dksX4_first_0 3 rfl rfl)
theorem dX4_first_6 : decode cX4_first 6 = .ok (.aload_n 0, 1) := dk_42 (dk_at dksX4_first_0 6 rfl rfl)
theorem dX4_first_7 : decode cX4_first 7 = .ok (.getfield 25, 3) := dk_180 0 25 (dk_at dksX4_first_0 7 rfl rfl)
theorem dX4_first_10 : decode cX4_first 10 = .ok (.aload_n 0, 1) := dk_42 (dk_at dksX4_first_0 10 rfl rfl)
theorem dX4_first_11 : decode cX4_first 11 = .ok (.ldc 115, 2) := dk_18 115 (dk_at dksX4_first_0 11 rfl rfl)
theorem dX4_first_13 : decode cX4_first 13 = .ok (.iconst 2, 1) := dk_5 (dk_at dksX4_first_0 13 rfl rfl)
theorem dX4_first_14 : decode cX4_first 14 = .ok (.bipush 16, 2) := dk_16 16 (dk_at dksX4_first_0 14 rfl rfl)
theorem dX4_first_16 : decode cX4_first 16 = .ok (.invokevirtual 117, 3) := dk_182 0 117 (dk_at dksX4_first_0 16 rfl rfl)
theorem dX4_first_19 : decode cX4_first 19 = .ok (.putfield 121, 3) := dk_181 0 121 (dk_at dksX4_first_0 19 rfl rfl)
theorem dX4_first_22 : decode cX4_first 22 = .ok (.aload_n 0, 1) := dk_42 (dk_at dksX4_first_0 22 rfl rfl)
theorem dX4_first_23 : decode cX4_first 23 = .ok (.ldc 123, 2) := dk_18 123 (dk_at dksX4_first_1 0 rfl rfl)
theorem dX4_first_25 : decode cX4_first 25 = .ok (.invokevirtual 107, 3) := dk_182 0 107 (dk_at dksX4_first_1 2 rfl rfl)
theorem dX4_first_28 : decode cX4_first 28 = .ok (.iconst 0, 1) := dk_3 (dk_at dksX4_first_1 5 rfl rfl)
theorem dX4_first_29 : decode cX4_first 29 = .ok (.istore_n 1, 1) := dk_60 (dk_at dksX4_first_1 6 rfl rfl)
theorem dX4_first_30 : decode cX4_first 30 = .ok (.iconst 1, 1) := dk_4 (dk_at dksX4_first_1 7 rfl rfl)
theorem dX4_first_31 : decode cX4_first 31 = .ok (.istore_n 2, 1) := dk_61 (dk_at dksX4_first_1 8 rfl rfl)
theorem dX4_first_32 : decode cX4_first 32 = .ok (.iload_n 1, 1) := dk_27 (dk_at dksX4_first_1 9 rfl rfl)
theorem dX4_first_33 : decode cX4_first 33 = .ok (.bipush 8, 2) := dk_16 8 (dk_at dksX4_first_1 10 rfl rfl)
theorem dX4_first_35 : decode cX4_first 35 = .ok (.if_icmp .ge 34, 3) := dk_162 0 34 (dk_at dksX4_first_1 12 rfl rfl)
theorem dX4_first_38 : decode cX4_first 38 = .ok (.iload_n 2, 1) := dk_28 (dk_at dksX4_first_1 15 rfl rfl)
theorem dX4_first_39 : decode cX4_first 39 = .ok (.aload_n 0, 1) := dk_42 (dk_at dksX4_first_1 16 rfl rfl)
theorem dX4_first_40 : decode cX4_first 40 = .ok (.getfield 25, 3) := dk_180 0 25 (dk_at dksX4_first_1 17 rfl rfl)
theorem dX4_first_43 : decode cX4_first 43 = .ok (.getfield 121, 3) := dk_180 0 121 (dk_at dksX4_first_1 20 rfl rfl)
theorem dX4_first_46 : decode cX4_first 46 = .ok (.imul, 1) := dk_104 (dk_at dksX4_first_1 23 rfl rfl)
theorem dX4_first_47 : decode cX4_first 47 = .ok (.sipush 10000, 3) := dk_17 39 16 (dk_at dksX4_first_2 0 rfl rfl)
theorem dX4_first_50 : decode cX4_first 50 = .ok (.if_icmp .gt 19, 3) := dk_163 0 19 (dk_at dksX4_first_2 3 rfl rfl)
theorem dX4_first_53 : decode cX4_first 53 = .ok (.iinc 1 1, 3) := dk_132 1 1 (dk_at dksX4_first_2 6 rfl rfl)
theorem dX4_first_56 : decode cX4_first 56 = .ok (.iload_n 2, 1) := dk_28 (dk_at dksX4_first_2 9 rfl rfl)
theorem dX4_first_57 : decode cX4_first 57 = .ok (.aload_n 0, 1) := dk_42 (dk_at dksX4_first_2 10 rfl rfl)
theorem dX4_first_58 : decode cX4_first 58 = .ok (.getfield 25, 3) := dk_180 0 25 (dk_at dksX4_first_2 11 rfl rfl)
theorem dX4_first_61 : decode cX4_first 61 = .ok (.getfield 121, 3) := dk_180 0 121 (dk_at dksX4_first_2 14 rfl rfl)
theorem dX4_first_64 : decode cX4_first 64 = .ok (.imul, 1) := dk_104 (dk_at dksX4_first_2 17 rfl rfl)
theorem dX4_first_65 : decode cX4_first 65 = .ok (.istore_n 2, 1) := dk_61 (dk_at dksX4_first_2 18 rfl rfl)
theorem dX4_first_66 : decode cX4_first 66 = .ok (.goto (-34), 3) := dk_167 255 222 (dk_at dksX4_first_2 19 rfl rfl)
theorem dX4_first_69 : decode cX4_first 69 = .ok (.aload_n 0, 1) := dk_42 (dk_at dksX4_first_2 22 rfl rfl)
theorem dX4_first_70 : decode cX4_first 70 = .ok (.getfield 25, 3) := dk_180 0 25 (dk_at dksX4_first_3 0 rfl rfl)
theorem dX4_first_73 : decode cX4_first 73 = .ok (.aload_n 0, 1) := dk_42 (dk_at dksX4_first_3 3 rfl rfl)
theorem dX4_first_74 : decode cX4_first 74 = .ok (.iconst 1, 1) := dk_4 (dk_at dksX4_first_3 4 rfl rfl)
theorem dX4_first_75 : decode cX4_first 75 = .ok (.iload_n 1, 1) := dk_27 (dk_at dksX4_first_3 5 rfl rfl)
theorem dX4_first_76 : decode cX4_first 76 = .ok (.invokevirtual 111, 3) := dk_182 0 111 (dk_at dksX4_first_3 6 rfl rfl)
theorem dX4_first_79 : decode cX4_first 79 = .ok (.putfield 125, 3) := dk_181 0 125 (dk_at dksX4_first_3 9 rfl rfl)
theorem dX4_first_82 : decode cX4_first 82 = .ok (.aload_n 0, 1) := dk_42 (dk_at dksX4_first_3 12 rfl rfl)
theorem dX4_first_83 : decode cX4_first 83 = .ok (.getfield 25, 3) := dk_180 0 25 (dk_at dksX4_first_3 13 rfl rfl)
theorem dX4_first_86 : decode cX4_first 86 = .ok (.iconst 1, 1) := dk_4 (dk_at dksX4_first_3 16 rfl rfl)
theorem dX4_first_87 : decode cX4_first 87 = .ok (.putfield 127, 3) := dk_181 0 127 (dk_at dksX4_first_3 17 rfl rfl)
theorem dX4_first_90 : decode cX4_first 90 = .ok (.iconst 0, 1) := dk_3 (dk_at dksX4_first_3 20 rfl rfl)
theorem dX4_first_91 : decode cX4_first 91 = .ok (.istore_n 2, 1) := dk_61 (dk_at dksX4_first_3 21 rfl rfl)
theorem dX4_first_92 : decode cX4_first 92 = .ok (.iload_n 2, 1) := dk_28 (dk_at dksX4_first_3 22 rfl rfl)
theorem dX4_first_93 : decode cX4_first 93 = .ok (.aload_n 0, 1) := dk_42 (dk_at dksX4_first_3 23 rfl rfl)
theorem dX4_first_94 : decode cX4_first 94 = .ok (.getfield 25, 3) := dk_180 0 25 (dk_at dksX4_first_4 0 rfl rfl)
theorem dX4_first_97 : decode cX4_first 97 = .ok (.getfield 125, 3) := dk_180 0 125 (dk_at dksX4_first_4 3 rfl rfl)
theorem dX4_first_100 : decode cX4_first 100 = .ok (.if_icmp .ge 28, 3) := dk_162 0 28 (dk_at dksX4_first_4 6 rfl rfl)
theorem dX4_first_103 : decode cX4_first 103 = .ok (.aload_n 0, 1) := dk_42 (dk_at dksX4_first_4 9 rfl rfl)
theorem dX4_first_104 : decode cX4_first 104 = .ok (.getfield 25, 3) := dk_180 0 25 (dk_at dksX4_first_4 10 rfl rfl)
theorem dX4_first_107 : decode cX4_first 107 = .ok (.dup, 1) := dk_89 (dk_at dksX4_first_4 13 rfl rfl)
theorem dX4_first_108 : decode cX4_first 108 = .ok (.getfield 127, 3) := dk_180 0 127 (dk_at dksX4_first_4 14 rfl rfl)
theorem dX4_first_111 : decode cX4_first 111 = .ok (.aload_n 0, 1) := dk_42 (dk_at dksX4_first_4 17 rfl rfl)
theorem dX4_first_112 : decode cX4_first 112 = .ok (.getfield 25, 3) := dk_180 0 25 (dk_at dksX4_first_4 18 rfl rfl)
theorem dX4_first_115 : decode cX4_first 115 = .ok (.getfield 121, 3) := dk_180 0 121 (dk_at dksX4_first_4 21 rfl rfl)
theorem dX4_first_118 : decode cX4_first 118 = .ok (.imul, 1) := dk_104 (dk_at dksX4_first_5 0 rfl rfl)
theorem dX4_first_119 : decode cX4_first 119 = .ok (.putfield 127, 3) := dk_181 0 127 (dk_at dksX4_first_5 1 rfl rfl)
theorem dX4_first_122 : decode cX4_first 122 = .ok (.iinc 2 1, 3) := dk_132 2 1 (dk_at dksX4_first_5 4 rfl rfl)
theorem dX4_first_125 : decode cX4_first 125 = .ok (.goto (-33), 3) := dk_167 255 223 (dk_at dksX4_first_5 7 rfl rfl)
theorem dX4_first_128 : decode cX4_first 128 = .ok (.return_, 1) := dk_177 (dk_at dksX4_first_5 10 rfl rfl)
abbrev cX4_needs : ByteArray := prog_12_method_7_code
def yX4_needs : MethodName := ⟨RX4, "needs", "(Ljava/lang/String;)V"⟩
def dkwX4_needs_0 : List UInt8 := [42, 43, 182, 0, 100, 154, 0, 9, 42, 4, 182, 0, 103, 191, 177]
abbrev dktX4_needs_0 : List UInt8 := dkwX4_needs_0 ++ []
theorem dksX4_needs_0 : cX4_needs.data.toList.drop 0 = dktX4_needs_0 := by decide +kernel
theorem dX4_needs_0 : decode cX4_needs 0 = .ok (.aload_n 0, 1) := dk_42 (dk_at dksX4_needs_0 0 rfl rfl)
theorem dX4_needs_1 : decode cX4_needs 1 = .ok (.aload_n 1, 1) := dk_43 (dk_at dksX4_needs_0 1 rfl rfl)
theorem dX4_needs_2 : decode cX4_needs 2 = .ok (.invokevirtual 100, 3) := dk_182 0 100 (dk_at dksX4_needs_0 2 rfl rfl)
theorem dX4_needs_5 : decode cX4_needs 5 = .ok (.ifCond .ne 9, 3) := dk_154 0 9 (dk_at dksX4_needs_0 5 rfl rfl)
theorem dX4_needs_8 : decode cX4_needs 8 = .ok (.aload_n 0, 1) := dk_42 (dk_at dksX4_needs_0 8 rfl rfl)
theorem dX4_needs_9 : decode cX4_needs 9 = .ok (.iconst 1, 1) := dk_4 (dk_at dksX4_needs_0 9 rfl rfl)
theorem dX4_needs_10 : decode cX4_needs 10 = .ok (.invokevirtual 103, 3) := dk_182 0 103 (dk_at dksX4_needs_0 10 rfl rfl)
theorem dX4_needs_13 : decode cX4_needs 13 = .ok (.athrow, 1) := dk_191 (dk_at dksX4_needs_0 13 rfl rfl)
theorem dX4_needs_14 : decode cX4_needs 14 = .ok (.return_, 1) := dk_177 (dk_at dksX4_needs_0 14 rfl rfl)
abbrev cX4_takes : ByteArray := prog_12_method_6_code
def yX4_takes : MethodName := ⟨RX4, "takes", "(Ljava/lang/String;)Z"⟩
def dkwX4_takes_0 : List UInt8 := [42, 43, 182, 0, 96, 61, 28, 153, 0, 7, 42, 182, 0, 38, 28, 172]
abbrev dktX4_takes_0 : List UInt8 := dkwX4_takes_0 ++ []
theorem dksX4_takes_0 : cX4_takes.data.toList.drop 0 = dktX4_takes_0 := by decide +kernel
theorem dX4_takes_0 : decode cX4_takes 0 = .ok (.aload_n 0, 1) := dk_42 (dk_at dksX4_takes_0 0 rfl rfl)
theorem dX4_takes_1 : decode cX4_takes 1 = .ok (.aload_n 1, 1) := dk_43 (dk_at dksX4_takes_0 1 rfl rfl)
theorem dX4_takes_2 : decode cX4_takes 2 = .ok (.invokevirtual 96, 3) := dk_182 0 96 (dk_at dksX4_takes_0 2 rfl rfl)
theorem dX4_takes_5 : decode cX4_takes 5 = .ok (.istore_n 2, 1) := dk_61 (dk_at dksX4_takes_0 5 rfl rfl)
theorem dX4_takes_6 : decode cX4_takes 6 = .ok (.iload_n 2, 1) := dk_28 (dk_at dksX4_takes_0 6 rfl rfl)
theorem dX4_takes_7 : decode cX4_takes 7 = .ok (.ifCond .eq 7, 3) := dk_153 0 7 (dk_at dksX4_takes_0 7 rfl rfl)
theorem dX4_takes_10 : decode cX4_takes 10 = .ok (.aload_n 0, 1) := dk_42 (dk_at dksX4_takes_0 10 rfl rfl)
theorem dX4_takes_11 : decode cX4_takes 11 = .ok (.invokevirtual 38, 3) := dk_182 0 38 (dk_at dksX4_takes_0 11 rfl rfl)
theorem dX4_takes_14 : decode cX4_takes 14 = .ok (.iload_n 2, 1) := dk_28 (dk_at dksX4_takes_0 14 rfl rfl)
theorem dX4_takes_15 : decode cX4_takes 15 = .ok (.ireturn, 1) := dk_172 (dk_at dksX4_takes_0 15 rfl rfl)
abbrev cX4_is : ByteArray := prog_12_method_5_code
def yX4_is : MethodName := ⟨RX4, "is", "(Ljava/lang/String;)Z"⟩
def dkwX4_is_2 : List UInt8 := [180, 0, 52, 28, 96, 51, 43, 28, 182, 0, 92, 159, 0, 5, 3, 172, 132, 2, 1, 167, 255, 221, 4, 172]
abbrev dktX4_is_2 : List UInt8 := dkwX4_is_2 ++ []
def dkwX4_is_1 : List UInt8 := [159, 0, 5, 3, 172, 3, 61, 28, 43, 182, 0, 86, 162, 0, 33, 42, 180, 0, 3, 180, 0, 44, 42]
abbrev dktX4_is_1 : List UInt8 := dkwX4_is_1 ++ dktX4_is_2
def dkwX4_is_0 : List UInt8 := [42, 180, 0, 35, 178, 0, 59, 166, 0, 19, 42, 180, 0, 41, 42, 180, 0, 52, 100, 43, 182, 0, 86]
abbrev dktX4_is_0 : List UInt8 := dkwX4_is_0 ++ dktX4_is_1
theorem dksX4_is_0 : cX4_is.data.toList.drop 0 = dktX4_is_0 := by decide +kernel
theorem dksX4_is_1 : cX4_is.data.toList.drop 23 = dktX4_is_1 := dk_seg dksX4_is_0 23 rfl rfl
theorem dksX4_is_2 : cX4_is.data.toList.drop 46 = dktX4_is_2 := dk_seg dksX4_is_1 23 rfl rfl
theorem dX4_is_0 : decode cX4_is 0 = .ok (.aload_n 0, 1) := dk_42 (dk_at dksX4_is_0 0 rfl rfl)
theorem dX4_is_1 : decode cX4_is 1 = .ok (.getfield 35, 3) := dk_180 0 35 (dk_at dksX4_is_0 1 rfl rfl)
theorem dX4_is_4 : decode cX4_is 4 = .ok (.getstatic 59, 3) := dk_178 0 59 (dk_at dksX4_is_0 4 rfl rfl)
theorem dX4_is_7 : decode cX4_is 7 = .ok (.if_acmp .ne 19, 3) := dk_166 0 19 (dk_at dksX4_is_0 7 rfl rfl)
theorem dX4_is_10 : decode cX4_is 10 = .ok (.aload_n 0, 1) := dk_42 (dk_at dksX4_is_0 10 rfl rfl)
theorem dX4_is_11 : decode cX4_is 11 = .ok (.getfield 41, 3) := dk_180 0 41 (dk_at dksX4_is_0 11 rfl rfl)
theorem dX4_is_14 : decode cX4_is 14 = .ok (.aload_n 0, 1) := dk_42 (dk_at dksX4_is_0 14 rfl rfl)
theorem dX4_is_15 : decode cX4_is 15 = .ok (.getfield 52, 3) := dk_180 0 52 (dk_at dksX4_is_0 15 rfl rfl)
theorem dX4_is_18 : decode cX4_is 18 = .ok (.isub, 1) := dk_100 (dk_at dksX4_is_0 18 rfl rfl)
theorem dX4_is_19 : decode cX4_is 19 = .ok (.aload_n 1, 1) := dk_43 (dk_at dksX4_is_0 19 rfl rfl)
theorem dX4_is_20 : decode cX4_is 20 = .ok (.invokevirtual 86, 3) := dk_182 0 86 (dk_at dksX4_is_0 20 rfl rfl)
theorem dX4_is_23 : decode cX4_is 23 = .ok (.if_icmp .eq 5, 3) := dk_159 0 5 (dk_at dksX4_is_1 0 rfl rfl)
theorem dX4_is_26 : decode cX4_is 26 = .ok (.iconst 0, 1) := dk_3 (dk_at dksX4_is_1 3 rfl rfl)
theorem dX4_is_27 : decode cX4_is 27 = .ok (.ireturn, 1) := dk_172 (dk_at dksX4_is_1 4 rfl rfl)
theorem dX4_is_28 : decode cX4_is 28 = .ok (.iconst 0, 1) := dk_3 (dk_at dksX4_is_1 5 rfl rfl)
theorem dX4_is_29 : decode cX4_is 29 = .ok (.istore_n 2, 1) := dk_61 (dk_at dksX4_is_1 6 rfl rfl)
theorem dX4_is_30 : decode cX4_is 30 = .ok (.iload_n 2, 1) := dk_28 (dk_at dksX4_is_1 7 rfl rfl)
theorem dX4_is_31 : decode cX4_is 31 = .ok (.aload_n 1, 1) := dk_43 (dk_at dksX4_is_1 8 rfl rfl)
theorem dX4_is_32 : decode cX4_is 32 = .ok (.invokevirtual 86, 3) := dk_182 0 86 (dk_at dksX4_is_1 9 rfl rfl)
theorem dX4_is_35 : decode cX4_is 35 = .ok (.if_icmp .ge 33, 3) := dk_162 0 33 (dk_at dksX4_is_1 12 rfl rfl)
theorem dX4_is_38 : decode cX4_is 38 = .ok (.aload_n 0, 1) := dk_42 (dk_at dksX4_is_1 15 rfl rfl)
theorem dX4_is_39 : decode cX4_is 39 = .ok (.getfield 3, 3) := dk_180 0 3 (dk_at dksX4_is_1 16 rfl rfl)
theorem dX4_is_42 : decode cX4_is 42 = .ok (.getfield 44, 3) := dk_180 0 44 (dk_at dksX4_is_1 19 rfl rfl)
theorem dX4_is_45 : decode cX4_is 45 = .ok (.aload_n 0, 1) := dk_42 (dk_at dksX4_is_1 22 rfl rfl)
theorem dX4_is_46 : decode cX4_is 46 = .ok (.getfield 52, 3) := dk_180 0 52 (dk_at dksX4_is_2 0 rfl rfl)
theorem dX4_is_49 : decode cX4_is 49 = .ok (.iload_n 2, 1) := dk_28 (dk_at dksX4_is_2 3 rfl rfl)
theorem dX4_is_50 : decode cX4_is 50 = .ok (.iadd, 1) := dk_96 (dk_at dksX4_is_2 4 rfl rfl)
theorem dX4_is_51 : decode cX4_is 51 = .ok (.baload, 1) := dk_51 (dk_at dksX4_is_2 5 rfl rfl)
theorem dX4_is_52 : decode cX4_is 52 = .ok (.aload_n 1, 1) := dk_43 (dk_at dksX4_is_2 6 rfl rfl)
theorem dX4_is_53 : decode cX4_is 53 = .ok (.iload_n 2, 1) := dk_28 (dk_at dksX4_is_2 7 rfl rfl)
theorem dX4_is_54 : decode cX4_is 54 = .ok (.invokevirtual 92, 3) := dk_182 0 92 (dk_at dksX4_is_2 8 rfl rfl)
theorem dX4_is_57 : decode cX4_is 57 = .ok (.if_icmp .eq 5, 3) := dk_159 0 5 (dk_at dksX4_is_2 11 rfl rfl)
theorem dX4_is_60 : decode cX4_is 60 = .ok (.iconst 0, 1) := dk_3 (dk_at dksX4_is_2 14 rfl rfl)
theorem dX4_is_61 : decode cX4_is 61 = .ok (.ireturn, 1) := dk_172 (dk_at dksX4_is_2 15 rfl rfl)
theorem dX4_is_62 : decode cX4_is 62 = .ok (.iinc 2 1, 3) := dk_132 2 1 (dk_at dksX4_is_2 16 rfl rfl)
theorem dX4_is_65 : decode cX4_is 65 = .ok (.goto (-35), 3) := dk_167 255 221 (dk_at dksX4_is_2 19 rfl rfl)
theorem dX4_is_68 : decode cX4_is 68 = .ok (.iconst 1, 1) := dk_4 (dk_at dksX4_is_2 22 rfl rfl)
theorem dX4_is_69 : decode cX4_is 69 = .ok (.ireturn, 1) := dk_172 (dk_at dksX4_is_2 23 rfl rfl)
abbrev cX4_wrong : ByteArray := prog_12_method_4_code
def yX4_wrong : MethodName := ⟨RX4, "wrong", "(I)LUpAndDown$Fault;"⟩
def dkwX4_wrong_0 : List UInt8 := [187, 0, 81, 89, 27, 42, 180, 0, 52, 183, 0, 83, 176]
abbrev dktX4_wrong_0 : List UInt8 := dkwX4_wrong_0 ++ []
theorem dksX4_wrong_0 : cX4_wrong.data.toList.drop 0 = dktX4_wrong_0 := by decide +kernel
theorem dX4_wrong_0 : decode cX4_wrong 0 = .ok (.new 81, 3) := dk_187 0 81 (dk_at dksX4_wrong_0 0 rfl rfl)
theorem dX4_wrong_3 : decode cX4_wrong 3 = .ok (.dup, 1) := dk_89 (dk_at dksX4_wrong_0 3 rfl rfl)
theorem dX4_wrong_4 : decode cX4_wrong 4 = .ok (.iload_n 1, 1) := dk_27 (dk_at dksX4_wrong_0 4 rfl rfl)
theorem dX4_wrong_5 : decode cX4_wrong 5 = .ok (.aload_n 0, 1) := dk_42 (dk_at dksX4_wrong_0 5 rfl rfl)
theorem dX4_wrong_6 : decode cX4_wrong 6 = .ok (.getfield 52, 3) := dk_180 0 52 (dk_at dksX4_wrong_0 6 rfl rfl)
theorem dX4_wrong_9 : decode cX4_wrong 9 = .ok (.invokespecial 83, 3) := dk_183 0 83 (dk_at dksX4_wrong_0 9 rfl rfl)
theorem dX4_wrong_12 : decode cX4_wrong 12 = .ok (.areturn, 1) := dk_176 (dk_at dksX4_wrong_0 12 rfl rfl)
abbrev cX4_told : ByteArray := prog_12_method_9_code
def yX4_told : MethodName := ⟨RX4, "told", "(Ljava/lang/String;II)I"⟩
def dkwX4_told_0 : List UInt8 := [42, 43, 182, 0, 107, 42, 28, 29, 182, 0, 111, 172]
abbrev dktX4_told_0 : List UInt8 := dkwX4_told_0 ++ []
theorem dksX4_told_0 : cX4_told.data.toList.drop 0 = dktX4_told_0 := by decide +kernel
theorem dX4_told_0 : decode cX4_told 0 = .ok (.aload_n 0, 1) := dk_42 (dk_at dksX4_told_0 0 rfl rfl)
theorem dX4_told_1 : decode cX4_told 1 = .ok (.aload_n 1, 1) := dk_43 (dk_at dksX4_told_0 1 rfl rfl)
theorem dX4_told_2 : decode cX4_told 2 = .ok (.invokevirtual 107, 3) := dk_182 0 107 (dk_at dksX4_told_0 2 rfl rfl)
theorem dX4_told_5 : decode cX4_told 5 = .ok (.aload_n 0, 1) := dk_42 (dk_at dksX4_told_0 5 rfl rfl)
theorem dX4_told_6 : decode cX4_told 6 = .ok (.iload_n 2, 1) := dk_28 (dk_at dksX4_told_0 6 rfl rfl)
theorem dX4_told_7 : decode cX4_told 7 = .ok (.iload_n 3, 1) := dk_29 (dk_at dksX4_told_0 7 rfl rfl)
theorem dX4_told_8 : decode cX4_told 8 = .ok (.invokevirtual 111, 3) := dk_182 0 111 (dk_at dksX4_told_0 8 rfl rfl)
theorem dX4_told_11 : decode cX4_told 11 = .ok (.ireturn, 1) := dk_172 (dk_at dksX4_told_0 11 rfl rfl)
abbrev cX4_number : ByteArray := prog_12_method_8_code
def yX4_number : MethodName := ⟨RX4, "number", "(II)I"⟩
def dkwX4_number_1 : List UInt8 := [133, 184, 0, 48, 154, 0, 9, 42, 5, 182, 0, 103, 191, 42, 180, 0, 62, 62, 42, 182, 0, 38, 29, 172]
abbrev dktX4_number_1 : List UInt8 := dkwX4_number_1 ++ []
def dkwX4_number_0 : List UInt8 := [42, 180, 0, 35, 178, 0, 72, 165, 0, 9, 42, 4, 182, 0, 103, 191, 42, 180, 0, 62, 133, 27, 133, 28]
abbrev dktX4_number_0 : List UInt8 := dkwX4_number_0 ++ dktX4_number_1
theorem dksX4_number_0 : cX4_number.data.toList.drop 0 = dktX4_number_0 := by decide +kernel
theorem dksX4_number_1 : cX4_number.data.toList.drop 24 = dktX4_number_1 := dk_seg dksX4_number_0 24 rfl rfl
theorem dX4_number_0 : decode cX4_number 0 = .ok (.aload_n 0, 1) := dk_42 (dk_at dksX4_number_0 0 rfl rfl)
theorem dX4_number_1 : decode cX4_number 1 = .ok (.getfield 35, 3) := dk_180 0 35 (dk_at dksX4_number_0 1 rfl rfl)
theorem dX4_number_4 : decode cX4_number 4 = .ok (.getstatic 72, 3) := dk_178 0 72 (dk_at dksX4_number_0 4 rfl rfl)
theorem dX4_number_7 : decode cX4_number 7 = .ok (.if_acmp .eq 9, 3) := dk_165 0 9 (dk_at dksX4_number_0 7 rfl rfl)
theorem dX4_number_10 : decode cX4_number 10 = .ok (.aload_n 0, 1) := dk_42 (dk_at dksX4_number_0 10 rfl rfl)
theorem dX4_number_11 : decode cX4_number 11 = .ok (.iconst 1, 1) := dk_4 (dk_at dksX4_number_0 11 rfl rfl)
theorem dX4_number_12 : decode cX4_number 12 = .ok (.invokevirtual 103, 3) := dk_182 0 103 (dk_at dksX4_number_0 12 rfl rfl)
theorem dX4_number_15 : decode cX4_number 15 = .ok (.athrow, 1) := dk_191 (dk_at dksX4_number_0 15 rfl rfl)
theorem dX4_number_16 : decode cX4_number 16 = .ok (.aload_n 0, 1) := dk_42 (dk_at dksX4_number_0 16 rfl rfl)
theorem dX4_number_17 : decode cX4_number 17 = .ok (.getfield 62, 3) := dk_180 0 62 (dk_at dksX4_number_0 17 rfl rfl)
theorem dX4_number_20 : decode cX4_number 20 = .ok (.i2l, 1) := dk_133 (dk_at dksX4_number_0 20 rfl rfl)
theorem dX4_number_21 : decode cX4_number 21 = .ok (.iload_n 1, 1) := dk_27 (dk_at dksX4_number_0 21 rfl rfl)
theorem dX4_number_22 : decode cX4_number 22 = .ok (.i2l, 1) := dk_133 (dk_at dksX4_number_0 22 rfl rfl)
theorem dX4_number_23 : decode cX4_number 23 = .ok (.iload_n 2, 1) := dk_28 (dk_at dksX4_number_0 23 rfl rfl)
theorem dX4_number_24 : decode cX4_number 24 = .ok (.i2l, 1) := dk_133 (dk_at dksX4_number_1 0 rfl rfl)
theorem dX4_number_25 : decode cX4_number 25 = .ok (.invokestatic 48, 3) := dk_184 0 48 (dk_at dksX4_number_1 1 rfl rfl)
theorem dX4_number_28 : decode cX4_number 28 = .ok (.ifCond .ne 9, 3) := dk_154 0 9 (dk_at dksX4_number_1 4 rfl rfl)
theorem dX4_number_31 : decode cX4_number 31 = .ok (.aload_n 0, 1) := dk_42 (dk_at dksX4_number_1 7 rfl rfl)
theorem dX4_number_32 : decode cX4_number 32 = .ok (.iconst 2, 1) := dk_5 (dk_at dksX4_number_1 8 rfl rfl)
theorem dX4_number_33 : decode cX4_number 33 = .ok (.invokevirtual 103, 3) := dk_182 0 103 (dk_at dksX4_number_1 9 rfl rfl)
theorem dX4_number_36 : decode cX4_number 36 = .ok (.athrow, 1) := dk_191 (dk_at dksX4_number_1 12 rfl rfl)
theorem dX4_number_37 : decode cX4_number 37 = .ok (.aload_n 0, 1) := dk_42 (dk_at dksX4_number_1 13 rfl rfl)
theorem dX4_number_38 : decode cX4_number 38 = .ok (.getfield 62, 3) := dk_180 0 62 (dk_at dksX4_number_1 14 rfl rfl)
theorem dX4_number_41 : decode cX4_number 41 = .ok (.istore_n 3, 1) := dk_62 (dk_at dksX4_number_1 17 rfl rfl)
theorem dX4_number_42 : decode cX4_number 42 = .ok (.aload_n 0, 1) := dk_42 (dk_at dksX4_number_1 18 rfl rfl)
theorem dX4_number_43 : decode cX4_number 43 = .ok (.invokevirtual 38, 3) := dk_182 0 38 (dk_at dksX4_number_1 19 rfl rfl)
theorem dX4_number_46 : decode cX4_number 46 = .ok (.iload_n 3, 1) := dk_29 (dk_at dksX4_number_1 22 rfl rfl)
theorem dX4_number_47 : decode cX4_number 47 = .ok (.ireturn, 1) := dk_172 (dk_at dksX4_number_1 23 rfl rfl)
abbrev cX4_line : ByteArray := prog_12_method_16_code
def yX4_line : MethodName := ⟨RX4, "line", "()V"⟩
def dkwX4_line_5 : List UInt8 := [167, 0, 9, 42, 4, 182, 0, 103, 191, 177]
abbrev dktX4_line_5 : List UInt8 := dkwX4_line_5 ++ []
def dkwX4_line_4 : List UInt8 := [180, 0, 178, 42, 3, 42, 180, 0, 25, 180, 0, 127, 4, 100, 182, 0, 111, 184, 0, 181, 182, 0, 155, 87]
abbrev dktX4_line_4 : List UInt8 := dkwX4_line_4 ++ dktX4_line_5
def dkwX4_line_3 : List UInt8 := [182, 0, 147, 16, 20, 160, 0, 7, 4, 167, 0, 4, 3, 6, 182, 0, 168, 153, 0, 34, 42, 180, 0, 25]
abbrev dktX4_line_3 : List UInt8 := dkwX4_line_3 ++ dktX4_line_4
def dkwX4_line_2 : List UInt8 := [182, 0, 168, 153, 0, 10, 42, 182, 0, 175, 167, 0, 70, 42, 18, 177, 42, 180, 0, 25, 180, 0, 178]
abbrev dktX4_line_2 : List UInt8 := dkwX4_line_2 ++ dktX4_line_3
def dkwX4_line_1 : List UInt8 := [42, 18, 173, 42, 180, 0, 25, 180, 0, 161, 182, 0, 147, 16, 6, 160, 0, 7, 4, 167, 0, 4, 3, 6]
abbrev dktX4_line_1 : List UInt8 := dkwX4_line_1 ++ dktX4_line_2
def dkwX4_line_0 : List UInt8 := [42, 18, 167, 42, 180, 0, 25, 180, 0, 139, 5, 182, 0, 168, 153, 0, 10, 42, 182, 0, 171, 167, 0, 107]
abbrev dktX4_line_0 : List UInt8 := dkwX4_line_0 ++ dktX4_line_1
theorem dksX4_line_0 : cX4_line.data.toList.drop 0 = dktX4_line_0 := by decide +kernel
theorem dksX4_line_1 : cX4_line.data.toList.drop 24 = dktX4_line_1 := dk_seg dksX4_line_0 24 rfl rfl
theorem dksX4_line_2 : cX4_line.data.toList.drop 48 = dktX4_line_2 := dk_seg dksX4_line_1 24 rfl rfl
theorem dksX4_line_3 : cX4_line.data.toList.drop 71 = dktX4_line_3 := dk_seg dksX4_line_2 23 rfl rfl
theorem dksX4_line_4 : cX4_line.data.toList.drop 95 = dktX4_line_4 := dk_seg dksX4_line_3 24 rfl rfl
theorem dksX4_line_5 : cX4_line.data.toList.drop 119 = dktX4_line_5 := dk_seg dksX4_line_4 24 rfl rfl
theorem dX4_line_0 : decode cX4_line 0 = .ok (.aload_n 0, 1) := dk_42 (dk_at dksX4_line_0 0 rfl rfl)
theorem dX4_line_1 : decode cX4_line 1 = .ok (.ldc 167, 2) := dk_18 167 (dk_at dksX4_line_0 1 rfl rfl)
theorem dX4_line_3 : decode cX4_line 3 = .ok (.aload_n 0, 1) := dk_42 (dk_at dksX4_line_0 3 rfl rfl)
theorem dX4_line_4 : decode cX4_line 4 = .ok (.getfield 25, 3) := dk_180 0 25 (dk_at dksX4_line_0 4 rfl rfl)
theorem dX4_line_7 : decode cX4_line 7 = .ok (.getfield 139, 3) := dk_180 0 139 (dk_at dksX4_line_0 7 rfl rfl)
theorem dX4_line_10 : decode cX4_line 10 = .ok (.iconst 2, 1) := dk_5 (dk_at dksX4_line_0 10 rfl rfl)
theorem dX4_line_11 : decode cX4_line 11 = .ok (.invokevirtual 168, 3) := dk_182 0 168 (dk_at dksX4_line_0 11 rfl rfl)
theorem dX4_line_14 : decode cX4_line 14 = .ok (.ifCond .eq 10, 3) := dk_153 0 10 (dk_at dksX4_line_0 14 rfl rfl)
theorem dX4_line_17 : decode cX4_line 17 = .ok (.aload_n 0, 1) := dk_42 (dk_at dksX4_line_0 17 rfl rfl)
theorem dX4_line_18 : decode cX4_line 18 = .ok (.invokevirtual 171, 3) := dk_182 0 171 (dk_at dksX4_line_0 18 rfl rfl)
theorem dX4_line_21 : decode cX4_line 21 = .ok (.goto 107, 3) := dk_167 0 107 (dk_at dksX4_line_0 21 rfl rfl)
theorem dX4_line_24 : decode cX4_line 24 = .ok (.aload_n 0, 1) := dk_42 (dk_at dksX4_line_1 0 rfl rfl)
theorem dX4_line_25 : decode cX4_line 25 = .ok (.ldc 173, 2) := dk_18 173 (dk_at dksX4_line_1 1 rfl rfl)
theorem dX4_line_27 : decode cX4_line 27 = .ok (.aload_n 0, 1) := dk_42 (dk_at dksX4_line_1 3 rfl rfl)
theorem dX4_line_28 : decode cX4_line 28 = .ok (.getfield 25, 3) := dk_180 0 25 (dk_at dksX4_line_1 4 rfl rfl)
theorem dX4_line_31 : decode cX4_line 31 = .ok (.getfield 161, 3) := dk_180 0 161 (dk_at dksX4_line_1 7 rfl rfl)
theorem dX4_line_34 : decode cX4_line 34 = .ok (.invokevirtual 147, 3) := dk_182 0 147 (dk_at dksX4_line_1 10 rfl rfl)
theorem dX4_line_37 : decode cX4_line 37 = .ok (.bipush 6, 2) := dk_16 6 (dk_at dksX4_line_1 13 rfl rfl)
theorem dX4_line_39 : decode cX4_line 39 = .ok (.if_icmp .ne 7, 3) := dk_160 0 7 (dk_at dksX4_line_1 15 rfl rfl)
theorem dX4_line_42 : decode cX4_line 42 = .ok (.iconst 1, 1) := dk_4 (dk_at dksX4_line_1 18 rfl rfl)
theorem dX4_line_43 : decode cX4_line 43 = .ok (.goto 4, 3) := dk_167 0 4 (dk_at dksX4_line_1 19 rfl rfl)
theorem dX4_line_46 : decode cX4_line 46 = .ok (.iconst 0, 1) := dk_3 (dk_at dksX4_line_1 22 rfl rfl)
theorem dX4_line_47 : decode cX4_line 47 = .ok (.iconst 3, 1) := dk_6 (dk_at dksX4_line_1 23 rfl rfl)
theorem dX4_line_48 : decode cX4_line 48 = .ok (.invokevirtual 168, 3) := dk_182 0 168 (dk_at dksX4_line_2 0 rfl rfl)
theorem dX4_line_51 : decode cX4_line 51 = .ok (.ifCond .eq 10, 3) := dk_153 0 10 (dk_at dksX4_line_2 3 rfl rfl)
theorem dX4_line_54 : decode cX4_line 54 = .ok (.aload_n 0, 1) := dk_42 (dk_at dksX4_line_2 6 rfl rfl)
theorem dX4_line_55 : decode cX4_line 55 = .ok (.invokevirtual 175, 3) := dk_182 0 175 (dk_at dksX4_line_2 7 rfl rfl)
theorem dX4_line_58 : decode cX4_line 58 = .ok (.goto 70, 3) := dk_167 0 70 (dk_at dksX4_line_2 10 rfl rfl)
theorem dX4_line_61 : decode cX4_line 61 = .ok (.aload_n 0, 1) := dk_42 (dk_at dksX4_line_2 13 rfl rfl)
theorem dX4_line_62 : decode cX4_line 62 = .ok (.ldc 177, 2) := dk_18 177 (dk_at dksX4_line_2 14 rfl rfl)
theorem dX4_line_64 : decode cX4_line 64 = .ok (.aload_n 0, 1) := dk_42 (dk_at dksX4_line_2 16 rfl rfl)
theorem dX4_line_65 : decode cX4_line 65 = .ok (.getfield 25, 3) := dk_180 0 25 (dk_at dksX4_line_2 17 rfl rfl)
theorem dX4_line_68 : decode cX4_line 68 = .ok (.getfield 178, 3) := dk_180 0 178 (dk_at dksX4_line_2 20 rfl rfl)
theorem dX4_line_71 : decode cX4_line 71 = .ok (.invokevirtual 147, 3) := dk_182 0 147 (dk_at dksX4_line_3 0 rfl rfl)
theorem dX4_line_74 : decode cX4_line 74 = .ok (.bipush 20, 2) := dk_16 20 (dk_at dksX4_line_3 3 rfl rfl)
theorem dX4_line_76 : decode cX4_line 76 = .ok (.if_icmp .ne 7, 3) := dk_160 0 7 (dk_at dksX4_line_3 5 rfl rfl)
theorem dX4_line_79 : decode cX4_line 79 = .ok (.iconst 1, 1) := dk_4 (dk_at dksX4_line_3 8 rfl rfl)
theorem dX4_line_80 : decode cX4_line 80 = .ok (.goto 4, 3) := dk_167 0 4 (dk_at dksX4_line_3 9 rfl rfl)
theorem dX4_line_83 : decode cX4_line 83 = .ok (.iconst 0, 1) := dk_3 (dk_at dksX4_line_3 12 rfl rfl)
theorem dX4_line_84 : decode cX4_line 84 = .ok (.iconst 3, 1) := dk_6 (dk_at dksX4_line_3 13 rfl rfl)
theorem dX4_line_85 : decode cX4_line 85 = .ok (.invokevirtual 168, 3) := dk_182 0 168 (dk_at dksX4_line_3 14 rfl rfl)
theorem dX4_line_88 : decode cX4_line 88 = .ok (.ifCond .eq 34, 3) := dk_153 0 34 (dk_at dksX4_line_3 17 rfl rfl)
theorem dX4_line_91 : decode cX4_line 91 = .ok (.aload_n 0, 1) := dk_42 (dk_at dksX4_line_3 20 rfl rfl)
theorem dX4_line_92 : decode cX4_line 92 = .ok (.getfield 25, 3) := dk_180 0 25 (dk_at dksX4_line_3 21 rfl rfl)
theorem dX4_line_95 : decode cX4_line 95 = .ok (.getfield 178, 3) := dk_180 0 178 (dk_at dksX4_line_4 0 rfl rfl)
theorem dX4_line_98 : decode cX4_line 98 = .ok (.aload_n 0, 1) := dk_42 (dk_at dksX4_line_4 3 rfl rfl)
theorem dX4_line_99 : decode cX4_line 99 = .ok (.iconst 0, 1) := dk_3 (dk_at dksX4_line_4 4 rfl rfl)
theorem dX4_line_100 : decode cX4_line 100 = .ok (.aload_n 0, 1) := dk_42 (dk_at dksX4_line_4 5 rfl rfl)
theorem dX4_line_101 : decode cX4_line 101 = .ok (.getfield 25, 3) := dk_180 0 25 (dk_at dksX4_line_4 6 rfl rfl)
theorem dX4_line_104 : decode cX4_line 104 = .ok (.getfield 127, 3) := dk_180 0 127 (dk_at dksX4_line_4 9 rfl rfl)
theorem dX4_line_107 : decode cX4_line 107 = .ok (.iconst 1, 1) := dk_4 (dk_at dksX4_line_4 12 rfl rfl)
theorem dX4_line_108 : decode cX4_line 108 = .ok (.isub, 1) := dk_100 (dk_at dksX4_line_4 13 rfl rfl)
theorem dX4_line_109 : decode cX4_line 109 = .ok (.invokevirtual 111, 3) := dk_182 0 111 (dk_at dksX4_line_4 14 rfl rfl)
theorem dX4_line_112 : decode cX4_line 112 = .ok (.invokestatic 181, 3) := dk_184 0 181 (dk_at dksX4_line_4 17 rfl rfl)
theorem dX4_line_115 : decode cX4_line 115 = .ok (.invokevirtual 155, 3) := dk_182 0 155 (dk_at dksX4_line_4 20 rfl rfl)
theorem dX4_line_118 : decode cX4_line 118 = .ok (.pop, 1) := dk_87 (dk_at dksX4_line_4 23 rfl rfl)
theorem dX4_line_119 : decode cX4_line 119 = .ok (.goto 9, 3) := dk_167 0 9 (dk_at dksX4_line_5 0 rfl rfl)
theorem dX4_line_122 : decode cX4_line 122 = .ok (.aload_n 0, 1) := dk_42 (dk_at dksX4_line_5 3 rfl rfl)
theorem dX4_line_123 : decode cX4_line 123 = .ok (.iconst 1, 1) := dk_4 (dk_at dksX4_line_5 4 rfl rfl)
theorem dX4_line_124 : decode cX4_line 124 = .ok (.invokevirtual 103, 3) := dk_182 0 103 (dk_at dksX4_line_5 5 rfl rfl)
theorem dX4_line_127 : decode cX4_line 127 = .ok (.athrow, 1) := dk_191 (dk_at dksX4_line_5 8 rfl rfl)
theorem dX4_line_128 : decode cX4_line 128 = .ok (.return_, 1) := dk_177 (dk_at dksX4_line_5 9 rfl rfl)
abbrev cX4_takes_2 : ByteArray := prog_12_method_15_code
def yX4_takes_2 : MethodName := ⟨RX4, "takes", "(Ljava/lang/String;ZI)Z"⟩
def dkwX4_takes_2_0 : List UInt8 := [42, 43, 182, 0, 96, 153, 0, 13, 28, 153, 0, 9, 42, 29, 182, 0, 103, 191, 42, 43, 182, 0, 100, 172]
abbrev dktX4_takes_2_0 : List UInt8 := dkwX4_takes_2_0 ++ []
theorem dksX4_takes_2_0 : cX4_takes_2.data.toList.drop 0 = dktX4_takes_2_0 := by decide +kernel
theorem dX4_takes_2_0 : decode cX4_takes_2 0 = .ok (.aload_n 0, 1) := dk_42 (dk_at dksX4_takes_2_0 0 rfl rfl)
theorem dX4_takes_2_1 : decode cX4_takes_2 1 = .ok (.aload_n 1, 1) := dk_43 (dk_at dksX4_takes_2_0 1 rfl rfl)
theorem dX4_takes_2_2 : decode cX4_takes_2 2 = .ok (.invokevirtual 96, 3) := dk_182 0 96 (dk_at dksX4_takes_2_0 2 rfl rfl)
theorem dX4_takes_2_5 : decode cX4_takes_2 5 = .ok (.ifCond .eq 13, 3) := dk_153 0 13 (dk_at dksX4_takes_2_0 5 rfl rfl)
theorem dX4_takes_2_8 : decode cX4_takes_2 8 = .ok (.iload_n 2, 1) := dk_28 (dk_at dksX4_takes_2_0 8 rfl rfl)
theorem dX4_takes_2_9 : decode cX4_takes_2 9 = .ok (.ifCond .eq 9, 3) := dk_153 0 9 (dk_at dksX4_takes_2_0 9 rfl rfl)
theorem dX4_takes_2_12 : decode cX4_takes_2 12 = .ok (.aload_n 0, 1) := dk_42 (dk_at dksX4_takes_2_0 12 rfl rfl)
theorem dX4_takes_2_13 : decode cX4_takes_2 13 = .ok (.iload_n 3, 1) := dk_29 (dk_at dksX4_takes_2_0 13 rfl rfl)
theorem dX4_takes_2_14 : decode cX4_takes_2 14 = .ok (.invokevirtual 103, 3) := dk_182 0 103 (dk_at dksX4_takes_2_0 14 rfl rfl)
theorem dX4_takes_2_17 : decode cX4_takes_2 17 = .ok (.athrow, 1) := dk_191 (dk_at dksX4_takes_2_0 17 rfl rfl)
theorem dX4_takes_2_18 : decode cX4_takes_2 18 = .ok (.aload_n 0, 1) := dk_42 (dk_at dksX4_takes_2_0 18 rfl rfl)
theorem dX4_takes_2_19 : decode cX4_takes_2 19 = .ok (.aload_n 1, 1) := dk_43 (dk_at dksX4_takes_2_0 19 rfl rfl)
theorem dX4_takes_2_20 : decode cX4_takes_2 20 = .ok (.invokevirtual 100, 3) := dk_182 0 100 (dk_at dksX4_takes_2_0 20 rfl rfl)
theorem dX4_takes_2_23 : decode cX4_takes_2 23 = .ok (.ireturn, 1) := dk_172 (dk_at dksX4_takes_2_0 23 rfl rfl)
abbrev cX4_doing : ByteArray := prog_12_method_13_code
def yX4_doing : MethodName := ⟨RX4, "doing", "()V"⟩
def dkwX4_doing_2 : List UInt8 := [182, 0, 155, 87, 42, 180, 0, 35, 178, 0, 59, 165, 255, 205, 177]
abbrev dktX4_doing_2 : List UInt8 := dkwX4_doing_2 ++ []
def dkwX4_doing_1 : List UInt8 := [182, 0, 132, 2, 159, 0, 9, 42, 6, 182, 0, 103, 191, 42, 180, 0, 25, 180, 0, 143, 42, 182, 0, 151]
abbrev dktX4_doing_1 : List UInt8 := dkwX4_doing_1 ++ dktX4_doing_2
def dkwX4_doing_0 : List UInt8 := [42, 180, 0, 25, 4, 181, 0, 139, 42, 180, 0, 25, 180, 0, 143, 182, 0, 147, 16, 12, 160, 0, 17, 42]
abbrev dktX4_doing_0 : List UInt8 := dkwX4_doing_0 ++ dktX4_doing_1
theorem dksX4_doing_0 : cX4_doing.data.toList.drop 0 = dktX4_doing_0 := by decide +kernel
theorem dksX4_doing_1 : cX4_doing.data.toList.drop 24 = dktX4_doing_1 := dk_seg dksX4_doing_0 24 rfl rfl
theorem dksX4_doing_2 : cX4_doing.data.toList.drop 48 = dktX4_doing_2 := dk_seg dksX4_doing_1 24 rfl rfl
theorem dX4_doing_0 : decode cX4_doing 0 = .ok (.aload_n 0, 1) := dk_42 (dk_at dksX4_doing_0 0 rfl rfl)
theorem dX4_doing_1 : decode cX4_doing 1 = .ok (.getfield 25, 3) := dk_180 0 25 (dk_at dksX4_doing_0 1 rfl rfl)
theorem dX4_doing_4 : decode cX4_doing 4 = .ok (.iconst 1, 1) := dk_4 (dk_at dksX4_doing_0 4 rfl rfl)
theorem dX4_doing_5 : decode cX4_doing 5 = .ok (.putfield 139, 3) := dk_181 0 139 (dk_at dksX4_doing_0 5 rfl rfl)
theorem dX4_doing_8 : decode cX4_doing 8 = .ok (.aload_n 0, 1) := dk_42 (dk_at dksX4_doing_0 8 rfl rfl)
theorem dX4_doing_9 : decode cX4_doing 9 = .ok (.getfield 25, 3) := dk_180 0 25 (dk_at dksX4_doing_0 9 rfl rfl)
theorem dX4_doing_12 : decode cX4_doing 12 = .ok (.getfield 143, 3) := dk_180 0 143 (dk_at dksX4_doing_0 12 rfl rfl)
theorem dX4_doing_15 : decode cX4_doing 15 = .ok (.invokevirtual 147, 3) := dk_182 0 147 (dk_at dksX4_doing_0 15 rfl rfl)
theorem dX4_doing_18 : decode cX4_doing 18 = .ok (.bipush 12, 2) := dk_16 12 (dk_at dksX4_doing_0 18 rfl rfl)
theorem dX4_doing_20 : decode cX4_doing 20 = .ok (.if_icmp .ne 17, 3) := dk_160 0 17 (dk_at dksX4_doing_0 20 rfl rfl)
theorem dX4_doing_23 : decode cX4_doing 23 = .ok (.aload_n 0, 1) := dk_42 (dk_at dksX4_doing_0 23 rfl rfl)
theorem dX4_doing_24 : decode cX4_doing 24 = .ok (.invokevirtual 132, 3) := dk_182 0 132 (dk_at dksX4_doing_1 0 rfl rfl)
theorem dX4_doing_27 : decode cX4_doing 27 = .ok (.iconst (-1), 1) := dk_2 (dk_at dksX4_doing_1 3 rfl rfl)
theorem dX4_doing_28 : decode cX4_doing 28 = .ok (.if_icmp .eq 9, 3) := dk_159 0 9 (dk_at dksX4_doing_1 4 rfl rfl)
theorem dX4_doing_31 : decode cX4_doing 31 = .ok (.aload_n 0, 1) := dk_42 (dk_at dksX4_doing_1 7 rfl rfl)
theorem dX4_doing_32 : decode cX4_doing 32 = .ok (.iconst 3, 1) := dk_6 (dk_at dksX4_doing_1 8 rfl rfl)
theorem dX4_doing_33 : decode cX4_doing 33 = .ok (.invokevirtual 103, 3) := dk_182 0 103 (dk_at dksX4_doing_1 9 rfl rfl)
theorem dX4_doing_36 : decode cX4_doing 36 = .ok (.athrow, 1) := dk_191 (dk_at dksX4_doing_1 12 rfl rfl)
theorem dX4_doing_37 : decode cX4_doing 37 = .ok (.aload_n 0, 1) := dk_42 (dk_at dksX4_doing_1 13 rfl rfl)
theorem dX4_doing_38 : decode cX4_doing 38 = .ok (.getfield 25, 3) := dk_180 0 25 (dk_at dksX4_doing_1 14 rfl rfl)
theorem dX4_doing_41 : decode cX4_doing 41 = .ok (.getfield 143, 3) := dk_180 0 143 (dk_at dksX4_doing_1 17 rfl rfl)
theorem dX4_doing_44 : decode cX4_doing 44 = .ok (.aload_n 0, 1) := dk_42 (dk_at dksX4_doing_1 20 rfl rfl)
theorem dX4_doing_45 : decode cX4_doing 45 = .ok (.invokevirtual 151, 3) := dk_182 0 151 (dk_at dksX4_doing_1 21 rfl rfl)
theorem dX4_doing_48 : decode cX4_doing 48 = .ok (.invokevirtual 155, 3) := dk_182 0 155 (dk_at dksX4_doing_2 0 rfl rfl)
theorem dX4_doing_51 : decode cX4_doing 51 = .ok (.pop, 1) := dk_87 (dk_at dksX4_doing_2 3 rfl rfl)
theorem dX4_doing_52 : decode cX4_doing 52 = .ok (.aload_n 0, 1) := dk_42 (dk_at dksX4_doing_2 4 rfl rfl)
theorem dX4_doing_53 : decode cX4_doing 53 = .ok (.getfield 35, 3) := dk_180 0 35 (dk_at dksX4_doing_2 5 rfl rfl)
theorem dX4_doing_56 : decode cX4_doing 56 = .ok (.getstatic 59, 3) := dk_178 0 59 (dk_at dksX4_doing_2 8 rfl rfl)
theorem dX4_doing_59 : decode cX4_doing 59 = .ok (.if_acmp .eq (-51), 3) := dk_165 255 205 (dk_at dksX4_doing_2 11 rfl rfl)
theorem dX4_doing_62 : decode cX4_doing 62 = .ok (.return_, 1) := dk_177 (dk_at dksX4_doing_2 14 rfl rfl)
abbrev cX4_sort : ByteArray := prog_12_method_11_code
def yX4_sort : MethodName := ⟨RX4, "sort", "()I"⟩
def dkwX4_sort_1 : List UInt8 := [27, 172, 132, 1, 1, 167, 255, 229, 2, 172]
abbrev dktX4_sort_1 : List UInt8 := dkwX4_sort_1 ++ []
def dkwX4_sort_0 : List UInt8 := [3, 60, 27, 16, 15, 162, 0, 27, 42, 42, 180, 0, 3, 180, 0, 128, 27, 50, 182, 0, 96, 153, 0, 5]
abbrev dktX4_sort_0 : List UInt8 := dkwX4_sort_0 ++ dktX4_sort_1
theorem dksX4_sort_0 : cX4_sort.data.toList.drop 0 = dktX4_sort_0 := by decide +kernel
theorem dksX4_sort_1 : cX4_sort.data.toList.drop 24 = dktX4_sort_1 := dk_seg dksX4_sort_0 24 rfl rfl
theorem dX4_sort_0 : decode cX4_sort 0 = .ok (.iconst 0, 1) := dk_3 (dk_at dksX4_sort_0 0 rfl rfl)
theorem dX4_sort_1 : decode cX4_sort 1 = .ok (.istore_n 1, 1) := dk_60 (dk_at dksX4_sort_0 1 rfl rfl)
theorem dX4_sort_2 : decode cX4_sort 2 = .ok (.iload_n 1, 1) := dk_27 (dk_at dksX4_sort_0 2 rfl rfl)
theorem dX4_sort_3 : decode cX4_sort 3 = .ok (.bipush 15, 2) := dk_16 15 (dk_at dksX4_sort_0 3 rfl rfl)
theorem dX4_sort_5 : decode cX4_sort 5 = .ok (.if_icmp .ge 27, 3) := dk_162 0 27 (dk_at dksX4_sort_0 5 rfl rfl)
theorem dX4_sort_8 : decode cX4_sort 8 = .ok (.aload_n 0, 1) := dk_42 (dk_at dksX4_sort_0 8 rfl rfl)
theorem dX4_sort_9 : decode cX4_sort 9 = .ok (.aload_n 0, 1) := dk_42 (dk_at dksX4_sort_0 9 rfl rfl)
theorem dX4_sort_10 : decode cX4_sort 10 = .ok (.getfield 3, 3) := dk_180 0 3 (dk_at dksX4_sort_0 10 rfl rfl)
theorem dX4_sort_13 : decode cX4_sort 13 = .ok (.getfield 128, 3) := dk_180 0 128 (dk_at dksX4_sort_0 13 rfl rfl)
theorem dX4_sort_16 : decode cX4_sort 16 = .ok (.iload_n 1, 1) := dk_27 (dk_at dksX4_sort_0 16 rfl rfl)
theorem dX4_sort_17 : decode cX4_sort 17 = .ok (.aaload, 1) := dk_50 (dk_at dksX4_sort_0 17 rfl rfl)
theorem dX4_sort_18 : decode cX4_sort 18 = .ok (.invokevirtual 96, 3) := dk_182 0 96 (dk_at dksX4_sort_0 18 rfl rfl)
theorem dX4_sort_21 : decode cX4_sort 21 = .ok (.ifCond .eq 5, 3) := dk_153 0 5 (dk_at dksX4_sort_0 21 rfl rfl)
theorem dX4_sort_24 : decode cX4_sort 24 = .ok (.iload_n 1, 1) := dk_27 (dk_at dksX4_sort_1 0 rfl rfl)
theorem dX4_sort_25 : decode cX4_sort 25 = .ok (.ireturn, 1) := dk_172 (dk_at dksX4_sort_1 1 rfl rfl)
theorem dX4_sort_26 : decode cX4_sort 26 = .ok (.iinc 1 1, 3) := dk_132 1 1 (dk_at dksX4_sort_1 2 rfl rfl)
theorem dX4_sort_29 : decode cX4_sort 29 = .ok (.goto (-27), 3) := dk_167 255 229 (dk_at dksX4_sort_1 5 rfl rfl)
theorem dX4_sort_32 : decode cX4_sort 32 = .ok (.iconst (-1), 1) := dk_2 (dk_at dksX4_sort_1 8 rfl rfl)
theorem dX4_sort_33 : decode cX4_sort 33 = .ok (.ireturn, 1) := dk_172 (dk_at dksX4_sort_1 9 rfl rfl)
abbrev cX4_word : ByteArray := prog_12_method_12_code
def yX4_word : MethodName := ⟨RX4, "word", "()LUpAndDown$Word;"⟩
def dkwX4_word_2 : List UInt8 := [180, 0, 121, 4, 100, 167, 0, 5, 16, 99, 182, 0, 111, 182, 0, 135, 176]
abbrev dktX4_word_2 : List UInt8 := dkwX4_word_2 ++ []
def dkwX4_word_1 : List UInt8 := [27, 27, 16, 12, 162, 0, 7, 3, 167, 0, 28, 42, 3, 27, 16, 14, 160, 0, 15, 42, 180, 0, 25]
abbrev dktX4_word_1 : List UInt8 := dkwX4_word_1 ++ dktX4_word_2
def dkwX4_word_0 : List UInt8 := [42, 182, 0, 132, 60, 27, 2, 160, 0, 9, 42, 4, 182, 0, 103, 191, 42, 182, 0, 38, 42, 180, 0, 3]
abbrev dktX4_word_0 : List UInt8 := dkwX4_word_0 ++ dktX4_word_1
theorem dksX4_word_0 : cX4_word.data.toList.drop 0 = dktX4_word_0 := by decide +kernel
theorem dksX4_word_1 : cX4_word.data.toList.drop 24 = dktX4_word_1 := dk_seg dksX4_word_0 24 rfl rfl
theorem dksX4_word_2 : cX4_word.data.toList.drop 47 = dktX4_word_2 := dk_seg dksX4_word_1 23 rfl rfl
theorem dX4_word_0 : decode cX4_word 0 = .ok (.aload_n 0, 1) := dk_42 (dk_at dksX4_word_0 0 rfl rfl)
theorem dX4_word_1 : decode cX4_word 1 = .ok (.invokevirtual 132, 3) := dk_182 0 132 (dk_at dksX4_word_0 1 rfl rfl)
theorem dX4_word_4 : decode cX4_word 4 = .ok (.istore_n 1, 1) := dk_60 (dk_at dksX4_word_0 4 rfl rfl)
theorem dX4_word_5 : decode cX4_word 5 = .ok (.iload_n 1, 1) := dk_27 (dk_at dksX4_word_0 5 rfl rfl)
theorem dX4_word_6 : decode cX4_word 6 = .ok (.iconst (-1), 1) := dk_2 (dk_at dksX4_word_0 6 rfl rfl)
theorem dX4_word_7 : decode cX4_word 7 = .ok (.if_icmp .ne 9, 3) := dk_160 0 9 (dk_at dksX4_word_0 7 rfl rfl)
theorem dX4_word_10 : decode cX4_word 10 = .ok (.aload_n 0, 1) := dk_42 (dk_at dksX4_word_0 10 rfl rfl)
theorem dX4_word_11 : decode cX4_word 11 = .ok (.iconst 1, 1) := dk_4 (dk_at dksX4_word_0 11 rfl rfl)
theorem dX4_word_12 : decode cX4_word 12 = .ok (.invokevirtual 103, 3) := dk_182 0 103 (dk_at dksX4_word_0 12 rfl rfl)
theorem dX4_word_15 : decode cX4_word 15 = .ok (.athrow, 1) := dk_191 (dk_at dksX4_word_0 15 rfl rfl)
theorem dX4_word_16 : decode cX4_word 16 = .ok (.aload_n 0, 1) := dk_42 (dk_at dksX4_word_0 16 rfl rfl)
theorem dX4_word_17 : decode cX4_word 17 = .ok (.invokevirtual 38, 3) := dk_182 0 38 (dk_at dksX4_word_0 17 rfl rfl)
theorem dX4_word_20 : decode cX4_word 20 = .ok (.aload_n 0, 1) := dk_42 (dk_at dksX4_word_0 20 rfl rfl)
theorem dX4_word_21 : decode cX4_word 21 = .ok (.getfield 3, 3) := dk_180 0 3 (dk_at dksX4_word_0 21 rfl rfl)
theorem dX4_word_24 : decode cX4_word 24 = .ok (.iload_n 1, 1) := dk_27 (dk_at dksX4_word_1 0 rfl rfl)
theorem dX4_word_25 : decode cX4_word 25 = .ok (.iload_n 1, 1) := dk_27 (dk_at dksX4_word_1 1 rfl rfl)
theorem dX4_word_26 : decode cX4_word 26 = .ok (.bipush 12, 2) := dk_16 12 (dk_at dksX4_word_1 2 rfl rfl)
theorem dX4_word_28 : decode cX4_word 28 = .ok (.if_icmp .ge 7, 3) := dk_162 0 7 (dk_at dksX4_word_1 4 rfl rfl)
theorem dX4_word_31 : decode cX4_word 31 = .ok (.iconst 0, 1) := dk_3 (dk_at dksX4_word_1 7 rfl rfl)
theorem dX4_word_32 : decode cX4_word 32 = .ok (.goto 28, 3) := dk_167 0 28 (dk_at dksX4_word_1 8 rfl rfl)
theorem dX4_word_35 : decode cX4_word 35 = .ok (.aload_n 0, 1) := dk_42 (dk_at dksX4_word_1 11 rfl rfl)
theorem dX4_word_36 : decode cX4_word 36 = .ok (.iconst 0, 1) := dk_3 (dk_at dksX4_word_1 12 rfl rfl)
theorem dX4_word_37 : decode cX4_word 37 = .ok (.iload_n 1, 1) := dk_27 (dk_at dksX4_word_1 13 rfl rfl)
theorem dX4_word_38 : decode cX4_word 38 = .ok (.bipush 14, 2) := dk_16 14 (dk_at dksX4_word_1 14 rfl rfl)
theorem dX4_word_40 : decode cX4_word 40 = .ok (.if_icmp .ne 15, 3) := dk_160 0 15 (dk_at dksX4_word_1 16 rfl rfl)
theorem dX4_word_43 : decode cX4_word 43 = .ok (.aload_n 0, 1) := dk_42 (dk_at dksX4_word_1 19 rfl rfl)
theorem dX4_word_44 : decode cX4_word 44 = .ok (.getfield 25, 3) := dk_180 0 25 (dk_at dksX4_word_1 20 rfl rfl)
theorem dX4_word_47 : decode cX4_word 47 = .ok (.getfield 121, 3) := dk_180 0 121 (dk_at dksX4_word_2 0 rfl rfl)
theorem dX4_word_50 : decode cX4_word 50 = .ok (.iconst 1, 1) := dk_4 (dk_at dksX4_word_2 3 rfl rfl)
theorem dX4_word_51 : decode cX4_word 51 = .ok (.isub, 1) := dk_100 (dk_at dksX4_word_2 4 rfl rfl)
theorem dX4_word_52 : decode cX4_word 52 = .ok (.goto 5, 3) := dk_167 0 5 (dk_at dksX4_word_2 5 rfl rfl)
theorem dX4_word_55 : decode cX4_word 55 = .ok (.bipush 99, 2) := dk_16 99 (dk_at dksX4_word_2 8 rfl rfl)
theorem dX4_word_57 : decode cX4_word 57 = .ok (.invokevirtual 111, 3) := dk_182 0 111 (dk_at dksX4_word_2 10 rfl rfl)
theorem dX4_word_60 : decode cX4_word 60 = .ok (.invokevirtual 135, 3) := dk_182 0 135 (dk_at dksX4_word_2 13 rfl rfl)
theorem dX4_word_63 : decode cX4_word 63 = .ok (.areturn, 1) := dk_176 (dk_at dksX4_word_2 16 rfl rfl)
abbrev cX4_slip : ByteArray := prog_12_method_14_code
def yX4_slip : MethodName := ⟨RX4, "slip", "()V"⟩
def dkwX4_slip_1 : List UInt8 := [182, 0, 155, 87, 42, 180, 0, 25, 180, 0, 164, 43, 182, 0, 155, 87, 177]
abbrev dktX4_slip_1 : List UInt8 := dkwX4_slip_1 ++ []
def dkwX4_slip_0 : List UInt8 := [42, 182, 0, 151, 76, 42, 18, 159, 182, 0, 107, 42, 180, 0, 25, 180, 0, 161, 42, 182, 0, 151]
abbrev dktX4_slip_0 : List UInt8 := dkwX4_slip_0 ++ dktX4_slip_1
theorem dksX4_slip_0 : cX4_slip.data.toList.drop 0 = dktX4_slip_0 := by decide +kernel
theorem dksX4_slip_1 : cX4_slip.data.toList.drop 22 = dktX4_slip_1 := dk_seg dksX4_slip_0 22 rfl rfl
theorem dX4_slip_0 : decode cX4_slip 0 = .ok (.aload_n 0, 1) := dk_42 (dk_at dksX4_slip_0 0 rfl rfl)
theorem dX4_slip_1 : decode cX4_slip 1 = .ok (.invokevirtual 151, 3) := dk_182 0 151 (dk_at dksX4_slip_0 1 rfl rfl)
theorem dX4_slip_4 : decode cX4_slip 4 = .ok (.astore_n 1, 1) := dk_76 (dk_at dksX4_slip_0 4 rfl rfl)
theorem dX4_slip_5 : decode cX4_slip 5 = .ok (.aload_n 0, 1) := dk_42 (dk_at dksX4_slip_0 5 rfl rfl)
theorem dX4_slip_6 : decode cX4_slip 6 = .ok (.ldc 159, 2) := dk_18 159 (dk_at dksX4_slip_0 6 rfl rfl)
theorem dX4_slip_8 : decode cX4_slip 8 = .ok (.invokevirtual 107, 3) := dk_182 0 107 (dk_at dksX4_slip_0 8 rfl rfl)
theorem dX4_slip_11 : decode cX4_slip 11 = .ok (.aload_n 0, 1) := dk_42 (dk_at dksX4_slip_0 11 rfl rfl)
theorem dX4_slip_12 : decode cX4_slip 12 = .ok (.getfield 25, 3) := dk_180 0 25 (dk_at dksX4_slip_0 12 rfl rfl)
theorem dX4_slip_15 : decode cX4_slip 15 = .ok (.getfield 161, 3) := dk_180 0 161 (dk_at dksX4_slip_0 15 rfl rfl)
theorem dX4_slip_18 : decode cX4_slip 18 = .ok (.aload_n 0, 1) := dk_42 (dk_at dksX4_slip_0 18 rfl rfl)
theorem dX4_slip_19 : decode cX4_slip 19 = .ok (.invokevirtual 151, 3) := dk_182 0 151 (dk_at dksX4_slip_0 19 rfl rfl)
theorem dX4_slip_22 : decode cX4_slip 22 = .ok (.invokevirtual 155, 3) := dk_182 0 155 (dk_at dksX4_slip_1 0 rfl rfl)
theorem dX4_slip_25 : decode cX4_slip 25 = .ok (.pop, 1) := dk_87 (dk_at dksX4_slip_1 3 rfl rfl)
theorem dX4_slip_26 : decode cX4_slip 26 = .ok (.aload_n 0, 1) := dk_42 (dk_at dksX4_slip_1 4 rfl rfl)
theorem dX4_slip_27 : decode cX4_slip 27 = .ok (.getfield 25, 3) := dk_180 0 25 (dk_at dksX4_slip_1 5 rfl rfl)
theorem dX4_slip_30 : decode cX4_slip 30 = .ok (.getfield 164, 3) := dk_180 0 164 (dk_at dksX4_slip_1 8 rfl rfl)
theorem dX4_slip_33 : decode cX4_slip 33 = .ok (.aload_n 1, 1) := dk_43 (dk_at dksX4_slip_1 11 rfl rfl)
theorem dX4_slip_34 : decode cX4_slip 34 = .ok (.invokevirtual 155, 3) := dk_182 0 155 (dk_at dksX4_slip_1 12 rfl rfl)
theorem dX4_slip_37 : decode cX4_slip 37 = .ok (.pop, 1) := dk_87 (dk_at dksX4_slip_1 15 rfl rfl)
theorem dX4_slip_38 : decode cX4_slip 38 = .ok (.return_, 1) := dk_177 (dk_at dksX4_slip_1 16 rfl rfl)
theorem q129 : (Jvm.Cond.initialized "UpAndDown$Reader") ∈ lw_all := lw_g (lw_at lw_m1 8 rfl) rfl
theorem q213 : (Jvm.Cond.fieldLinkNest "UpAndDown$Reader" (121 : Nat) "UpAndDown$Table" "base" "I" "UpAndDown") ∈ lw_tbl := lw_at lw_m1 92 rfl
theorem q222 : (Jvm.Cond.fieldLinkNest "UpAndDown$Reader" (125 : Nat) "UpAndDown$Table" "length" "I" "UpAndDown") ∈ lw_tbl := lw_at lw_m1 101 rfl
theorem q224 : (Jvm.Cond.fieldLinkNest "UpAndDown$Reader" (127 : Nat) "UpAndDown$Table" "size" "I" "UpAndDown") ∈ lw_tbl := lw_at lw_m1 103 rfl
theorem q228 : (Jvm.Cond.fieldLinkNest "UpAndDown$Reader" (187 : Nat) "UpAndDown$Table" "lines" "I" "UpAndDown") ∈ lw_tbl := lw_at lw_m1 107 rfl
theorem q229 : (Jvm.Cond.fieldLinkNest "UpAndDown$Reader" (139 : Nat) "UpAndDown$Table" "hasDoing" "Z" "UpAndDown") ∈ lw_tbl := lw_at lw_m1 108 rfl
theorem q231 : (Jvm.Cond.fieldLinkNest "UpAndDown$Reader" (143 : Nat) "UpAndDown$Table" "doing" "Ljava/util/ArrayList;" "UpAndDown") ∈ lw_tbl := lw_at lw_m1 110 rfl
theorem q234 : (Jvm.Cond.fieldLinkNest "UpAndDown$Reader" (164 : Nat) "UpAndDown$Table" "slipDone" "Ljava/util/ArrayList;" "UpAndDown") ∈ lw_tbl := lw_at lw_m1 113 rfl
theorem q237 : (Jvm.Cond.fieldLinkNest "UpAndDown$Reader" (161 : Nat) "UpAndDown$Table" "slipFor" "Ljava/util/ArrayList;" "UpAndDown") ∈ lw_tbl := lw_at lw_m1 116 rfl
theorem q240 : (Jvm.Cond.fieldLinkNest "UpAndDown$Reader" (178 : Nat) "UpAndDown$Table" "numbers" "Ljava/util/ArrayList;" "UpAndDown") ∈ lw_tbl := lw_at lw_m1 119 rfl
theorem q312 : (Jvm.Cond.fieldLinkNest "UpAndDown$Reader" (128 : Nat) "UpAndDown" "names" "[Ljava/lang/String;" "UpAndDown") ∈ lw_tbl := lw_at lw_m1 191 rfl
theorem q313 : (Jvm.Cond.fieldLinkNest "UpAndDown$Reader" (44 : Nat) "UpAndDown" "tape" "[B" "UpAndDown") ∈ lw_tbl := lw_at lw_m1 192 rfl
theorem q315 : (Jvm.Cond.fieldLinkNest "UpAndDown$Reader" (15 : Nat) "UpAndDown" "taped" "I" "UpAndDown") ∈ lw_tbl := lw_at lw_m1 194 rfl
theorem q410 : (Jvm.Cond.instantiable "UpAndDown$Reader" (7 : Nat)) ∈ lw_all := lw_g (lw_at lw_m2 49 rfl) rfl
theorem q412 : (Jvm.Cond.instanceMethod ({ cls := "UpAndDown$Reader", name := "<init>", desc := "(LUpAndDown;)V" } : Jvm.MethodName)) ∈ lw_all := lw_g (lw_at lw_m2 51 rfl) rfl
theorem q413 : (Jvm.Cond.code ({ cls := "UpAndDown$Reader", name := "<init>", desc := "(LUpAndDown;)V" } : Jvm.MethodName) prog_12_method_1_code (2 : Nat) (Option.none : Option Jvm.ClassFile.FieldType)) ∈ lw_all := lw_g (lw_at lw_m2 52 rfl) rfl
theorem q414 : (Jvm.Cond.methodLink "UpAndDown$Reader" (9 : Nat) ({ cls := "java/lang/Object", name := "<init>", desc := "()V" } : Jvm.MethodName)) ∈ lw_all := lw_g (lw_at lw_m2 53 rfl) rfl
theorem q415 : (Jvm.Cond.classLink "UpAndDown$Reader" (22 : Nat) "UpAndDown$Table") ∈ lw_all := lw_g (lw_at lw_m2 54 rfl) rfl
theorem q416 : (Jvm.Cond.methodLinkNest "UpAndDown$Reader" (24 : Nat) ({ cls := "UpAndDown$Table", name := "<init>", desc := "()V" } : Jvm.MethodName) "UpAndDown") ∈ lw_tbl := lw_at lw_m2 55 rfl
theorem q417 : (Jvm.Cond.fieldLink "UpAndDown$Reader" (29 : Nat) "UpAndDown$Token" "END" "LUpAndDown$Token;") ∈ lw_all := lw_g (lw_at lw_m2 56 rfl) rfl
theorem q419 : (Jvm.Cond.methodLink "UpAndDown$Reader" (38 : Nat) ({ cls := "UpAndDown$Reader", name := "next", desc := "()V" } : Jvm.MethodName)) ∈ lw_all := lw_g (lw_at lw_m2 58 rfl) rfl
theorem q420 : (Jvm.Cond.privateMethod ({ cls := "UpAndDown$Reader", name := "next", desc := "()V" } : Jvm.MethodName)) ∈ lw_tbl := lw_at lw_m2 59 rfl
theorem q421 : (Jvm.Cond.instanceMethod ({ cls := "UpAndDown$Reader", name := "next", desc := "()V" } : Jvm.MethodName)) ∈ lw_all := lw_g (lw_at lw_m2 60 rfl) rfl
theorem q422 : (Jvm.Cond.code ({ cls := "UpAndDown$Reader", name := "next", desc := "()V" } : Jvm.MethodName) prog_12_method_3_code (1 : Nat) (Option.none : Option Jvm.ClassFile.FieldType)) ∈ lw_all := lw_g (lw_at lw_m2 61 rfl) rfl
theorem q423 : (Jvm.Cond.methodLink "UpAndDown$Reader" (55 : Nat) ({ cls := "UpAndDown$Reader", name := "isNext", desc := "(II)Z" } : Jvm.MethodName)) ∈ lw_all := lw_g (lw_at lw_m2 62 rfl) rfl
theorem q424 : (Jvm.Cond.privateMethod ({ cls := "UpAndDown$Reader", name := "isNext", desc := "(II)Z" } : Jvm.MethodName)) ∈ lw_tbl := lw_at lw_m2 63 rfl
theorem q425 : (Jvm.Cond.instanceMethod ({ cls := "UpAndDown$Reader", name := "isNext", desc := "(II)Z" } : Jvm.MethodName)) ∈ lw_all := lw_g (lw_at lw_m2 64 rfl) rfl
theorem q426 : (Jvm.Cond.code ({ cls := "UpAndDown$Reader", name := "isNext", desc := "(II)Z" } : Jvm.MethodName) prog_12_method_2_code (3 : Nat) (Option.some Jvm.ClassFile.FieldType.boolean)) ∈ lw_all := lw_g (lw_at lw_m2 65 rfl) rfl
theorem q427 : (Jvm.Cond.methodLinkNest "UpAndDown$Reader" (48 : Nat) ({ cls := "UpAndDown", name := "isIn", desc := "(JJJ)Z" } : Jvm.MethodName) "UpAndDown") ∈ lw_tbl := lw_at lw_m2 66 rfl
theorem q428 : (Jvm.Cond.fieldLink "UpAndDown$Reader" (59 : Nat) "UpAndDown$Token" "WORD" "LUpAndDown$Token;") ∈ lw_all := lw_g (lw_at lw_m2 67 rfl) rfl
theorem q430 : (Jvm.Cond.constant "UpAndDown$Reader" (65 : Nat) (99999 : Int32)) ∈ lw_all := lw_g (lw_at lw_m2 69 rfl) rfl
theorem q431 : (Jvm.Cond.methodLink "UpAndDown$Reader" (66 : Nat) ({ cls := "java/lang/Math", name := "min", desc := "(II)I" } : Jvm.MethodName)) ∈ lw_all := lw_g (lw_at lw_m2 70 rfl) rfl
theorem q434 : (Jvm.Cond.fieldLink "UpAndDown$Reader" (72 : Nat) "UpAndDown$Token" "NUMBER" "LUpAndDown$Token;") ∈ lw_all := lw_g (lw_at lw_m2 73 rfl) rfl
theorem q436 : (Jvm.Cond.fieldLink "UpAndDown$Reader" (75 : Nat) "UpAndDown$Token" "STOP" "LUpAndDown$Token;") ∈ lw_all := lw_g (lw_at lw_m2 75 rfl) rfl
theorem q438 : (Jvm.Cond.fieldLink "UpAndDown$Reader" (78 : Nat) "UpAndDown$Token" "NONE" "LUpAndDown$Token;") ∈ lw_all := lw_g (lw_at lw_m2 77 rfl) rfl
theorem q440 : (Jvm.Cond.fieldLink "UpAndDown$Reader" (19 : Nat) "UpAndDown$Reader" "size" "I") ∈ lw_all := lw_g (lw_at lw_m2 79 rfl) rfl
theorem q441 : (Jvm.Cond.fieldLink "UpAndDown$Reader" (25 : Nat) "UpAndDown$Reader" "table" "LUpAndDown$Table;") ∈ lw_all := lw_g (lw_at lw_m2 80 rfl) rfl
theorem q442 : (Jvm.Cond.fieldLink "UpAndDown$Reader" (41 : Nat) "UpAndDown$Reader" "at" "I") ∈ lw_all := lw_g (lw_at lw_m2 81 rfl) rfl
theorem q443 : (Jvm.Cond.fieldLink "UpAndDown$Reader" (52 : Nat) "UpAndDown$Reader" "from" "I") ∈ lw_all := lw_g (lw_at lw_m2 82 rfl) rfl
theorem q444 : (Jvm.Cond.fieldLink "UpAndDown$Reader" (62 : Nat) "UpAndDown$Reader" "value" "I") ∈ lw_all := lw_g (lw_at lw_m2 83 rfl) rfl
theorem q445 : (Jvm.Cond.fieldLink "UpAndDown$Reader" (35 : Nat) "UpAndDown$Reader" "token" "LUpAndDown$Token;") ∈ lw_all := lw_g (lw_at lw_m2 84 rfl) rfl
theorem q446 : (Jvm.Cond.fieldLink "UpAndDown$Reader" (3 : Nat) "UpAndDown$Reader" "this$0" "LUpAndDown;") ∈ lw_all := lw_g (lw_at lw_m2 85 rfl) rfl
theorem q447 : (Jvm.Cond.laysFinal "UpAndDown$Reader" "UpAndDown$Reader" "size" "I") ∈ lw_all := lw_g (lw_at lw_m2 86 rfl) rfl
theorem q448 : (Jvm.Cond.soleField "UpAndDown$Reader" "size") ∈ lw_all := lw_g (lw_at lw_m2 87 rfl) rfl
theorem q449 : (Jvm.Cond.laysFinal "UpAndDown$Reader" "UpAndDown$Reader" "table" "LUpAndDown$Table;") ∈ lw_all := lw_g (lw_at lw_m2 88 rfl) rfl
theorem q450 : (Jvm.Cond.soleField "UpAndDown$Reader" "table") ∈ lw_all := lw_g (lw_at lw_m2 89 rfl) rfl
theorem q451 : (Jvm.Cond.lays "UpAndDown$Reader" "UpAndDown$Reader" "at" "I") ∈ lw_all := lw_g (lw_at lw_m2 90 rfl) rfl
theorem q452 : (Jvm.Cond.soleField "UpAndDown$Reader" "at") ∈ lw_all := lw_g (lw_at lw_m2 91 rfl) rfl
theorem q453 : (Jvm.Cond.lays "UpAndDown$Reader" "UpAndDown$Reader" "from" "I") ∈ lw_all := lw_g (lw_at lw_m2 92 rfl) rfl
theorem q454 : (Jvm.Cond.soleField "UpAndDown$Reader" "from") ∈ lw_all := lw_g (lw_at lw_m2 93 rfl) rfl
theorem q455 : (Jvm.Cond.lays "UpAndDown$Reader" "UpAndDown$Reader" "value" "I") ∈ lw_all := lw_g (lw_at lw_m2 94 rfl) rfl
theorem q456 : (Jvm.Cond.soleField "UpAndDown$Reader" "value") ∈ lw_all := lw_g (lw_at lw_m2 95 rfl) rfl
theorem q457 : (Jvm.Cond.lays "UpAndDown$Reader" "UpAndDown$Reader" "token" "LUpAndDown$Token;") ∈ lw_all := lw_g (lw_at lw_m2 96 rfl) rfl
theorem q458 : (Jvm.Cond.soleField "UpAndDown$Reader" "token") ∈ lw_all := lw_g (lw_at lw_m2 97 rfl) rfl
theorem q459 : (Jvm.Cond.laysFinal "UpAndDown$Reader" "UpAndDown$Reader" "this$0" "LUpAndDown;") ∈ lw_all := lw_g (lw_at lw_m2 98 rfl) rfl
theorem q460 : (Jvm.Cond.soleField "UpAndDown$Reader" "this$0") ∈ lw_all := lw_g (lw_at lw_m2 99 rfl) rfl
theorem q461 : (Jvm.Cond.superclass "UpAndDown$Reader" "java/lang/Object") ∈ lw_all := lw_g (lw_at lw_m2 100 rfl) rfl
theorem q463 : (Jvm.Cond.instanceMethod ({ cls := "UpAndDown$Reader", name := "read", desc := "()LUpAndDown$Table;" } : Jvm.MethodName)) ∈ lw_all := lw_g (lw_at lw_m2 102 rfl) rfl
theorem q464 : (Jvm.Cond.selects "UpAndDown$Reader" ({ cls := "UpAndDown$Reader", name := "read", desc := "()LUpAndDown$Table;" } : Jvm.MethodName) ({ cls := "UpAndDown$Reader", name := "read", desc := "()LUpAndDown$Table;" } : Jvm.MethodName)) ∈ lw_all := lw_g (lw_at lw_m2 103 rfl) rfl
theorem q465 : (Jvm.Cond.code ({ cls := "UpAndDown$Reader", name := "read", desc := "()LUpAndDown$Table;" } : Jvm.MethodName) prog_12_method_17_code (1 : Nat) (Option.some (Jvm.ClassFile.FieldType.object "UpAndDown$Table"))) ∈ lw_all := lw_g (lw_at lw_m2 104 rfl) rfl
theorem q466 : (Jvm.Cond.methodLink "UpAndDown$Reader" (190 : Nat) ({ cls := "UpAndDown$Reader", name := "first", desc := "()V" } : Jvm.MethodName)) ∈ lw_all := lw_g (lw_at lw_m2 105 rfl) rfl
theorem q467 : (Jvm.Cond.privateMethod ({ cls := "UpAndDown$Reader", name := "first", desc := "()V" } : Jvm.MethodName)) ∈ lw_tbl := lw_at lw_m2 106 rfl
theorem q468 : (Jvm.Cond.instanceMethod ({ cls := "UpAndDown$Reader", name := "first", desc := "()V" } : Jvm.MethodName)) ∈ lw_all := lw_g (lw_at lw_m2 107 rfl) rfl
theorem q469 : (Jvm.Cond.code ({ cls := "UpAndDown$Reader", name := "first", desc := "()V" } : Jvm.MethodName) prog_12_method_10_code (3 : Nat) (Option.none : Option Jvm.ClassFile.FieldType)) ∈ lw_all := lw_g (lw_at lw_m2 108 rfl) rfl
theorem q470 : (Jvm.Cond.stringRef "UpAndDown$Reader" (114 : Nat) "table") ∈ lw_tbl := lw_at lw_m2 109 rfl
theorem q471 : (Jvm.Cond.methodLink "UpAndDown$Reader" (107 : Nat) ({ cls := "UpAndDown$Reader", name := "needs", desc := "(Ljava/lang/String;)V" } : Jvm.MethodName)) ∈ lw_all := lw_g (lw_at lw_m2 110 rfl) rfl
theorem q472 : (Jvm.Cond.privateMethod ({ cls := "UpAndDown$Reader", name := "needs", desc := "(Ljava/lang/String;)V" } : Jvm.MethodName)) ∈ lw_tbl := lw_at lw_m2 111 rfl
theorem q473 : (Jvm.Cond.instanceMethod ({ cls := "UpAndDown$Reader", name := "needs", desc := "(Ljava/lang/String;)V" } : Jvm.MethodName)) ∈ lw_all := lw_g (lw_at lw_m2 112 rfl) rfl
theorem q474 : (Jvm.Cond.code ({ cls := "UpAndDown$Reader", name := "needs", desc := "(Ljava/lang/String;)V" } : Jvm.MethodName) prog_12_method_7_code (2 : Nat) (Option.none : Option Jvm.ClassFile.FieldType)) ∈ lw_all := lw_g (lw_at lw_m2 113 rfl) rfl
theorem q475 : (Jvm.Cond.methodLink "UpAndDown$Reader" (100 : Nat) ({ cls := "UpAndDown$Reader", name := "takes", desc := "(Ljava/lang/String;)Z" } : Jvm.MethodName)) ∈ lw_all := lw_g (lw_at lw_m2 114 rfl) rfl
theorem q476 : (Jvm.Cond.privateMethod ({ cls := "UpAndDown$Reader", name := "takes", desc := "(Ljava/lang/String;)Z" } : Jvm.MethodName)) ∈ lw_tbl := lw_at lw_m2 115 rfl
theorem q477 : (Jvm.Cond.instanceMethod ({ cls := "UpAndDown$Reader", name := "takes", desc := "(Ljava/lang/String;)Z" } : Jvm.MethodName)) ∈ lw_all := lw_g (lw_at lw_m2 116 rfl) rfl
theorem q478 : (Jvm.Cond.code ({ cls := "UpAndDown$Reader", name := "takes", desc := "(Ljava/lang/String;)Z" } : Jvm.MethodName) prog_12_method_6_code (3 : Nat) (Option.some Jvm.ClassFile.FieldType.boolean)) ∈ lw_all := lw_g (lw_at lw_m2 117 rfl) rfl
theorem q479 : (Jvm.Cond.methodLink "UpAndDown$Reader" (96 : Nat) ({ cls := "UpAndDown$Reader", name := "is", desc := "(Ljava/lang/String;)Z" } : Jvm.MethodName)) ∈ lw_all := lw_g (lw_at lw_m2 118 rfl) rfl
theorem q480 : (Jvm.Cond.privateMethod ({ cls := "UpAndDown$Reader", name := "is", desc := "(Ljava/lang/String;)Z" } : Jvm.MethodName)) ∈ lw_tbl := lw_at lw_m2 119 rfl
theorem q481 : (Jvm.Cond.instanceMethod ({ cls := "UpAndDown$Reader", name := "is", desc := "(Ljava/lang/String;)Z" } : Jvm.MethodName)) ∈ lw_all := lw_g (lw_at lw_m2 120 rfl) rfl
theorem q482 : (Jvm.Cond.code ({ cls := "UpAndDown$Reader", name := "is", desc := "(Ljava/lang/String;)Z" } : Jvm.MethodName) prog_12_method_5_code (3 : Nat) (Option.some Jvm.ClassFile.FieldType.boolean)) ∈ lw_all := lw_g (lw_at lw_m2 121 rfl) rfl
theorem q483 : (Jvm.Cond.methodLink "UpAndDown$Reader" (86 : Nat) ({ cls := "java/lang/String", name := "length", desc := "()I" } : Jvm.MethodName)) ∈ lw_all := lw_g (lw_at lw_m2 122 rfl) rfl
theorem q493 : (Jvm.Cond.methodLink "UpAndDown$Reader" (92 : Nat) ({ cls := "java/lang/String", name := "charAt", desc := "(I)C" } : Jvm.MethodName)) ∈ lw_all := lw_g (lw_at lw_m2 132 rfl) rfl
theorem q531 : (Jvm.Cond.methodLink "UpAndDown$Reader" (103 : Nat) ({ cls := "UpAndDown$Reader", name := "wrong", desc := "(I)LUpAndDown$Fault;" } : Jvm.MethodName)) ∈ lw_all := lw_g (lw_at lw_m2 170 rfl) rfl
theorem q532 : (Jvm.Cond.privateMethod ({ cls := "UpAndDown$Reader", name := "wrong", desc := "(I)LUpAndDown$Fault;" } : Jvm.MethodName)) ∈ lw_tbl := lw_at lw_m2 171 rfl
theorem q533 : (Jvm.Cond.instanceMethod ({ cls := "UpAndDown$Reader", name := "wrong", desc := "(I)LUpAndDown$Fault;" } : Jvm.MethodName)) ∈ lw_all := lw_g (lw_at lw_m2 172 rfl) rfl
theorem q534 : (Jvm.Cond.code ({ cls := "UpAndDown$Reader", name := "wrong", desc := "(I)LUpAndDown$Fault;" } : Jvm.MethodName) prog_12_method_4_code (2 : Nat) (Option.some (Jvm.ClassFile.FieldType.object "UpAndDown$Fault"))) ∈ lw_all := lw_g (lw_at lw_m2 173 rfl) rfl
theorem q535 : (Jvm.Cond.classLink "UpAndDown$Reader" (81 : Nat) "UpAndDown$Fault") ∈ lw_all := lw_g (lw_at lw_m2 174 rfl) rfl
theorem q589 : (Jvm.Cond.methodLink "UpAndDown$Reader" (83 : Nat) ({ cls := "UpAndDown$Fault", name := "<init>", desc := "(II)V" } : Jvm.MethodName)) ∈ lw_all := lw_g (lw_at lw_m2 228 rfl) rfl
theorem q619 : (Jvm.Cond.stringRef "UpAndDown$Reader" (115 : Nat) "base") ∈ lw_tbl := lw_at lw_m3 18 rfl
theorem q620 : (Jvm.Cond.methodLink "UpAndDown$Reader" (117 : Nat) ({ cls := "UpAndDown$Reader", name := "told", desc := "(Ljava/lang/String;II)I" } : Jvm.MethodName)) ∈ lw_all := lw_g (lw_at lw_m3 19 rfl) rfl
theorem q621 : (Jvm.Cond.privateMethod ({ cls := "UpAndDown$Reader", name := "told", desc := "(Ljava/lang/String;II)I" } : Jvm.MethodName)) ∈ lw_tbl := lw_at lw_m3 20 rfl
theorem q622 : (Jvm.Cond.instanceMethod ({ cls := "UpAndDown$Reader", name := "told", desc := "(Ljava/lang/String;II)I" } : Jvm.MethodName)) ∈ lw_all := lw_g (lw_at lw_m3 21 rfl) rfl
theorem q623 : (Jvm.Cond.code ({ cls := "UpAndDown$Reader", name := "told", desc := "(Ljava/lang/String;II)I" } : Jvm.MethodName) prog_12_method_9_code (4 : Nat) (Option.some Jvm.ClassFile.FieldType.int)) ∈ lw_all := lw_g (lw_at lw_m3 22 rfl) rfl
theorem q624 : (Jvm.Cond.methodLink "UpAndDown$Reader" (111 : Nat) ({ cls := "UpAndDown$Reader", name := "number", desc := "(II)I" } : Jvm.MethodName)) ∈ lw_all := lw_g (lw_at lw_m3 23 rfl) rfl
theorem q625 : (Jvm.Cond.privateMethod ({ cls := "UpAndDown$Reader", name := "number", desc := "(II)I" } : Jvm.MethodName)) ∈ lw_tbl := lw_at lw_m3 24 rfl
theorem q626 : (Jvm.Cond.instanceMethod ({ cls := "UpAndDown$Reader", name := "number", desc := "(II)I" } : Jvm.MethodName)) ∈ lw_all := lw_g (lw_at lw_m3 25 rfl) rfl
theorem q627 : (Jvm.Cond.code ({ cls := "UpAndDown$Reader", name := "number", desc := "(II)I" } : Jvm.MethodName) prog_12_method_8_code (4 : Nat) (Option.some Jvm.ClassFile.FieldType.int)) ∈ lw_all := lw_g (lw_at lw_m3 26 rfl) rfl
theorem q628 : (Jvm.Cond.stringRef "UpAndDown$Reader" (123 : Nat) "long") ∈ lw_tbl := lw_at lw_m3 27 rfl
theorem q629 : (Jvm.Cond.methodLink "UpAndDown$Reader" (193 : Nat) ({ cls := "UpAndDown$Reader", name := "line", desc := "()V" } : Jvm.MethodName)) ∈ lw_all := lw_g (lw_at lw_m3 28 rfl) rfl
theorem q630 : (Jvm.Cond.privateMethod ({ cls := "UpAndDown$Reader", name := "line", desc := "()V" } : Jvm.MethodName)) ∈ lw_tbl := lw_at lw_m3 29 rfl
theorem q631 : (Jvm.Cond.instanceMethod ({ cls := "UpAndDown$Reader", name := "line", desc := "()V" } : Jvm.MethodName)) ∈ lw_all := lw_g (lw_at lw_m3 30 rfl) rfl
theorem q632 : (Jvm.Cond.code ({ cls := "UpAndDown$Reader", name := "line", desc := "()V" } : Jvm.MethodName) prog_12_method_16_code (1 : Nat) (Option.none : Option Jvm.ClassFile.FieldType)) ∈ lw_all := lw_g (lw_at lw_m3 31 rfl) rfl
theorem q633 : (Jvm.Cond.stringRef "UpAndDown$Reader" (167 : Nat) "doing") ∈ lw_tbl := lw_at lw_m3 32 rfl
theorem q634 : (Jvm.Cond.methodLink "UpAndDown$Reader" (168 : Nat) ({ cls := "UpAndDown$Reader", name := "takes", desc := "(Ljava/lang/String;ZI)Z" } : Jvm.MethodName)) ∈ lw_all := lw_g (lw_at lw_m3 33 rfl) rfl
theorem q635 : (Jvm.Cond.privateMethod ({ cls := "UpAndDown$Reader", name := "takes", desc := "(Ljava/lang/String;ZI)Z" } : Jvm.MethodName)) ∈ lw_tbl := lw_at lw_m3 34 rfl
theorem q636 : (Jvm.Cond.instanceMethod ({ cls := "UpAndDown$Reader", name := "takes", desc := "(Ljava/lang/String;ZI)Z" } : Jvm.MethodName)) ∈ lw_all := lw_g (lw_at lw_m3 35 rfl) rfl
theorem q637 : (Jvm.Cond.code ({ cls := "UpAndDown$Reader", name := "takes", desc := "(Ljava/lang/String;ZI)Z" } : Jvm.MethodName) prog_12_method_15_code (4 : Nat) (Option.some Jvm.ClassFile.FieldType.boolean)) ∈ lw_all := lw_g (lw_at lw_m3 36 rfl) rfl
theorem q638 : (Jvm.Cond.methodLink "UpAndDown$Reader" (171 : Nat) ({ cls := "UpAndDown$Reader", name := "doing", desc := "()V" } : Jvm.MethodName)) ∈ lw_all := lw_g (lw_at lw_m3 37 rfl) rfl
theorem q639 : (Jvm.Cond.privateMethod ({ cls := "UpAndDown$Reader", name := "doing", desc := "()V" } : Jvm.MethodName)) ∈ lw_tbl := lw_at lw_m3 38 rfl
theorem q640 : (Jvm.Cond.instanceMethod ({ cls := "UpAndDown$Reader", name := "doing", desc := "()V" } : Jvm.MethodName)) ∈ lw_all := lw_g (lw_at lw_m3 39 rfl) rfl
theorem q641 : (Jvm.Cond.code ({ cls := "UpAndDown$Reader", name := "doing", desc := "()V" } : Jvm.MethodName) prog_12_method_13_code (1 : Nat) (Option.none : Option Jvm.ClassFile.FieldType)) ∈ lw_all := lw_g (lw_at lw_m3 40 rfl) rfl
theorem q642 : (Jvm.Cond.methodLink "UpAndDown$Reader" (147 : Nat) ({ cls := "java/util/ArrayList", name := "size", desc := "()I" } : Jvm.MethodName)) ∈ lw_all := lw_g (lw_at lw_m3 41 rfl) rfl
theorem q646 : (Jvm.Cond.methodLink "UpAndDown$Reader" (132 : Nat) ({ cls := "UpAndDown$Reader", name := "sort", desc := "()I" } : Jvm.MethodName)) ∈ lw_all := lw_g (lw_at lw_m3 45 rfl) rfl
theorem q647 : (Jvm.Cond.privateMethod ({ cls := "UpAndDown$Reader", name := "sort", desc := "()I" } : Jvm.MethodName)) ∈ lw_tbl := lw_at lw_m3 46 rfl
theorem q648 : (Jvm.Cond.instanceMethod ({ cls := "UpAndDown$Reader", name := "sort", desc := "()I" } : Jvm.MethodName)) ∈ lw_all := lw_g (lw_at lw_m3 47 rfl) rfl
theorem q649 : (Jvm.Cond.code ({ cls := "UpAndDown$Reader", name := "sort", desc := "()I" } : Jvm.MethodName) prog_12_method_11_code (2 : Nat) (Option.some Jvm.ClassFile.FieldType.int)) ∈ lw_all := lw_g (lw_at lw_m3 48 rfl) rfl
theorem q650 : (Jvm.Cond.methodLink "UpAndDown$Reader" (151 : Nat) ({ cls := "UpAndDown$Reader", name := "word", desc := "()LUpAndDown$Word;" } : Jvm.MethodName)) ∈ lw_all := lw_g (lw_at lw_m3 49 rfl) rfl
theorem q651 : (Jvm.Cond.privateMethod ({ cls := "UpAndDown$Reader", name := "word", desc := "()LUpAndDown$Word;" } : Jvm.MethodName)) ∈ lw_tbl := lw_at lw_m3 50 rfl
theorem q652 : (Jvm.Cond.instanceMethod ({ cls := "UpAndDown$Reader", name := "word", desc := "()LUpAndDown$Word;" } : Jvm.MethodName)) ∈ lw_all := lw_g (lw_at lw_m3 51 rfl) rfl
theorem q653 : (Jvm.Cond.code ({ cls := "UpAndDown$Reader", name := "word", desc := "()LUpAndDown$Word;" } : Jvm.MethodName) prog_12_method_12_code (2 : Nat) (Option.some (Jvm.ClassFile.FieldType.object "UpAndDown$Word"))) ∈ lw_all := lw_g (lw_at lw_m3 52 rfl) rfl
theorem q654 : (Jvm.Cond.methodLinkNest "UpAndDown$Reader" (135 : Nat) ({ cls := "UpAndDown", name := "newWord", desc := "(II)LUpAndDown$Word;" } : Jvm.MethodName) "UpAndDown") ∈ lw_tbl := lw_at lw_m3 53 rfl
theorem q821 : (Jvm.Cond.methodLink "UpAndDown$Reader" (155 : Nat) ({ cls := "java/util/ArrayList", name := "add", desc := "(Ljava/lang/Object;)Z" } : Jvm.MethodName)) ∈ lw_all := lw_g (lw_at lw_m3 220 rfl) rfl
theorem q865 : (Jvm.Cond.selects "UpAndDown$Reader" ({ cls := "java/lang/Object", name := "getClass", desc := "()Ljava/lang/Class;" } : Jvm.MethodName) ({ cls := "java/lang/Object", name := "getClass", desc := "()Ljava/lang/Class;" } : Jvm.MethodName)) ∈ lw_all := lw_g (lw_at lw_m4 24 rfl) rfl
theorem q890 : (Jvm.Cond.stringRef "UpAndDown$Reader" (173 : Nat) "slip") ∈ lw_tbl := lw_at lw_m4 49 rfl
theorem q891 : (Jvm.Cond.methodLink "UpAndDown$Reader" (175 : Nat) ({ cls := "UpAndDown$Reader", name := "slip", desc := "()V" } : Jvm.MethodName)) ∈ lw_all := lw_g (lw_at lw_m4 50 rfl) rfl
theorem q892 : (Jvm.Cond.privateMethod ({ cls := "UpAndDown$Reader", name := "slip", desc := "()V" } : Jvm.MethodName)) ∈ lw_tbl := lw_at lw_m4 51 rfl
theorem q893 : (Jvm.Cond.instanceMethod ({ cls := "UpAndDown$Reader", name := "slip", desc := "()V" } : Jvm.MethodName)) ∈ lw_all := lw_g (lw_at lw_m4 52 rfl) rfl
theorem q894 : (Jvm.Cond.code ({ cls := "UpAndDown$Reader", name := "slip", desc := "()V" } : Jvm.MethodName) prog_12_method_14_code (2 : Nat) (Option.none : Option Jvm.ClassFile.FieldType)) ∈ lw_all := lw_g (lw_at lw_m4 53 rfl) rfl
theorem q895 : (Jvm.Cond.stringRef "UpAndDown$Reader" (159 : Nat) "for") ∈ lw_tbl := lw_at lw_m4 54 rfl
theorem q896 : (Jvm.Cond.stringRef "UpAndDown$Reader" (177 : Nat) "number") ∈ lw_tbl := lw_at lw_m4 55 rfl
theorem q897 : (Jvm.Cond.methodLink "UpAndDown$Reader" (181 : Nat) ({ cls := "java/lang/Integer", name := "valueOf", desc := "(I)Ljava/lang/Integer;" } : Jvm.MethodName)) ∈ lw_all := lw_g (lw_at lw_m4 56 rfl) rfl
theorem q2125 : (Jvm.Cond.castable "UpAndDown$Reader" "java/lang/Object") ∈ lw_tbl := lw_at lw_m9 84 rfl
theorem in_X4 : ∀ w ∈ wsX40, w ∈ lw_all := lw_in wsX40 [447, 449, 451, 453, 455, 457, 459] (by decide +kernel) (by decide +kernel)
/-! UpAndDown$Fault -/
set_option maxRecDepth 100000
def RX5 : String := "UpAndDown$Fault"
def TX5 : u_T := fun k => match k with
  | 0 => ("java/lang/Throwable", "cause", "Ljava/lang/Throwable;", false)
  | 1 => ("java/lang/Throwable", "stackTrace", "[Ljava/lang/StackTraceElement;", false)
  | 2 => ("java/lang/Throwable", "suppressedExceptions", "Ljava/util/List;", false)
  | 3 => ("java/lang/Throwable", "detailMessage", "Ljava/lang/String;", false)
  | 4 => ("java/lang/Throwable", "backtrace", "Ljava/lang/Object;", false)
  | 5 => ("java/lang/Throwable", "depth", "I", false)
  | 6 => ("UpAndDown$Fault", "kind", "I", true)
  | _ => ("UpAndDown$Fault", "place", "I", true)
def tyX5 : Nat → FieldType := fun k => match k with
  | 0 => .object "java/lang/Throwable"
  | 1 => .array (.object "java/lang/StackTraceElement")
  | 2 => .object "java/util/List"
  | 3 => .object "java/lang/String"
  | 4 => .object "java/lang/Object"
  | 5 => .int
  | 6 => .int
  | _ => .int
abbrev wsX50 : List Cond := u_ws RX5 TX5 8
theorem nmX5 : ∀ a, a < 8 → ∀ b, b < 8 → a ≠ b → (TX5 a).2.1 ≠ (TX5 b).2.1 := by decide +kernel
theorem tyX5_ok : ∀ k, k < 8 → parseFieldDescriptor (TX5 k).2.2.1 = some (tyX5 k) := by decide +kernel
abbrev cX5_init : ByteArray := prog_5_method_1_code
def yX5_init : MethodName := ⟨RX5, "<init>", "(II)V"⟩
def dkwX5_init_0 : List UInt8 := [42, 1, 1, 3, 3, 183, 0, 1, 42, 27, 181, 0, 7, 42, 28, 181, 0, 13, 177]
abbrev dktX5_init_0 : List UInt8 := dkwX5_init_0 ++ []
theorem dksX5_init_0 : cX5_init.data.toList.drop 0 = dktX5_init_0 := by decide +kernel
theorem dX5_init_0 : decode cX5_init 0 = .ok (.aload_n 0, 1) := dk_42 (dk_at dksX5_init_0 0 rfl rfl)
theorem dX5_init_1 : decode cX5_init 1 = .ok (.aconst_null, 1) := dk_1 (dk_at dksX5_init_0 1 rfl rfl)
theorem dX5_init_2 : decode cX5_init 2 = .ok (.aconst_null, 1) := dk_1 (dk_at dksX5_init_0 2 rfl rfl)
theorem dX5_init_3 : decode cX5_init 3 = .ok (.iconst 0, 1) := dk_3 (dk_at dksX5_init_0 3 rfl rfl)
theorem dX5_init_4 : decode cX5_init 4 = .ok (.iconst 0, 1) := dk_3 (dk_at dksX5_init_0 4 rfl rfl)
theorem dX5_init_5 : decode cX5_init 5 = .ok (.invokespecial 1, 3) := dk_183 0 1 (dk_at dksX5_init_0 5 rfl rfl)
theorem dX5_init_8 : decode cX5_init 8 = .ok (.aload_n 0, 1) := dk_42 (dk_at dksX5_init_0 8 rfl rfl)
theorem dX5_init_9 : decode cX5_init 9 = .ok (.iload_n 1, 1) := dk_27 (dk_at dksX5_init_0 9 rfl rfl)
theorem dX5_init_10 : decode cX5_init 10 = .ok (.putfield 7, 3) := dk_181 0 7 (dk_at dksX5_init_0 10 rfl rfl)
theorem dX5_init_13 : decode cX5_init 13 = .ok (.aload_n 0, 1) := dk_42 (dk_at dksX5_init_0 13 rfl rfl)
theorem dX5_init_14 : decode cX5_init 14 = .ok (.iload_n 2, 1) := dk_28 (dk_at dksX5_init_0 14 rfl rfl)
theorem dX5_init_15 : decode cX5_init 15 = .ok (.putfield 13, 3) := dk_181 0 13 (dk_at dksX5_init_0 15 rfl rfl)
theorem dX5_init_18 : decode cX5_init 18 = .ok (.return_, 1) := dk_177 (dk_at dksX5_init_0 18 rfl rfl)
theorem q139 : (Jvm.Cond.initialized "UpAndDown$Fault") ∈ lw_all := lw_g (lw_at lw_m1 18 rfl) rfl
theorem q536 : (Jvm.Cond.instantiable "UpAndDown$Fault" (8 : Nat)) ∈ lw_all := lw_g (lw_at lw_m2 175 rfl) rfl
theorem q537 : (Jvm.Cond.castable "UpAndDown$Fault" "UpAndDown$Fault") ∈ lw_tbl := lw_at lw_m2 176 rfl
theorem q542 : (Jvm.Cond.selects "UpAndDown$Fault" ({ cls := "java/lang/Throwable", name := "fillInStackTrace", desc := "(I)Ljava/lang/Throwable;" } : Jvm.MethodName) ({ cls := "java/lang/Throwable", name := "fillInStackTrace", desc := "(I)Ljava/lang/Throwable;" } : Jvm.MethodName)) ∈ lw_all := lw_g (lw_at lw_m2 181 rfl) rfl
theorem q543 : (Jvm.Cond.selects "UpAndDown$Fault" ({ cls := "java/lang/Throwable", name := "fillInStackTrace", desc := "()Ljava/lang/Throwable;" } : Jvm.MethodName) ({ cls := "java/lang/Throwable", name := "fillInStackTrace", desc := "()Ljava/lang/Throwable;" } : Jvm.MethodName)) ∈ lw_all := lw_g (lw_at lw_m2 182 rfl) rfl
theorem q544 : (Jvm.Cond.lays "UpAndDown$Fault" "java/lang/Throwable" "cause" "Ljava/lang/Throwable;") ∈ lw_all := lw_g (lw_at lw_m2 183 rfl) rfl
theorem q546 : (Jvm.Cond.lays "UpAndDown$Fault" "java/lang/Throwable" "stackTrace" "[Ljava/lang/StackTraceElement;") ∈ lw_all := lw_g (lw_at lw_m2 185 rfl) rfl
theorem q548 : (Jvm.Cond.lays "UpAndDown$Fault" "java/lang/Throwable" "suppressedExceptions" "Ljava/util/List;") ∈ lw_all := lw_g (lw_at lw_m2 187 rfl) rfl
theorem q550 : (Jvm.Cond.lays "UpAndDown$Fault" "java/lang/Throwable" "detailMessage" "Ljava/lang/String;") ∈ lw_all := lw_g (lw_at lw_m2 189 rfl) rfl
theorem q552 : (Jvm.Cond.lays "UpAndDown$Fault" "java/lang/Throwable" "backtrace" "Ljava/lang/Object;") ∈ lw_all := lw_g (lw_at lw_m2 191 rfl) rfl
theorem q590 : (Jvm.Cond.instanceMethod ({ cls := "UpAndDown$Fault", name := "<init>", desc := "(II)V" } : Jvm.MethodName)) ∈ lw_all := lw_g (lw_at lw_m2 229 rfl) rfl
theorem q591 : (Jvm.Cond.code ({ cls := "UpAndDown$Fault", name := "<init>", desc := "(II)V" } : Jvm.MethodName) prog_5_method_1_code (3 : Nat) (Option.none : Option Jvm.ClassFile.FieldType)) ∈ lw_all := lw_g (lw_at lw_m2 230 rfl) rfl
theorem q592 : (Jvm.Cond.methodLink "UpAndDown$Fault" (1 : Nat) ({ cls := "java/lang/Exception", name := "<init>", desc := "(Ljava/lang/String;Ljava/lang/Throwable;ZZ)V" } : Jvm.MethodName)) ∈ lw_all := lw_g (lw_at lw_m2 231 rfl) rfl
theorem q598 : (Jvm.Cond.fieldLink "UpAndDown$Fault" (7 : Nat) "UpAndDown$Fault" "kind" "I") ∈ lw_all := lw_g (lw_at lw_m2 237 rfl) rfl
theorem q600 : (Jvm.Cond.fieldLink "UpAndDown$Fault" (13 : Nat) "UpAndDown$Fault" "place" "I") ∈ lw_all := lw_g (lw_at lw_m2 239 rfl) rfl
theorem q607 : (Jvm.Cond.laysFinal "UpAndDown$Fault" "UpAndDown$Fault" "kind" "I") ∈ lw_all := lw_g (lw_at lw_m3 6 rfl) rfl
theorem q608 : (Jvm.Cond.soleField "UpAndDown$Fault" "kind") ∈ lw_all := lw_g (lw_at lw_m3 7 rfl) rfl
theorem q609 : (Jvm.Cond.laysFinal "UpAndDown$Fault" "UpAndDown$Fault" "place" "I") ∈ lw_all := lw_g (lw_at lw_m3 8 rfl) rfl
theorem q610 : (Jvm.Cond.soleField "UpAndDown$Fault" "place") ∈ lw_all := lw_g (lw_at lw_m3 9 rfl) rfl
theorem q615 : (Jvm.Cond.lays "UpAndDown$Fault" "java/lang/Throwable" "depth" "I") ∈ lw_all := lw_g (lw_at lw_m3 14 rfl) rfl
theorem q618 : (Jvm.Cond.superclass "UpAndDown$Fault" "java/lang/Exception") ∈ lw_all := lw_g (lw_at lw_m3 17 rfl) rfl
theorem q858 : (Jvm.Cond.selects "UpAndDown$Fault" ({ cls := "java/lang/Object", name := "getClass", desc := "()Ljava/lang/Class;" } : Jvm.MethodName) ({ cls := "java/lang/Object", name := "getClass", desc := "()Ljava/lang/Class;" } : Jvm.MethodName)) ∈ lw_all := lw_g (lw_at lw_m4 17 rfl) rfl
theorem q2127 : (Jvm.Cond.castable "UpAndDown$Fault" "java/lang/Object") ∈ lw_tbl := lw_at lw_m9 86 rfl
theorem in_X5 : ∀ w ∈ wsX50, w ∈ lw_all := lw_in wsX50 [544, 546, 548, 550, 552, 615, 607, 609] (by decide +kernel) (by decide +kernel)
/-! UpAndDown$Word -/
set_option maxRecDepth 100000
def RX6 : String := "UpAndDown$Word"
abbrev cX6_init : ByteArray := prog_19_method_1_code
def yX6_init : MethodName := ⟨RX6, "<init>", "(LUpAndDown;II)V"⟩
def dkwX6_init_0 : List UInt8 := [42, 43, 181, 0, 1, 42, 183, 0, 7, 42, 28, 181, 0, 13, 42, 29, 181, 0, 17, 177]
abbrev dktX6_init_0 : List UInt8 := dkwX6_init_0 ++ []
theorem dksX6_init_0 : cX6_init.data.toList.drop 0 = dktX6_init_0 := by decide +kernel
theorem dX6_init_0 : decode cX6_init 0 = .ok (.aload_n 0, 1) := dk_42 (dk_at dksX6_init_0 0 rfl rfl)
theorem dX6_init_1 : decode cX6_init 1 = .ok (.aload_n 1, 1) := dk_43 (dk_at dksX6_init_0 1 rfl rfl)
theorem dX6_init_2 : decode cX6_init 2 = .ok (.putfield 1, 3) := dk_181 0 1 (dk_at dksX6_init_0 2 rfl rfl)
theorem dX6_init_5 : decode cX6_init 5 = .ok (.aload_n 0, 1) := dk_42 (dk_at dksX6_init_0 5 rfl rfl)
theorem dX6_init_6 : decode cX6_init 6 = .ok (.invokespecial 7, 3) := dk_183 0 7 (dk_at dksX6_init_0 6 rfl rfl)
theorem dX6_init_9 : decode cX6_init 9 = .ok (.aload_n 0, 1) := dk_42 (dk_at dksX6_init_0 9 rfl rfl)
theorem dX6_init_10 : decode cX6_init 10 = .ok (.iload_n 2, 1) := dk_28 (dk_at dksX6_init_0 10 rfl rfl)
theorem dX6_init_11 : decode cX6_init 11 = .ok (.putfield 13, 3) := dk_181 0 13 (dk_at dksX6_init_0 11 rfl rfl)
theorem dX6_init_14 : decode cX6_init 14 = .ok (.aload_n 0, 1) := dk_42 (dk_at dksX6_init_0 14 rfl rfl)
theorem dX6_init_15 : decode cX6_init 15 = .ok (.iload_n 3, 1) := dk_29 (dk_at dksX6_init_0 15 rfl rfl)
theorem dX6_init_16 : decode cX6_init 16 = .ok (.putfield 17, 3) := dk_181 0 17 (dk_at dksX6_init_0 16 rfl rfl)
theorem dX6_init_19 : decode cX6_init 19 = .ok (.return_, 1) := dk_177 (dk_at dksX6_init_0 19 rfl rfl)
abbrev cX6_isLike : ByteArray := prog_19_method_3_code
def yX6_isLike : MethodName := ⟨RX6, "isLike", "(LUpAndDown$Word;)Z"⟩
def dkwX6_isLike_1 : List UInt8 := [167, 0, 4, 3, 172]
abbrev dktX6_isLike_1 : List UInt8 := dkwX6_isLike_1 ++ []
def dkwX6_isLike_0 : List UInt8 := [42, 180, 0, 13, 43, 180, 0, 13, 160, 0, 18, 42, 180, 0, 17, 43, 180, 0, 17, 160, 0, 7, 4]
abbrev dktX6_isLike_0 : List UInt8 := dkwX6_isLike_0 ++ dktX6_isLike_1
theorem dksX6_isLike_0 : cX6_isLike.data.toList.drop 0 = dktX6_isLike_0 := by decide +kernel
theorem dksX6_isLike_1 : cX6_isLike.data.toList.drop 23 = dktX6_isLike_1 := dk_seg dksX6_isLike_0 23 rfl rfl
theorem dX6_isLike_0 : decode cX6_isLike 0 = .ok (.aload_n 0, 1) := dk_42 (dk_at dksX6_isLike_0 0 rfl rfl)
theorem dX6_isLike_1 : decode cX6_isLike 1 = .ok (.getfield 13, 3) := dk_180 0 13 (dk_at dksX6_isLike_0 1 rfl rfl)
theorem dX6_isLike_4 : decode cX6_isLike 4 = .ok (.aload_n 1, 1) := dk_43 (dk_at dksX6_isLike_0 4 rfl rfl)
theorem dX6_isLike_5 : decode cX6_isLike 5 = .ok (.getfield 13, 3) := dk_180 0 13 (dk_at dksX6_isLike_0 5 rfl rfl)
theorem dX6_isLike_8 : decode cX6_isLike 8 = .ok (.if_icmp .ne 18, 3) := dk_160 0 18 (dk_at dksX6_isLike_0 8 rfl rfl)
theorem dX6_isLike_11 : decode cX6_isLike 11 = .ok (.aload_n 0, 1) := dk_42 (dk_at dksX6_isLike_0 11 rfl rfl)
theorem dX6_isLike_12 : decode cX6_isLike 12 = .ok (.getfield 17, 3) := dk_180 0 17 (dk_at dksX6_isLike_0 12 rfl rfl)
theorem dX6_isLike_15 : decode cX6_isLike 15 = .ok (.aload_n 1, 1) := dk_43 (dk_at dksX6_isLike_0 15 rfl rfl)
theorem dX6_isLike_16 : decode cX6_isLike 16 = .ok (.getfield 17, 3) := dk_180 0 17 (dk_at dksX6_isLike_0 16 rfl rfl)
theorem dX6_isLike_19 : decode cX6_isLike 19 = .ok (.if_icmp .ne 7, 3) := dk_160 0 7 (dk_at dksX6_isLike_0 19 rfl rfl)
theorem dX6_isLike_22 : decode cX6_isLike 22 = .ok (.iconst 1, 1) := dk_4 (dk_at dksX6_isLike_0 22 rfl rfl)
theorem dX6_isLike_23 : decode cX6_isLike 23 = .ok (.goto 4, 3) := dk_167 0 4 (dk_at dksX6_isLike_1 0 rfl rfl)
theorem dX6_isLike_26 : decode cX6_isLike 26 = .ok (.iconst 0, 1) := dk_3 (dk_at dksX6_isLike_1 3 rfl rfl)
theorem dX6_isLike_27 : decode cX6_isLike 27 = .ok (.ireturn, 1) := dk_172 (dk_at dksX6_isLike_1 4 rfl rfl)
theorem q140 : (Jvm.Cond.initialized "UpAndDown$Word") ∈ lw_all := lw_g (lw_at lw_m1 19 rfl) rfl
theorem q667 : (Jvm.Cond.instanceMethod ({ cls := "UpAndDown$Word", name := "<init>", desc := "(LUpAndDown;II)V" } : Jvm.MethodName)) ∈ lw_all := lw_g (lw_at lw_m3 66 rfl) rfl
theorem q668 : (Jvm.Cond.code ({ cls := "UpAndDown$Word", name := "<init>", desc := "(LUpAndDown;II)V" } : Jvm.MethodName) prog_19_method_1_code (4 : Nat) (Option.none : Option Jvm.ClassFile.FieldType)) ∈ lw_all := lw_g (lw_at lw_m3 67 rfl) rfl
theorem q669 : (Jvm.Cond.methodLink "UpAndDown$Word" (7 : Nat) ({ cls := "java/lang/Object", name := "<init>", desc := "()V" } : Jvm.MethodName)) ∈ lw_all := lw_g (lw_at lw_m3 68 rfl) rfl
theorem q672 : (Jvm.Cond.fieldLink "UpAndDown$Word" (13 : Nat) "UpAndDown$Word" "sort" "I") ∈ lw_all := lw_g (lw_at lw_m3 71 rfl) rfl
theorem q680 : (Jvm.Cond.fieldLink "UpAndDown$Word" (17 : Nat) "UpAndDown$Word" "number" "I") ∈ lw_all := lw_g (lw_at lw_m3 79 rfl) rfl
theorem q686 : (Jvm.Cond.fieldLink "UpAndDown$Word" (1 : Nat) "UpAndDown$Word" "this$0" "LUpAndDown;") ∈ lw_all := lw_g (lw_at lw_m3 85 rfl) rfl
theorem q692 : (Jvm.Cond.soleField "UpAndDown$Word" "sort") ∈ lw_all := lw_g (lw_at lw_m3 91 rfl) rfl
theorem q694 : (Jvm.Cond.soleField "UpAndDown$Word" "number") ∈ lw_all := lw_g (lw_at lw_m3 93 rfl) rfl
theorem q696 : (Jvm.Cond.soleField "UpAndDown$Word" "this$0") ∈ lw_all := lw_g (lw_at lw_m3 95 rfl) rfl
theorem q952 : (Jvm.Cond.instanceMethod ({ cls := "UpAndDown$Word", name := "isLike", desc := "(LUpAndDown$Word;)Z" } : Jvm.MethodName)) ∈ lw_all := lw_g (lw_at lw_m4 111 rfl) rfl
theorem q953 : (Jvm.Cond.sameMethod "UpAndDown$Word" "UpAndDown$Word" "isLike" "(LUpAndDown$Word;)Z") ∈ lw_all := lw_g (lw_at lw_m4 112 rfl) rfl
theorem q964 : (Jvm.Cond.code ({ cls := "UpAndDown$Word", name := "isLike", desc := "(LUpAndDown$Word;)Z" } : Jvm.MethodName) prog_19_method_3_code (2 : Nat) (Option.some Jvm.ClassFile.FieldType.boolean)) ∈ lw_all := lw_g (lw_at lw_m4 123 rfl) rfl
theorem q1006 : (Jvm.Cond.declares ({ cls := "UpAndDown$Word", name := "does", desc := "(I)J" } : Jvm.MethodName)) ∈ lw_tbl := lw_at lw_m4 165 rfl
theorem q1007 : (Jvm.Cond.sameMethod "UpAndDown$Word" "UpAndDown$Word" "does" "(I)J") ∈ lw_all := lw_g (lw_at lw_m4 166 rfl) rfl
theorem q2118 : (Jvm.Cond.castable "UpAndDown$Word" "java/lang/Object") ∈ lw_tbl := lw_at lw_m9 77 rfl
/-! UpAndDown$ByFigures -/
set_option maxRecDepth 100000
def RX7 : String := "UpAndDown$ByFigures"
abbrev cX7_init : ByteArray := prog_2_method_1_code
def yX7_init : MethodName := ⟨RX7, "<init>", "(LUpAndDown;II)V"⟩
def dkwX7_init_0 : List UInt8 := [42, 43, 181, 0, 1, 42, 43, 28, 29, 183, 0, 7, 177]
abbrev dktX7_init_0 : List UInt8 := dkwX7_init_0 ++ []
theorem dksX7_init_0 : cX7_init.data.toList.drop 0 = dktX7_init_0 := by decide +kernel
theorem dX7_init_0 : decode cX7_init 0 = .ok (.aload_n 0, 1) := dk_42 (dk_at dksX7_init_0 0 rfl rfl)
theorem dX7_init_1 : decode cX7_init 1 = .ok (.aload_n 1, 1) := dk_43 (dk_at dksX7_init_0 1 rfl rfl)
theorem dX7_init_2 : decode cX7_init 2 = .ok (.putfield 1, 3) := dk_181 0 1 (dk_at dksX7_init_0 2 rfl rfl)
theorem dX7_init_5 : decode cX7_init 5 = .ok (.aload_n 0, 1) := dk_42 (dk_at dksX7_init_0 5 rfl rfl)
theorem dX7_init_6 : decode cX7_init 6 = .ok (.aload_n 1, 1) := dk_43 (dk_at dksX7_init_0 6 rfl rfl)
theorem dX7_init_7 : decode cX7_init 7 = .ok (.iload_n 2, 1) := dk_28 (dk_at dksX7_init_0 7 rfl rfl)
theorem dX7_init_8 : decode cX7_init 8 = .ok (.iload_n 3, 1) := dk_29 (dk_at dksX7_init_0 8 rfl rfl)
theorem dX7_init_9 : decode cX7_init 9 = .ok (.invokespecial 7, 3) := dk_183 0 7 (dk_at dksX7_init_0 9 rfl rfl)
theorem dX7_init_12 : decode cX7_init 12 = .ok (.return_, 1) := dk_177 (dk_at dksX7_init_0 12 rfl rfl)
abbrev cX7_does : ByteArray := prog_2_method_2_code
def yX7_does : MethodName := ⟨RX7, "does", "(I)J"⟩
def dkwX7_does_0 : List UInt8 := [42, 180, 0, 1, 27, 182, 0, 13, 42, 182, 0, 19, 173]
abbrev dktX7_does_0 : List UInt8 := dkwX7_does_0 ++ []
theorem dksX7_does_0 : cX7_does.data.toList.drop 0 = dktX7_does_0 := by decide +kernel
theorem dX7_does_0 : decode cX7_does 0 = .ok (.aload_n 0, 1) := dk_42 (dk_at dksX7_does_0 0 rfl rfl)
theorem dX7_does_1 : decode cX7_does 1 = .ok (.getfield 1, 3) := dk_180 0 1 (dk_at dksX7_does_0 1 rfl rfl)
theorem dX7_does_4 : decode cX7_does 4 = .ok (.iload_n 1, 1) := dk_27 (dk_at dksX7_does_0 4 rfl rfl)
theorem dX7_does_5 : decode cX7_does 5 = .ok (.invokevirtual 13, 3) := dk_182 0 13 (dk_at dksX7_does_0 5 rfl rfl)
theorem dX7_does_8 : decode cX7_does 8 = .ok (.aload_n 0, 1) := dk_42 (dk_at dksX7_does_0 8 rfl rfl)
theorem dX7_does_9 : decode cX7_does 9 = .ok (.invokevirtual 19, 3) := dk_182 0 19 (dk_at dksX7_does_0 9 rfl rfl)
theorem dX7_does_12 : decode cX7_does 12 = .ok (.lreturn, 1) := dk_173 (dk_at dksX7_does_0 12 rfl rfl)
theorem q141 : (Jvm.Cond.initialized "UpAndDown$ByFigures") ∈ lw_all := lw_g (lw_at lw_m1 20 rfl) rfl
theorem q664 : (Jvm.Cond.instanceMethod ({ cls := "UpAndDown$ByFigures", name := "<init>", desc := "(LUpAndDown;II)V" } : Jvm.MethodName)) ∈ lw_all := lw_g (lw_at lw_m3 63 rfl) rfl
theorem q665 : (Jvm.Cond.code ({ cls := "UpAndDown$ByFigures", name := "<init>", desc := "(LUpAndDown;II)V" } : Jvm.MethodName) prog_2_method_1_code (4 : Nat) (Option.none : Option Jvm.ClassFile.FieldType)) ∈ lw_all := lw_g (lw_at lw_m3 64 rfl) rfl
theorem q666 : (Jvm.Cond.methodLink "UpAndDown$ByFigures" (7 : Nat) ({ cls := "UpAndDown$Word", name := "<init>", desc := "(LUpAndDown;II)V" } : Jvm.MethodName)) ∈ lw_all := lw_g (lw_at lw_m3 65 rfl) rfl
theorem q671 : (Jvm.Cond.fieldLink "UpAndDown$ByFigures" (1 : Nat) "UpAndDown$ByFigures" "this$0" "LUpAndDown;") ∈ lw_all := lw_g (lw_at lw_m3 70 rfl) rfl
theorem q690 : (Jvm.Cond.soleField "UpAndDown$ByFigures" "this$0") ∈ lw_all := lw_g (lw_at lw_m3 89 rfl) rfl
theorem q1009 : (Jvm.Cond.instanceMethod ({ cls := "UpAndDown$ByFigures", name := "does", desc := "(I)J" } : Jvm.MethodName)) ∈ lw_all := lw_g (lw_at lw_m4 168 rfl) rfl
theorem q1010 : (Jvm.Cond.code ({ cls := "UpAndDown$ByFigures", name := "does", desc := "(I)J" } : Jvm.MethodName) prog_2_method_2_code (2 : Nat) (Option.some Jvm.ClassFile.FieldType.long)) ∈ lw_all := lw_g (lw_at lw_m4 169 rfl) rfl
theorem q1011 : (Jvm.Cond.methodLinkNest "UpAndDown$ByFigures" (13 : Nat) ({ cls := "UpAndDown", name := "lays", desc := "(I)V" } : Jvm.MethodName) "UpAndDown") ∈ lw_tbl := lw_at lw_m4 170 rfl
theorem q1012 : (Jvm.Cond.methodLink "UpAndDown$ByFigures" (19 : Nat) ({ cls := "UpAndDown$ByFigures", name := "ofRow", desc := "()J" } : Jvm.MethodName)) ∈ lw_all := lw_g (lw_at lw_m4 171 rfl) rfl
theorem q1013 : (Jvm.Cond.declares ({ cls := "UpAndDown$ByFigures", name := "ofRow", desc := "()J" } : Jvm.MethodName)) ∈ lw_tbl := lw_at lw_m4 172 rfl
theorem q1014 : (Jvm.Cond.sameMethod "UpAndDown$ByFigures" "UpAndDown$ByFigures" "ofRow" "()J") ∈ lw_all := lw_g (lw_at lw_m4 173 rfl) rfl
/-! UpAndDown$Down -/
set_option maxRecDepth 100000
def RX8 : String := "UpAndDown$Down"
def TX8 : u_T := fun k => match k with
  | 0 => ("UpAndDown$ByFigures", "this$0", "LUpAndDown;", true)
  | 1 => ("UpAndDown$Word", "sort", "I", true)
  | 2 => ("UpAndDown$Word", "number", "I", true)
  | 3 => ("UpAndDown$Word", "this$0", "LUpAndDown;", true)
  | _ => ("UpAndDown$Down", "this$0", "LUpAndDown;", true)
def tyX8 : Nat → FieldType := fun k => match k with
  | 0 => .object "UpAndDown"
  | 1 => .int
  | 2 => .int
  | 3 => .object "UpAndDown"
  | _ => .object "UpAndDown"
abbrev wsX80 : List Cond := u_ws RX8 TX8 5
-- two fields of one name: no nmX8
theorem tyX8_ok : ∀ k, k < 5 → parseFieldDescriptor (TX8 k).2.2.1 = some (tyX8 k) := by decide +kernel
abbrev cX8_init : ByteArray := prog_3_method_1_code
def yX8_init : MethodName := ⟨RX8, "<init>", "(LUpAndDown;I)V"⟩
def dkwX8_init_0 : List UInt8 := [42, 43, 181, 0, 1, 42, 43, 28, 3, 183, 0, 7, 177]
abbrev dktX8_init_0 : List UInt8 := dkwX8_init_0 ++ []
theorem dksX8_init_0 : cX8_init.data.toList.drop 0 = dktX8_init_0 := by decide +kernel
theorem dX8_init_0 : decode cX8_init 0 = .ok (.aload_n 0, 1) := dk_42 (dk_at dksX8_init_0 0 rfl rfl)
theorem dX8_init_1 : decode cX8_init 1 = .ok (.aload_n 1, 1) := dk_43 (dk_at dksX8_init_0 1 rfl rfl)
theorem dX8_init_2 : decode cX8_init 2 = .ok (.putfield 1, 3) := dk_181 0 1 (dk_at dksX8_init_0 2 rfl rfl)
theorem dX8_init_5 : decode cX8_init 5 = .ok (.aload_n 0, 1) := dk_42 (dk_at dksX8_init_0 5 rfl rfl)
theorem dX8_init_6 : decode cX8_init 6 = .ok (.aload_n 1, 1) := dk_43 (dk_at dksX8_init_0 6 rfl rfl)
theorem dX8_init_7 : decode cX8_init 7 = .ok (.iload_n 2, 1) := dk_28 (dk_at dksX8_init_0 7 rfl rfl)
theorem dX8_init_8 : decode cX8_init 8 = .ok (.iconst 0, 1) := dk_3 (dk_at dksX8_init_0 8 rfl rfl)
theorem dX8_init_9 : decode cX8_init 9 = .ok (.invokespecial 7, 3) := dk_183 0 7 (dk_at dksX8_init_0 9 rfl rfl)
theorem dX8_init_12 : decode cX8_init 12 = .ok (.return_, 1) := dk_177 (dk_at dksX8_init_0 12 rfl rfl)
abbrev cX8_ofRow : ByteArray := prog_3_method_2_code
def yX8_ofRow : MethodName := ⟨RX8, "ofRow", "()J"⟩
def dkwX8_ofRow_1 : List UInt8 := [180, 0, 23, 180, 0, 27, 182, 0, 33, 173]
abbrev dktX8_ofRow_1 : List UInt8 := dkwX8_ofRow_1 ++ []
def dkwX8_ofRow_0 : List UInt8 := [42, 180, 0, 1, 182, 0, 13, 42, 180, 0, 1, 42, 180, 0, 1, 180, 0, 19, 42, 180, 0, 1]
abbrev dktX8_ofRow_0 : List UInt8 := dkwX8_ofRow_0 ++ dktX8_ofRow_1
theorem dksX8_ofRow_0 : cX8_ofRow.data.toList.drop 0 = dktX8_ofRow_0 := by decide +kernel
theorem dksX8_ofRow_1 : cX8_ofRow.data.toList.drop 22 = dktX8_ofRow_1 := dk_seg dksX8_ofRow_0 22 rfl rfl
theorem dX8_ofRow_0 : decode cX8_ofRow 0 = .ok (.aload_n 0, 1) := dk_42 (dk_at dksX8_ofRow_0 0 rfl rfl)
theorem dX8_ofRow_1 : decode cX8_ofRow 1 = .ok (.getfield 1, 3) := dk_180 0 1 (dk_at dksX8_ofRow_0 1 rfl rfl)
theorem dX8_ofRow_4 : decode cX8_ofRow 4 = .ok (.invokevirtual 13, 3) := dk_182 0 13 (dk_at dksX8_ofRow_0 4 rfl rfl)
theorem dX8_ofRow_7 : decode cX8_ofRow 7 = .ok (.aload_n 0, 1) := dk_42 (dk_at dksX8_ofRow_0 7 rfl rfl)
theorem dX8_ofRow_8 : decode cX8_ofRow 8 = .ok (.getfield 1, 3) := dk_180 0 1 (dk_at dksX8_ofRow_0 8 rfl rfl)
theorem dX8_ofRow_11 : decode cX8_ofRow 11 = .ok (.aload_n 0, 1) := dk_42 (dk_at dksX8_ofRow_0 11 rfl rfl)
theorem dX8_ofRow_12 : decode cX8_ofRow 12 = .ok (.getfield 1, 3) := dk_180 0 1 (dk_at dksX8_ofRow_0 12 rfl rfl)
theorem dX8_ofRow_15 : decode cX8_ofRow 15 = .ok (.getfield 19, 3) := dk_180 0 19 (dk_at dksX8_ofRow_0 15 rfl rfl)
theorem dX8_ofRow_18 : decode cX8_ofRow 18 = .ok (.aload_n 0, 1) := dk_42 (dk_at dksX8_ofRow_0 18 rfl rfl)
theorem dX8_ofRow_19 : decode cX8_ofRow 19 = .ok (.getfield 1, 3) := dk_180 0 1 (dk_at dksX8_ofRow_0 19 rfl rfl)
theorem dX8_ofRow_22 : decode cX8_ofRow 22 = .ok (.getfield 23, 3) := dk_180 0 23 (dk_at dksX8_ofRow_1 0 rfl rfl)
theorem dX8_ofRow_25 : decode cX8_ofRow 25 = .ok (.getfield 27, 3) := dk_180 0 27 (dk_at dksX8_ofRow_1 3 rfl rfl)
theorem dX8_ofRow_28 : decode cX8_ofRow 28 = .ok (.invokevirtual 33, 3) := dk_182 0 33 (dk_at dksX8_ofRow_1 6 rfl rfl)
theorem dX8_ofRow_31 : decode cX8_ofRow 31 = .ok (.lreturn, 1) := dk_173 (dk_at dksX8_ofRow_1 9 rfl rfl)
theorem q142 : (Jvm.Cond.initialized "UpAndDown$Down") ∈ lw_all := lw_g (lw_at lw_m1 21 rfl) rfl
theorem q218 : (Jvm.Cond.fieldLinkNest "UpAndDown$Down" (27 : Nat) "UpAndDown$Table" "length" "I" "UpAndDown") ∈ lw_tbl := lw_at lw_m1 97 rfl
theorem q295 : (Jvm.Cond.fieldLinkNest "UpAndDown$Down" (19 : Nat) "UpAndDown" "figures" "[I" "UpAndDown") ∈ lw_tbl := lw_at lw_m1 174 rfl
theorem q307 : (Jvm.Cond.fieldLinkNest "UpAndDown$Down" (23 : Nat) "UpAndDown" "table" "LUpAndDown$Table;" "UpAndDown") ∈ lw_tbl := lw_at lw_m1 186 rfl
theorem q659 : (Jvm.Cond.instantiable "UpAndDown$Down" (5 : Nat)) ∈ lw_all := lw_g (lw_at lw_m3 58 rfl) rfl
theorem q661 : (Jvm.Cond.instanceMethod ({ cls := "UpAndDown$Down", name := "<init>", desc := "(LUpAndDown;I)V" } : Jvm.MethodName)) ∈ lw_all := lw_g (lw_at lw_m3 60 rfl) rfl
theorem q662 : (Jvm.Cond.code ({ cls := "UpAndDown$Down", name := "<init>", desc := "(LUpAndDown;I)V" } : Jvm.MethodName) prog_3_method_1_code (3 : Nat) (Option.none : Option Jvm.ClassFile.FieldType)) ∈ lw_all := lw_g (lw_at lw_m3 61 rfl) rfl
theorem q663 : (Jvm.Cond.methodLink "UpAndDown$Down" (7 : Nat) ({ cls := "UpAndDown$ByFigures", name := "<init>", desc := "(LUpAndDown;II)V" } : Jvm.MethodName)) ∈ lw_all := lw_g (lw_at lw_m3 62 rfl) rfl
theorem q670 : (Jvm.Cond.fieldLink "UpAndDown$Down" (1 : Nat) "UpAndDown$Down" "this$0" "LUpAndDown;") ∈ lw_all := lw_g (lw_at lw_m3 69 rfl) rfl
theorem q687 : (Jvm.Cond.laysFinal "UpAndDown$Down" "UpAndDown$Down" "this$0" "LUpAndDown;") ∈ lw_all := lw_g (lw_at lw_m3 86 rfl) rfl
theorem q688 : (Jvm.Cond.soleField "UpAndDown$Down" "this$0") ∈ lw_all := lw_g (lw_at lw_m3 87 rfl) rfl
theorem q689 : (Jvm.Cond.laysFinal "UpAndDown$Down" "UpAndDown$ByFigures" "this$0" "LUpAndDown;") ∈ lw_all := lw_g (lw_at lw_m3 88 rfl) rfl
theorem q691 : (Jvm.Cond.laysFinal "UpAndDown$Down" "UpAndDown$Word" "sort" "I") ∈ lw_all := lw_g (lw_at lw_m3 90 rfl) rfl
theorem q693 : (Jvm.Cond.laysFinal "UpAndDown$Down" "UpAndDown$Word" "number" "I") ∈ lw_all := lw_g (lw_at lw_m3 92 rfl) rfl
theorem q695 : (Jvm.Cond.laysFinal "UpAndDown$Down" "UpAndDown$Word" "this$0" "LUpAndDown;") ∈ lw_all := lw_g (lw_at lw_m3 94 rfl) rfl
theorem q697 : (Jvm.Cond.superclass "UpAndDown$Down" "UpAndDown$ByFigures") ∈ lw_all := lw_g (lw_at lw_m3 96 rfl) rfl
theorem q856 : (Jvm.Cond.selects "UpAndDown$Down" ({ cls := "java/lang/Object", name := "getClass", desc := "()Ljava/lang/Class;" } : Jvm.MethodName) ({ cls := "java/lang/Object", name := "getClass", desc := "()Ljava/lang/Class;" } : Jvm.MethodName)) ∈ lw_all := lw_g (lw_at lw_m4 15 rfl) rfl
theorem q954 : (Jvm.Cond.selects "UpAndDown$Down" ({ cls := "UpAndDown$Word", name := "isLike", desc := "(LUpAndDown$Word;)Z" } : Jvm.MethodName) ({ cls := "UpAndDown$Word", name := "isLike", desc := "(LUpAndDown$Word;)Z" } : Jvm.MethodName)) ∈ lw_all := lw_g (lw_at lw_m4 113 rfl) rfl
theorem q1008 : (Jvm.Cond.selects "UpAndDown$Down" ({ cls := "UpAndDown$Word", name := "does", desc := "(I)J" } : Jvm.MethodName) ({ cls := "UpAndDown$ByFigures", name := "does", desc := "(I)J" } : Jvm.MethodName)) ∈ lw_all := lw_g (lw_at lw_m4 167 rfl) rfl
theorem q1015 : (Jvm.Cond.selects "UpAndDown$Down" ({ cls := "UpAndDown$ByFigures", name := "ofRow", desc := "()J" } : Jvm.MethodName) ({ cls := "UpAndDown$Down", name := "ofRow", desc := "()J" } : Jvm.MethodName)) ∈ lw_all := lw_g (lw_at lw_m4 174 rfl) rfl
theorem q1016 : (Jvm.Cond.instanceMethod ({ cls := "UpAndDown$Down", name := "ofRow", desc := "()J" } : Jvm.MethodName)) ∈ lw_all := lw_g (lw_at lw_m4 175 rfl) rfl
theorem q1017 : (Jvm.Cond.code ({ cls := "UpAndDown$Down", name := "ofRow", desc := "()J" } : Jvm.MethodName) prog_3_method_2_code (1 : Nat) (Option.some Jvm.ClassFile.FieldType.long)) ∈ lw_all := lw_g (lw_at lw_m4 176 rfl) rfl
theorem q1018 : (Jvm.Cond.methodLinkNest "UpAndDown$Down" (13 : Nat) ({ cls := "UpAndDown", name := "sorts", desc := "()V" } : Jvm.MethodName) "UpAndDown") ∈ lw_tbl := lw_at lw_m4 177 rfl
theorem q1026 : (Jvm.Cond.methodLinkNest "UpAndDown$Down" (33 : Nat) ({ cls := "UpAndDown", name := "joined", desc := "([II)J" } : Jvm.MethodName) "UpAndDown") ∈ lw_tbl := lw_at lw_m4 185 rfl
theorem q2105 : (Jvm.Cond.sameMethod "UpAndDown$Down" "UpAndDown$Down" "ofRow" "()J") ∈ lw_all := lw_g (lw_at lw_m9 64 rfl) rfl
theorem q2108 : (Jvm.Cond.castable "UpAndDown$Down" "UpAndDown$Word") ∈ lw_tbl := lw_at lw_m9 67 rfl
theorem q2128 : (Jvm.Cond.castable "UpAndDown$Down" "java/lang/Object") ∈ lw_tbl := lw_at lw_m9 87 rfl
theorem in_X8 : ∀ w ∈ wsX80, w ∈ lw_all := lw_in wsX80 [689, 691, 693, 695, 687] (by decide +kernel) (by decide +kernel)
/-! UpAndDown$Up -/
set_option maxRecDepth 100000
def RX9 : String := "UpAndDown$Up"
def TX9 : u_T := fun k => match k with
  | 0 => ("UpAndDown$ByFigures", "this$0", "LUpAndDown;", true)
  | 1 => ("UpAndDown$Word", "sort", "I", true)
  | 2 => ("UpAndDown$Word", "number", "I", true)
  | 3 => ("UpAndDown$Word", "this$0", "LUpAndDown;", true)
  | 4 => ("UpAndDown$Down", "this$0", "LUpAndDown;", true)
  | _ => ("UpAndDown$Up", "this$0", "LUpAndDown;", true)
def tyX9 : Nat → FieldType := fun k => match k with
  | 0 => .object "UpAndDown"
  | 1 => .int
  | 2 => .int
  | 3 => .object "UpAndDown"
  | 4 => .object "UpAndDown"
  | _ => .object "UpAndDown"
abbrev wsX90 : List Cond := u_ws RX9 TX9 6
-- two fields of one name: no nmX9
theorem tyX9_ok : ∀ k, k < 6 → parseFieldDescriptor (TX9 k).2.2.1 = some (tyX9 k) := by decide +kernel
abbrev cX9_init : ByteArray := prog_18_method_1_code
def yX9_init : MethodName := ⟨RX9, "<init>", "(LUpAndDown;)V"⟩
def dkwX9_init_0 : List UInt8 := [42, 43, 181, 0, 1, 42, 43, 4, 183, 0, 7, 177]
abbrev dktX9_init_0 : List UInt8 := dkwX9_init_0 ++ []
theorem dksX9_init_0 : cX9_init.data.toList.drop 0 = dktX9_init_0 := by decide +kernel
theorem dX9_init_0 : decode cX9_init 0 = .ok (.aload_n 0, 1) := dk_42 (dk_at dksX9_init_0 0 rfl rfl)
theorem dX9_init_1 : decode cX9_init 1 = .ok (.aload_n 1, 1) := dk_43 (dk_at dksX9_init_0 1 rfl rfl)
theorem dX9_init_2 : decode cX9_init 2 = .ok (.putfield 1, 3) := dk_181 0 1 (dk_at dksX9_init_0 2 rfl rfl)
theorem dX9_init_5 : decode cX9_init 5 = .ok (.aload_n 0, 1) := dk_42 (dk_at dksX9_init_0 5 rfl rfl)
theorem dX9_init_6 : decode cX9_init 6 = .ok (.aload_n 1, 1) := dk_43 (dk_at dksX9_init_0 6 rfl rfl)
theorem dX9_init_7 : decode cX9_init 7 = .ok (.iconst 1, 1) := dk_4 (dk_at dksX9_init_0 7 rfl rfl)
theorem dX9_init_8 : decode cX9_init 8 = .ok (.invokespecial 7, 3) := dk_183 0 7 (dk_at dksX9_init_0 8 rfl rfl)
theorem dX9_init_11 : decode cX9_init 11 = .ok (.return_, 1) := dk_177 (dk_at dksX9_init_0 11 rfl rfl)
abbrev cX9_ofRow : ByteArray := prog_18_method_2_code
def yX9_ofRow : MethodName := ⟨RX9, "ofRow", "()J"⟩
def dkwX9_ofRow_1 : List UInt8 := [180, 0, 1, 180, 0, 27, 42, 180, 0, 1, 180, 0, 31, 180, 0, 35, 182, 0, 41, 173]
abbrev dktX9_ofRow_1 : List UInt8 := dkwX9_ofRow_1 ++ []
def dkwX9_ofRow_0 : List UInt8 := [42, 180, 0, 1, 42, 183, 0, 13, 136, 182, 0, 17, 42, 180, 0, 1, 182, 0, 23, 42, 180, 0, 1, 42]
abbrev dktX9_ofRow_0 : List UInt8 := dkwX9_ofRow_0 ++ dktX9_ofRow_1
theorem dksX9_ofRow_0 : cX9_ofRow.data.toList.drop 0 = dktX9_ofRow_0 := by decide +kernel
theorem dksX9_ofRow_1 : cX9_ofRow.data.toList.drop 24 = dktX9_ofRow_1 := dk_seg dksX9_ofRow_0 24 rfl rfl
theorem dX9_ofRow_0 : decode cX9_ofRow 0 = .ok (.aload_n 0, 1) := dk_42 (dk_at dksX9_ofRow_0 0 rfl rfl)
theorem dX9_ofRow_1 : decode cX9_ofRow 1 = .ok (.getfield 1, 3) := dk_180 0 1 (dk_at dksX9_ofRow_0 1 rfl rfl)
theorem dX9_ofRow_4 : decode cX9_ofRow 4 = .ok (.aload_n 0, 1) := dk_42 (dk_at dksX9_ofRow_0 4 rfl rfl)
theorem dX9_ofRow_5 : decode cX9_ofRow 5 = .ok (.invokespecial 13, 3) := dk_183 0 13 (dk_at dksX9_ofRow_0 5 rfl rfl)
theorem dX9_ofRow_8 : decode cX9_ofRow 8 = .ok (.l2i, 1) := dk_136 (dk_at dksX9_ofRow_0 8 rfl rfl)
theorem dX9_ofRow_9 : decode cX9_ofRow 9 = .ok (.invokevirtual 17, 3) := dk_182 0 17 (dk_at dksX9_ofRow_0 9 rfl rfl)
theorem dX9_ofRow_12 : decode cX9_ofRow 12 = .ok (.aload_n 0, 1) := dk_42 (dk_at dksX9_ofRow_0 12 rfl rfl)
theorem dX9_ofRow_13 : decode cX9_ofRow 13 = .ok (.getfield 1, 3) := dk_180 0 1 (dk_at dksX9_ofRow_0 13 rfl rfl)
theorem dX9_ofRow_16 : decode cX9_ofRow 16 = .ok (.invokevirtual 23, 3) := dk_182 0 23 (dk_at dksX9_ofRow_0 16 rfl rfl)
theorem dX9_ofRow_19 : decode cX9_ofRow 19 = .ok (.aload_n 0, 1) := dk_42 (dk_at dksX9_ofRow_0 19 rfl rfl)
theorem dX9_ofRow_20 : decode cX9_ofRow 20 = .ok (.getfield 1, 3) := dk_180 0 1 (dk_at dksX9_ofRow_0 20 rfl rfl)
theorem dX9_ofRow_23 : decode cX9_ofRow 23 = .ok (.aload_n 0, 1) := dk_42 (dk_at dksX9_ofRow_0 23 rfl rfl)
theorem dX9_ofRow_24 : decode cX9_ofRow 24 = .ok (.getfield 1, 3) := dk_180 0 1 (dk_at dksX9_ofRow_1 0 rfl rfl)
theorem dX9_ofRow_27 : decode cX9_ofRow 27 = .ok (.getfield 27, 3) := dk_180 0 27 (dk_at dksX9_ofRow_1 3 rfl rfl)
theorem dX9_ofRow_30 : decode cX9_ofRow 30 = .ok (.aload_n 0, 1) := dk_42 (dk_at dksX9_ofRow_1 6 rfl rfl)
theorem dX9_ofRow_31 : decode cX9_ofRow 31 = .ok (.getfield 1, 3) := dk_180 0 1 (dk_at dksX9_ofRow_1 7 rfl rfl)
theorem dX9_ofRow_34 : decode cX9_ofRow 34 = .ok (.getfield 31, 3) := dk_180 0 31 (dk_at dksX9_ofRow_1 10 rfl rfl)
theorem dX9_ofRow_37 : decode cX9_ofRow 37 = .ok (.getfield 35, 3) := dk_180 0 35 (dk_at dksX9_ofRow_1 13 rfl rfl)
theorem dX9_ofRow_40 : decode cX9_ofRow 40 = .ok (.invokevirtual 41, 3) := dk_182 0 41 (dk_at dksX9_ofRow_1 16 rfl rfl)
theorem dX9_ofRow_43 : decode cX9_ofRow 43 = .ok (.lreturn, 1) := dk_173 (dk_at dksX9_ofRow_1 19 rfl rfl)
theorem q143 : (Jvm.Cond.initialized "UpAndDown$Up") ∈ lw_all := lw_g (lw_at lw_m1 22 rfl) rfl
theorem q220 : (Jvm.Cond.fieldLinkNest "UpAndDown$Up" (35 : Nat) "UpAndDown$Table" "length" "I" "UpAndDown") ∈ lw_tbl := lw_at lw_m1 99 rfl
theorem q299 : (Jvm.Cond.fieldLinkNest "UpAndDown$Up" (27 : Nat) "UpAndDown" "figures" "[I" "UpAndDown") ∈ lw_tbl := lw_at lw_m1 178 rfl
theorem q309 : (Jvm.Cond.fieldLinkNest "UpAndDown$Up" (31 : Nat) "UpAndDown" "table" "LUpAndDown$Table;" "UpAndDown") ∈ lw_tbl := lw_at lw_m1 188 rfl
theorem q699 : (Jvm.Cond.instantiable "UpAndDown$Up" (6 : Nat)) ∈ lw_all := lw_g (lw_at lw_m3 98 rfl) rfl
theorem q701 : (Jvm.Cond.instanceMethod ({ cls := "UpAndDown$Up", name := "<init>", desc := "(LUpAndDown;)V" } : Jvm.MethodName)) ∈ lw_all := lw_g (lw_at lw_m3 100 rfl) rfl
theorem q702 : (Jvm.Cond.code ({ cls := "UpAndDown$Up", name := "<init>", desc := "(LUpAndDown;)V" } : Jvm.MethodName) prog_18_method_1_code (2 : Nat) (Option.none : Option Jvm.ClassFile.FieldType)) ∈ lw_all := lw_g (lw_at lw_m3 101 rfl) rfl
theorem q703 : (Jvm.Cond.methodLink "UpAndDown$Up" (7 : Nat) ({ cls := "UpAndDown$Down", name := "<init>", desc := "(LUpAndDown;I)V" } : Jvm.MethodName)) ∈ lw_all := lw_g (lw_at lw_m3 102 rfl) rfl
theorem q704 : (Jvm.Cond.fieldLink "UpAndDown$Up" (1 : Nat) "UpAndDown$Up" "this$0" "LUpAndDown;") ∈ lw_all := lw_g (lw_at lw_m3 103 rfl) rfl
theorem q705 : (Jvm.Cond.laysFinal "UpAndDown$Up" "UpAndDown$Up" "this$0" "LUpAndDown;") ∈ lw_all := lw_g (lw_at lw_m3 104 rfl) rfl
theorem q706 : (Jvm.Cond.soleField "UpAndDown$Up" "this$0") ∈ lw_all := lw_g (lw_at lw_m3 105 rfl) rfl
theorem q707 : (Jvm.Cond.laysFinal "UpAndDown$Up" "UpAndDown$Down" "this$0" "LUpAndDown;") ∈ lw_all := lw_g (lw_at lw_m3 106 rfl) rfl
theorem q708 : (Jvm.Cond.laysFinal "UpAndDown$Up" "UpAndDown$ByFigures" "this$0" "LUpAndDown;") ∈ lw_all := lw_g (lw_at lw_m3 107 rfl) rfl
theorem q709 : (Jvm.Cond.laysFinal "UpAndDown$Up" "UpAndDown$Word" "sort" "I") ∈ lw_all := lw_g (lw_at lw_m3 108 rfl) rfl
theorem q710 : (Jvm.Cond.laysFinal "UpAndDown$Up" "UpAndDown$Word" "number" "I") ∈ lw_all := lw_g (lw_at lw_m3 109 rfl) rfl
theorem q711 : (Jvm.Cond.laysFinal "UpAndDown$Up" "UpAndDown$Word" "this$0" "LUpAndDown;") ∈ lw_all := lw_g (lw_at lw_m3 110 rfl) rfl
theorem q712 : (Jvm.Cond.superclass "UpAndDown$Up" "UpAndDown$Down") ∈ lw_all := lw_g (lw_at lw_m3 111 rfl) rfl
theorem q871 : (Jvm.Cond.selects "UpAndDown$Up" ({ cls := "java/lang/Object", name := "getClass", desc := "()Ljava/lang/Class;" } : Jvm.MethodName) ({ cls := "java/lang/Object", name := "getClass", desc := "()Ljava/lang/Class;" } : Jvm.MethodName)) ∈ lw_all := lw_g (lw_at lw_m4 30 rfl) rfl
theorem q963 : (Jvm.Cond.selects "UpAndDown$Up" ({ cls := "UpAndDown$Word", name := "isLike", desc := "(LUpAndDown$Word;)Z" } : Jvm.MethodName) ({ cls := "UpAndDown$Word", name := "isLike", desc := "(LUpAndDown$Word;)Z" } : Jvm.MethodName)) ∈ lw_all := lw_g (lw_at lw_m4 122 rfl) rfl
theorem q1053 : (Jvm.Cond.selects "UpAndDown$Up" ({ cls := "UpAndDown$ByFigures", name := "ofRow", desc := "()J" } : Jvm.MethodName) ({ cls := "UpAndDown$Up", name := "ofRow", desc := "()J" } : Jvm.MethodName)) ∈ lw_all := lw_g (lw_at lw_m4 212 rfl) rfl
theorem q1054 : (Jvm.Cond.instanceMethod ({ cls := "UpAndDown$Up", name := "ofRow", desc := "()J" } : Jvm.MethodName)) ∈ lw_all := lw_g (lw_at lw_m4 213 rfl) rfl
theorem q1055 : (Jvm.Cond.code ({ cls := "UpAndDown$Up", name := "ofRow", desc := "()J" } : Jvm.MethodName) prog_18_method_2_code (1 : Nat) (Option.some Jvm.ClassFile.FieldType.long)) ∈ lw_all := lw_g (lw_at lw_m4 214 rfl) rfl
theorem q1056 : (Jvm.Cond.methodLink "UpAndDown$Up" (13 : Nat) ({ cls := "UpAndDown$Down", name := "ofRow", desc := "()J" } : Jvm.MethodName)) ∈ lw_all := lw_g (lw_at lw_m4 215 rfl) rfl
theorem q1057 : (Jvm.Cond.methodLinkNest "UpAndDown$Up" (17 : Nat) ({ cls := "UpAndDown", name := "lays", desc := "(I)V" } : Jvm.MethodName) "UpAndDown") ∈ lw_tbl := lw_at lw_m4 216 rfl
theorem q1058 : (Jvm.Cond.methodLinkNest "UpAndDown$Up" (23 : Nat) ({ cls := "UpAndDown", name := "turns", desc := "()V" } : Jvm.MethodName) "UpAndDown") ∈ lw_tbl := lw_at lw_m4 217 rfl
theorem q1059 : (Jvm.Cond.methodLinkNest "UpAndDown$Up" (41 : Nat) ({ cls := "UpAndDown", name := "joined", desc := "([II)J" } : Jvm.MethodName) "UpAndDown") ∈ lw_tbl := lw_at lw_m4 218 rfl
theorem q1079 : (Jvm.Cond.selects "UpAndDown$Up" ({ cls := "UpAndDown$Word", name := "does", desc := "(I)J" } : Jvm.MethodName) ({ cls := "UpAndDown$ByFigures", name := "does", desc := "(I)J" } : Jvm.MethodName)) ∈ lw_all := lw_g (lw_at lw_m4 238 rfl) rfl
theorem q2117 : (Jvm.Cond.castable "UpAndDown$Up" "UpAndDown$Word") ∈ lw_tbl := lw_at lw_m9 76 rfl
theorem q2129 : (Jvm.Cond.castable "UpAndDown$Up" "java/lang/Object") ∈ lw_tbl := lw_at lw_m9 88 rfl
theorem in_X9 : ∀ w ∈ wsX90, w ∈ lw_all := lw_in wsX90 [708, 709, 710, 711, 707, 705] (by decide +kernel) (by decide +kernel)
