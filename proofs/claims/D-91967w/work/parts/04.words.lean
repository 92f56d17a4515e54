theorem q118 : (Jvm.Cond.initialized "LadderLotsLaw") ∈ lw_all := lw_g (lw_at lw_m1 0 rfl) rfl
set_option maxRecDepth 100000
theorem q148 : (Jvm.Cond.methodLink "LadderLotsLaw" (60 : Nat) ({ cls := "LadderLots", name := "digit", desc := "(III)I" } : Jvm.MethodName)) ∈ lw_all := lw_g (lw_at lw_m1 30 rfl) rfl
theorem q185 : (Jvm.Cond.methodLink "LadderLotsLaw" (73 : Nat) ({ cls := "LadderLots", name := "fewest", desc := "(II)I" } : Jvm.MethodName)) ∈ lw_all := lw_g (lw_at lw_m1 67 rfl) rfl
theorem q194 : (Jvm.Cond.methodLink "LadderLotsLaw" (77 : Nat) ({ cls := "LadderLots", name := "ladders", desc := "(II)J" } : Jvm.MethodName)) ∈ lw_all := lw_g (lw_at lw_m1 76 rfl) rfl
theorem q215 : (Jvm.Cond.methodLink "LadderLotsLaw" (84 : Nat) ({ cls := "LadderLots", name := "rung", desc := "(IIJI)I" } : Jvm.MethodName)) ∈ lw_all := lw_g (lw_at lw_m1 97 rfl) rfl
theorem q223 : (Jvm.Cond.methodLink "LadderLotsLaw" (102 : Nat) ({ cls := "LadderLots", name := "turns", desc := "(IIII)I" } : Jvm.MethodName)) ∈ lw_all := lw_g (lw_at lw_m1 105 rfl) rfl
theorem q262 : (Jvm.Cond.methodLink "LadderLotsLaw" (106 : Nat) ({ cls := "LadderLots", name := "moves", desc := "(IIII)I" } : Jvm.MethodName)) ∈ lw_all := lw_g (lw_at lw_m1 144 rfl) rfl
theorem q266 : (Jvm.Cond.methodLink "LadderLotsLaw" (110 : Nat) ({ cls := "LadderLots", name := "classes", desc := "(II)I" } : Jvm.MethodName)) ∈ lw_all := lw_g (lw_at lw_m1 148 rfl) rfl
theorem q270 : (Jvm.Cond.classLink "LadderLotsLaw" (7 : Nat) "LadderLots") ∈ lw_all := lw_g (lw_at lw_m1 152 rfl) rfl
theorem q271 : (Jvm.Cond.methodLink "LadderLotsLaw" (9 : Nat) ({ cls := "LadderLots", name := "<init>", desc := "()V" } : Jvm.MethodName)) ∈ lw_all := lw_g (lw_at lw_m1 153 rfl) rfl
theorem q516 : (Jvm.Cond.methodLink "LadderLotsLaw" (13 : Nat) ({ cls := "LadderLots", name := "feed", desc := "(IIIII)I" } : Jvm.MethodName)) ∈ lw_all := lw_g (lw_at lw_m2 158 rfl) rfl
theorem q528 : (Jvm.Cond.methodLink "LadderLotsLaw" (18 : Nat) ({ cls := "LadderLots", name := "back", desc := "(I)I" } : Jvm.MethodName)) ∈ lw_all := lw_g (lw_at lw_m2 170 rfl) rfl
theorem q537 : (Jvm.Cond.methodLink "LadderLotsLaw" (23 : Nat) ({ cls := "LadderLots", name := "read", desc := "()I" } : Jvm.MethodName)) ∈ lw_all := lw_g (lw_at lw_m2 179 rfl) rfl
theorem q960 : (Jvm.Cond.methodLink "LadderLotsLaw" (28 : Nat) ({ cls := "LadderLots", name := "place", desc := "()I" } : Jvm.MethodName)) ∈ lw_all := lw_g (lw_at lw_m4 122 rfl) rfl
theorem q964 : (Jvm.Cond.methodLink "LadderLotsLaw" (32 : Nat) ({ cls := "LadderLots", name := "clear", desc := "()I" } : Jvm.MethodName)) ∈ lw_all := lw_g (lw_at lw_m4 126 rfl) rfl
theorem q972 : (Jvm.Cond.methodLink "LadderLotsLaw" (36 : Nat) ({ cls := "LadderLots", name := "copy", desc := "(IZZ)I" } : Jvm.MethodName)) ∈ lw_all := lw_g (lw_at lw_m4 134 rfl) rfl
theorem q988 : (Jvm.Cond.methodLink "LadderLotsLaw" (41 : Nat) ({ cls := "LadderLots", name := "join", desc := "(II)I" } : Jvm.MethodName)) ∈ lw_all := lw_g (lw_at lw_m4 150 rfl) rfl
theorem q996 : (Jvm.Cond.methodLink "LadderLotsLaw" (46 : Nat) ({ cls := "LadderLots", name := "lots", desc := "(IIIZ)I" } : Jvm.MethodName)) ∈ lw_all := lw_g (lw_at lw_m4 158 rfl) rfl
theorem q1010 : (Jvm.Cond.methodLink "LadderLotsLaw" (51 : Nat) ({ cls := "LadderLots", name := "ladder", desc := "(II)I" } : Jvm.MethodName)) ∈ lw_all := lw_g (lw_at lw_m4 172 rfl) rfl
theorem q1040 : (Jvm.Cond.methodLink "LadderLotsLaw" (55 : Nat) ({ cls := "LadderLots", name := "element", desc := "(III)I" } : Jvm.MethodName)) ∈ lw_all := lw_g (lw_at lw_m4 202 rfl) rfl
theorem q1052 : (Jvm.Cond.methodLink "LadderLotsLaw" (64 : Nat) ({ cls := "LadderLots", name := "down", desc := "(III)I" } : Jvm.MethodName)) ∈ lw_all := lw_g (lw_at lw_m4 214 rfl) rfl
theorem q1093 : (Jvm.Cond.methodLink "LadderLotsLaw" (68 : Nat) ({ cls := "LadderLots", name := "ends", desc := "(IIII)I" } : Jvm.MethodName)) ∈ lw_all := lw_g (lw_at lw_m5 15 rfl) rfl
theorem q1099 : (Jvm.Cond.methodLink "LadderLotsLaw" (89 : Nat) ({ cls := "LadderLots", name := "rank", desc := "(I)J" } : Jvm.MethodName)) ∈ lw_all := lw_g (lw_at lw_m5 21 rfl) rfl
theorem q1104 : (Jvm.Cond.methodLink "LadderLotsLaw" (94 : Nat) ({ cls := "LadderLots", name := "cleared", desc := "(I)I" } : Jvm.MethodName)) ∈ lw_all := lw_g (lw_at lw_m5 26 rfl) rfl
theorem q1116 : (Jvm.Cond.methodLink "LadderLotsLaw" (98 : Nat) ({ cls := "LadderLots", name := "kept", desc := "(II)I" } : Jvm.MethodName)) ∈ lw_all := lw_g (lw_at lw_m5 38 rfl) rfl
theorem q1121 : (Jvm.Cond.methodLink "LadderLotsLaw" (114 : Nat) ({ cls := "LadderLots", name := "ways", desc := "(I)J" } : Jvm.MethodName)) ∈ lw_all := lw_g (lw_at lw_m5 43 rfl) rfl
theorem q1125 : (Jvm.Cond.methodLink "LadderLotsLaw" (118 : Nat) ({ cls := "LadderLots", name := "odds", desc := "(IIII)J" } : Jvm.MethodName)) ∈ lw_all := lw_g (lw_at lw_m5 47 rfl) rfl
theorem q1137 : (Jvm.Cond.methodLink "LadderLotsLaw" (123 : Nat) ({ cls := "LadderLots", name := "oddsOf", desc := "(III)J" } : Jvm.MethodName)) ∈ lw_all := lw_g (lw_at lw_m5 59 rfl) rfl
theorem q1141 : (Jvm.Cond.methodLink "LadderLotsLaw" (128 : Nat) ({ cls := "LadderLots", name := "possible", desc := "(II)I" } : Jvm.MethodName)) ∈ lw_all := lw_g (lw_at lw_m5 63 rfl) rfl
theorem q1145 : (Jvm.Cond.methodLink "LadderLotsLaw" (132 : Nat) ({ cls := "LadderLots", name := "log", desc := "(III)I" } : Jvm.MethodName)) ∈ lw_all := lw_g (lw_at lw_m5 67 rfl) rfl
theorem q1149 : (Jvm.Cond.methodLink "LadderLotsLaw" (136 : Nat) ({ cls := "LadderLots", name := "annul", desc := "(I)I" } : Jvm.MethodName)) ∈ lw_all := lw_g (lw_at lw_m5 71 rfl) rfl
theorem q1153 : (Jvm.Cond.methodLink "LadderLotsLaw" (140 : Nat) ({ cls := "LadderLots", name := "fitting", desc := "(II)J" } : Jvm.MethodName)) ∈ lw_all := lw_g (lw_at lw_m5 75 rfl) rfl
theorem q1165 : (Jvm.Cond.methodLink "LadderLotsLaw" (144 : Nat) ({ cls := "LadderLots", name := "likely", desc := "(IIII)J" } : Jvm.MethodName)) ∈ lw_all := lw_g (lw_at lw_m5 87 rfl) rfl
theorem q1173 : (Jvm.Cond.methodLink "LadderLotsLaw" (148 : Nat) ({ cls := "LadderLots", name := "next", desc := "(II)I" } : Jvm.MethodName)) ∈ lw_all := lw_g (lw_at lw_m5 95 rfl) rfl
theorem q1180 : (Jvm.Cond.methodLink "LadderLotsLaw" (152 : Nat) ({ cls := "LadderLots", name := "drawn", desc := "(III)I" } : Jvm.MethodName)) ∈ lw_all := lw_g (lw_at lw_m5 102 rfl) rfl
theorem q1191 : (Jvm.Cond.methodLink "LadderLotsLaw" (156 : Nat) ({ cls := "LadderLots", name := "drawnAt", desc := "(IIII)I" } : Jvm.MethodName)) ∈ lw_all := lw_g (lw_at lw_m5 113 rfl) rfl
theorem q1196 : (Jvm.Cond.methodLink "LadderLotsLaw" (160 : Nat) ({ cls := "LadderLots", name := "drawnAll", desc := "(II)I" } : Jvm.MethodName)) ∈ lw_all := lw_g (lw_at lw_m5 118 rfl) rfl
theorem q1201 : (Jvm.Cond.methodLink "LadderLotsLaw" (164 : Nat) ({ cls := "LadderLots", name := "sorts", desc := "(I)I" } : Jvm.MethodName)) ∈ lw_all := lw_g (lw_at lw_m5 123 rfl) rfl
theorem q1228 : (Jvm.Cond.methodLink "LadderLotsLaw" (168 : Nat) ({ cls := "LadderLots", name := "unsorted", desc := "(I)I" } : Jvm.MethodName)) ∈ lw_all := lw_g (lw_at lw_m5 150 rfl) rfl
theorem q1232 : (Jvm.Cond.methodLink "LadderLotsLaw" (172 : Nat) ({ cls := "LadderLots", name := "fails", desc := "(I)I" } : Jvm.MethodName)) ∈ lw_all := lw_g (lw_at lw_m5 154 rfl) rfl
theorem q1236 : (Jvm.Cond.methodLink "LadderLotsLaw" (176 : Nat) ({ cls := "LadderLots", name := "firstFail", desc := "(I)I" } : Jvm.MethodName)) ∈ lw_all := lw_g (lw_at lw_m5 158 rfl) rfl
theorem q1240 : (Jvm.Cond.methodLink "LadderLotsLaw" (180 : Nat) ({ cls := "LadderLots", name := "idle", desc := "(II)I" } : Jvm.MethodName)) ∈ lw_all := lw_g (lw_at lw_m5 162 rfl) rfl
theorem q1244 : (Jvm.Cond.methodLink "LadderLotsLaw" (184 : Nat) ({ cls := "LadderLots", name := "needed", desc := "(II)I" } : Jvm.MethodName)) ∈ lw_all := lw_g (lw_at lw_m5 166 rfl) rfl
theorem q1248 : (Jvm.Cond.methodLink "LadderLotsLaw" (188 : Nat) ({ cls := "LadderLots", name := "mend", desc := "(I)I" } : Jvm.MethodName)) ∈ lw_all := lw_g (lw_at lw_m5 170 rfl) rfl
theorem q1270 : (Jvm.Cond.methodLink "LadderLotsLaw" (192 : Nat) ({ cls := "LadderLots", name := "mendAt", desc := "(II)I" } : Jvm.MethodName)) ∈ lw_all := lw_g (lw_at lw_m5 192 rfl) rfl
theorem q1274 : (Jvm.Cond.methodLink "LadderLotsLaw" (196 : Nat) ({ cls := "LadderLots", name := "unlike", desc := "(II)I" } : Jvm.MethodName)) ∈ lw_all := lw_g (lw_at lw_m5 196 rfl) rfl
theorem q1278 : (Jvm.Cond.methodLink "LadderLotsLaw" (200 : Nat) ({ cls := "LadderLots", name := "count", desc := "(I)I" } : Jvm.MethodName)) ∈ lw_all := lw_g (lw_at lw_m5 200 rfl) rfl
theorem q1282 : (Jvm.Cond.classLink "LadderLotsLaw" (10 : Nat) "LadderLotsModel") ∈ lw_all := lw_g (lw_at lw_m5 204 rfl) rfl
theorem q1284 : (Jvm.Cond.methodLink "LadderLotsLaw" (12 : Nat) ({ cls := "LadderLotsModel", name := "<init>", desc := "()V" } : Jvm.MethodName)) ∈ lw_all := lw_g (lw_at lw_m5 206 rfl) rfl
theorem q1470 : (Jvm.Cond.methodLink "LadderLotsLaw" (17 : Nat) ({ cls := "LadderLotsModel", name := "feed", desc := "(IIIII)I" } : Jvm.MethodName)) ∈ lw_all := lw_g (lw_at lw_m6 152 rfl) rfl
theorem q1478 : (Jvm.Cond.methodLink "LadderLotsLaw" (22 : Nat) ({ cls := "LadderLotsModel", name := "back", desc := "(I)I" } : Jvm.MethodName)) ∈ lw_all := lw_g (lw_at lw_m6 160 rfl) rfl
theorem q1482 : (Jvm.Cond.methodLink "LadderLotsLaw" (27 : Nat) ({ cls := "LadderLotsModel", name := "read", desc := "()I" } : Jvm.MethodName)) ∈ lw_all := lw_g (lw_at lw_m6 164 rfl) rfl
theorem q1613 : (Jvm.Cond.methodLink "LadderLotsLaw" (31 : Nat) ({ cls := "LadderLotsModel", name := "place", desc := "()I" } : Jvm.MethodName)) ∈ lw_all := lw_g (lw_at lw_m7 55 rfl) rfl
theorem q1617 : (Jvm.Cond.methodLink "LadderLotsLaw" (35 : Nat) ({ cls := "LadderLotsModel", name := "clear", desc := "()I" } : Jvm.MethodName)) ∈ lw_all := lw_g (lw_at lw_m7 59 rfl) rfl
theorem q1621 : (Jvm.Cond.methodLink "LadderLotsLaw" (40 : Nat) ({ cls := "LadderLotsModel", name := "copy", desc := "(IZZ)I" } : Jvm.MethodName)) ∈ lw_all := lw_g (lw_at lw_m7 63 rfl) rfl
theorem q1629 : (Jvm.Cond.methodLink "LadderLotsLaw" (45 : Nat) ({ cls := "LadderLotsModel", name := "join", desc := "(II)I" } : Jvm.MethodName)) ∈ lw_all := lw_g (lw_at lw_m7 71 rfl) rfl
theorem q1637 : (Jvm.Cond.methodLink "LadderLotsLaw" (50 : Nat) ({ cls := "LadderLotsModel", name := "lots", desc := "(IIIZ)I" } : Jvm.MethodName)) ∈ lw_all := lw_g (lw_at lw_m7 79 rfl) rfl
theorem q1651 : (Jvm.Cond.methodLink "LadderLotsLaw" (54 : Nat) ({ cls := "LadderLotsModel", name := "ladder", desc := "(II)I" } : Jvm.MethodName)) ∈ lw_all := lw_g (lw_at lw_m7 93 rfl) rfl
theorem q1663 : (Jvm.Cond.methodLink "LadderLotsLaw" (59 : Nat) ({ cls := "LadderLotsModel", name := "element", desc := "(III)I" } : Jvm.MethodName)) ∈ lw_all := lw_g (lw_at lw_m7 105 rfl) rfl
theorem q1667 : (Jvm.Cond.methodLink "LadderLotsLaw" (63 : Nat) ({ cls := "LadderLotsModel", name := "digit", desc := "(III)I" } : Jvm.MethodName)) ∈ lw_all := lw_g (lw_at lw_m7 109 rfl) rfl
theorem q1706 : (Jvm.Cond.methodLink "LadderLotsLaw" (67 : Nat) ({ cls := "LadderLotsModel", name := "down", desc := "(III)I" } : Jvm.MethodName)) ∈ lw_all := lw_g (lw_at lw_m7 148 rfl) rfl
theorem q1722 : (Jvm.Cond.methodLink "LadderLotsLaw" (72 : Nat) ({ cls := "LadderLotsModel", name := "ends", desc := "(IIII)I" } : Jvm.MethodName)) ∈ lw_all := lw_g (lw_at lw_m7 164 rfl) rfl
theorem q1726 : (Jvm.Cond.methodLink "LadderLotsLaw" (76 : Nat) ({ cls := "LadderLotsModel", name := "fewest", desc := "(II)I" } : Jvm.MethodName)) ∈ lw_all := lw_g (lw_at lw_m7 168 rfl) rfl
theorem q1730 : (Jvm.Cond.methodLink "LadderLotsLaw" (81 : Nat) ({ cls := "LadderLotsModel", name := "ladders", desc := "(II)J" } : Jvm.MethodName)) ∈ lw_all := lw_g (lw_at lw_m7 172 rfl) rfl
theorem q1735 : (Jvm.Cond.methodLink "LadderLotsLaw" (88 : Nat) ({ cls := "LadderLotsModel", name := "rung", desc := "(IIJI)I" } : Jvm.MethodName)) ∈ lw_all := lw_g (lw_at lw_m7 177 rfl) rfl
theorem q1743 : (Jvm.Cond.methodLink "LadderLotsLaw" (93 : Nat) ({ cls := "LadderLotsModel", name := "rank", desc := "(I)J" } : Jvm.MethodName)) ∈ lw_all := lw_g (lw_at lw_m7 185 rfl) rfl
theorem q1752 : (Jvm.Cond.methodLink "LadderLotsLaw" (97 : Nat) ({ cls := "LadderLotsModel", name := "cleared", desc := "(I)I" } : Jvm.MethodName)) ∈ lw_all := lw_g (lw_at lw_m7 194 rfl) rfl
theorem q1764 : (Jvm.Cond.methodLink "LadderLotsLaw" (101 : Nat) ({ cls := "LadderLotsModel", name := "kept", desc := "(II)I" } : Jvm.MethodName)) ∈ lw_all := lw_g (lw_at lw_m7 206 rfl) rfl
theorem q1768 : (Jvm.Cond.methodLink "LadderLotsLaw" (105 : Nat) ({ cls := "LadderLotsModel", name := "turns", desc := "(IIII)I" } : Jvm.MethodName)) ∈ lw_all := lw_g (lw_at lw_m7 210 rfl) rfl
theorem q1788 : (Jvm.Cond.methodLink "LadderLotsLaw" (109 : Nat) ({ cls := "LadderLotsModel", name := "moves", desc := "(IIII)I" } : Jvm.MethodName)) ∈ lw_all := lw_g (lw_at lw_m7 230 rfl) rfl
theorem q1792 : (Jvm.Cond.methodLink "LadderLotsLaw" (113 : Nat) ({ cls := "LadderLotsModel", name := "classes", desc := "(II)I" } : Jvm.MethodName)) ∈ lw_all := lw_g (lw_at lw_m7 234 rfl) rfl
theorem q1796 : (Jvm.Cond.methodLink "LadderLotsLaw" (117 : Nat) ({ cls := "LadderLotsModel", name := "ways", desc := "(I)J" } : Jvm.MethodName)) ∈ lw_all := lw_g (lw_at lw_m7 238 rfl) rfl
theorem q1800 : (Jvm.Cond.methodLink "LadderLotsLaw" (122 : Nat) ({ cls := "LadderLotsModel", name := "odds", desc := "(IIII)J" } : Jvm.MethodName)) ∈ lw_all := lw_g (lw_at lw_m8 2 rfl) rfl
theorem q1812 : (Jvm.Cond.methodLink "LadderLotsLaw" (127 : Nat) ({ cls := "LadderLotsModel", name := "oddsOf", desc := "(III)J" } : Jvm.MethodName)) ∈ lw_all := lw_g (lw_at lw_m8 14 rfl) rfl
theorem q1816 : (Jvm.Cond.methodLink "LadderLotsLaw" (131 : Nat) ({ cls := "LadderLotsModel", name := "possible", desc := "(II)I" } : Jvm.MethodName)) ∈ lw_all := lw_g (lw_at lw_m8 18 rfl) rfl
theorem q1820 : (Jvm.Cond.methodLink "LadderLotsLaw" (135 : Nat) ({ cls := "LadderLotsModel", name := "log", desc := "(III)I" } : Jvm.MethodName)) ∈ lw_all := lw_g (lw_at lw_m8 22 rfl) rfl
theorem q1824 : (Jvm.Cond.methodLink "LadderLotsLaw" (139 : Nat) ({ cls := "LadderLotsModel", name := "annul", desc := "(I)I" } : Jvm.MethodName)) ∈ lw_all := lw_g (lw_at lw_m8 26 rfl) rfl
theorem q1828 : (Jvm.Cond.methodLink "LadderLotsLaw" (143 : Nat) ({ cls := "LadderLotsModel", name := "fitting", desc := "(II)J" } : Jvm.MethodName)) ∈ lw_all := lw_g (lw_at lw_m8 30 rfl) rfl
theorem q1848 : (Jvm.Cond.methodLink "LadderLotsLaw" (147 : Nat) ({ cls := "LadderLotsModel", name := "likely", desc := "(IIII)J" } : Jvm.MethodName)) ∈ lw_all := lw_g (lw_at lw_m8 50 rfl) rfl
theorem q1856 : (Jvm.Cond.methodLink "LadderLotsLaw" (151 : Nat) ({ cls := "LadderLotsModel", name := "next", desc := "(II)I" } : Jvm.MethodName)) ∈ lw_all := lw_g (lw_at lw_m8 58 rfl) rfl
theorem q1860 : (Jvm.Cond.methodLink "LadderLotsLaw" (155 : Nat) ({ cls := "LadderLotsModel", name := "drawn", desc := "(III)I" } : Jvm.MethodName)) ∈ lw_all := lw_g (lw_at lw_m8 62 rfl) rfl
theorem q1871 : (Jvm.Cond.methodLink "LadderLotsLaw" (159 : Nat) ({ cls := "LadderLotsModel", name := "drawnAt", desc := "(IIII)I" } : Jvm.MethodName)) ∈ lw_all := lw_g (lw_at lw_m8 73 rfl) rfl
theorem q1876 : (Jvm.Cond.methodLink "LadderLotsLaw" (163 : Nat) ({ cls := "LadderLotsModel", name := "drawnAll", desc := "(II)I" } : Jvm.MethodName)) ∈ lw_all := lw_g (lw_at lw_m8 78 rfl) rfl
theorem q1884 : (Jvm.Cond.methodLink "LadderLotsLaw" (167 : Nat) ({ cls := "LadderLotsModel", name := "sorts", desc := "(I)I" } : Jvm.MethodName)) ∈ lw_all := lw_g (lw_at lw_m8 86 rfl) rfl
theorem q1892 : (Jvm.Cond.methodLink "LadderLotsLaw" (171 : Nat) ({ cls := "LadderLotsModel", name := "unsorted", desc := "(I)I" } : Jvm.MethodName)) ∈ lw_all := lw_g (lw_at lw_m8 94 rfl) rfl
theorem q1896 : (Jvm.Cond.methodLink "LadderLotsLaw" (175 : Nat) ({ cls := "LadderLotsModel", name := "fails", desc := "(I)I" } : Jvm.MethodName)) ∈ lw_all := lw_g (lw_at lw_m8 98 rfl) rfl
theorem q1910 : (Jvm.Cond.methodLink "LadderLotsLaw" (179 : Nat) ({ cls := "LadderLotsModel", name := "firstFail", desc := "(I)I" } : Jvm.MethodName)) ∈ lw_all := lw_g (lw_at lw_m8 112 rfl) rfl
theorem q1914 : (Jvm.Cond.methodLink "LadderLotsLaw" (183 : Nat) ({ cls := "LadderLotsModel", name := "idle", desc := "(II)I" } : Jvm.MethodName)) ∈ lw_all := lw_g (lw_at lw_m8 116 rfl) rfl
theorem q1918 : (Jvm.Cond.methodLink "LadderLotsLaw" (187 : Nat) ({ cls := "LadderLotsModel", name := "needed", desc := "(II)I" } : Jvm.MethodName)) ∈ lw_all := lw_g (lw_at lw_m8 120 rfl) rfl
theorem q1922 : (Jvm.Cond.methodLink "LadderLotsLaw" (191 : Nat) ({ cls := "LadderLotsModel", name := "mend", desc := "(I)I" } : Jvm.MethodName)) ∈ lw_all := lw_g (lw_at lw_m8 124 rfl) rfl
theorem q1940 : (Jvm.Cond.methodLink "LadderLotsLaw" (195 : Nat) ({ cls := "LadderLotsModel", name := "mendAt", desc := "(II)I" } : Jvm.MethodName)) ∈ lw_all := lw_g (lw_at lw_m8 142 rfl) rfl
theorem q1944 : (Jvm.Cond.methodLink "LadderLotsLaw" (199 : Nat) ({ cls := "LadderLotsModel", name := "unlike", desc := "(II)I" } : Jvm.MethodName)) ∈ lw_all := lw_g (lw_at lw_m8 146 rfl) rfl
theorem q1948 : (Jvm.Cond.methodLink "LadderLotsLaw" (203 : Nat) ({ cls := "LadderLotsModel", name := "count", desc := "(I)I" } : Jvm.MethodName)) ∈ lw_all := lw_g (lw_at lw_m8 150 rfl) rfl
theorem q1952 : (Jvm.Cond.constantLong "LadderLotsLaw" (82 : Nat) (4294967295 : Int64)) ∈ lw_all := lw_g (lw_at lw_m8 154 rfl) rfl

theorem q1979 : (Jvm.Cond.castable "[B" "java/lang/Object") ∈ lw_tbl := lw_at lw_m8 181 rfl
set_option maxRecDepth 100000

theorem q1982 : (Jvm.Cond.castable "[I" "java/lang/Object") ∈ lw_tbl := lw_at lw_m8 184 rfl
set_option maxRecDepth 100000

theorem q1981 : (Jvm.Cond.castable "[J" "java/lang/Object") ∈ lw_tbl := lw_at lw_m8 183 rfl
set_option maxRecDepth 100000

theorem q1986 : (Jvm.Cond.castable "[LLadderLots$Step;" "java/lang/Object") ∈ lw_tbl := lw_at lw_m8 188 rfl
set_option maxRecDepth 100000

theorem q1984 : (Jvm.Cond.castable "[LLadderLots$Steps;" "java/lang/Object") ∈ lw_tbl := lw_at lw_m8 186 rfl
set_option maxRecDepth 100000

theorem q1976 : (Jvm.Cond.sameMethod "[Ljava/lang/Object;" "java/lang/Object" "getClass" "()Ljava/lang/Class;") ∈ lw_all := lw_g (lw_at lw_m8 178 rfl) rfl
set_option maxRecDepth 100000
theorem q1977 : (Jvm.Cond.selects "[Ljava/lang/Object;" ({ cls := "java/lang/Object", name := "getClass", desc := "()Ljava/lang/Class;" } : Jvm.MethodName) ({ cls := "java/lang/Object", name := "getClass", desc := "()Ljava/lang/Class;" } : Jvm.MethodName)) ∈ lw_all := lw_g (lw_at lw_m8 179 rfl) rfl
theorem q1987 : (Jvm.Cond.castable "[Ljava/lang/Object;" "java/lang/Object") ∈ lw_tbl := lw_at lw_m8 189 rfl

theorem q1988 : (Jvm.Cond.castable "[Ljava/lang/String;" "java/lang/Object") ∈ lw_tbl := lw_at lw_m8 190 rfl
set_option maxRecDepth 100000

theorem q1980 : (Jvm.Cond.castable "[S" "java/lang/Object") ∈ lw_tbl := lw_at lw_m8 182 rfl
set_option maxRecDepth 100000

theorem q1983 : (Jvm.Cond.castable "[Z" "java/lang/Object") ∈ lw_tbl := lw_at lw_m8 185 rfl
set_option maxRecDepth 100000

theorem q1985 : (Jvm.Cond.castable "[[I" "java/lang/Object") ∈ lw_tbl := lw_at lw_m8 187 rfl
set_option maxRecDepth 100000

theorem q142 : (Jvm.Cond.initialized "java/lang/System") ∈ lw_all := lw_g (lw_at lw_m1 24 rfl) rfl
set_option maxRecDepth 100000
theorem q237 : (Jvm.Cond.static ({ cls := "java/lang/System", name := "arraycopy", desc := "(Ljava/lang/Object;ILjava/lang/Object;II)V" } : Jvm.MethodName)) ∈ lw_all := lw_g (lw_at lw_m1 119 rfl) rfl
theorem q238 : (Jvm.Cond.native ({ cls := "java/lang/System", name := "arraycopy", desc := "(Ljava/lang/Object;ILjava/lang/Object;II)V" } : Jvm.MethodName)) ∈ lw_all := lw_g (lw_at lw_m1 120 rfl) rfl

theorem q301 : (Jvm.Cond.arrayClass Jvm.ClassFile.FieldType.byte) ∈ lw_all := lw_g (lw_at lw_m1 183 rfl) rfl
set_option maxRecDepth 100000
theorem q302 : (Jvm.Cond.arrayClass Jvm.ClassFile.FieldType.short) ∈ lw_all := lw_g (lw_at lw_m1 184 rfl) rfl
theorem q332 : (Jvm.Cond.arrayClass Jvm.ClassFile.FieldType.long) ∈ lw_all := lw_g (lw_at lw_m1 214 rfl) rfl
theorem q333 : (Jvm.Cond.arrayClass Jvm.ClassFile.FieldType.int) ∈ lw_all := lw_g (lw_at lw_m1 215 rfl) rfl
theorem q334 : (Jvm.Cond.arrayClass Jvm.ClassFile.FieldType.boolean) ∈ lw_all := lw_g (lw_at lw_m1 216 rfl) rfl
theorem q342 : (Jvm.Cond.arrayOver (Jvm.ClassFile.FieldType.object "LadderLots$Steps")) ∈ lw_tbl := lw_at lw_m1 224 rfl
theorem q398 : (Jvm.Cond.arrayOver (Jvm.ClassFile.FieldType.array Jvm.ClassFile.FieldType.int)) ∈ lw_tbl := lw_at lw_m2 40 rfl
theorem q400 : (Jvm.Cond.arrayOver (Jvm.ClassFile.FieldType.object "LadderLots$Step")) ∈ lw_tbl := lw_at lw_m2 42 rfl
theorem q838 : (Jvm.Cond.arrayOver (Jvm.ClassFile.FieldType.object "java/lang/Object")) ∈ lw_tbl := lw_at lw_m4 0 rfl
theorem q2001 : (Jvm.Cond.arrayOver (Jvm.ClassFile.FieldType.object "java/lang/String")) ∈ lw_tbl := lw_at lw_m8 203 rfl

