theorem q239 : (Jvm.Cond.arrayClass Jvm.ClassFile.FieldType.int) ∈ lw_all := lw_g (lw_at lw_m1 113 rfl) rfl
set_option maxRecDepth 100000
theorem q278 : (Jvm.Cond.arrayOver (Jvm.ClassFile.FieldType.object "SunkTower$State")) ∈ lw_tbl := lw_at lw_m1 152 rfl
theorem q282 : (Jvm.Cond.arrayOver (Jvm.ClassFile.FieldType.object "SunkTower$Numbers")) ∈ lw_tbl := lw_at lw_m1 156 rfl
theorem q293 : (Jvm.Cond.arrayClass Jvm.ClassFile.FieldType.byte) ∈ lw_all := lw_g (lw_at lw_m1 167 rfl) rfl
theorem q294 : (Jvm.Cond.arrayClass Jvm.ClassFile.FieldType.long) ∈ lw_all := lw_g (lw_at lw_m1 168 rfl) rfl
theorem q295 : (Jvm.Cond.arrayOver (Jvm.ClassFile.FieldType.object "SunkTower$Tower")) ∈ lw_tbl := lw_at lw_m1 169 rfl
theorem q1305 : (Jvm.Cond.arrayClass Jvm.ClassFile.FieldType.short) ∈ lw_all := lw_g (lw_at lw_m5 219 rfl) rfl
theorem q1507 : (Jvm.Cond.arrayClass Jvm.ClassFile.FieldType.boolean) ∈ lw_all := lw_g (lw_at lw_m6 181 rfl) rfl
theorem q131 : (Jvm.Cond.initialized "java/lang/System") ∈ lw_all := lw_g (lw_at lw_m1 5 rfl) rfl
set_option maxRecDepth 100000
theorem q301 : (Jvm.Cond.static ({ cls := "java/lang/System", name := "arraycopy", desc := "(Ljava/lang/Object;ILjava/lang/Object;II)V" } : Jvm.MethodName)) ∈ lw_all := lw_g (lw_at lw_m1 175 rfl) rfl
theorem q302 : (Jvm.Cond.native ({ cls := "java/lang/System", name := "arraycopy", desc := "(Ljava/lang/Object;ILjava/lang/Object;II)V" } : Jvm.MethodName)) ∈ lw_all := lw_g (lw_at lw_m1 176 rfl) rfl
theorem q126 : (Jvm.Cond.initialized "SunkTowerLaw") ∈ lw_all := lw_g (lw_at lw_m1 0 rfl) rfl
set_option maxRecDepth 100000
theorem q152 : (Jvm.Cond.classLink "SunkTowerLaw" (7 : Nat) "SunkTower") ∈ lw_all := lw_g (lw_at lw_m1 26 rfl) rfl
theorem q154 : (Jvm.Cond.methodLink "SunkTowerLaw" (9 : Nat) ({ cls := "SunkTower", name := "<init>", desc := "()V" } : Jvm.MethodName)) ∈ lw_all := lw_g (lw_at lw_m1 28 rfl) rfl
theorem q406 : (Jvm.Cond.methodLink "SunkTowerLaw" (13 : Nat) ({ cls := "SunkTower", name := "feed", desc := "(IIIII)I" } : Jvm.MethodName)) ∈ lw_all := lw_g (lw_at lw_m2 40 rfl) rfl
theorem q414 : (Jvm.Cond.methodLink "SunkTowerLaw" (18 : Nat) ({ cls := "SunkTower", name := "tower", desc := "(I)I" } : Jvm.MethodName)) ∈ lw_all := lw_g (lw_at lw_m2 48 rfl) rfl
theorem q740 : (Jvm.Cond.methodLink "SunkTowerLaw" (23 : Nat) ({ cls := "SunkTower", name := "fault", desc := "(I)I" } : Jvm.MethodName)) ∈ lw_all := lw_g (lw_at lw_m3 134 rfl) rfl
theorem q744 : (Jvm.Cond.methodLink "SunkTowerLaw" (27 : Nat) ({ cls := "SunkTower", name := "storey", desc := "(II)I" } : Jvm.MethodName)) ∈ lw_all := lw_g (lw_at lw_m3 138 rfl) rfl
theorem q764 : (Jvm.Cond.methodLink "SunkTowerLaw" (32 : Nat) ({ cls := "SunkTower", name := "tenant", desc := "(II)I" } : Jvm.MethodName)) ∈ lw_all := lw_g (lw_at lw_m3 158 rfl) rfl
theorem q772 : (Jvm.Cond.methodLink "SunkTowerLaw" (36 : Nat) ({ cls := "SunkTower", name := "weight", desc := "()I" } : Jvm.MethodName)) ∈ lw_all := lw_g (lw_at lw_m3 166 rfl) rfl
theorem q780 : (Jvm.Cond.methodLink "SunkTowerLaw" (41 : Nat) ({ cls := "SunkTower", name := "sinks", desc := "()I" } : Jvm.MethodName)) ∈ lw_all := lw_g (lw_at lw_m3 174 rfl) rfl
theorem q821 : (Jvm.Cond.methodLink "SunkTowerLaw" (45 : Nat) ({ cls := "SunkTower", name := "pays", desc := "(I)I" } : Jvm.MethodName)) ∈ lw_all := lw_g (lw_at lw_m3 215 rfl) rfl
theorem q841 : (Jvm.Cond.methodLink "SunkTowerLaw" (49 : Nat) ({ cls := "SunkTower", name := "worth", desc := "(II)I" } : Jvm.MethodName)) ∈ lw_all := lw_g (lw_at lw_m3 235 rfl) rfl
theorem q853 : (Jvm.Cond.methodLink "SunkTowerLaw" (53 : Nat) ({ cls := "SunkTower", name := "months", desc := "(I)I" } : Jvm.MethodName)) ∈ lw_all := lw_g (lw_at lw_m4 7 rfl) rfl
theorem q877 : (Jvm.Cond.methodLink "SunkTowerLaw" (57 : Nat) ({ cls := "SunkTower", name := "builds", desc := "()I" } : Jvm.MethodName)) ∈ lw_all := lw_g (lw_at lw_m4 31 rfl) rfl
theorem q885 : (Jvm.Cond.methodLink "SunkTowerLaw" (61 : Nat) ({ cls := "SunkTower", name := "moves", desc := "(II)I" } : Jvm.MethodName)) ∈ lw_all := lw_g (lw_at lw_m4 39 rfl) rfl
theorem q896 : (Jvm.Cond.methodLink "SunkTowerLaw" (65 : Nat) ({ cls := "SunkTower", name := "leaves", desc := "(I)I" } : Jvm.MethodName)) ∈ lw_all := lw_g (lw_at lw_m4 50 rfl) rfl
theorem q904 : (Jvm.Cond.methodLink "SunkTowerLaw" (69 : Nat) ({ cls := "SunkTower", name := "carries", desc := "(II)I" } : Jvm.MethodName)) ∈ lw_all := lw_g (lw_at lw_m4 58 rfl) rfl
theorem q909 : (Jvm.Cond.methodLink "SunkTowerLaw" (73 : Nat) ({ cls := "SunkTower", name := "rings", desc := "()I" } : Jvm.MethodName)) ∈ lw_all := lw_g (lw_at lw_m4 63 rfl) rfl
theorem q938 : (Jvm.Cond.methodLink "SunkTowerLaw" (77 : Nat) ({ cls := "SunkTower", name := "undo", desc := "(I)I" } : Jvm.MethodName)) ∈ lw_all := lw_g (lw_at lw_m4 92 rfl) rfl
theorem q942 : (Jvm.Cond.methodLink "SunkTowerLaw" (81 : Nat) ({ cls := "SunkTower", name := "judge", desc := "(II)I" } : Jvm.MethodName)) ∈ lw_all := lw_g (lw_at lw_m4 96 rfl) rfl
theorem q987 : (Jvm.Cond.methodLink "SunkTowerLaw" (85 : Nat) ({ cls := "SunkTower", name := "perform", desc := "(I)I" } : Jvm.MethodName)) ∈ lw_all := lw_g (lw_at lw_m4 141 rfl) rfl
theorem q991 : (Jvm.Cond.methodLink "SunkTowerLaw" (89 : Nat) ({ cls := "SunkTower", name := "years", desc := "(II)I" } : Jvm.MethodName)) ∈ lw_all := lw_g (lw_at lw_m4 145 rfl) rfl
theorem q1005 : (Jvm.Cond.methodLink "SunkTowerLaw" (161 : Nat) ({ cls := "SunkTower", name := "envies", desc := "(I)I" } : Jvm.MethodName)) ∈ lw_all := lw_g (lw_at lw_m4 159 rfl) rfl
theorem q1009 : (Jvm.Cond.methodLink "SunkTowerLaw" (165 : Nat) ({ cls := "SunkTower", name := "byRings", desc := "(I)I" } : Jvm.MethodName)) ∈ lw_all := lw_g (lw_at lw_m4 163 rfl) rfl
theorem q1014 : (Jvm.Cond.methodLink "SunkTowerLaw" (169 : Nat) ({ cls := "SunkTower", name := "ringsMany", desc := "()I" } : Jvm.MethodName)) ∈ lw_all := lw_g (lw_at lw_m4 168 rfl) rfl
theorem q1018 : (Jvm.Cond.methodLink "SunkTowerLaw" (93 : Nat) ({ cls := "SunkTower", name := "sunkIn", desc := "(I)I" } : Jvm.MethodName)) ∈ lw_all := lw_g (lw_at lw_m4 172 rfl) rfl
theorem q1027 : (Jvm.Cond.methodLink "SunkTowerLaw" (97 : Nat) ({ cls := "SunkTower", name := "heightIn", desc := "(II)I" } : Jvm.MethodName)) ∈ lw_all := lw_g (lw_at lw_m4 181 rfl) rfl
theorem q1033 : (Jvm.Cond.methodLink "SunkTowerLaw" (101 : Nat) ({ cls := "SunkTower", name := "doorIn", desc := "(I)I" } : Jvm.MethodName)) ∈ lw_all := lw_g (lw_at lw_m4 187 rfl) rfl
theorem q1041 : (Jvm.Cond.methodLink "SunkTowerLaw" (105 : Nat) ({ cls := "SunkTower", name := "buriedIn", desc := "(I)I" } : Jvm.MethodName)) ∈ lw_all := lw_g (lw_at lw_m4 195 rfl) rfl
theorem q1050 : (Jvm.Cond.methodLink "SunkTowerLaw" (109 : Nat) ({ cls := "SunkTower", name := "sunkBy", desc := "(I)I" } : Jvm.MethodName)) ∈ lw_all := lw_g (lw_at lw_m4 204 rfl) rfl
theorem q1054 : (Jvm.Cond.methodLink "SunkTowerLaw" (113 : Nat) ({ cls := "SunkTower", name := "fastest", desc := "()I" } : Jvm.MethodName)) ∈ lw_all := lw_g (lw_at lw_m4 208 rfl) rfl
theorem q1058 : (Jvm.Cond.methodLink "SunkTowerLaw" (117 : Nat) ({ cls := "SunkTower", name := "paid", desc := "(I)J" } : Jvm.MethodName)) ∈ lw_all := lw_g (lw_at lw_m4 212 rfl) rfl
theorem q1068 : (Jvm.Cond.methodLink "SunkTowerLaw" (122 : Nat) ({ cls := "SunkTower", name := "share", desc := "(II)I" } : Jvm.MethodName)) ∈ lw_all := lw_g (lw_at lw_m4 222 rfl) rfl
theorem q1076 : (Jvm.Cond.methodLink "SunkTowerLaw" (126 : Nat) ({ cls := "SunkTower", name := "heaviest", desc := "(I)I" } : Jvm.MethodName)) ∈ lw_all := lw_g (lw_at lw_m4 230 rfl) rfl
theorem q1080 : (Jvm.Cond.methodLink "SunkTowerLaw" (130 : Nat) ({ cls := "SunkTower", name := "bears", desc := "(II)I" } : Jvm.MethodName)) ∈ lw_all := lw_g (lw_at lw_m4 234 rfl) rfl
theorem q1085 : (Jvm.Cond.methodLink "SunkTowerLaw" (134 : Nat) ({ cls := "SunkTower", name := "stays", desc := "(II)J" } : Jvm.MethodName)) ∈ lw_all := lw_g (lw_at lw_m4 239 rfl) rfl
theorem q1123 : (Jvm.Cond.methodLink "SunkTowerLaw" (139 : Nat) ({ cls := "SunkTower", name := "goesTo", desc := "(III)I" } : Jvm.MethodName)) ∈ lw_all := lw_g (lw_at lw_m5 37 rfl) rfl
theorem q1127 : (Jvm.Cond.methodLink "SunkTowerLaw" (144 : Nat) ({ cls := "SunkTower", name := "movesMany", desc := "(II)I" } : Jvm.MethodName)) ∈ lw_all := lw_g (lw_at lw_m5 41 rfl) rfl
theorem q1131 : (Jvm.Cond.methodLink "SunkTowerLaw" (148 : Nat) ({ cls := "SunkTower", name := "best", desc := "(I)I" } : Jvm.MethodName)) ∈ lw_all := lw_g (lw_at lw_m5 45 rfl) rfl
theorem q1135 : (Jvm.Cond.methodLink "SunkTowerLaw" (152 : Nat) ({ cls := "SunkTower", name := "building", desc := "(III)J" } : Jvm.MethodName)) ∈ lw_all := lw_g (lw_at lw_m5 49 rfl) rfl
theorem q1163 : (Jvm.Cond.methodLink "SunkTowerLaw" (157 : Nat) ({ cls := "SunkTower", name := "buildings", desc := "(II)I" } : Jvm.MethodName)) ∈ lw_all := lw_g (lw_at lw_m5 77 rfl) rfl
theorem q1167 : (Jvm.Cond.methodLink "SunkTowerLaw" (173 : Nat) ({ cls := "SunkTower", name := "marks", desc := "(I)I" } : Jvm.MethodName)) ∈ lw_all := lw_g (lw_at lw_m5 81 rfl) rfl
theorem q1189 : (Jvm.Cond.methodLink "SunkTowerLaw" (177 : Nat) ({ cls := "SunkTower", name := "hidden", desc := "(II)I" } : Jvm.MethodName)) ∈ lw_all := lw_g (lw_at lw_m5 103 rfl) rfl
theorem q1193 : (Jvm.Cond.methodLink "SunkTowerLaw" (181 : Nat) ({ cls := "SunkTower", name := "look", desc := "(I)I" } : Jvm.MethodName)) ∈ lw_all := lw_g (lw_at lw_m5 107 rfl) rfl
theorem q1206 : (Jvm.Cond.methodLink "SunkTowerLaw" (185 : Nat) ({ cls := "SunkTower", name := "falseMark", desc := "(I)I" } : Jvm.MethodName)) ∈ lw_all := lw_g (lw_at lw_m5 120 rfl) rfl
theorem q1214 : (Jvm.Cond.methodLink "SunkTowerLaw" (189 : Nat) ({ cls := "SunkTower", name := "numbers", desc := "(III)I" } : Jvm.MethodName)) ∈ lw_all := lw_g (lw_at lw_m5 128 rfl) rfl
theorem q1306 : (Jvm.Cond.methodLink "SunkTowerLaw" (195 : Nat) ({ cls := "SunkTower", name := "write", desc := "(IIJ)J" } : Jvm.MethodName)) ∈ lw_all := lw_g (lw_at lw_m5 220 rfl) rfl
theorem q1361 : (Jvm.Cond.methodLink "SunkTowerLaw" (200 : Nat) ({ cls := "SunkTower", name := "lists", desc := "(I)I" } : Jvm.MethodName)) ∈ lw_all := lw_g (lw_at lw_m6 35 rfl) rfl
theorem q1365 : (Jvm.Cond.methodLink "SunkTowerLaw" (204 : Nat) ({ cls := "SunkTower", name := "image", desc := "(I)I" } : Jvm.MethodName)) ∈ lw_all := lw_g (lw_at lw_m6 39 rfl) rfl
theorem q1369 : (Jvm.Cond.methodLink "SunkTowerLaw" (208 : Nat) ({ cls := "SunkTower", name := "restore", desc := "(I)I" } : Jvm.MethodName)) ∈ lw_all := lw_g (lw_at lw_m6 43 rfl) rfl
theorem q1373 : (Jvm.Cond.methodLink "SunkTowerLaw" (212 : Nat) ({ cls := "SunkTower", name := "count", desc := "(I)I" } : Jvm.MethodName)) ∈ lw_all := lw_g (lw_at lw_m6 47 rfl) rfl
theorem q1381 : (Jvm.Cond.classLink "SunkTowerLaw" (10 : Nat) "SunkTowerModel") ∈ lw_all := lw_g (lw_at lw_m6 55 rfl) rfl
theorem q1383 : (Jvm.Cond.methodLink "SunkTowerLaw" (12 : Nat) ({ cls := "SunkTowerModel", name := "<init>", desc := "()V" } : Jvm.MethodName)) ∈ lw_all := lw_g (lw_at lw_m6 57 rfl) rfl
theorem q1508 : (Jvm.Cond.methodLink "SunkTowerLaw" (17 : Nat) ({ cls := "SunkTowerModel", name := "feed", desc := "(IIIII)I" } : Jvm.MethodName)) ∈ lw_all := lw_g (lw_at lw_m6 182 rfl) rfl
theorem q1512 : (Jvm.Cond.methodLink "SunkTowerLaw" (22 : Nat) ({ cls := "SunkTowerModel", name := "tower", desc := "(I)I" } : Jvm.MethodName)) ∈ lw_all := lw_g (lw_at lw_m6 186 rfl) rfl
theorem q1609 : (Jvm.Cond.methodLink "SunkTowerLaw" (26 : Nat) ({ cls := "SunkTowerModel", name := "fault", desc := "(I)I" } : Jvm.MethodName)) ∈ lw_all := lw_g (lw_at lw_m7 43 rfl) rfl
theorem q1613 : (Jvm.Cond.methodLink "SunkTowerLaw" (31 : Nat) ({ cls := "SunkTowerModel", name := "storey", desc := "(II)I" } : Jvm.MethodName)) ∈ lw_all := lw_g (lw_at lw_m7 47 rfl) rfl
theorem q1629 : (Jvm.Cond.methodLink "SunkTowerLaw" (35 : Nat) ({ cls := "SunkTowerModel", name := "tenant", desc := "(II)I" } : Jvm.MethodName)) ∈ lw_all := lw_g (lw_at lw_m7 63 rfl) rfl
theorem q1637 : (Jvm.Cond.methodLink "SunkTowerLaw" (40 : Nat) ({ cls := "SunkTowerModel", name := "weight", desc := "()I" } : Jvm.MethodName)) ∈ lw_all := lw_g (lw_at lw_m7 71 rfl) rfl
theorem q1645 : (Jvm.Cond.methodLink "SunkTowerLaw" (44 : Nat) ({ cls := "SunkTowerModel", name := "sinks", desc := "()I" } : Jvm.MethodName)) ∈ lw_all := lw_g (lw_at lw_m7 79 rfl) rfl
theorem q1662 : (Jvm.Cond.methodLink "SunkTowerLaw" (48 : Nat) ({ cls := "SunkTowerModel", name := "pays", desc := "(I)I" } : Jvm.MethodName)) ∈ lw_all := lw_g (lw_at lw_m7 96 rfl) rfl
theorem q1674 : (Jvm.Cond.methodLink "SunkTowerLaw" (52 : Nat) ({ cls := "SunkTowerModel", name := "worth", desc := "(II)I" } : Jvm.MethodName)) ∈ lw_all := lw_g (lw_at lw_m7 108 rfl) rfl
theorem q1686 : (Jvm.Cond.methodLink "SunkTowerLaw" (56 : Nat) ({ cls := "SunkTowerModel", name := "months", desc := "(I)I" } : Jvm.MethodName)) ∈ lw_all := lw_g (lw_at lw_m7 120 rfl) rfl
theorem q1707 : (Jvm.Cond.methodLink "SunkTowerLaw" (60 : Nat) ({ cls := "SunkTowerModel", name := "builds", desc := "()I" } : Jvm.MethodName)) ∈ lw_all := lw_g (lw_at lw_m7 141 rfl) rfl
theorem q1715 : (Jvm.Cond.methodLink "SunkTowerLaw" (64 : Nat) ({ cls := "SunkTowerModel", name := "moves", desc := "(II)I" } : Jvm.MethodName)) ∈ lw_all := lw_g (lw_at lw_m7 149 rfl) rfl
theorem q1723 : (Jvm.Cond.methodLink "SunkTowerLaw" (68 : Nat) ({ cls := "SunkTowerModel", name := "leaves", desc := "(I)I" } : Jvm.MethodName)) ∈ lw_all := lw_g (lw_at lw_m7 157 rfl) rfl
theorem q1731 : (Jvm.Cond.methodLink "SunkTowerLaw" (72 : Nat) ({ cls := "SunkTowerModel", name := "carries", desc := "(II)I" } : Jvm.MethodName)) ∈ lw_all := lw_g (lw_at lw_m7 165 rfl) rfl
theorem q1736 : (Jvm.Cond.methodLink "SunkTowerLaw" (76 : Nat) ({ cls := "SunkTowerModel", name := "rings", desc := "()I" } : Jvm.MethodName)) ∈ lw_all := lw_g (lw_at lw_m7 170 rfl) rfl
theorem q1755 : (Jvm.Cond.methodLink "SunkTowerLaw" (80 : Nat) ({ cls := "SunkTowerModel", name := "undo", desc := "(I)I" } : Jvm.MethodName)) ∈ lw_all := lw_g (lw_at lw_m7 189 rfl) rfl
theorem q1760 : (Jvm.Cond.methodLink "SunkTowerLaw" (84 : Nat) ({ cls := "SunkTowerModel", name := "judge", desc := "(II)I" } : Jvm.MethodName)) ∈ lw_all := lw_g (lw_at lw_m7 194 rfl) rfl
theorem q1794 : (Jvm.Cond.methodLink "SunkTowerLaw" (88 : Nat) ({ cls := "SunkTowerModel", name := "perform", desc := "(I)I" } : Jvm.MethodName)) ∈ lw_all := lw_g (lw_at lw_m7 228 rfl) rfl
theorem q1798 : (Jvm.Cond.methodLink "SunkTowerLaw" (92 : Nat) ({ cls := "SunkTowerModel", name := "years", desc := "(II)I" } : Jvm.MethodName)) ∈ lw_all := lw_g (lw_at lw_m7 232 rfl) rfl
theorem q1812 : (Jvm.Cond.methodLink "SunkTowerLaw" (96 : Nat) ({ cls := "SunkTowerModel", name := "sunkIn", desc := "(I)I" } : Jvm.MethodName)) ∈ lw_all := lw_g (lw_at lw_m8 6 rfl) rfl
theorem q1825 : (Jvm.Cond.methodLink "SunkTowerLaw" (100 : Nat) ({ cls := "SunkTowerModel", name := "heightIn", desc := "(II)I" } : Jvm.MethodName)) ∈ lw_all := lw_g (lw_at lw_m8 19 rfl) rfl
theorem q1830 : (Jvm.Cond.methodLink "SunkTowerLaw" (104 : Nat) ({ cls := "SunkTowerModel", name := "doorIn", desc := "(I)I" } : Jvm.MethodName)) ∈ lw_all := lw_g (lw_at lw_m8 24 rfl) rfl
theorem q1834 : (Jvm.Cond.methodLink "SunkTowerLaw" (108 : Nat) ({ cls := "SunkTowerModel", name := "buriedIn", desc := "(I)I" } : Jvm.MethodName)) ∈ lw_all := lw_g (lw_at lw_m8 28 rfl) rfl
theorem q1842 : (Jvm.Cond.methodLink "SunkTowerLaw" (112 : Nat) ({ cls := "SunkTowerModel", name := "sunkBy", desc := "(I)I" } : Jvm.MethodName)) ∈ lw_all := lw_g (lw_at lw_m8 36 rfl) rfl
theorem q1846 : (Jvm.Cond.methodLink "SunkTowerLaw" (116 : Nat) ({ cls := "SunkTowerModel", name := "fastest", desc := "()I" } : Jvm.MethodName)) ∈ lw_all := lw_g (lw_at lw_m8 40 rfl) rfl
theorem q1850 : (Jvm.Cond.methodLink "SunkTowerLaw" (121 : Nat) ({ cls := "SunkTowerModel", name := "paid", desc := "(I)J" } : Jvm.MethodName)) ∈ lw_all := lw_g (lw_at lw_m8 44 rfl) rfl
theorem q1855 : (Jvm.Cond.methodLink "SunkTowerLaw" (125 : Nat) ({ cls := "SunkTowerModel", name := "share", desc := "(II)I" } : Jvm.MethodName)) ∈ lw_all := lw_g (lw_at lw_m8 49 rfl) rfl
theorem q1863 : (Jvm.Cond.methodLink "SunkTowerLaw" (129 : Nat) ({ cls := "SunkTowerModel", name := "heaviest", desc := "(I)I" } : Jvm.MethodName)) ∈ lw_all := lw_g (lw_at lw_m8 57 rfl) rfl
theorem q1867 : (Jvm.Cond.methodLink "SunkTowerLaw" (133 : Nat) ({ cls := "SunkTowerModel", name := "bears", desc := "(II)I" } : Jvm.MethodName)) ∈ lw_all := lw_g (lw_at lw_m8 61 rfl) rfl
theorem q1872 : (Jvm.Cond.methodLink "SunkTowerLaw" (138 : Nat) ({ cls := "SunkTowerModel", name := "stays", desc := "(II)J" } : Jvm.MethodName)) ∈ lw_all := lw_g (lw_at lw_m8 66 rfl) rfl
theorem q1903 : (Jvm.Cond.methodLink "SunkTowerLaw" (143 : Nat) ({ cls := "SunkTowerModel", name := "goesTo", desc := "(III)I" } : Jvm.MethodName)) ∈ lw_all := lw_g (lw_at lw_m8 97 rfl) rfl
theorem q1911 : (Jvm.Cond.methodLink "SunkTowerLaw" (147 : Nat) ({ cls := "SunkTowerModel", name := "movesMany", desc := "(II)I" } : Jvm.MethodName)) ∈ lw_all := lw_g (lw_at lw_m8 105 rfl) rfl
theorem q1915 : (Jvm.Cond.methodLink "SunkTowerLaw" (151 : Nat) ({ cls := "SunkTowerModel", name := "best", desc := "(I)I" } : Jvm.MethodName)) ∈ lw_all := lw_g (lw_at lw_m8 109 rfl) rfl
theorem q1919 : (Jvm.Cond.methodLink "SunkTowerLaw" (156 : Nat) ({ cls := "SunkTowerModel", name := "building", desc := "(III)J" } : Jvm.MethodName)) ∈ lw_all := lw_g (lw_at lw_m8 113 rfl) rfl
theorem q1937 : (Jvm.Cond.methodLink "SunkTowerLaw" (160 : Nat) ({ cls := "SunkTowerModel", name := "buildings", desc := "(II)I" } : Jvm.MethodName)) ∈ lw_all := lw_g (lw_at lw_m8 131 rfl) rfl
theorem q1941 : (Jvm.Cond.methodLink "SunkTowerLaw" (164 : Nat) ({ cls := "SunkTowerModel", name := "envies", desc := "(I)I" } : Jvm.MethodName)) ∈ lw_all := lw_g (lw_at lw_m8 135 rfl) rfl
theorem q1945 : (Jvm.Cond.methodLink "SunkTowerLaw" (168 : Nat) ({ cls := "SunkTowerModel", name := "byRings", desc := "(I)I" } : Jvm.MethodName)) ∈ lw_all := lw_g (lw_at lw_m8 139 rfl) rfl
theorem q1949 : (Jvm.Cond.methodLink "SunkTowerLaw" (172 : Nat) ({ cls := "SunkTowerModel", name := "ringsMany", desc := "()I" } : Jvm.MethodName)) ∈ lw_all := lw_g (lw_at lw_m8 143 rfl) rfl
theorem q1953 : (Jvm.Cond.methodLink "SunkTowerLaw" (176 : Nat) ({ cls := "SunkTowerModel", name := "marks", desc := "(I)I" } : Jvm.MethodName)) ∈ lw_all := lw_g (lw_at lw_m8 147 rfl) rfl
theorem q1979 : (Jvm.Cond.methodLink "SunkTowerLaw" (180 : Nat) ({ cls := "SunkTowerModel", name := "hidden", desc := "(II)I" } : Jvm.MethodName)) ∈ lw_all := lw_g (lw_at lw_m8 173 rfl) rfl
theorem q1983 : (Jvm.Cond.methodLink "SunkTowerLaw" (184 : Nat) ({ cls := "SunkTowerModel", name := "look", desc := "(I)I" } : Jvm.MethodName)) ∈ lw_all := lw_g (lw_at lw_m8 177 rfl) rfl
theorem q1991 : (Jvm.Cond.methodLink "SunkTowerLaw" (188 : Nat) ({ cls := "SunkTowerModel", name := "falseMark", desc := "(I)I" } : Jvm.MethodName)) ∈ lw_all := lw_g (lw_at lw_m8 185 rfl) rfl
theorem q1995 : (Jvm.Cond.methodLink "SunkTowerLaw" (192 : Nat) ({ cls := "SunkTowerModel", name := "numbers", desc := "(III)I" } : Jvm.MethodName)) ∈ lw_all := lw_g (lw_at lw_m8 189 rfl) rfl
theorem q2000 : (Jvm.Cond.methodLink "SunkTowerLaw" (199 : Nat) ({ cls := "SunkTowerModel", name := "write", desc := "(IIJ)J" } : Jvm.MethodName)) ∈ lw_all := lw_g (lw_at lw_m8 194 rfl) rfl
theorem q2008 : (Jvm.Cond.methodLink "SunkTowerLaw" (203 : Nat) ({ cls := "SunkTowerModel", name := "lists", desc := "(I)I" } : Jvm.MethodName)) ∈ lw_all := lw_g (lw_at lw_m8 202 rfl) rfl
theorem q2012 : (Jvm.Cond.methodLink "SunkTowerLaw" (207 : Nat) ({ cls := "SunkTowerModel", name := "image", desc := "(I)I" } : Jvm.MethodName)) ∈ lw_all := lw_g (lw_at lw_m8 206 rfl) rfl
theorem q2016 : (Jvm.Cond.methodLink "SunkTowerLaw" (211 : Nat) ({ cls := "SunkTowerModel", name := "restore", desc := "(I)I" } : Jvm.MethodName)) ∈ lw_all := lw_g (lw_at lw_m8 210 rfl) rfl
theorem q2020 : (Jvm.Cond.methodLink "SunkTowerLaw" (215 : Nat) ({ cls := "SunkTowerModel", name := "count", desc := "(I)I" } : Jvm.MethodName)) ∈ lw_all := lw_g (lw_at lw_m8 214 rfl) rfl
theorem q2032 : (Jvm.Cond.constantLong "SunkTowerLaw" (193 : Nat) (4294967295 : Int64)) ∈ lw_all := lw_g (lw_at lw_m8 226 rfl) rfl
/-! SunkTower$Tower -/
set_option maxRecDepth 100000
def RX1 : String := "SunkTower$Tower"
def TX1 : u_T := fun k => match k with
  | 0 => ("SunkTower$Tower", "weight", "[I", true)
  | 1 => ("SunkTower$Tower", "goods", "[I", true)
  | 2 => ("SunkTower$Tower", "wants", "[I", true)
  | 3 => ("SunkTower$Tower", "on", "[I", true)
  | 4 => ("SunkTower$Tower", "words", "[I", true)
  | 5 => ("SunkTower$Tower", "storeys", "I", false)
  | 6 => ("SunkTower$Tower", "tenants", "I", false)
  | 7 => ("SunkTower$Tower", "sunk", "I", false)
  | 8 => ("SunkTower$Tower", "month", "I", false)
  | 9 => ("SunkTower$Tower", "heavy", "I", false)
  | 10 => ("SunkTower$Tower", "dear", "I", false)
  | 11 => ("SunkTower$Tower", "move", "I", false)
  | 12 => ("SunkTower$Tower", "lines", "I", false)
  | 13 => ("SunkTower$Tower", "sinks", "LSunkTower$Sum;", false)
  | 14 => ("SunkTower$Tower", "pays", "LSunkTower$Sum;", false)
  | _ => ("SunkTower$Tower", "worth", "LSunkTower$Sum;", false)
def tyX1 : Nat → FieldType := fun k => match k with
  | 0 => .array .int
  | 1 => .array .int
  | 2 => .array .int
  | 3 => .array .int
  | 4 => .array .int
  | 5 => .int
  | 6 => .int
  | 7 => .int
  | 8 => .int
  | 9 => .int
  | 10 => .int
  | 11 => .int
  | 12 => .int
  | 13 => .object "SunkTower$Sum"
  | 14 => .object "SunkTower$Sum"
  | _ => .object "SunkTower$Sum"
abbrev wsX10 : List Cond := u_ws RX1 TX1 16
set_option maxRecDepth 100000 in
theorem nmX1 : ∀ a, a < 16 → ∀ b, b < 16 → a ≠ b → (TX1 a).2.1 ≠ (TX1 b).2.1 := by decide +kernel
set_option maxRecDepth 100000 in
theorem tyX1_ok : ∀ k, k < 16 → parseFieldDescriptor (TX1 k).2.2.1 = some (tyX1 k) := by decide +kernel
abbrev cX1_init : ByteArray := prog_9_method_1_code
def yX1_init : MethodName := ⟨RX1, "<init>", "()V"⟩
def dkwX1_init_3 : List UInt8 := [180, 0, 21, 27, 2, 79, 132, 1, 1, 167, 255, 240, 177]
abbrev dktX1_init_3 : List UInt8 := dkwX1_init_3 ++ []
def dkwX1_init_2 : List UInt8 := [181, 0, 27, 42, 16, 50, 181, 0, 31, 42, 16, 10, 181, 0, 34, 3, 60, 27, 16, 6, 162, 0, 16, 42]
abbrev dktX1_init_2 : List UInt8 := dkwX1_init_2 ++ dktX1_init_3
def dkwX1_init_1 : List UInt8 := [188, 10, 181, 0, 18, 42, 16, 6, 188, 10, 181, 0, 21, 42, 16, 6, 188, 10, 181, 0, 24, 42, 16, 100]
abbrev dktX1_init_1 : List UInt8 := dkwX1_init_1 ++ dktX1_init_2
def dkwX1_init_0 : List UInt8 := [42, 183, 0, 3, 42, 16, 8, 188, 10, 181, 0, 9, 42, 16, 6, 188, 10, 181, 0, 15, 42, 16, 6]
abbrev dktX1_init_0 : List UInt8 := dkwX1_init_0 ++ dktX1_init_1
theorem dksX1_init_0 : cX1_init.data.toList.drop 0 = dktX1_init_0 := by decide +kernel
theorem dksX1_init_1 : cX1_init.data.toList.drop 23 = dktX1_init_1 := dk_seg dksX1_init_0 23 rfl rfl
theorem dksX1_init_2 : cX1_init.data.toList.drop 47 = dktX1_init_2 := dk_seg dksX1_init_1 24 rfl rfl
theorem dksX1_init_3 : cX1_init.data.toList.drop 71 = dktX1_init_3 := dk_seg dksX1_init_2 24 rfl rfl
theorem dX1_init_0 : decode cX1_init 0 = .ok (.aload_n 0, 1) := dk_42 (dk_at dksX1_init_0 0 rfl rfl)
theorem dX1_init_1 : decode cX1_init 1 = .ok (.invokespecial 3, 3) := dk_183 0 3 (dk_at dksX1_init_0 1 rfl rfl)
theorem dX1_init_4 : decode cX1_init 4 = .ok (.aload_n 0, 1) := dk_42 (dk_at dksX1_init_0 4 rfl rfl)
theorem dX1_init_5 : decode cX1_init 5 = .ok (.bipush 8, 2) := dk_16 8 (dk_at dksX1_init_0 5 rfl rfl)
theorem dX1_init_7 : decode cX1_init 7 = .ok (.newarray .int, 2) := dk_188_10 (dk_at dksX1_init_0 7 rfl rfl)
theorem dX1_init_9 : decode cX1_init 9 = .ok (.putfield 9, 3) := dk_181 0 9 (dk_at dksX1_init_0 9 rfl rfl)
theorem dX1_init_12 : decode cX1_init 12 = .ok (.aload_n 0, 1) := dk_42 (dk_at dksX1_init_0 12 rfl rfl)
theorem dX1_init_13 : decode cX1_init 13 = .ok (.bipush 6, 2) := dk_16 6 (dk_at dksX1_init_0 13 rfl rfl)
theorem dX1_init_15 : decode cX1_init 15 = .ok (.newarray .int, 2) := dk_188_10 (dk_at dksX1_init_0 15 rfl rfl)
theorem dX1_init_17 : decode cX1_init 17 = .ok (.putfield 15, 3) := dk_181 0 15 (dk_at dksX1_init_0 17 rfl rfl)
theorem dX1_init_20 : decode cX1_init 20 = .ok (.aload_n 0, 1) := dk_42 (dk_at dksX1_init_0 20 rfl rfl)
theorem dX1_init_21 : decode cX1_init 21 = .ok (.bipush 6, 2) := dk_16 6 (dk_at dksX1_init_0 21 rfl rfl)
theorem dX1_init_23 : decode cX1_init 23 = .ok (.newarray .int, 2) := dk_188_10 (dk_at dksX1_init_1 0 rfl rfl)
theorem dX1_init_25 : decode cX1_init 25 = .ok (.putfield 18, 3) := dk_181 0 18 (dk_at dksX1_init_1 2 rfl rfl)
theorem dX1_init_28 : decode cX1_init 28 = .ok (.aload_n 0, 1) := dk_42 (dk_at dksX1_init_1 5 rfl rfl)
theorem dX1_init_29 : decode cX1_init 29 = .ok (.bipush 6, 2) := dk_16 6 (dk_at dksX1_init_1 6 rfl rfl)
theorem dX1_init_31 : decode cX1_init 31 = .ok (.newarray .int, 2) := dk_188_10 (dk_at dksX1_init_1 8 rfl rfl)
theorem dX1_init_33 : decode cX1_init 33 = .ok (.putfield 21, 3) := dk_181 0 21 (dk_at dksX1_init_1 10 rfl rfl)
theorem dX1_init_36 : decode cX1_init 36 = .ok (.aload_n 0, 1) := dk_42 (dk_at dksX1_init_1 13 rfl rfl)
theorem dX1_init_37 : decode cX1_init 37 = .ok (.bipush 6, 2) := dk_16 6 (dk_at dksX1_init_1 14 rfl rfl)
theorem dX1_init_39 : decode cX1_init 39 = .ok (.newarray .int, 2) := dk_188_10 (dk_at dksX1_init_1 16 rfl rfl)
theorem dX1_init_41 : decode cX1_init 41 = .ok (.putfield 24, 3) := dk_181 0 24 (dk_at dksX1_init_1 18 rfl rfl)
theorem dX1_init_44 : decode cX1_init 44 = .ok (.aload_n 0, 1) := dk_42 (dk_at dksX1_init_1 21 rfl rfl)
theorem dX1_init_45 : decode cX1_init 45 = .ok (.bipush 100, 2) := dk_16 100 (dk_at dksX1_init_1 22 rfl rfl)
theorem dX1_init_47 : decode cX1_init 47 = .ok (.putfield 27, 3) := dk_181 0 27 (dk_at dksX1_init_2 0 rfl rfl)
theorem dX1_init_50 : decode cX1_init 50 = .ok (.aload_n 0, 1) := dk_42 (dk_at dksX1_init_2 3 rfl rfl)
theorem dX1_init_51 : decode cX1_init 51 = .ok (.bipush 50, 2) := dk_16 50 (dk_at dksX1_init_2 4 rfl rfl)
theorem dX1_init_53 : decode cX1_init 53 = .ok (.putfield 31, 3) := dk_181 0 31 (dk_at dksX1_init_2 6 rfl rfl)
theorem dX1_init_56 : decode cX1_init 56 = .ok (.aload_n 0, 1) := dk_42 (dk_at dksX1_init_2 9 rfl rfl)
theorem dX1_init_57 : decode cX1_init 57 = .ok (.bipush 10, 2) := dk_16 10 (dk_at dksX1_init_2 10 rfl rfl)
theorem dX1_init_59 : decode cX1_init 59 = .ok (.putfield 34, 3) := dk_181 0 34 (dk_at dksX1_init_2 12 rfl rfl)
theorem dX1_init_62 : decode cX1_init 62 = .ok (.iconst 0, 1) := dk_3 (dk_at dksX1_init_2 15 rfl rfl)
theorem dX1_init_63 : decode cX1_init 63 = .ok (.istore_n 1, 1) := dk_60 (dk_at dksX1_init_2 16 rfl rfl)
theorem dX1_init_64 : decode cX1_init 64 = .ok (.iload_n 1, 1) := dk_27 (dk_at dksX1_init_2 17 rfl rfl)
theorem dX1_init_65 : decode cX1_init 65 = .ok (.bipush 6, 2) := dk_16 6 (dk_at dksX1_init_2 18 rfl rfl)
theorem dX1_init_67 : decode cX1_init 67 = .ok (.if_icmp .ge 16, 3) := dk_162 0 16 (dk_at dksX1_init_2 20 rfl rfl)
theorem dX1_init_70 : decode cX1_init 70 = .ok (.aload_n 0, 1) := dk_42 (dk_at dksX1_init_2 23 rfl rfl)
theorem dX1_init_71 : decode cX1_init 71 = .ok (.getfield 21, 3) := dk_180 0 21 (dk_at dksX1_init_3 0 rfl rfl)
theorem dX1_init_74 : decode cX1_init 74 = .ok (.iload_n 1, 1) := dk_27 (dk_at dksX1_init_3 3 rfl rfl)
theorem dX1_init_75 : decode cX1_init 75 = .ok (.iconst (-1), 1) := dk_2 (dk_at dksX1_init_3 4 rfl rfl)
theorem dX1_init_76 : decode cX1_init 76 = .ok (.iastore, 1) := dk_79 (dk_at dksX1_init_3 5 rfl rfl)
theorem dX1_init_77 : decode cX1_init 77 = .ok (.iinc 1 1, 3) := dk_132 1 1 (dk_at dksX1_init_3 6 rfl rfl)
theorem dX1_init_80 : decode cX1_init 80 = .ok (.goto (-16), 3) := dk_167 255 240 (dk_at dksX1_init_3 9 rfl rfl)
theorem dX1_init_83 : decode cX1_init 83 = .ok (.return_, 1) := dk_177 (dk_at dksX1_init_3 12 rfl rfl)
abbrev cX1_inches : ByteArray := prog_9_method_2_code
def yX1_inches : MethodName := ⟨RX1, "inches", "(IIIII)I"⟩
def dkwX1_inches_3 : List UInt8 := [21, 6, 184, 0, 47, 184, 0, 53, 172]
abbrev dktX1_inches_3 : List UInt8 := dkwX1_inches_3 ++ []
def dkwX1_inches_2 : List UInt8 := [180, 0, 24, 7, 21, 5, 79, 42, 180, 0, 37, 42, 180, 0, 24, 182, 0, 41, 54, 6, 3, 17, 0, 144]
abbrev dktX1_inches_2 : List UInt8 := dkwX1_inches_2 ++ dktX1_inches_3
def dkwX1_inches_1 : List UInt8 := [4, 28, 79, 42, 180, 0, 24, 5, 29, 79, 42, 180, 0, 24, 6, 21, 4, 16, 12, 112, 79, 42]
abbrev dktX1_inches_1 : List UInt8 := dkwX1_inches_1 ++ dktX1_inches_2
def dkwX1_inches_0 : List UInt8 := [27, 16, 100, 108, 54, 6, 42, 180, 0, 37, 198, 0, 56, 42, 180, 0, 24, 3, 27, 79, 42, 180, 0, 24]
abbrev dktX1_inches_0 : List UInt8 := dkwX1_inches_0 ++ dktX1_inches_1
theorem dksX1_inches_0 : cX1_inches.data.toList.drop 0 = dktX1_inches_0 := by decide +kernel
theorem dksX1_inches_1 : cX1_inches.data.toList.drop 24 = dktX1_inches_1 := dk_seg dksX1_inches_0 24 rfl rfl
theorem dksX1_inches_2 : cX1_inches.data.toList.drop 46 = dktX1_inches_2 := dk_seg dksX1_inches_1 22 rfl rfl
theorem dksX1_inches_3 : cX1_inches.data.toList.drop 70 = dktX1_inches_3 := dk_seg dksX1_inches_2 24 rfl rfl
theorem dX1_inches_0 : decode cX1_inches 0 = .ok (.iload_n 1, 1) := dk_27 (dk_at dksX1_inches_0 0 rfl rfl)
theorem dX1_inches_1 : decode cX1_inches 1 = .ok (.bipush 100, 2) := dk_16 100 (dk_at dksX1_inches_0 1 rfl rfl)
theorem dX1_inches_3 : decode cX1_inches 3 = .ok (.idiv, 1) := dk_108 (dk_at dksX1_inches_0 3 rfl rfl)
theorem dX1_inches_4 : decode cX1_inches 4 = .ok (.istore 6, 2) := dk_54 6 (dk_at dksX1_inches_0 4 rfl rfl)
theorem dX1_inches_6 : decode cX1_inches 6 = .ok (.aload_n 0, 1) := dk_42 (dk_at dksX1_inches_0 6 rfl rfl)
theorem dX1_inches_7 : decode cX1_inches 7 = .ok (.getfield 37, 3) := dk_180 0 37 (dk_at dksX1_inches_0 7 rfl rfl)
theorem dX1_inches_10 : decode cX1_inches 10 = .ok (.ifnull 56, 3) := dk_198 0 56 (dk_at dksX1_inches_0 10 rfl rfl)
theorem dX1_inches_13 : decode cX1_inches 13 = .ok (.aload_n 0, 1) := dk_42 (dk_at dksX1_inches_0 13 rfl rfl)
theorem dX1_inches_14 : decode cX1_inches 14 = .ok (.getfield 24, 3) := dk_180 0 24 (dk_at dksX1_inches_0 14 rfl rfl)
theorem dX1_inches_17 : decode cX1_inches 17 = .ok (.iconst 0, 1) := dk_3 (dk_at dksX1_inches_0 17 rfl rfl)
theorem dX1_inches_18 : decode cX1_inches 18 = .ok (.iload_n 1, 1) := dk_27 (dk_at dksX1_inches_0 18 rfl rfl)
theorem dX1_inches_19 : decode cX1_inches 19 = .ok (.iastore, 1) := dk_79 (dk_at dksX1_inches_0 19 rfl rfl)
theorem dX1_inches_20 : decode cX1_inches 20 = .ok (.aload_n 0, 1) := dk_42 (dk_at dksX1_inches_0 20 rfl rfl)
theorem dX1_inches_21 : decode cX1_inches 21 = .ok (.getfield 24, 3) := dk_180 0 24 (dk_at dksX1_inches_0 21 rfl rfl)
theorem dX1_inches_24 : decode cX1_inches 24 = .ok (.iconst 1, 1) := dk_4 (dk_at dksX1_inches_1 0 rfl rfl)
theorem dX1_inches_25 : decode cX1_inches 25 = .ok (.iload_n 2, 1) := dk_28 (dk_at dksX1_inches_1 1 rfl rfl)
theorem dX1_inches_26 : decode cX1_inches 26 = .ok (.iastore, 1) := dk_79 (dk_at dksX1_inches_1 2 rfl rfl)
theorem dX1_inches_27 : decode cX1_inches 27 = .ok (.aload_n 0, 1) := dk_42 (dk_at dksX1_inches_1 3 rfl rfl)
theorem dX1_inches_28 : decode cX1_inches 28 = .ok (.getfield 24, 3) := dk_180 0 24 (dk_at dksX1_inches_1 4 rfl rfl)
theorem dX1_inches_31 : decode cX1_inches 31 = .ok (.iconst 2, 1) := dk_5 (dk_at dksX1_inches_1 7 rfl rfl)
theorem dX1_inches_32 : decode cX1_inches 32 = .ok (.iload_n 3, 1) := dk_29 (dk_at dksX1_inches_1 8 rfl rfl)
theorem dX1_inches_33 : decode cX1_inches 33 = .ok (.iastore, 1) := dk_79 (dk_at dksX1_inches_1 9 rfl rfl)
theorem dX1_inches_34 : decode cX1_inches 34 = .ok (.aload_n 0, 1) := dk_42 (dk_at dksX1_inches_1 10 rfl rfl)
theorem dX1_inches_35 : decode cX1_inches 35 = .ok (.getfield 24, 3) := dk_180 0 24 (dk_at dksX1_inches_1 11 rfl rfl)
theorem dX1_inches_38 : decode cX1_inches 38 = .ok (.iconst 3, 1) := dk_6 (dk_at dksX1_inches_1 14 rfl rfl)
theorem dX1_inches_39 : decode cX1_inches 39 = .ok (.iload 4, 2) := dk_21 4 (dk_at dksX1_inches_1 15 rfl rfl)
theorem dX1_inches_41 : decode cX1_inches 41 = .ok (.bipush 12, 2) := dk_16 12 (dk_at dksX1_inches_1 17 rfl rfl)
theorem dX1_inches_43 : decode cX1_inches 43 = .ok (.irem, 1) := dk_112 (dk_at dksX1_inches_1 19 rfl rfl)
theorem dX1_inches_44 : decode cX1_inches 44 = .ok (.iastore, 1) := dk_79 (dk_at dksX1_inches_1 20 rfl rfl)
theorem dX1_inches_45 : decode cX1_inches 45 = .ok (.aload_n 0, 1) := dk_42 (dk_at dksX1_inches_1 21 rfl rfl)
theorem dX1_inches_46 : decode cX1_inches 46 = .ok (.getfield 24, 3) := dk_180 0 24 (dk_at dksX1_inches_2 0 rfl rfl)
theorem dX1_inches_49 : decode cX1_inches 49 = .ok (.iconst 4, 1) := dk_7 (dk_at dksX1_inches_2 3 rfl rfl)
theorem dX1_inches_50 : decode cX1_inches 50 = .ok (.iload 5, 2) := dk_21 5 (dk_at dksX1_inches_2 4 rfl rfl)
theorem dX1_inches_52 : decode cX1_inches 52 = .ok (.iastore, 1) := dk_79 (dk_at dksX1_inches_2 6 rfl rfl)
theorem dX1_inches_53 : decode cX1_inches 53 = .ok (.aload_n 0, 1) := dk_42 (dk_at dksX1_inches_2 7 rfl rfl)
theorem dX1_inches_54 : decode cX1_inches 54 = .ok (.getfield 37, 3) := dk_180 0 37 (dk_at dksX1_inches_2 8 rfl rfl)
theorem dX1_inches_57 : decode cX1_inches 57 = .ok (.aload_n 0, 1) := dk_42 (dk_at dksX1_inches_2 11 rfl rfl)
theorem dX1_inches_58 : decode cX1_inches 58 = .ok (.getfield 24, 3) := dk_180 0 24 (dk_at dksX1_inches_2 12 rfl rfl)
theorem dX1_inches_61 : decode cX1_inches 61 = .ok (.invokevirtual 41, 3) := dk_182 0 41 (dk_at dksX1_inches_2 15 rfl rfl)
theorem dX1_inches_64 : decode cX1_inches 64 = .ok (.istore 6, 2) := dk_54 6 (dk_at dksX1_inches_2 18 rfl rfl)
theorem dX1_inches_66 : decode cX1_inches 66 = .ok (.iconst 0, 1) := dk_3 (dk_at dksX1_inches_2 20 rfl rfl)
theorem dX1_inches_67 : decode cX1_inches 67 = .ok (.sipush 144, 3) := dk_17 0 144 (dk_at dksX1_inches_2 21 rfl rfl)
theorem dX1_inches_70 : decode cX1_inches 70 = .ok (.iload 6, 2) := dk_21 6 (dk_at dksX1_inches_3 0 rfl rfl)
theorem dX1_inches_72 : decode cX1_inches 72 = .ok (.invokestatic 47, 3) := dk_184 0 47 (dk_at dksX1_inches_3 2 rfl rfl)
theorem dX1_inches_75 : decode cX1_inches 75 = .ok (.invokestatic 53, 3) := dk_184 0 53 (dk_at dksX1_inches_3 5 rfl rfl)
theorem dX1_inches_78 : decode cX1_inches 78 = .ok (.ireturn, 1) := dk_172 (dk_at dksX1_inches_3 8 rfl rfl)
abbrev cX1_pays : ByteArray := prog_9_method_4_code
def yX1_pays : MethodName := ⟨RX1, "pays", "(III)I"⟩
def dkwX1_pays_1 : List UInt8 := [182, 0, 41, 172]
abbrev dktX1_pays_1 : List UInt8 := dkwX1_pays_1 ++ []
def dkwX1_pays_0 : List UInt8 := [42, 180, 0, 59, 199, 0, 5, 3, 172, 42, 27, 28, 29, 182, 0, 62, 42, 180, 0, 59, 42, 180, 0, 24]
abbrev dktX1_pays_0 : List UInt8 := dkwX1_pays_0 ++ dktX1_pays_1
theorem dksX1_pays_0 : cX1_pays.data.toList.drop 0 = dktX1_pays_0 := by decide +kernel
theorem dksX1_pays_1 : cX1_pays.data.toList.drop 24 = dktX1_pays_1 := dk_seg dksX1_pays_0 24 rfl rfl
theorem dX1_pays_0 : decode cX1_pays 0 = .ok (.aload_n 0, 1) := dk_42 (dk_at dksX1_pays_0 0 rfl rfl)
theorem dX1_pays_1 : decode cX1_pays 1 = .ok (.getfield 59, 3) := dk_180 0 59 (dk_at dksX1_pays_0 1 rfl rfl)
theorem dX1_pays_4 : decode cX1_pays 4 = .ok (.ifnonnull 5, 3) := dk_199 0 5 (dk_at dksX1_pays_0 4 rfl rfl)
theorem dX1_pays_7 : decode cX1_pays 7 = .ok (.iconst 0, 1) := dk_3 (dk_at dksX1_pays_0 7 rfl rfl)
theorem dX1_pays_8 : decode cX1_pays 8 = .ok (.ireturn, 1) := dk_172 (dk_at dksX1_pays_0 8 rfl rfl)
theorem dX1_pays_9 : decode cX1_pays 9 = .ok (.aload_n 0, 1) := dk_42 (dk_at dksX1_pays_0 9 rfl rfl)
theorem dX1_pays_10 : decode cX1_pays 10 = .ok (.iload_n 1, 1) := dk_27 (dk_at dksX1_pays_0 10 rfl rfl)
theorem dX1_pays_11 : decode cX1_pays 11 = .ok (.iload_n 2, 1) := dk_28 (dk_at dksX1_pays_0 11 rfl rfl)
theorem dX1_pays_12 : decode cX1_pays 12 = .ok (.iload_n 3, 1) := dk_29 (dk_at dksX1_pays_0 12 rfl rfl)
theorem dX1_pays_13 : decode cX1_pays 13 = .ok (.invokevirtual 62, 3) := dk_182 0 62 (dk_at dksX1_pays_0 13 rfl rfl)
theorem dX1_pays_16 : decode cX1_pays 16 = .ok (.aload_n 0, 1) := dk_42 (dk_at dksX1_pays_0 16 rfl rfl)
theorem dX1_pays_17 : decode cX1_pays 17 = .ok (.getfield 59, 3) := dk_180 0 59 (dk_at dksX1_pays_0 17 rfl rfl)
theorem dX1_pays_20 : decode cX1_pays 20 = .ok (.aload_n 0, 1) := dk_42 (dk_at dksX1_pays_0 20 rfl rfl)
theorem dX1_pays_21 : decode cX1_pays 21 = .ok (.getfield 24, 3) := dk_180 0 24 (dk_at dksX1_pays_0 21 rfl rfl)
theorem dX1_pays_24 : decode cX1_pays 24 = .ok (.invokevirtual 41, 3) := dk_182 0 41 (dk_at dksX1_pays_1 0 rfl rfl)
theorem dX1_pays_27 : decode cX1_pays 27 = .ok (.ireturn, 1) := dk_172 (dk_at dksX1_pays_1 3 rfl rfl)
abbrev cX1_lays : ByteArray := prog_9_method_3_code
def yX1_lays : MethodName := ⟨RX1, "lays", "(III)V"⟩
def dkwX1_lays_1 : List UInt8 := [79, 42, 180, 0, 24, 5, 29, 16, 12, 112, 79, 177]
abbrev dktX1_lays_1 : List UInt8 := dkwX1_lays_1 ++ []
def dkwX1_lays_0 : List UInt8 := [42, 180, 0, 24, 3, 17, 0, 144, 27, 104, 28, 100, 16, 12, 184, 0, 56, 79, 42, 180, 0, 24, 4, 27]
abbrev dktX1_lays_0 : List UInt8 := dkwX1_lays_0 ++ dktX1_lays_1
theorem dksX1_lays_0 : cX1_lays.data.toList.drop 0 = dktX1_lays_0 := by decide +kernel
theorem dksX1_lays_1 : cX1_lays.data.toList.drop 24 = dktX1_lays_1 := dk_seg dksX1_lays_0 24 rfl rfl
theorem dX1_lays_0 : decode cX1_lays 0 = .ok (.aload_n 0, 1) := dk_42 (dk_at dksX1_lays_0 0 rfl rfl)
theorem dX1_lays_1 : decode cX1_lays 1 = .ok (.getfield 24, 3) := dk_180 0 24 (dk_at dksX1_lays_0 1 rfl rfl)
theorem dX1_lays_4 : decode cX1_lays 4 = .ok (.iconst 0, 1) := dk_3 (dk_at dksX1_lays_0 4 rfl rfl)
theorem dX1_lays_5 : decode cX1_lays 5 = .ok (.sipush 144, 3) := dk_17 0 144 (dk_at dksX1_lays_0 5 rfl rfl)
theorem dX1_lays_8 : decode cX1_lays 8 = .ok (.iload_n 1, 1) := dk_27 (dk_at dksX1_lays_0 8 rfl rfl)
theorem dX1_lays_9 : decode cX1_lays 9 = .ok (.imul, 1) := dk_104 (dk_at dksX1_lays_0 9 rfl rfl)
theorem dX1_lays_10 : decode cX1_lays 10 = .ok (.iload_n 2, 1) := dk_28 (dk_at dksX1_lays_0 10 rfl rfl)
theorem dX1_lays_11 : decode cX1_lays 11 = .ok (.isub, 1) := dk_100 (dk_at dksX1_lays_0 11 rfl rfl)
theorem dX1_lays_12 : decode cX1_lays 12 = .ok (.bipush 12, 2) := dk_16 12 (dk_at dksX1_lays_0 12 rfl rfl)
theorem dX1_lays_14 : decode cX1_lays 14 = .ok (.invokestatic 56, 3) := dk_184 0 56 (dk_at dksX1_lays_0 14 rfl rfl)
theorem dX1_lays_17 : decode cX1_lays 17 = .ok (.iastore, 1) := dk_79 (dk_at dksX1_lays_0 17 rfl rfl)
theorem dX1_lays_18 : decode cX1_lays 18 = .ok (.aload_n 0, 1) := dk_42 (dk_at dksX1_lays_0 18 rfl rfl)
theorem dX1_lays_19 : decode cX1_lays 19 = .ok (.getfield 24, 3) := dk_180 0 24 (dk_at dksX1_lays_0 19 rfl rfl)
theorem dX1_lays_22 : decode cX1_lays 22 = .ok (.iconst 1, 1) := dk_4 (dk_at dksX1_lays_0 22 rfl rfl)
theorem dX1_lays_23 : decode cX1_lays 23 = .ok (.iload_n 1, 1) := dk_27 (dk_at dksX1_lays_0 23 rfl rfl)
theorem dX1_lays_24 : decode cX1_lays 24 = .ok (.iastore, 1) := dk_79 (dk_at dksX1_lays_1 0 rfl rfl)
theorem dX1_lays_25 : decode cX1_lays 25 = .ok (.aload_n 0, 1) := dk_42 (dk_at dksX1_lays_1 1 rfl rfl)
theorem dX1_lays_26 : decode cX1_lays 26 = .ok (.getfield 24, 3) := dk_180 0 24 (dk_at dksX1_lays_1 2 rfl rfl)
theorem dX1_lays_29 : decode cX1_lays 29 = .ok (.iconst 2, 1) := dk_5 (dk_at dksX1_lays_1 5 rfl rfl)
theorem dX1_lays_30 : decode cX1_lays 30 = .ok (.iload_n 3, 1) := dk_29 (dk_at dksX1_lays_1 6 rfl rfl)
theorem dX1_lays_31 : decode cX1_lays 31 = .ok (.bipush 12, 2) := dk_16 12 (dk_at dksX1_lays_1 7 rfl rfl)
theorem dX1_lays_33 : decode cX1_lays 33 = .ok (.irem, 1) := dk_112 (dk_at dksX1_lays_1 9 rfl rfl)
theorem dX1_lays_34 : decode cX1_lays 34 = .ok (.iastore, 1) := dk_79 (dk_at dksX1_lays_1 10 rfl rfl)
theorem dX1_lays_35 : decode cX1_lays 35 = .ok (.return_, 1) := dk_177 (dk_at dksX1_lays_1 11 rfl rfl)
abbrev cX1_worth : ByteArray := prog_9_method_5_code
def yX1_worth : MethodName := ⟨RX1, "worth", "(IIZIII)I"⟩
def dkwX1_worth_2 : List UInt8 := [42, 180, 0, 66, 42, 180, 0, 24, 182, 0, 41, 172]
abbrev dktX1_worth_2 : List UInt8 := dkwX1_worth_2 ++ []
def dkwX1_worth_1 : List UInt8 := [27, 79, 42, 180, 0, 24, 7, 28, 79, 42, 180, 0, 24, 8, 29, 153, 0, 7, 4, 167, 0, 4, 3, 79]
abbrev dktX1_worth_1 : List UInt8 := dkwX1_worth_1 ++ dktX1_worth_2
def dkwX1_worth_0 : List UInt8 := [42, 180, 0, 66, 199, 0, 5, 3, 172, 42, 21, 4, 21, 5, 21, 6, 182, 0, 62, 42, 180, 0, 24, 6]
abbrev dktX1_worth_0 : List UInt8 := dkwX1_worth_0 ++ dktX1_worth_1
theorem dksX1_worth_0 : cX1_worth.data.toList.drop 0 = dktX1_worth_0 := by decide +kernel
theorem dksX1_worth_1 : cX1_worth.data.toList.drop 24 = dktX1_worth_1 := dk_seg dksX1_worth_0 24 rfl rfl
theorem dksX1_worth_2 : cX1_worth.data.toList.drop 48 = dktX1_worth_2 := dk_seg dksX1_worth_1 24 rfl rfl
theorem dX1_worth_0 : decode cX1_worth 0 = .ok (.aload_n 0, 1) := dk_42 (dk_at dksX1_worth_0 0 rfl rfl)
theorem dX1_worth_1 : decode cX1_worth 1 = .ok (.getfield 66, 3) := dk_180 0 66 (dk_at dksX1_worth_0 1 rfl rfl)
theorem dX1_worth_4 : decode cX1_worth 4 = .ok (.ifnonnull 5, 3) := dk_199 0 5 (dk_at dksX1_worth_0 4 rfl rfl)
theorem dX1_worth_7 : decode cX1_worth 7 = .ok (.iconst 0, 1) := dk_3 (dk_at dksX1_worth_0 7 rfl rfl)
theorem dX1_worth_8 : decode cX1_worth 8 = .ok (.ireturn, 1) := dk_172 (dk_at dksX1_worth_0 8 rfl rfl)
theorem dX1_worth_9 : decode cX1_worth 9 = .ok (.aload_n 0, 1) := dk_42 (dk_at dksX1_worth_0 9 rfl rfl)
theorem dX1_worth_10 : decode cX1_worth 10 = .ok (.iload 4, 2) := dk_21 4 (dk_at dksX1_worth_0 10 rfl rfl)
theorem dX1_worth_12 : decode cX1_worth 12 = .ok (.iload 5, 2) := dk_21 5 (dk_at dksX1_worth_0 12 rfl rfl)
theorem dX1_worth_14 : decode cX1_worth 14 = .ok (.iload 6, 2) := dk_21 6 (dk_at dksX1_worth_0 14 rfl rfl)
theorem dX1_worth_16 : decode cX1_worth 16 = .ok (.invokevirtual 62, 3) := dk_182 0 62 (dk_at dksX1_worth_0 16 rfl rfl)
theorem dX1_worth_19 : decode cX1_worth 19 = .ok (.aload_n 0, 1) := dk_42 (dk_at dksX1_worth_0 19 rfl rfl)
theorem dX1_worth_20 : decode cX1_worth 20 = .ok (.getfield 24, 3) := dk_180 0 24 (dk_at dksX1_worth_0 20 rfl rfl)
theorem dX1_worth_23 : decode cX1_worth 23 = .ok (.iconst 3, 1) := dk_6 (dk_at dksX1_worth_0 23 rfl rfl)
theorem dX1_worth_24 : decode cX1_worth 24 = .ok (.iload_n 1, 1) := dk_27 (dk_at dksX1_worth_1 0 rfl rfl)
theorem dX1_worth_25 : decode cX1_worth 25 = .ok (.iastore, 1) := dk_79 (dk_at dksX1_worth_1 1 rfl rfl)
theorem dX1_worth_26 : decode cX1_worth 26 = .ok (.aload_n 0, 1) := dk_42 (dk_at dksX1_worth_1 2 rfl rfl)
theorem dX1_worth_27 : decode cX1_worth 27 = .ok (.getfield 24, 3) := dk_180 0 24 (dk_at dksX1_worth_1 3 rfl rfl)
theorem dX1_worth_30 : decode cX1_worth 30 = .ok (.iconst 4, 1) := dk_7 (dk_at dksX1_worth_1 6 rfl rfl)
theorem dX1_worth_31 : decode cX1_worth 31 = .ok (.iload_n 2, 1) := dk_28 (dk_at dksX1_worth_1 7 rfl rfl)
theorem dX1_worth_32 : decode cX1_worth 32 = .ok (.iastore, 1) := dk_79 (dk_at dksX1_worth_1 8 rfl rfl)
theorem dX1_worth_33 : decode cX1_worth 33 = .ok (.aload_n 0, 1) := dk_42 (dk_at dksX1_worth_1 9 rfl rfl)
theorem dX1_worth_34 : decode cX1_worth 34 = .ok (.getfield 24, 3) := dk_180 0 24 (dk_at dksX1_worth_1 10 rfl rfl)
theorem dX1_worth_37 : decode cX1_worth 37 = .ok (.iconst 5, 1) := dk_8 (dk_at dksX1_worth_1 13 rfl rfl)
theorem dX1_worth_38 : decode cX1_worth 38 = .ok (.iload_n 3, 1) := dk_29 (dk_at dksX1_worth_1 14 rfl rfl)
theorem dX1_worth_39 : decode cX1_worth 39 = .ok (.ifCond .eq 7, 3) := dk_153 0 7 (dk_at dksX1_worth_1 15 rfl rfl)
theorem dX1_worth_42 : decode cX1_worth 42 = .ok (.iconst 1, 1) := dk_4 (dk_at dksX1_worth_1 18 rfl rfl)
theorem dX1_worth_43 : decode cX1_worth 43 = .ok (.goto 4, 3) := dk_167 0 4 (dk_at dksX1_worth_1 19 rfl rfl)
theorem dX1_worth_46 : decode cX1_worth 46 = .ok (.iconst 0, 1) := dk_3 (dk_at dksX1_worth_1 22 rfl rfl)
theorem dX1_worth_47 : decode cX1_worth 47 = .ok (.iastore, 1) := dk_79 (dk_at dksX1_worth_1 23 rfl rfl)
theorem dX1_worth_48 : decode cX1_worth 48 = .ok (.aload_n 0, 1) := dk_42 (dk_at dksX1_worth_2 0 rfl rfl)
theorem dX1_worth_49 : decode cX1_worth 49 = .ok (.getfield 66, 3) := dk_180 0 66 (dk_at dksX1_worth_2 1 rfl rfl)
theorem dX1_worth_52 : decode cX1_worth 52 = .ok (.aload_n 0, 1) := dk_42 (dk_at dksX1_worth_2 4 rfl rfl)
theorem dX1_worth_53 : decode cX1_worth 53 = .ok (.getfield 24, 3) := dk_180 0 24 (dk_at dksX1_worth_2 5 rfl rfl)
theorem dX1_worth_56 : decode cX1_worth 56 = .ok (.invokevirtual 41, 3) := dk_182 0 41 (dk_at dksX1_worth_2 8 rfl rfl)
theorem dX1_worth_59 : decode cX1_worth 59 = .ok (.ireturn, 1) := dk_172 (dk_at dksX1_worth_2 11 rfl rfl)
theorem q128 : (Jvm.Cond.initialized "SunkTower$Tower") ∈ lw_all := lw_g (lw_at lw_m1 2 rfl) rfl
theorem q161 : (Jvm.Cond.instantiable "SunkTower$Tower" (16 : Nat)) ∈ lw_all := lw_g (lw_at lw_m1 35 rfl) rfl
theorem q163 : (Jvm.Cond.instanceMethod ({ cls := "SunkTower$Tower", name := "<init>", desc := "()V" } : Jvm.MethodName)) ∈ lw_all := lw_g (lw_at lw_m1 37 rfl) rfl
theorem q164 : (Jvm.Cond.code ({ cls := "SunkTower$Tower", name := "<init>", desc := "()V" } : Jvm.MethodName) prog_9_method_1_code (2 : Nat) (Option.none : Option Jvm.ClassFile.FieldType)) ∈ lw_all := lw_g (lw_at lw_m1 38 rfl) rfl
theorem q165 : (Jvm.Cond.methodLink "SunkTower$Tower" (3 : Nat) ({ cls := "java/lang/Object", name := "<init>", desc := "()V" } : Jvm.MethodName)) ∈ lw_all := lw_g (lw_at lw_m1 39 rfl) rfl
theorem q166 : (Jvm.Cond.fieldLink "SunkTower$Tower" (9 : Nat) "SunkTower$Tower" "weight" "[I") ∈ lw_all := lw_g (lw_at lw_m1 40 rfl) rfl
theorem q169 : (Jvm.Cond.fieldLink "SunkTower$Tower" (15 : Nat) "SunkTower$Tower" "goods" "[I") ∈ lw_all := lw_g (lw_at lw_m1 43 rfl) rfl
theorem q172 : (Jvm.Cond.fieldLink "SunkTower$Tower" (18 : Nat) "SunkTower$Tower" "wants" "[I") ∈ lw_all := lw_g (lw_at lw_m1 46 rfl) rfl
theorem q176 : (Jvm.Cond.fieldLink "SunkTower$Tower" (21 : Nat) "SunkTower$Tower" "on" "[I") ∈ lw_all := lw_g (lw_at lw_m1 50 rfl) rfl
theorem q179 : (Jvm.Cond.fieldLink "SunkTower$Tower" (24 : Nat) "SunkTower$Tower" "words" "[I") ∈ lw_all := lw_g (lw_at lw_m1 53 rfl) rfl
theorem q189 : (Jvm.Cond.fieldLink "SunkTower$Tower" (27 : Nat) "SunkTower$Tower" "heavy" "I") ∈ lw_all := lw_g (lw_at lw_m1 63 rfl) rfl
theorem q192 : (Jvm.Cond.fieldLink "SunkTower$Tower" (31 : Nat) "SunkTower$Tower" "dear" "I") ∈ lw_all := lw_g (lw_at lw_m1 66 rfl) rfl
theorem q195 : (Jvm.Cond.fieldLink "SunkTower$Tower" (34 : Nat) "SunkTower$Tower" "move" "I") ∈ lw_all := lw_g (lw_at lw_m1 69 rfl) rfl
theorem q200 : (Jvm.Cond.fieldLink "SunkTower$Tower" (37 : Nat) "SunkTower$Tower" "sinks" "LSunkTower$Sum;") ∈ lw_all := lw_g (lw_at lw_m1 74 rfl) rfl
theorem q202 : (Jvm.Cond.fieldLink "SunkTower$Tower" (59 : Nat) "SunkTower$Tower" "pays" "LSunkTower$Sum;") ∈ lw_all := lw_g (lw_at lw_m1 76 rfl) rfl
theorem q204 : (Jvm.Cond.fieldLink "SunkTower$Tower" (66 : Nat) "SunkTower$Tower" "worth" "LSunkTower$Sum;") ∈ lw_all := lw_g (lw_at lw_m1 78 rfl) rfl
theorem q206 : (Jvm.Cond.laysFinal "SunkTower$Tower" "SunkTower$Tower" "weight" "[I") ∈ lw_all := lw_g (lw_at lw_m1 80 rfl) rfl
theorem q207 : (Jvm.Cond.soleField "SunkTower$Tower" "weight") ∈ lw_all := lw_g (lw_at lw_m1 81 rfl) rfl
theorem q208 : (Jvm.Cond.laysFinal "SunkTower$Tower" "SunkTower$Tower" "goods" "[I") ∈ lw_all := lw_g (lw_at lw_m1 82 rfl) rfl
theorem q209 : (Jvm.Cond.soleField "SunkTower$Tower" "goods") ∈ lw_all := lw_g (lw_at lw_m1 83 rfl) rfl
theorem q210 : (Jvm.Cond.laysFinal "SunkTower$Tower" "SunkTower$Tower" "wants" "[I") ∈ lw_all := lw_g (lw_at lw_m1 84 rfl) rfl
theorem q211 : (Jvm.Cond.soleField "SunkTower$Tower" "wants") ∈ lw_all := lw_g (lw_at lw_m1 85 rfl) rfl
theorem q212 : (Jvm.Cond.laysFinal "SunkTower$Tower" "SunkTower$Tower" "on" "[I") ∈ lw_all := lw_g (lw_at lw_m1 86 rfl) rfl
theorem q213 : (Jvm.Cond.soleField "SunkTower$Tower" "on") ∈ lw_all := lw_g (lw_at lw_m1 87 rfl) rfl
theorem q214 : (Jvm.Cond.laysFinal "SunkTower$Tower" "SunkTower$Tower" "words" "[I") ∈ lw_all := lw_g (lw_at lw_m1 88 rfl) rfl
theorem q215 : (Jvm.Cond.soleField "SunkTower$Tower" "words") ∈ lw_all := lw_g (lw_at lw_m1 89 rfl) rfl
theorem q216 : (Jvm.Cond.lays "SunkTower$Tower" "SunkTower$Tower" "storeys" "I") ∈ lw_all := lw_g (lw_at lw_m1 90 rfl) rfl
theorem q217 : (Jvm.Cond.soleField "SunkTower$Tower" "storeys") ∈ lw_all := lw_g (lw_at lw_m1 91 rfl) rfl
theorem q218 : (Jvm.Cond.lays "SunkTower$Tower" "SunkTower$Tower" "tenants" "I") ∈ lw_all := lw_g (lw_at lw_m1 92 rfl) rfl
theorem q219 : (Jvm.Cond.soleField "SunkTower$Tower" "tenants") ∈ lw_all := lw_g (lw_at lw_m1 93 rfl) rfl
theorem q220 : (Jvm.Cond.lays "SunkTower$Tower" "SunkTower$Tower" "sunk" "I") ∈ lw_all := lw_g (lw_at lw_m1 94 rfl) rfl
theorem q221 : (Jvm.Cond.soleField "SunkTower$Tower" "sunk") ∈ lw_all := lw_g (lw_at lw_m1 95 rfl) rfl
theorem q222 : (Jvm.Cond.lays "SunkTower$Tower" "SunkTower$Tower" "month" "I") ∈ lw_all := lw_g (lw_at lw_m1 96 rfl) rfl
theorem q223 : (Jvm.Cond.soleField "SunkTower$Tower" "month") ∈ lw_all := lw_g (lw_at lw_m1 97 rfl) rfl
theorem q224 : (Jvm.Cond.lays "SunkTower$Tower" "SunkTower$Tower" "heavy" "I") ∈ lw_all := lw_g (lw_at lw_m1 98 rfl) rfl
theorem q225 : (Jvm.Cond.soleField "SunkTower$Tower" "heavy") ∈ lw_all := lw_g (lw_at lw_m1 99 rfl) rfl
theorem q226 : (Jvm.Cond.lays "SunkTower$Tower" "SunkTower$Tower" "dear" "I") ∈ lw_all := lw_g (lw_at lw_m1 100 rfl) rfl
theorem q227 : (Jvm.Cond.soleField "SunkTower$Tower" "dear") ∈ lw_all := lw_g (lw_at lw_m1 101 rfl) rfl
theorem q228 : (Jvm.Cond.lays "SunkTower$Tower" "SunkTower$Tower" "move" "I") ∈ lw_all := lw_g (lw_at lw_m1 102 rfl) rfl
theorem q229 : (Jvm.Cond.soleField "SunkTower$Tower" "move") ∈ lw_all := lw_g (lw_at lw_m1 103 rfl) rfl
theorem q230 : (Jvm.Cond.lays "SunkTower$Tower" "SunkTower$Tower" "lines" "I") ∈ lw_all := lw_g (lw_at lw_m1 104 rfl) rfl
theorem q231 : (Jvm.Cond.soleField "SunkTower$Tower" "lines") ∈ lw_all := lw_g (lw_at lw_m1 105 rfl) rfl
theorem q232 : (Jvm.Cond.lays "SunkTower$Tower" "SunkTower$Tower" "sinks" "LSunkTower$Sum;") ∈ lw_all := lw_g (lw_at lw_m1 106 rfl) rfl
theorem q233 : (Jvm.Cond.soleField "SunkTower$Tower" "sinks") ∈ lw_all := lw_g (lw_at lw_m1 107 rfl) rfl
theorem q234 : (Jvm.Cond.lays "SunkTower$Tower" "SunkTower$Tower" "pays" "LSunkTower$Sum;") ∈ lw_all := lw_g (lw_at lw_m1 108 rfl) rfl
theorem q235 : (Jvm.Cond.soleField "SunkTower$Tower" "pays") ∈ lw_all := lw_g (lw_at lw_m1 109 rfl) rfl
theorem q236 : (Jvm.Cond.lays "SunkTower$Tower" "SunkTower$Tower" "worth" "LSunkTower$Sum;") ∈ lw_all := lw_g (lw_at lw_m1 110 rfl) rfl
theorem q237 : (Jvm.Cond.soleField "SunkTower$Tower" "worth") ∈ lw_all := lw_g (lw_at lw_m1 111 rfl) rfl
theorem q238 : (Jvm.Cond.superclass "SunkTower$Tower" "java/lang/Object") ∈ lw_all := lw_g (lw_at lw_m1 112 rfl) rfl
theorem q795 : (Jvm.Cond.instanceMethod ({ cls := "SunkTower$Tower", name := "inches", desc := "(IIIII)I" } : Jvm.MethodName)) ∈ lw_all := lw_g (lw_at lw_m3 189 rfl) rfl
theorem q796 : (Jvm.Cond.selects "SunkTower$Tower" ({ cls := "SunkTower$Tower", name := "inches", desc := "(IIIII)I" } : Jvm.MethodName) ({ cls := "SunkTower$Tower", name := "inches", desc := "(IIIII)I" } : Jvm.MethodName)) ∈ lw_all := lw_g (lw_at lw_m3 190 rfl) rfl
theorem q797 : (Jvm.Cond.code ({ cls := "SunkTower$Tower", name := "inches", desc := "(IIIII)I" } : Jvm.MethodName) prog_9_method_2_code (7 : Nat) (Option.some Jvm.ClassFile.FieldType.int)) ∈ lw_all := lw_g (lw_at lw_m3 191 rfl) rfl
theorem q798 : (Jvm.Cond.methodLink "SunkTower$Tower" (41 : Nat) ({ cls := "SunkTower$Sum", name := "value", desc := "([I)I" } : Jvm.MethodName)) ∈ lw_all := lw_g (lw_at lw_m3 192 rfl) rfl
theorem q819 : (Jvm.Cond.methodLink "SunkTower$Tower" (47 : Nat) ({ cls := "java/lang/Math", name := "min", desc := "(II)I" } : Jvm.MethodName)) ∈ lw_all := lw_g (lw_at lw_m3 213 rfl) rfl
theorem q820 : (Jvm.Cond.methodLink "SunkTower$Tower" (53 : Nat) ({ cls := "java/lang/Math", name := "max", desc := "(II)I" } : Jvm.MethodName)) ∈ lw_all := lw_g (lw_at lw_m3 214 rfl) rfl
theorem q830 : (Jvm.Cond.instanceMethod ({ cls := "SunkTower$Tower", name := "pays", desc := "(III)I" } : Jvm.MethodName)) ∈ lw_all := lw_g (lw_at lw_m3 224 rfl) rfl
theorem q831 : (Jvm.Cond.selects "SunkTower$Tower" ({ cls := "SunkTower$Tower", name := "pays", desc := "(III)I" } : Jvm.MethodName) ({ cls := "SunkTower$Tower", name := "pays", desc := "(III)I" } : Jvm.MethodName)) ∈ lw_all := lw_g (lw_at lw_m3 225 rfl) rfl
theorem q832 : (Jvm.Cond.code ({ cls := "SunkTower$Tower", name := "pays", desc := "(III)I" } : Jvm.MethodName) prog_9_method_4_code (4 : Nat) (Option.some Jvm.ClassFile.FieldType.int)) ∈ lw_all := lw_g (lw_at lw_m3 226 rfl) rfl
theorem q833 : (Jvm.Cond.methodLink "SunkTower$Tower" (62 : Nat) ({ cls := "SunkTower$Tower", name := "lays", desc := "(III)V" } : Jvm.MethodName)) ∈ lw_all := lw_g (lw_at lw_m3 227 rfl) rfl
theorem q834 : (Jvm.Cond.privateMethod ({ cls := "SunkTower$Tower", name := "lays", desc := "(III)V" } : Jvm.MethodName)) ∈ lw_tbl := lw_at lw_m3 228 rfl
theorem q835 : (Jvm.Cond.instanceMethod ({ cls := "SunkTower$Tower", name := "lays", desc := "(III)V" } : Jvm.MethodName)) ∈ lw_all := lw_g (lw_at lw_m3 229 rfl) rfl
theorem q836 : (Jvm.Cond.code ({ cls := "SunkTower$Tower", name := "lays", desc := "(III)V" } : Jvm.MethodName) prog_9_method_3_code (4 : Nat) (Option.none : Option Jvm.ClassFile.FieldType)) ∈ lw_all := lw_g (lw_at lw_m3 230 rfl) rfl
theorem q837 : (Jvm.Cond.methodLink "SunkTower$Tower" (56 : Nat) ({ cls := "java/lang/Math", name := "floorDiv", desc := "(II)I" } : Jvm.MethodName)) ∈ lw_all := lw_g (lw_at lw_m3 231 rfl) rfl
theorem q850 : (Jvm.Cond.instanceMethod ({ cls := "SunkTower$Tower", name := "worth", desc := "(IIZIII)I" } : Jvm.MethodName)) ∈ lw_all := lw_g (lw_at lw_m4 4 rfl) rfl
theorem q851 : (Jvm.Cond.selects "SunkTower$Tower" ({ cls := "SunkTower$Tower", name := "worth", desc := "(IIZIII)I" } : Jvm.MethodName) ({ cls := "SunkTower$Tower", name := "worth", desc := "(IIZIII)I" } : Jvm.MethodName)) ∈ lw_all := lw_g (lw_at lw_m4 5 rfl) rfl
theorem q852 : (Jvm.Cond.code ({ cls := "SunkTower$Tower", name := "worth", desc := "(IIZIII)I" } : Jvm.MethodName) prog_9_method_5_code (7 : Nat) (Option.some Jvm.ClassFile.FieldType.int)) ∈ lw_all := lw_g (lw_at lw_m4 6 rfl) rfl
theorem in_X1 : ∀ w ∈ wsX10, w ∈ lw_all := lw_in wsX10 [206, 208, 210, 212, 214, 216, 218, 220, 222, 224, 226, 228, 230, 232, 234, 236] (by decide +kernel) (by decide +kernel)
/-! SunkTower$State -/
set_option maxRecDepth 100000
def RX2 : String := "SunkTower$State"
def TX2 : u_T := fun k => match k with
  | 0 => ("SunkTower$State", "on", "[I", true)
  | 1 => ("SunkTower$State", "goods", "[I", true)
  | 2 => ("SunkTower$State", "weight", "[I", true)
  | 3 => ("SunkTower$State", "storeys", "I", false)
  | 4 => ("SunkTower$State", "sunk", "I", false)
  | 5 => ("SunkTower$State", "month", "I", false)
  | 6 => ("SunkTower$State", "besides", "I", false)
  | _ => ("SunkTower$State", "this$0", "LSunkTower;", true)
def tyX2 : Nat → FieldType := fun k => match k with
  | 0 => .array .int
  | 1 => .array .int
  | 2 => .array .int
  | 3 => .int
  | 4 => .int
  | 5 => .int
  | 6 => .int
  | _ => .object "SunkTower"
abbrev wsX20 : List Cond := u_ws RX2 TX2 8
theorem nmX2 : ∀ a, a < 8 → ∀ b, b < 8 → a ≠ b → (TX2 a).2.1 ≠ (TX2 b).2.1 := by decide +kernel
theorem tyX2_ok : ∀ k, k < 8 → parseFieldDescriptor (TX2 k).2.2.1 = some (tyX2 k) := by decide +kernel
abbrev cX2_init : ByteArray := prog_7_method_1_code
def yX2_init : MethodName := ⟨RX2, "<init>", "(LSunkTower;)V"⟩
def dkwX2_init_1 : List UInt8 := [181, 0, 19, 42, 16, 8, 188, 10, 181, 0, 22, 177]
abbrev dktX2_init_1 : List UInt8 := dkwX2_init_1 ++ []
def dkwX2_init_0 : List UInt8 := [42, 43, 181, 0, 3, 42, 183, 0, 9, 42, 16, 6, 188, 10, 181, 0, 15, 42, 16, 6, 188, 10]
abbrev dktX2_init_0 : List UInt8 := dkwX2_init_0 ++ dktX2_init_1
theorem dksX2_init_0 : cX2_init.data.toList.drop 0 = dktX2_init_0 := by decide +kernel
theorem dksX2_init_1 : cX2_init.data.toList.drop 22 = dktX2_init_1 := dk_seg dksX2_init_0 22 rfl rfl
theorem dX2_init_0 : decode cX2_init 0 = .ok (.aload_n 0, 1) := dk_42 (dk_at dksX2_init_0 0 rfl rfl)
theorem dX2_init_1 : decode cX2_init 1 = .ok (.aload_n 1, 1) := dk_43 (dk_at dksX2_init_0 1 rfl rfl)
theorem dX2_init_2 : decode cX2_init 2 = .ok (.putfield 3, 3) := dk_181 0 3 (dk_at dksX2_init_0 2 rfl rfl)
theorem dX2_init_5 : decode cX2_init 5 = .ok (.aload_n 0, 1) := dk_42 (dk_at dksX2_init_0 5 rfl rfl)
theorem dX2_init_6 : decode cX2_init 6 = .ok (.invokespecial 9, 3) := dk_183 0 9 (dk_at dksX2_init_0 6 rfl rfl)
theorem dX2_init_9 : decode cX2_init 9 = .ok (.aload_n 0, 1) := dk_42 (dk_at dksX2_init_0 9 rfl rfl)
theorem dX2_init_10 : decode cX2_init 10 = .ok (.bipush 6, 2) := dk_16 6 (dk_at dksX2_init_0 10 rfl rfl)
theorem dX2_init_12 : decode cX2_init 12 = .ok (.newarray .int, 2) := dk_188_10 (dk_at dksX2_init_0 12 rfl rfl)
theorem dX2_init_14 : decode cX2_init 14 = .ok (.putfield 15, 3) := dk_181 0 15 (dk_at dksX2_init_0 14 rfl rfl)
theorem dX2_init_17 : decode cX2_init 17 = .ok (.aload_n 0, 1) := dk_42 (dk_at dksX2_init_0 17 rfl rfl)
theorem dX2_init_18 : decode cX2_init 18 = .ok (.bipush 6, 2) := dk_16 6 (dk_at dksX2_init_0 18 rfl rfl)
theorem dX2_init_20 : decode cX2_init 20 = .ok (.newarray .int, 2) := dk_188_10 (dk_at dksX2_init_0 20 rfl rfl)
theorem dX2_init_22 : decode cX2_init 22 = .ok (.putfield 19, 3) := dk_181 0 19 (dk_at dksX2_init_1 0 rfl rfl)
theorem dX2_init_25 : decode cX2_init 25 = .ok (.aload_n 0, 1) := dk_42 (dk_at dksX2_init_1 3 rfl rfl)
theorem dX2_init_26 : decode cX2_init 26 = .ok (.bipush 8, 2) := dk_16 8 (dk_at dksX2_init_1 4 rfl rfl)
theorem dX2_init_28 : decode cX2_init 28 = .ok (.newarray .int, 2) := dk_188_10 (dk_at dksX2_init_1 6 rfl rfl)
theorem dX2_init_30 : decode cX2_init 30 = .ok (.putfield 22, 3) := dk_181 0 22 (dk_at dksX2_init_1 8 rfl rfl)
theorem dX2_init_33 : decode cX2_init 33 = .ok (.return_, 1) := dk_177 (dk_at dksX2_init_1 11 rfl rfl)
abbrev cX2_begins : ByteArray := prog_7_method_3_code
def yX2_begins : MethodName := ⟨RX2, "begins", "()LSunkTower$State;"⟩
def dkwX2_begins_4 : List UInt8 := [42, 180, 0, 3, 180, 0, 44, 180, 0, 55, 181, 0, 38, 42, 3, 181, 0, 41, 42, 176]
abbrev dktX2_begins_4 : List UInt8 := dkwX2_begins_4 ++ []
def dkwX2_begins_3 : List UInt8 := [180, 0, 44, 180, 0, 53, 181, 0, 31, 42, 42, 180, 0, 3, 180, 0, 44, 180, 0, 54, 181, 0, 35, 42]
abbrev dktX2_begins_3 : List UInt8 := dkwX2_begins_3 ++ dktX2_begins_4
def dkwX2_begins_2 : List UInt8 := [180, 0, 44, 180, 0, 52, 3, 42, 180, 0, 22, 3, 16, 8, 184, 0, 25, 42, 42, 180, 0, 3]
abbrev dktX2_begins_2 : List UInt8 := dkwX2_begins_2 ++ dktX2_begins_3
def dkwX2_begins_1 : List UInt8 := [180, 0, 3, 180, 0, 44, 180, 0, 51, 3, 42, 180, 0, 19, 3, 16, 6, 184, 0, 25, 42, 180, 0, 3]
abbrev dktX2_begins_1 : List UInt8 := dkwX2_begins_1 ++ dktX2_begins_2
def dkwX2_begins_0 : List UInt8 := [42, 180, 0, 3, 180, 0, 44, 180, 0, 48, 3, 42, 180, 0, 15, 3, 16, 6, 184, 0, 25, 42]
abbrev dktX2_begins_0 : List UInt8 := dkwX2_begins_0 ++ dktX2_begins_1
theorem dksX2_begins_0 : cX2_begins.data.toList.drop 0 = dktX2_begins_0 := by decide +kernel
theorem dksX2_begins_1 : cX2_begins.data.toList.drop 22 = dktX2_begins_1 := dk_seg dksX2_begins_0 22 rfl rfl
theorem dksX2_begins_2 : cX2_begins.data.toList.drop 46 = dktX2_begins_2 := dk_seg dksX2_begins_1 24 rfl rfl
theorem dksX2_begins_3 : cX2_begins.data.toList.drop 68 = dktX2_begins_3 := dk_seg dksX2_begins_2 22 rfl rfl
theorem dksX2_begins_4 : cX2_begins.data.toList.drop 92 = dktX2_begins_4 := dk_seg dksX2_begins_3 24 rfl rfl
theorem dX2_begins_0 : decode cX2_begins 0 = .ok (.aload_n 0, 1) := dk_42 (dk_at dksX2_begins_0 0 rfl rfl)
theorem dX2_begins_1 : decode cX2_begins 1 = .ok (.getfield 3, 3) := dk_180 0 3 (dk_at dksX2_begins_0 1 rfl rfl)
theorem dX2_begins_4 : decode cX2_begins 4 = .ok (.getfield 44, 3) := dk_180 0 44 (dk_at dksX2_begins_0 4 rfl rfl)
theorem dX2_begins_7 : decode cX2_begins 7 = .ok (.getfield 48, 3) := dk_180 0 48 (dk_at dksX2_begins_0 7 rfl rfl)
theorem dX2_begins_10 : decode cX2_begins 10 = .ok (.iconst 0, 1) := dk_3 (dk_at dksX2_begins_0 10 rfl rfl)
theorem dX2_begins_11 : decode cX2_begins 11 = .ok (.aload_n 0, 1) := dk_42 (dk_at dksX2_begins_0 11 rfl rfl)
theorem dX2_begins_12 : decode cX2_begins 12 = .ok (.getfield 15, 3) := dk_180 0 15 (dk_at dksX2_begins_0 12 rfl rfl)
theorem dX2_begins_15 : decode cX2_begins 15 = .ok (.iconst 0, 1) := dk_3 (dk_at dksX2_begins_0 15 rfl rfl)
theorem dX2_begins_16 : decode cX2_begins 16 = .ok (.bipush 6, 2) := dk_16 6 (dk_at dksX2_begins_0 16 rfl rfl)
theorem dX2_begins_18 : decode cX2_begins 18 = .ok (.invokestatic 25, 3) := dk_184 0 25 (dk_at dksX2_begins_0 18 rfl rfl)
theorem dX2_begins_21 : decode cX2_begins 21 = .ok (.aload_n 0, 1) := dk_42 (dk_at dksX2_begins_0 21 rfl rfl)
theorem dX2_begins_22 : decode cX2_begins 22 = .ok (.getfield 3, 3) := dk_180 0 3 (dk_at dksX2_begins_1 0 rfl rfl)
theorem dX2_begins_25 : decode cX2_begins 25 = .ok (.getfield 44, 3) := dk_180 0 44 (dk_at dksX2_begins_1 3 rfl rfl)
theorem dX2_begins_28 : decode cX2_begins 28 = .ok (.getfield 51, 3) := dk_180 0 51 (dk_at dksX2_begins_1 6 rfl rfl)
theorem dX2_begins_31 : decode cX2_begins 31 = .ok (.iconst 0, 1) := dk_3 (dk_at dksX2_begins_1 9 rfl rfl)
theorem dX2_begins_32 : decode cX2_begins 32 = .ok (.aload_n 0, 1) := dk_42 (dk_at dksX2_begins_1 10 rfl rfl)
theorem dX2_begins_33 : decode cX2_begins 33 = .ok (.getfield 19, 3) := dk_180 0 19 (dk_at dksX2_begins_1 11 rfl rfl)
theorem dX2_begins_36 : decode cX2_begins 36 = .ok (.iconst 0, 1) := dk_3 (dk_at dksX2_begins_1 14 rfl rfl)
theorem dX2_begins_37 : decode cX2_begins 37 = .ok (.bipush 6, 2) := dk_16 6 (dk_at dksX2_begins_1 15 rfl rfl)
theorem dX2_begins_39 : decode cX2_begins 39 = .ok (.invokestatic 25, 3) := dk_184 0 25 (dk_at dksX2_begins_1 17 rfl rfl)
theorem dX2_begins_42 : decode cX2_begins 42 = .ok (.aload_n 0, 1) := dk_42 (dk_at dksX2_begins_1 20 rfl rfl)
theorem dX2_begins_43 : decode cX2_begins 43 = .ok (.getfield 3, 3) := dk_180 0 3 (dk_at dksX2_begins_1 21 rfl rfl)
theorem dX2_begins_46 : decode cX2_begins 46 = .ok (.getfield 44, 3) := dk_180 0 44 (dk_at dksX2_begins_2 0 rfl rfl)
theorem dX2_begins_49 : decode cX2_begins 49 = .ok (.getfield 52, 3) := dk_180 0 52 (dk_at dksX2_begins_2 3 rfl rfl)
theorem dX2_begins_52 : decode cX2_begins 52 = .ok (.iconst 0, 1) := dk_3 (dk_at dksX2_begins_2 6 rfl rfl)
theorem dX2_begins_53 : decode cX2_begins 53 = .ok (.aload_n 0, 1) := dk_42 (dk_at dksX2_begins_2 7 rfl rfl)
theorem dX2_begins_54 : decode cX2_begins 54 = .ok (.getfield 22, 3) := dk_180 0 22 (dk_at dksX2_begins_2 8 rfl rfl)
theorem dX2_begins_57 : decode cX2_begins 57 = .ok (.iconst 0, 1) := dk_3 (dk_at dksX2_begins_2 11 rfl rfl)
theorem dX2_begins_58 : decode cX2_begins 58 = .ok (.bipush 8, 2) := dk_16 8 (dk_at dksX2_begins_2 12 rfl rfl)
theorem dX2_begins_60 : decode cX2_begins 60 = .ok (.invokestatic 25, 3) := dk_184 0 25 (dk_at dksX2_begins_2 14 rfl rfl)
theorem dX2_begins_63 : decode cX2_begins 63 = .ok (.aload_n 0, 1) := dk_42 (dk_at dksX2_begins_2 17 rfl rfl)
theorem dX2_begins_64 : decode cX2_begins 64 = .ok (.aload_n 0, 1) := dk_42 (dk_at dksX2_begins_2 18 rfl rfl)
theorem dX2_begins_65 : decode cX2_begins 65 = .ok (.getfield 3, 3) := dk_180 0 3 (dk_at dksX2_begins_2 19 rfl rfl)
theorem dX2_begins_68 : decode cX2_begins 68 = .ok (.getfield 44, 3) := dk_180 0 44 (dk_at dksX2_begins_3 0 rfl rfl)
theorem dX2_begins_71 : decode cX2_begins 71 = .ok (.getfield 53, 3) := dk_180 0 53 (dk_at dksX2_begins_3 3 rfl rfl)
theorem dX2_begins_74 : decode cX2_begins 74 = .ok (.putfield 31, 3) := dk_181 0 31 (dk_at dksX2_begins_3 6 rfl rfl)
theorem dX2_begins_77 : decode cX2_begins 77 = .ok (.aload_n 0, 1) := dk_42 (dk_at dksX2_begins_3 9 rfl rfl)
theorem dX2_begins_78 : decode cX2_begins 78 = .ok (.aload_n 0, 1) := dk_42 (dk_at dksX2_begins_3 10 rfl rfl)
theorem dX2_begins_79 : decode cX2_begins 79 = .ok (.getfield 3, 3) := dk_180 0 3 (dk_at dksX2_begins_3 11 rfl rfl)
theorem dX2_begins_82 : decode cX2_begins 82 = .ok (.getfield 44, 3) := dk_180 0 44 (dk_at dksX2_begins_3 14 rfl rfl)
theorem dX2_begins_85 : decode cX2_begins 85 = .ok (.getfield 54, 3) := dk_180 0 54 (dk_at dksX2_begins_3 17 rfl rfl)
theorem dX2_begins_88 : decode cX2_begins 88 = .ok (.putfield 35, 3) := dk_181 0 35 (dk_at dksX2_begins_3 20 rfl rfl)
theorem dX2_begins_91 : decode cX2_begins 91 = .ok (.aload_n 0, 1) := dk_42 (dk_at dksX2_begins_3 23 rfl rfl)
theorem dX2_begins_92 : decode cX2_begins 92 = .ok (.aload_n 0, 1) := dk_42 (dk_at dksX2_begins_4 0 rfl rfl)
theorem dX2_begins_93 : decode cX2_begins 93 = .ok (.getfield 3, 3) := dk_180 0 3 (dk_at dksX2_begins_4 1 rfl rfl)
theorem dX2_begins_96 : decode cX2_begins 96 = .ok (.getfield 44, 3) := dk_180 0 44 (dk_at dksX2_begins_4 4 rfl rfl)
theorem dX2_begins_99 : decode cX2_begins 99 = .ok (.getfield 55, 3) := dk_180 0 55 (dk_at dksX2_begins_4 7 rfl rfl)
theorem dX2_begins_102 : decode cX2_begins 102 = .ok (.putfield 38, 3) := dk_181 0 38 (dk_at dksX2_begins_4 10 rfl rfl)
theorem dX2_begins_105 : decode cX2_begins 105 = .ok (.aload_n 0, 1) := dk_42 (dk_at dksX2_begins_4 13 rfl rfl)
theorem dX2_begins_106 : decode cX2_begins 106 = .ok (.iconst 0, 1) := dk_3 (dk_at dksX2_begins_4 14 rfl rfl)
theorem dX2_begins_107 : decode cX2_begins 107 = .ok (.putfield 41, 3) := dk_181 0 41 (dk_at dksX2_begins_4 15 rfl rfl)
theorem dX2_begins_110 : decode cX2_begins 110 = .ok (.aload_n 0, 1) := dk_42 (dk_at dksX2_begins_4 18 rfl rfl)
theorem dX2_begins_111 : decode cX2_begins 111 = .ok (.areturn, 1) := dk_176 (dk_at dksX2_begins_4 19 rfl rfl)
abbrev cX2_who : ByteArray := prog_7_method_11_code
def yX2_who : MethodName := ⟨RX2, "who", "(I)I"⟩
def dkwX2_who_1 : List UInt8 := [160, 0, 5, 28, 172, 132, 2, 1, 167, 255, 227, 2, 172]
abbrev dktX2_who_1 : List UInt8 := dkwX2_who_1 ++ []
def dkwX2_who_0 : List UInt8 := [3, 61, 28, 42, 180, 0, 3, 180, 0, 44, 180, 0, 56, 162, 0, 21, 42, 180, 0, 15, 28, 46, 27]
abbrev dktX2_who_0 : List UInt8 := dkwX2_who_0 ++ dktX2_who_1
theorem dksX2_who_0 : cX2_who.data.toList.drop 0 = dktX2_who_0 := by decide +kernel
theorem dksX2_who_1 : cX2_who.data.toList.drop 23 = dktX2_who_1 := dk_seg dksX2_who_0 23 rfl rfl
theorem dX2_who_0 : decode cX2_who 0 = .ok (.iconst 0, 1) := dk_3 (dk_at dksX2_who_0 0 rfl rfl)
theorem dX2_who_1 : decode cX2_who 1 = .ok (.istore_n 2, 1) := dk_61 (dk_at dksX2_who_0 1 rfl rfl)
theorem dX2_who_2 : decode cX2_who 2 = .ok (.iload_n 2, 1) := dk_28 (dk_at dksX2_who_0 2 rfl rfl)
theorem dX2_who_3 : decode cX2_who 3 = .ok (.aload_n 0, 1) := dk_42 (dk_at dksX2_who_0 3 rfl rfl)
theorem dX2_who_4 : decode cX2_who 4 = .ok (.getfield 3, 3) := dk_180 0 3 (dk_at dksX2_who_0 4 rfl rfl)
theorem dX2_who_7 : decode cX2_who 7 = .ok (.getfield 44, 3) := dk_180 0 44 (dk_at dksX2_who_0 7 rfl rfl)
theorem dX2_who_10 : decode cX2_who 10 = .ok (.getfield 56, 3) := dk_180 0 56 (dk_at dksX2_who_0 10 rfl rfl)
theorem dX2_who_13 : decode cX2_who 13 = .ok (.if_icmp .ge 21, 3) := dk_162 0 21 (dk_at dksX2_who_0 13 rfl rfl)
theorem dX2_who_16 : decode cX2_who 16 = .ok (.aload_n 0, 1) := dk_42 (dk_at dksX2_who_0 16 rfl rfl)
theorem dX2_who_17 : decode cX2_who 17 = .ok (.getfield 15, 3) := dk_180 0 15 (dk_at dksX2_who_0 17 rfl rfl)
theorem dX2_who_20 : decode cX2_who 20 = .ok (.iload_n 2, 1) := dk_28 (dk_at dksX2_who_0 20 rfl rfl)
theorem dX2_who_21 : decode cX2_who 21 = .ok (.iaload, 1) := dk_46 (dk_at dksX2_who_0 21 rfl rfl)
theorem dX2_who_22 : decode cX2_who 22 = .ok (.iload_n 1, 1) := dk_27 (dk_at dksX2_who_0 22 rfl rfl)
theorem dX2_who_23 : decode cX2_who 23 = .ok (.if_icmp .ne 5, 3) := dk_160 0 5 (dk_at dksX2_who_1 0 rfl rfl)
theorem dX2_who_26 : decode cX2_who 26 = .ok (.iload_n 2, 1) := dk_28 (dk_at dksX2_who_1 3 rfl rfl)
theorem dX2_who_27 : decode cX2_who 27 = .ok (.ireturn, 1) := dk_172 (dk_at dksX2_who_1 4 rfl rfl)
theorem dX2_who_28 : decode cX2_who 28 = .ok (.iinc 2 1, 3) := dk_132 2 1 (dk_at dksX2_who_1 5 rfl rfl)
theorem dX2_who_31 : decode cX2_who 31 = .ok (.goto (-29), 3) := dk_167 255 227 (dk_at dksX2_who_1 8 rfl rfl)
theorem dX2_who_34 : decode cX2_who 34 = .ok (.iconst (-1), 1) := dk_2 (dk_at dksX2_who_1 11 rfl rfl)
theorem dX2_who_35 : decode cX2_who 35 = .ok (.ireturn, 1) := dk_172 (dk_at dksX2_who_1 12 rfl rfl)
abbrev cX2_isBuried : ByteArray := prog_7_method_5_code
def yX2_isBuried : MethodName := ⟨RX2, "isBuried", "(I)Z"⟩
def dkwX2_isBuried_0 : List UInt8 := [17, 0, 144, 27, 4, 96, 104, 42, 180, 0, 35, 163, 0, 7, 4, 167, 0, 4, 3, 172]
abbrev dktX2_isBuried_0 : List UInt8 := dkwX2_isBuried_0 ++ []
theorem dksX2_isBuried_0 : cX2_isBuried.data.toList.drop 0 = dktX2_isBuried_0 := by decide +kernel
theorem dX2_isBuried_0 : decode cX2_isBuried 0 = .ok (.sipush 144, 3) := dk_17 0 144 (dk_at dksX2_isBuried_0 0 rfl rfl)
theorem dX2_isBuried_3 : decode cX2_isBuried 3 = .ok (.iload_n 1, 1) := dk_27 (dk_at dksX2_isBuried_0 3 rfl rfl)
theorem dX2_isBuried_4 : decode cX2_isBuried 4 = .ok (.iconst 1, 1) := dk_4 (dk_at dksX2_isBuried_0 4 rfl rfl)
theorem dX2_isBuried_5 : decode cX2_isBuried 5 = .ok (.iadd, 1) := dk_96 (dk_at dksX2_isBuried_0 5 rfl rfl)
theorem dX2_isBuried_6 : decode cX2_isBuried 6 = .ok (.imul, 1) := dk_104 (dk_at dksX2_isBuried_0 6 rfl rfl)
theorem dX2_isBuried_7 : decode cX2_isBuried 7 = .ok (.aload_n 0, 1) := dk_42 (dk_at dksX2_isBuried_0 7 rfl rfl)
theorem dX2_isBuried_8 : decode cX2_isBuried 8 = .ok (.getfield 35, 3) := dk_180 0 35 (dk_at dksX2_isBuried_0 8 rfl rfl)
theorem dX2_isBuried_11 : decode cX2_isBuried 11 = .ok (.if_icmp .gt 7, 3) := dk_163 0 7 (dk_at dksX2_isBuried_0 11 rfl rfl)
theorem dX2_isBuried_14 : decode cX2_isBuried 14 = .ok (.iconst 1, 1) := dk_4 (dk_at dksX2_isBuried_0 14 rfl rfl)
theorem dX2_isBuried_15 : decode cX2_isBuried 15 = .ok (.goto 4, 3) := dk_167 0 4 (dk_at dksX2_isBuried_0 15 rfl rfl)
theorem dX2_isBuried_18 : decode cX2_isBuried 18 = .ok (.iconst 0, 1) := dk_3 (dk_at dksX2_isBuried_0 18 rfl rfl)
theorem dX2_isBuried_19 : decode cX2_isBuried 19 = .ok (.ireturn, 1) := dk_172 (dk_at dksX2_isBuried_0 19 rfl rfl)
abbrev cX2_whole : ByteArray := prog_7_method_4_code
def yX2_whole : MethodName := ⟨RX2, "whole", "()I"⟩
def dkwX2_whole_3 : List UInt8 := [167, 255, 216, 27, 172]
abbrev dktX2_whole_3 : List UInt8 := dkwX2_whole_3 ++ []
def dkwX2_whole_2 : List UInt8 := [180, 0, 15, 28, 46, 2, 160, 0, 7, 3, 167, 0, 9, 42, 180, 0, 19, 28, 46, 96, 60, 132, 2, 1]
abbrev dktX2_whole_2 : List UInt8 := dkwX2_whole_2 ++ dktX2_whole_3
def dkwX2_whole_1 : List UInt8 := [132, 2, 1, 167, 255, 236, 3, 61, 28, 42, 180, 0, 3, 180, 0, 44, 180, 0, 56, 162, 0, 32, 27, 42]
abbrev dktX2_whole_1 : List UInt8 := dkwX2_whole_1 ++ dktX2_whole_2
def dkwX2_whole_0 : List UInt8 := [42, 180, 0, 41, 60, 3, 61, 28, 42, 180, 0, 31, 162, 0, 18, 27, 42, 180, 0, 22, 28, 46, 96, 60]
abbrev dktX2_whole_0 : List UInt8 := dkwX2_whole_0 ++ dktX2_whole_1
theorem dksX2_whole_0 : cX2_whole.data.toList.drop 0 = dktX2_whole_0 := by decide +kernel
theorem dksX2_whole_1 : cX2_whole.data.toList.drop 24 = dktX2_whole_1 := dk_seg dksX2_whole_0 24 rfl rfl
theorem dksX2_whole_2 : cX2_whole.data.toList.drop 48 = dktX2_whole_2 := dk_seg dksX2_whole_1 24 rfl rfl
theorem dksX2_whole_3 : cX2_whole.data.toList.drop 72 = dktX2_whole_3 := dk_seg dksX2_whole_2 24 rfl rfl
theorem dX2_whole_0 : decode cX2_whole 0 = .ok (.aload_n 0, 1) := dk_42 (dk_at dksX2_whole_0 0 rfl rfl)
theorem dX2_whole_1 : decode cX2_whole 1 = .ok (.getfield 41, 3) := dk_180 0 41 (dk_at dksX2_whole_0 1 rfl rfl)
theorem dX2_whole_4 : decode cX2_whole 4 = .ok (.istore_n 1, 1) := dk_60 (dk_at dksX2_whole_0 4 rfl rfl)
theorem dX2_whole_5 : decode cX2_whole 5 = .ok (.iconst 0, 1) := dk_3 (dk_at dksX2_whole_0 5 rfl rfl)
theorem dX2_whole_6 : decode cX2_whole 6 = .ok (.istore_n 2, 1) := dk_61 (dk_at dksX2_whole_0 6 rfl rfl)
theorem dX2_whole_7 : decode cX2_whole 7 = .ok (.iload_n 2, 1) := dk_28 (dk_at dksX2_whole_0 7 rfl rfl)
theorem dX2_whole_8 : decode cX2_whole 8 = .ok (.aload_n 0, 1) := dk_42 (dk_at dksX2_whole_0 8 rfl rfl)
theorem dX2_whole_9 : decode cX2_whole 9 = .ok (.getfield 31, 3) := dk_180 0 31 (dk_at dksX2_whole_0 9 rfl rfl)
theorem dX2_whole_12 : decode cX2_whole 12 = .ok (.if_icmp .ge 18, 3) := dk_162 0 18 (dk_at dksX2_whole_0 12 rfl rfl)
theorem dX2_whole_15 : decode cX2_whole 15 = .ok (.iload_n 1, 1) := dk_27 (dk_at dksX2_whole_0 15 rfl rfl)
theorem dX2_whole_16 : decode cX2_whole 16 = .ok (.aload_n 0, 1) := dk_42 (dk_at dksX2_whole_0 16 rfl rfl)
theorem dX2_whole_17 : decode cX2_whole 17 = .ok (.getfield 22, 3) := dk_180 0 22 (dk_at dksX2_whole_0 17 rfl rfl)
theorem dX2_whole_20 : decode cX2_whole 20 = .ok (.iload_n 2, 1) := dk_28 (dk_at dksX2_whole_0 20 rfl rfl)
theorem dX2_whole_21 : decode cX2_whole 21 = .ok (.iaload, 1) := dk_46 (dk_at dksX2_whole_0 21 rfl rfl)
theorem dX2_whole_22 : decode cX2_whole 22 = .ok (.iadd, 1) := dk_96 (dk_at dksX2_whole_0 22 rfl rfl)
theorem dX2_whole_23 : decode cX2_whole 23 = .ok (.istore_n 1, 1) := dk_60 (dk_at dksX2_whole_0 23 rfl rfl)
theorem dX2_whole_24 : decode cX2_whole 24 = .ok (.iinc 2 1, 3) := dk_132 2 1 (dk_at dksX2_whole_1 0 rfl rfl)
theorem dX2_whole_27 : decode cX2_whole 27 = .ok (.goto (-20), 3) := dk_167 255 236 (dk_at dksX2_whole_1 3 rfl rfl)
theorem dX2_whole_30 : decode cX2_whole 30 = .ok (.iconst 0, 1) := dk_3 (dk_at dksX2_whole_1 6 rfl rfl)
theorem dX2_whole_31 : decode cX2_whole 31 = .ok (.istore_n 2, 1) := dk_61 (dk_at dksX2_whole_1 7 rfl rfl)
theorem dX2_whole_32 : decode cX2_whole 32 = .ok (.iload_n 2, 1) := dk_28 (dk_at dksX2_whole_1 8 rfl rfl)
theorem dX2_whole_33 : decode cX2_whole 33 = .ok (.aload_n 0, 1) := dk_42 (dk_at dksX2_whole_1 9 rfl rfl)
theorem dX2_whole_34 : decode cX2_whole 34 = .ok (.getfield 3, 3) := dk_180 0 3 (dk_at dksX2_whole_1 10 rfl rfl)
theorem dX2_whole_37 : decode cX2_whole 37 = .ok (.getfield 44, 3) := dk_180 0 44 (dk_at dksX2_whole_1 13 rfl rfl)
theorem dX2_whole_40 : decode cX2_whole 40 = .ok (.getfield 56, 3) := dk_180 0 56 (dk_at dksX2_whole_1 16 rfl rfl)
theorem dX2_whole_43 : decode cX2_whole 43 = .ok (.if_icmp .ge 32, 3) := dk_162 0 32 (dk_at dksX2_whole_1 19 rfl rfl)
theorem dX2_whole_46 : decode cX2_whole 46 = .ok (.iload_n 1, 1) := dk_27 (dk_at dksX2_whole_1 22 rfl rfl)
theorem dX2_whole_47 : decode cX2_whole 47 = .ok (.aload_n 0, 1) := dk_42 (dk_at dksX2_whole_1 23 rfl rfl)
theorem dX2_whole_48 : decode cX2_whole 48 = .ok (.getfield 15, 3) := dk_180 0 15 (dk_at dksX2_whole_2 0 rfl rfl)
theorem dX2_whole_51 : decode cX2_whole 51 = .ok (.iload_n 2, 1) := dk_28 (dk_at dksX2_whole_2 3 rfl rfl)
theorem dX2_whole_52 : decode cX2_whole 52 = .ok (.iaload, 1) := dk_46 (dk_at dksX2_whole_2 4 rfl rfl)
theorem dX2_whole_53 : decode cX2_whole 53 = .ok (.iconst (-1), 1) := dk_2 (dk_at dksX2_whole_2 5 rfl rfl)
theorem dX2_whole_54 : decode cX2_whole 54 = .ok (.if_icmp .ne 7, 3) := dk_160 0 7 (dk_at dksX2_whole_2 6 rfl rfl)
theorem dX2_whole_57 : decode cX2_whole 57 = .ok (.iconst 0, 1) := dk_3 (dk_at dksX2_whole_2 9 rfl rfl)
theorem dX2_whole_58 : decode cX2_whole 58 = .ok (.goto 9, 3) := dk_167 0 9 (dk_at dksX2_whole_2 10 rfl rfl)
theorem dX2_whole_61 : decode cX2_whole 61 = .ok (.aload_n 0, 1) := dk_42 (dk_at dksX2_whole_2 13 rfl rfl)
theorem dX2_whole_62 : decode cX2_whole 62 = .ok (.getfield 19, 3) := dk_180 0 19 (dk_at dksX2_whole_2 14 rfl rfl)
theorem dX2_whole_65 : decode cX2_whole 65 = .ok (.iload_n 2, 1) := dk_28 (dk_at dksX2_whole_2 17 rfl rfl)
theorem dX2_whole_66 : decode cX2_whole 66 = .ok (.iaload, 1) := dk_46 (dk_at dksX2_whole_2 18 rfl rfl)
theorem dX2_whole_67 : decode cX2_whole 67 = .ok (.iadd, 1) := dk_96 (dk_at dksX2_whole_2 19 rfl rfl)
theorem dX2_whole_68 : decode cX2_whole 68 = .ok (.istore_n 1, 1) := dk_60 (dk_at dksX2_whole_2 20 rfl rfl)
theorem dX2_whole_69 : decode cX2_whole 69 = .ok (.iinc 2 1, 3) := dk_132 2 1 (dk_at dksX2_whole_2 21 rfl rfl)
theorem dX2_whole_72 : decode cX2_whole 72 = .ok (.goto (-40), 3) := dk_167 255 216 (dk_at dksX2_whole_3 0 rfl rfl)
theorem dX2_whole_75 : decode cX2_whole 75 = .ok (.iload_n 1, 1) := dk_27 (dk_at dksX2_whole_3 3 rfl rfl)
theorem dX2_whole_76 : decode cX2_whole 76 = .ok (.ireturn, 1) := dk_172 (dk_at dksX2_whole_3 4 rfl rfl)
abbrev cX2_inches : ByteArray := prog_7_method_8_code
def yX2_inches : MethodName := ⟨RX2, "inches", "()I"⟩
def dkwX2_inches_1 : List UInt8 := [182, 0, 65, 182, 0, 72, 172]
abbrev dktX2_inches_1 : List UInt8 := dkwX2_inches_1 ++ []
def dkwX2_inches_0 : List UInt8 := [42, 180, 0, 3, 180, 0, 44, 42, 182, 0, 69, 42, 180, 0, 31, 42, 180, 0, 35, 42, 180, 0, 38, 42]
abbrev dktX2_inches_0 : List UInt8 := dkwX2_inches_0 ++ dktX2_inches_1
theorem dksX2_inches_0 : cX2_inches.data.toList.drop 0 = dktX2_inches_0 := by decide +kernel
theorem dksX2_inches_1 : cX2_inches.data.toList.drop 24 = dktX2_inches_1 := dk_seg dksX2_inches_0 24 rfl rfl
theorem dX2_inches_0 : decode cX2_inches 0 = .ok (.aload_n 0, 1) := dk_42 (dk_at dksX2_inches_0 0 rfl rfl)
theorem dX2_inches_1 : decode cX2_inches 1 = .ok (.getfield 3, 3) := dk_180 0 3 (dk_at dksX2_inches_0 1 rfl rfl)
theorem dX2_inches_4 : decode cX2_inches 4 = .ok (.getfield 44, 3) := dk_180 0 44 (dk_at dksX2_inches_0 4 rfl rfl)
theorem dX2_inches_7 : decode cX2_inches 7 = .ok (.aload_n 0, 1) := dk_42 (dk_at dksX2_inches_0 7 rfl rfl)
theorem dX2_inches_8 : decode cX2_inches 8 = .ok (.invokevirtual 69, 3) := dk_182 0 69 (dk_at dksX2_inches_0 8 rfl rfl)
theorem dX2_inches_11 : decode cX2_inches 11 = .ok (.aload_n 0, 1) := dk_42 (dk_at dksX2_inches_0 11 rfl rfl)
theorem dX2_inches_12 : decode cX2_inches 12 = .ok (.getfield 31, 3) := dk_180 0 31 (dk_at dksX2_inches_0 12 rfl rfl)
theorem dX2_inches_15 : decode cX2_inches 15 = .ok (.aload_n 0, 1) := dk_42 (dk_at dksX2_inches_0 15 rfl rfl)
theorem dX2_inches_16 : decode cX2_inches 16 = .ok (.getfield 35, 3) := dk_180 0 35 (dk_at dksX2_inches_0 16 rfl rfl)
theorem dX2_inches_19 : decode cX2_inches 19 = .ok (.aload_n 0, 1) := dk_42 (dk_at dksX2_inches_0 19 rfl rfl)
theorem dX2_inches_20 : decode cX2_inches 20 = .ok (.getfield 38, 3) := dk_180 0 38 (dk_at dksX2_inches_0 20 rfl rfl)
theorem dX2_inches_23 : decode cX2_inches 23 = .ok (.aload_n 0, 1) := dk_42 (dk_at dksX2_inches_0 23 rfl rfl)
theorem dX2_inches_24 : decode cX2_inches 24 = .ok (.invokevirtual 65, 3) := dk_182 0 65 (dk_at dksX2_inches_1 0 rfl rfl)
theorem dX2_inches_27 : decode cX2_inches 27 = .ok (.invokevirtual 72, 3) := dk_182 0 72 (dk_at dksX2_inches_1 3 rfl rfl)
theorem dX2_inches_30 : decode cX2_inches 30 = .ok (.ireturn, 1) := dk_172 (dk_at dksX2_inches_1 6 rfl rfl)
abbrev cX2_buried : ByteArray := prog_7_method_6_code
def yX2_buried : MethodName := ⟨RX2, "buried", "()I"⟩
def dkwX2_buried_0 : List UInt8 := [42, 180, 0, 31, 42, 180, 0, 35, 17, 0, 144, 108, 184, 0, 59, 172]
abbrev dktX2_buried_0 : List UInt8 := dkwX2_buried_0 ++ []
theorem dksX2_buried_0 : cX2_buried.data.toList.drop 0 = dktX2_buried_0 := by decide +kernel
theorem dX2_buried_0 : decode cX2_buried 0 = .ok (.aload_n 0, 1) := dk_42 (dk_at dksX2_buried_0 0 rfl rfl)
theorem dX2_buried_1 : decode cX2_buried 1 = .ok (.getfield 31, 3) := dk_180 0 31 (dk_at dksX2_buried_0 1 rfl rfl)
theorem dX2_buried_4 : decode cX2_buried 4 = .ok (.aload_n 0, 1) := dk_42 (dk_at dksX2_buried_0 4 rfl rfl)
theorem dX2_buried_5 : decode cX2_buried 5 = .ok (.getfield 35, 3) := dk_180 0 35 (dk_at dksX2_buried_0 5 rfl rfl)
theorem dX2_buried_8 : decode cX2_buried 8 = .ok (.sipush 144, 3) := dk_17 0 144 (dk_at dksX2_buried_0 8 rfl rfl)
theorem dX2_buried_11 : decode cX2_buried 11 = .ok (.idiv, 1) := dk_108 (dk_at dksX2_buried_0 11 rfl rfl)
theorem dX2_buried_12 : decode cX2_buried 12 = .ok (.invokestatic 59, 3) := dk_184 0 59 (dk_at dksX2_buried_0 12 rfl rfl)
theorem dX2_buried_15 : decode cX2_buried 15 = .ok (.ireturn, 1) := dk_172 (dk_at dksX2_buried_0 15 rfl rfl)
abbrev cX2_pays : ByteArray := prog_7_method_13_code
def yX2_pays : MethodName := ⟨RX2, "pays", "(I)I"⟩
def dkwX2_pays_0 : List UInt8 := [42, 180, 0, 3, 180, 0, 44, 27, 42, 180, 0, 35, 42, 180, 0, 38, 182, 0, 82, 172]
abbrev dktX2_pays_0 : List UInt8 := dkwX2_pays_0 ++ []
theorem dksX2_pays_0 : cX2_pays.data.toList.drop 0 = dktX2_pays_0 := by decide +kernel
theorem dX2_pays_0 : decode cX2_pays 0 = .ok (.aload_n 0, 1) := dk_42 (dk_at dksX2_pays_0 0 rfl rfl)
theorem dX2_pays_1 : decode cX2_pays 1 = .ok (.getfield 3, 3) := dk_180 0 3 (dk_at dksX2_pays_0 1 rfl rfl)
theorem dX2_pays_4 : decode cX2_pays 4 = .ok (.getfield 44, 3) := dk_180 0 44 (dk_at dksX2_pays_0 4 rfl rfl)
theorem dX2_pays_7 : decode cX2_pays 7 = .ok (.iload_n 1, 1) := dk_27 (dk_at dksX2_pays_0 7 rfl rfl)
theorem dX2_pays_8 : decode cX2_pays 8 = .ok (.aload_n 0, 1) := dk_42 (dk_at dksX2_pays_0 8 rfl rfl)
theorem dX2_pays_9 : decode cX2_pays 9 = .ok (.getfield 35, 3) := dk_180 0 35 (dk_at dksX2_pays_0 9 rfl rfl)
theorem dX2_pays_12 : decode cX2_pays 12 = .ok (.aload_n 0, 1) := dk_42 (dk_at dksX2_pays_0 12 rfl rfl)
theorem dX2_pays_13 : decode cX2_pays 13 = .ok (.getfield 38, 3) := dk_180 0 38 (dk_at dksX2_pays_0 13 rfl rfl)
theorem dX2_pays_16 : decode cX2_pays 16 = .ok (.invokevirtual 82, 3) := dk_182 0 82 (dk_at dksX2_pays_0 16 rfl rfl)
theorem dX2_pays_19 : decode cX2_pays 19 = .ok (.ireturn, 1) := dk_172 (dk_at dksX2_pays_0 19 rfl rfl)
abbrev cX2_worth : ByteArray := prog_7_method_15_code
def yX2_worth : MethodName := ⟨RX2, "worth", "(II)I"⟩
def dkwX2_worth_2 : List UInt8 := [180, 0, 38, 182, 0, 95, 172]
abbrev dktX2_worth_2 : List UInt8 := dkwX2_worth_2 ++ []
def dkwX2_worth_1 : List UInt8 := [46, 42, 180, 0, 15, 27, 46, 28, 160, 0, 7, 4, 167, 0, 4, 3, 28, 42, 180, 0, 35, 42]
abbrev dktX2_worth_1 : List UInt8 := dkwX2_worth_1 ++ dktX2_worth_2
def dkwX2_worth_0 : List UInt8 := [42, 180, 0, 3, 180, 0, 44, 42, 180, 0, 3, 180, 0, 44, 180, 0, 92, 27, 46, 42, 180, 0, 19, 27]
abbrev dktX2_worth_0 : List UInt8 := dkwX2_worth_0 ++ dktX2_worth_1
theorem dksX2_worth_0 : cX2_worth.data.toList.drop 0 = dktX2_worth_0 := by decide +kernel
theorem dksX2_worth_1 : cX2_worth.data.toList.drop 24 = dktX2_worth_1 := dk_seg dksX2_worth_0 24 rfl rfl
theorem dksX2_worth_2 : cX2_worth.data.toList.drop 46 = dktX2_worth_2 := dk_seg dksX2_worth_1 22 rfl rfl
theorem dX2_worth_0 : decode cX2_worth 0 = .ok (.aload_n 0, 1) := dk_42 (dk_at dksX2_worth_0 0 rfl rfl)
theorem dX2_worth_1 : decode cX2_worth 1 = .ok (.getfield 3, 3) := dk_180 0 3 (dk_at dksX2_worth_0 1 rfl rfl)
theorem dX2_worth_4 : decode cX2_worth 4 = .ok (.getfield 44, 3) := dk_180 0 44 (dk_at dksX2_worth_0 4 rfl rfl)
theorem dX2_worth_7 : decode cX2_worth 7 = .ok (.aload_n 0, 1) := dk_42 (dk_at dksX2_worth_0 7 rfl rfl)
theorem dX2_worth_8 : decode cX2_worth 8 = .ok (.getfield 3, 3) := dk_180 0 3 (dk_at dksX2_worth_0 8 rfl rfl)
theorem dX2_worth_11 : decode cX2_worth 11 = .ok (.getfield 44, 3) := dk_180 0 44 (dk_at dksX2_worth_0 11 rfl rfl)
theorem dX2_worth_14 : decode cX2_worth 14 = .ok (.getfield 92, 3) := dk_180 0 92 (dk_at dksX2_worth_0 14 rfl rfl)
theorem dX2_worth_17 : decode cX2_worth 17 = .ok (.iload_n 1, 1) := dk_27 (dk_at dksX2_worth_0 17 rfl rfl)
theorem dX2_worth_18 : decode cX2_worth 18 = .ok (.iaload, 1) := dk_46 (dk_at dksX2_worth_0 18 rfl rfl)
theorem dX2_worth_19 : decode cX2_worth 19 = .ok (.aload_n 0, 1) := dk_42 (dk_at dksX2_worth_0 19 rfl rfl)
theorem dX2_worth_20 : decode cX2_worth 20 = .ok (.getfield 19, 3) := dk_180 0 19 (dk_at dksX2_worth_0 20 rfl rfl)
theorem dX2_worth_23 : decode cX2_worth 23 = .ok (.iload_n 1, 1) := dk_27 (dk_at dksX2_worth_0 23 rfl rfl)
theorem dX2_worth_24 : decode cX2_worth 24 = .ok (.iaload, 1) := dk_46 (dk_at dksX2_worth_1 0 rfl rfl)
theorem dX2_worth_25 : decode cX2_worth 25 = .ok (.aload_n 0, 1) := dk_42 (dk_at dksX2_worth_1 1 rfl rfl)
theorem dX2_worth_26 : decode cX2_worth 26 = .ok (.getfield 15, 3) := dk_180 0 15 (dk_at dksX2_worth_1 2 rfl rfl)
theorem dX2_worth_29 : decode cX2_worth 29 = .ok (.iload_n 1, 1) := dk_27 (dk_at dksX2_worth_1 5 rfl rfl)
theorem dX2_worth_30 : decode cX2_worth 30 = .ok (.iaload, 1) := dk_46 (dk_at dksX2_worth_1 6 rfl rfl)
theorem dX2_worth_31 : decode cX2_worth 31 = .ok (.iload_n 2, 1) := dk_28 (dk_at dksX2_worth_1 7 rfl rfl)
theorem dX2_worth_32 : decode cX2_worth 32 = .ok (.if_icmp .ne 7, 3) := dk_160 0 7 (dk_at dksX2_worth_1 8 rfl rfl)
theorem dX2_worth_35 : decode cX2_worth 35 = .ok (.iconst 1, 1) := dk_4 (dk_at dksX2_worth_1 11 rfl rfl)
theorem dX2_worth_36 : decode cX2_worth 36 = .ok (.goto 4, 3) := dk_167 0 4 (dk_at dksX2_worth_1 12 rfl rfl)
theorem dX2_worth_39 : decode cX2_worth 39 = .ok (.iconst 0, 1) := dk_3 (dk_at dksX2_worth_1 15 rfl rfl)
theorem dX2_worth_40 : decode cX2_worth 40 = .ok (.iload_n 2, 1) := dk_28 (dk_at dksX2_worth_1 16 rfl rfl)
theorem dX2_worth_41 : decode cX2_worth 41 = .ok (.aload_n 0, 1) := dk_42 (dk_at dksX2_worth_1 17 rfl rfl)
theorem dX2_worth_42 : decode cX2_worth 42 = .ok (.getfield 35, 3) := dk_180 0 35 (dk_at dksX2_worth_1 18 rfl rfl)
theorem dX2_worth_45 : decode cX2_worth 45 = .ok (.aload_n 0, 1) := dk_42 (dk_at dksX2_worth_1 21 rfl rfl)
theorem dX2_worth_46 : decode cX2_worth 46 = .ok (.getfield 38, 3) := dk_180 0 38 (dk_at dksX2_worth_2 0 rfl rfl)
theorem dX2_worth_49 : decode cX2_worth 49 = .ok (.invokevirtual 95, 3) := dk_182 0 95 (dk_at dksX2_worth_2 3 rfl rfl)
theorem dX2_worth_52 : decode cX2_worth 52 = .ok (.ireturn, 1) := dk_172 (dk_at dksX2_worth_2 6 rfl rfl)
abbrev cX2_be : ByteArray := prog_7_method_2_code
def yX2_be : MethodName := ⟨RX2, "be", "(LSunkTower$State;)LSunkTower$State;"⟩
def dkwX2_be_3 : List UInt8 := [180, 0, 41, 181, 0, 41, 42, 176]
abbrev dktX2_be_3 : List UInt8 := dkwX2_be_3 ++ []
def dkwX2_be_2 : List UInt8 := [180, 0, 31, 181, 0, 31, 42, 43, 180, 0, 35, 181, 0, 35, 42, 43, 180, 0, 38, 181, 0, 38, 42, 43]
abbrev dktX2_be_2 : List UInt8 := dkwX2_be_2 ++ dktX2_be_3
def dkwX2_be_1 : List UInt8 := [3, 16, 6, 184, 0, 25, 43, 180, 0, 22, 3, 42, 180, 0, 22, 3, 16, 8, 184, 0, 25, 42, 43]
abbrev dktX2_be_1 : List UInt8 := dkwX2_be_1 ++ dktX2_be_2
def dkwX2_be_0 : List UInt8 := [43, 180, 0, 15, 3, 42, 180, 0, 15, 3, 16, 6, 184, 0, 25, 43, 180, 0, 19, 3, 42, 180, 0, 19]
abbrev dktX2_be_0 : List UInt8 := dkwX2_be_0 ++ dktX2_be_1
theorem dksX2_be_0 : cX2_be.data.toList.drop 0 = dktX2_be_0 := by decide +kernel
theorem dksX2_be_1 : cX2_be.data.toList.drop 24 = dktX2_be_1 := dk_seg dksX2_be_0 24 rfl rfl
theorem dksX2_be_2 : cX2_be.data.toList.drop 47 = dktX2_be_2 := dk_seg dksX2_be_1 23 rfl rfl
theorem dksX2_be_3 : cX2_be.data.toList.drop 71 = dktX2_be_3 := dk_seg dksX2_be_2 24 rfl rfl
theorem dX2_be_0 : decode cX2_be 0 = .ok (.aload_n 1, 1) := dk_43 (dk_at dksX2_be_0 0 rfl rfl)
theorem dX2_be_1 : decode cX2_be 1 = .ok (.getfield 15, 3) := dk_180 0 15 (dk_at dksX2_be_0 1 rfl rfl)
theorem dX2_be_4 : decode cX2_be 4 = .ok (.iconst 0, 1) := dk_3 (dk_at dksX2_be_0 4 rfl rfl)
theorem dX2_be_5 : decode cX2_be 5 = .ok (.aload_n 0, 1) := dk_42 (dk_at dksX2_be_0 5 rfl rfl)
theorem dX2_be_6 : decode cX2_be 6 = .ok (.getfield 15, 3) := dk_180 0 15 (dk_at dksX2_be_0 6 rfl rfl)
theorem dX2_be_9 : decode cX2_be 9 = .ok (.iconst 0, 1) := dk_3 (dk_at dksX2_be_0 9 rfl rfl)
theorem dX2_be_10 : decode cX2_be 10 = .ok (.bipush 6, 2) := dk_16 6 (dk_at dksX2_be_0 10 rfl rfl)
theorem dX2_be_12 : decode cX2_be 12 = .ok (.invokestatic 25, 3) := dk_184 0 25 (dk_at dksX2_be_0 12 rfl rfl)
theorem dX2_be_15 : decode cX2_be 15 = .ok (.aload_n 1, 1) := dk_43 (dk_at dksX2_be_0 15 rfl rfl)
theorem dX2_be_16 : decode cX2_be 16 = .ok (.getfield 19, 3) := dk_180 0 19 (dk_at dksX2_be_0 16 rfl rfl)
theorem dX2_be_19 : decode cX2_be 19 = .ok (.iconst 0, 1) := dk_3 (dk_at dksX2_be_0 19 rfl rfl)
theorem dX2_be_20 : decode cX2_be 20 = .ok (.aload_n 0, 1) := dk_42 (dk_at dksX2_be_0 20 rfl rfl)
theorem dX2_be_21 : decode cX2_be 21 = .ok (.getfield 19, 3) := dk_180 0 19 (dk_at dksX2_be_0 21 rfl rfl)
theorem dX2_be_24 : decode cX2_be 24 = .ok (.iconst 0, 1) := dk_3 (dk_at dksX2_be_1 0 rfl rfl)
theorem dX2_be_25 : decode cX2_be 25 = .ok (.bipush 6, 2) := dk_16 6 (dk_at dksX2_be_1 1 rfl rfl)
theorem dX2_be_27 : decode cX2_be 27 = .ok (.invokestatic 25, 3) := dk_184 0 25 (dk_at dksX2_be_1 3 rfl rfl)
theorem dX2_be_30 : decode cX2_be 30 = .ok (.aload_n 1, 1) := dk_43 (dk_at dksX2_be_1 6 rfl rfl)
theorem dX2_be_31 : decode cX2_be 31 = .ok (.getfield 22, 3) := dk_180 0 22 (dk_at dksX2_be_1 7 rfl rfl)
theorem dX2_be_34 : decode cX2_be 34 = .ok (.iconst 0, 1) := dk_3 (dk_at dksX2_be_1 10 rfl rfl)
theorem dX2_be_35 : decode cX2_be 35 = .ok (.aload_n 0, 1) := dk_42 (dk_at dksX2_be_1 11 rfl rfl)
theorem dX2_be_36 : decode cX2_be 36 = .ok (.getfield 22, 3) := dk_180 0 22 (dk_at dksX2_be_1 12 rfl rfl)
theorem dX2_be_39 : decode cX2_be 39 = .ok (.iconst 0, 1) := dk_3 (dk_at dksX2_be_1 15 rfl rfl)
theorem dX2_be_40 : decode cX2_be 40 = .ok (.bipush 8, 2) := dk_16 8 (dk_at dksX2_be_1 16 rfl rfl)
theorem dX2_be_42 : decode cX2_be 42 = .ok (.invokestatic 25, 3) := dk_184 0 25 (dk_at dksX2_be_1 18 rfl rfl)
theorem dX2_be_45 : decode cX2_be 45 = .ok (.aload_n 0, 1) := dk_42 (dk_at dksX2_be_1 21 rfl rfl)
theorem dX2_be_46 : decode cX2_be 46 = .ok (.aload_n 1, 1) := dk_43 (dk_at dksX2_be_1 22 rfl rfl)
theorem dX2_be_47 : decode cX2_be 47 = .ok (.getfield 31, 3) := dk_180 0 31 (dk_at dksX2_be_2 0 rfl rfl)
theorem dX2_be_50 : decode cX2_be 50 = .ok (.putfield 31, 3) := dk_181 0 31 (dk_at dksX2_be_2 3 rfl rfl)
theorem dX2_be_53 : decode cX2_be 53 = .ok (.aload_n 0, 1) := dk_42 (dk_at dksX2_be_2 6 rfl rfl)
theorem dX2_be_54 : decode cX2_be 54 = .ok (.aload_n 1, 1) := dk_43 (dk_at dksX2_be_2 7 rfl rfl)
theorem dX2_be_55 : decode cX2_be 55 = .ok (.getfield 35, 3) := dk_180 0 35 (dk_at dksX2_be_2 8 rfl rfl)
theorem dX2_be_58 : decode cX2_be 58 = .ok (.putfield 35, 3) := dk_181 0 35 (dk_at dksX2_be_2 11 rfl rfl)
theorem dX2_be_61 : decode cX2_be 61 = .ok (.aload_n 0, 1) := dk_42 (dk_at dksX2_be_2 14 rfl rfl)
theorem dX2_be_62 : decode cX2_be 62 = .ok (.aload_n 1, 1) := dk_43 (dk_at dksX2_be_2 15 rfl rfl)
theorem dX2_be_63 : decode cX2_be 63 = .ok (.getfield 38, 3) := dk_180 0 38 (dk_at dksX2_be_2 16 rfl rfl)
theorem dX2_be_66 : decode cX2_be 66 = .ok (.putfield 38, 3) := dk_181 0 38 (dk_at dksX2_be_2 19 rfl rfl)
theorem dX2_be_69 : decode cX2_be 69 = .ok (.aload_n 0, 1) := dk_42 (dk_at dksX2_be_2 22 rfl rfl)
theorem dX2_be_70 : decode cX2_be 70 = .ok (.aload_n 1, 1) := dk_43 (dk_at dksX2_be_2 23 rfl rfl)
theorem dX2_be_71 : decode cX2_be 71 = .ok (.getfield 41, 3) := dk_180 0 41 (dk_at dksX2_be_3 0 rfl rfl)
theorem dX2_be_74 : decode cX2_be 74 = .ok (.putfield 41, 3) := dk_181 0 41 (dk_at dksX2_be_3 3 rfl rfl)
theorem dX2_be_77 : decode cX2_be 77 = .ok (.aload_n 0, 1) := dk_42 (dk_at dksX2_be_3 6 rfl rfl)
theorem dX2_be_78 : decode cX2_be 78 = .ok (.areturn, 1) := dk_176 (dk_at dksX2_be_3 7 rfl rfl)
abbrev cX2_goesOn : ByteArray := prog_7_method_10_code
def yX2_goesOn : MethodName := ⟨RX2, "goesOn", "(I)I"⟩
def dkwX2_goesOn_1 : List UInt8 := [180, 0, 35, 28, 100, 172]
abbrev dktX2_goesOn_1 : List UInt8 := dkwX2_goesOn_1 ++ []
def dkwX2_goesOn_0 : List UInt8 := [42, 180, 0, 35, 61, 3, 62, 29, 27, 162, 0, 14, 42, 182, 0, 79, 87, 132, 3, 1, 167, 255, 243, 42]
abbrev dktX2_goesOn_0 : List UInt8 := dkwX2_goesOn_0 ++ dktX2_goesOn_1
theorem dksX2_goesOn_0 : cX2_goesOn.data.toList.drop 0 = dktX2_goesOn_0 := by decide +kernel
theorem dksX2_goesOn_1 : cX2_goesOn.data.toList.drop 24 = dktX2_goesOn_1 := dk_seg dksX2_goesOn_0 24 rfl rfl
theorem dX2_goesOn_0 : decode cX2_goesOn 0 = .ok (.aload_n 0, 1) := dk_42 (dk_at dksX2_goesOn_0 0 rfl rfl)
theorem dX2_goesOn_1 : decode cX2_goesOn 1 = .ok (.getfield 35, 3) := dk_180 0 35 (dk_at dksX2_goesOn_0 1 rfl rfl)
theorem dX2_goesOn_4 : decode cX2_goesOn 4 = .ok (.istore_n 2, 1) := dk_61 (dk_at dksX2_goesOn_0 4 rfl rfl)
theorem dX2_goesOn_5 : decode cX2_goesOn 5 = .ok (.iconst 0, 1) := dk_3 (dk_at dksX2_goesOn_0 5 rfl rfl)
theorem dX2_goesOn_6 : decode cX2_goesOn 6 = .ok (.istore_n 3, 1) := dk_62 (dk_at dksX2_goesOn_0 6 rfl rfl)
theorem dX2_goesOn_7 : decode cX2_goesOn 7 = .ok (.iload_n 3, 1) := dk_29 (dk_at dksX2_goesOn_0 7 rfl rfl)
theorem dX2_goesOn_8 : decode cX2_goesOn 8 = .ok (.iload_n 1, 1) := dk_27 (dk_at dksX2_goesOn_0 8 rfl rfl)
theorem dX2_goesOn_9 : decode cX2_goesOn 9 = .ok (.if_icmp .ge 14, 3) := dk_162 0 14 (dk_at dksX2_goesOn_0 9 rfl rfl)
theorem dX2_goesOn_12 : decode cX2_goesOn 12 = .ok (.aload_n 0, 1) := dk_42 (dk_at dksX2_goesOn_0 12 rfl rfl)
theorem dX2_goesOn_13 : decode cX2_goesOn 13 = .ok (.invokevirtual 79, 3) := dk_182 0 79 (dk_at dksX2_goesOn_0 13 rfl rfl)
theorem dX2_goesOn_16 : decode cX2_goesOn 16 = .ok (.pop, 1) := dk_87 (dk_at dksX2_goesOn_0 16 rfl rfl)
theorem dX2_goesOn_17 : decode cX2_goesOn 17 = .ok (.iinc 3 1, 3) := dk_132 3 1 (dk_at dksX2_goesOn_0 17 rfl rfl)
theorem dX2_goesOn_20 : decode cX2_goesOn 20 = .ok (.goto (-13), 3) := dk_167 255 243 (dk_at dksX2_goesOn_0 20 rfl rfl)
theorem dX2_goesOn_23 : decode cX2_goesOn 23 = .ok (.aload_n 0, 1) := dk_42 (dk_at dksX2_goesOn_0 23 rfl rfl)
theorem dX2_goesOn_24 : decode cX2_goesOn 24 = .ok (.getfield 35, 3) := dk_180 0 35 (dk_at dksX2_goesOn_1 0 rfl rfl)
theorem dX2_goesOn_27 : decode cX2_goesOn 27 = .ok (.iload_n 2, 1) := dk_28 (dk_at dksX2_goesOn_1 3 rfl rfl)
theorem dX2_goesOn_28 : decode cX2_goesOn 28 = .ok (.isub, 1) := dk_100 (dk_at dksX2_goesOn_1 4 rfl rfl)
theorem dX2_goesOn_29 : decode cX2_goesOn 29 = .ok (.ireturn, 1) := dk_172 (dk_at dksX2_goesOn_1 5 rfl rfl)
abbrev cX2_sinks : ByteArray := prog_7_method_9_code
def yX2_sinks : MethodName := ⟨RX2, "sinks", "()I"⟩
def dkwX2_sinks_1 : List UInt8 := [89, 180, 0, 38, 4, 96, 181, 0, 38, 42, 180, 0, 35, 27, 100, 172]
abbrev dktX2_sinks_1 : List UInt8 := dkwX2_sinks_1 ++ []
def dkwX2_sinks_0 : List UInt8 := [42, 180, 0, 35, 60, 42, 18, 76, 42, 180, 0, 35, 42, 182, 0, 77, 96, 184, 0, 59, 181, 0, 35, 42]
abbrev dktX2_sinks_0 : List UInt8 := dkwX2_sinks_0 ++ dktX2_sinks_1
theorem dksX2_sinks_0 : cX2_sinks.data.toList.drop 0 = dktX2_sinks_0 := by decide +kernel
theorem dksX2_sinks_1 : cX2_sinks.data.toList.drop 24 = dktX2_sinks_1 := dk_seg dksX2_sinks_0 24 rfl rfl
theorem dX2_sinks_0 : decode cX2_sinks 0 = .ok (.aload_n 0, 1) := dk_42 (dk_at dksX2_sinks_0 0 rfl rfl)
theorem dX2_sinks_1 : decode cX2_sinks 1 = .ok (.getfield 35, 3) := dk_180 0 35 (dk_at dksX2_sinks_0 1 rfl rfl)
theorem dX2_sinks_4 : decode cX2_sinks 4 = .ok (.istore_n 1, 1) := dk_60 (dk_at dksX2_sinks_0 4 rfl rfl)
theorem dX2_sinks_5 : decode cX2_sinks 5 = .ok (.aload_n 0, 1) := dk_42 (dk_at dksX2_sinks_0 5 rfl rfl)
theorem dX2_sinks_6 : decode cX2_sinks 6 = .ok (.ldc 76, 2) := dk_18 76 (dk_at dksX2_sinks_0 6 rfl rfl)
theorem dX2_sinks_8 : decode cX2_sinks 8 = .ok (.aload_n 0, 1) := dk_42 (dk_at dksX2_sinks_0 8 rfl rfl)
theorem dX2_sinks_9 : decode cX2_sinks 9 = .ok (.getfield 35, 3) := dk_180 0 35 (dk_at dksX2_sinks_0 9 rfl rfl)
theorem dX2_sinks_12 : decode cX2_sinks 12 = .ok (.aload_n 0, 1) := dk_42 (dk_at dksX2_sinks_0 12 rfl rfl)
theorem dX2_sinks_13 : decode cX2_sinks 13 = .ok (.invokevirtual 77, 3) := dk_182 0 77 (dk_at dksX2_sinks_0 13 rfl rfl)
theorem dX2_sinks_16 : decode cX2_sinks 16 = .ok (.iadd, 1) := dk_96 (dk_at dksX2_sinks_0 16 rfl rfl)
theorem dX2_sinks_17 : decode cX2_sinks 17 = .ok (.invokestatic 59, 3) := dk_184 0 59 (dk_at dksX2_sinks_0 17 rfl rfl)
theorem dX2_sinks_20 : decode cX2_sinks 20 = .ok (.putfield 35, 3) := dk_181 0 35 (dk_at dksX2_sinks_0 20 rfl rfl)
theorem dX2_sinks_23 : decode cX2_sinks 23 = .ok (.aload_n 0, 1) := dk_42 (dk_at dksX2_sinks_0 23 rfl rfl)
theorem dX2_sinks_24 : decode cX2_sinks 24 = .ok (.dup, 1) := dk_89 (dk_at dksX2_sinks_1 0 rfl rfl)
theorem dX2_sinks_25 : decode cX2_sinks 25 = .ok (.getfield 38, 3) := dk_180 0 38 (dk_at dksX2_sinks_1 1 rfl rfl)
theorem dX2_sinks_28 : decode cX2_sinks 28 = .ok (.iconst 1, 1) := dk_4 (dk_at dksX2_sinks_1 4 rfl rfl)
theorem dX2_sinks_29 : decode cX2_sinks 29 = .ok (.iadd, 1) := dk_96 (dk_at dksX2_sinks_1 5 rfl rfl)
theorem dX2_sinks_30 : decode cX2_sinks 30 = .ok (.putfield 38, 3) := dk_181 0 38 (dk_at dksX2_sinks_1 6 rfl rfl)
theorem dX2_sinks_33 : decode cX2_sinks 33 = .ok (.aload_n 0, 1) := dk_42 (dk_at dksX2_sinks_1 9 rfl rfl)
theorem dX2_sinks_34 : decode cX2_sinks 34 = .ok (.getfield 35, 3) := dk_180 0 35 (dk_at dksX2_sinks_1 10 rfl rfl)
theorem dX2_sinks_37 : decode cX2_sinks 37 = .ok (.iload_n 1, 1) := dk_27 (dk_at dksX2_sinks_1 13 rfl rfl)
theorem dX2_sinks_38 : decode cX2_sinks 38 = .ok (.isub, 1) := dk_100 (dk_at dksX2_sinks_1 14 rfl rfl)
theorem dX2_sinks_39 : decode cX2_sinks 39 = .ok (.ireturn, 1) := dk_172 (dk_at dksX2_sinks_1 15 rfl rfl)
abbrev cX2_builds : ByteArray := prog_7_method_16_code
def yX2_builds : MethodName := ⟨RX2, "builds", "()V"⟩
def dkwX2_builds_1 : List UInt8 := [4, 96, 181, 0, 31, 177]
abbrev dktX2_builds_1 : List UInt8 := dkwX2_builds_1 ++ []
def dkwX2_builds_0 : List UInt8 := [42, 180, 0, 22, 42, 180, 0, 31, 42, 180, 0, 3, 180, 0, 44, 180, 0, 99, 79, 42, 89, 180, 0, 31]
abbrev dktX2_builds_0 : List UInt8 := dkwX2_builds_0 ++ dktX2_builds_1
theorem dksX2_builds_0 : cX2_builds.data.toList.drop 0 = dktX2_builds_0 := by decide +kernel
theorem dksX2_builds_1 : cX2_builds.data.toList.drop 24 = dktX2_builds_1 := dk_seg dksX2_builds_0 24 rfl rfl
theorem dX2_builds_0 : decode cX2_builds 0 = .ok (.aload_n 0, 1) := dk_42 (dk_at dksX2_builds_0 0 rfl rfl)
theorem dX2_builds_1 : decode cX2_builds 1 = .ok (.getfield 22, 3) := dk_180 0 22 (dk_at dksX2_builds_0 1 rfl rfl)
theorem dX2_builds_4 : decode cX2_builds 4 = .ok (.aload_n 0, 1) := dk_42 (dk_at dksX2_builds_0 4 rfl rfl)
theorem dX2_builds_5 : decode cX2_builds 5 = .ok (.getfield 31, 3) := dk_180 0 31 (dk_at dksX2_builds_0 5 rfl rfl)
theorem dX2_builds_8 : decode cX2_builds 8 = .ok (.aload_n 0, 1) := dk_42 (dk_at dksX2_builds_0 8 rfl rfl)
theorem dX2_builds_9 : decode cX2_builds 9 = .ok (.getfield 3, 3) := dk_180 0 3 (dk_at dksX2_builds_0 9 rfl rfl)
theorem dX2_builds_12 : decode cX2_builds 12 = .ok (.getfield 44, 3) := dk_180 0 44 (dk_at dksX2_builds_0 12 rfl rfl)
theorem dX2_builds_15 : decode cX2_builds 15 = .ok (.getfield 99, 3) := dk_180 0 99 (dk_at dksX2_builds_0 15 rfl rfl)
theorem dX2_builds_18 : decode cX2_builds 18 = .ok (.iastore, 1) := dk_79 (dk_at dksX2_builds_0 18 rfl rfl)
theorem dX2_builds_19 : decode cX2_builds 19 = .ok (.aload_n 0, 1) := dk_42 (dk_at dksX2_builds_0 19 rfl rfl)
theorem dX2_builds_20 : decode cX2_builds 20 = .ok (.dup, 1) := dk_89 (dk_at dksX2_builds_0 20 rfl rfl)
theorem dX2_builds_21 : decode cX2_builds 21 = .ok (.getfield 31, 3) := dk_180 0 31 (dk_at dksX2_builds_0 21 rfl rfl)
theorem dX2_builds_24 : decode cX2_builds 24 = .ok (.iconst 1, 1) := dk_4 (dk_at dksX2_builds_1 0 rfl rfl)
theorem dX2_builds_25 : decode cX2_builds 25 = .ok (.iadd, 1) := dk_96 (dk_at dksX2_builds_1 1 rfl rfl)
theorem dX2_builds_26 : decode cX2_builds 26 = .ok (.putfield 31, 3) := dk_181 0 31 (dk_at dksX2_builds_1 2 rfl rfl)
theorem dX2_builds_29 : decode cX2_builds 29 = .ok (.return_, 1) := dk_177 (dk_at dksX2_builds_1 5 rfl rfl)
abbrev cX2_whyMove : ByteArray := prog_7_method_17_code
def yX2_whyMove : MethodName := ⟨RX2, "whyMove", "(JJ)I"⟩
def dkwX2_whyMove_2 : List UInt8 := [5, 167, 0, 17, 42, 33, 136, 182, 0, 106, 153, 0, 7, 6, 167, 0, 4, 3, 172]
abbrev dktX2_whyMove_2 : List UInt8 := dkwX2_whyMove_2 ++ []
def dkwX2_whyMove_1 : List UInt8 := [180, 0, 31, 4, 100, 133, 184, 0, 102, 154, 0, 5, 4, 172, 42, 33, 136, 182, 0, 86, 2, 159, 0, 7]
abbrev dktX2_whyMove_1 : List UInt8 := dkwX2_whyMove_1 ++ dktX2_whyMove_2
def dkwX2_whyMove_0 : List UInt8 := [31, 9, 42, 180, 0, 3, 180, 0, 44, 180, 0, 56, 4, 100, 133, 184, 0, 102, 153, 0, 18, 33, 9, 42]
abbrev dktX2_whyMove_0 : List UInt8 := dkwX2_whyMove_0 ++ dktX2_whyMove_1
theorem dksX2_whyMove_0 : cX2_whyMove.data.toList.drop 0 = dktX2_whyMove_0 := by decide +kernel
theorem dksX2_whyMove_1 : cX2_whyMove.data.toList.drop 24 = dktX2_whyMove_1 := dk_seg dksX2_whyMove_0 24 rfl rfl
theorem dksX2_whyMove_2 : cX2_whyMove.data.toList.drop 48 = dktX2_whyMove_2 := dk_seg dksX2_whyMove_1 24 rfl rfl
theorem dX2_whyMove_0 : decode cX2_whyMove 0 = .ok (.lload_n 1, 1) := dk_31 (dk_at dksX2_whyMove_0 0 rfl rfl)
theorem dX2_whyMove_1 : decode cX2_whyMove 1 = .ok (.lconst 0, 1) := dk_9 (dk_at dksX2_whyMove_0 1 rfl rfl)
theorem dX2_whyMove_2 : decode cX2_whyMove 2 = .ok (.aload_n 0, 1) := dk_42 (dk_at dksX2_whyMove_0 2 rfl rfl)
theorem dX2_whyMove_3 : decode cX2_whyMove 3 = .ok (.getfield 3, 3) := dk_180 0 3 (dk_at dksX2_whyMove_0 3 rfl rfl)
theorem dX2_whyMove_6 : decode cX2_whyMove 6 = .ok (.getfield 44, 3) := dk_180 0 44 (dk_at dksX2_whyMove_0 6 rfl rfl)
theorem dX2_whyMove_9 : decode cX2_whyMove 9 = .ok (.getfield 56, 3) := dk_180 0 56 (dk_at dksX2_whyMove_0 9 rfl rfl)
theorem dX2_whyMove_12 : decode cX2_whyMove 12 = .ok (.iconst 1, 1) := dk_4 (dk_at dksX2_whyMove_0 12 rfl rfl)
theorem dX2_whyMove_13 : decode cX2_whyMove 13 = .ok (.isub, 1) := dk_100 (dk_at dksX2_whyMove_0 13 rfl rfl)
theorem dX2_whyMove_14 : decode cX2_whyMove 14 = .ok (.i2l, 1) := dk_133 (dk_at dksX2_whyMove_0 14 rfl rfl)
theorem dX2_whyMove_15 : decode cX2_whyMove 15 = .ok (.invokestatic 102, 3) := dk_184 0 102 (dk_at dksX2_whyMove_0 15 rfl rfl)
theorem dX2_whyMove_18 : decode cX2_whyMove 18 = .ok (.ifCond .eq 18, 3) := dk_153 0 18 (dk_at dksX2_whyMove_0 18 rfl rfl)
theorem dX2_whyMove_21 : decode cX2_whyMove 21 = .ok (.lload_n 3, 1) := dk_33 (dk_at dksX2_whyMove_0 21 rfl rfl)
theorem dX2_whyMove_22 : decode cX2_whyMove 22 = .ok (.lconst 0, 1) := dk_9 (dk_at dksX2_whyMove_0 22 rfl rfl)
theorem dX2_whyMove_23 : decode cX2_whyMove 23 = .ok (.aload_n 0, 1) := dk_42 (dk_at dksX2_whyMove_0 23 rfl rfl)
theorem dX2_whyMove_24 : decode cX2_whyMove 24 = .ok (.getfield 31, 3) := dk_180 0 31 (dk_at dksX2_whyMove_1 0 rfl rfl)
theorem dX2_whyMove_27 : decode cX2_whyMove 27 = .ok (.iconst 1, 1) := dk_4 (dk_at dksX2_whyMove_1 3 rfl rfl)
theorem dX2_whyMove_28 : decode cX2_whyMove 28 = .ok (.isub, 1) := dk_100 (dk_at dksX2_whyMove_1 4 rfl rfl)
theorem dX2_whyMove_29 : decode cX2_whyMove 29 = .ok (.i2l, 1) := dk_133 (dk_at dksX2_whyMove_1 5 rfl rfl)
theorem dX2_whyMove_30 : decode cX2_whyMove 30 = .ok (.invokestatic 102, 3) := dk_184 0 102 (dk_at dksX2_whyMove_1 6 rfl rfl)
theorem dX2_whyMove_33 : decode cX2_whyMove 33 = .ok (.ifCond .ne 5, 3) := dk_154 0 5 (dk_at dksX2_whyMove_1 9 rfl rfl)
theorem dX2_whyMove_36 : decode cX2_whyMove 36 = .ok (.iconst 1, 1) := dk_4 (dk_at dksX2_whyMove_1 12 rfl rfl)
theorem dX2_whyMove_37 : decode cX2_whyMove 37 = .ok (.ireturn, 1) := dk_172 (dk_at dksX2_whyMove_1 13 rfl rfl)
theorem dX2_whyMove_38 : decode cX2_whyMove 38 = .ok (.aload_n 0, 1) := dk_42 (dk_at dksX2_whyMove_1 14 rfl rfl)
theorem dX2_whyMove_39 : decode cX2_whyMove 39 = .ok (.lload_n 3, 1) := dk_33 (dk_at dksX2_whyMove_1 15 rfl rfl)
theorem dX2_whyMove_40 : decode cX2_whyMove 40 = .ok (.l2i, 1) := dk_136 (dk_at dksX2_whyMove_1 16 rfl rfl)
theorem dX2_whyMove_41 : decode cX2_whyMove 41 = .ok (.invokevirtual 86, 3) := dk_182 0 86 (dk_at dksX2_whyMove_1 17 rfl rfl)
theorem dX2_whyMove_44 : decode cX2_whyMove 44 = .ok (.iconst (-1), 1) := dk_2 (dk_at dksX2_whyMove_1 20 rfl rfl)
theorem dX2_whyMove_45 : decode cX2_whyMove 45 = .ok (.if_icmp .eq 7, 3) := dk_159 0 7 (dk_at dksX2_whyMove_1 21 rfl rfl)
theorem dX2_whyMove_48 : decode cX2_whyMove 48 = .ok (.iconst 2, 1) := dk_5 (dk_at dksX2_whyMove_2 0 rfl rfl)
theorem dX2_whyMove_49 : decode cX2_whyMove 49 = .ok (.goto 17, 3) := dk_167 0 17 (dk_at dksX2_whyMove_2 1 rfl rfl)
theorem dX2_whyMove_52 : decode cX2_whyMove 52 = .ok (.aload_n 0, 1) := dk_42 (dk_at dksX2_whyMove_2 4 rfl rfl)
theorem dX2_whyMove_53 : decode cX2_whyMove 53 = .ok (.lload_n 3, 1) := dk_33 (dk_at dksX2_whyMove_2 5 rfl rfl)
theorem dX2_whyMove_54 : decode cX2_whyMove 54 = .ok (.l2i, 1) := dk_136 (dk_at dksX2_whyMove_2 6 rfl rfl)
theorem dX2_whyMove_55 : decode cX2_whyMove 55 = .ok (.invokevirtual 106, 3) := dk_182 0 106 (dk_at dksX2_whyMove_2 7 rfl rfl)
theorem dX2_whyMove_58 : decode cX2_whyMove 58 = .ok (.ifCond .eq 7, 3) := dk_153 0 7 (dk_at dksX2_whyMove_2 10 rfl rfl)
theorem dX2_whyMove_61 : decode cX2_whyMove 61 = .ok (.iconst 3, 1) := dk_6 (dk_at dksX2_whyMove_2 13 rfl rfl)
theorem dX2_whyMove_62 : decode cX2_whyMove 62 = .ok (.goto 4, 3) := dk_167 0 4 (dk_at dksX2_whyMove_2 14 rfl rfl)
theorem dX2_whyMove_65 : decode cX2_whyMove 65 = .ok (.iconst 0, 1) := dk_3 (dk_at dksX2_whyMove_2 17 rfl rfl)
theorem dX2_whyMove_66 : decode cX2_whyMove 66 = .ok (.ireturn, 1) := dk_172 (dk_at dksX2_whyMove_2 18 rfl rfl)
abbrev cX2_whyLeave : ByteArray := prog_7_method_18_code
def yX2_whyLeave : MethodName := ⟨RX2, "whyLeave", "(J)I"⟩
def dkwX2_whyLeave_1 : List UInt8 := [167, 0, 19, 42, 180, 0, 15, 31, 136, 46, 2, 160, 0, 7, 5, 167, 0, 4, 3, 172]
abbrev dktX2_whyLeave_1 : List UInt8 := dkwX2_whyLeave_1 ++ []
def dkwX2_whyLeave_0 : List UInt8 := [31, 9, 42, 180, 0, 3, 180, 0, 44, 180, 0, 56, 4, 100, 133, 184, 0, 102, 154, 0, 7, 4]
abbrev dktX2_whyLeave_0 : List UInt8 := dkwX2_whyLeave_0 ++ dktX2_whyLeave_1
theorem dksX2_whyLeave_0 : cX2_whyLeave.data.toList.drop 0 = dktX2_whyLeave_0 := by decide +kernel
theorem dksX2_whyLeave_1 : cX2_whyLeave.data.toList.drop 22 = dktX2_whyLeave_1 := dk_seg dksX2_whyLeave_0 22 rfl rfl
theorem dX2_whyLeave_0 : decode cX2_whyLeave 0 = .ok (.lload_n 1, 1) := dk_31 (dk_at dksX2_whyLeave_0 0 rfl rfl)
theorem dX2_whyLeave_1 : decode cX2_whyLeave 1 = .ok (.lconst 0, 1) := dk_9 (dk_at dksX2_whyLeave_0 1 rfl rfl)
theorem dX2_whyLeave_2 : decode cX2_whyLeave 2 = .ok (.aload_n 0, 1) := dk_42 (dk_at dksX2_whyLeave_0 2 rfl rfl)
theorem dX2_whyLeave_3 : decode cX2_whyLeave 3 = .ok (.getfield 3, 3) := dk_180 0 3 (dk_at dksX2_whyLeave_0 3 rfl rfl)
theorem dX2_whyLeave_6 : decode cX2_whyLeave 6 = .ok (.getfield 44, 3) := dk_180 0 44 (dk_at dksX2_whyLeave_0 6 rfl rfl)
theorem dX2_whyLeave_9 : decode cX2_whyLeave 9 = .ok (.getfield 56, 3) := dk_180 0 56 (dk_at dksX2_whyLeave_0 9 rfl rfl)
theorem dX2_whyLeave_12 : decode cX2_whyLeave 12 = .ok (.iconst 1, 1) := dk_4 (dk_at dksX2_whyLeave_0 12 rfl rfl)
theorem dX2_whyLeave_13 : decode cX2_whyLeave 13 = .ok (.isub, 1) := dk_100 (dk_at dksX2_whyLeave_0 13 rfl rfl)
theorem dX2_whyLeave_14 : decode cX2_whyLeave 14 = .ok (.i2l, 1) := dk_133 (dk_at dksX2_whyLeave_0 14 rfl rfl)
theorem dX2_whyLeave_15 : decode cX2_whyLeave 15 = .ok (.invokestatic 102, 3) := dk_184 0 102 (dk_at dksX2_whyLeave_0 15 rfl rfl)
theorem dX2_whyLeave_18 : decode cX2_whyLeave 18 = .ok (.ifCond .ne 7, 3) := dk_154 0 7 (dk_at dksX2_whyLeave_0 18 rfl rfl)
theorem dX2_whyLeave_21 : decode cX2_whyLeave 21 = .ok (.iconst 1, 1) := dk_4 (dk_at dksX2_whyLeave_0 21 rfl rfl)
theorem dX2_whyLeave_22 : decode cX2_whyLeave 22 = .ok (.goto 19, 3) := dk_167 0 19 (dk_at dksX2_whyLeave_1 0 rfl rfl)
theorem dX2_whyLeave_25 : decode cX2_whyLeave 25 = .ok (.aload_n 0, 1) := dk_42 (dk_at dksX2_whyLeave_1 3 rfl rfl)
theorem dX2_whyLeave_26 : decode cX2_whyLeave 26 = .ok (.getfield 15, 3) := dk_180 0 15 (dk_at dksX2_whyLeave_1 4 rfl rfl)
theorem dX2_whyLeave_29 : decode cX2_whyLeave 29 = .ok (.lload_n 1, 1) := dk_31 (dk_at dksX2_whyLeave_1 7 rfl rfl)
theorem dX2_whyLeave_30 : decode cX2_whyLeave 30 = .ok (.l2i, 1) := dk_136 (dk_at dksX2_whyLeave_1 8 rfl rfl)
theorem dX2_whyLeave_31 : decode cX2_whyLeave 31 = .ok (.iaload, 1) := dk_46 (dk_at dksX2_whyLeave_1 9 rfl rfl)
theorem dX2_whyLeave_32 : decode cX2_whyLeave 32 = .ok (.iconst (-1), 1) := dk_2 (dk_at dksX2_whyLeave_1 10 rfl rfl)
theorem dX2_whyLeave_33 : decode cX2_whyLeave 33 = .ok (.if_icmp .ne 7, 3) := dk_160 0 7 (dk_at dksX2_whyLeave_1 11 rfl rfl)
theorem dX2_whyLeave_36 : decode cX2_whyLeave 36 = .ok (.iconst 2, 1) := dk_5 (dk_at dksX2_whyLeave_1 14 rfl rfl)
theorem dX2_whyLeave_37 : decode cX2_whyLeave 37 = .ok (.goto 4, 3) := dk_167 0 4 (dk_at dksX2_whyLeave_1 15 rfl rfl)
theorem dX2_whyLeave_40 : decode cX2_whyLeave 40 = .ok (.iconst 0, 1) := dk_3 (dk_at dksX2_whyLeave_1 18 rfl rfl)
theorem dX2_whyLeave_41 : decode cX2_whyLeave 41 = .ok (.ireturn, 1) := dk_172 (dk_at dksX2_whyLeave_1 19 rfl rfl)
abbrev cX2_round : ByteArray := prog_7_method_21_code
def yX2_round : MethodName := ⟨RX2, "round", "()I"⟩
def dkwX2_round_3 : List UInt8 := [3, 42, 180, 0, 3, 180, 0, 44, 180, 0, 56, 184, 0, 25, 27, 172]
abbrev dktX2_round_3 : List UInt8 := dkwX2_round_3 ++ []
def dkwX2_round_2 : List UInt8 := [167, 0, 4, 4, 96, 60, 132, 2, 1, 167, 255, 213, 42, 180, 0, 3, 180, 0, 146, 3, 42, 180, 0, 15]
abbrev dktX2_round_2 : List UInt8 := dkwX2_round_2 ++ dktX2_round_3
def dkwX2_round_1 : List UInt8 := [162, 0, 35, 27, 42, 180, 0, 15, 28, 46, 42, 180, 0, 3, 180, 0, 146, 28, 46, 160, 0, 7, 3]
abbrev dktX2_round_1 : List UInt8 := dkwX2_round_1 ++ dktX2_round_2
def dkwX2_round_0 : List UInt8 := [42, 180, 0, 3, 42, 182, 0, 142, 3, 60, 3, 61, 28, 42, 180, 0, 3, 180, 0, 44, 180, 0, 56]
abbrev dktX2_round_0 : List UInt8 := dkwX2_round_0 ++ dktX2_round_1
theorem dksX2_round_0 : cX2_round.data.toList.drop 0 = dktX2_round_0 := by decide +kernel
theorem dksX2_round_1 : cX2_round.data.toList.drop 23 = dktX2_round_1 := dk_seg dksX2_round_0 23 rfl rfl
theorem dksX2_round_2 : cX2_round.data.toList.drop 46 = dktX2_round_2 := dk_seg dksX2_round_1 23 rfl rfl
theorem dksX2_round_3 : cX2_round.data.toList.drop 70 = dktX2_round_3 := dk_seg dksX2_round_2 24 rfl rfl
theorem dX2_round_0 : decode cX2_round 0 = .ok (.aload_n 0, 1) := dk_42 (dk_at dksX2_round_0 0 rfl rfl)
theorem dX2_round_1 : decode cX2_round 1 = .ok (.getfield 3, 3) := dk_180 0 3 (dk_at dksX2_round_0 1 rfl rfl)
theorem dX2_round_4 : decode cX2_round 4 = .ok (.aload_n 0, 1) := dk_42 (dk_at dksX2_round_0 4 rfl rfl)
theorem dX2_round_5 : decode cX2_round 5 = .ok (.invokevirtual 142, 3) := dk_182 0 142 (dk_at dksX2_round_0 5 rfl rfl)
theorem dX2_round_8 : decode cX2_round 8 = .ok (.iconst 0, 1) := dk_3 (dk_at dksX2_round_0 8 rfl rfl)
theorem dX2_round_9 : decode cX2_round 9 = .ok (.istore_n 1, 1) := dk_60 (dk_at dksX2_round_0 9 rfl rfl)
theorem dX2_round_10 : decode cX2_round 10 = .ok (.iconst 0, 1) := dk_3 (dk_at dksX2_round_0 10 rfl rfl)
theorem dX2_round_11 : decode cX2_round 11 = .ok (.istore_n 2, 1) := dk_61 (dk_at dksX2_round_0 11 rfl rfl)
theorem dX2_round_12 : decode cX2_round 12 = .ok (.iload_n 2, 1) := dk_28 (dk_at dksX2_round_0 12 rfl rfl)
theorem dX2_round_13 : decode cX2_round 13 = .ok (.aload_n 0, 1) := dk_42 (dk_at dksX2_round_0 13 rfl rfl)
theorem dX2_round_14 : decode cX2_round 14 = .ok (.getfield 3, 3) := dk_180 0 3 (dk_at dksX2_round_0 14 rfl rfl)
theorem dX2_round_17 : decode cX2_round 17 = .ok (.getfield 44, 3) := dk_180 0 44 (dk_at dksX2_round_0 17 rfl rfl)
theorem dX2_round_20 : decode cX2_round 20 = .ok (.getfield 56, 3) := dk_180 0 56 (dk_at dksX2_round_0 20 rfl rfl)
theorem dX2_round_23 : decode cX2_round 23 = .ok (.if_icmp .ge 35, 3) := dk_162 0 35 (dk_at dksX2_round_1 0 rfl rfl)
theorem dX2_round_26 : decode cX2_round 26 = .ok (.iload_n 1, 1) := dk_27 (dk_at dksX2_round_1 3 rfl rfl)
theorem dX2_round_27 : decode cX2_round 27 = .ok (.aload_n 0, 1) := dk_42 (dk_at dksX2_round_1 4 rfl rfl)
theorem dX2_round_28 : decode cX2_round 28 = .ok (.getfield 15, 3) := dk_180 0 15 (dk_at dksX2_round_1 5 rfl rfl)
theorem dX2_round_31 : decode cX2_round 31 = .ok (.iload_n 2, 1) := dk_28 (dk_at dksX2_round_1 8 rfl rfl)
theorem dX2_round_32 : decode cX2_round 32 = .ok (.iaload, 1) := dk_46 (dk_at dksX2_round_1 9 rfl rfl)
theorem dX2_round_33 : decode cX2_round 33 = .ok (.aload_n 0, 1) := dk_42 (dk_at dksX2_round_1 10 rfl rfl)
theorem dX2_round_34 : decode cX2_round 34 = .ok (.getfield 3, 3) := dk_180 0 3 (dk_at dksX2_round_1 11 rfl rfl)
theorem dX2_round_37 : decode cX2_round 37 = .ok (.getfield 146, 3) := dk_180 0 146 (dk_at dksX2_round_1 14 rfl rfl)
theorem dX2_round_40 : decode cX2_round 40 = .ok (.iload_n 2, 1) := dk_28 (dk_at dksX2_round_1 17 rfl rfl)
theorem dX2_round_41 : decode cX2_round 41 = .ok (.iaload, 1) := dk_46 (dk_at dksX2_round_1 18 rfl rfl)
theorem dX2_round_42 : decode cX2_round 42 = .ok (.if_icmp .ne 7, 3) := dk_160 0 7 (dk_at dksX2_round_1 19 rfl rfl)
theorem dX2_round_45 : decode cX2_round 45 = .ok (.iconst 0, 1) := dk_3 (dk_at dksX2_round_1 22 rfl rfl)
theorem dX2_round_46 : decode cX2_round 46 = .ok (.goto 4, 3) := dk_167 0 4 (dk_at dksX2_round_2 0 rfl rfl)
theorem dX2_round_49 : decode cX2_round 49 = .ok (.iconst 1, 1) := dk_4 (dk_at dksX2_round_2 3 rfl rfl)
theorem dX2_round_50 : decode cX2_round 50 = .ok (.iadd, 1) := dk_96 (dk_at dksX2_round_2 4 rfl rfl)
theorem dX2_round_51 : decode cX2_round 51 = .ok (.istore_n 1, 1) := dk_60 (dk_at dksX2_round_2 5 rfl rfl)
theorem dX2_round_52 : decode cX2_round 52 = .ok (.iinc 2 1, 3) := dk_132 2 1 (dk_at dksX2_round_2 6 rfl rfl)
theorem dX2_round_55 : decode cX2_round 55 = .ok (.goto (-43), 3) := dk_167 255 213 (dk_at dksX2_round_2 9 rfl rfl)
theorem dX2_round_58 : decode cX2_round 58 = .ok (.aload_n 0, 1) := dk_42 (dk_at dksX2_round_2 12 rfl rfl)
theorem dX2_round_59 : decode cX2_round 59 = .ok (.getfield 3, 3) := dk_180 0 3 (dk_at dksX2_round_2 13 rfl rfl)
theorem dX2_round_62 : decode cX2_round 62 = .ok (.getfield 146, 3) := dk_180 0 146 (dk_at dksX2_round_2 16 rfl rfl)
theorem dX2_round_65 : decode cX2_round 65 = .ok (.iconst 0, 1) := dk_3 (dk_at dksX2_round_2 19 rfl rfl)
theorem dX2_round_66 : decode cX2_round 66 = .ok (.aload_n 0, 1) := dk_42 (dk_at dksX2_round_2 20 rfl rfl)
theorem dX2_round_67 : decode cX2_round 67 = .ok (.getfield 15, 3) := dk_180 0 15 (dk_at dksX2_round_2 21 rfl rfl)
theorem dX2_round_70 : decode cX2_round 70 = .ok (.iconst 0, 1) := dk_3 (dk_at dksX2_round_3 0 rfl rfl)
theorem dX2_round_71 : decode cX2_round 71 = .ok (.aload_n 0, 1) := dk_42 (dk_at dksX2_round_3 1 rfl rfl)
theorem dX2_round_72 : decode cX2_round 72 = .ok (.getfield 3, 3) := dk_180 0 3 (dk_at dksX2_round_3 2 rfl rfl)
theorem dX2_round_75 : decode cX2_round 75 = .ok (.getfield 44, 3) := dk_180 0 44 (dk_at dksX2_round_3 5 rfl rfl)
theorem dX2_round_78 : decode cX2_round 78 = .ok (.getfield 56, 3) := dk_180 0 56 (dk_at dksX2_round_3 8 rfl rfl)
theorem dX2_round_81 : decode cX2_round 81 = .ok (.invokestatic 25, 3) := dk_184 0 25 (dk_at dksX2_round_3 11 rfl rfl)
theorem dX2_round_84 : decode cX2_round 84 = .ok (.iload_n 1, 1) := dk_27 (dk_at dksX2_round_3 14 rfl rfl)
theorem dX2_round_85 : decode cX2_round 85 = .ok (.ireturn, 1) := dk_172 (dk_at dksX2_round_3 15 rfl rfl)
abbrev cX2_why : ByteArray := prog_7_method_19_code
def yX2_why : MethodName := ⟨RX2, "why", "(J)I"⟩
def dkwX2_why_5 : List UInt8 := [180, 0, 3, 180, 0, 44, 180, 0, 56, 133, 148, 156, 0, 7, 3, 167, 0, 4, 4, 172]
abbrev dktX2_why_5 : List UInt8 := dkwX2_why_5 ++ []
def dkwX2_why_4 : List UInt8 := [20, 0, 132, 20, 0, 134, 184, 0, 102, 153, 0, 31, 31, 20, 0, 132, 101, 20, 0, 124, 109, 42]
abbrev dktX2_why_4 : List UInt8 := dkwX2_why_4 ++ dktX2_why_5
def dkwX2_why_3 : List UInt8 := [20, 0, 124, 20, 0, 126, 184, 0, 102, 153, 0, 13, 42, 31, 20, 0, 124, 101, 182, 0, 128, 172, 31]
abbrev dktX2_why_3 : List UInt8 := dkwX2_why_3 ++ dktX2_why_4
def dkwX2_why_2 : List UInt8 := [184, 0, 102, 153, 0, 18, 42, 31, 20, 0, 118, 109, 31, 20, 0, 118, 113, 182, 0, 120, 172, 31]
abbrev dktX2_why_2 : List UInt8 := dkwX2_why_2 ++ dktX2_why_3
def dkwX2_why_1 : List UInt8 := [154, 0, 18, 42, 180, 0, 31, 16, 8, 160, 0, 7, 5, 167, 0, 4, 3, 172, 31, 9, 20, 0, 116]
abbrev dktX2_why_1 : List UInt8 := dkwX2_why_1 ++ dktX2_why_2
def dkwX2_why_0 : List UInt8 := [31, 20, 0, 110, 148, 153, 0, 11, 31, 20, 0, 112, 148, 154, 0, 5, 3, 172, 31, 20, 0, 114, 148]
abbrev dktX2_why_0 : List UInt8 := dkwX2_why_0 ++ dktX2_why_1
theorem dksX2_why_0 : cX2_why.data.toList.drop 0 = dktX2_why_0 := by decide +kernel
theorem dksX2_why_1 : cX2_why.data.toList.drop 23 = dktX2_why_1 := dk_seg dksX2_why_0 23 rfl rfl
theorem dksX2_why_2 : cX2_why.data.toList.drop 46 = dktX2_why_2 := dk_seg dksX2_why_1 23 rfl rfl
theorem dksX2_why_3 : cX2_why.data.toList.drop 68 = dktX2_why_3 := dk_seg dksX2_why_2 22 rfl rfl
theorem dksX2_why_4 : cX2_why.data.toList.drop 91 = dktX2_why_4 := dk_seg dksX2_why_3 23 rfl rfl
theorem dksX2_why_5 : cX2_why.data.toList.drop 113 = dktX2_why_5 := dk_seg dksX2_why_4 22 rfl rfl
theorem dX2_why_0 : decode cX2_why 0 = .ok (.lload_n 1, 1) := dk_31 (dk_at dksX2_why_0 0 rfl rfl)
theorem dX2_why_1 : decode cX2_why 1 = .ok (.ldc2_w 110, 3) := dk_20 0 110 (dk_at dksX2_why_0 1 rfl rfl)
theorem dX2_why_4 : decode cX2_why 4 = .ok (.lcmp, 1) := dk_148 (dk_at dksX2_why_0 4 rfl rfl)
theorem dX2_why_5 : decode cX2_why 5 = .ok (.ifCond .eq 11, 3) := dk_153 0 11 (dk_at dksX2_why_0 5 rfl rfl)
theorem dX2_why_8 : decode cX2_why 8 = .ok (.lload_n 1, 1) := dk_31 (dk_at dksX2_why_0 8 rfl rfl)
theorem dX2_why_9 : decode cX2_why 9 = .ok (.ldc2_w 112, 3) := dk_20 0 112 (dk_at dksX2_why_0 9 rfl rfl)
theorem dX2_why_12 : decode cX2_why 12 = .ok (.lcmp, 1) := dk_148 (dk_at dksX2_why_0 12 rfl rfl)
theorem dX2_why_13 : decode cX2_why 13 = .ok (.ifCond .ne 5, 3) := dk_154 0 5 (dk_at dksX2_why_0 13 rfl rfl)
theorem dX2_why_16 : decode cX2_why 16 = .ok (.iconst 0, 1) := dk_3 (dk_at dksX2_why_0 16 rfl rfl)
theorem dX2_why_17 : decode cX2_why 17 = .ok (.ireturn, 1) := dk_172 (dk_at dksX2_why_0 17 rfl rfl)
theorem dX2_why_18 : decode cX2_why 18 = .ok (.lload_n 1, 1) := dk_31 (dk_at dksX2_why_0 18 rfl rfl)
theorem dX2_why_19 : decode cX2_why 19 = .ok (.ldc2_w 114, 3) := dk_20 0 114 (dk_at dksX2_why_0 19 rfl rfl)
theorem dX2_why_22 : decode cX2_why 22 = .ok (.lcmp, 1) := dk_148 (dk_at dksX2_why_0 22 rfl rfl)
theorem dX2_why_23 : decode cX2_why 23 = .ok (.ifCond .ne 18, 3) := dk_154 0 18 (dk_at dksX2_why_1 0 rfl rfl)
theorem dX2_why_26 : decode cX2_why 26 = .ok (.aload_n 0, 1) := dk_42 (dk_at dksX2_why_1 3 rfl rfl)
theorem dX2_why_27 : decode cX2_why 27 = .ok (.getfield 31, 3) := dk_180 0 31 (dk_at dksX2_why_1 4 rfl rfl)
theorem dX2_why_30 : decode cX2_why 30 = .ok (.bipush 8, 2) := dk_16 8 (dk_at dksX2_why_1 7 rfl rfl)
theorem dX2_why_32 : decode cX2_why 32 = .ok (.if_icmp .ne 7, 3) := dk_160 0 7 (dk_at dksX2_why_1 9 rfl rfl)
theorem dX2_why_35 : decode cX2_why 35 = .ok (.iconst 2, 1) := dk_5 (dk_at dksX2_why_1 12 rfl rfl)
theorem dX2_why_36 : decode cX2_why 36 = .ok (.goto 4, 3) := dk_167 0 4 (dk_at dksX2_why_1 13 rfl rfl)
theorem dX2_why_39 : decode cX2_why 39 = .ok (.iconst 0, 1) := dk_3 (dk_at dksX2_why_1 16 rfl rfl)
theorem dX2_why_40 : decode cX2_why 40 = .ok (.ireturn, 1) := dk_172 (dk_at dksX2_why_1 17 rfl rfl)
theorem dX2_why_41 : decode cX2_why 41 = .ok (.lload_n 1, 1) := dk_31 (dk_at dksX2_why_1 18 rfl rfl)
theorem dX2_why_42 : decode cX2_why 42 = .ok (.lconst 0, 1) := dk_9 (dk_at dksX2_why_1 19 rfl rfl)
theorem dX2_why_43 : decode cX2_why 43 = .ok (.ldc2_w 116, 3) := dk_20 0 116 (dk_at dksX2_why_1 20 rfl rfl)
theorem dX2_why_46 : decode cX2_why 46 = .ok (.invokestatic 102, 3) := dk_184 0 102 (dk_at dksX2_why_2 0 rfl rfl)
theorem dX2_why_49 : decode cX2_why 49 = .ok (.ifCond .eq 18, 3) := dk_153 0 18 (dk_at dksX2_why_2 3 rfl rfl)
theorem dX2_why_52 : decode cX2_why 52 = .ok (.aload_n 0, 1) := dk_42 (dk_at dksX2_why_2 6 rfl rfl)
theorem dX2_why_53 : decode cX2_why 53 = .ok (.lload_n 1, 1) := dk_31 (dk_at dksX2_why_2 7 rfl rfl)
theorem dX2_why_54 : decode cX2_why 54 = .ok (.ldc2_w 118, 3) := dk_20 0 118 (dk_at dksX2_why_2 8 rfl rfl)
theorem dX2_why_57 : decode cX2_why 57 = .ok (.ldiv, 1) := dk_109 (dk_at dksX2_why_2 11 rfl rfl)
theorem dX2_why_58 : decode cX2_why 58 = .ok (.lload_n 1, 1) := dk_31 (dk_at dksX2_why_2 12 rfl rfl)
theorem dX2_why_59 : decode cX2_why 59 = .ok (.ldc2_w 118, 3) := dk_20 0 118 (dk_at dksX2_why_2 13 rfl rfl)
theorem dX2_why_62 : decode cX2_why 62 = .ok (.lrem, 1) := dk_113 (dk_at dksX2_why_2 16 rfl rfl)
theorem dX2_why_63 : decode cX2_why 63 = .ok (.invokevirtual 120, 3) := dk_182 0 120 (dk_at dksX2_why_2 17 rfl rfl)
theorem dX2_why_66 : decode cX2_why 66 = .ok (.ireturn, 1) := dk_172 (dk_at dksX2_why_2 20 rfl rfl)
theorem dX2_why_67 : decode cX2_why 67 = .ok (.lload_n 1, 1) := dk_31 (dk_at dksX2_why_2 21 rfl rfl)
theorem dX2_why_68 : decode cX2_why 68 = .ok (.ldc2_w 124, 3) := dk_20 0 124 (dk_at dksX2_why_3 0 rfl rfl)
theorem dX2_why_71 : decode cX2_why 71 = .ok (.ldc2_w 126, 3) := dk_20 0 126 (dk_at dksX2_why_3 3 rfl rfl)
theorem dX2_why_74 : decode cX2_why 74 = .ok (.invokestatic 102, 3) := dk_184 0 102 (dk_at dksX2_why_3 6 rfl rfl)
theorem dX2_why_77 : decode cX2_why 77 = .ok (.ifCond .eq 13, 3) := dk_153 0 13 (dk_at dksX2_why_3 9 rfl rfl)
theorem dX2_why_80 : decode cX2_why 80 = .ok (.aload_n 0, 1) := dk_42 (dk_at dksX2_why_3 12 rfl rfl)
theorem dX2_why_81 : decode cX2_why 81 = .ok (.lload_n 1, 1) := dk_31 (dk_at dksX2_why_3 13 rfl rfl)
theorem dX2_why_82 : decode cX2_why 82 = .ok (.ldc2_w 124, 3) := dk_20 0 124 (dk_at dksX2_why_3 14 rfl rfl)
theorem dX2_why_85 : decode cX2_why 85 = .ok (.lsub, 1) := dk_101 (dk_at dksX2_why_3 17 rfl rfl)
theorem dX2_why_86 : decode cX2_why 86 = .ok (.invokevirtual 128, 3) := dk_182 0 128 (dk_at dksX2_why_3 18 rfl rfl)
theorem dX2_why_89 : decode cX2_why 89 = .ok (.ireturn, 1) := dk_172 (dk_at dksX2_why_3 21 rfl rfl)
theorem dX2_why_90 : decode cX2_why 90 = .ok (.lload_n 1, 1) := dk_31 (dk_at dksX2_why_3 22 rfl rfl)
theorem dX2_why_91 : decode cX2_why 91 = .ok (.ldc2_w 132, 3) := dk_20 0 132 (dk_at dksX2_why_4 0 rfl rfl)
theorem dX2_why_94 : decode cX2_why 94 = .ok (.ldc2_w 134, 3) := dk_20 0 134 (dk_at dksX2_why_4 3 rfl rfl)
theorem dX2_why_97 : decode cX2_why 97 = .ok (.invokestatic 102, 3) := dk_184 0 102 (dk_at dksX2_why_4 6 rfl rfl)
theorem dX2_why_100 : decode cX2_why 100 = .ok (.ifCond .eq 31, 3) := dk_153 0 31 (dk_at dksX2_why_4 9 rfl rfl)
theorem dX2_why_103 : decode cX2_why 103 = .ok (.lload_n 1, 1) := dk_31 (dk_at dksX2_why_4 12 rfl rfl)
theorem dX2_why_104 : decode cX2_why 104 = .ok (.ldc2_w 132, 3) := dk_20 0 132 (dk_at dksX2_why_4 13 rfl rfl)
theorem dX2_why_107 : decode cX2_why 107 = .ok (.lsub, 1) := dk_101 (dk_at dksX2_why_4 16 rfl rfl)
theorem dX2_why_108 : decode cX2_why 108 = .ok (.ldc2_w 124, 3) := dk_20 0 124 (dk_at dksX2_why_4 17 rfl rfl)
theorem dX2_why_111 : decode cX2_why 111 = .ok (.ldiv, 1) := dk_109 (dk_at dksX2_why_4 20 rfl rfl)
theorem dX2_why_112 : decode cX2_why 112 = .ok (.aload_n 0, 1) := dk_42 (dk_at dksX2_why_4 21 rfl rfl)
theorem dX2_why_113 : decode cX2_why 113 = .ok (.getfield 3, 3) := dk_180 0 3 (dk_at dksX2_why_5 0 rfl rfl)
theorem dX2_why_116 : decode cX2_why 116 = .ok (.getfield 44, 3) := dk_180 0 44 (dk_at dksX2_why_5 3 rfl rfl)
theorem dX2_why_119 : decode cX2_why 119 = .ok (.getfield 56, 3) := dk_180 0 56 (dk_at dksX2_why_5 6 rfl rfl)
theorem dX2_why_122 : decode cX2_why 122 = .ok (.i2l, 1) := dk_133 (dk_at dksX2_why_5 9 rfl rfl)
theorem dX2_why_123 : decode cX2_why 123 = .ok (.lcmp, 1) := dk_148 (dk_at dksX2_why_5 10 rfl rfl)
theorem dX2_why_124 : decode cX2_why 124 = .ok (.ifCond .ge 7, 3) := dk_156 0 7 (dk_at dksX2_why_5 11 rfl rfl)
theorem dX2_why_127 : decode cX2_why 127 = .ok (.iconst 0, 1) := dk_3 (dk_at dksX2_why_5 14 rfl rfl)
theorem dX2_why_128 : decode cX2_why 128 = .ok (.goto 4, 3) := dk_167 0 4 (dk_at dksX2_why_5 15 rfl rfl)
theorem dX2_why_131 : decode cX2_why 131 = .ok (.iconst 1, 1) := dk_4 (dk_at dksX2_why_5 18 rfl rfl)
theorem dX2_why_132 : decode cX2_why 132 = .ok (.ireturn, 1) := dk_172 (dk_at dksX2_why_5 19 rfl rfl)
abbrev cX2_does : ByteArray := prog_7_method_20_code
def yX2_does : MethodName := ⟨RX2, "does", "(I)V"⟩
def dkwX2_does_4 : List UInt8 := [42, 180, 0, 15, 27, 16, 100, 108, 27, 16, 100, 112, 79, 177]
abbrev dktX2_does_4 : List UInt8 := dkwX2_does_4 ++ []
def dkwX2_does_3 : List UInt8 := [167, 0, 37, 27, 17, 3, 232, 161, 0, 17, 42, 180, 0, 15, 27, 17, 3, 232, 100, 2, 79, 167, 0, 16]
abbrev dktX2_does_3 : List UInt8 := dkwX2_does_3 ++ dktX2_does_4
def dkwX2_does_2 : List UInt8 := [160, 0, 11, 42, 182, 0, 136, 87, 167, 0, 51, 27, 17, 7, 208, 160, 0, 10, 42, 182, 0, 139]
abbrev dktX2_does_2 : List UInt8 := dkwX2_does_2 ++ dktX2_does_3
def dkwX2_does_1 : List UInt8 := [27, 17, 39, 16, 100, 17, 3, 232, 108, 27, 17, 3, 232, 112, 79, 167, 0, 66, 27, 17, 11, 184]
abbrev dktX2_does_1 : List UInt8 := dkwX2_does_1 ++ dktX2_does_2
def dkwX2_does_0 : List UInt8 := [27, 2, 160, 0, 11, 42, 182, 0, 79, 87, 167, 0, 95, 27, 17, 39, 16, 161, 0, 25, 42, 180, 0, 19]
abbrev dktX2_does_0 : List UInt8 := dkwX2_does_0 ++ dktX2_does_1
theorem dksX2_does_0 : cX2_does.data.toList.drop 0 = dktX2_does_0 := by decide +kernel
theorem dksX2_does_1 : cX2_does.data.toList.drop 24 = dktX2_does_1 := dk_seg dksX2_does_0 24 rfl rfl
theorem dksX2_does_2 : cX2_does.data.toList.drop 46 = dktX2_does_2 := dk_seg dksX2_does_1 22 rfl rfl
theorem dksX2_does_3 : cX2_does.data.toList.drop 68 = dktX2_does_3 := dk_seg dksX2_does_2 22 rfl rfl
theorem dksX2_does_4 : cX2_does.data.toList.drop 92 = dktX2_does_4 := dk_seg dksX2_does_3 24 rfl rfl
theorem dX2_does_0 : decode cX2_does 0 = .ok (.iload_n 1, 1) := dk_27 (dk_at dksX2_does_0 0 rfl rfl)
theorem dX2_does_1 : decode cX2_does 1 = .ok (.iconst (-1), 1) := dk_2 (dk_at dksX2_does_0 1 rfl rfl)
theorem dX2_does_2 : decode cX2_does 2 = .ok (.if_icmp .ne 11, 3) := dk_160 0 11 (dk_at dksX2_does_0 2 rfl rfl)
theorem dX2_does_5 : decode cX2_does 5 = .ok (.aload_n 0, 1) := dk_42 (dk_at dksX2_does_0 5 rfl rfl)
theorem dX2_does_6 : decode cX2_does 6 = .ok (.invokevirtual 79, 3) := dk_182 0 79 (dk_at dksX2_does_0 6 rfl rfl)
theorem dX2_does_9 : decode cX2_does 9 = .ok (.pop, 1) := dk_87 (dk_at dksX2_does_0 9 rfl rfl)
theorem dX2_does_10 : decode cX2_does 10 = .ok (.goto 95, 3) := dk_167 0 95 (dk_at dksX2_does_0 10 rfl rfl)
theorem dX2_does_13 : decode cX2_does 13 = .ok (.iload_n 1, 1) := dk_27 (dk_at dksX2_does_0 13 rfl rfl)
theorem dX2_does_14 : decode cX2_does 14 = .ok (.sipush 10000, 3) := dk_17 39 16 (dk_at dksX2_does_0 14 rfl rfl)
theorem dX2_does_17 : decode cX2_does 17 = .ok (.if_icmp .lt 25, 3) := dk_161 0 25 (dk_at dksX2_does_0 17 rfl rfl)
theorem dX2_does_20 : decode cX2_does 20 = .ok (.aload_n 0, 1) := dk_42 (dk_at dksX2_does_0 20 rfl rfl)
theorem dX2_does_21 : decode cX2_does 21 = .ok (.getfield 19, 3) := dk_180 0 19 (dk_at dksX2_does_0 21 rfl rfl)
theorem dX2_does_24 : decode cX2_does 24 = .ok (.iload_n 1, 1) := dk_27 (dk_at dksX2_does_1 0 rfl rfl)
theorem dX2_does_25 : decode cX2_does 25 = .ok (.sipush 10000, 3) := dk_17 39 16 (dk_at dksX2_does_1 1 rfl rfl)
theorem dX2_does_28 : decode cX2_does 28 = .ok (.isub, 1) := dk_100 (dk_at dksX2_does_1 4 rfl rfl)
theorem dX2_does_29 : decode cX2_does 29 = .ok (.sipush 1000, 3) := dk_17 3 232 (dk_at dksX2_does_1 5 rfl rfl)
theorem dX2_does_32 : decode cX2_does 32 = .ok (.idiv, 1) := dk_108 (dk_at dksX2_does_1 8 rfl rfl)
theorem dX2_does_33 : decode cX2_does 33 = .ok (.iload_n 1, 1) := dk_27 (dk_at dksX2_does_1 9 rfl rfl)
theorem dX2_does_34 : decode cX2_does 34 = .ok (.sipush 1000, 3) := dk_17 3 232 (dk_at dksX2_does_1 10 rfl rfl)
theorem dX2_does_37 : decode cX2_does 37 = .ok (.irem, 1) := dk_112 (dk_at dksX2_does_1 13 rfl rfl)
theorem dX2_does_38 : decode cX2_does 38 = .ok (.iastore, 1) := dk_79 (dk_at dksX2_does_1 14 rfl rfl)
theorem dX2_does_39 : decode cX2_does 39 = .ok (.goto 66, 3) := dk_167 0 66 (dk_at dksX2_does_1 15 rfl rfl)
theorem dX2_does_42 : decode cX2_does 42 = .ok (.iload_n 1, 1) := dk_27 (dk_at dksX2_does_1 18 rfl rfl)
theorem dX2_does_43 : decode cX2_does 43 = .ok (.sipush 3000, 3) := dk_17 11 184 (dk_at dksX2_does_1 19 rfl rfl)
theorem dX2_does_46 : decode cX2_does 46 = .ok (.if_icmp .ne 11, 3) := dk_160 0 11 (dk_at dksX2_does_2 0 rfl rfl)
theorem dX2_does_49 : decode cX2_does 49 = .ok (.aload_n 0, 1) := dk_42 (dk_at dksX2_does_2 3 rfl rfl)
theorem dX2_does_50 : decode cX2_does 50 = .ok (.invokevirtual 136, 3) := dk_182 0 136 (dk_at dksX2_does_2 4 rfl rfl)
theorem dX2_does_53 : decode cX2_does 53 = .ok (.pop, 1) := dk_87 (dk_at dksX2_does_2 7 rfl rfl)
theorem dX2_does_54 : decode cX2_does 54 = .ok (.goto 51, 3) := dk_167 0 51 (dk_at dksX2_does_2 8 rfl rfl)
theorem dX2_does_57 : decode cX2_does 57 = .ok (.iload_n 1, 1) := dk_27 (dk_at dksX2_does_2 11 rfl rfl)
theorem dX2_does_58 : decode cX2_does 58 = .ok (.sipush 2000, 3) := dk_17 7 208 (dk_at dksX2_does_2 12 rfl rfl)
theorem dX2_does_61 : decode cX2_does 61 = .ok (.if_icmp .ne 10, 3) := dk_160 0 10 (dk_at dksX2_does_2 15 rfl rfl)
theorem dX2_does_64 : decode cX2_does 64 = .ok (.aload_n 0, 1) := dk_42 (dk_at dksX2_does_2 18 rfl rfl)
theorem dX2_does_65 : decode cX2_does 65 = .ok (.invokevirtual 139, 3) := dk_182 0 139 (dk_at dksX2_does_2 19 rfl rfl)
theorem dX2_does_68 : decode cX2_does 68 = .ok (.goto 37, 3) := dk_167 0 37 (dk_at dksX2_does_3 0 rfl rfl)
theorem dX2_does_71 : decode cX2_does 71 = .ok (.iload_n 1, 1) := dk_27 (dk_at dksX2_does_3 3 rfl rfl)
theorem dX2_does_72 : decode cX2_does 72 = .ok (.sipush 1000, 3) := dk_17 3 232 (dk_at dksX2_does_3 4 rfl rfl)
theorem dX2_does_75 : decode cX2_does 75 = .ok (.if_icmp .lt 17, 3) := dk_161 0 17 (dk_at dksX2_does_3 7 rfl rfl)
theorem dX2_does_78 : decode cX2_does 78 = .ok (.aload_n 0, 1) := dk_42 (dk_at dksX2_does_3 10 rfl rfl)
theorem dX2_does_79 : decode cX2_does 79 = .ok (.getfield 15, 3) := dk_180 0 15 (dk_at dksX2_does_3 11 rfl rfl)
theorem dX2_does_82 : decode cX2_does 82 = .ok (.iload_n 1, 1) := dk_27 (dk_at dksX2_does_3 14 rfl rfl)
theorem dX2_does_83 : decode cX2_does 83 = .ok (.sipush 1000, 3) := dk_17 3 232 (dk_at dksX2_does_3 15 rfl rfl)
theorem dX2_does_86 : decode cX2_does 86 = .ok (.isub, 1) := dk_100 (dk_at dksX2_does_3 18 rfl rfl)
theorem dX2_does_87 : decode cX2_does 87 = .ok (.iconst (-1), 1) := dk_2 (dk_at dksX2_does_3 19 rfl rfl)
theorem dX2_does_88 : decode cX2_does 88 = .ok (.iastore, 1) := dk_79 (dk_at dksX2_does_3 20 rfl rfl)
theorem dX2_does_89 : decode cX2_does 89 = .ok (.goto 16, 3) := dk_167 0 16 (dk_at dksX2_does_3 21 rfl rfl)
theorem dX2_does_92 : decode cX2_does 92 = .ok (.aload_n 0, 1) := dk_42 (dk_at dksX2_does_4 0 rfl rfl)
theorem dX2_does_93 : decode cX2_does 93 = .ok (.getfield 15, 3) := dk_180 0 15 (dk_at dksX2_does_4 1 rfl rfl)
theorem dX2_does_96 : decode cX2_does 96 = .ok (.iload_n 1, 1) := dk_27 (dk_at dksX2_does_4 4 rfl rfl)
theorem dX2_does_97 : decode cX2_does 97 = .ok (.bipush 100, 2) := dk_16 100 (dk_at dksX2_does_4 5 rfl rfl)
theorem dX2_does_99 : decode cX2_does 99 = .ok (.idiv, 1) := dk_108 (dk_at dksX2_does_4 7 rfl rfl)
theorem dX2_does_100 : decode cX2_does 100 = .ok (.iload_n 1, 1) := dk_27 (dk_at dksX2_does_4 8 rfl rfl)
theorem dX2_does_101 : decode cX2_does 101 = .ok (.bipush 100, 2) := dk_16 100 (dk_at dksX2_does_4 9 rfl rfl)
theorem dX2_does_103 : decode cX2_does 103 = .ok (.irem, 1) := dk_112 (dk_at dksX2_does_4 11 rfl rfl)
theorem dX2_does_104 : decode cX2_does 104 = .ok (.iastore, 1) := dk_79 (dk_at dksX2_does_4 12 rfl rfl)
theorem dX2_does_105 : decode cX2_does 105 = .ok (.return_, 1) := dk_177 (dk_at dksX2_does_4 13 rfl rfl)
abbrev cX2_door : ByteArray := prog_7_method_7_code
def yX2_door : MethodName := ⟨RX2, "door", "()I"⟩
def dkwX2_door_0 : List UInt8 := [42, 182, 0, 65, 42, 180, 0, 31, 162, 0, 10, 42, 182, 0, 65, 167, 0, 4, 2, 172]
abbrev dktX2_door_0 : List UInt8 := dkwX2_door_0 ++ []
theorem dksX2_door_0 : cX2_door.data.toList.drop 0 = dktX2_door_0 := by decide +kernel
theorem dX2_door_0 : decode cX2_door 0 = .ok (.aload_n 0, 1) := dk_42 (dk_at dksX2_door_0 0 rfl rfl)
theorem dX2_door_1 : decode cX2_door 1 = .ok (.invokevirtual 65, 3) := dk_182 0 65 (dk_at dksX2_door_0 1 rfl rfl)
theorem dX2_door_4 : decode cX2_door 4 = .ok (.aload_n 0, 1) := dk_42 (dk_at dksX2_door_0 4 rfl rfl)
theorem dX2_door_5 : decode cX2_door 5 = .ok (.getfield 31, 3) := dk_180 0 31 (dk_at dksX2_door_0 5 rfl rfl)
theorem dX2_door_8 : decode cX2_door 8 = .ok (.if_icmp .ge 10, 3) := dk_162 0 10 (dk_at dksX2_door_0 8 rfl rfl)
theorem dX2_door_11 : decode cX2_door 11 = .ok (.aload_n 0, 1) := dk_42 (dk_at dksX2_door_0 11 rfl rfl)
theorem dX2_door_12 : decode cX2_door 12 = .ok (.invokevirtual 65, 3) := dk_182 0 65 (dk_at dksX2_door_0 12 rfl rfl)
theorem dX2_door_15 : decode cX2_door 15 = .ok (.goto 4, 3) := dk_167 0 4 (dk_at dksX2_door_0 15 rfl rfl)
theorem dX2_door_18 : decode cX2_door 18 = .ok (.iconst (-1), 1) := dk_2 (dk_at dksX2_door_0 18 rfl rfl)
theorem dX2_door_19 : decode cX2_door 19 = .ok (.ireturn, 1) := dk_172 (dk_at dksX2_door_0 19 rfl rfl)
abbrev cX2_paysAll : ByteArray := prog_7_method_14_code
def yX2_paysAll : MethodName := ⟨RX2, "paysAll", "(Z)I"⟩
def dkwX2_paysAll_1 : List UInt8 := [160, 0, 7, 3, 167, 0, 8, 42, 29, 182, 0, 90, 96, 61, 132, 3, 1, 167, 255, 220, 28, 172]
abbrev dktX2_paysAll_1 : List UInt8 := dkwX2_paysAll_1 ++ []
def dkwX2_paysAll_0 : List UInt8 := [3, 61, 3, 62, 29, 42, 180, 0, 31, 162, 0, 34, 28, 27, 153, 0, 16, 42, 29, 182, 0, 86, 2]
abbrev dktX2_paysAll_0 : List UInt8 := dkwX2_paysAll_0 ++ dktX2_paysAll_1
theorem dksX2_paysAll_0 : cX2_paysAll.data.toList.drop 0 = dktX2_paysAll_0 := by decide +kernel
theorem dksX2_paysAll_1 : cX2_paysAll.data.toList.drop 23 = dktX2_paysAll_1 := dk_seg dksX2_paysAll_0 23 rfl rfl
theorem dX2_paysAll_0 : decode cX2_paysAll 0 = .ok (.iconst 0, 1) := dk_3 (dk_at dksX2_paysAll_0 0 rfl rfl)
theorem dX2_paysAll_1 : decode cX2_paysAll 1 = .ok (.istore_n 2, 1) := dk_61 (dk_at dksX2_paysAll_0 1 rfl rfl)
theorem dX2_paysAll_2 : decode cX2_paysAll 2 = .ok (.iconst 0, 1) := dk_3 (dk_at dksX2_paysAll_0 2 rfl rfl)
theorem dX2_paysAll_3 : decode cX2_paysAll 3 = .ok (.istore_n 3, 1) := dk_62 (dk_at dksX2_paysAll_0 3 rfl rfl)
theorem dX2_paysAll_4 : decode cX2_paysAll 4 = .ok (.iload_n 3, 1) := dk_29 (dk_at dksX2_paysAll_0 4 rfl rfl)
theorem dX2_paysAll_5 : decode cX2_paysAll 5 = .ok (.aload_n 0, 1) := dk_42 (dk_at dksX2_paysAll_0 5 rfl rfl)
theorem dX2_paysAll_6 : decode cX2_paysAll 6 = .ok (.getfield 31, 3) := dk_180 0 31 (dk_at dksX2_paysAll_0 6 rfl rfl)
theorem dX2_paysAll_9 : decode cX2_paysAll 9 = .ok (.if_icmp .ge 34, 3) := dk_162 0 34 (dk_at dksX2_paysAll_0 9 rfl rfl)
theorem dX2_paysAll_12 : decode cX2_paysAll 12 = .ok (.iload_n 2, 1) := dk_28 (dk_at dksX2_paysAll_0 12 rfl rfl)
theorem dX2_paysAll_13 : decode cX2_paysAll 13 = .ok (.iload_n 1, 1) := dk_27 (dk_at dksX2_paysAll_0 13 rfl rfl)
theorem dX2_paysAll_14 : decode cX2_paysAll 14 = .ok (.ifCond .eq 16, 3) := dk_153 0 16 (dk_at dksX2_paysAll_0 14 rfl rfl)
theorem dX2_paysAll_17 : decode cX2_paysAll 17 = .ok (.aload_n 0, 1) := dk_42 (dk_at dksX2_paysAll_0 17 rfl rfl)
theorem dX2_paysAll_18 : decode cX2_paysAll 18 = .ok (.iload_n 3, 1) := dk_29 (dk_at dksX2_paysAll_0 18 rfl rfl)
theorem dX2_paysAll_19 : decode cX2_paysAll 19 = .ok (.invokevirtual 86, 3) := dk_182 0 86 (dk_at dksX2_paysAll_0 19 rfl rfl)
theorem dX2_paysAll_22 : decode cX2_paysAll 22 = .ok (.iconst (-1), 1) := dk_2 (dk_at dksX2_paysAll_0 22 rfl rfl)
theorem dX2_paysAll_23 : decode cX2_paysAll 23 = .ok (.if_icmp .ne 7, 3) := dk_160 0 7 (dk_at dksX2_paysAll_1 0 rfl rfl)
theorem dX2_paysAll_26 : decode cX2_paysAll 26 = .ok (.iconst 0, 1) := dk_3 (dk_at dksX2_paysAll_1 3 rfl rfl)
theorem dX2_paysAll_27 : decode cX2_paysAll 27 = .ok (.goto 8, 3) := dk_167 0 8 (dk_at dksX2_paysAll_1 4 rfl rfl)
theorem dX2_paysAll_30 : decode cX2_paysAll 30 = .ok (.aload_n 0, 1) := dk_42 (dk_at dksX2_paysAll_1 7 rfl rfl)
theorem dX2_paysAll_31 : decode cX2_paysAll 31 = .ok (.iload_n 3, 1) := dk_29 (dk_at dksX2_paysAll_1 8 rfl rfl)
theorem dX2_paysAll_32 : decode cX2_paysAll 32 = .ok (.invokevirtual 90, 3) := dk_182 0 90 (dk_at dksX2_paysAll_1 9 rfl rfl)
theorem dX2_paysAll_35 : decode cX2_paysAll 35 = .ok (.iadd, 1) := dk_96 (dk_at dksX2_paysAll_1 12 rfl rfl)
theorem dX2_paysAll_36 : decode cX2_paysAll 36 = .ok (.istore_n 2, 1) := dk_61 (dk_at dksX2_paysAll_1 13 rfl rfl)
theorem dX2_paysAll_37 : decode cX2_paysAll 37 = .ok (.iinc 3 1, 3) := dk_132 3 1 (dk_at dksX2_paysAll_1 14 rfl rfl)
theorem dX2_paysAll_40 : decode cX2_paysAll 40 = .ok (.goto (-36), 3) := dk_167 255 220 (dk_at dksX2_paysAll_1 17 rfl rfl)
theorem dX2_paysAll_43 : decode cX2_paysAll 43 = .ok (.iload_n 2, 1) := dk_28 (dk_at dksX2_paysAll_1 20 rfl rfl)
theorem dX2_paysAll_44 : decode cX2_paysAll 44 = .ok (.ireturn, 1) := dk_172 (dk_at dksX2_paysAll_1 21 rfl rfl)
abbrev cX2_away : ByteArray := prog_7_method_12_code
def yX2_away : MethodName := ⟨RX2, "away", "()I"⟩
def dkwX2_away_1 : List UInt8 := [46, 2, 160, 0, 7, 4, 167, 0, 4, 3, 96, 60, 132, 2, 1, 167, 255, 221, 27, 172]
abbrev dktX2_away_1 : List UInt8 := dkwX2_away_1 ++ []
def dkwX2_away_0 : List UInt8 := [3, 60, 3, 61, 28, 42, 180, 0, 3, 180, 0, 44, 180, 0, 56, 162, 0, 27, 27, 42, 180, 0, 15, 28]
abbrev dktX2_away_0 : List UInt8 := dkwX2_away_0 ++ dktX2_away_1
theorem dksX2_away_0 : cX2_away.data.toList.drop 0 = dktX2_away_0 := by decide +kernel
theorem dksX2_away_1 : cX2_away.data.toList.drop 24 = dktX2_away_1 := dk_seg dksX2_away_0 24 rfl rfl
theorem dX2_away_0 : decode cX2_away 0 = .ok (.iconst 0, 1) := dk_3 (dk_at dksX2_away_0 0 rfl rfl)
theorem dX2_away_1 : decode cX2_away 1 = .ok (.istore_n 1, 1) := dk_60 (dk_at dksX2_away_0 1 rfl rfl)
theorem dX2_away_2 : decode cX2_away 2 = .ok (.iconst 0, 1) := dk_3 (dk_at dksX2_away_0 2 rfl rfl)
theorem dX2_away_3 : decode cX2_away 3 = .ok (.istore_n 2, 1) := dk_61 (dk_at dksX2_away_0 3 rfl rfl)
theorem dX2_away_4 : decode cX2_away 4 = .ok (.iload_n 2, 1) := dk_28 (dk_at dksX2_away_0 4 rfl rfl)
theorem dX2_away_5 : decode cX2_away 5 = .ok (.aload_n 0, 1) := dk_42 (dk_at dksX2_away_0 5 rfl rfl)
theorem dX2_away_6 : decode cX2_away 6 = .ok (.getfield 3, 3) := dk_180 0 3 (dk_at dksX2_away_0 6 rfl rfl)
theorem dX2_away_9 : decode cX2_away 9 = .ok (.getfield 44, 3) := dk_180 0 44 (dk_at dksX2_away_0 9 rfl rfl)
theorem dX2_away_12 : decode cX2_away 12 = .ok (.getfield 56, 3) := dk_180 0 56 (dk_at dksX2_away_0 12 rfl rfl)
theorem dX2_away_15 : decode cX2_away 15 = .ok (.if_icmp .ge 27, 3) := dk_162 0 27 (dk_at dksX2_away_0 15 rfl rfl)
theorem dX2_away_18 : decode cX2_away 18 = .ok (.iload_n 1, 1) := dk_27 (dk_at dksX2_away_0 18 rfl rfl)
theorem dX2_away_19 : decode cX2_away 19 = .ok (.aload_n 0, 1) := dk_42 (dk_at dksX2_away_0 19 rfl rfl)
theorem dX2_away_20 : decode cX2_away 20 = .ok (.getfield 15, 3) := dk_180 0 15 (dk_at dksX2_away_0 20 rfl rfl)
theorem dX2_away_23 : decode cX2_away 23 = .ok (.iload_n 2, 1) := dk_28 (dk_at dksX2_away_0 23 rfl rfl)
theorem dX2_away_24 : decode cX2_away 24 = .ok (.iaload, 1) := dk_46 (dk_at dksX2_away_1 0 rfl rfl)
theorem dX2_away_25 : decode cX2_away 25 = .ok (.iconst (-1), 1) := dk_2 (dk_at dksX2_away_1 1 rfl rfl)
theorem dX2_away_26 : decode cX2_away 26 = .ok (.if_icmp .ne 7, 3) := dk_160 0 7 (dk_at dksX2_away_1 2 rfl rfl)
theorem dX2_away_29 : decode cX2_away 29 = .ok (.iconst 1, 1) := dk_4 (dk_at dksX2_away_1 5 rfl rfl)
theorem dX2_away_30 : decode cX2_away 30 = .ok (.goto 4, 3) := dk_167 0 4 (dk_at dksX2_away_1 6 rfl rfl)
theorem dX2_away_33 : decode cX2_away 33 = .ok (.iconst 0, 1) := dk_3 (dk_at dksX2_away_1 9 rfl rfl)
theorem dX2_away_34 : decode cX2_away 34 = .ok (.iadd, 1) := dk_96 (dk_at dksX2_away_1 10 rfl rfl)
theorem dX2_away_35 : decode cX2_away 35 = .ok (.istore_n 1, 1) := dk_60 (dk_at dksX2_away_1 11 rfl rfl)
theorem dX2_away_36 : decode cX2_away 36 = .ok (.iinc 2 1, 3) := dk_132 2 1 (dk_at dksX2_away_1 12 rfl rfl)
theorem dX2_away_39 : decode cX2_away 39 = .ok (.goto (-35), 3) := dk_167 255 221 (dk_at dksX2_away_1 15 rfl rfl)
theorem dX2_away_42 : decode cX2_away 42 = .ok (.iload_n 1, 1) := dk_27 (dk_at dksX2_away_1 18 rfl rfl)
theorem dX2_away_43 : decode cX2_away 43 = .ok (.ireturn, 1) := dk_172 (dk_at dksX2_away_1 19 rfl rfl)
theorem q129 : (Jvm.Cond.initialized "SunkTower$State") ∈ lw_all := lw_g (lw_at lw_m1 3 rfl) rfl
theorem q167 : (Jvm.Cond.fieldLinkNest "SunkTower$State" (52 : Nat) "SunkTower$Tower" "weight" "[I" "SunkTower") ∈ lw_tbl := lw_at lw_m1 41 rfl
theorem q170 : (Jvm.Cond.fieldLinkNest "SunkTower$State" (51 : Nat) "SunkTower$Tower" "goods" "[I" "SunkTower") ∈ lw_tbl := lw_at lw_m1 44 rfl
theorem q174 : (Jvm.Cond.fieldLinkNest "SunkTower$State" (92 : Nat) "SunkTower$Tower" "wants" "[I" "SunkTower") ∈ lw_tbl := lw_at lw_m1 48 rfl
theorem q177 : (Jvm.Cond.fieldLinkNest "SunkTower$State" (48 : Nat) "SunkTower$Tower" "on" "[I" "SunkTower") ∈ lw_tbl := lw_at lw_m1 51 rfl
theorem q180 : (Jvm.Cond.fieldLinkNest "SunkTower$State" (53 : Nat) "SunkTower$Tower" "storeys" "I" "SunkTower") ∈ lw_tbl := lw_at lw_m1 54 rfl
theorem q182 : (Jvm.Cond.fieldLinkNest "SunkTower$State" (56 : Nat) "SunkTower$Tower" "tenants" "I" "SunkTower") ∈ lw_tbl := lw_at lw_m1 56 rfl
theorem q185 : (Jvm.Cond.fieldLinkNest "SunkTower$State" (54 : Nat) "SunkTower$Tower" "sunk" "I" "SunkTower") ∈ lw_tbl := lw_at lw_m1 59 rfl
theorem q187 : (Jvm.Cond.fieldLinkNest "SunkTower$State" (55 : Nat) "SunkTower$Tower" "month" "I" "SunkTower") ∈ lw_tbl := lw_at lw_m1 61 rfl
theorem q191 : (Jvm.Cond.fieldLinkNest "SunkTower$State" (99 : Nat) "SunkTower$Tower" "heavy" "I" "SunkTower") ∈ lw_tbl := lw_at lw_m1 65 rfl
theorem q241 : (Jvm.Cond.instantiable "SunkTower$State" (8 : Nat)) ∈ lw_all := lw_g (lw_at lw_m1 115 rfl) rfl
theorem q243 : (Jvm.Cond.instanceMethod ({ cls := "SunkTower$State", name := "<init>", desc := "(LSunkTower;)V" } : Jvm.MethodName)) ∈ lw_all := lw_g (lw_at lw_m1 117 rfl) rfl
theorem q244 : (Jvm.Cond.code ({ cls := "SunkTower$State", name := "<init>", desc := "(LSunkTower;)V" } : Jvm.MethodName) prog_7_method_1_code (2 : Nat) (Option.none : Option Jvm.ClassFile.FieldType)) ∈ lw_all := lw_g (lw_at lw_m1 118 rfl) rfl
theorem q245 : (Jvm.Cond.methodLink "SunkTower$State" (9 : Nat) ({ cls := "java/lang/Object", name := "<init>", desc := "()V" } : Jvm.MethodName)) ∈ lw_all := lw_g (lw_at lw_m1 119 rfl) rfl
theorem q246 : (Jvm.Cond.fieldLink "SunkTower$State" (15 : Nat) "SunkTower$State" "on" "[I") ∈ lw_all := lw_g (lw_at lw_m1 120 rfl) rfl
theorem q248 : (Jvm.Cond.fieldLink "SunkTower$State" (19 : Nat) "SunkTower$State" "goods" "[I") ∈ lw_all := lw_g (lw_at lw_m1 122 rfl) rfl
theorem q250 : (Jvm.Cond.fieldLink "SunkTower$State" (22 : Nat) "SunkTower$State" "weight" "[I") ∈ lw_all := lw_g (lw_at lw_m1 124 rfl) rfl
theorem q252 : (Jvm.Cond.fieldLink "SunkTower$State" (31 : Nat) "SunkTower$State" "storeys" "I") ∈ lw_all := lw_g (lw_at lw_m1 126 rfl) rfl
theorem q254 : (Jvm.Cond.fieldLink "SunkTower$State" (35 : Nat) "SunkTower$State" "sunk" "I") ∈ lw_all := lw_g (lw_at lw_m1 128 rfl) rfl
theorem q256 : (Jvm.Cond.fieldLink "SunkTower$State" (38 : Nat) "SunkTower$State" "month" "I") ∈ lw_all := lw_g (lw_at lw_m1 130 rfl) rfl
theorem q258 : (Jvm.Cond.fieldLink "SunkTower$State" (41 : Nat) "SunkTower$State" "besides" "I") ∈ lw_all := lw_g (lw_at lw_m1 132 rfl) rfl
theorem q260 : (Jvm.Cond.fieldLink "SunkTower$State" (3 : Nat) "SunkTower$State" "this$0" "LSunkTower;") ∈ lw_all := lw_g (lw_at lw_m1 134 rfl) rfl
theorem q261 : (Jvm.Cond.laysFinal "SunkTower$State" "SunkTower$State" "on" "[I") ∈ lw_all := lw_g (lw_at lw_m1 135 rfl) rfl
theorem q262 : (Jvm.Cond.soleField "SunkTower$State" "on") ∈ lw_all := lw_g (lw_at lw_m1 136 rfl) rfl
theorem q263 : (Jvm.Cond.laysFinal "SunkTower$State" "SunkTower$State" "goods" "[I") ∈ lw_all := lw_g (lw_at lw_m1 137 rfl) rfl
theorem q264 : (Jvm.Cond.soleField "SunkTower$State" "goods") ∈ lw_all := lw_g (lw_at lw_m1 138 rfl) rfl
theorem q265 : (Jvm.Cond.laysFinal "SunkTower$State" "SunkTower$State" "weight" "[I") ∈ lw_all := lw_g (lw_at lw_m1 139 rfl) rfl
theorem q266 : (Jvm.Cond.soleField "SunkTower$State" "weight") ∈ lw_all := lw_g (lw_at lw_m1 140 rfl) rfl
theorem q267 : (Jvm.Cond.lays "SunkTower$State" "SunkTower$State" "storeys" "I") ∈ lw_all := lw_g (lw_at lw_m1 141 rfl) rfl
theorem q268 : (Jvm.Cond.soleField "SunkTower$State" "storeys") ∈ lw_all := lw_g (lw_at lw_m1 142 rfl) rfl
theorem q269 : (Jvm.Cond.lays "SunkTower$State" "SunkTower$State" "sunk" "I") ∈ lw_all := lw_g (lw_at lw_m1 143 rfl) rfl
theorem q270 : (Jvm.Cond.soleField "SunkTower$State" "sunk") ∈ lw_all := lw_g (lw_at lw_m1 144 rfl) rfl
theorem q271 : (Jvm.Cond.lays "SunkTower$State" "SunkTower$State" "month" "I") ∈ lw_all := lw_g (lw_at lw_m1 145 rfl) rfl
theorem q272 : (Jvm.Cond.soleField "SunkTower$State" "month") ∈ lw_all := lw_g (lw_at lw_m1 146 rfl) rfl
theorem q273 : (Jvm.Cond.lays "SunkTower$State" "SunkTower$State" "besides" "I") ∈ lw_all := lw_g (lw_at lw_m1 147 rfl) rfl
theorem q274 : (Jvm.Cond.soleField "SunkTower$State" "besides") ∈ lw_all := lw_g (lw_at lw_m1 148 rfl) rfl
theorem q275 : (Jvm.Cond.laysFinal "SunkTower$State" "SunkTower$State" "this$0" "LSunkTower;") ∈ lw_all := lw_g (lw_at lw_m1 149 rfl) rfl
theorem q276 : (Jvm.Cond.soleField "SunkTower$State" "this$0") ∈ lw_all := lw_g (lw_at lw_m1 150 rfl) rfl
theorem q277 : (Jvm.Cond.superclass "SunkTower$State" "java/lang/Object") ∈ lw_all := lw_g (lw_at lw_m1 151 rfl) rfl
theorem q297 : (Jvm.Cond.instanceMethod ({ cls := "SunkTower$State", name := "begins", desc := "()LSunkTower$State;" } : Jvm.MethodName)) ∈ lw_all := lw_g (lw_at lw_m1 171 rfl) rfl
theorem q298 : (Jvm.Cond.selects "SunkTower$State" ({ cls := "SunkTower$State", name := "begins", desc := "()LSunkTower$State;" } : Jvm.MethodName) ({ cls := "SunkTower$State", name := "begins", desc := "()LSunkTower$State;" } : Jvm.MethodName)) ∈ lw_all := lw_g (lw_at lw_m1 172 rfl) rfl
theorem q299 : (Jvm.Cond.code ({ cls := "SunkTower$State", name := "begins", desc := "()LSunkTower$State;" } : Jvm.MethodName) prog_7_method_3_code (1 : Nat) (Option.some (Jvm.ClassFile.FieldType.object "SunkTower$State"))) ∈ lw_all := lw_g (lw_at lw_m1 173 rfl) rfl
theorem q300 : (Jvm.Cond.methodLink "SunkTower$State" (25 : Nat) ({ cls := "java/lang/System", name := "arraycopy", desc := "(Ljava/lang/Object;ILjava/lang/Object;II)V" } : Jvm.MethodName)) ∈ lw_all := lw_g (lw_at lw_m1 174 rfl) rfl
theorem q303 : (Jvm.Cond.fieldLinkNest "SunkTower$State" (44 : Nat) "SunkTower" "its" "LSunkTower$Tower;" "SunkTower") ∈ lw_tbl := lw_at lw_m1 177 rfl
theorem q317 : (Jvm.Cond.fieldLinkNest "SunkTower$State" (146 : Nat) "SunkTower" "ringTo" "[I" "SunkTower") ∈ lw_tbl := lw_at lw_m1 191 rfl
theorem q754 : (Jvm.Cond.instanceMethod ({ cls := "SunkTower$State", name := "who", desc := "(I)I" } : Jvm.MethodName)) ∈ lw_all := lw_g (lw_at lw_m3 148 rfl) rfl
theorem q755 : (Jvm.Cond.selects "SunkTower$State" ({ cls := "SunkTower$State", name := "who", desc := "(I)I" } : Jvm.MethodName) ({ cls := "SunkTower$State", name := "who", desc := "(I)I" } : Jvm.MethodName)) ∈ lw_all := lw_g (lw_at lw_m3 149 rfl) rfl
theorem q756 : (Jvm.Cond.code ({ cls := "SunkTower$State", name := "who", desc := "(I)I" } : Jvm.MethodName) prog_7_method_11_code (3 : Nat) (Option.some Jvm.ClassFile.FieldType.int)) ∈ lw_all := lw_g (lw_at lw_m3 150 rfl) rfl
theorem q758 : (Jvm.Cond.instanceMethod ({ cls := "SunkTower$State", name := "isBuried", desc := "(I)Z" } : Jvm.MethodName)) ∈ lw_all := lw_g (lw_at lw_m3 152 rfl) rfl
theorem q759 : (Jvm.Cond.selects "SunkTower$State" ({ cls := "SunkTower$State", name := "isBuried", desc := "(I)Z" } : Jvm.MethodName) ({ cls := "SunkTower$State", name := "isBuried", desc := "(I)Z" } : Jvm.MethodName)) ∈ lw_all := lw_g (lw_at lw_m3 153 rfl) rfl
theorem q760 : (Jvm.Cond.code ({ cls := "SunkTower$State", name := "isBuried", desc := "(I)Z" } : Jvm.MethodName) prog_7_method_5_code (2 : Nat) (Option.some Jvm.ClassFile.FieldType.boolean)) ∈ lw_all := lw_g (lw_at lw_m3 154 rfl) rfl
theorem q777 : (Jvm.Cond.instanceMethod ({ cls := "SunkTower$State", name := "whole", desc := "()I" } : Jvm.MethodName)) ∈ lw_all := lw_g (lw_at lw_m3 171 rfl) rfl
theorem q778 : (Jvm.Cond.selects "SunkTower$State" ({ cls := "SunkTower$State", name := "whole", desc := "()I" } : Jvm.MethodName) ({ cls := "SunkTower$State", name := "whole", desc := "()I" } : Jvm.MethodName)) ∈ lw_all := lw_g (lw_at lw_m3 172 rfl) rfl
theorem q779 : (Jvm.Cond.code ({ cls := "SunkTower$State", name := "whole", desc := "()I" } : Jvm.MethodName) prog_7_method_4_code (3 : Nat) (Option.some Jvm.ClassFile.FieldType.int)) ∈ lw_all := lw_g (lw_at lw_m3 173 rfl) rfl
theorem q785 : (Jvm.Cond.instanceMethod ({ cls := "SunkTower$State", name := "inches", desc := "()I" } : Jvm.MethodName)) ∈ lw_all := lw_g (lw_at lw_m3 179 rfl) rfl
theorem q786 : (Jvm.Cond.selects "SunkTower$State" ({ cls := "SunkTower$State", name := "inches", desc := "()I" } : Jvm.MethodName) ({ cls := "SunkTower$State", name := "inches", desc := "()I" } : Jvm.MethodName)) ∈ lw_all := lw_g (lw_at lw_m3 180 rfl) rfl
theorem q787 : (Jvm.Cond.code ({ cls := "SunkTower$State", name := "inches", desc := "()I" } : Jvm.MethodName) prog_7_method_8_code (1 : Nat) (Option.some Jvm.ClassFile.FieldType.int)) ∈ lw_all := lw_g (lw_at lw_m3 181 rfl) rfl
theorem q788 : (Jvm.Cond.methodLink "SunkTower$State" (69 : Nat) ({ cls := "SunkTower$State", name := "whole", desc := "()I" } : Jvm.MethodName)) ∈ lw_all := lw_g (lw_at lw_m3 182 rfl) rfl
theorem q789 : (Jvm.Cond.methodLink "SunkTower$State" (65 : Nat) ({ cls := "SunkTower$State", name := "buried", desc := "()I" } : Jvm.MethodName)) ∈ lw_all := lw_g (lw_at lw_m3 183 rfl) rfl
theorem q790 : (Jvm.Cond.instanceMethod ({ cls := "SunkTower$State", name := "buried", desc := "()I" } : Jvm.MethodName)) ∈ lw_all := lw_g (lw_at lw_m3 184 rfl) rfl
theorem q791 : (Jvm.Cond.selects "SunkTower$State" ({ cls := "SunkTower$State", name := "buried", desc := "()I" } : Jvm.MethodName) ({ cls := "SunkTower$State", name := "buried", desc := "()I" } : Jvm.MethodName)) ∈ lw_all := lw_g (lw_at lw_m3 185 rfl) rfl
theorem q792 : (Jvm.Cond.code ({ cls := "SunkTower$State", name := "buried", desc := "()I" } : Jvm.MethodName) prog_7_method_6_code (1 : Nat) (Option.some Jvm.ClassFile.FieldType.int)) ∈ lw_all := lw_g (lw_at lw_m3 186 rfl) rfl
theorem q793 : (Jvm.Cond.methodLink "SunkTower$State" (59 : Nat) ({ cls := "java/lang/Math", name := "min", desc := "(II)I" } : Jvm.MethodName)) ∈ lw_all := lw_g (lw_at lw_m3 187 rfl) rfl
theorem q794 : (Jvm.Cond.methodLink "SunkTower$State" (72 : Nat) ({ cls := "SunkTower$Tower", name := "inches", desc := "(IIIII)I" } : Jvm.MethodName)) ∈ lw_all := lw_g (lw_at lw_m3 188 rfl) rfl
theorem q826 : (Jvm.Cond.instanceMethod ({ cls := "SunkTower$State", name := "pays", desc := "(I)I" } : Jvm.MethodName)) ∈ lw_all := lw_g (lw_at lw_m3 220 rfl) rfl
theorem q827 : (Jvm.Cond.selects "SunkTower$State" ({ cls := "SunkTower$State", name := "pays", desc := "(I)I" } : Jvm.MethodName) ({ cls := "SunkTower$State", name := "pays", desc := "(I)I" } : Jvm.MethodName)) ∈ lw_all := lw_g (lw_at lw_m3 221 rfl) rfl
theorem q828 : (Jvm.Cond.code ({ cls := "SunkTower$State", name := "pays", desc := "(I)I" } : Jvm.MethodName) prog_7_method_13_code (2 : Nat) (Option.some Jvm.ClassFile.FieldType.int)) ∈ lw_all := lw_g (lw_at lw_m3 222 rfl) rfl
theorem q829 : (Jvm.Cond.methodLink "SunkTower$State" (82 : Nat) ({ cls := "SunkTower$Tower", name := "pays", desc := "(III)I" } : Jvm.MethodName)) ∈ lw_all := lw_g (lw_at lw_m3 223 rfl) rfl
theorem q846 : (Jvm.Cond.instanceMethod ({ cls := "SunkTower$State", name := "worth", desc := "(II)I" } : Jvm.MethodName)) ∈ lw_all := lw_g (lw_at lw_m4 0 rfl) rfl
theorem q847 : (Jvm.Cond.selects "SunkTower$State" ({ cls := "SunkTower$State", name := "worth", desc := "(II)I" } : Jvm.MethodName) ({ cls := "SunkTower$State", name := "worth", desc := "(II)I" } : Jvm.MethodName)) ∈ lw_all := lw_g (lw_at lw_m4 1 rfl) rfl
theorem q848 : (Jvm.Cond.code ({ cls := "SunkTower$State", name := "worth", desc := "(II)I" } : Jvm.MethodName) prog_7_method_15_code (3 : Nat) (Option.some Jvm.ClassFile.FieldType.int)) ∈ lw_all := lw_g (lw_at lw_m4 2 rfl) rfl
theorem q849 : (Jvm.Cond.methodLink "SunkTower$State" (95 : Nat) ({ cls := "SunkTower$Tower", name := "worth", desc := "(IIZIII)I" } : Jvm.MethodName)) ∈ lw_all := lw_g (lw_at lw_m4 3 rfl) rfl
theorem q863 : (Jvm.Cond.instanceMethod ({ cls := "SunkTower$State", name := "be", desc := "(LSunkTower$State;)LSunkTower$State;" } : Jvm.MethodName)) ∈ lw_all := lw_g (lw_at lw_m4 17 rfl) rfl
theorem q864 : (Jvm.Cond.selects "SunkTower$State" ({ cls := "SunkTower$State", name := "be", desc := "(LSunkTower$State;)LSunkTower$State;" } : Jvm.MethodName) ({ cls := "SunkTower$State", name := "be", desc := "(LSunkTower$State;)LSunkTower$State;" } : Jvm.MethodName)) ∈ lw_all := lw_g (lw_at lw_m4 18 rfl) rfl
theorem q865 : (Jvm.Cond.code ({ cls := "SunkTower$State", name := "be", desc := "(LSunkTower$State;)LSunkTower$State;" } : Jvm.MethodName) prog_7_method_2_code (2 : Nat) (Option.some (Jvm.ClassFile.FieldType.object "SunkTower$State"))) ∈ lw_all := lw_g (lw_at lw_m4 19 rfl) rfl
theorem q868 : (Jvm.Cond.instanceMethod ({ cls := "SunkTower$State", name := "goesOn", desc := "(I)I" } : Jvm.MethodName)) ∈ lw_all := lw_g (lw_at lw_m4 22 rfl) rfl
theorem q869 : (Jvm.Cond.selects "SunkTower$State" ({ cls := "SunkTower$State", name := "goesOn", desc := "(I)I" } : Jvm.MethodName) ({ cls := "SunkTower$State", name := "goesOn", desc := "(I)I" } : Jvm.MethodName)) ∈ lw_all := lw_g (lw_at lw_m4 23 rfl) rfl
theorem q870 : (Jvm.Cond.code ({ cls := "SunkTower$State", name := "goesOn", desc := "(I)I" } : Jvm.MethodName) prog_7_method_10_code (4 : Nat) (Option.some Jvm.ClassFile.FieldType.int)) ∈ lw_all := lw_g (lw_at lw_m4 24 rfl) rfl
theorem q871 : (Jvm.Cond.methodLink "SunkTower$State" (79 : Nat) ({ cls := "SunkTower$State", name := "sinks", desc := "()I" } : Jvm.MethodName)) ∈ lw_all := lw_g (lw_at lw_m4 25 rfl) rfl
theorem q872 : (Jvm.Cond.instanceMethod ({ cls := "SunkTower$State", name := "sinks", desc := "()I" } : Jvm.MethodName)) ∈ lw_all := lw_g (lw_at lw_m4 26 rfl) rfl
theorem q873 : (Jvm.Cond.selects "SunkTower$State" ({ cls := "SunkTower$State", name := "sinks", desc := "()I" } : Jvm.MethodName) ({ cls := "SunkTower$State", name := "sinks", desc := "()I" } : Jvm.MethodName)) ∈ lw_all := lw_g (lw_at lw_m4 27 rfl) rfl
theorem q874 : (Jvm.Cond.code ({ cls := "SunkTower$State", name := "sinks", desc := "()I" } : Jvm.MethodName) prog_7_method_9_code (2 : Nat) (Option.some Jvm.ClassFile.FieldType.int)) ∈ lw_all := lw_g (lw_at lw_m4 28 rfl) rfl
theorem q875 : (Jvm.Cond.constant "SunkTower$State" (76 : Nat) (99999 : Int32)) ∈ lw_all := lw_g (lw_at lw_m4 29 rfl) rfl
theorem q876 : (Jvm.Cond.methodLink "SunkTower$State" (77 : Nat) ({ cls := "SunkTower$State", name := "inches", desc := "()I" } : Jvm.MethodName)) ∈ lw_all := lw_g (lw_at lw_m4 30 rfl) rfl
theorem q882 : (Jvm.Cond.instanceMethod ({ cls := "SunkTower$State", name := "builds", desc := "()V" } : Jvm.MethodName)) ∈ lw_all := lw_g (lw_at lw_m4 36 rfl) rfl
theorem q883 : (Jvm.Cond.selects "SunkTower$State" ({ cls := "SunkTower$State", name := "builds", desc := "()V" } : Jvm.MethodName) ({ cls := "SunkTower$State", name := "builds", desc := "()V" } : Jvm.MethodName)) ∈ lw_all := lw_g (lw_at lw_m4 37 rfl) rfl
theorem q884 : (Jvm.Cond.code ({ cls := "SunkTower$State", name := "builds", desc := "()V" } : Jvm.MethodName) prog_7_method_16_code (1 : Nat) (Option.none : Option Jvm.ClassFile.FieldType)) ∈ lw_all := lw_g (lw_at lw_m4 38 rfl) rfl
theorem q890 : (Jvm.Cond.instanceMethod ({ cls := "SunkTower$State", name := "whyMove", desc := "(JJ)I" } : Jvm.MethodName)) ∈ lw_all := lw_g (lw_at lw_m4 44 rfl) rfl
theorem q891 : (Jvm.Cond.selects "SunkTower$State" ({ cls := "SunkTower$State", name := "whyMove", desc := "(JJ)I" } : Jvm.MethodName) ({ cls := "SunkTower$State", name := "whyMove", desc := "(JJ)I" } : Jvm.MethodName)) ∈ lw_all := lw_g (lw_at lw_m4 45 rfl) rfl
theorem q892 : (Jvm.Cond.code ({ cls := "SunkTower$State", name := "whyMove", desc := "(JJ)I" } : Jvm.MethodName) prog_7_method_17_code (5 : Nat) (Option.some Jvm.ClassFile.FieldType.int)) ∈ lw_all := lw_g (lw_at lw_m4 46 rfl) rfl
theorem q893 : (Jvm.Cond.methodLinkNest "SunkTower$State" (102 : Nat) ({ cls := "SunkTower", name := "in", desc := "(JJJ)Z" } : Jvm.MethodName) "SunkTower") ∈ lw_tbl := lw_at lw_m4 47 rfl
theorem q894 : (Jvm.Cond.methodLink "SunkTower$State" (86 : Nat) ({ cls := "SunkTower$State", name := "who", desc := "(I)I" } : Jvm.MethodName)) ∈ lw_all := lw_g (lw_at lw_m4 48 rfl) rfl
theorem q895 : (Jvm.Cond.methodLink "SunkTower$State" (106 : Nat) ({ cls := "SunkTower$State", name := "isBuried", desc := "(I)Z" } : Jvm.MethodName)) ∈ lw_all := lw_g (lw_at lw_m4 49 rfl) rfl
theorem q901 : (Jvm.Cond.instanceMethod ({ cls := "SunkTower$State", name := "whyLeave", desc := "(J)I" } : Jvm.MethodName)) ∈ lw_all := lw_g (lw_at lw_m4 55 rfl) rfl
theorem q902 : (Jvm.Cond.selects "SunkTower$State" ({ cls := "SunkTower$State", name := "whyLeave", desc := "(J)I" } : Jvm.MethodName) ({ cls := "SunkTower$State", name := "whyLeave", desc := "(J)I" } : Jvm.MethodName)) ∈ lw_all := lw_g (lw_at lw_m4 56 rfl) rfl
theorem q903 : (Jvm.Cond.code ({ cls := "SunkTower$State", name := "whyLeave", desc := "(J)I" } : Jvm.MethodName) prog_7_method_18_code (3 : Nat) (Option.some Jvm.ClassFile.FieldType.int)) ∈ lw_all := lw_g (lw_at lw_m4 57 rfl) rfl
theorem q914 : (Jvm.Cond.instanceMethod ({ cls := "SunkTower$State", name := "round", desc := "()I" } : Jvm.MethodName)) ∈ lw_all := lw_g (lw_at lw_m4 68 rfl) rfl
theorem q915 : (Jvm.Cond.selects "SunkTower$State" ({ cls := "SunkTower$State", name := "round", desc := "()I" } : Jvm.MethodName) ({ cls := "SunkTower$State", name := "round", desc := "()I" } : Jvm.MethodName)) ∈ lw_all := lw_g (lw_at lw_m4 69 rfl) rfl
theorem q916 : (Jvm.Cond.code ({ cls := "SunkTower$State", name := "round", desc := "()I" } : Jvm.MethodName) prog_7_method_21_code (3 : Nat) (Option.some Jvm.ClassFile.FieldType.int)) ∈ lw_all := lw_g (lw_at lw_m4 70 rfl) rfl
theorem q917 : (Jvm.Cond.methodLinkNest "SunkTower$State" (142 : Nat) ({ cls := "SunkTower", name := "laysRings", desc := "(LSunkTower$State;)V" } : Jvm.MethodName) "SunkTower") ∈ lw_tbl := lw_at lw_m4 71 rfl
theorem q967 : (Jvm.Cond.instanceMethod ({ cls := "SunkTower$State", name := "why", desc := "(J)I" } : Jvm.MethodName)) ∈ lw_all := lw_g (lw_at lw_m4 121 rfl) rfl
theorem q968 : (Jvm.Cond.selects "SunkTower$State" ({ cls := "SunkTower$State", name := "why", desc := "(J)I" } : Jvm.MethodName) ({ cls := "SunkTower$State", name := "why", desc := "(J)I" } : Jvm.MethodName)) ∈ lw_all := lw_g (lw_at lw_m4 122 rfl) rfl
theorem q969 : (Jvm.Cond.code ({ cls := "SunkTower$State", name := "why", desc := "(J)I" } : Jvm.MethodName) prog_7_method_19_code (3 : Nat) (Option.some Jvm.ClassFile.FieldType.int)) ∈ lw_all := lw_g (lw_at lw_m4 123 rfl) rfl
theorem q970 : (Jvm.Cond.constantLong "SunkTower$State" (110 : Nat) (-1 : Int64)) ∈ lw_all := lw_g (lw_at lw_m4 124 rfl) rfl
theorem q971 : (Jvm.Cond.constantLong "SunkTower$State" (112 : Nat) (3000 : Int64)) ∈ lw_all := lw_g (lw_at lw_m4 125 rfl) rfl
theorem q972 : (Jvm.Cond.constantLong "SunkTower$State" (114 : Nat) (2000 : Int64)) ∈ lw_all := lw_g (lw_at lw_m4 126 rfl) rfl
theorem q973 : (Jvm.Cond.constantLong "SunkTower$State" (116 : Nat) (599 : Int64)) ∈ lw_all := lw_g (lw_at lw_m4 127 rfl) rfl
theorem q974 : (Jvm.Cond.constantLong "SunkTower$State" (118 : Nat) (100 : Int64)) ∈ lw_all := lw_g (lw_at lw_m4 128 rfl) rfl
theorem q975 : (Jvm.Cond.methodLink "SunkTower$State" (120 : Nat) ({ cls := "SunkTower$State", name := "whyMove", desc := "(JJ)I" } : Jvm.MethodName)) ∈ lw_all := lw_g (lw_at lw_m4 129 rfl) rfl
theorem q976 : (Jvm.Cond.constantLong "SunkTower$State" (124 : Nat) (1000 : Int64)) ∈ lw_all := lw_g (lw_at lw_m4 130 rfl) rfl
theorem q977 : (Jvm.Cond.constantLong "SunkTower$State" (126 : Nat) (1099 : Int64)) ∈ lw_all := lw_g (lw_at lw_m4 131 rfl) rfl
theorem q978 : (Jvm.Cond.methodLink "SunkTower$State" (128 : Nat) ({ cls := "SunkTower$State", name := "whyLeave", desc := "(J)I" } : Jvm.MethodName)) ∈ lw_all := lw_g (lw_at lw_m4 132 rfl) rfl
theorem q979 : (Jvm.Cond.constantLong "SunkTower$State" (132 : Nat) (10000 : Int64)) ∈ lw_all := lw_g (lw_at lw_m4 133 rfl) rfl
theorem q980 : (Jvm.Cond.constantLong "SunkTower$State" (134 : Nat) (15999 : Int64)) ∈ lw_all := lw_g (lw_at lw_m4 134 rfl) rfl
theorem q982 : (Jvm.Cond.instanceMethod ({ cls := "SunkTower$State", name := "does", desc := "(I)V" } : Jvm.MethodName)) ∈ lw_all := lw_g (lw_at lw_m4 136 rfl) rfl
theorem q983 : (Jvm.Cond.selects "SunkTower$State" ({ cls := "SunkTower$State", name := "does", desc := "(I)V" } : Jvm.MethodName) ({ cls := "SunkTower$State", name := "does", desc := "(I)V" } : Jvm.MethodName)) ∈ lw_all := lw_g (lw_at lw_m4 137 rfl) rfl
theorem q984 : (Jvm.Cond.code ({ cls := "SunkTower$State", name := "does", desc := "(I)V" } : Jvm.MethodName) prog_7_method_20_code (2 : Nat) (Option.none : Option Jvm.ClassFile.FieldType)) ∈ lw_all := lw_g (lw_at lw_m4 138 rfl) rfl
theorem q985 : (Jvm.Cond.methodLink "SunkTower$State" (136 : Nat) ({ cls := "SunkTower$State", name := "round", desc := "()I" } : Jvm.MethodName)) ∈ lw_all := lw_g (lw_at lw_m4 139 rfl) rfl
theorem q986 : (Jvm.Cond.methodLink "SunkTower$State" (139 : Nat) ({ cls := "SunkTower$State", name := "builds", desc := "()V" } : Jvm.MethodName)) ∈ lw_all := lw_g (lw_at lw_m4 140 rfl) rfl
theorem q1038 : (Jvm.Cond.instanceMethod ({ cls := "SunkTower$State", name := "door", desc := "()I" } : Jvm.MethodName)) ∈ lw_all := lw_g (lw_at lw_m4 192 rfl) rfl
theorem q1039 : (Jvm.Cond.selects "SunkTower$State" ({ cls := "SunkTower$State", name := "door", desc := "()I" } : Jvm.MethodName) ({ cls := "SunkTower$State", name := "door", desc := "()I" } : Jvm.MethodName)) ∈ lw_all := lw_g (lw_at lw_m4 193 rfl) rfl
theorem q1040 : (Jvm.Cond.code ({ cls := "SunkTower$State", name := "door", desc := "()I" } : Jvm.MethodName) prog_7_method_7_code (1 : Nat) (Option.some Jvm.ClassFile.FieldType.int)) ∈ lw_all := lw_g (lw_at lw_m4 194 rfl) rfl
theorem q1064 : (Jvm.Cond.instanceMethod ({ cls := "SunkTower$State", name := "paysAll", desc := "(Z)I" } : Jvm.MethodName)) ∈ lw_all := lw_g (lw_at lw_m4 218 rfl) rfl
theorem q1065 : (Jvm.Cond.selects "SunkTower$State" ({ cls := "SunkTower$State", name := "paysAll", desc := "(Z)I" } : Jvm.MethodName) ({ cls := "SunkTower$State", name := "paysAll", desc := "(Z)I" } : Jvm.MethodName)) ∈ lw_all := lw_g (lw_at lw_m4 219 rfl) rfl
theorem q1066 : (Jvm.Cond.code ({ cls := "SunkTower$State", name := "paysAll", desc := "(Z)I" } : Jvm.MethodName) prog_7_method_14_code (4 : Nat) (Option.some Jvm.ClassFile.FieldType.int)) ∈ lw_all := lw_g (lw_at lw_m4 220 rfl) rfl
theorem q1067 : (Jvm.Cond.methodLink "SunkTower$State" (90 : Nat) ({ cls := "SunkTower$State", name := "pays", desc := "(I)I" } : Jvm.MethodName)) ∈ lw_all := lw_g (lw_at lw_m4 221 rfl) rfl
theorem q1378 : (Jvm.Cond.instanceMethod ({ cls := "SunkTower$State", name := "away", desc := "()I" } : Jvm.MethodName)) ∈ lw_all := lw_g (lw_at lw_m6 52 rfl) rfl
theorem q1379 : (Jvm.Cond.selects "SunkTower$State" ({ cls := "SunkTower$State", name := "away", desc := "()I" } : Jvm.MethodName) ({ cls := "SunkTower$State", name := "away", desc := "()I" } : Jvm.MethodName)) ∈ lw_all := lw_g (lw_at lw_m6 53 rfl) rfl
theorem q1380 : (Jvm.Cond.code ({ cls := "SunkTower$State", name := "away", desc := "()I" } : Jvm.MethodName) prog_7_method_12_code (3 : Nat) (Option.some Jvm.ClassFile.FieldType.int)) ∈ lw_all := lw_g (lw_at lw_m6 54 rfl) rfl
theorem in_X2 : ∀ w ∈ wsX20, w ∈ lw_all := lw_in wsX20 [261, 263, 265, 267, 269, 271, 273, 275] (by decide +kernel) (by decide +kernel)
/-! SunkTower$Numbers -/
set_option maxRecDepth 100000
def RX3 : String := "SunkTower$Numbers"
def TX3 : u_T := fun k => match k with
  | _ => ("SunkTower$Numbers", "held", "Ljava/lang/Object;", false)
def tyX3 : Nat → FieldType := fun k => match k with
  | _ => .object "java/lang/Object"
abbrev wsX30 : List Cond := u_ws RX3 TX3 1
theorem nmX3 : ∀ a, a < 1 → ∀ b, b < 1 → a ≠ b → (TX3 a).2.1 ≠ (TX3 b).2.1 := by decide +kernel
theorem tyX3_ok : ∀ k, k < 1 → parseFieldDescriptor (TX3 k).2.2.1 = some (tyX3 k) := by decide +kernel
abbrev cX3_init : ByteArray := prog_3_method_1_code
def yX3_init : MethodName := ⟨RX3, "<init>", "()V"⟩
theorem dX3_init_0 : decode cX3_init 0 = .ok (.aload_n 0, 1) := by decide +kernel
theorem dX3_init_1 : decode cX3_init 1 = .ok (.invokespecial 1, 3) := by decide +kernel
theorem dX3_init_4 : decode cX3_init 4 = .ok (.return_, 1) := by decide +kernel
abbrev cX3_many : ByteArray := prog_3_method_3_code
def yX3_many : MethodName := ⟨RX3, "many", "()I"⟩
def dkwX3_many_2 : List UInt8 := [153, 0, 14, 42, 180, 0, 7, 192, 0, 19, 190, 167, 0, 11, 42, 180, 0, 7, 192, 0, 21, 190, 172]
abbrev dktX3_many_2 : List UInt8 := dkwX3_many_2 ++ []
def dkwX3_many_1 : List UInt8 := [193, 0, 17, 153, 0, 12, 42, 180, 0, 7, 192, 0, 17, 190, 172, 42, 180, 0, 7, 193, 0, 19]
abbrev dktX3_many_1 : List UInt8 := dkwX3_many_1 ++ dktX3_many_2
def dkwX3_many_0 : List UInt8 := [42, 180, 0, 7, 193, 0, 15, 153, 0, 12, 42, 180, 0, 7, 192, 0, 15, 190, 172, 42, 180, 0, 7]
abbrev dktX3_many_0 : List UInt8 := dkwX3_many_0 ++ dktX3_many_1
theorem dksX3_many_0 : cX3_many.data.toList.drop 0 = dktX3_many_0 := by decide +kernel
theorem dksX3_many_1 : cX3_many.data.toList.drop 23 = dktX3_many_1 := dk_seg dksX3_many_0 23 rfl rfl
theorem dksX3_many_2 : cX3_many.data.toList.drop 45 = dktX3_many_2 := dk_seg dksX3_many_1 22 rfl rfl
theorem dX3_many_0 : decode cX3_many 0 = .ok (.aload_n 0, 1) := dk_42 (dk_at dksX3_many_0 0 rfl rfl)
theorem dX3_many_1 : decode cX3_many 1 = .ok (.getfield 7, 3) := dk_180 0 7 (dk_at dksX3_many_0 1 rfl rfl)
theorem dX3_many_4 : decode cX3_many 4 = .ok (.instanceof 15, 3) := dk_193 0 15 (dk_at dksX3_many_0 4 rfl rfl)
theorem dX3_many_7 : decode cX3_many 7 = .ok (.ifCond .eq 12, 3) := dk_153 0 12 (dk_at dksX3_many_0 7 rfl rfl)
theorem dX3_many_10 : decode cX3_many 10 = .ok (.aload_n 0, 1) := dk_42 (dk_at dksX3_many_0 10 rfl rfl)
theorem dX3_many_11 : decode cX3_many 11 = .ok (.getfield 7, 3) := dk_180 0 7 (dk_at dksX3_many_0 11 rfl rfl)
theorem dX3_many_14 : decode cX3_many 14 = .ok (.checkcast 15, 3) := dk_192 0 15 (dk_at dksX3_many_0 14 rfl rfl)
theorem dX3_many_17 : decode cX3_many 17 = .ok (.arraylength, 1) := dk_190 (dk_at dksX3_many_0 17 rfl rfl)
theorem dX3_many_18 : decode cX3_many 18 = .ok (.ireturn, 1) := dk_172 (dk_at dksX3_many_0 18 rfl rfl)
theorem dX3_many_19 : decode cX3_many 19 = .ok (.aload_n 0, 1) := dk_42 (dk_at dksX3_many_0 19 rfl rfl)
theorem dX3_many_20 : decode cX3_many 20 = .ok (.getfield 7, 3) := dk_180 0 7 (dk_at dksX3_many_0 20 rfl rfl)
theorem dX3_many_23 : decode cX3_many 23 = .ok (.instanceof 17, 3) := dk_193 0 17 (dk_at dksX3_many_1 0 rfl rfl)
theorem dX3_many_26 : decode cX3_many 26 = .ok (.ifCond .eq 12, 3) := dk_153 0 12 (dk_at dksX3_many_1 3 rfl rfl)
theorem dX3_many_29 : decode cX3_many 29 = .ok (.aload_n 0, 1) := dk_42 (dk_at dksX3_many_1 6 rfl rfl)
theorem dX3_many_30 : decode cX3_many 30 = .ok (.getfield 7, 3) := dk_180 0 7 (dk_at dksX3_many_1 7 rfl rfl)
theorem dX3_many_33 : decode cX3_many 33 = .ok (.checkcast 17, 3) := dk_192 0 17 (dk_at dksX3_many_1 10 rfl rfl)
theorem dX3_many_36 : decode cX3_many 36 = .ok (.arraylength, 1) := dk_190 (dk_at dksX3_many_1 13 rfl rfl)
theorem dX3_many_37 : decode cX3_many 37 = .ok (.ireturn, 1) := dk_172 (dk_at dksX3_many_1 14 rfl rfl)
theorem dX3_many_38 : decode cX3_many 38 = .ok (.aload_n 0, 1) := dk_42 (dk_at dksX3_many_1 15 rfl rfl)
theorem dX3_many_39 : decode cX3_many 39 = .ok (.getfield 7, 3) := dk_180 0 7 (dk_at dksX3_many_1 16 rfl rfl)
theorem dX3_many_42 : decode cX3_many 42 = .ok (.instanceof 19, 3) := dk_193 0 19 (dk_at dksX3_many_1 19 rfl rfl)
theorem dX3_many_45 : decode cX3_many 45 = .ok (.ifCond .eq 14, 3) := dk_153 0 14 (dk_at dksX3_many_2 0 rfl rfl)
theorem dX3_many_48 : decode cX3_many 48 = .ok (.aload_n 0, 1) := dk_42 (dk_at dksX3_many_2 3 rfl rfl)
theorem dX3_many_49 : decode cX3_many 49 = .ok (.getfield 7, 3) := dk_180 0 7 (dk_at dksX3_many_2 4 rfl rfl)
theorem dX3_many_52 : decode cX3_many 52 = .ok (.checkcast 19, 3) := dk_192 0 19 (dk_at dksX3_many_2 7 rfl rfl)
theorem dX3_many_55 : decode cX3_many 55 = .ok (.arraylength, 1) := dk_190 (dk_at dksX3_many_2 10 rfl rfl)
theorem dX3_many_56 : decode cX3_many 56 = .ok (.goto 11, 3) := dk_167 0 11 (dk_at dksX3_many_2 11 rfl rfl)
theorem dX3_many_59 : decode cX3_many 59 = .ok (.aload_n 0, 1) := dk_42 (dk_at dksX3_many_2 14 rfl rfl)
theorem dX3_many_60 : decode cX3_many 60 = .ok (.getfield 7, 3) := dk_180 0 7 (dk_at dksX3_many_2 15 rfl rfl)
theorem dX3_many_63 : decode cX3_many 63 = .ok (.checkcast 21, 3) := dk_192 0 21 (dk_at dksX3_many_2 18 rfl rfl)
theorem dX3_many_66 : decode cX3_many 66 = .ok (.arraylength, 1) := dk_190 (dk_at dksX3_many_2 21 rfl rfl)
theorem dX3_many_67 : decode cX3_many 67 = .ok (.ireturn, 1) := dk_172 (dk_at dksX3_many_2 22 rfl rfl)
abbrev cX3_number : ByteArray := prog_3_method_4_code
def yX3_number : MethodName := ⟨RX3, "number", "(I)J"⟩
def dkwX3_number_3 : List UInt8 := [192, 0, 21, 27, 47, 173]
abbrev dktX3_number_3 : List UInt8 := dkwX3_number_3 ++ []
def dkwX3_number_2 : List UInt8 := [193, 0, 19, 153, 0, 16, 42, 180, 0, 7, 192, 0, 19, 27, 46, 133, 167, 0, 12, 42, 180, 0, 7]
abbrev dktX3_number_2 : List UInt8 := dkwX3_number_2 ++ dktX3_number_3
def dkwX3_number_1 : List UInt8 := [180, 0, 7, 193, 0, 17, 153, 0, 14, 42, 180, 0, 7, 192, 0, 17, 27, 53, 133, 173, 42, 180, 0, 7]
abbrev dktX3_number_1 : List UInt8 := dkwX3_number_1 ++ dktX3_number_2
def dkwX3_number_0 : List UInt8 := [42, 180, 0, 7, 193, 0, 15, 153, 0, 14, 42, 180, 0, 7, 192, 0, 15, 27, 51, 133, 173, 42]
abbrev dktX3_number_0 : List UInt8 := dkwX3_number_0 ++ dktX3_number_1
theorem dksX3_number_0 : cX3_number.data.toList.drop 0 = dktX3_number_0 := by decide +kernel
theorem dksX3_number_1 : cX3_number.data.toList.drop 22 = dktX3_number_1 := dk_seg dksX3_number_0 22 rfl rfl
theorem dksX3_number_2 : cX3_number.data.toList.drop 46 = dktX3_number_2 := dk_seg dksX3_number_1 24 rfl rfl
theorem dksX3_number_3 : cX3_number.data.toList.drop 69 = dktX3_number_3 := dk_seg dksX3_number_2 23 rfl rfl
theorem dX3_number_0 : decode cX3_number 0 = .ok (.aload_n 0, 1) := dk_42 (dk_at dksX3_number_0 0 rfl rfl)
theorem dX3_number_1 : decode cX3_number 1 = .ok (.getfield 7, 3) := dk_180 0 7 (dk_at dksX3_number_0 1 rfl rfl)
theorem dX3_number_4 : decode cX3_number 4 = .ok (.instanceof 15, 3) := dk_193 0 15 (dk_at dksX3_number_0 4 rfl rfl)
theorem dX3_number_7 : decode cX3_number 7 = .ok (.ifCond .eq 14, 3) := dk_153 0 14 (dk_at dksX3_number_0 7 rfl rfl)
theorem dX3_number_10 : decode cX3_number 10 = .ok (.aload_n 0, 1) := dk_42 (dk_at dksX3_number_0 10 rfl rfl)
theorem dX3_number_11 : decode cX3_number 11 = .ok (.getfield 7, 3) := dk_180 0 7 (dk_at dksX3_number_0 11 rfl rfl)
theorem dX3_number_14 : decode cX3_number 14 = .ok (.checkcast 15, 3) := dk_192 0 15 (dk_at dksX3_number_0 14 rfl rfl)
theorem dX3_number_17 : decode cX3_number 17 = .ok (.iload_n 1, 1) := dk_27 (dk_at dksX3_number_0 17 rfl rfl)
theorem dX3_number_18 : decode cX3_number 18 = .ok (.baload, 1) := dk_51 (dk_at dksX3_number_0 18 rfl rfl)
theorem dX3_number_19 : decode cX3_number 19 = .ok (.i2l, 1) := dk_133 (dk_at dksX3_number_0 19 rfl rfl)
theorem dX3_number_20 : decode cX3_number 20 = .ok (.lreturn, 1) := dk_173 (dk_at dksX3_number_0 20 rfl rfl)
theorem dX3_number_21 : decode cX3_number 21 = .ok (.aload_n 0, 1) := dk_42 (dk_at dksX3_number_0 21 rfl rfl)
theorem dX3_number_22 : decode cX3_number 22 = .ok (.getfield 7, 3) := dk_180 0 7 (dk_at dksX3_number_1 0 rfl rfl)
theorem dX3_number_25 : decode cX3_number 25 = .ok (.instanceof 17, 3) := dk_193 0 17 (dk_at dksX3_number_1 3 rfl rfl)
theorem dX3_number_28 : decode cX3_number 28 = .ok (.ifCond .eq 14, 3) := dk_153 0 14 (dk_at dksX3_number_1 6 rfl rfl)
theorem dX3_number_31 : decode cX3_number 31 = .ok (.aload_n 0, 1) := dk_42 (dk_at dksX3_number_1 9 rfl rfl)
theorem dX3_number_32 : decode cX3_number 32 = .ok (.getfield 7, 3) := dk_180 0 7 (dk_at dksX3_number_1 10 rfl rfl)
theorem dX3_number_35 : decode cX3_number 35 = .ok (.checkcast 17, 3) := dk_192 0 17 (dk_at dksX3_number_1 13 rfl rfl)
theorem dX3_number_38 : decode cX3_number 38 = .ok (.iload_n 1, 1) := dk_27 (dk_at dksX3_number_1 16 rfl rfl)
theorem dX3_number_39 : decode cX3_number 39 = .ok (.saload, 1) := dk_53 (dk_at dksX3_number_1 17 rfl rfl)
theorem dX3_number_40 : decode cX3_number 40 = .ok (.i2l, 1) := dk_133 (dk_at dksX3_number_1 18 rfl rfl)
theorem dX3_number_41 : decode cX3_number 41 = .ok (.lreturn, 1) := dk_173 (dk_at dksX3_number_1 19 rfl rfl)
theorem dX3_number_42 : decode cX3_number 42 = .ok (.aload_n 0, 1) := dk_42 (dk_at dksX3_number_1 20 rfl rfl)
theorem dX3_number_43 : decode cX3_number 43 = .ok (.getfield 7, 3) := dk_180 0 7 (dk_at dksX3_number_1 21 rfl rfl)
theorem dX3_number_46 : decode cX3_number 46 = .ok (.instanceof 19, 3) := dk_193 0 19 (dk_at dksX3_number_2 0 rfl rfl)
theorem dX3_number_49 : decode cX3_number 49 = .ok (.ifCond .eq 16, 3) := dk_153 0 16 (dk_at dksX3_number_2 3 rfl rfl)
theorem dX3_number_52 : decode cX3_number 52 = .ok (.aload_n 0, 1) := dk_42 (dk_at dksX3_number_2 6 rfl rfl)
theorem dX3_number_53 : decode cX3_number 53 = .ok (.getfield 7, 3) := dk_180 0 7 (dk_at dksX3_number_2 7 rfl rfl)
theorem dX3_number_56 : decode cX3_number 56 = .ok (.checkcast 19, 3) := dk_192 0 19 (dk_at dksX3_number_2 10 rfl rfl)
theorem dX3_number_59 : decode cX3_number 59 = .ok (.iload_n 1, 1) := dk_27 (dk_at dksX3_number_2 13 rfl rfl)
theorem dX3_number_60 : decode cX3_number 60 = .ok (.iaload, 1) := dk_46 (dk_at dksX3_number_2 14 rfl rfl)
theorem dX3_number_61 : decode cX3_number 61 = .ok (.i2l, 1) := dk_133 (dk_at dksX3_number_2 15 rfl rfl)
theorem dX3_number_62 : decode cX3_number 62 = .ok (.goto 12, 3) := dk_167 0 12 (dk_at dksX3_number_2 16 rfl rfl)
theorem dX3_number_65 : decode cX3_number 65 = .ok (.aload_n 0, 1) := dk_42 (dk_at dksX3_number_2 19 rfl rfl)
theorem dX3_number_66 : decode cX3_number 66 = .ok (.getfield 7, 3) := dk_180 0 7 (dk_at dksX3_number_2 20 rfl rfl)
theorem dX3_number_69 : decode cX3_number 69 = .ok (.checkcast 21, 3) := dk_192 0 21 (dk_at dksX3_number_3 0 rfl rfl)
theorem dX3_number_72 : decode cX3_number 72 = .ok (.iload_n 1, 1) := dk_27 (dk_at dksX3_number_3 3 rfl rfl)
theorem dX3_number_73 : decode cX3_number 73 = .ok (.laload, 1) := dk_47 (dk_at dksX3_number_3 4 rfl rfl)
theorem dX3_number_74 : decode cX3_number 74 = .ok (.lreturn, 1) := dk_173 (dk_at dksX3_number_3 5 rfl rfl)
abbrev cX3_begins : ByteArray := prog_3_method_2_code
def yX3_begins : MethodName := ⟨RX3, "begins", "(II)Z"⟩
def dkwX3_begins_3 : List UInt8 := [181, 0, 7, 167, 0, 10, 42, 28, 188, 11, 181, 0, 7, 4, 172, 78, 3, 172]
abbrev dktX3_begins_3 : List UInt8 := dkwX3_begins_3 ++ []
def dkwX3_begins_2 : List UInt8 := [42, 28, 188, 8, 181, 0, 7, 167, 0, 30, 42, 28, 188, 9, 181, 0, 7, 167, 0, 20, 42, 28, 188, 10]
abbrev dktX3_begins_2 : List UInt8 := dkwX3_begins_2 ++ dktX3_begins_3
def dkwX3_begins_1 : List UInt8 := [170, 0, 0, 0, 0, 0, 57, 0, 0, 0, 0, 0, 0, 0, 2, 0, 0, 0, 27, 0, 0, 0, 37, 0, 0, 0, 47]
abbrev dktX3_begins_1 : List UInt8 := dkwX3_begins_1 ++ dktX3_begins_2
def dkwX3_begins_0 : List UInt8 := [27]
abbrev dktX3_begins_0 : List UInt8 := dkwX3_begins_0 ++ dktX3_begins_1
theorem dksX3_begins_0 : cX3_begins.data.toList.drop 0 = dktX3_begins_0 := by decide +kernel
theorem dksX3_begins_1 : cX3_begins.data.toList.drop 1 = dktX3_begins_1 := dk_seg dksX3_begins_0 1 rfl rfl
theorem dksX3_begins_2 : cX3_begins.data.toList.drop 28 = dktX3_begins_2 := dk_seg dksX3_begins_1 27 rfl rfl
theorem dksX3_begins_3 : cX3_begins.data.toList.drop 52 = dktX3_begins_3 := dk_seg dksX3_begins_2 24 rfl rfl
theorem dX3_begins_0 : decode cX3_begins 0 = .ok (.iload_n 1, 1) := dk_27 (dk_at dksX3_begins_0 0 rfl rfl)
theorem dX3_begins_1 : decode cX3_begins 1 = .ok (.tableswitch 57 0 2 #[27, 37, 47], 27) := by decide +kernel
theorem dX3_begins_28 : decode cX3_begins 28 = .ok (.aload_n 0, 1) := dk_42 (dk_at dksX3_begins_2 0 rfl rfl)
theorem dX3_begins_29 : decode cX3_begins 29 = .ok (.iload_n 2, 1) := dk_28 (dk_at dksX3_begins_2 1 rfl rfl)
theorem dX3_begins_30 : decode cX3_begins 30 = .ok (.newarray .byte, 2) := dk_188_8 (dk_at dksX3_begins_2 2 rfl rfl)
theorem dX3_begins_32 : decode cX3_begins 32 = .ok (.putfield 7, 3) := dk_181 0 7 (dk_at dksX3_begins_2 4 rfl rfl)
theorem dX3_begins_35 : decode cX3_begins 35 = .ok (.goto 30, 3) := dk_167 0 30 (dk_at dksX3_begins_2 7 rfl rfl)
theorem dX3_begins_38 : decode cX3_begins 38 = .ok (.aload_n 0, 1) := dk_42 (dk_at dksX3_begins_2 10 rfl rfl)
theorem dX3_begins_39 : decode cX3_begins 39 = .ok (.iload_n 2, 1) := dk_28 (dk_at dksX3_begins_2 11 rfl rfl)
theorem dX3_begins_40 : decode cX3_begins 40 = .ok (.newarray .short, 2) := dk_188_9 (dk_at dksX3_begins_2 12 rfl rfl)
theorem dX3_begins_42 : decode cX3_begins 42 = .ok (.putfield 7, 3) := dk_181 0 7 (dk_at dksX3_begins_2 14 rfl rfl)
theorem dX3_begins_45 : decode cX3_begins 45 = .ok (.goto 20, 3) := dk_167 0 20 (dk_at dksX3_begins_2 17 rfl rfl)
theorem dX3_begins_48 : decode cX3_begins 48 = .ok (.aload_n 0, 1) := dk_42 (dk_at dksX3_begins_2 20 rfl rfl)
theorem dX3_begins_49 : decode cX3_begins 49 = .ok (.iload_n 2, 1) := dk_28 (dk_at dksX3_begins_2 21 rfl rfl)
theorem dX3_begins_50 : decode cX3_begins 50 = .ok (.newarray .int, 2) := dk_188_10 (dk_at dksX3_begins_2 22 rfl rfl)
theorem dX3_begins_52 : decode cX3_begins 52 = .ok (.putfield 7, 3) := dk_181 0 7 (dk_at dksX3_begins_3 0 rfl rfl)
theorem dX3_begins_55 : decode cX3_begins 55 = .ok (.goto 10, 3) := dk_167 0 10 (dk_at dksX3_begins_3 3 rfl rfl)
theorem dX3_begins_58 : decode cX3_begins 58 = .ok (.aload_n 0, 1) := dk_42 (dk_at dksX3_begins_3 6 rfl rfl)
theorem dX3_begins_59 : decode cX3_begins 59 = .ok (.iload_n 2, 1) := dk_28 (dk_at dksX3_begins_3 7 rfl rfl)
theorem dX3_begins_60 : decode cX3_begins 60 = .ok (.newarray .long, 2) := dk_188_11 (dk_at dksX3_begins_3 8 rfl rfl)
theorem dX3_begins_62 : decode cX3_begins 62 = .ok (.putfield 7, 3) := dk_181 0 7 (dk_at dksX3_begins_3 10 rfl rfl)
theorem dX3_begins_65 : decode cX3_begins 65 = .ok (.iconst 1, 1) := dk_4 (dk_at dksX3_begins_3 13 rfl rfl)
theorem dX3_begins_66 : decode cX3_begins 66 = .ok (.ireturn, 1) := dk_172 (dk_at dksX3_begins_3 14 rfl rfl)
theorem dX3_begins_67 : decode cX3_begins 67 = .ok (.astore_n 3, 1) := dk_78 (dk_at dksX3_begins_3 15 rfl rfl)
theorem dX3_begins_68 : decode cX3_begins 68 = .ok (.iconst 0, 1) := dk_3 (dk_at dksX3_begins_3 16 rfl rfl)
theorem dX3_begins_69 : decode cX3_begins 69 = .ok (.ireturn, 1) := dk_172 (dk_at dksX3_begins_3 17 rfl rfl)
abbrev cX3_puts : ByteArray := prog_3_method_5_code
def yX3_puts : MethodName := ⟨RX3, "puts", "(IJ)V"⟩
def dkwX3_puts_3 : List UInt8 := [79, 167, 0, 13, 42, 180, 0, 7, 192, 0, 21, 27, 32, 80, 177]
abbrev dktX3_puts_3 : List UInt8 := dkwX3_puts_3 ++ []
def dkwX3_puts_2 : List UInt8 := [86, 167, 0, 37, 42, 180, 0, 7, 193, 0, 19, 153, 0, 17, 42, 180, 0, 7, 192, 0, 19, 27, 32, 136]
abbrev dktX3_puts_2 : List UInt8 := dkwX3_puts_2 ++ dktX3_puts_3
def dkwX3_puts_1 : List UInt8 := [167, 0, 62, 42, 180, 0, 7, 193, 0, 17, 153, 0, 18, 42, 180, 0, 7, 192, 0, 17, 27, 32, 136, 147]
abbrev dktX3_puts_1 : List UInt8 := dkwX3_puts_1 ++ dktX3_puts_2
def dkwX3_puts_0 : List UInt8 := [42, 180, 0, 7, 193, 0, 15, 153, 0, 18, 42, 180, 0, 7, 192, 0, 15, 27, 32, 136, 145, 84]
abbrev dktX3_puts_0 : List UInt8 := dkwX3_puts_0 ++ dktX3_puts_1
theorem dksX3_puts_0 : cX3_puts.data.toList.drop 0 = dktX3_puts_0 := by decide +kernel
theorem dksX3_puts_1 : cX3_puts.data.toList.drop 22 = dktX3_puts_1 := dk_seg dksX3_puts_0 22 rfl rfl
theorem dksX3_puts_2 : cX3_puts.data.toList.drop 46 = dktX3_puts_2 := dk_seg dksX3_puts_1 24 rfl rfl
theorem dksX3_puts_3 : cX3_puts.data.toList.drop 70 = dktX3_puts_3 := dk_seg dksX3_puts_2 24 rfl rfl
theorem dX3_puts_0 : decode cX3_puts 0 = .ok (.aload_n 0, 1) := dk_42 (dk_at dksX3_puts_0 0 rfl rfl)
theorem dX3_puts_1 : decode cX3_puts 1 = .ok (.getfield 7, 3) := dk_180 0 7 (dk_at dksX3_puts_0 1 rfl rfl)
theorem dX3_puts_4 : decode cX3_puts 4 = .ok (.instanceof 15, 3) := dk_193 0 15 (dk_at dksX3_puts_0 4 rfl rfl)
theorem dX3_puts_7 : decode cX3_puts 7 = .ok (.ifCond .eq 18, 3) := dk_153 0 18 (dk_at dksX3_puts_0 7 rfl rfl)
theorem dX3_puts_10 : decode cX3_puts 10 = .ok (.aload_n 0, 1) := dk_42 (dk_at dksX3_puts_0 10 rfl rfl)
theorem dX3_puts_11 : decode cX3_puts 11 = .ok (.getfield 7, 3) := dk_180 0 7 (dk_at dksX3_puts_0 11 rfl rfl)
theorem dX3_puts_14 : decode cX3_puts 14 = .ok (.checkcast 15, 3) := dk_192 0 15 (dk_at dksX3_puts_0 14 rfl rfl)
theorem dX3_puts_17 : decode cX3_puts 17 = .ok (.iload_n 1, 1) := dk_27 (dk_at dksX3_puts_0 17 rfl rfl)
theorem dX3_puts_18 : decode cX3_puts 18 = .ok (.lload_n 2, 1) := dk_32 (dk_at dksX3_puts_0 18 rfl rfl)
theorem dX3_puts_19 : decode cX3_puts 19 = .ok (.l2i, 1) := dk_136 (dk_at dksX3_puts_0 19 rfl rfl)
theorem dX3_puts_20 : decode cX3_puts 20 = .ok (.i2b, 1) := dk_145 (dk_at dksX3_puts_0 20 rfl rfl)
theorem dX3_puts_21 : decode cX3_puts 21 = .ok (.bastore, 1) := dk_84 (dk_at dksX3_puts_0 21 rfl rfl)
theorem dX3_puts_22 : decode cX3_puts 22 = .ok (.goto 62, 3) := dk_167 0 62 (dk_at dksX3_puts_1 0 rfl rfl)
theorem dX3_puts_25 : decode cX3_puts 25 = .ok (.aload_n 0, 1) := dk_42 (dk_at dksX3_puts_1 3 rfl rfl)
theorem dX3_puts_26 : decode cX3_puts 26 = .ok (.getfield 7, 3) := dk_180 0 7 (dk_at dksX3_puts_1 4 rfl rfl)
theorem dX3_puts_29 : decode cX3_puts 29 = .ok (.instanceof 17, 3) := dk_193 0 17 (dk_at dksX3_puts_1 7 rfl rfl)
theorem dX3_puts_32 : decode cX3_puts 32 = .ok (.ifCond .eq 18, 3) := dk_153 0 18 (dk_at dksX3_puts_1 10 rfl rfl)
theorem dX3_puts_35 : decode cX3_puts 35 = .ok (.aload_n 0, 1) := dk_42 (dk_at dksX3_puts_1 13 rfl rfl)
theorem dX3_puts_36 : decode cX3_puts 36 = .ok (.getfield 7, 3) := dk_180 0 7 (dk_at dksX3_puts_1 14 rfl rfl)
theorem dX3_puts_39 : decode cX3_puts 39 = .ok (.checkcast 17, 3) := dk_192 0 17 (dk_at dksX3_puts_1 17 rfl rfl)
theorem dX3_puts_42 : decode cX3_puts 42 = .ok (.iload_n 1, 1) := dk_27 (dk_at dksX3_puts_1 20 rfl rfl)
theorem dX3_puts_43 : decode cX3_puts 43 = .ok (.lload_n 2, 1) := dk_32 (dk_at dksX3_puts_1 21 rfl rfl)
theorem dX3_puts_44 : decode cX3_puts 44 = .ok (.l2i, 1) := dk_136 (dk_at dksX3_puts_1 22 rfl rfl)
theorem dX3_puts_45 : decode cX3_puts 45 = .ok (.i2s, 1) := dk_147 (dk_at dksX3_puts_1 23 rfl rfl)
theorem dX3_puts_46 : decode cX3_puts 46 = .ok (.sastore, 1) := dk_86 (dk_at dksX3_puts_2 0 rfl rfl)
theorem dX3_puts_47 : decode cX3_puts 47 = .ok (.goto 37, 3) := dk_167 0 37 (dk_at dksX3_puts_2 1 rfl rfl)
theorem dX3_puts_50 : decode cX3_puts 50 = .ok (.aload_n 0, 1) := dk_42 (dk_at dksX3_puts_2 4 rfl rfl)
theorem dX3_puts_51 : decode cX3_puts 51 = .ok (.getfield 7, 3) := dk_180 0 7 (dk_at dksX3_puts_2 5 rfl rfl)
theorem dX3_puts_54 : decode cX3_puts 54 = .ok (.instanceof 19, 3) := dk_193 0 19 (dk_at dksX3_puts_2 8 rfl rfl)
theorem dX3_puts_57 : decode cX3_puts 57 = .ok (.ifCond .eq 17, 3) := dk_153 0 17 (dk_at dksX3_puts_2 11 rfl rfl)
theorem dX3_puts_60 : decode cX3_puts 60 = .ok (.aload_n 0, 1) := dk_42 (dk_at dksX3_puts_2 14 rfl rfl)
theorem dX3_puts_61 : decode cX3_puts 61 = .ok (.getfield 7, 3) := dk_180 0 7 (dk_at dksX3_puts_2 15 rfl rfl)
theorem dX3_puts_64 : decode cX3_puts 64 = .ok (.checkcast 19, 3) := dk_192 0 19 (dk_at dksX3_puts_2 18 rfl rfl)
theorem dX3_puts_67 : decode cX3_puts 67 = .ok (.iload_n 1, 1) := dk_27 (dk_at dksX3_puts_2 21 rfl rfl)
theorem dX3_puts_68 : decode cX3_puts 68 = .ok (.lload_n 2, 1) := dk_32 (dk_at dksX3_puts_2 22 rfl rfl)
theorem dX3_puts_69 : decode cX3_puts 69 = .ok (.l2i, 1) := dk_136 (dk_at dksX3_puts_2 23 rfl rfl)
theorem dX3_puts_70 : decode cX3_puts 70 = .ok (.iastore, 1) := dk_79 (dk_at dksX3_puts_3 0 rfl rfl)
theorem dX3_puts_71 : decode cX3_puts 71 = .ok (.goto 13, 3) := dk_167 0 13 (dk_at dksX3_puts_3 1 rfl rfl)
theorem dX3_puts_74 : decode cX3_puts 74 = .ok (.aload_n 0, 1) := dk_42 (dk_at dksX3_puts_3 4 rfl rfl)
theorem dX3_puts_75 : decode cX3_puts 75 = .ok (.getfield 7, 3) := dk_180 0 7 (dk_at dksX3_puts_3 5 rfl rfl)
theorem dX3_puts_78 : decode cX3_puts 78 = .ok (.checkcast 21, 3) := dk_192 0 21 (dk_at dksX3_puts_3 8 rfl rfl)
theorem dX3_puts_81 : decode cX3_puts 81 = .ok (.iload_n 1, 1) := dk_27 (dk_at dksX3_puts_3 11 rfl rfl)
theorem dX3_puts_82 : decode cX3_puts 82 = .ok (.lload_n 2, 1) := dk_32 (dk_at dksX3_puts_3 12 rfl rfl)
theorem dX3_puts_83 : decode cX3_puts 83 = .ok (.lastore, 1) := dk_80 (dk_at dksX3_puts_3 13 rfl rfl)
theorem dX3_puts_84 : decode cX3_puts 84 = .ok (.return_, 1) := dk_177 (dk_at dksX3_puts_3 14 rfl rfl)
theorem q130 : (Jvm.Cond.initialized "SunkTower$Numbers") ∈ lw_all := lw_g (lw_at lw_m1 4 rfl) rfl
theorem q283 : (Jvm.Cond.instantiable "SunkTower$Numbers" (1 : Nat)) ∈ lw_all := lw_g (lw_at lw_m1 157 rfl) rfl
theorem q285 : (Jvm.Cond.instanceMethod ({ cls := "SunkTower$Numbers", name := "<init>", desc := "()V" } : Jvm.MethodName)) ∈ lw_all := lw_g (lw_at lw_m1 159 rfl) rfl
theorem q286 : (Jvm.Cond.code ({ cls := "SunkTower$Numbers", name := "<init>", desc := "()V" } : Jvm.MethodName) prog_3_method_1_code (1 : Nat) (Option.none : Option Jvm.ClassFile.FieldType)) ∈ lw_all := lw_g (lw_at lw_m1 160 rfl) rfl
theorem q287 : (Jvm.Cond.methodLink "SunkTower$Numbers" (1 : Nat) ({ cls := "java/lang/Object", name := "<init>", desc := "()V" } : Jvm.MethodName)) ∈ lw_all := lw_g (lw_at lw_m1 161 rfl) rfl
theorem q288 : (Jvm.Cond.fieldLink "SunkTower$Numbers" (7 : Nat) "SunkTower$Numbers" "held" "Ljava/lang/Object;") ∈ lw_all := lw_g (lw_at lw_m1 162 rfl) rfl
theorem q290 : (Jvm.Cond.lays "SunkTower$Numbers" "SunkTower$Numbers" "held" "Ljava/lang/Object;") ∈ lw_all := lw_g (lw_at lw_m1 164 rfl) rfl
theorem q291 : (Jvm.Cond.soleField "SunkTower$Numbers" "held") ∈ lw_all := lw_g (lw_at lw_m1 165 rfl) rfl
theorem q292 : (Jvm.Cond.superclass "SunkTower$Numbers" "java/lang/Object") ∈ lw_all := lw_g (lw_at lw_m1 166 rfl) rfl
theorem q955 : (Jvm.Cond.instanceMethod ({ cls := "SunkTower$Numbers", name := "many", desc := "()I" } : Jvm.MethodName)) ∈ lw_all := lw_g (lw_at lw_m4 109 rfl) rfl
theorem q956 : (Jvm.Cond.selects "SunkTower$Numbers" ({ cls := "SunkTower$Numbers", name := "many", desc := "()I" } : Jvm.MethodName) ({ cls := "SunkTower$Numbers", name := "many", desc := "()I" } : Jvm.MethodName)) ∈ lw_all := lw_g (lw_at lw_m4 110 rfl) rfl
theorem q957 : (Jvm.Cond.code ({ cls := "SunkTower$Numbers", name := "many", desc := "()I" } : Jvm.MethodName) prog_3_method_3_code (1 : Nat) (Option.some Jvm.ClassFile.FieldType.int)) ∈ lw_all := lw_g (lw_at lw_m4 111 rfl) rfl
theorem q958 : (Jvm.Cond.classLink "SunkTower$Numbers" (15 : Nat) "[B") ∈ lw_all := lw_g (lw_at lw_m4 112 rfl) rfl
theorem q959 : (Jvm.Cond.classLink "SunkTower$Numbers" (17 : Nat) "[S") ∈ lw_all := lw_g (lw_at lw_m4 113 rfl) rfl
theorem q960 : (Jvm.Cond.classLink "SunkTower$Numbers" (19 : Nat) "[I") ∈ lw_all := lw_g (lw_at lw_m4 114 rfl) rfl
theorem q961 : (Jvm.Cond.classLink "SunkTower$Numbers" (21 : Nat) "[J") ∈ lw_all := lw_g (lw_at lw_m4 115 rfl) rfl
theorem q963 : (Jvm.Cond.instanceMethod ({ cls := "SunkTower$Numbers", name := "number", desc := "(I)J" } : Jvm.MethodName)) ∈ lw_all := lw_g (lw_at lw_m4 117 rfl) rfl
theorem q964 : (Jvm.Cond.selects "SunkTower$Numbers" ({ cls := "SunkTower$Numbers", name := "number", desc := "(I)J" } : Jvm.MethodName) ({ cls := "SunkTower$Numbers", name := "number", desc := "(I)J" } : Jvm.MethodName)) ∈ lw_all := lw_g (lw_at lw_m4 118 rfl) rfl
theorem q965 : (Jvm.Cond.code ({ cls := "SunkTower$Numbers", name := "number", desc := "(I)J" } : Jvm.MethodName) prog_3_method_4_code (2 : Nat) (Option.some Jvm.ClassFile.FieldType.long)) ∈ lw_all := lw_g (lw_at lw_m4 119 rfl) rfl
theorem q1219 : (Jvm.Cond.instanceMethod ({ cls := "SunkTower$Numbers", name := "begins", desc := "(II)Z" } : Jvm.MethodName)) ∈ lw_all := lw_g (lw_at lw_m5 133 rfl) rfl
theorem q1220 : (Jvm.Cond.selects "SunkTower$Numbers" ({ cls := "SunkTower$Numbers", name := "begins", desc := "(II)Z" } : Jvm.MethodName) ({ cls := "SunkTower$Numbers", name := "begins", desc := "(II)Z" } : Jvm.MethodName)) ∈ lw_all := lw_g (lw_at lw_m5 134 rfl) rfl
theorem q1221 : (Jvm.Cond.codeWith ({ cls := "SunkTower$Numbers", name := "begins", desc := "(II)Z" } : Jvm.MethodName) prog_3_method_2_code (4 : Nat) (Option.some Jvm.ClassFile.FieldType.boolean) [((0 : Nat), (66 : Nat), (67 : Nat), (13 : Nat))]) ∈ lw_all := lw_g (lw_at lw_m5 135 rfl) rfl
theorem q1222 : (Jvm.Cond.classLink "SunkTower$Numbers" (13 : Nat) "java/lang/NegativeArraySizeException") ∈ lw_all := lw_g (lw_at lw_m5 136 rfl) rfl
theorem q1356 : (Jvm.Cond.instanceMethod ({ cls := "SunkTower$Numbers", name := "puts", desc := "(IJ)V" } : Jvm.MethodName)) ∈ lw_all := lw_g (lw_at lw_m6 30 rfl) rfl
theorem q1357 : (Jvm.Cond.selects "SunkTower$Numbers" ({ cls := "SunkTower$Numbers", name := "puts", desc := "(IJ)V" } : Jvm.MethodName) ({ cls := "SunkTower$Numbers", name := "puts", desc := "(IJ)V" } : Jvm.MethodName)) ∈ lw_all := lw_g (lw_at lw_m6 31 rfl) rfl
theorem q1358 : (Jvm.Cond.code ({ cls := "SunkTower$Numbers", name := "puts", desc := "(IJ)V" } : Jvm.MethodName) prog_3_method_5_code (4 : Nat) (Option.none : Option Jvm.ClassFile.FieldType)) ∈ lw_all := lw_g (lw_at lw_m6 32 rfl) rfl
theorem in_X3 : ∀ w ∈ wsX30, w ∈ lw_all := lw_in wsX30 [290] (by decide +kernel) (by decide +kernel)
/-! SunkTower$Sum -/
set_option maxRecDepth 100000
def RX6 : String := "SunkTower$Sum"
abbrev cX6_init : ByteArray := prog_8_method_1_code
def yX6_init : MethodName := ⟨RX6, "<init>", "()V"⟩
theorem dX6_init_0 : decode cX6_init 0 = .ok (.aload_n 0, 1) := by decide +kernel
theorem dX6_init_1 : decode cX6_init 1 = .ok (.invokespecial 1, 3) := by decide +kernel
theorem dX6_init_4 : decode cX6_init 4 = .ok (.return_, 1) := by decide +kernel
theorem q140 : (Jvm.Cond.initialized "SunkTower$Sum") ∈ lw_all := lw_g (lw_at lw_m1 14 rfl) rfl
theorem q686 : (Jvm.Cond.instanceMethod ({ cls := "SunkTower$Sum", name := "<init>", desc := "()V" } : Jvm.MethodName)) ∈ lw_all := lw_g (lw_at lw_m3 80 rfl) rfl
theorem q687 : (Jvm.Cond.code ({ cls := "SunkTower$Sum", name := "<init>", desc := "()V" } : Jvm.MethodName) prog_8_method_1_code (1 : Nat) (Option.none : Option Jvm.ClassFile.FieldType)) ∈ lw_all := lw_g (lw_at lw_m3 81 rfl) rfl
theorem q688 : (Jvm.Cond.methodLink "SunkTower$Sum" (1 : Nat) ({ cls := "java/lang/Object", name := "<init>", desc := "()V" } : Jvm.MethodName)) ∈ lw_all := lw_g (lw_at lw_m3 82 rfl) rfl
theorem q799 : (Jvm.Cond.declares ({ cls := "SunkTower$Sum", name := "value", desc := "([I)I" } : Jvm.MethodName)) ∈ lw_tbl := lw_at lw_m3 193 rfl
theorem q800 : (Jvm.Cond.sameMethod "SunkTower$Sum" "SunkTower$Sum" "value" "([I)I") ∈ lw_all := lw_g (lw_at lw_m3 194 rfl) rfl
/-! SunkTower$Known -/
set_option maxRecDepth 100000
def RX7 : String := "SunkTower$Known"
def TX7 : u_T := fun k => match k with
  | _ => ("SunkTower$Known", "word", "I", true)
def tyX7 : Nat → FieldType := fun k => match k with
  | _ => .int
abbrev wsX70 : List Cond := u_ws RX7 TX7 1
theorem nmX7 : ∀ a, a < 1 → ∀ b, b < 1 → a ≠ b → (TX7 a).2.1 ≠ (TX7 b).2.1 := by decide +kernel
theorem tyX7_ok : ∀ k, k < 1 → parseFieldDescriptor (TX7 k).2.2.1 = some (tyX7 k) := by decide +kernel
abbrev cX7_init : ByteArray := prog_2_method_1_code
def yX7_init : MethodName := ⟨RX7, "<init>", "(I)V"⟩
def dkwX7_init_0 : List UInt8 := [42, 183, 0, 1, 42, 27, 181, 0, 7, 177]
abbrev dktX7_init_0 : List UInt8 := dkwX7_init_0 ++ []
theorem dksX7_init_0 : cX7_init.data.toList.drop 0 = dktX7_init_0 := by decide +kernel
theorem dX7_init_0 : decode cX7_init 0 = .ok (.aload_n 0, 1) := dk_42 (dk_at dksX7_init_0 0 rfl rfl)
theorem dX7_init_1 : decode cX7_init 1 = .ok (.invokespecial 1, 3) := dk_183 0 1 (dk_at dksX7_init_0 1 rfl rfl)
theorem dX7_init_4 : decode cX7_init 4 = .ok (.aload_n 0, 1) := dk_42 (dk_at dksX7_init_0 4 rfl rfl)
theorem dX7_init_5 : decode cX7_init 5 = .ok (.iload_n 1, 1) := dk_27 (dk_at dksX7_init_0 5 rfl rfl)
theorem dX7_init_6 : decode cX7_init 6 = .ok (.putfield 7, 3) := dk_181 0 7 (dk_at dksX7_init_0 6 rfl rfl)
theorem dX7_init_9 : decode cX7_init 9 = .ok (.return_, 1) := dk_177 (dk_at dksX7_init_0 9 rfl rfl)
abbrev cX7_value : ByteArray := prog_2_method_2_code
def yX7_value : MethodName := ⟨RX7, "value", "([I)I"⟩
def dkwX7_value_0 : List UInt8 := [43, 42, 180, 0, 7, 46, 172]
abbrev dktX7_value_0 : List UInt8 := dkwX7_value_0 ++ []
theorem dksX7_value_0 : cX7_value.data.toList.drop 0 = dktX7_value_0 := by decide +kernel
theorem dX7_value_0 : decode cX7_value 0 = .ok (.aload_n 1, 1) := dk_43 (dk_at dksX7_value_0 0 rfl rfl)
theorem dX7_value_1 : decode cX7_value 1 = .ok (.aload_n 0, 1) := dk_42 (dk_at dksX7_value_0 1 rfl rfl)
theorem dX7_value_2 : decode cX7_value 2 = .ok (.getfield 7, 3) := dk_180 0 7 (dk_at dksX7_value_0 2 rfl rfl)
theorem dX7_value_5 : decode cX7_value 5 = .ok (.iaload, 1) := dk_46 (dk_at dksX7_value_0 5 rfl rfl)
theorem dX7_value_6 : decode cX7_value 6 = .ok (.ireturn, 1) := dk_172 (dk_at dksX7_value_0 6 rfl rfl)
theorem q141 : (Jvm.Cond.initialized "SunkTower$Known") ∈ lw_all := lw_g (lw_at lw_m1 15 rfl) rfl
theorem q681 : (Jvm.Cond.instantiable "SunkTower$Known" (1 : Nat)) ∈ lw_all := lw_g (lw_at lw_m3 75 rfl) rfl
theorem q683 : (Jvm.Cond.instanceMethod ({ cls := "SunkTower$Known", name := "<init>", desc := "(I)V" } : Jvm.MethodName)) ∈ lw_all := lw_g (lw_at lw_m3 77 rfl) rfl
theorem q684 : (Jvm.Cond.code ({ cls := "SunkTower$Known", name := "<init>", desc := "(I)V" } : Jvm.MethodName) prog_2_method_1_code (2 : Nat) (Option.none : Option Jvm.ClassFile.FieldType)) ∈ lw_all := lw_g (lw_at lw_m3 78 rfl) rfl
theorem q685 : (Jvm.Cond.methodLinkNest "SunkTower$Known" (1 : Nat) ({ cls := "SunkTower$Sum", name := "<init>", desc := "()V" } : Jvm.MethodName) "SunkTower") ∈ lw_tbl := lw_at lw_m3 79 rfl
theorem q689 : (Jvm.Cond.fieldLink "SunkTower$Known" (7 : Nat) "SunkTower$Known" "word" "I") ∈ lw_all := lw_g (lw_at lw_m3 83 rfl) rfl
theorem q690 : (Jvm.Cond.laysFinal "SunkTower$Known" "SunkTower$Known" "word" "I") ∈ lw_all := lw_g (lw_at lw_m3 84 rfl) rfl
theorem q691 : (Jvm.Cond.soleField "SunkTower$Known" "word") ∈ lw_all := lw_g (lw_at lw_m3 85 rfl) rfl
theorem q692 : (Jvm.Cond.superclass "SunkTower$Known" "SunkTower$Sum") ∈ lw_all := lw_g (lw_at lw_m3 86 rfl) rfl
theorem q801 : (Jvm.Cond.selects "SunkTower$Known" ({ cls := "SunkTower$Sum", name := "value", desc := "([I)I" } : Jvm.MethodName) ({ cls := "SunkTower$Known", name := "value", desc := "([I)I" } : Jvm.MethodName)) ∈ lw_all := lw_g (lw_at lw_m3 195 rfl) rfl
theorem q802 : (Jvm.Cond.instanceMethod ({ cls := "SunkTower$Known", name := "value", desc := "([I)I" } : Jvm.MethodName)) ∈ lw_all := lw_g (lw_at lw_m3 196 rfl) rfl
theorem q803 : (Jvm.Cond.code ({ cls := "SunkTower$Known", name := "value", desc := "([I)I" } : Jvm.MethodName) prog_2_method_2_code (2 : Nat) (Option.some Jvm.ClassFile.FieldType.int)) ∈ lw_all := lw_g (lw_at lw_m3 197 rfl) rfl
theorem in_X7 : ∀ w ∈ wsX70, w ∈ lw_all := lw_in wsX70 [690] (by decide +kernel) (by decide +kernel)
/-! SunkTower$Plain -/
set_option maxRecDepth 100000
def RX8 : String := "SunkTower$Plain"
def TX8 : u_T := fun k => match k with
  | _ => ("SunkTower$Plain", "n", "I", true)
def tyX8 : Nat → FieldType := fun k => match k with
  | _ => .int
abbrev wsX80 : List Cond := u_ws RX8 TX8 1
theorem nmX8 : ∀ a, a < 1 → ∀ b, b < 1 → a ≠ b → (TX8 a).2.1 ≠ (TX8 b).2.1 := by decide +kernel
theorem tyX8_ok : ∀ k, k < 1 → parseFieldDescriptor (TX8 k).2.2.1 = some (tyX8 k) := by decide +kernel
abbrev cX8_init : ByteArray := prog_5_method_1_code
def yX8_init : MethodName := ⟨RX8, "<init>", "(I)V"⟩
def dkwX8_init_0 : List UInt8 := [42, 183, 0, 1, 42, 27, 181, 0, 7, 177]
abbrev dktX8_init_0 : List UInt8 := dkwX8_init_0 ++ []
theorem dksX8_init_0 : cX8_init.data.toList.drop 0 = dktX8_init_0 := by decide +kernel
theorem dX8_init_0 : decode cX8_init 0 = .ok (.aload_n 0, 1) := dk_42 (dk_at dksX8_init_0 0 rfl rfl)
theorem dX8_init_1 : decode cX8_init 1 = .ok (.invokespecial 1, 3) := dk_183 0 1 (dk_at dksX8_init_0 1 rfl rfl)
theorem dX8_init_4 : decode cX8_init 4 = .ok (.aload_n 0, 1) := dk_42 (dk_at dksX8_init_0 4 rfl rfl)
theorem dX8_init_5 : decode cX8_init 5 = .ok (.iload_n 1, 1) := dk_27 (dk_at dksX8_init_0 5 rfl rfl)
theorem dX8_init_6 : decode cX8_init 6 = .ok (.putfield 7, 3) := dk_181 0 7 (dk_at dksX8_init_0 6 rfl rfl)
theorem dX8_init_9 : decode cX8_init 9 = .ok (.return_, 1) := dk_177 (dk_at dksX8_init_0 9 rfl rfl)
abbrev cX8_value : ByteArray := prog_5_method_2_code
def yX8_value : MethodName := ⟨RX8, "value", "([I)I"⟩
theorem dX8_value_0 : decode cX8_value 0 = .ok (.aload_n 0, 1) := by decide +kernel
theorem dX8_value_1 : decode cX8_value 1 = .ok (.getfield 7, 3) := by decide +kernel
theorem dX8_value_4 : decode cX8_value 4 = .ok (.ireturn, 1) := by decide +kernel
theorem q142 : (Jvm.Cond.initialized "SunkTower$Plain") ∈ lw_all := lw_g (lw_at lw_m1 16 rfl) rfl
theorem q698 : (Jvm.Cond.instantiable "SunkTower$Plain" (1 : Nat)) ∈ lw_all := lw_g (lw_at lw_m3 92 rfl) rfl
theorem q700 : (Jvm.Cond.instanceMethod ({ cls := "SunkTower$Plain", name := "<init>", desc := "(I)V" } : Jvm.MethodName)) ∈ lw_all := lw_g (lw_at lw_m3 94 rfl) rfl
theorem q701 : (Jvm.Cond.code ({ cls := "SunkTower$Plain", name := "<init>", desc := "(I)V" } : Jvm.MethodName) prog_5_method_1_code (2 : Nat) (Option.none : Option Jvm.ClassFile.FieldType)) ∈ lw_all := lw_g (lw_at lw_m3 95 rfl) rfl
theorem q702 : (Jvm.Cond.methodLinkNest "SunkTower$Plain" (1 : Nat) ({ cls := "SunkTower$Sum", name := "<init>", desc := "()V" } : Jvm.MethodName) "SunkTower") ∈ lw_tbl := lw_at lw_m3 96 rfl
theorem q703 : (Jvm.Cond.fieldLink "SunkTower$Plain" (7 : Nat) "SunkTower$Plain" "n" "I") ∈ lw_all := lw_g (lw_at lw_m3 97 rfl) rfl
theorem q704 : (Jvm.Cond.laysFinal "SunkTower$Plain" "SunkTower$Plain" "n" "I") ∈ lw_all := lw_g (lw_at lw_m3 98 rfl) rfl
theorem q705 : (Jvm.Cond.soleField "SunkTower$Plain" "n") ∈ lw_all := lw_g (lw_at lw_m3 99 rfl) rfl
theorem q706 : (Jvm.Cond.superclass "SunkTower$Plain" "SunkTower$Sum") ∈ lw_all := lw_g (lw_at lw_m3 100 rfl) rfl
theorem q808 : (Jvm.Cond.instanceMethod ({ cls := "SunkTower$Plain", name := "value", desc := "([I)I" } : Jvm.MethodName)) ∈ lw_all := lw_g (lw_at lw_m3 202 rfl) rfl
theorem q809 : (Jvm.Cond.code ({ cls := "SunkTower$Plain", name := "value", desc := "([I)I" } : Jvm.MethodName) prog_5_method_2_code (2 : Nat) (Option.some Jvm.ClassFile.FieldType.int)) ∈ lw_all := lw_g (lw_at lw_m3 203 rfl) rfl
theorem q818 : (Jvm.Cond.selects "SunkTower$Plain" ({ cls := "SunkTower$Sum", name := "value", desc := "([I)I" } : Jvm.MethodName) ({ cls := "SunkTower$Plain", name := "value", desc := "([I)I" } : Jvm.MethodName)) ∈ lw_all := lw_g (lw_at lw_m3 212 rfl) rfl
theorem in_X8 : ∀ w ∈ wsX80, w ∈ lw_all := lw_in wsX80 [704] (by decide +kernel) (by decide +kernel)
/-! SunkTower$Pair -/
set_option maxRecDepth 100000
def RX9 : String := "SunkTower$Pair"
def TX9 : u_T := fun k => match k with
  | 0 => ("SunkTower$Pair", "one", "LSunkTower$Sum;", true)
  | 1 => ("SunkTower$Pair", "two", "LSunkTower$Sum;", true)
  | _ => ("SunkTower$Pair", "sign", "I", true)
def tyX9 : Nat → FieldType := fun k => match k with
  | 0 => .object "SunkTower$Sum"
  | 1 => .object "SunkTower$Sum"
  | _ => .int
abbrev wsX90 : List Cond := u_ws RX9 TX9 3
theorem nmX9 : ∀ a, a < 3 → ∀ b, b < 3 → a ≠ b → (TX9 a).2.1 ≠ (TX9 b).2.1 := by decide +kernel
theorem tyX9_ok : ∀ k, k < 3 → parseFieldDescriptor (TX9 k).2.2.1 = some (tyX9 k) := by decide +kernel
abbrev cX9_init : ByteArray := prog_4_method_1_code
def yX9_init : MethodName := ⟨RX9, "<init>", "(LSunkTower$Sum;ILSunkTower$Sum;)V"⟩
def dkwX9_init_0 : List UInt8 := [42, 183, 0, 3, 42, 43, 181, 0, 9, 42, 28, 181, 0, 15, 42, 45, 181, 0, 19, 177]
abbrev dktX9_init_0 : List UInt8 := dkwX9_init_0 ++ []
theorem dksX9_init_0 : cX9_init.data.toList.drop 0 = dktX9_init_0 := by decide +kernel
theorem dX9_init_0 : decode cX9_init 0 = .ok (.aload_n 0, 1) := dk_42 (dk_at dksX9_init_0 0 rfl rfl)
theorem dX9_init_1 : decode cX9_init 1 = .ok (.invokespecial 3, 3) := dk_183 0 3 (dk_at dksX9_init_0 1 rfl rfl)
theorem dX9_init_4 : decode cX9_init 4 = .ok (.aload_n 0, 1) := dk_42 (dk_at dksX9_init_0 4 rfl rfl)
theorem dX9_init_5 : decode cX9_init 5 = .ok (.aload_n 1, 1) := dk_43 (dk_at dksX9_init_0 5 rfl rfl)
theorem dX9_init_6 : decode cX9_init 6 = .ok (.putfield 9, 3) := dk_181 0 9 (dk_at dksX9_init_0 6 rfl rfl)
theorem dX9_init_9 : decode cX9_init 9 = .ok (.aload_n 0, 1) := dk_42 (dk_at dksX9_init_0 9 rfl rfl)
theorem dX9_init_10 : decode cX9_init 10 = .ok (.iload_n 2, 1) := dk_28 (dk_at dksX9_init_0 10 rfl rfl)
theorem dX9_init_11 : decode cX9_init 11 = .ok (.putfield 15, 3) := dk_181 0 15 (dk_at dksX9_init_0 11 rfl rfl)
theorem dX9_init_14 : decode cX9_init 14 = .ok (.aload_n 0, 1) := dk_42 (dk_at dksX9_init_0 14 rfl rfl)
theorem dX9_init_15 : decode cX9_init 15 = .ok (.aload_n 3, 1) := dk_45 (dk_at dksX9_init_0 15 rfl rfl)
theorem dX9_init_16 : decode cX9_init 16 = .ok (.putfield 19, 3) := dk_181 0 19 (dk_at dksX9_init_0 16 rfl rfl)
theorem dX9_init_19 : decode cX9_init 19 = .ok (.return_, 1) := dk_177 (dk_at dksX9_init_0 19 rfl rfl)
abbrev cX9_value : ByteArray := prog_4_method_2_code
def yX9_value : MethodName := ⟨RX9, "value", "([I)I"⟩
def dkwX9_value_3 : List UInt8 := [184, 0, 36, 136, 172]
abbrev dktX9_value_3 : List UInt8 := dkwX9_value_3 ++ []
def dkwX9_value_2 : List UInt8 := [32, 22, 4, 101, 167, 0, 7, 32, 22, 4, 105, 55, 6, 20, 0, 26, 20, 0, 28, 22, 6, 184, 0, 30]
abbrev dktX9_value_2 : List UInt8 := dkwX9_value_2 ++ dktX9_value_3
def dkwX9_value_1 : List UInt8 := [180, 0, 15, 16, 43, 160, 0, 10, 32, 22, 4, 97, 167, 0, 23, 42, 180, 0, 15, 16, 45, 160, 0, 10]
abbrev dktX9_value_1 : List UInt8 := dkwX9_value_1 ++ dktX9_value_2
def dkwX9_value_0 : List UInt8 := [42, 180, 0, 9, 43, 182, 0, 22, 133, 65, 42, 180, 0, 19, 43, 182, 0, 22, 133, 55, 4, 42]
abbrev dktX9_value_0 : List UInt8 := dkwX9_value_0 ++ dktX9_value_1
theorem dksX9_value_0 : cX9_value.data.toList.drop 0 = dktX9_value_0 := by decide +kernel
theorem dksX9_value_1 : cX9_value.data.toList.drop 22 = dktX9_value_1 := dk_seg dksX9_value_0 22 rfl rfl
theorem dksX9_value_2 : cX9_value.data.toList.drop 46 = dktX9_value_2 := dk_seg dksX9_value_1 24 rfl rfl
theorem dksX9_value_3 : cX9_value.data.toList.drop 70 = dktX9_value_3 := dk_seg dksX9_value_2 24 rfl rfl
theorem dX9_value_0 : decode cX9_value 0 = .ok (.aload_n 0, 1) := dk_42 (dk_at dksX9_value_0 0 rfl rfl)
theorem dX9_value_1 : decode cX9_value 1 = .ok (.getfield 9, 3) := dk_180 0 9 (dk_at dksX9_value_0 1 rfl rfl)
theorem dX9_value_4 : decode cX9_value 4 = .ok (.aload_n 1, 1) := dk_43 (dk_at dksX9_value_0 4 rfl rfl)
theorem dX9_value_5 : decode cX9_value 5 = .ok (.invokevirtual 22, 3) := dk_182 0 22 (dk_at dksX9_value_0 5 rfl rfl)
theorem dX9_value_8 : decode cX9_value 8 = .ok (.i2l, 1) := dk_133 (dk_at dksX9_value_0 8 rfl rfl)
theorem dX9_value_9 : decode cX9_value 9 = .ok (.lstore_n 2, 1) := dk_65 (dk_at dksX9_value_0 9 rfl rfl)
theorem dX9_value_10 : decode cX9_value 10 = .ok (.aload_n 0, 1) := dk_42 (dk_at dksX9_value_0 10 rfl rfl)
theorem dX9_value_11 : decode cX9_value 11 = .ok (.getfield 19, 3) := dk_180 0 19 (dk_at dksX9_value_0 11 rfl rfl)
theorem dX9_value_14 : decode cX9_value 14 = .ok (.aload_n 1, 1) := dk_43 (dk_at dksX9_value_0 14 rfl rfl)
theorem dX9_value_15 : decode cX9_value 15 = .ok (.invokevirtual 22, 3) := dk_182 0 22 (dk_at dksX9_value_0 15 rfl rfl)
theorem dX9_value_18 : decode cX9_value 18 = .ok (.i2l, 1) := dk_133 (dk_at dksX9_value_0 18 rfl rfl)
theorem dX9_value_19 : decode cX9_value 19 = .ok (.lstore 4, 2) := dk_55 4 (dk_at dksX9_value_0 19 rfl rfl)
theorem dX9_value_21 : decode cX9_value 21 = .ok (.aload_n 0, 1) := dk_42 (dk_at dksX9_value_0 21 rfl rfl)
theorem dX9_value_22 : decode cX9_value 22 = .ok (.getfield 15, 3) := dk_180 0 15 (dk_at dksX9_value_1 0 rfl rfl)
theorem dX9_value_25 : decode cX9_value 25 = .ok (.bipush 43, 2) := dk_16 43 (dk_at dksX9_value_1 3 rfl rfl)
theorem dX9_value_27 : decode cX9_value 27 = .ok (.if_icmp .ne 10, 3) := dk_160 0 10 (dk_at dksX9_value_1 5 rfl rfl)
theorem dX9_value_30 : decode cX9_value 30 = .ok (.lload_n 2, 1) := dk_32 (dk_at dksX9_value_1 8 rfl rfl)
theorem dX9_value_31 : decode cX9_value 31 = .ok (.lload 4, 2) := dk_22 4 (dk_at dksX9_value_1 9 rfl rfl)
theorem dX9_value_33 : decode cX9_value 33 = .ok (.ladd, 1) := dk_97 (dk_at dksX9_value_1 11 rfl rfl)
theorem dX9_value_34 : decode cX9_value 34 = .ok (.goto 23, 3) := dk_167 0 23 (dk_at dksX9_value_1 12 rfl rfl)
theorem dX9_value_37 : decode cX9_value 37 = .ok (.aload_n 0, 1) := dk_42 (dk_at dksX9_value_1 15 rfl rfl)
theorem dX9_value_38 : decode cX9_value 38 = .ok (.getfield 15, 3) := dk_180 0 15 (dk_at dksX9_value_1 16 rfl rfl)
theorem dX9_value_41 : decode cX9_value 41 = .ok (.bipush 45, 2) := dk_16 45 (dk_at dksX9_value_1 19 rfl rfl)
theorem dX9_value_43 : decode cX9_value 43 = .ok (.if_icmp .ne 10, 3) := dk_160 0 10 (dk_at dksX9_value_1 21 rfl rfl)
theorem dX9_value_46 : decode cX9_value 46 = .ok (.lload_n 2, 1) := dk_32 (dk_at dksX9_value_2 0 rfl rfl)
theorem dX9_value_47 : decode cX9_value 47 = .ok (.lload 4, 2) := dk_22 4 (dk_at dksX9_value_2 1 rfl rfl)
theorem dX9_value_49 : decode cX9_value 49 = .ok (.lsub, 1) := dk_101 (dk_at dksX9_value_2 3 rfl rfl)
theorem dX9_value_50 : decode cX9_value 50 = .ok (.goto 7, 3) := dk_167 0 7 (dk_at dksX9_value_2 4 rfl rfl)
theorem dX9_value_53 : decode cX9_value 53 = .ok (.lload_n 2, 1) := dk_32 (dk_at dksX9_value_2 7 rfl rfl)
theorem dX9_value_54 : decode cX9_value 54 = .ok (.lload 4, 2) := dk_22 4 (dk_at dksX9_value_2 8 rfl rfl)
theorem dX9_value_56 : decode cX9_value 56 = .ok (.lmul, 1) := dk_105 (dk_at dksX9_value_2 10 rfl rfl)
theorem dX9_value_57 : decode cX9_value 57 = .ok (.lstore 6, 2) := dk_55 6 (dk_at dksX9_value_2 11 rfl rfl)
theorem dX9_value_59 : decode cX9_value 59 = .ok (.ldc2_w 26, 3) := dk_20 0 26 (dk_at dksX9_value_2 13 rfl rfl)
theorem dX9_value_62 : decode cX9_value 62 = .ok (.ldc2_w 28, 3) := dk_20 0 28 (dk_at dksX9_value_2 16 rfl rfl)
theorem dX9_value_65 : decode cX9_value 65 = .ok (.lload 6, 2) := dk_22 6 (dk_at dksX9_value_2 19 rfl rfl)
theorem dX9_value_67 : decode cX9_value 67 = .ok (.invokestatic 30, 3) := dk_184 0 30 (dk_at dksX9_value_2 21 rfl rfl)
theorem dX9_value_70 : decode cX9_value 70 = .ok (.invokestatic 36, 3) := dk_184 0 36 (dk_at dksX9_value_3 0 rfl rfl)
theorem dX9_value_73 : decode cX9_value 73 = .ok (.l2i, 1) := dk_136 (dk_at dksX9_value_3 3 rfl rfl)
theorem dX9_value_74 : decode cX9_value 74 = .ok (.ireturn, 1) := dk_172 (dk_at dksX9_value_3 4 rfl rfl)
theorem q143 : (Jvm.Cond.initialized "SunkTower$Pair") ∈ lw_all := lw_g (lw_at lw_m1 17 rfl) rfl
theorem q712 : (Jvm.Cond.instantiable "SunkTower$Pair" (3 : Nat)) ∈ lw_all := lw_g (lw_at lw_m3 106 rfl) rfl
theorem q714 : (Jvm.Cond.instanceMethod ({ cls := "SunkTower$Pair", name := "<init>", desc := "(LSunkTower$Sum;ILSunkTower$Sum;)V" } : Jvm.MethodName)) ∈ lw_all := lw_g (lw_at lw_m3 108 rfl) rfl
theorem q715 : (Jvm.Cond.code ({ cls := "SunkTower$Pair", name := "<init>", desc := "(LSunkTower$Sum;ILSunkTower$Sum;)V" } : Jvm.MethodName) prog_4_method_1_code (4 : Nat) (Option.none : Option Jvm.ClassFile.FieldType)) ∈ lw_all := lw_g (lw_at lw_m3 109 rfl) rfl
theorem q716 : (Jvm.Cond.methodLinkNest "SunkTower$Pair" (3 : Nat) ({ cls := "SunkTower$Sum", name := "<init>", desc := "()V" } : Jvm.MethodName) "SunkTower") ∈ lw_tbl := lw_at lw_m3 110 rfl
theorem q717 : (Jvm.Cond.fieldLink "SunkTower$Pair" (9 : Nat) "SunkTower$Pair" "one" "LSunkTower$Sum;") ∈ lw_all := lw_g (lw_at lw_m3 111 rfl) rfl
theorem q718 : (Jvm.Cond.fieldLink "SunkTower$Pair" (19 : Nat) "SunkTower$Pair" "two" "LSunkTower$Sum;") ∈ lw_all := lw_g (lw_at lw_m3 112 rfl) rfl
theorem q719 : (Jvm.Cond.fieldLink "SunkTower$Pair" (15 : Nat) "SunkTower$Pair" "sign" "I") ∈ lw_all := lw_g (lw_at lw_m3 113 rfl) rfl
theorem q720 : (Jvm.Cond.laysFinal "SunkTower$Pair" "SunkTower$Pair" "one" "LSunkTower$Sum;") ∈ lw_all := lw_g (lw_at lw_m3 114 rfl) rfl
theorem q721 : (Jvm.Cond.soleField "SunkTower$Pair" "one") ∈ lw_all := lw_g (lw_at lw_m3 115 rfl) rfl
theorem q722 : (Jvm.Cond.laysFinal "SunkTower$Pair" "SunkTower$Pair" "two" "LSunkTower$Sum;") ∈ lw_all := lw_g (lw_at lw_m3 116 rfl) rfl
theorem q723 : (Jvm.Cond.soleField "SunkTower$Pair" "two") ∈ lw_all := lw_g (lw_at lw_m3 117 rfl) rfl
theorem q724 : (Jvm.Cond.laysFinal "SunkTower$Pair" "SunkTower$Pair" "sign" "I") ∈ lw_all := lw_g (lw_at lw_m3 118 rfl) rfl
theorem q725 : (Jvm.Cond.soleField "SunkTower$Pair" "sign") ∈ lw_all := lw_g (lw_at lw_m3 119 rfl) rfl
theorem q726 : (Jvm.Cond.superclass "SunkTower$Pair" "SunkTower$Sum") ∈ lw_all := lw_g (lw_at lw_m3 120 rfl) rfl
theorem q804 : (Jvm.Cond.selects "SunkTower$Pair" ({ cls := "SunkTower$Sum", name := "value", desc := "([I)I" } : Jvm.MethodName) ({ cls := "SunkTower$Pair", name := "value", desc := "([I)I" } : Jvm.MethodName)) ∈ lw_all := lw_g (lw_at lw_m3 198 rfl) rfl
theorem q805 : (Jvm.Cond.instanceMethod ({ cls := "SunkTower$Pair", name := "value", desc := "([I)I" } : Jvm.MethodName)) ∈ lw_all := lw_g (lw_at lw_m3 199 rfl) rfl
theorem q806 : (Jvm.Cond.code ({ cls := "SunkTower$Pair", name := "value", desc := "([I)I" } : Jvm.MethodName) prog_4_method_2_code (8 : Nat) (Option.some Jvm.ClassFile.FieldType.int)) ∈ lw_all := lw_g (lw_at lw_m3 200 rfl) rfl
theorem q807 : (Jvm.Cond.methodLink "SunkTower$Pair" (22 : Nat) ({ cls := "SunkTower$Sum", name := "value", desc := "([I)I" } : Jvm.MethodName)) ∈ lw_all := lw_g (lw_at lw_m3 201 rfl) rfl
theorem q810 : (Jvm.Cond.constantLong "SunkTower$Pair" (26 : Nat) (-1000000 : Int64)) ∈ lw_all := lw_g (lw_at lw_m3 204 rfl) rfl
theorem q811 : (Jvm.Cond.constantLong "SunkTower$Pair" (28 : Nat) (1000000 : Int64)) ∈ lw_all := lw_g (lw_at lw_m3 205 rfl) rfl
theorem q812 : (Jvm.Cond.methodLink "SunkTower$Pair" (30 : Nat) ({ cls := "java/lang/Math", name := "min", desc := "(JJ)J" } : Jvm.MethodName)) ∈ lw_all := lw_g (lw_at lw_m3 206 rfl) rfl
theorem q815 : (Jvm.Cond.methodLink "SunkTower$Pair" (36 : Nat) ({ cls := "java/lang/Math", name := "max", desc := "(JJ)J" } : Jvm.MethodName)) ∈ lw_all := lw_g (lw_at lw_m3 209 rfl) rfl
theorem in_X9 : ∀ w ∈ wsX90, w ∈ lw_all := lw_in wsX90 [720, 722, 724] (by decide +kernel) (by decide +kernel)
/-! SunkTower$Reader -/
set_option maxRecDepth 100000
def RX5 : String := "SunkTower$Reader"
def TX5 : u_T := fun k => match k with
  | 0 => ("SunkTower$Reader", "size", "I", true)
  | 1 => ("SunkTower$Reader", "made", "LSunkTower$Tower;", true)
  | 2 => ("SunkTower$Reader", "at", "I", false)
  | 3 => ("SunkTower$Reader", "begin", "I", false)
  | 4 => ("SunkTower$Reader", "token", "I", false)
  | 5 => ("SunkTower$Reader", "value", "I", false)
  | 6 => ("SunkTower$Reader", "fault", "I", false)
  | 7 => ("SunkTower$Reader", "deep", "I", false)
  | 8 => ("SunkTower$Reader", "place", "I", false)
  | 9 => ("SunkTower$Reader", "ofWhat", "I", false)
  | _ => ("SunkTower$Reader", "this$0", "LSunkTower;", true)
def tyX5 : Nat → FieldType := fun k => match k with
  | 0 => .int
  | 1 => .object "SunkTower$Tower"
  | 2 => .int
  | 3 => .int
  | 4 => .int
  | 5 => .int
  | 6 => .int
  | 7 => .int
  | 8 => .int
  | 9 => .int
  | _ => .object "SunkTower"
abbrev wsX50 : List Cond := u_ws RX5 TX5 11
theorem nmX5 : ∀ a, a < 11 → ∀ b, b < 11 → a ≠ b → (TX5 a).2.1 ≠ (TX5 b).2.1 := by decide +kernel
theorem tyX5_ok : ∀ k, k < 11 → parseFieldDescriptor (TX5 k).2.2.1 = some (tyX5 k) := by decide +kernel
abbrev cX5_init : ByteArray := prog_6_method_1_code
def yX5_init : MethodName := ⟨RX5, "<init>", "(LSunkTower;I)V"⟩
def dkwX5_init_1 : List UInt8 := [181, 0, 22, 42, 28, 181, 0, 26, 177]
abbrev dktX5_init_1 : List UInt8 := dkwX5_init_1 ++ []
def dkwX5_init_0 : List UInt8 := [42, 43, 181, 0, 3, 42, 183, 0, 9, 42, 187, 0, 15, 89, 183, 0, 17, 181, 0, 18, 42, 2]
abbrev dktX5_init_0 : List UInt8 := dkwX5_init_0 ++ dktX5_init_1
theorem dksX5_init_0 : cX5_init.data.toList.drop 0 = dktX5_init_0 := by decide +kernel
theorem dksX5_init_1 : cX5_init.data.toList.drop 22 = dktX5_init_1 := dk_seg dksX5_init_0 22 rfl rfl
theorem dX5_init_0 : decode cX5_init 0 = .ok (.aload_n 0, 1) := dk_42 (dk_at dksX5_init_0 0 rfl rfl)
theorem dX5_init_1 : decode cX5_init 1 = .ok (.aload_n 1, 1) := dk_43 (dk_at dksX5_init_0 1 rfl rfl)
theorem dX5_init_2 : decode cX5_init 2 = .ok (.putfield 3, 3) := dk_181 0 3 (dk_at dksX5_init_0 2 rfl rfl)
theorem dX5_init_5 : decode cX5_init 5 = .ok (.aload_n 0, 1) := dk_42 (dk_at dksX5_init_0 5 rfl rfl)
theorem dX5_init_6 : decode cX5_init 6 = .ok (.invokespecial 9, 3) := dk_183 0 9 (dk_at dksX5_init_0 6 rfl rfl)
theorem dX5_init_9 : decode cX5_init 9 = .ok (.aload_n 0, 1) := dk_42 (dk_at dksX5_init_0 9 rfl rfl)
theorem dX5_init_10 : decode cX5_init 10 = .ok (.new 15, 3) := dk_187 0 15 (dk_at dksX5_init_0 10 rfl rfl)
theorem dX5_init_13 : decode cX5_init 13 = .ok (.dup, 1) := dk_89 (dk_at dksX5_init_0 13 rfl rfl)
theorem dX5_init_14 : decode cX5_init 14 = .ok (.invokespecial 17, 3) := dk_183 0 17 (dk_at dksX5_init_0 14 rfl rfl)
theorem dX5_init_17 : decode cX5_init 17 = .ok (.putfield 18, 3) := dk_181 0 18 (dk_at dksX5_init_0 17 rfl rfl)
theorem dX5_init_20 : decode cX5_init 20 = .ok (.aload_n 0, 1) := dk_42 (dk_at dksX5_init_0 20 rfl rfl)
theorem dX5_init_21 : decode cX5_init 21 = .ok (.iconst (-1), 1) := dk_2 (dk_at dksX5_init_0 21 rfl rfl)
theorem dX5_init_22 : decode cX5_init 22 = .ok (.putfield 22, 3) := dk_181 0 22 (dk_at dksX5_init_1 0 rfl rfl)
theorem dX5_init_25 : decode cX5_init 25 = .ok (.aload_n 0, 1) := dk_42 (dk_at dksX5_init_1 3 rfl rfl)
theorem dX5_init_26 : decode cX5_init 26 = .ok (.iload_n 2, 1) := dk_28 (dk_at dksX5_init_1 4 rfl rfl)
theorem dX5_init_27 : decode cX5_init 27 = .ok (.putfield 26, 3) := dk_181 0 26 (dk_at dksX5_init_1 5 rfl rfl)
theorem dX5_init_30 : decode cX5_init 30 = .ok (.return_, 1) := dk_177 (dk_at dksX5_init_1 8 rfl rfl)
abbrev cX5_read : ByteArray := prog_6_method_13_code
def yX5_read : MethodName := ⟨RX5, "read", "()V"⟩
def dkwX5_read_1 : List UInt8 := [16, 59, 182, 0, 103, 42, 180, 0, 18, 89, 180, 0, 106, 4, 96, 181, 0, 106, 167, 255, 219, 177]
abbrev dktX5_read_1 : List UInt8 := dkwX5_read_1 ++ []
def dkwX5_read_0 : List UInt8 := [42, 182, 0, 90, 42, 180, 0, 75, 154, 0, 36, 42, 180, 0, 55, 153, 0, 29, 42, 182, 0, 100, 42]
abbrev dktX5_read_0 : List UInt8 := dkwX5_read_0 ++ dktX5_read_1
theorem dksX5_read_0 : cX5_read.data.toList.drop 0 = dktX5_read_0 := by decide +kernel
theorem dksX5_read_1 : cX5_read.data.toList.drop 23 = dktX5_read_1 := dk_seg dksX5_read_0 23 rfl rfl
theorem dX5_read_0 : decode cX5_read 0 = .ok (.aload_n 0, 1) := dk_42 (dk_at dksX5_read_0 0 rfl rfl)
theorem dX5_read_1 : decode cX5_read 1 = .ok (.invokevirtual 90, 3) := dk_182 0 90 (dk_at dksX5_read_0 1 rfl rfl)
theorem dX5_read_4 : decode cX5_read 4 = .ok (.aload_n 0, 1) := dk_42 (dk_at dksX5_read_0 4 rfl rfl)
theorem dX5_read_5 : decode cX5_read 5 = .ok (.getfield 75, 3) := dk_180 0 75 (dk_at dksX5_read_0 5 rfl rfl)
theorem dX5_read_8 : decode cX5_read 8 = .ok (.ifCond .ne 36, 3) := dk_154 0 36 (dk_at dksX5_read_0 8 rfl rfl)
theorem dX5_read_11 : decode cX5_read 11 = .ok (.aload_n 0, 1) := dk_42 (dk_at dksX5_read_0 11 rfl rfl)
theorem dX5_read_12 : decode cX5_read 12 = .ok (.getfield 55, 3) := dk_180 0 55 (dk_at dksX5_read_0 12 rfl rfl)
theorem dX5_read_15 : decode cX5_read 15 = .ok (.ifCond .eq 29, 3) := dk_153 0 29 (dk_at dksX5_read_0 15 rfl rfl)
theorem dX5_read_18 : decode cX5_read 18 = .ok (.aload_n 0, 1) := dk_42 (dk_at dksX5_read_0 18 rfl rfl)
theorem dX5_read_19 : decode cX5_read 19 = .ok (.invokevirtual 100, 3) := dk_182 0 100 (dk_at dksX5_read_0 19 rfl rfl)
theorem dX5_read_22 : decode cX5_read 22 = .ok (.aload_n 0, 1) := dk_42 (dk_at dksX5_read_0 22 rfl rfl)
theorem dX5_read_23 : decode cX5_read 23 = .ok (.bipush 59, 2) := dk_16 59 (dk_at dksX5_read_1 0 rfl rfl)
theorem dX5_read_25 : decode cX5_read 25 = .ok (.invokevirtual 103, 3) := dk_182 0 103 (dk_at dksX5_read_1 2 rfl rfl)
theorem dX5_read_28 : decode cX5_read 28 = .ok (.aload_n 0, 1) := dk_42 (dk_at dksX5_read_1 5 rfl rfl)
theorem dX5_read_29 : decode cX5_read 29 = .ok (.getfield 18, 3) := dk_180 0 18 (dk_at dksX5_read_1 6 rfl rfl)
theorem dX5_read_32 : decode cX5_read 32 = .ok (.dup, 1) := dk_89 (dk_at dksX5_read_1 9 rfl rfl)
theorem dX5_read_33 : decode cX5_read 33 = .ok (.getfield 106, 3) := dk_180 0 106 (dk_at dksX5_read_1 10 rfl rfl)
theorem dX5_read_36 : decode cX5_read 36 = .ok (.iconst 1, 1) := dk_4 (dk_at dksX5_read_1 13 rfl rfl)
theorem dX5_read_37 : decode cX5_read 37 = .ok (.iadd, 1) := dk_96 (dk_at dksX5_read_1 14 rfl rfl)
theorem dX5_read_38 : decode cX5_read 38 = .ok (.putfield 106, 3) := dk_181 0 106 (dk_at dksX5_read_1 15 rfl rfl)
theorem dX5_read_41 : decode cX5_read 41 = .ok (.goto (-37), 3) := dk_167 255 219 (dk_at dksX5_read_1 18 rfl rfl)
theorem dX5_read_44 : decode cX5_read 44 = .ok (.return_, 1) := dk_177 (dk_at dksX5_read_1 21 rfl rfl)
abbrev cX5_next : ByteArray := prog_6_method_5_code
def yX5_next : MethodName := ⟨RX5, "next", "()V"⟩
def dkwX5_next_11 : List UInt8 := [96, 181, 0, 49, 177]
abbrev dktX5_next_11 : List UInt8 := dkwX5_next_11 ++ []
def dkwX5_next_10 : List UInt8 := [155, 0, 14, 42, 42, 180, 0, 49, 182, 0, 33, 167, 0, 4, 6, 181, 0, 55, 42, 89, 180, 0, 49, 4]
abbrev dktX5_next_10 : List UInt8 := dkwX5_next_10 ++ dktX5_next_11
def dkwX5_next_9 : List UInt8 := [167, 0, 4, 5, 181, 0, 55, 167, 0, 45, 42, 18, 68, 42, 42, 180, 0, 49, 182, 0, 33, 182, 0, 70]
abbrev dktX5_next_9 : List UInt8 := dkwX5_next_9 ++ dktX5_next_10
def dkwX5_next_8 : List UInt8 := [4, 96, 181, 0, 49, 167, 255, 199, 42, 42, 180, 0, 49, 42, 180, 0, 52, 100, 6, 164, 0, 7, 6]
abbrev dktX5_next_8 : List UInt8 := dkwX5_next_8 ++ dktX5_next_9
def dkwX5_next_7 : List UInt8 := [180, 0, 65, 104, 42, 42, 180, 0, 49, 182, 0, 33, 96, 16, 48, 100, 181, 0, 65, 42, 89, 180, 0, 49]
abbrev dktX5_next_7 : List UInt8 := dkwX5_next_7 ++ dktX5_next_8
def dkwX5_next_6 : List UInt8 := [182, 0, 62, 153, 0, 52, 42, 180, 0, 49, 42, 180, 0, 52, 100, 6, 162, 0, 26, 42, 16, 10, 42]
abbrev dktX5_next_6 : List UInt8 := dkwX5_next_6 ++ dktX5_next_7
def dkwX5_next_5 : List UInt8 := [167, 0, 146, 42, 42, 180, 0, 49, 182, 0, 62, 153, 0, 93, 42, 3, 181, 0, 65, 42, 42, 180, 0, 49]
abbrev dktX5_next_5 : List UInt8 := dkwX5_next_5 ++ dktX5_next_6
def dkwX5_next_4 : List UInt8 := [182, 0, 58, 153, 0, 16, 42, 89, 180, 0, 49, 4, 96, 181, 0, 49, 167, 255, 235, 42, 4, 181, 0, 55]
abbrev dktX5_next_4 : List UInt8 := dkwX5_next_4 ++ dktX5_next_5
def dkwX5_next_3 : List UInt8 := [181, 0, 55, 167, 0, 189, 42, 42, 180, 0, 49, 182, 0, 58, 153, 0, 35, 42, 42, 180, 0, 49]
abbrev dktX5_next_3 : List UInt8 := dkwX5_next_3 ++ dktX5_next_4
def dkwX5_next_2 : List UInt8 := [167, 255, 209, 42, 42, 180, 0, 49, 181, 0, 52, 42, 180, 0, 49, 42, 180, 0, 26, 161, 0, 11, 42, 3]
abbrev dktX5_next_2 : List UInt8 := dkwX5_next_2 ++ dktX5_next_3
def dkwX5_next_1 : List UInt8 := [42, 42, 180, 0, 49, 182, 0, 33, 16, 10, 160, 0, 16, 42, 89, 180, 0, 49, 4, 96, 181, 0, 49]
abbrev dktX5_next_1 : List UInt8 := dkwX5_next_1 ++ dktX5_next_2
def dkwX5_next_0 : List UInt8 := [42, 180, 0, 49, 42, 180, 0, 26, 162, 0, 42, 42, 42, 180, 0, 49, 182, 0, 33, 16, 32, 159, 0, 16]
abbrev dktX5_next_0 : List UInt8 := dkwX5_next_0 ++ dktX5_next_1
theorem dksX5_next_0 : cX5_next.data.toList.drop 0 = dktX5_next_0 := by decide +kernel
theorem dksX5_next_1 : cX5_next.data.toList.drop 24 = dktX5_next_1 := dk_seg dksX5_next_0 24 rfl rfl
theorem dksX5_next_2 : cX5_next.data.toList.drop 47 = dktX5_next_2 := dk_seg dksX5_next_1 23 rfl rfl
theorem dksX5_next_3 : cX5_next.data.toList.drop 71 = dktX5_next_3 := dk_seg dksX5_next_2 24 rfl rfl
theorem dksX5_next_4 : cX5_next.data.toList.drop 93 = dktX5_next_4 := dk_seg dksX5_next_3 22 rfl rfl
theorem dksX5_next_5 : cX5_next.data.toList.drop 117 = dktX5_next_5 := dk_seg dksX5_next_4 24 rfl rfl
theorem dksX5_next_6 : cX5_next.data.toList.drop 141 = dktX5_next_6 := dk_seg dksX5_next_5 24 rfl rfl
theorem dksX5_next_7 : cX5_next.data.toList.drop 164 = dktX5_next_7 := dk_seg dksX5_next_6 23 rfl rfl
theorem dksX5_next_8 : cX5_next.data.toList.drop 188 = dktX5_next_8 := dk_seg dksX5_next_7 24 rfl rfl
theorem dksX5_next_9 : cX5_next.data.toList.drop 211 = dktX5_next_9 := dk_seg dksX5_next_8 23 rfl rfl
theorem dksX5_next_10 : cX5_next.data.toList.drop 235 = dktX5_next_10 := dk_seg dksX5_next_9 24 rfl rfl
theorem dksX5_next_11 : cX5_next.data.toList.drop 259 = dktX5_next_11 := dk_seg dksX5_next_10 24 rfl rfl
theorem dX5_next_0 : decode cX5_next 0 = .ok (.aload_n 0, 1) := dk_42 (dk_at dksX5_next_0 0 rfl rfl)
theorem dX5_next_1 : decode cX5_next 1 = .ok (.getfield 49, 3) := dk_180 0 49 (dk_at dksX5_next_0 1 rfl rfl)
theorem dX5_next_4 : decode cX5_next 4 = .ok (.aload_n 0, 1) := dk_42 (dk_at dksX5_next_0 4 rfl rfl)
theorem dX5_next_5 : decode cX5_next 5 = .ok (.getfield 26, 3) := dk_180 0 26 (dk_at dksX5_next_0 5 rfl rfl)
theorem dX5_next_8 : decode cX5_next 8 = .ok (.if_icmp .ge 42, 3) := dk_162 0 42 (dk_at dksX5_next_0 8 rfl rfl)
theorem dX5_next_11 : decode cX5_next 11 = .ok (.aload_n 0, 1) := dk_42 (dk_at dksX5_next_0 11 rfl rfl)
theorem dX5_next_12 : decode cX5_next 12 = .ok (.aload_n 0, 1) := dk_42 (dk_at dksX5_next_0 12 rfl rfl)
theorem dX5_next_13 : decode cX5_next 13 = .ok (.getfield 49, 3) := dk_180 0 49 (dk_at dksX5_next_0 13 rfl rfl)
theorem dX5_next_16 : decode cX5_next 16 = .ok (.invokevirtual 33, 3) := dk_182 0 33 (dk_at dksX5_next_0 16 rfl rfl)
theorem dX5_next_19 : decode cX5_next 19 = .ok (.bipush 32, 2) := dk_16 32 (dk_at dksX5_next_0 19 rfl rfl)
theorem dX5_next_21 : decode cX5_next 21 = .ok (.if_icmp .eq 16, 3) := dk_159 0 16 (dk_at dksX5_next_0 21 rfl rfl)
theorem dX5_next_24 : decode cX5_next 24 = .ok (.aload_n 0, 1) := dk_42 (dk_at dksX5_next_1 0 rfl rfl)
theorem dX5_next_25 : decode cX5_next 25 = .ok (.aload_n 0, 1) := dk_42 (dk_at dksX5_next_1 1 rfl rfl)
theorem dX5_next_26 : decode cX5_next 26 = .ok (.getfield 49, 3) := dk_180 0 49 (dk_at dksX5_next_1 2 rfl rfl)
theorem dX5_next_29 : decode cX5_next 29 = .ok (.invokevirtual 33, 3) := dk_182 0 33 (dk_at dksX5_next_1 5 rfl rfl)
theorem dX5_next_32 : decode cX5_next 32 = .ok (.bipush 10, 2) := dk_16 10 (dk_at dksX5_next_1 8 rfl rfl)
theorem dX5_next_34 : decode cX5_next 34 = .ok (.if_icmp .ne 16, 3) := dk_160 0 16 (dk_at dksX5_next_1 10 rfl rfl)
theorem dX5_next_37 : decode cX5_next 37 = .ok (.aload_n 0, 1) := dk_42 (dk_at dksX5_next_1 13 rfl rfl)
theorem dX5_next_38 : decode cX5_next 38 = .ok (.dup, 1) := dk_89 (dk_at dksX5_next_1 14 rfl rfl)
theorem dX5_next_39 : decode cX5_next 39 = .ok (.getfield 49, 3) := dk_180 0 49 (dk_at dksX5_next_1 15 rfl rfl)
theorem dX5_next_42 : decode cX5_next 42 = .ok (.iconst 1, 1) := dk_4 (dk_at dksX5_next_1 18 rfl rfl)
theorem dX5_next_43 : decode cX5_next 43 = .ok (.iadd, 1) := dk_96 (dk_at dksX5_next_1 19 rfl rfl)
theorem dX5_next_44 : decode cX5_next 44 = .ok (.putfield 49, 3) := dk_181 0 49 (dk_at dksX5_next_1 20 rfl rfl)
theorem dX5_next_47 : decode cX5_next 47 = .ok (.goto (-47), 3) := dk_167 255 209 (dk_at dksX5_next_2 0 rfl rfl)
theorem dX5_next_50 : decode cX5_next 50 = .ok (.aload_n 0, 1) := dk_42 (dk_at dksX5_next_2 3 rfl rfl)
theorem dX5_next_51 : decode cX5_next 51 = .ok (.aload_n 0, 1) := dk_42 (dk_at dksX5_next_2 4 rfl rfl)
theorem dX5_next_52 : decode cX5_next 52 = .ok (.getfield 49, 3) := dk_180 0 49 (dk_at dksX5_next_2 5 rfl rfl)
theorem dX5_next_55 : decode cX5_next 55 = .ok (.putfield 52, 3) := dk_181 0 52 (dk_at dksX5_next_2 8 rfl rfl)
theorem dX5_next_58 : decode cX5_next 58 = .ok (.aload_n 0, 1) := dk_42 (dk_at dksX5_next_2 11 rfl rfl)
theorem dX5_next_59 : decode cX5_next 59 = .ok (.getfield 49, 3) := dk_180 0 49 (dk_at dksX5_next_2 12 rfl rfl)
theorem dX5_next_62 : decode cX5_next 62 = .ok (.aload_n 0, 1) := dk_42 (dk_at dksX5_next_2 15 rfl rfl)
theorem dX5_next_63 : decode cX5_next 63 = .ok (.getfield 26, 3) := dk_180 0 26 (dk_at dksX5_next_2 16 rfl rfl)
theorem dX5_next_66 : decode cX5_next 66 = .ok (.if_icmp .lt 11, 3) := dk_161 0 11 (dk_at dksX5_next_2 19 rfl rfl)
theorem dX5_next_69 : decode cX5_next 69 = .ok (.aload_n 0, 1) := dk_42 (dk_at dksX5_next_2 22 rfl rfl)
theorem dX5_next_70 : decode cX5_next 70 = .ok (.iconst 0, 1) := dk_3 (dk_at dksX5_next_2 23 rfl rfl)
theorem dX5_next_71 : decode cX5_next 71 = .ok (.putfield 55, 3) := dk_181 0 55 (dk_at dksX5_next_3 0 rfl rfl)
theorem dX5_next_74 : decode cX5_next 74 = .ok (.goto 189, 3) := dk_167 0 189 (dk_at dksX5_next_3 3 rfl rfl)
theorem dX5_next_77 : decode cX5_next 77 = .ok (.aload_n 0, 1) := dk_42 (dk_at dksX5_next_3 6 rfl rfl)
theorem dX5_next_78 : decode cX5_next 78 = .ok (.aload_n 0, 1) := dk_42 (dk_at dksX5_next_3 7 rfl rfl)
theorem dX5_next_79 : decode cX5_next 79 = .ok (.getfield 49, 3) := dk_180 0 49 (dk_at dksX5_next_3 8 rfl rfl)
theorem dX5_next_82 : decode cX5_next 82 = .ok (.invokevirtual 58, 3) := dk_182 0 58 (dk_at dksX5_next_3 11 rfl rfl)
theorem dX5_next_85 : decode cX5_next 85 = .ok (.ifCond .eq 35, 3) := dk_153 0 35 (dk_at dksX5_next_3 14 rfl rfl)
theorem dX5_next_88 : decode cX5_next 88 = .ok (.aload_n 0, 1) := dk_42 (dk_at dksX5_next_3 17 rfl rfl)
theorem dX5_next_89 : decode cX5_next 89 = .ok (.aload_n 0, 1) := dk_42 (dk_at dksX5_next_3 18 rfl rfl)
theorem dX5_next_90 : decode cX5_next 90 = .ok (.getfield 49, 3) := dk_180 0 49 (dk_at dksX5_next_3 19 rfl rfl)
theorem dX5_next_93 : decode cX5_next 93 = .ok (.invokevirtual 58, 3) := dk_182 0 58 (dk_at dksX5_next_4 0 rfl rfl)
theorem dX5_next_96 : decode cX5_next 96 = .ok (.ifCond .eq 16, 3) := dk_153 0 16 (dk_at dksX5_next_4 3 rfl rfl)
theorem dX5_next_99 : decode cX5_next 99 = .ok (.aload_n 0, 1) := dk_42 (dk_at dksX5_next_4 6 rfl rfl)
theorem dX5_next_100 : decode cX5_next 100 = .ok (.dup, 1) := dk_89 (dk_at dksX5_next_4 7 rfl rfl)
theorem dX5_next_101 : decode cX5_next 101 = .ok (.getfield 49, 3) := dk_180 0 49 (dk_at dksX5_next_4 8 rfl rfl)
theorem dX5_next_104 : decode cX5_next 104 = .ok (.iconst 1, 1) := dk_4 (dk_at dksX5_next_4 11 rfl rfl)
theorem dX5_next_105 : decode cX5_next 105 = .ok (.iadd, 1) := dk_96 (dk_at dksX5_next_4 12 rfl rfl)
theorem dX5_next_106 : decode cX5_next 106 = .ok (.putfield 49, 3) := dk_181 0 49 (dk_at dksX5_next_4 13 rfl rfl)
theorem dX5_next_109 : decode cX5_next 109 = .ok (.goto (-21), 3) := dk_167 255 235 (dk_at dksX5_next_4 16 rfl rfl)
theorem dX5_next_112 : decode cX5_next 112 = .ok (.aload_n 0, 1) := dk_42 (dk_at dksX5_next_4 19 rfl rfl)
theorem dX5_next_113 : decode cX5_next 113 = .ok (.iconst 1, 1) := dk_4 (dk_at dksX5_next_4 20 rfl rfl)
theorem dX5_next_114 : decode cX5_next 114 = .ok (.putfield 55, 3) := dk_181 0 55 (dk_at dksX5_next_4 21 rfl rfl)
theorem dX5_next_117 : decode cX5_next 117 = .ok (.goto 146, 3) := dk_167 0 146 (dk_at dksX5_next_5 0 rfl rfl)
theorem dX5_next_120 : decode cX5_next 120 = .ok (.aload_n 0, 1) := dk_42 (dk_at dksX5_next_5 3 rfl rfl)
theorem dX5_next_121 : decode cX5_next 121 = .ok (.aload_n 0, 1) := dk_42 (dk_at dksX5_next_5 4 rfl rfl)
theorem dX5_next_122 : decode cX5_next 122 = .ok (.getfield 49, 3) := dk_180 0 49 (dk_at dksX5_next_5 5 rfl rfl)
theorem dX5_next_125 : decode cX5_next 125 = .ok (.invokevirtual 62, 3) := dk_182 0 62 (dk_at dksX5_next_5 8 rfl rfl)
theorem dX5_next_128 : decode cX5_next 128 = .ok (.ifCond .eq 93, 3) := dk_153 0 93 (dk_at dksX5_next_5 11 rfl rfl)
theorem dX5_next_131 : decode cX5_next 131 = .ok (.aload_n 0, 1) := dk_42 (dk_at dksX5_next_5 14 rfl rfl)
theorem dX5_next_132 : decode cX5_next 132 = .ok (.iconst 0, 1) := dk_3 (dk_at dksX5_next_5 15 rfl rfl)
theorem dX5_next_133 : decode cX5_next 133 = .ok (.putfield 65, 3) := dk_181 0 65 (dk_at dksX5_next_5 16 rfl rfl)
theorem dX5_next_136 : decode cX5_next 136 = .ok (.aload_n 0, 1) := dk_42 (dk_at dksX5_next_5 19 rfl rfl)
theorem dX5_next_137 : decode cX5_next 137 = .ok (.aload_n 0, 1) := dk_42 (dk_at dksX5_next_5 20 rfl rfl)
theorem dX5_next_138 : decode cX5_next 138 = .ok (.getfield 49, 3) := dk_180 0 49 (dk_at dksX5_next_5 21 rfl rfl)
theorem dX5_next_141 : decode cX5_next 141 = .ok (.invokevirtual 62, 3) := dk_182 0 62 (dk_at dksX5_next_6 0 rfl rfl)
theorem dX5_next_144 : decode cX5_next 144 = .ok (.ifCond .eq 52, 3) := dk_153 0 52 (dk_at dksX5_next_6 3 rfl rfl)
theorem dX5_next_147 : decode cX5_next 147 = .ok (.aload_n 0, 1) := dk_42 (dk_at dksX5_next_6 6 rfl rfl)
theorem dX5_next_148 : decode cX5_next 148 = .ok (.getfield 49, 3) := dk_180 0 49 (dk_at dksX5_next_6 7 rfl rfl)
theorem dX5_next_151 : decode cX5_next 151 = .ok (.aload_n 0, 1) := dk_42 (dk_at dksX5_next_6 10 rfl rfl)
theorem dX5_next_152 : decode cX5_next 152 = .ok (.getfield 52, 3) := dk_180 0 52 (dk_at dksX5_next_6 11 rfl rfl)
theorem dX5_next_155 : decode cX5_next 155 = .ok (.isub, 1) := dk_100 (dk_at dksX5_next_6 14 rfl rfl)
theorem dX5_next_156 : decode cX5_next 156 = .ok (.iconst 3, 1) := dk_6 (dk_at dksX5_next_6 15 rfl rfl)
theorem dX5_next_157 : decode cX5_next 157 = .ok (.if_icmp .ge 26, 3) := dk_162 0 26 (dk_at dksX5_next_6 16 rfl rfl)
theorem dX5_next_160 : decode cX5_next 160 = .ok (.aload_n 0, 1) := dk_42 (dk_at dksX5_next_6 19 rfl rfl)
theorem dX5_next_161 : decode cX5_next 161 = .ok (.bipush 10, 2) := dk_16 10 (dk_at dksX5_next_6 20 rfl rfl)
theorem dX5_next_163 : decode cX5_next 163 = .ok (.aload_n 0, 1) := dk_42 (dk_at dksX5_next_6 22 rfl rfl)
theorem dX5_next_164 : decode cX5_next 164 = .ok (.getfield 65, 3) := dk_180 0 65 (dk_at dksX5_next_7 0 rfl rfl)
theorem dX5_next_167 : decode cX5_next 167 = .ok (.imul, 1) := dk_104 (dk_at dksX5_next_7 3 rfl rfl)
theorem dX5_next_168 : decode cX5_next 168 = .ok (.aload_n 0, 1) := dk_42 (dk_at dksX5_next_7 4 rfl rfl)
theorem dX5_next_169 : decode cX5_next 169 = .ok (.aload_n 0, 1) := dk_42 (dk_at dksX5_next_7 5 rfl rfl)
theorem dX5_next_170 : decode cX5_next 170 = .ok (.getfield 49, 3) := dk_180 0 49 (dk_at dksX5_next_7 6 rfl rfl)
theorem dX5_next_173 : decode cX5_next 173 = .ok (.invokevirtual 33, 3) := dk_182 0 33 (dk_at dksX5_next_7 9 rfl rfl)
theorem dX5_next_176 : decode cX5_next 176 = .ok (.iadd, 1) := dk_96 (dk_at dksX5_next_7 12 rfl rfl)
theorem dX5_next_177 : decode cX5_next 177 = .ok (.bipush 48, 2) := dk_16 48 (dk_at dksX5_next_7 13 rfl rfl)
theorem dX5_next_179 : decode cX5_next 179 = .ok (.isub, 1) := dk_100 (dk_at dksX5_next_7 15 rfl rfl)
theorem dX5_next_180 : decode cX5_next 180 = .ok (.putfield 65, 3) := dk_181 0 65 (dk_at dksX5_next_7 16 rfl rfl)
theorem dX5_next_183 : decode cX5_next 183 = .ok (.aload_n 0, 1) := dk_42 (dk_at dksX5_next_7 19 rfl rfl)
theorem dX5_next_184 : decode cX5_next 184 = .ok (.dup, 1) := dk_89 (dk_at dksX5_next_7 20 rfl rfl)
theorem dX5_next_185 : decode cX5_next 185 = .ok (.getfield 49, 3) := dk_180 0 49 (dk_at dksX5_next_7 21 rfl rfl)
theorem dX5_next_188 : decode cX5_next 188 = .ok (.iconst 1, 1) := dk_4 (dk_at dksX5_next_8 0 rfl rfl)
theorem dX5_next_189 : decode cX5_next 189 = .ok (.iadd, 1) := dk_96 (dk_at dksX5_next_8 1 rfl rfl)
theorem dX5_next_190 : decode cX5_next 190 = .ok (.putfield 49, 3) := dk_181 0 49 (dk_at dksX5_next_8 2 rfl rfl)
theorem dX5_next_193 : decode cX5_next 193 = .ok (.goto (-57), 3) := dk_167 255 199 (dk_at dksX5_next_8 5 rfl rfl)
theorem dX5_next_196 : decode cX5_next 196 = .ok (.aload_n 0, 1) := dk_42 (dk_at dksX5_next_8 8 rfl rfl)
theorem dX5_next_197 : decode cX5_next 197 = .ok (.aload_n 0, 1) := dk_42 (dk_at dksX5_next_8 9 rfl rfl)
theorem dX5_next_198 : decode cX5_next 198 = .ok (.getfield 49, 3) := dk_180 0 49 (dk_at dksX5_next_8 10 rfl rfl)
theorem dX5_next_201 : decode cX5_next 201 = .ok (.aload_n 0, 1) := dk_42 (dk_at dksX5_next_8 13 rfl rfl)
theorem dX5_next_202 : decode cX5_next 202 = .ok (.getfield 52, 3) := dk_180 0 52 (dk_at dksX5_next_8 14 rfl rfl)
theorem dX5_next_205 : decode cX5_next 205 = .ok (.isub, 1) := dk_100 (dk_at dksX5_next_8 17 rfl rfl)
theorem dX5_next_206 : decode cX5_next 206 = .ok (.iconst 3, 1) := dk_6 (dk_at dksX5_next_8 18 rfl rfl)
theorem dX5_next_207 : decode cX5_next 207 = .ok (.if_icmp .le 7, 3) := dk_164 0 7 (dk_at dksX5_next_8 19 rfl rfl)
theorem dX5_next_210 : decode cX5_next 210 = .ok (.iconst 3, 1) := dk_6 (dk_at dksX5_next_8 22 rfl rfl)
theorem dX5_next_211 : decode cX5_next 211 = .ok (.goto 4, 3) := dk_167 0 4 (dk_at dksX5_next_9 0 rfl rfl)
theorem dX5_next_214 : decode cX5_next 214 = .ok (.iconst 2, 1) := dk_5 (dk_at dksX5_next_9 3 rfl rfl)
theorem dX5_next_215 : decode cX5_next 215 = .ok (.putfield 55, 3) := dk_181 0 55 (dk_at dksX5_next_9 4 rfl rfl)
theorem dX5_next_218 : decode cX5_next 218 = .ok (.goto 45, 3) := dk_167 0 45 (dk_at dksX5_next_9 7 rfl rfl)
theorem dX5_next_221 : decode cX5_next 221 = .ok (.aload_n 0, 1) := dk_42 (dk_at dksX5_next_9 10 rfl rfl)
theorem dX5_next_222 : decode cX5_next 222 = .ok (.ldc 68, 2) := dk_18 68 (dk_at dksX5_next_9 11 rfl rfl)
theorem dX5_next_224 : decode cX5_next 224 = .ok (.aload_n 0, 1) := dk_42 (dk_at dksX5_next_9 13 rfl rfl)
theorem dX5_next_225 : decode cX5_next 225 = .ok (.aload_n 0, 1) := dk_42 (dk_at dksX5_next_9 14 rfl rfl)
theorem dX5_next_226 : decode cX5_next 226 = .ok (.getfield 49, 3) := dk_180 0 49 (dk_at dksX5_next_9 15 rfl rfl)
theorem dX5_next_229 : decode cX5_next 229 = .ok (.invokevirtual 33, 3) := dk_182 0 33 (dk_at dksX5_next_9 18 rfl rfl)
theorem dX5_next_232 : decode cX5_next 232 = .ok (.invokevirtual 70, 3) := dk_182 0 70 (dk_at dksX5_next_9 21 rfl rfl)
theorem dX5_next_235 : decode cX5_next 235 = .ok (.ifCond .lt 14, 3) := dk_155 0 14 (dk_at dksX5_next_10 0 rfl rfl)
theorem dX5_next_238 : decode cX5_next 238 = .ok (.aload_n 0, 1) := dk_42 (dk_at dksX5_next_10 3 rfl rfl)
theorem dX5_next_239 : decode cX5_next 239 = .ok (.aload_n 0, 1) := dk_42 (dk_at dksX5_next_10 4 rfl rfl)
theorem dX5_next_240 : decode cX5_next 240 = .ok (.getfield 49, 3) := dk_180 0 49 (dk_at dksX5_next_10 5 rfl rfl)
theorem dX5_next_243 : decode cX5_next 243 = .ok (.invokevirtual 33, 3) := dk_182 0 33 (dk_at dksX5_next_10 8 rfl rfl)
theorem dX5_next_246 : decode cX5_next 246 = .ok (.goto 4, 3) := dk_167 0 4 (dk_at dksX5_next_10 11 rfl rfl)
theorem dX5_next_249 : decode cX5_next 249 = .ok (.iconst 3, 1) := dk_6 (dk_at dksX5_next_10 14 rfl rfl)
theorem dX5_next_250 : decode cX5_next 250 = .ok (.putfield 55, 3) := dk_181 0 55 (dk_at dksX5_next_10 15 rfl rfl)
theorem dX5_next_253 : decode cX5_next 253 = .ok (.aload_n 0, 1) := dk_42 (dk_at dksX5_next_10 18 rfl rfl)
theorem dX5_next_254 : decode cX5_next 254 = .ok (.dup, 1) := dk_89 (dk_at dksX5_next_10 19 rfl rfl)
theorem dX5_next_255 : decode cX5_next 255 = .ok (.getfield 49, 3) := dk_180 0 49 (dk_at dksX5_next_10 20 rfl rfl)
theorem dX5_next_258 : decode cX5_next 258 = .ok (.iconst 1, 1) := dk_4 (dk_at dksX5_next_10 23 rfl rfl)
theorem dX5_next_259 : decode cX5_next 259 = .ok (.iadd, 1) := dk_96 (dk_at dksX5_next_11 0 rfl rfl)
theorem dX5_next_260 : decode cX5_next 260 = .ok (.putfield 49, 3) := dk_181 0 49 (dk_at dksX5_next_11 1 rfl rfl)
theorem dX5_next_263 : decode cX5_next 263 = .ok (.return_, 1) := dk_177 (dk_at dksX5_next_11 4 rfl rfl)
abbrev cX5_see : ByteArray := prog_6_method_2_code
def yX5_see : MethodName := ⟨RX5, "see", "(I)I"⟩
def dkwX5_see_1 : List UInt8 := [3, 172]
abbrev dktX5_see_1 : List UInt8 := dkwX5_see_1 ++ []
def dkwX5_see_0 : List UInt8 := [27, 42, 180, 0, 26, 162, 0, 19, 42, 180, 0, 3, 180, 0, 29, 27, 51, 17, 0, 255, 126, 167, 0, 4]
abbrev dktX5_see_0 : List UInt8 := dkwX5_see_0 ++ dktX5_see_1
theorem dksX5_see_0 : cX5_see.data.toList.drop 0 = dktX5_see_0 := by decide +kernel
theorem dksX5_see_1 : cX5_see.data.toList.drop 24 = dktX5_see_1 := dk_seg dksX5_see_0 24 rfl rfl
theorem dX5_see_0 : decode cX5_see 0 = .ok (.iload_n 1, 1) := dk_27 (dk_at dksX5_see_0 0 rfl rfl)
theorem dX5_see_1 : decode cX5_see 1 = .ok (.aload_n 0, 1) := dk_42 (dk_at dksX5_see_0 1 rfl rfl)
theorem dX5_see_2 : decode cX5_see 2 = .ok (.getfield 26, 3) := dk_180 0 26 (dk_at dksX5_see_0 2 rfl rfl)
theorem dX5_see_5 : decode cX5_see 5 = .ok (.if_icmp .ge 19, 3) := dk_162 0 19 (dk_at dksX5_see_0 5 rfl rfl)
theorem dX5_see_8 : decode cX5_see 8 = .ok (.aload_n 0, 1) := dk_42 (dk_at dksX5_see_0 8 rfl rfl)
theorem dX5_see_9 : decode cX5_see 9 = .ok (.getfield 3, 3) := dk_180 0 3 (dk_at dksX5_see_0 9 rfl rfl)
theorem dX5_see_12 : decode cX5_see 12 = .ok (.getfield 29, 3) := dk_180 0 29 (dk_at dksX5_see_0 12 rfl rfl)
theorem dX5_see_15 : decode cX5_see 15 = .ok (.iload_n 1, 1) := dk_27 (dk_at dksX5_see_0 15 rfl rfl)
theorem dX5_see_16 : decode cX5_see 16 = .ok (.baload, 1) := dk_51 (dk_at dksX5_see_0 16 rfl rfl)
theorem dX5_see_17 : decode cX5_see 17 = .ok (.sipush 255, 3) := dk_17 0 255 (dk_at dksX5_see_0 17 rfl rfl)
theorem dX5_see_20 : decode cX5_see 20 = .ok (.iand, 1) := dk_126 (dk_at dksX5_see_0 20 rfl rfl)
theorem dX5_see_21 : decode cX5_see 21 = .ok (.goto 4, 3) := dk_167 0 4 (dk_at dksX5_see_0 21 rfl rfl)
theorem dX5_see_24 : decode cX5_see 24 = .ok (.iconst 0, 1) := dk_3 (dk_at dksX5_see_1 0 rfl rfl)
theorem dX5_see_25 : decode cX5_see 25 = .ok (.ireturn, 1) := dk_172 (dk_at dksX5_see_1 1 rfl rfl)
abbrev cX5_isSmall : ByteArray := prog_6_method_3_code
def yX5_isSmall : MethodName := ⟨RX5, "isSmall", "(I)Z"⟩
def dkwX5_isSmall_0 : List UInt8 := [42, 27, 182, 0, 33, 133, 20, 0, 37, 20, 0, 39, 184, 0, 41, 172]
abbrev dktX5_isSmall_0 : List UInt8 := dkwX5_isSmall_0 ++ []
theorem dksX5_isSmall_0 : cX5_isSmall.data.toList.drop 0 = dktX5_isSmall_0 := by decide +kernel
theorem dX5_isSmall_0 : decode cX5_isSmall 0 = .ok (.aload_n 0, 1) := dk_42 (dk_at dksX5_isSmall_0 0 rfl rfl)
theorem dX5_isSmall_1 : decode cX5_isSmall 1 = .ok (.iload_n 1, 1) := dk_27 (dk_at dksX5_isSmall_0 1 rfl rfl)
theorem dX5_isSmall_2 : decode cX5_isSmall 2 = .ok (.invokevirtual 33, 3) := dk_182 0 33 (dk_at dksX5_isSmall_0 2 rfl rfl)
theorem dX5_isSmall_5 : decode cX5_isSmall 5 = .ok (.i2l, 1) := dk_133 (dk_at dksX5_isSmall_0 5 rfl rfl)
theorem dX5_isSmall_6 : decode cX5_isSmall 6 = .ok (.ldc2_w 37, 3) := dk_20 0 37 (dk_at dksX5_isSmall_0 6 rfl rfl)
theorem dX5_isSmall_9 : decode cX5_isSmall 9 = .ok (.ldc2_w 39, 3) := dk_20 0 39 (dk_at dksX5_isSmall_0 9 rfl rfl)
theorem dX5_isSmall_12 : decode cX5_isSmall 12 = .ok (.invokestatic 41, 3) := dk_184 0 41 (dk_at dksX5_isSmall_0 12 rfl rfl)
theorem dX5_isSmall_15 : decode cX5_isSmall 15 = .ok (.ireturn, 1) := dk_172 (dk_at dksX5_isSmall_0 15 rfl rfl)
abbrev cX5_isDigit : ByteArray := prog_6_method_4_code
def yX5_isDigit : MethodName := ⟨RX5, "isDigit", "(I)Z"⟩
def dkwX5_isDigit_0 : List UInt8 := [42, 27, 182, 0, 33, 133, 20, 0, 45, 20, 0, 47, 184, 0, 41, 172]
abbrev dktX5_isDigit_0 : List UInt8 := dkwX5_isDigit_0 ++ []
theorem dksX5_isDigit_0 : cX5_isDigit.data.toList.drop 0 = dktX5_isDigit_0 := by decide +kernel
theorem dX5_isDigit_0 : decode cX5_isDigit 0 = .ok (.aload_n 0, 1) := dk_42 (dk_at dksX5_isDigit_0 0 rfl rfl)
theorem dX5_isDigit_1 : decode cX5_isDigit 1 = .ok (.iload_n 1, 1) := dk_27 (dk_at dksX5_isDigit_0 1 rfl rfl)
theorem dX5_isDigit_2 : decode cX5_isDigit 2 = .ok (.invokevirtual 33, 3) := dk_182 0 33 (dk_at dksX5_isDigit_0 2 rfl rfl)
theorem dX5_isDigit_5 : decode cX5_isDigit 5 = .ok (.i2l, 1) := dk_133 (dk_at dksX5_isDigit_0 5 rfl rfl)
theorem dX5_isDigit_6 : decode cX5_isDigit 6 = .ok (.ldc2_w 45, 3) := dk_20 0 45 (dk_at dksX5_isDigit_0 6 rfl rfl)
theorem dX5_isDigit_9 : decode cX5_isDigit 9 = .ok (.ldc2_w 47, 3) := dk_20 0 47 (dk_at dksX5_isDigit_0 9 rfl rfl)
theorem dX5_isDigit_12 : decode cX5_isDigit 12 = .ok (.invokestatic 41, 3) := dk_184 0 41 (dk_at dksX5_isDigit_0 12 rfl rfl)
theorem dX5_isDigit_15 : decode cX5_isDigit 15 = .ok (.ireturn, 1) := dk_172 (dk_at dksX5_isDigit_0 15 rfl rfl)
abbrev cX5_line : ByteArray := prog_6_method_14_code
def yX5_line : MethodName := ⟨RX5, "line", "()V"⟩
def dkwX5_line_9 : List UInt8 := [42, 182, 0, 150, 177]
abbrev dktX5_line_9 : List UInt8 := dkwX5_line_9 ++ []
def dkwX5_line_8 : List UInt8 := [182, 0, 97, 153, 0, 21, 42, 180, 0, 18, 42, 3, 17, 3, 231, 182, 0, 136, 181, 0, 148, 167, 0, 7]
abbrev dktX5_line_8 : List UInt8 := dkwX5_line_8 ++ dktX5_line_9
def dkwX5_line_7 : List UInt8 := [153, 0, 21, 42, 180, 0, 18, 42, 3, 17, 3, 231, 182, 0, 136, 181, 0, 144, 167, 0, 34, 42, 18, 146]
abbrev dktX5_line_7 : List UInt8 := dkwX5_line_7 ++ dktX5_line_8
def dkwX5_line_6 : List UInt8 := [180, 0, 18, 42, 3, 17, 3, 231, 182, 0, 136, 181, 0, 140, 167, 0, 61, 42, 18, 142, 182, 0, 97]
abbrev dktX5_line_6 : List UInt8 := dkwX5_line_6 ++ dktX5_line_7
def dkwX5_line_5 : List UInt8 := [180, 0, 132, 182, 0, 122, 181, 0, 132, 167, 0, 88, 42, 18, 134, 182, 0, 97, 153, 0, 21, 42]
abbrev dktX5_line_5 : List UInt8 := dkwX5_line_5 ++ dktX5_line_6
def dkwX5_line_4 : List UInt8 := [167, 0, 119, 42, 18, 130, 182, 0, 97, 153, 0, 25, 42, 180, 0, 18, 42, 5, 42, 180, 0, 18]
abbrev dktX5_line_4 : List UInt8 := dkwX5_line_4 ++ dktX5_line_5
def dkwX5_line_3 : List UInt8 := [153, 0, 25, 42, 180, 0, 18, 42, 4, 42, 180, 0, 18, 180, 0, 128, 182, 0, 122, 181, 0, 128]
abbrev dktX5_line_3 : List UInt8 := dkwX5_line_3 ++ dktX5_line_4
def dkwX5_line_2 : List UInt8 := [3, 42, 180, 0, 18, 180, 0, 119, 182, 0, 122, 181, 0, 119, 167, 0, 150, 42, 18, 126, 182, 0, 97]
abbrev dktX5_line_2 : List UInt8 := dkwX5_line_2 ++ dktX5_line_3
def dkwX5_line_1 : List UInt8 := [153, 0, 10, 42, 182, 0, 115, 167, 0, 181, 42, 18, 117, 182, 0, 97, 153, 0, 25, 42, 180, 0, 18, 42]
abbrev dktX5_line_1 : List UInt8 := dkwX5_line_1 ++ dktX5_line_2
def dkwX5_line_0 : List UInt8 := [42, 18, 109, 182, 0, 86, 153, 0, 10, 42, 182, 0, 111, 167, 0, 197, 42, 18, 113, 182, 0, 86]
abbrev dktX5_line_0 : List UInt8 := dkwX5_line_0 ++ dktX5_line_1
theorem dksX5_line_0 : cX5_line.data.toList.drop 0 = dktX5_line_0 := by decide +kernel
theorem dksX5_line_1 : cX5_line.data.toList.drop 22 = dktX5_line_1 := dk_seg dksX5_line_0 22 rfl rfl
theorem dksX5_line_2 : cX5_line.data.toList.drop 46 = dktX5_line_2 := dk_seg dksX5_line_1 24 rfl rfl
theorem dksX5_line_3 : cX5_line.data.toList.drop 69 = dktX5_line_3 := dk_seg dksX5_line_2 23 rfl rfl
theorem dksX5_line_4 : cX5_line.data.toList.drop 91 = dktX5_line_4 := dk_seg dksX5_line_3 22 rfl rfl
theorem dksX5_line_5 : cX5_line.data.toList.drop 113 = dktX5_line_5 := dk_seg dksX5_line_4 22 rfl rfl
theorem dksX5_line_6 : cX5_line.data.toList.drop 135 = dktX5_line_6 := dk_seg dksX5_line_5 22 rfl rfl
theorem dksX5_line_7 : cX5_line.data.toList.drop 158 = dktX5_line_7 := dk_seg dksX5_line_6 23 rfl rfl
theorem dksX5_line_8 : cX5_line.data.toList.drop 182 = dktX5_line_8 := dk_seg dksX5_line_7 24 rfl rfl
theorem dksX5_line_9 : cX5_line.data.toList.drop 206 = dktX5_line_9 := dk_seg dksX5_line_8 24 rfl rfl
theorem dX5_line_0 : decode cX5_line 0 = .ok (.aload_n 0, 1) := dk_42 (dk_at dksX5_line_0 0 rfl rfl)
theorem dX5_line_1 : decode cX5_line 1 = .ok (.ldc 109, 2) := dk_18 109 (dk_at dksX5_line_0 1 rfl rfl)
theorem dX5_line_3 : decode cX5_line 3 = .ok (.invokevirtual 86, 3) := dk_182 0 86 (dk_at dksX5_line_0 3 rfl rfl)
theorem dX5_line_6 : decode cX5_line 6 = .ok (.ifCond .eq 10, 3) := dk_153 0 10 (dk_at dksX5_line_0 6 rfl rfl)
theorem dX5_line_9 : decode cX5_line 9 = .ok (.aload_n 0, 1) := dk_42 (dk_at dksX5_line_0 9 rfl rfl)
theorem dX5_line_10 : decode cX5_line 10 = .ok (.invokevirtual 111, 3) := dk_182 0 111 (dk_at dksX5_line_0 10 rfl rfl)
theorem dX5_line_13 : decode cX5_line 13 = .ok (.goto 197, 3) := dk_167 0 197 (dk_at dksX5_line_0 13 rfl rfl)
theorem dX5_line_16 : decode cX5_line 16 = .ok (.aload_n 0, 1) := dk_42 (dk_at dksX5_line_0 16 rfl rfl)
theorem dX5_line_17 : decode cX5_line 17 = .ok (.ldc 113, 2) := dk_18 113 (dk_at dksX5_line_0 17 rfl rfl)
theorem dX5_line_19 : decode cX5_line 19 = .ok (.invokevirtual 86, 3) := dk_182 0 86 (dk_at dksX5_line_0 19 rfl rfl)
theorem dX5_line_22 : decode cX5_line 22 = .ok (.ifCond .eq 10, 3) := dk_153 0 10 (dk_at dksX5_line_1 0 rfl rfl)
theorem dX5_line_25 : decode cX5_line 25 = .ok (.aload_n 0, 1) := dk_42 (dk_at dksX5_line_1 3 rfl rfl)
theorem dX5_line_26 : decode cX5_line 26 = .ok (.invokevirtual 115, 3) := dk_182 0 115 (dk_at dksX5_line_1 4 rfl rfl)
theorem dX5_line_29 : decode cX5_line 29 = .ok (.goto 181, 3) := dk_167 0 181 (dk_at dksX5_line_1 7 rfl rfl)
theorem dX5_line_32 : decode cX5_line 32 = .ok (.aload_n 0, 1) := dk_42 (dk_at dksX5_line_1 10 rfl rfl)
theorem dX5_line_33 : decode cX5_line 33 = .ok (.ldc 117, 2) := dk_18 117 (dk_at dksX5_line_1 11 rfl rfl)
theorem dX5_line_35 : decode cX5_line 35 = .ok (.invokevirtual 97, 3) := dk_182 0 97 (dk_at dksX5_line_1 13 rfl rfl)
theorem dX5_line_38 : decode cX5_line 38 = .ok (.ifCond .eq 25, 3) := dk_153 0 25 (dk_at dksX5_line_1 16 rfl rfl)
theorem dX5_line_41 : decode cX5_line 41 = .ok (.aload_n 0, 1) := dk_42 (dk_at dksX5_line_1 19 rfl rfl)
theorem dX5_line_42 : decode cX5_line 42 = .ok (.getfield 18, 3) := dk_180 0 18 (dk_at dksX5_line_1 20 rfl rfl)
theorem dX5_line_45 : decode cX5_line 45 = .ok (.aload_n 0, 1) := dk_42 (dk_at dksX5_line_1 23 rfl rfl)
theorem dX5_line_46 : decode cX5_line 46 = .ok (.iconst 0, 1) := dk_3 (dk_at dksX5_line_2 0 rfl rfl)
theorem dX5_line_47 : decode cX5_line 47 = .ok (.aload_n 0, 1) := dk_42 (dk_at dksX5_line_2 1 rfl rfl)
theorem dX5_line_48 : decode cX5_line 48 = .ok (.getfield 18, 3) := dk_180 0 18 (dk_at dksX5_line_2 2 rfl rfl)
theorem dX5_line_51 : decode cX5_line 51 = .ok (.getfield 119, 3) := dk_180 0 119 (dk_at dksX5_line_2 5 rfl rfl)
theorem dX5_line_54 : decode cX5_line 54 = .ok (.invokevirtual 122, 3) := dk_182 0 122 (dk_at dksX5_line_2 8 rfl rfl)
theorem dX5_line_57 : decode cX5_line 57 = .ok (.putfield 119, 3) := dk_181 0 119 (dk_at dksX5_line_2 11 rfl rfl)
theorem dX5_line_60 : decode cX5_line 60 = .ok (.goto 150, 3) := dk_167 0 150 (dk_at dksX5_line_2 14 rfl rfl)
theorem dX5_line_63 : decode cX5_line 63 = .ok (.aload_n 0, 1) := dk_42 (dk_at dksX5_line_2 17 rfl rfl)
theorem dX5_line_64 : decode cX5_line 64 = .ok (.ldc 126, 2) := dk_18 126 (dk_at dksX5_line_2 18 rfl rfl)
theorem dX5_line_66 : decode cX5_line 66 = .ok (.invokevirtual 97, 3) := dk_182 0 97 (dk_at dksX5_line_2 20 rfl rfl)
theorem dX5_line_69 : decode cX5_line 69 = .ok (.ifCond .eq 25, 3) := dk_153 0 25 (dk_at dksX5_line_3 0 rfl rfl)
theorem dX5_line_72 : decode cX5_line 72 = .ok (.aload_n 0, 1) := dk_42 (dk_at dksX5_line_3 3 rfl rfl)
theorem dX5_line_73 : decode cX5_line 73 = .ok (.getfield 18, 3) := dk_180 0 18 (dk_at dksX5_line_3 4 rfl rfl)
theorem dX5_line_76 : decode cX5_line 76 = .ok (.aload_n 0, 1) := dk_42 (dk_at dksX5_line_3 7 rfl rfl)
theorem dX5_line_77 : decode cX5_line 77 = .ok (.iconst 1, 1) := dk_4 (dk_at dksX5_line_3 8 rfl rfl)
theorem dX5_line_78 : decode cX5_line 78 = .ok (.aload_n 0, 1) := dk_42 (dk_at dksX5_line_3 9 rfl rfl)
theorem dX5_line_79 : decode cX5_line 79 = .ok (.getfield 18, 3) := dk_180 0 18 (dk_at dksX5_line_3 10 rfl rfl)
theorem dX5_line_82 : decode cX5_line 82 = .ok (.getfield 128, 3) := dk_180 0 128 (dk_at dksX5_line_3 13 rfl rfl)
theorem dX5_line_85 : decode cX5_line 85 = .ok (.invokevirtual 122, 3) := dk_182 0 122 (dk_at dksX5_line_3 16 rfl rfl)
theorem dX5_line_88 : decode cX5_line 88 = .ok (.putfield 128, 3) := dk_181 0 128 (dk_at dksX5_line_3 19 rfl rfl)
theorem dX5_line_91 : decode cX5_line 91 = .ok (.goto 119, 3) := dk_167 0 119 (dk_at dksX5_line_4 0 rfl rfl)
theorem dX5_line_94 : decode cX5_line 94 = .ok (.aload_n 0, 1) := dk_42 (dk_at dksX5_line_4 3 rfl rfl)
theorem dX5_line_95 : decode cX5_line 95 = .ok (.ldc 130, 2) := dk_18 130 (dk_at dksX5_line_4 4 rfl rfl)
theorem dX5_line_97 : decode cX5_line 97 = .ok (.invokevirtual 97, 3) := dk_182 0 97 (dk_at dksX5_line_4 6 rfl rfl)
theorem dX5_line_100 : decode cX5_line 100 = .ok (.ifCond .eq 25, 3) := dk_153 0 25 (dk_at dksX5_line_4 9 rfl rfl)
theorem dX5_line_103 : decode cX5_line 103 = .ok (.aload_n 0, 1) := dk_42 (dk_at dksX5_line_4 12 rfl rfl)
theorem dX5_line_104 : decode cX5_line 104 = .ok (.getfield 18, 3) := dk_180 0 18 (dk_at dksX5_line_4 13 rfl rfl)
theorem dX5_line_107 : decode cX5_line 107 = .ok (.aload_n 0, 1) := dk_42 (dk_at dksX5_line_4 16 rfl rfl)
theorem dX5_line_108 : decode cX5_line 108 = .ok (.iconst 2, 1) := dk_5 (dk_at dksX5_line_4 17 rfl rfl)
theorem dX5_line_109 : decode cX5_line 109 = .ok (.aload_n 0, 1) := dk_42 (dk_at dksX5_line_4 18 rfl rfl)
theorem dX5_line_110 : decode cX5_line 110 = .ok (.getfield 18, 3) := dk_180 0 18 (dk_at dksX5_line_4 19 rfl rfl)
theorem dX5_line_113 : decode cX5_line 113 = .ok (.getfield 132, 3) := dk_180 0 132 (dk_at dksX5_line_5 0 rfl rfl)
theorem dX5_line_116 : decode cX5_line 116 = .ok (.invokevirtual 122, 3) := dk_182 0 122 (dk_at dksX5_line_5 3 rfl rfl)
theorem dX5_line_119 : decode cX5_line 119 = .ok (.putfield 132, 3) := dk_181 0 132 (dk_at dksX5_line_5 6 rfl rfl)
theorem dX5_line_122 : decode cX5_line 122 = .ok (.goto 88, 3) := dk_167 0 88 (dk_at dksX5_line_5 9 rfl rfl)
theorem dX5_line_125 : decode cX5_line 125 = .ok (.aload_n 0, 1) := dk_42 (dk_at dksX5_line_5 12 rfl rfl)
theorem dX5_line_126 : decode cX5_line 126 = .ok (.ldc 134, 2) := dk_18 134 (dk_at dksX5_line_5 13 rfl rfl)
theorem dX5_line_128 : decode cX5_line 128 = .ok (.invokevirtual 97, 3) := dk_182 0 97 (dk_at dksX5_line_5 15 rfl rfl)
theorem dX5_line_131 : decode cX5_line 131 = .ok (.ifCond .eq 21, 3) := dk_153 0 21 (dk_at dksX5_line_5 18 rfl rfl)
theorem dX5_line_134 : decode cX5_line 134 = .ok (.aload_n 0, 1) := dk_42 (dk_at dksX5_line_5 21 rfl rfl)
theorem dX5_line_135 : decode cX5_line 135 = .ok (.getfield 18, 3) := dk_180 0 18 (dk_at dksX5_line_6 0 rfl rfl)
theorem dX5_line_138 : decode cX5_line 138 = .ok (.aload_n 0, 1) := dk_42 (dk_at dksX5_line_6 3 rfl rfl)
theorem dX5_line_139 : decode cX5_line 139 = .ok (.iconst 0, 1) := dk_3 (dk_at dksX5_line_6 4 rfl rfl)
theorem dX5_line_140 : decode cX5_line 140 = .ok (.sipush 999, 3) := dk_17 3 231 (dk_at dksX5_line_6 5 rfl rfl)
theorem dX5_line_143 : decode cX5_line 143 = .ok (.invokevirtual 136, 3) := dk_182 0 136 (dk_at dksX5_line_6 8 rfl rfl)
theorem dX5_line_146 : decode cX5_line 146 = .ok (.putfield 140, 3) := dk_181 0 140 (dk_at dksX5_line_6 11 rfl rfl)
theorem dX5_line_149 : decode cX5_line 149 = .ok (.goto 61, 3) := dk_167 0 61 (dk_at dksX5_line_6 14 rfl rfl)
theorem dX5_line_152 : decode cX5_line 152 = .ok (.aload_n 0, 1) := dk_42 (dk_at dksX5_line_6 17 rfl rfl)
theorem dX5_line_153 : decode cX5_line 153 = .ok (.ldc 142, 2) := dk_18 142 (dk_at dksX5_line_6 18 rfl rfl)
theorem dX5_line_155 : decode cX5_line 155 = .ok (.invokevirtual 97, 3) := dk_182 0 97 (dk_at dksX5_line_6 20 rfl rfl)
theorem dX5_line_158 : decode cX5_line 158 = .ok (.ifCond .eq 21, 3) := dk_153 0 21 (dk_at dksX5_line_7 0 rfl rfl)
theorem dX5_line_161 : decode cX5_line 161 = .ok (.aload_n 0, 1) := dk_42 (dk_at dksX5_line_7 3 rfl rfl)
theorem dX5_line_162 : decode cX5_line 162 = .ok (.getfield 18, 3) := dk_180 0 18 (dk_at dksX5_line_7 4 rfl rfl)
theorem dX5_line_165 : decode cX5_line 165 = .ok (.aload_n 0, 1) := dk_42 (dk_at dksX5_line_7 7 rfl rfl)
theorem dX5_line_166 : decode cX5_line 166 = .ok (.iconst 0, 1) := dk_3 (dk_at dksX5_line_7 8 rfl rfl)
theorem dX5_line_167 : decode cX5_line 167 = .ok (.sipush 999, 3) := dk_17 3 231 (dk_at dksX5_line_7 9 rfl rfl)
theorem dX5_line_170 : decode cX5_line 170 = .ok (.invokevirtual 136, 3) := dk_182 0 136 (dk_at dksX5_line_7 12 rfl rfl)
theorem dX5_line_173 : decode cX5_line 173 = .ok (.putfield 144, 3) := dk_181 0 144 (dk_at dksX5_line_7 15 rfl rfl)
theorem dX5_line_176 : decode cX5_line 176 = .ok (.goto 34, 3) := dk_167 0 34 (dk_at dksX5_line_7 18 rfl rfl)
theorem dX5_line_179 : decode cX5_line 179 = .ok (.aload_n 0, 1) := dk_42 (dk_at dksX5_line_7 21 rfl rfl)
theorem dX5_line_180 : decode cX5_line 180 = .ok (.ldc 146, 2) := dk_18 146 (dk_at dksX5_line_7 22 rfl rfl)
theorem dX5_line_182 : decode cX5_line 182 = .ok (.invokevirtual 97, 3) := dk_182 0 97 (dk_at dksX5_line_8 0 rfl rfl)
theorem dX5_line_185 : decode cX5_line 185 = .ok (.ifCond .eq 21, 3) := dk_153 0 21 (dk_at dksX5_line_8 3 rfl rfl)
theorem dX5_line_188 : decode cX5_line 188 = .ok (.aload_n 0, 1) := dk_42 (dk_at dksX5_line_8 6 rfl rfl)
theorem dX5_line_189 : decode cX5_line 189 = .ok (.getfield 18, 3) := dk_180 0 18 (dk_at dksX5_line_8 7 rfl rfl)
theorem dX5_line_192 : decode cX5_line 192 = .ok (.aload_n 0, 1) := dk_42 (dk_at dksX5_line_8 10 rfl rfl)
theorem dX5_line_193 : decode cX5_line 193 = .ok (.iconst 0, 1) := dk_3 (dk_at dksX5_line_8 11 rfl rfl)
theorem dX5_line_194 : decode cX5_line 194 = .ok (.sipush 999, 3) := dk_17 3 231 (dk_at dksX5_line_8 12 rfl rfl)
theorem dX5_line_197 : decode cX5_line 197 = .ok (.invokevirtual 136, 3) := dk_182 0 136 (dk_at dksX5_line_8 15 rfl rfl)
theorem dX5_line_200 : decode cX5_line 200 = .ok (.putfield 148, 3) := dk_181 0 148 (dk_at dksX5_line_8 18 rfl rfl)
theorem dX5_line_203 : decode cX5_line 203 = .ok (.goto 7, 3) := dk_167 0 7 (dk_at dksX5_line_8 21 rfl rfl)
theorem dX5_line_206 : decode cX5_line 206 = .ok (.aload_n 0, 1) := dk_42 (dk_at dksX5_line_9 0 rfl rfl)
theorem dX5_line_207 : decode cX5_line 207 = .ok (.invokevirtual 150, 3) := dk_182 0 150 (dk_at dksX5_line_9 1 rfl rfl)
theorem dX5_line_210 : decode cX5_line 210 = .ok (.return_, 1) := dk_177 (dk_at dksX5_line_9 4 rfl rfl)
abbrev cX5_is : ByteArray := prog_6_method_7_code
def yX5_is : MethodName := ⟨RX5, "is", "(Ljava/lang/String;)Z"⟩
def dkwX5_is_2 : List UInt8 := [28, 96, 182, 0, 33, 43, 28, 182, 0, 82, 159, 0, 5, 3, 172, 132, 2, 1, 167, 255, 225, 4, 172]
abbrev dktX5_is_2 : List UInt8 := dkwX5_is_2 ++ []
def dkwX5_is_1 : List UInt8 := [43, 182, 0, 78, 159, 0, 5, 3, 172, 3, 61, 28, 43, 182, 0, 78, 162, 0, 29, 42, 42, 180, 0, 52]
abbrev dktX5_is_1 : List UInt8 := dkwX5_is_1 ++ dktX5_is_2
def dkwX5_is_0 : List UInt8 := [42, 180, 0, 75, 154, 0, 27, 42, 180, 0, 55, 4, 160, 0, 19, 42, 180, 0, 49, 42, 180, 0, 52, 100]
abbrev dktX5_is_0 : List UInt8 := dkwX5_is_0 ++ dktX5_is_1
theorem dksX5_is_0 : cX5_is.data.toList.drop 0 = dktX5_is_0 := by decide +kernel
theorem dksX5_is_1 : cX5_is.data.toList.drop 24 = dktX5_is_1 := dk_seg dksX5_is_0 24 rfl rfl
theorem dksX5_is_2 : cX5_is.data.toList.drop 48 = dktX5_is_2 := dk_seg dksX5_is_1 24 rfl rfl
theorem dX5_is_0 : decode cX5_is 0 = .ok (.aload_n 0, 1) := dk_42 (dk_at dksX5_is_0 0 rfl rfl)
theorem dX5_is_1 : decode cX5_is 1 = .ok (.getfield 75, 3) := dk_180 0 75 (dk_at dksX5_is_0 1 rfl rfl)
theorem dX5_is_4 : decode cX5_is 4 = .ok (.ifCond .ne 27, 3) := dk_154 0 27 (dk_at dksX5_is_0 4 rfl rfl)
theorem dX5_is_7 : decode cX5_is 7 = .ok (.aload_n 0, 1) := dk_42 (dk_at dksX5_is_0 7 rfl rfl)
theorem dX5_is_8 : decode cX5_is 8 = .ok (.getfield 55, 3) := dk_180 0 55 (dk_at dksX5_is_0 8 rfl rfl)
theorem dX5_is_11 : decode cX5_is 11 = .ok (.iconst 1, 1) := dk_4 (dk_at dksX5_is_0 11 rfl rfl)
theorem dX5_is_12 : decode cX5_is 12 = .ok (.if_icmp .ne 19, 3) := dk_160 0 19 (dk_at dksX5_is_0 12 rfl rfl)
theorem dX5_is_15 : decode cX5_is 15 = .ok (.aload_n 0, 1) := dk_42 (dk_at dksX5_is_0 15 rfl rfl)
theorem dX5_is_16 : decode cX5_is 16 = .ok (.getfield 49, 3) := dk_180 0 49 (dk_at dksX5_is_0 16 rfl rfl)
theorem dX5_is_19 : decode cX5_is 19 = .ok (.aload_n 0, 1) := dk_42 (dk_at dksX5_is_0 19 rfl rfl)
theorem dX5_is_20 : decode cX5_is 20 = .ok (.getfield 52, 3) := dk_180 0 52 (dk_at dksX5_is_0 20 rfl rfl)
theorem dX5_is_23 : decode cX5_is 23 = .ok (.isub, 1) := dk_100 (dk_at dksX5_is_0 23 rfl rfl)
theorem dX5_is_24 : decode cX5_is 24 = .ok (.aload_n 1, 1) := dk_43 (dk_at dksX5_is_1 0 rfl rfl)
theorem dX5_is_25 : decode cX5_is 25 = .ok (.invokevirtual 78, 3) := dk_182 0 78 (dk_at dksX5_is_1 1 rfl rfl)
theorem dX5_is_28 : decode cX5_is 28 = .ok (.if_icmp .eq 5, 3) := dk_159 0 5 (dk_at dksX5_is_1 4 rfl rfl)
theorem dX5_is_31 : decode cX5_is 31 = .ok (.iconst 0, 1) := dk_3 (dk_at dksX5_is_1 7 rfl rfl)
theorem dX5_is_32 : decode cX5_is 32 = .ok (.ireturn, 1) := dk_172 (dk_at dksX5_is_1 8 rfl rfl)
theorem dX5_is_33 : decode cX5_is 33 = .ok (.iconst 0, 1) := dk_3 (dk_at dksX5_is_1 9 rfl rfl)
theorem dX5_is_34 : decode cX5_is 34 = .ok (.istore_n 2, 1) := dk_61 (dk_at dksX5_is_1 10 rfl rfl)
theorem dX5_is_35 : decode cX5_is 35 = .ok (.iload_n 2, 1) := dk_28 (dk_at dksX5_is_1 11 rfl rfl)
theorem dX5_is_36 : decode cX5_is 36 = .ok (.aload_n 1, 1) := dk_43 (dk_at dksX5_is_1 12 rfl rfl)
theorem dX5_is_37 : decode cX5_is 37 = .ok (.invokevirtual 78, 3) := dk_182 0 78 (dk_at dksX5_is_1 13 rfl rfl)
theorem dX5_is_40 : decode cX5_is 40 = .ok (.if_icmp .ge 29, 3) := dk_162 0 29 (dk_at dksX5_is_1 16 rfl rfl)
theorem dX5_is_43 : decode cX5_is 43 = .ok (.aload_n 0, 1) := dk_42 (dk_at dksX5_is_1 19 rfl rfl)
theorem dX5_is_44 : decode cX5_is 44 = .ok (.aload_n 0, 1) := dk_42 (dk_at dksX5_is_1 20 rfl rfl)
theorem dX5_is_45 : decode cX5_is 45 = .ok (.getfield 52, 3) := dk_180 0 52 (dk_at dksX5_is_1 21 rfl rfl)
theorem dX5_is_48 : decode cX5_is 48 = .ok (.iload_n 2, 1) := dk_28 (dk_at dksX5_is_2 0 rfl rfl)
theorem dX5_is_49 : decode cX5_is 49 = .ok (.iadd, 1) := dk_96 (dk_at dksX5_is_2 1 rfl rfl)
theorem dX5_is_50 : decode cX5_is 50 = .ok (.invokevirtual 33, 3) := dk_182 0 33 (dk_at dksX5_is_2 2 rfl rfl)
theorem dX5_is_53 : decode cX5_is 53 = .ok (.aload_n 1, 1) := dk_43 (dk_at dksX5_is_2 5 rfl rfl)
theorem dX5_is_54 : decode cX5_is 54 = .ok (.iload_n 2, 1) := dk_28 (dk_at dksX5_is_2 6 rfl rfl)
theorem dX5_is_55 : decode cX5_is 55 = .ok (.invokevirtual 82, 3) := dk_182 0 82 (dk_at dksX5_is_2 7 rfl rfl)
theorem dX5_is_58 : decode cX5_is 58 = .ok (.if_icmp .eq 5, 3) := dk_159 0 5 (dk_at dksX5_is_2 10 rfl rfl)
theorem dX5_is_61 : decode cX5_is 61 = .ok (.iconst 0, 1) := dk_3 (dk_at dksX5_is_2 13 rfl rfl)
theorem dX5_is_62 : decode cX5_is 62 = .ok (.ireturn, 1) := dk_172 (dk_at dksX5_is_2 14 rfl rfl)
theorem dX5_is_63 : decode cX5_is 63 = .ok (.iinc 2 1, 3) := dk_132 2 1 (dk_at dksX5_is_2 15 rfl rfl)
theorem dX5_is_66 : decode cX5_is 66 = .ok (.goto (-31), 3) := dk_167 255 225 (dk_at dksX5_is_2 18 rfl rfl)
theorem dX5_is_69 : decode cX5_is 69 = .ok (.iconst 1, 1) := dk_4 (dk_at dksX5_is_2 21 rfl rfl)
theorem dX5_is_70 : decode cX5_is 70 = .ok (.ireturn, 1) := dk_172 (dk_at dksX5_is_2 22 rfl rfl)
abbrev cX5_storey : ByteArray := prog_6_method_17_code
def yX5_storey : MethodName := ⟨RX5, "storey", "()V"⟩
def dkwX5_storey_2 : List UInt8 := [180, 0, 166, 27, 79, 42, 180, 0, 18, 89, 180, 0, 166, 4, 96, 181, 0, 166, 177]
abbrev dktX5_storey_2 : List UInt8 := dkwX5_storey_2 ++ []
def dkwX5_storey_1 : List UInt8 := [182, 0, 136, 60, 42, 180, 0, 75, 153, 0, 4, 177, 42, 180, 0, 18, 180, 0, 173, 42, 180, 0, 18]
abbrev dktX5_storey_1 : List UInt8 := dkwX5_storey_1 ++ dktX5_storey_2
def dkwX5_storey_0 : List UInt8 := [42, 42, 180, 0, 18, 180, 0, 166, 16, 8, 182, 0, 169, 154, 0, 4, 177, 42, 3, 17, 3, 231]
abbrev dktX5_storey_0 : List UInt8 := dkwX5_storey_0 ++ dktX5_storey_1
theorem dksX5_storey_0 : cX5_storey.data.toList.drop 0 = dktX5_storey_0 := by decide +kernel
theorem dksX5_storey_1 : cX5_storey.data.toList.drop 22 = dktX5_storey_1 := dk_seg dksX5_storey_0 22 rfl rfl
theorem dksX5_storey_2 : cX5_storey.data.toList.drop 45 = dktX5_storey_2 := dk_seg dksX5_storey_1 23 rfl rfl
theorem dX5_storey_0 : decode cX5_storey 0 = .ok (.aload_n 0, 1) := dk_42 (dk_at dksX5_storey_0 0 rfl rfl)
theorem dX5_storey_1 : decode cX5_storey 1 = .ok (.aload_n 0, 1) := dk_42 (dk_at dksX5_storey_0 1 rfl rfl)
theorem dX5_storey_2 : decode cX5_storey 2 = .ok (.getfield 18, 3) := dk_180 0 18 (dk_at dksX5_storey_0 2 rfl rfl)
theorem dX5_storey_5 : decode cX5_storey 5 = .ok (.getfield 166, 3) := dk_180 0 166 (dk_at dksX5_storey_0 5 rfl rfl)
theorem dX5_storey_8 : decode cX5_storey 8 = .ok (.bipush 8, 2) := dk_16 8 (dk_at dksX5_storey_0 8 rfl rfl)
theorem dX5_storey_10 : decode cX5_storey 10 = .ok (.invokevirtual 169, 3) := dk_182 0 169 (dk_at dksX5_storey_0 10 rfl rfl)
theorem dX5_storey_13 : decode cX5_storey 13 = .ok (.ifCond .ne 4, 3) := dk_154 0 4 (dk_at dksX5_storey_0 13 rfl rfl)
theorem dX5_storey_16 : decode cX5_storey 16 = .ok (.return_, 1) := dk_177 (dk_at dksX5_storey_0 16 rfl rfl)
theorem dX5_storey_17 : decode cX5_storey 17 = .ok (.aload_n 0, 1) := dk_42 (dk_at dksX5_storey_0 17 rfl rfl)
theorem dX5_storey_18 : decode cX5_storey 18 = .ok (.iconst 0, 1) := dk_3 (dk_at dksX5_storey_0 18 rfl rfl)
theorem dX5_storey_19 : decode cX5_storey 19 = .ok (.sipush 999, 3) := dk_17 3 231 (dk_at dksX5_storey_0 19 rfl rfl)
theorem dX5_storey_22 : decode cX5_storey 22 = .ok (.invokevirtual 136, 3) := dk_182 0 136 (dk_at dksX5_storey_1 0 rfl rfl)
theorem dX5_storey_25 : decode cX5_storey 25 = .ok (.istore_n 1, 1) := dk_60 (dk_at dksX5_storey_1 3 rfl rfl)
theorem dX5_storey_26 : decode cX5_storey 26 = .ok (.aload_n 0, 1) := dk_42 (dk_at dksX5_storey_1 4 rfl rfl)
theorem dX5_storey_27 : decode cX5_storey 27 = .ok (.getfield 75, 3) := dk_180 0 75 (dk_at dksX5_storey_1 5 rfl rfl)
theorem dX5_storey_30 : decode cX5_storey 30 = .ok (.ifCond .eq 4, 3) := dk_153 0 4 (dk_at dksX5_storey_1 8 rfl rfl)
theorem dX5_storey_33 : decode cX5_storey 33 = .ok (.return_, 1) := dk_177 (dk_at dksX5_storey_1 11 rfl rfl)
theorem dX5_storey_34 : decode cX5_storey 34 = .ok (.aload_n 0, 1) := dk_42 (dk_at dksX5_storey_1 12 rfl rfl)
theorem dX5_storey_35 : decode cX5_storey 35 = .ok (.getfield 18, 3) := dk_180 0 18 (dk_at dksX5_storey_1 13 rfl rfl)
theorem dX5_storey_38 : decode cX5_storey 38 = .ok (.getfield 173, 3) := dk_180 0 173 (dk_at dksX5_storey_1 16 rfl rfl)
theorem dX5_storey_41 : decode cX5_storey 41 = .ok (.aload_n 0, 1) := dk_42 (dk_at dksX5_storey_1 19 rfl rfl)
theorem dX5_storey_42 : decode cX5_storey 42 = .ok (.getfield 18, 3) := dk_180 0 18 (dk_at dksX5_storey_1 20 rfl rfl)
theorem dX5_storey_45 : decode cX5_storey 45 = .ok (.getfield 166, 3) := dk_180 0 166 (dk_at dksX5_storey_2 0 rfl rfl)
theorem dX5_storey_48 : decode cX5_storey 48 = .ok (.iload_n 1, 1) := dk_27 (dk_at dksX5_storey_2 3 rfl rfl)
theorem dX5_storey_49 : decode cX5_storey 49 = .ok (.iastore, 1) := dk_79 (dk_at dksX5_storey_2 4 rfl rfl)
theorem dX5_storey_50 : decode cX5_storey 50 = .ok (.aload_n 0, 1) := dk_42 (dk_at dksX5_storey_2 5 rfl rfl)
theorem dX5_storey_51 : decode cX5_storey 51 = .ok (.getfield 18, 3) := dk_180 0 18 (dk_at dksX5_storey_2 6 rfl rfl)
theorem dX5_storey_54 : decode cX5_storey 54 = .ok (.dup, 1) := dk_89 (dk_at dksX5_storey_2 9 rfl rfl)
theorem dX5_storey_55 : decode cX5_storey 55 = .ok (.getfield 166, 3) := dk_180 0 166 (dk_at dksX5_storey_2 10 rfl rfl)
theorem dX5_storey_58 : decode cX5_storey 58 = .ok (.iconst 1, 1) := dk_4 (dk_at dksX5_storey_2 13 rfl rfl)
theorem dX5_storey_59 : decode cX5_storey 59 = .ok (.iadd, 1) := dk_96 (dk_at dksX5_storey_2 14 rfl rfl)
theorem dX5_storey_60 : decode cX5_storey 60 = .ok (.putfield 166, 3) := dk_181 0 166 (dk_at dksX5_storey_2 15 rfl rfl)
theorem dX5_storey_63 : decode cX5_storey 63 = .ok (.return_, 1) := dk_177 (dk_at dksX5_storey_2 18 rfl rfl)
abbrev cX5_begins : ByteArray := prog_6_method_16_code
def yX5_begins : MethodName := ⟨RX5, "begins", "(II)Z"⟩
def dkwX5_begins_1 : List UInt8 := [180, 0, 75, 154, 0, 7, 4, 167, 0, 4, 3, 172]
abbrev dktX5_begins_1 : List UInt8 := dkwX5_begins_1 ++ []
def dkwX5_begins_0 : List UInt8 := [27, 28, 160, 0, 8, 42, 7, 182, 0, 93, 42, 180, 0, 75, 154, 0, 7, 42, 182, 0, 90, 42]
abbrev dktX5_begins_0 : List UInt8 := dkwX5_begins_0 ++ dktX5_begins_1
theorem dksX5_begins_0 : cX5_begins.data.toList.drop 0 = dktX5_begins_0 := by decide +kernel
theorem dksX5_begins_1 : cX5_begins.data.toList.drop 22 = dktX5_begins_1 := dk_seg dksX5_begins_0 22 rfl rfl
theorem dX5_begins_0 : decode cX5_begins 0 = .ok (.iload_n 1, 1) := dk_27 (dk_at dksX5_begins_0 0 rfl rfl)
theorem dX5_begins_1 : decode cX5_begins 1 = .ok (.iload_n 2, 1) := dk_28 (dk_at dksX5_begins_0 1 rfl rfl)
theorem dX5_begins_2 : decode cX5_begins 2 = .ok (.if_icmp .ne 8, 3) := dk_160 0 8 (dk_at dksX5_begins_0 2 rfl rfl)
theorem dX5_begins_5 : decode cX5_begins 5 = .ok (.aload_n 0, 1) := dk_42 (dk_at dksX5_begins_0 5 rfl rfl)
theorem dX5_begins_6 : decode cX5_begins 6 = .ok (.iconst 4, 1) := dk_7 (dk_at dksX5_begins_0 6 rfl rfl)
theorem dX5_begins_7 : decode cX5_begins 7 = .ok (.invokevirtual 93, 3) := dk_182 0 93 (dk_at dksX5_begins_0 7 rfl rfl)
theorem dX5_begins_10 : decode cX5_begins 10 = .ok (.aload_n 0, 1) := dk_42 (dk_at dksX5_begins_0 10 rfl rfl)
theorem dX5_begins_11 : decode cX5_begins 11 = .ok (.getfield 75, 3) := dk_180 0 75 (dk_at dksX5_begins_0 11 rfl rfl)
theorem dX5_begins_14 : decode cX5_begins 14 = .ok (.ifCond .ne 7, 3) := dk_154 0 7 (dk_at dksX5_begins_0 14 rfl rfl)
theorem dX5_begins_17 : decode cX5_begins 17 = .ok (.aload_n 0, 1) := dk_42 (dk_at dksX5_begins_0 17 rfl rfl)
theorem dX5_begins_18 : decode cX5_begins 18 = .ok (.invokevirtual 90, 3) := dk_182 0 90 (dk_at dksX5_begins_0 18 rfl rfl)
theorem dX5_begins_21 : decode cX5_begins 21 = .ok (.aload_n 0, 1) := dk_42 (dk_at dksX5_begins_0 21 rfl rfl)
theorem dX5_begins_22 : decode cX5_begins 22 = .ok (.getfield 75, 3) := dk_180 0 75 (dk_at dksX5_begins_1 0 rfl rfl)
theorem dX5_begins_25 : decode cX5_begins 25 = .ok (.ifCond .ne 7, 3) := dk_154 0 7 (dk_at dksX5_begins_1 3 rfl rfl)
theorem dX5_begins_28 : decode cX5_begins 28 = .ok (.iconst 1, 1) := dk_4 (dk_at dksX5_begins_1 6 rfl rfl)
theorem dX5_begins_29 : decode cX5_begins 29 = .ok (.goto 4, 3) := dk_167 0 4 (dk_at dksX5_begins_1 7 rfl rfl)
theorem dX5_begins_32 : decode cX5_begins 32 = .ok (.iconst 0, 1) := dk_3 (dk_at dksX5_begins_1 10 rfl rfl)
theorem dX5_begins_33 : decode cX5_begins 33 = .ok (.ireturn, 1) := dk_172 (dk_at dksX5_begins_1 11 rfl rfl)
abbrev cX5_wrong : ByteArray := prog_6_method_6_code
def yX5_wrong : MethodName := ⟨RX5, "wrong", "(I)V"⟩
def dkwX5_wrong_1 : List UInt8 := [181, 0, 75, 42, 42, 180, 0, 52, 181, 0, 22, 177]
abbrev dktX5_wrong_1 : List UInt8 := dkwX5_wrong_1 ++ []
def dkwX5_wrong_0 : List UInt8 := [42, 180, 0, 75, 153, 0, 4, 177, 42, 42, 180, 0, 55, 6, 160, 0, 7, 4, 167, 0, 4, 27]
abbrev dktX5_wrong_0 : List UInt8 := dkwX5_wrong_0 ++ dktX5_wrong_1
theorem dksX5_wrong_0 : cX5_wrong.data.toList.drop 0 = dktX5_wrong_0 := by decide +kernel
theorem dksX5_wrong_1 : cX5_wrong.data.toList.drop 22 = dktX5_wrong_1 := dk_seg dksX5_wrong_0 22 rfl rfl
theorem dX5_wrong_0 : decode cX5_wrong 0 = .ok (.aload_n 0, 1) := dk_42 (dk_at dksX5_wrong_0 0 rfl rfl)
theorem dX5_wrong_1 : decode cX5_wrong 1 = .ok (.getfield 75, 3) := dk_180 0 75 (dk_at dksX5_wrong_0 1 rfl rfl)
theorem dX5_wrong_4 : decode cX5_wrong 4 = .ok (.ifCond .eq 4, 3) := dk_153 0 4 (dk_at dksX5_wrong_0 4 rfl rfl)
theorem dX5_wrong_7 : decode cX5_wrong 7 = .ok (.return_, 1) := dk_177 (dk_at dksX5_wrong_0 7 rfl rfl)
theorem dX5_wrong_8 : decode cX5_wrong 8 = .ok (.aload_n 0, 1) := dk_42 (dk_at dksX5_wrong_0 8 rfl rfl)
theorem dX5_wrong_9 : decode cX5_wrong 9 = .ok (.aload_n 0, 1) := dk_42 (dk_at dksX5_wrong_0 9 rfl rfl)
theorem dX5_wrong_10 : decode cX5_wrong 10 = .ok (.getfield 55, 3) := dk_180 0 55 (dk_at dksX5_wrong_0 10 rfl rfl)
theorem dX5_wrong_13 : decode cX5_wrong 13 = .ok (.iconst 3, 1) := dk_6 (dk_at dksX5_wrong_0 13 rfl rfl)
theorem dX5_wrong_14 : decode cX5_wrong 14 = .ok (.if_icmp .ne 7, 3) := dk_160 0 7 (dk_at dksX5_wrong_0 14 rfl rfl)
theorem dX5_wrong_17 : decode cX5_wrong 17 = .ok (.iconst 1, 1) := dk_4 (dk_at dksX5_wrong_0 17 rfl rfl)
theorem dX5_wrong_18 : decode cX5_wrong 18 = .ok (.goto 4, 3) := dk_167 0 4 (dk_at dksX5_wrong_0 18 rfl rfl)
theorem dX5_wrong_21 : decode cX5_wrong 21 = .ok (.iload_n 1, 1) := dk_27 (dk_at dksX5_wrong_0 21 rfl rfl)
theorem dX5_wrong_22 : decode cX5_wrong 22 = .ok (.putfield 75, 3) := dk_181 0 75 (dk_at dksX5_wrong_1 0 rfl rfl)
theorem dX5_wrong_25 : decode cX5_wrong 25 = .ok (.aload_n 0, 1) := dk_42 (dk_at dksX5_wrong_1 3 rfl rfl)
theorem dX5_wrong_26 : decode cX5_wrong 26 = .ok (.aload_n 0, 1) := dk_42 (dk_at dksX5_wrong_1 4 rfl rfl)
theorem dX5_wrong_27 : decode cX5_wrong 27 = .ok (.getfield 52, 3) := dk_180 0 52 (dk_at dksX5_wrong_1 5 rfl rfl)
theorem dX5_wrong_30 : decode cX5_wrong 30 = .ok (.putfield 22, 3) := dk_181 0 22 (dk_at dksX5_wrong_1 8 rfl rfl)
theorem dX5_wrong_33 : decode cX5_wrong 33 = .ok (.return_, 1) := dk_177 (dk_at dksX5_wrong_1 11 rfl rfl)
abbrev cX5_number : ByteArray := prog_6_method_12_code
def yX5_number : MethodName := ⟨RX5, "number", "(II)I"⟩
def dkwX5_number_2 : List UInt8 := [180, 0, 75, 153, 0, 5, 27, 172, 42, 180, 0, 65, 62, 42, 182, 0, 90, 29, 172]
abbrev dktX5_number_2 : List UInt8 := dkwX5_number_2 ++ []
def dkwX5_number_1 : List UInt8 := [154, 0, 23, 42, 180, 0, 65, 133, 27, 133, 28, 133, 184, 0, 41, 154, 0, 8, 42, 6, 182, 0, 93, 42]
abbrev dktX5_number_1 : List UInt8 := dkwX5_number_1 ++ dktX5_number_2
def dkwX5_number_0 : List UInt8 := [42, 180, 0, 75, 154, 0, 16, 42, 180, 0, 55, 5, 159, 0, 8, 42, 5, 182, 0, 93, 42, 180, 0, 75]
abbrev dktX5_number_0 : List UInt8 := dkwX5_number_0 ++ dktX5_number_1
theorem dksX5_number_0 : cX5_number.data.toList.drop 0 = dktX5_number_0 := by decide +kernel
theorem dksX5_number_1 : cX5_number.data.toList.drop 24 = dktX5_number_1 := dk_seg dksX5_number_0 24 rfl rfl
theorem dksX5_number_2 : cX5_number.data.toList.drop 48 = dktX5_number_2 := dk_seg dksX5_number_1 24 rfl rfl
theorem dX5_number_0 : decode cX5_number 0 = .ok (.aload_n 0, 1) := dk_42 (dk_at dksX5_number_0 0 rfl rfl)
theorem dX5_number_1 : decode cX5_number 1 = .ok (.getfield 75, 3) := dk_180 0 75 (dk_at dksX5_number_0 1 rfl rfl)
theorem dX5_number_4 : decode cX5_number 4 = .ok (.ifCond .ne 16, 3) := dk_154 0 16 (dk_at dksX5_number_0 4 rfl rfl)
theorem dX5_number_7 : decode cX5_number 7 = .ok (.aload_n 0, 1) := dk_42 (dk_at dksX5_number_0 7 rfl rfl)
theorem dX5_number_8 : decode cX5_number 8 = .ok (.getfield 55, 3) := dk_180 0 55 (dk_at dksX5_number_0 8 rfl rfl)
theorem dX5_number_11 : decode cX5_number 11 = .ok (.iconst 2, 1) := dk_5 (dk_at dksX5_number_0 11 rfl rfl)
theorem dX5_number_12 : decode cX5_number 12 = .ok (.if_icmp .eq 8, 3) := dk_159 0 8 (dk_at dksX5_number_0 12 rfl rfl)
theorem dX5_number_15 : decode cX5_number 15 = .ok (.aload_n 0, 1) := dk_42 (dk_at dksX5_number_0 15 rfl rfl)
theorem dX5_number_16 : decode cX5_number 16 = .ok (.iconst 2, 1) := dk_5 (dk_at dksX5_number_0 16 rfl rfl)
theorem dX5_number_17 : decode cX5_number 17 = .ok (.invokevirtual 93, 3) := dk_182 0 93 (dk_at dksX5_number_0 17 rfl rfl)
theorem dX5_number_20 : decode cX5_number 20 = .ok (.aload_n 0, 1) := dk_42 (dk_at dksX5_number_0 20 rfl rfl)
theorem dX5_number_21 : decode cX5_number 21 = .ok (.getfield 75, 3) := dk_180 0 75 (dk_at dksX5_number_0 21 rfl rfl)
theorem dX5_number_24 : decode cX5_number 24 = .ok (.ifCond .ne 23, 3) := dk_154 0 23 (dk_at dksX5_number_1 0 rfl rfl)
theorem dX5_number_27 : decode cX5_number 27 = .ok (.aload_n 0, 1) := dk_42 (dk_at dksX5_number_1 3 rfl rfl)
theorem dX5_number_28 : decode cX5_number 28 = .ok (.getfield 65, 3) := dk_180 0 65 (dk_at dksX5_number_1 4 rfl rfl)
theorem dX5_number_31 : decode cX5_number 31 = .ok (.i2l, 1) := dk_133 (dk_at dksX5_number_1 7 rfl rfl)
theorem dX5_number_32 : decode cX5_number 32 = .ok (.iload_n 1, 1) := dk_27 (dk_at dksX5_number_1 8 rfl rfl)
theorem dX5_number_33 : decode cX5_number 33 = .ok (.i2l, 1) := dk_133 (dk_at dksX5_number_1 9 rfl rfl)
theorem dX5_number_34 : decode cX5_number 34 = .ok (.iload_n 2, 1) := dk_28 (dk_at dksX5_number_1 10 rfl rfl)
theorem dX5_number_35 : decode cX5_number 35 = .ok (.i2l, 1) := dk_133 (dk_at dksX5_number_1 11 rfl rfl)
theorem dX5_number_36 : decode cX5_number 36 = .ok (.invokestatic 41, 3) := dk_184 0 41 (dk_at dksX5_number_1 12 rfl rfl)
theorem dX5_number_39 : decode cX5_number 39 = .ok (.ifCond .ne 8, 3) := dk_154 0 8 (dk_at dksX5_number_1 15 rfl rfl)
theorem dX5_number_42 : decode cX5_number 42 = .ok (.aload_n 0, 1) := dk_42 (dk_at dksX5_number_1 18 rfl rfl)
theorem dX5_number_43 : decode cX5_number 43 = .ok (.iconst 3, 1) := dk_6 (dk_at dksX5_number_1 19 rfl rfl)
theorem dX5_number_44 : decode cX5_number 44 = .ok (.invokevirtual 93, 3) := dk_182 0 93 (dk_at dksX5_number_1 20 rfl rfl)
theorem dX5_number_47 : decode cX5_number 47 = .ok (.aload_n 0, 1) := dk_42 (dk_at dksX5_number_1 23 rfl rfl)
theorem dX5_number_48 : decode cX5_number 48 = .ok (.getfield 75, 3) := dk_180 0 75 (dk_at dksX5_number_2 0 rfl rfl)
theorem dX5_number_51 : decode cX5_number 51 = .ok (.ifCond .eq 5, 3) := dk_153 0 5 (dk_at dksX5_number_2 3 rfl rfl)
theorem dX5_number_54 : decode cX5_number 54 = .ok (.iload_n 1, 1) := dk_27 (dk_at dksX5_number_2 6 rfl rfl)
theorem dX5_number_55 : decode cX5_number 55 = .ok (.ireturn, 1) := dk_172 (dk_at dksX5_number_2 7 rfl rfl)
theorem dX5_number_56 : decode cX5_number 56 = .ok (.aload_n 0, 1) := dk_42 (dk_at dksX5_number_2 8 rfl rfl)
theorem dX5_number_57 : decode cX5_number 57 = .ok (.getfield 65, 3) := dk_180 0 65 (dk_at dksX5_number_2 9 rfl rfl)
theorem dX5_number_60 : decode cX5_number 60 = .ok (.istore_n 3, 1) := dk_62 (dk_at dksX5_number_2 12 rfl rfl)
theorem dX5_number_61 : decode cX5_number 61 = .ok (.aload_n 0, 1) := dk_42 (dk_at dksX5_number_2 13 rfl rfl)
theorem dX5_number_62 : decode cX5_number 62 = .ok (.invokevirtual 90, 3) := dk_182 0 90 (dk_at dksX5_number_2 14 rfl rfl)
theorem dX5_number_65 : decode cX5_number 65 = .ok (.iload_n 3, 1) := dk_29 (dk_at dksX5_number_2 17 rfl rfl)
theorem dX5_number_66 : decode cX5_number 66 = .ok (.ireturn, 1) := dk_172 (dk_at dksX5_number_2 18 rfl rfl)
abbrev cX5_tenant : ByteArray := prog_6_method_18_code
def yX5_tenant : MethodName := ⟨RX5, "tenant", "()V"⟩
def dkwX5_tenant_3 : List UInt8 := [180, 0, 177, 4, 96, 181, 0, 177, 177]
abbrev dktX5_tenant_3 : List UInt8 := dkwX5_tenant_3 ++ []
def dkwX5_tenant_2 : List UInt8 := [153, 0, 11, 42, 180, 0, 75, 153, 255, 244, 177, 42, 180, 0, 75, 154, 0, 16, 42, 180, 0, 18, 89]
abbrev dktX5_tenant_2 : List UInt8 := dkwX5_tenant_2 ++ dktX5_tenant_3
def dkwX5_tenant_1 : List UInt8 := [60, 42, 180, 0, 18, 180, 0, 180, 27, 42, 3, 17, 3, 231, 182, 0, 136, 79, 42, 27, 182, 0, 183]
abbrev dktX5_tenant_1 : List UInt8 := dkwX5_tenant_1 ++ dktX5_tenant_2
def dkwX5_tenant_0 : List UInt8 := [42, 42, 180, 0, 18, 180, 0, 177, 16, 6, 182, 0, 169, 154, 0, 4, 177, 42, 180, 0, 18, 180, 0, 177]
abbrev dktX5_tenant_0 : List UInt8 := dkwX5_tenant_0 ++ dktX5_tenant_1
theorem dksX5_tenant_0 : cX5_tenant.data.toList.drop 0 = dktX5_tenant_0 := by decide +kernel
theorem dksX5_tenant_1 : cX5_tenant.data.toList.drop 24 = dktX5_tenant_1 := dk_seg dksX5_tenant_0 24 rfl rfl
theorem dksX5_tenant_2 : cX5_tenant.data.toList.drop 47 = dktX5_tenant_2 := dk_seg dksX5_tenant_1 23 rfl rfl
theorem dksX5_tenant_3 : cX5_tenant.data.toList.drop 70 = dktX5_tenant_3 := dk_seg dksX5_tenant_2 23 rfl rfl
theorem dX5_tenant_0 : decode cX5_tenant 0 = .ok (.aload_n 0, 1) := dk_42 (dk_at dksX5_tenant_0 0 rfl rfl)
theorem dX5_tenant_1 : decode cX5_tenant 1 = .ok (.aload_n 0, 1) := dk_42 (dk_at dksX5_tenant_0 1 rfl rfl)
theorem dX5_tenant_2 : decode cX5_tenant 2 = .ok (.getfield 18, 3) := dk_180 0 18 (dk_at dksX5_tenant_0 2 rfl rfl)
theorem dX5_tenant_5 : decode cX5_tenant 5 = .ok (.getfield 177, 3) := dk_180 0 177 (dk_at dksX5_tenant_0 5 rfl rfl)
theorem dX5_tenant_8 : decode cX5_tenant 8 = .ok (.bipush 6, 2) := dk_16 6 (dk_at dksX5_tenant_0 8 rfl rfl)
theorem dX5_tenant_10 : decode cX5_tenant 10 = .ok (.invokevirtual 169, 3) := dk_182 0 169 (dk_at dksX5_tenant_0 10 rfl rfl)
theorem dX5_tenant_13 : decode cX5_tenant 13 = .ok (.ifCond .ne 4, 3) := dk_154 0 4 (dk_at dksX5_tenant_0 13 rfl rfl)
theorem dX5_tenant_16 : decode cX5_tenant 16 = .ok (.return_, 1) := dk_177 (dk_at dksX5_tenant_0 16 rfl rfl)
theorem dX5_tenant_17 : decode cX5_tenant 17 = .ok (.aload_n 0, 1) := dk_42 (dk_at dksX5_tenant_0 17 rfl rfl)
theorem dX5_tenant_18 : decode cX5_tenant 18 = .ok (.getfield 18, 3) := dk_180 0 18 (dk_at dksX5_tenant_0 18 rfl rfl)
theorem dX5_tenant_21 : decode cX5_tenant 21 = .ok (.getfield 177, 3) := dk_180 0 177 (dk_at dksX5_tenant_0 21 rfl rfl)
theorem dX5_tenant_24 : decode cX5_tenant 24 = .ok (.istore_n 1, 1) := dk_60 (dk_at dksX5_tenant_1 0 rfl rfl)
theorem dX5_tenant_25 : decode cX5_tenant 25 = .ok (.aload_n 0, 1) := dk_42 (dk_at dksX5_tenant_1 1 rfl rfl)
theorem dX5_tenant_26 : decode cX5_tenant 26 = .ok (.getfield 18, 3) := dk_180 0 18 (dk_at dksX5_tenant_1 2 rfl rfl)
theorem dX5_tenant_29 : decode cX5_tenant 29 = .ok (.getfield 180, 3) := dk_180 0 180 (dk_at dksX5_tenant_1 5 rfl rfl)
theorem dX5_tenant_32 : decode cX5_tenant 32 = .ok (.iload_n 1, 1) := dk_27 (dk_at dksX5_tenant_1 8 rfl rfl)
theorem dX5_tenant_33 : decode cX5_tenant 33 = .ok (.aload_n 0, 1) := dk_42 (dk_at dksX5_tenant_1 9 rfl rfl)
theorem dX5_tenant_34 : decode cX5_tenant 34 = .ok (.iconst 0, 1) := dk_3 (dk_at dksX5_tenant_1 10 rfl rfl)
theorem dX5_tenant_35 : decode cX5_tenant 35 = .ok (.sipush 999, 3) := dk_17 3 231 (dk_at dksX5_tenant_1 11 rfl rfl)
theorem dX5_tenant_38 : decode cX5_tenant 38 = .ok (.invokevirtual 136, 3) := dk_182 0 136 (dk_at dksX5_tenant_1 14 rfl rfl)
theorem dX5_tenant_41 : decode cX5_tenant 41 = .ok (.iastore, 1) := dk_79 (dk_at dksX5_tenant_1 17 rfl rfl)
theorem dX5_tenant_42 : decode cX5_tenant 42 = .ok (.aload_n 0, 1) := dk_42 (dk_at dksX5_tenant_1 18 rfl rfl)
theorem dX5_tenant_43 : decode cX5_tenant 43 = .ok (.iload_n 1, 1) := dk_27 (dk_at dksX5_tenant_1 19 rfl rfl)
theorem dX5_tenant_44 : decode cX5_tenant 44 = .ok (.invokevirtual 183, 3) := dk_182 0 183 (dk_at dksX5_tenant_1 20 rfl rfl)
theorem dX5_tenant_47 : decode cX5_tenant 47 = .ok (.ifCond .eq 11, 3) := dk_153 0 11 (dk_at dksX5_tenant_2 0 rfl rfl)
theorem dX5_tenant_50 : decode cX5_tenant 50 = .ok (.aload_n 0, 1) := dk_42 (dk_at dksX5_tenant_2 3 rfl rfl)
theorem dX5_tenant_51 : decode cX5_tenant 51 = .ok (.getfield 75, 3) := dk_180 0 75 (dk_at dksX5_tenant_2 4 rfl rfl)
theorem dX5_tenant_54 : decode cX5_tenant 54 = .ok (.ifCond .eq (-12), 3) := dk_153 255 244 (dk_at dksX5_tenant_2 7 rfl rfl)
theorem dX5_tenant_57 : decode cX5_tenant 57 = .ok (.return_, 1) := dk_177 (dk_at dksX5_tenant_2 10 rfl rfl)
theorem dX5_tenant_58 : decode cX5_tenant 58 = .ok (.aload_n 0, 1) := dk_42 (dk_at dksX5_tenant_2 11 rfl rfl)
theorem dX5_tenant_59 : decode cX5_tenant 59 = .ok (.getfield 75, 3) := dk_180 0 75 (dk_at dksX5_tenant_2 12 rfl rfl)
theorem dX5_tenant_62 : decode cX5_tenant 62 = .ok (.ifCond .ne 16, 3) := dk_154 0 16 (dk_at dksX5_tenant_2 15 rfl rfl)
theorem dX5_tenant_65 : decode cX5_tenant 65 = .ok (.aload_n 0, 1) := dk_42 (dk_at dksX5_tenant_2 18 rfl rfl)
theorem dX5_tenant_66 : decode cX5_tenant 66 = .ok (.getfield 18, 3) := dk_180 0 18 (dk_at dksX5_tenant_2 19 rfl rfl)
theorem dX5_tenant_69 : decode cX5_tenant 69 = .ok (.dup, 1) := dk_89 (dk_at dksX5_tenant_2 22 rfl rfl)
theorem dX5_tenant_70 : decode cX5_tenant 70 = .ok (.getfield 177, 3) := dk_180 0 177 (dk_at dksX5_tenant_3 0 rfl rfl)
theorem dX5_tenant_73 : decode cX5_tenant 73 = .ok (.iconst 1, 1) := dk_4 (dk_at dksX5_tenant_3 3 rfl rfl)
theorem dX5_tenant_74 : decode cX5_tenant 74 = .ok (.iadd, 1) := dk_96 (dk_at dksX5_tenant_3 4 rfl rfl)
theorem dX5_tenant_75 : decode cX5_tenant 75 = .ok (.putfield 177, 3) := dk_181 0 177 (dk_at dksX5_tenant_3 5 rfl rfl)
theorem dX5_tenant_78 : decode cX5_tenant 78 = .ok (.return_, 1) := dk_177 (dk_at dksX5_tenant_3 8 rfl rfl)
abbrev cX5_flag : ByteArray := prog_6_method_19_code
def yX5_flag : MethodName := ⟨RX5, "flag", "(I)Z"⟩
def dkwX5_flag_2 : List UInt8 := [182, 0, 194, 79, 167, 0, 5, 3, 172, 4, 172]
abbrev dktX5_flag_2 : List UInt8 := dkwX5_flag_2 ++ []
def dkwX5_flag_1 : List UInt8 := [79, 167, 0, 31, 42, 18, 190, 182, 0, 97, 153, 0, 20, 42, 180, 0, 18, 180, 0, 192, 27, 42, 27]
abbrev dktX5_flag_1 : List UInt8 := dkwX5_flag_1 ++ dktX5_flag_2
def dkwX5_flag_0 : List UInt8 := [42, 18, 186, 182, 0, 97, 153, 0, 22, 42, 180, 0, 18, 180, 0, 188, 27, 42, 3, 16, 99, 182, 0, 136]
abbrev dktX5_flag_0 : List UInt8 := dkwX5_flag_0 ++ dktX5_flag_1
theorem dksX5_flag_0 : cX5_flag.data.toList.drop 0 = dktX5_flag_0 := by decide +kernel
theorem dksX5_flag_1 : cX5_flag.data.toList.drop 24 = dktX5_flag_1 := dk_seg dksX5_flag_0 24 rfl rfl
theorem dksX5_flag_2 : cX5_flag.data.toList.drop 47 = dktX5_flag_2 := dk_seg dksX5_flag_1 23 rfl rfl
theorem dX5_flag_0 : decode cX5_flag 0 = .ok (.aload_n 0, 1) := dk_42 (dk_at dksX5_flag_0 0 rfl rfl)
theorem dX5_flag_1 : decode cX5_flag 1 = .ok (.ldc 186, 2) := dk_18 186 (dk_at dksX5_flag_0 1 rfl rfl)
theorem dX5_flag_3 : decode cX5_flag 3 = .ok (.invokevirtual 97, 3) := dk_182 0 97 (dk_at dksX5_flag_0 3 rfl rfl)
theorem dX5_flag_6 : decode cX5_flag 6 = .ok (.ifCond .eq 22, 3) := dk_153 0 22 (dk_at dksX5_flag_0 6 rfl rfl)
theorem dX5_flag_9 : decode cX5_flag 9 = .ok (.aload_n 0, 1) := dk_42 (dk_at dksX5_flag_0 9 rfl rfl)
theorem dX5_flag_10 : decode cX5_flag 10 = .ok (.getfield 18, 3) := dk_180 0 18 (dk_at dksX5_flag_0 10 rfl rfl)
theorem dX5_flag_13 : decode cX5_flag 13 = .ok (.getfield 188, 3) := dk_180 0 188 (dk_at dksX5_flag_0 13 rfl rfl)
theorem dX5_flag_16 : decode cX5_flag 16 = .ok (.iload_n 1, 1) := dk_27 (dk_at dksX5_flag_0 16 rfl rfl)
theorem dX5_flag_17 : decode cX5_flag 17 = .ok (.aload_n 0, 1) := dk_42 (dk_at dksX5_flag_0 17 rfl rfl)
theorem dX5_flag_18 : decode cX5_flag 18 = .ok (.iconst 0, 1) := dk_3 (dk_at dksX5_flag_0 18 rfl rfl)
theorem dX5_flag_19 : decode cX5_flag 19 = .ok (.bipush 99, 2) := dk_16 99 (dk_at dksX5_flag_0 19 rfl rfl)
theorem dX5_flag_21 : decode cX5_flag 21 = .ok (.invokevirtual 136, 3) := dk_182 0 136 (dk_at dksX5_flag_0 21 rfl rfl)
theorem dX5_flag_24 : decode cX5_flag 24 = .ok (.iastore, 1) := dk_79 (dk_at dksX5_flag_1 0 rfl rfl)
theorem dX5_flag_25 : decode cX5_flag 25 = .ok (.goto 31, 3) := dk_167 0 31 (dk_at dksX5_flag_1 1 rfl rfl)
theorem dX5_flag_28 : decode cX5_flag 28 = .ok (.aload_n 0, 1) := dk_42 (dk_at dksX5_flag_1 4 rfl rfl)
theorem dX5_flag_29 : decode cX5_flag 29 = .ok (.ldc 190, 2) := dk_18 190 (dk_at dksX5_flag_1 5 rfl rfl)
theorem dX5_flag_31 : decode cX5_flag 31 = .ok (.invokevirtual 97, 3) := dk_182 0 97 (dk_at dksX5_flag_1 7 rfl rfl)
theorem dX5_flag_34 : decode cX5_flag 34 = .ok (.ifCond .eq 20, 3) := dk_153 0 20 (dk_at dksX5_flag_1 10 rfl rfl)
theorem dX5_flag_37 : decode cX5_flag 37 = .ok (.aload_n 0, 1) := dk_42 (dk_at dksX5_flag_1 13 rfl rfl)
theorem dX5_flag_38 : decode cX5_flag 38 = .ok (.getfield 18, 3) := dk_180 0 18 (dk_at dksX5_flag_1 14 rfl rfl)
theorem dX5_flag_41 : decode cX5_flag 41 = .ok (.getfield 192, 3) := dk_180 0 192 (dk_at dksX5_flag_1 17 rfl rfl)
theorem dX5_flag_44 : decode cX5_flag 44 = .ok (.iload_n 1, 1) := dk_27 (dk_at dksX5_flag_1 20 rfl rfl)
theorem dX5_flag_45 : decode cX5_flag 45 = .ok (.aload_n 0, 1) := dk_42 (dk_at dksX5_flag_1 21 rfl rfl)
theorem dX5_flag_46 : decode cX5_flag 46 = .ok (.iload_n 1, 1) := dk_27 (dk_at dksX5_flag_1 22 rfl rfl)
theorem dX5_flag_47 : decode cX5_flag 47 = .ok (.invokevirtual 194, 3) := dk_182 0 194 (dk_at dksX5_flag_2 0 rfl rfl)
theorem dX5_flag_50 : decode cX5_flag 50 = .ok (.iastore, 1) := dk_79 (dk_at dksX5_flag_2 3 rfl rfl)
theorem dX5_flag_51 : decode cX5_flag 51 = .ok (.goto 5, 3) := dk_167 0 5 (dk_at dksX5_flag_2 4 rfl rfl)
theorem dX5_flag_54 : decode cX5_flag 54 = .ok (.iconst 0, 1) := dk_3 (dk_at dksX5_flag_2 7 rfl rfl)
theorem dX5_flag_55 : decode cX5_flag 55 = .ok (.ireturn, 1) := dk_172 (dk_at dksX5_flag_2 8 rfl rfl)
theorem dX5_flag_56 : decode cX5_flag 56 = .ok (.iconst 1, 1) := dk_4 (dk_at dksX5_flag_2 9 rfl rfl)
theorem dX5_flag_57 : decode cX5_flag 57 = .ok (.ireturn, 1) := dk_172 (dk_at dksX5_flag_2 10 rfl rfl)
abbrev cX5_takes : ByteArray := prog_6_method_8_code
def yX5_takes : MethodName := ⟨RX5, "takes", "(Ljava/lang/String;)Z"⟩
def dkwX5_takes_0 : List UInt8 := [42, 43, 182, 0, 86, 154, 0, 5, 3, 172, 42, 182, 0, 90, 4, 172]
abbrev dktX5_takes_0 : List UInt8 := dkwX5_takes_0 ++ []
theorem dksX5_takes_0 : cX5_takes.data.toList.drop 0 = dktX5_takes_0 := by decide +kernel
theorem dX5_takes_0 : decode cX5_takes 0 = .ok (.aload_n 0, 1) := dk_42 (dk_at dksX5_takes_0 0 rfl rfl)
theorem dX5_takes_1 : decode cX5_takes 1 = .ok (.aload_n 1, 1) := dk_43 (dk_at dksX5_takes_0 1 rfl rfl)
theorem dX5_takes_2 : decode cX5_takes 2 = .ok (.invokevirtual 86, 3) := dk_182 0 86 (dk_at dksX5_takes_0 2 rfl rfl)
theorem dX5_takes_5 : decode cX5_takes 5 = .ok (.ifCond .ne 5, 3) := dk_154 0 5 (dk_at dksX5_takes_0 5 rfl rfl)
theorem dX5_takes_8 : decode cX5_takes 8 = .ok (.iconst 0, 1) := dk_3 (dk_at dksX5_takes_0 8 rfl rfl)
theorem dX5_takes_9 : decode cX5_takes 9 = .ok (.ireturn, 1) := dk_172 (dk_at dksX5_takes_0 9 rfl rfl)
theorem dX5_takes_10 : decode cX5_takes 10 = .ok (.aload_n 0, 1) := dk_42 (dk_at dksX5_takes_0 10 rfl rfl)
theorem dX5_takes_11 : decode cX5_takes 11 = .ok (.invokevirtual 90, 3) := dk_182 0 90 (dk_at dksX5_takes_0 11 rfl rfl)
theorem dX5_takes_14 : decode cX5_takes 14 = .ok (.iconst 1, 1) := dk_4 (dk_at dksX5_takes_0 14 rfl rfl)
theorem dX5_takes_15 : decode cX5_takes 15 = .ok (.ireturn, 1) := dk_172 (dk_at dksX5_takes_0 15 rfl rfl)
abbrev cX5_emptyStorey : ByteArray := prog_6_method_20_code
def yX5_emptyStorey : MethodName := ⟨RX5, "emptyStorey", "(I)I"⟩
def dkwX5_emptyStorey_2 : List UInt8 := [167, 255, 212, 42, 3, 42, 180, 0, 18, 180, 0, 166, 4, 100, 182, 0, 136, 172]
abbrev dktX5_emptyStorey_2 : List UInt8 := dkwX5_emptyStorey_2 ++ []
def dkwX5_emptyStorey_1 : List UInt8 := [180, 0, 18, 180, 0, 192, 28, 46, 42, 180, 0, 65, 160, 0, 8, 42, 6, 182, 0, 93, 132, 2, 1]
abbrev dktX5_emptyStorey_1 : List UInt8 := dkwX5_emptyStorey_1 ++ dktX5_emptyStorey_2
def dkwX5_emptyStorey_0 : List UInt8 := [3, 61, 28, 27, 162, 0, 45, 42, 180, 0, 75, 154, 0, 32, 42, 180, 0, 55, 5, 160, 0, 24, 42]
abbrev dktX5_emptyStorey_0 : List UInt8 := dkwX5_emptyStorey_0 ++ dktX5_emptyStorey_1
theorem dksX5_emptyStorey_0 : cX5_emptyStorey.data.toList.drop 0 = dktX5_emptyStorey_0 := by decide +kernel
theorem dksX5_emptyStorey_1 : cX5_emptyStorey.data.toList.drop 23 = dktX5_emptyStorey_1 := dk_seg dksX5_emptyStorey_0 23 rfl rfl
theorem dksX5_emptyStorey_2 : cX5_emptyStorey.data.toList.drop 46 = dktX5_emptyStorey_2 := dk_seg dksX5_emptyStorey_1 23 rfl rfl
theorem dX5_emptyStorey_0 : decode cX5_emptyStorey 0 = .ok (.iconst 0, 1) := dk_3 (dk_at dksX5_emptyStorey_0 0 rfl rfl)
theorem dX5_emptyStorey_1 : decode cX5_emptyStorey 1 = .ok (.istore_n 2, 1) := dk_61 (dk_at dksX5_emptyStorey_0 1 rfl rfl)
theorem dX5_emptyStorey_2 : decode cX5_emptyStorey 2 = .ok (.iload_n 2, 1) := dk_28 (dk_at dksX5_emptyStorey_0 2 rfl rfl)
theorem dX5_emptyStorey_3 : decode cX5_emptyStorey 3 = .ok (.iload_n 1, 1) := dk_27 (dk_at dksX5_emptyStorey_0 3 rfl rfl)
theorem dX5_emptyStorey_4 : decode cX5_emptyStorey 4 = .ok (.if_icmp .ge 45, 3) := dk_162 0 45 (dk_at dksX5_emptyStorey_0 4 rfl rfl)
theorem dX5_emptyStorey_7 : decode cX5_emptyStorey 7 = .ok (.aload_n 0, 1) := dk_42 (dk_at dksX5_emptyStorey_0 7 rfl rfl)
theorem dX5_emptyStorey_8 : decode cX5_emptyStorey 8 = .ok (.getfield 75, 3) := dk_180 0 75 (dk_at dksX5_emptyStorey_0 8 rfl rfl)
theorem dX5_emptyStorey_11 : decode cX5_emptyStorey 11 = .ok (.ifCond .ne 32, 3) := dk_154 0 32 (dk_at dksX5_emptyStorey_0 11 rfl rfl)
theorem dX5_emptyStorey_14 : decode cX5_emptyStorey 14 = .ok (.aload_n 0, 1) := dk_42 (dk_at dksX5_emptyStorey_0 14 rfl rfl)
theorem dX5_emptyStorey_15 : decode cX5_emptyStorey 15 = .ok (.getfield 55, 3) := dk_180 0 55 (dk_at dksX5_emptyStorey_0 15 rfl rfl)
theorem dX5_emptyStorey_18 : decode cX5_emptyStorey 18 = .ok (.iconst 2, 1) := dk_5 (dk_at dksX5_emptyStorey_0 18 rfl rfl)
theorem dX5_emptyStorey_19 : decode cX5_emptyStorey 19 = .ok (.if_icmp .ne 24, 3) := dk_160 0 24 (dk_at dksX5_emptyStorey_0 19 rfl rfl)
theorem dX5_emptyStorey_22 : decode cX5_emptyStorey 22 = .ok (.aload_n 0, 1) := dk_42 (dk_at dksX5_emptyStorey_0 22 rfl rfl)
theorem dX5_emptyStorey_23 : decode cX5_emptyStorey 23 = .ok (.getfield 18, 3) := dk_180 0 18 (dk_at dksX5_emptyStorey_1 0 rfl rfl)
theorem dX5_emptyStorey_26 : decode cX5_emptyStorey 26 = .ok (.getfield 192, 3) := dk_180 0 192 (dk_at dksX5_emptyStorey_1 3 rfl rfl)
theorem dX5_emptyStorey_29 : decode cX5_emptyStorey 29 = .ok (.iload_n 2, 1) := dk_28 (dk_at dksX5_emptyStorey_1 6 rfl rfl)
theorem dX5_emptyStorey_30 : decode cX5_emptyStorey 30 = .ok (.iaload, 1) := dk_46 (dk_at dksX5_emptyStorey_1 7 rfl rfl)
theorem dX5_emptyStorey_31 : decode cX5_emptyStorey 31 = .ok (.aload_n 0, 1) := dk_42 (dk_at dksX5_emptyStorey_1 8 rfl rfl)
theorem dX5_emptyStorey_32 : decode cX5_emptyStorey 32 = .ok (.getfield 65, 3) := dk_180 0 65 (dk_at dksX5_emptyStorey_1 9 rfl rfl)
theorem dX5_emptyStorey_35 : decode cX5_emptyStorey 35 = .ok (.if_icmp .ne 8, 3) := dk_160 0 8 (dk_at dksX5_emptyStorey_1 12 rfl rfl)
theorem dX5_emptyStorey_38 : decode cX5_emptyStorey 38 = .ok (.aload_n 0, 1) := dk_42 (dk_at dksX5_emptyStorey_1 15 rfl rfl)
theorem dX5_emptyStorey_39 : decode cX5_emptyStorey 39 = .ok (.iconst 3, 1) := dk_6 (dk_at dksX5_emptyStorey_1 16 rfl rfl)
theorem dX5_emptyStorey_40 : decode cX5_emptyStorey 40 = .ok (.invokevirtual 93, 3) := dk_182 0 93 (dk_at dksX5_emptyStorey_1 17 rfl rfl)
theorem dX5_emptyStorey_43 : decode cX5_emptyStorey 43 = .ok (.iinc 2 1, 3) := dk_132 2 1 (dk_at dksX5_emptyStorey_1 20 rfl rfl)
theorem dX5_emptyStorey_46 : decode cX5_emptyStorey 46 = .ok (.goto (-44), 3) := dk_167 255 212 (dk_at dksX5_emptyStorey_2 0 rfl rfl)
theorem dX5_emptyStorey_49 : decode cX5_emptyStorey 49 = .ok (.aload_n 0, 1) := dk_42 (dk_at dksX5_emptyStorey_2 3 rfl rfl)
theorem dX5_emptyStorey_50 : decode cX5_emptyStorey 50 = .ok (.iconst 0, 1) := dk_3 (dk_at dksX5_emptyStorey_2 4 rfl rfl)
theorem dX5_emptyStorey_51 : decode cX5_emptyStorey 51 = .ok (.aload_n 0, 1) := dk_42 (dk_at dksX5_emptyStorey_2 5 rfl rfl)
theorem dX5_emptyStorey_52 : decode cX5_emptyStorey 52 = .ok (.getfield 18, 3) := dk_180 0 18 (dk_at dksX5_emptyStorey_2 6 rfl rfl)
theorem dX5_emptyStorey_55 : decode cX5_emptyStorey 55 = .ok (.getfield 166, 3) := dk_180 0 166 (dk_at dksX5_emptyStorey_2 9 rfl rfl)
theorem dX5_emptyStorey_58 : decode cX5_emptyStorey 58 = .ok (.iconst 1, 1) := dk_4 (dk_at dksX5_emptyStorey_2 12 rfl rfl)
theorem dX5_emptyStorey_59 : decode cX5_emptyStorey 59 = .ok (.isub, 1) := dk_100 (dk_at dksX5_emptyStorey_2 13 rfl rfl)
theorem dX5_emptyStorey_60 : decode cX5_emptyStorey 60 = .ok (.invokevirtual 136, 3) := dk_182 0 136 (dk_at dksX5_emptyStorey_2 14 rfl rfl)
theorem dX5_emptyStorey_63 : decode cX5_emptyStorey 63 = .ok (.ireturn, 1) := dk_172 (dk_at dksX5_emptyStorey_2 17 rfl rfl)
abbrev cX5_law : ByteArray := prog_6_method_21_code
def yX5_law : MethodName := ⟨RX5, "law", "(ILSunkTower$Sum;)LSunkTower$Sum;"⟩
def dkwX5_law_1 : List UInt8 := [167, 0, 4, 44, 176]
abbrev dktX5_law_1 : List UInt8 := dkwX5_law_1 ++ []
def dkwX5_law_0 : List UInt8 := [42, 27, 181, 0, 197, 42, 16, 58, 182, 0, 103, 42, 182, 0, 200, 78, 42, 180, 0, 75, 154, 0, 7, 45]
abbrev dktX5_law_0 : List UInt8 := dkwX5_law_0 ++ dktX5_law_1
theorem dksX5_law_0 : cX5_law.data.toList.drop 0 = dktX5_law_0 := by decide +kernel
theorem dksX5_law_1 : cX5_law.data.toList.drop 24 = dktX5_law_1 := dk_seg dksX5_law_0 24 rfl rfl
theorem dX5_law_0 : decode cX5_law 0 = .ok (.aload_n 0, 1) := dk_42 (dk_at dksX5_law_0 0 rfl rfl)
theorem dX5_law_1 : decode cX5_law 1 = .ok (.iload_n 1, 1) := dk_27 (dk_at dksX5_law_0 1 rfl rfl)
theorem dX5_law_2 : decode cX5_law 2 = .ok (.putfield 197, 3) := dk_181 0 197 (dk_at dksX5_law_0 2 rfl rfl)
theorem dX5_law_5 : decode cX5_law 5 = .ok (.aload_n 0, 1) := dk_42 (dk_at dksX5_law_0 5 rfl rfl)
theorem dX5_law_6 : decode cX5_law 6 = .ok (.bipush 58, 2) := dk_16 58 (dk_at dksX5_law_0 6 rfl rfl)
theorem dX5_law_8 : decode cX5_law 8 = .ok (.invokevirtual 103, 3) := dk_182 0 103 (dk_at dksX5_law_0 8 rfl rfl)
theorem dX5_law_11 : decode cX5_law 11 = .ok (.aload_n 0, 1) := dk_42 (dk_at dksX5_law_0 11 rfl rfl)
theorem dX5_law_12 : decode cX5_law 12 = .ok (.invokevirtual 200, 3) := dk_182 0 200 (dk_at dksX5_law_0 12 rfl rfl)
theorem dX5_law_15 : decode cX5_law 15 = .ok (.astore_n 3, 1) := dk_78 (dk_at dksX5_law_0 15 rfl rfl)
theorem dX5_law_16 : decode cX5_law 16 = .ok (.aload_n 0, 1) := dk_42 (dk_at dksX5_law_0 16 rfl rfl)
theorem dX5_law_17 : decode cX5_law 17 = .ok (.getfield 75, 3) := dk_180 0 75 (dk_at dksX5_law_0 17 rfl rfl)
theorem dX5_law_20 : decode cX5_law 20 = .ok (.ifCond .ne 7, 3) := dk_154 0 7 (dk_at dksX5_law_0 20 rfl rfl)
theorem dX5_law_23 : decode cX5_law 23 = .ok (.aload_n 3, 1) := dk_45 (dk_at dksX5_law_0 23 rfl rfl)
theorem dX5_law_24 : decode cX5_law 24 = .ok (.goto 4, 3) := dk_167 0 4 (dk_at dksX5_law_1 0 rfl rfl)
theorem dX5_law_27 : decode cX5_law 27 = .ok (.aload_n 2, 1) := dk_44 (dk_at dksX5_law_1 3 rfl rfl)
theorem dX5_law_28 : decode cX5_law 28 = .ok (.areturn, 1) := dk_176 (dk_at dksX5_law_1 4 rfl rfl)
abbrev cX5_must : ByteArray := prog_6_method_10_code
def yX5_must : MethodName := ⟨RX5, "must", "(I)V"⟩
def dkwX5_must_1 : List UInt8 := [154, 0, 7, 42, 182, 0, 90, 177]
abbrev dktX5_must_1 : List UInt8 := dkwX5_must_1 ++ []
def dkwX5_must_0 : List UInt8 := [42, 180, 0, 75, 154, 0, 16, 42, 180, 0, 55, 27, 159, 0, 8, 42, 5, 182, 0, 93, 42, 180, 0, 75]
abbrev dktX5_must_0 : List UInt8 := dkwX5_must_0 ++ dktX5_must_1
theorem dksX5_must_0 : cX5_must.data.toList.drop 0 = dktX5_must_0 := by decide +kernel
theorem dksX5_must_1 : cX5_must.data.toList.drop 24 = dktX5_must_1 := dk_seg dksX5_must_0 24 rfl rfl
theorem dX5_must_0 : decode cX5_must 0 = .ok (.aload_n 0, 1) := dk_42 (dk_at dksX5_must_0 0 rfl rfl)
theorem dX5_must_1 : decode cX5_must 1 = .ok (.getfield 75, 3) := dk_180 0 75 (dk_at dksX5_must_0 1 rfl rfl)
theorem dX5_must_4 : decode cX5_must 4 = .ok (.ifCond .ne 16, 3) := dk_154 0 16 (dk_at dksX5_must_0 4 rfl rfl)
theorem dX5_must_7 : decode cX5_must 7 = .ok (.aload_n 0, 1) := dk_42 (dk_at dksX5_must_0 7 rfl rfl)
theorem dX5_must_8 : decode cX5_must 8 = .ok (.getfield 55, 3) := dk_180 0 55 (dk_at dksX5_must_0 8 rfl rfl)
theorem dX5_must_11 : decode cX5_must 11 = .ok (.iload_n 1, 1) := dk_27 (dk_at dksX5_must_0 11 rfl rfl)
theorem dX5_must_12 : decode cX5_must 12 = .ok (.if_icmp .eq 8, 3) := dk_159 0 8 (dk_at dksX5_must_0 12 rfl rfl)
theorem dX5_must_15 : decode cX5_must 15 = .ok (.aload_n 0, 1) := dk_42 (dk_at dksX5_must_0 15 rfl rfl)
theorem dX5_must_16 : decode cX5_must 16 = .ok (.iconst 2, 1) := dk_5 (dk_at dksX5_must_0 16 rfl rfl)
theorem dX5_must_17 : decode cX5_must 17 = .ok (.invokevirtual 93, 3) := dk_182 0 93 (dk_at dksX5_must_0 17 rfl rfl)
theorem dX5_must_20 : decode cX5_must 20 = .ok (.aload_n 0, 1) := dk_42 (dk_at dksX5_must_0 20 rfl rfl)
theorem dX5_must_21 : decode cX5_must 21 = .ok (.getfield 75, 3) := dk_180 0 75 (dk_at dksX5_must_0 21 rfl rfl)
theorem dX5_must_24 : decode cX5_must 24 = .ok (.ifCond .ne 7, 3) := dk_154 0 7 (dk_at dksX5_must_1 0 rfl rfl)
theorem dX5_must_27 : decode cX5_must 27 = .ok (.aload_n 0, 1) := dk_42 (dk_at dksX5_must_1 3 rfl rfl)
theorem dX5_must_28 : decode cX5_must 28 = .ok (.invokevirtual 90, 3) := dk_182 0 90 (dk_at dksX5_must_1 4 rfl rfl)
theorem dX5_must_31 : decode cX5_must 31 = .ok (.return_, 1) := dk_177 (dk_at dksX5_must_1 7 rfl rfl)
abbrev cX5_sum : ByteArray := prog_6_method_23_code
def yX5_sum : MethodName := ⟨RX5, "sum", "()LSunkTower$Sum;"⟩
def dkwX5_sum_2 : List UInt8 := [167, 255, 215, 43, 176]
abbrev dktX5_sum_2 : List UInt8 := dkwX5_sum_2 ++ []
def dkwX5_sum_1 : List UInt8 := [180, 0, 55, 61, 42, 182, 0, 90, 187, 0, 213, 89, 43, 28, 42, 182, 0, 207, 183, 0, 215, 76]
abbrev dktX5_sum_1 : List UInt8 := dkwX5_sum_1 ++ dktX5_sum_2
def dkwX5_sum_0 : List UInt8 := [42, 182, 0, 207, 76, 42, 16, 43, 182, 0, 210, 154, 0, 12, 42, 16, 45, 182, 0, 210, 153, 0, 29, 42]
abbrev dktX5_sum_0 : List UInt8 := dkwX5_sum_0 ++ dktX5_sum_1
theorem dksX5_sum_0 : cX5_sum.data.toList.drop 0 = dktX5_sum_0 := by decide +kernel
theorem dksX5_sum_1 : cX5_sum.data.toList.drop 24 = dktX5_sum_1 := dk_seg dksX5_sum_0 24 rfl rfl
theorem dksX5_sum_2 : cX5_sum.data.toList.drop 46 = dktX5_sum_2 := dk_seg dksX5_sum_1 22 rfl rfl
theorem dX5_sum_0 : decode cX5_sum 0 = .ok (.aload_n 0, 1) := dk_42 (dk_at dksX5_sum_0 0 rfl rfl)
theorem dX5_sum_1 : decode cX5_sum 1 = .ok (.invokevirtual 207, 3) := dk_182 0 207 (dk_at dksX5_sum_0 1 rfl rfl)
theorem dX5_sum_4 : decode cX5_sum 4 = .ok (.astore_n 1, 1) := dk_76 (dk_at dksX5_sum_0 4 rfl rfl)
theorem dX5_sum_5 : decode cX5_sum 5 = .ok (.aload_n 0, 1) := dk_42 (dk_at dksX5_sum_0 5 rfl rfl)
theorem dX5_sum_6 : decode cX5_sum 6 = .ok (.bipush 43, 2) := dk_16 43 (dk_at dksX5_sum_0 6 rfl rfl)
theorem dX5_sum_8 : decode cX5_sum 8 = .ok (.invokevirtual 210, 3) := dk_182 0 210 (dk_at dksX5_sum_0 8 rfl rfl)
theorem dX5_sum_11 : decode cX5_sum 11 = .ok (.ifCond .ne 12, 3) := dk_154 0 12 (dk_at dksX5_sum_0 11 rfl rfl)
theorem dX5_sum_14 : decode cX5_sum 14 = .ok (.aload_n 0, 1) := dk_42 (dk_at dksX5_sum_0 14 rfl rfl)
theorem dX5_sum_15 : decode cX5_sum 15 = .ok (.bipush 45, 2) := dk_16 45 (dk_at dksX5_sum_0 15 rfl rfl)
theorem dX5_sum_17 : decode cX5_sum 17 = .ok (.invokevirtual 210, 3) := dk_182 0 210 (dk_at dksX5_sum_0 17 rfl rfl)
theorem dX5_sum_20 : decode cX5_sum 20 = .ok (.ifCond .eq 29, 3) := dk_153 0 29 (dk_at dksX5_sum_0 20 rfl rfl)
theorem dX5_sum_23 : decode cX5_sum 23 = .ok (.aload_n 0, 1) := dk_42 (dk_at dksX5_sum_0 23 rfl rfl)
theorem dX5_sum_24 : decode cX5_sum 24 = .ok (.getfield 55, 3) := dk_180 0 55 (dk_at dksX5_sum_1 0 rfl rfl)
theorem dX5_sum_27 : decode cX5_sum 27 = .ok (.istore_n 2, 1) := dk_61 (dk_at dksX5_sum_1 3 rfl rfl)
theorem dX5_sum_28 : decode cX5_sum 28 = .ok (.aload_n 0, 1) := dk_42 (dk_at dksX5_sum_1 4 rfl rfl)
theorem dX5_sum_29 : decode cX5_sum 29 = .ok (.invokevirtual 90, 3) := dk_182 0 90 (dk_at dksX5_sum_1 5 rfl rfl)
theorem dX5_sum_32 : decode cX5_sum 32 = .ok (.new 213, 3) := dk_187 0 213 (dk_at dksX5_sum_1 8 rfl rfl)
theorem dX5_sum_35 : decode cX5_sum 35 = .ok (.dup, 1) := dk_89 (dk_at dksX5_sum_1 11 rfl rfl)
theorem dX5_sum_36 : decode cX5_sum 36 = .ok (.aload_n 1, 1) := dk_43 (dk_at dksX5_sum_1 12 rfl rfl)
theorem dX5_sum_37 : decode cX5_sum 37 = .ok (.iload_n 2, 1) := dk_28 (dk_at dksX5_sum_1 13 rfl rfl)
theorem dX5_sum_38 : decode cX5_sum 38 = .ok (.aload_n 0, 1) := dk_42 (dk_at dksX5_sum_1 14 rfl rfl)
theorem dX5_sum_39 : decode cX5_sum 39 = .ok (.invokevirtual 207, 3) := dk_182 0 207 (dk_at dksX5_sum_1 15 rfl rfl)
theorem dX5_sum_42 : decode cX5_sum 42 = .ok (.invokespecial 215, 3) := dk_183 0 215 (dk_at dksX5_sum_1 18 rfl rfl)
theorem dX5_sum_45 : decode cX5_sum 45 = .ok (.astore_n 1, 1) := dk_76 (dk_at dksX5_sum_1 21 rfl rfl)
theorem dX5_sum_46 : decode cX5_sum 46 = .ok (.goto (-41), 3) := dk_167 255 215 (dk_at dksX5_sum_2 0 rfl rfl)
theorem dX5_sum_49 : decode cX5_sum 49 = .ok (.aload_n 1, 1) := dk_43 (dk_at dksX5_sum_2 3 rfl rfl)
theorem dX5_sum_50 : decode cX5_sum 50 = .ok (.areturn, 1) := dk_176 (dk_at dksX5_sum_2 4 rfl rfl)
abbrev cX5_term : ByteArray := prog_6_method_24_code
def yX5_term : MethodName := ⟨RX5, "term", "()LSunkTower$Sum;"⟩
def dkwX5_term_1 : List UInt8 := [16, 42, 42, 182, 0, 218, 183, 0, 215, 76, 167, 255, 228, 43, 176]
abbrev dktX5_term_1 : List UInt8 := dkwX5_term_1 ++ []
def dkwX5_term_0 : List UInt8 := [42, 182, 0, 218, 76, 42, 16, 42, 182, 0, 210, 153, 0, 25, 42, 182, 0, 90, 187, 0, 213, 89, 43]
abbrev dktX5_term_0 : List UInt8 := dkwX5_term_0 ++ dktX5_term_1
theorem dksX5_term_0 : cX5_term.data.toList.drop 0 = dktX5_term_0 := by decide +kernel
theorem dksX5_term_1 : cX5_term.data.toList.drop 23 = dktX5_term_1 := dk_seg dksX5_term_0 23 rfl rfl
theorem dX5_term_0 : decode cX5_term 0 = .ok (.aload_n 0, 1) := dk_42 (dk_at dksX5_term_0 0 rfl rfl)
theorem dX5_term_1 : decode cX5_term 1 = .ok (.invokevirtual 218, 3) := dk_182 0 218 (dk_at dksX5_term_0 1 rfl rfl)
theorem dX5_term_4 : decode cX5_term 4 = .ok (.astore_n 1, 1) := dk_76 (dk_at dksX5_term_0 4 rfl rfl)
theorem dX5_term_5 : decode cX5_term 5 = .ok (.aload_n 0, 1) := dk_42 (dk_at dksX5_term_0 5 rfl rfl)
theorem dX5_term_6 : decode cX5_term 6 = .ok (.bipush 42, 2) := dk_16 42 (dk_at dksX5_term_0 6 rfl rfl)
theorem dX5_term_8 : decode cX5_term 8 = .ok (.invokevirtual 210, 3) := dk_182 0 210 (dk_at dksX5_term_0 8 rfl rfl)
theorem dX5_term_11 : decode cX5_term 11 = .ok (.ifCond .eq 25, 3) := dk_153 0 25 (dk_at dksX5_term_0 11 rfl rfl)
theorem dX5_term_14 : decode cX5_term 14 = .ok (.aload_n 0, 1) := dk_42 (dk_at dksX5_term_0 14 rfl rfl)
theorem dX5_term_15 : decode cX5_term 15 = .ok (.invokevirtual 90, 3) := dk_182 0 90 (dk_at dksX5_term_0 15 rfl rfl)
theorem dX5_term_18 : decode cX5_term 18 = .ok (.new 213, 3) := dk_187 0 213 (dk_at dksX5_term_0 18 rfl rfl)
theorem dX5_term_21 : decode cX5_term 21 = .ok (.dup, 1) := dk_89 (dk_at dksX5_term_0 21 rfl rfl)
theorem dX5_term_22 : decode cX5_term 22 = .ok (.aload_n 1, 1) := dk_43 (dk_at dksX5_term_0 22 rfl rfl)
theorem dX5_term_23 : decode cX5_term 23 = .ok (.bipush 42, 2) := dk_16 42 (dk_at dksX5_term_1 0 rfl rfl)
theorem dX5_term_25 : decode cX5_term 25 = .ok (.aload_n 0, 1) := dk_42 (dk_at dksX5_term_1 2 rfl rfl)
theorem dX5_term_26 : decode cX5_term 26 = .ok (.invokevirtual 218, 3) := dk_182 0 218 (dk_at dksX5_term_1 3 rfl rfl)
theorem dX5_term_29 : decode cX5_term 29 = .ok (.invokespecial 215, 3) := dk_183 0 215 (dk_at dksX5_term_1 6 rfl rfl)
theorem dX5_term_32 : decode cX5_term 32 = .ok (.astore_n 1, 1) := dk_76 (dk_at dksX5_term_1 9 rfl rfl)
theorem dX5_term_33 : decode cX5_term 33 = .ok (.goto (-28), 3) := dk_167 255 228 (dk_at dksX5_term_1 10 rfl rfl)
theorem dX5_term_36 : decode cX5_term 36 = .ok (.aload_n 1, 1) := dk_43 (dk_at dksX5_term_1 13 rfl rfl)
theorem dX5_term_37 : decode cX5_term 37 = .ok (.areturn, 1) := dk_176 (dk_at dksX5_term_1 14 rfl rfl)
abbrev cX5_atom : ByteArray := prog_6_method_27_code
def yX5_atom : MethodName := ⟨RX5, "atom", "()LSunkTower$Sum;"⟩
def dkwX5_atom_4 : List UInt8 := [44, 176]
abbrev dktX5_atom_4 : List UInt8 := dkwX5_atom_4 ++ []
def dkwX5_atom_3 : List UInt8 := [182, 0, 200, 167, 0, 4, 1, 77, 42, 16, 41, 182, 0, 103, 42, 89, 180, 0, 204, 4, 100, 181, 0, 204]
abbrev dktX5_atom_3 : List UInt8 := dkwX5_atom_3 ++ dktX5_atom_4
def dkwX5_atom_2 : List UInt8 := [17, 3, 231, 182, 0, 136, 183, 0, 242, 176, 42, 182, 0, 243, 42, 180, 0, 75, 154, 0, 10, 42]
abbrev dktX5_atom_2 : List UInt8 := dkwX5_atom_2 ++ dktX5_atom_3
def dkwX5_atom_1 : List UInt8 := [187, 0, 236, 89, 27, 183, 0, 238, 176, 42, 16, 40, 182, 0, 210, 154, 0, 19, 187, 0, 240, 89, 42, 3]
abbrev dktX5_atom_1 : List UInt8 := dkwX5_atom_1 ++ dktX5_atom_2
def dkwX5_atom_0 : List UInt8 := [42, 180, 0, 197, 154, 0, 10, 42, 182, 0, 230, 167, 0, 7, 42, 182, 0, 233, 60, 27, 2, 159, 0, 12]
abbrev dktX5_atom_0 : List UInt8 := dkwX5_atom_0 ++ dktX5_atom_1
theorem dksX5_atom_0 : cX5_atom.data.toList.drop 0 = dktX5_atom_0 := by decide +kernel
theorem dksX5_atom_1 : cX5_atom.data.toList.drop 24 = dktX5_atom_1 := dk_seg dksX5_atom_0 24 rfl rfl
theorem dksX5_atom_2 : cX5_atom.data.toList.drop 48 = dktX5_atom_2 := dk_seg dksX5_atom_1 24 rfl rfl
theorem dksX5_atom_3 : cX5_atom.data.toList.drop 70 = dktX5_atom_3 := dk_seg dksX5_atom_2 22 rfl rfl
theorem dksX5_atom_4 : cX5_atom.data.toList.drop 94 = dktX5_atom_4 := dk_seg dksX5_atom_3 24 rfl rfl
theorem dX5_atom_0 : decode cX5_atom 0 = .ok (.aload_n 0, 1) := dk_42 (dk_at dksX5_atom_0 0 rfl rfl)
theorem dX5_atom_1 : decode cX5_atom 1 = .ok (.getfield 197, 3) := dk_180 0 197 (dk_at dksX5_atom_0 1 rfl rfl)
theorem dX5_atom_4 : decode cX5_atom 4 = .ok (.ifCond .ne 10, 3) := dk_154 0 10 (dk_at dksX5_atom_0 4 rfl rfl)
theorem dX5_atom_7 : decode cX5_atom 7 = .ok (.aload_n 0, 1) := dk_42 (dk_at dksX5_atom_0 7 rfl rfl)
theorem dX5_atom_8 : decode cX5_atom 8 = .ok (.invokevirtual 230, 3) := dk_182 0 230 (dk_at dksX5_atom_0 8 rfl rfl)
theorem dX5_atom_11 : decode cX5_atom 11 = .ok (.goto 7, 3) := dk_167 0 7 (dk_at dksX5_atom_0 11 rfl rfl)
theorem dX5_atom_14 : decode cX5_atom 14 = .ok (.aload_n 0, 1) := dk_42 (dk_at dksX5_atom_0 14 rfl rfl)
theorem dX5_atom_15 : decode cX5_atom 15 = .ok (.invokevirtual 233, 3) := dk_182 0 233 (dk_at dksX5_atom_0 15 rfl rfl)
theorem dX5_atom_18 : decode cX5_atom 18 = .ok (.istore_n 1, 1) := dk_60 (dk_at dksX5_atom_0 18 rfl rfl)
theorem dX5_atom_19 : decode cX5_atom 19 = .ok (.iload_n 1, 1) := dk_27 (dk_at dksX5_atom_0 19 rfl rfl)
theorem dX5_atom_20 : decode cX5_atom 20 = .ok (.iconst (-1), 1) := dk_2 (dk_at dksX5_atom_0 20 rfl rfl)
theorem dX5_atom_21 : decode cX5_atom 21 = .ok (.if_icmp .eq 12, 3) := dk_159 0 12 (dk_at dksX5_atom_0 21 rfl rfl)
theorem dX5_atom_24 : decode cX5_atom 24 = .ok (.new 236, 3) := dk_187 0 236 (dk_at dksX5_atom_1 0 rfl rfl)
theorem dX5_atom_27 : decode cX5_atom 27 = .ok (.dup, 1) := dk_89 (dk_at dksX5_atom_1 3 rfl rfl)
theorem dX5_atom_28 : decode cX5_atom 28 = .ok (.iload_n 1, 1) := dk_27 (dk_at dksX5_atom_1 4 rfl rfl)
theorem dX5_atom_29 : decode cX5_atom 29 = .ok (.invokespecial 238, 3) := dk_183 0 238 (dk_at dksX5_atom_1 5 rfl rfl)
theorem dX5_atom_32 : decode cX5_atom 32 = .ok (.areturn, 1) := dk_176 (dk_at dksX5_atom_1 8 rfl rfl)
theorem dX5_atom_33 : decode cX5_atom 33 = .ok (.aload_n 0, 1) := dk_42 (dk_at dksX5_atom_1 9 rfl rfl)
theorem dX5_atom_34 : decode cX5_atom 34 = .ok (.bipush 40, 2) := dk_16 40 (dk_at dksX5_atom_1 10 rfl rfl)
theorem dX5_atom_36 : decode cX5_atom 36 = .ok (.invokevirtual 210, 3) := dk_182 0 210 (dk_at dksX5_atom_1 12 rfl rfl)
theorem dX5_atom_39 : decode cX5_atom 39 = .ok (.ifCond .ne 19, 3) := dk_154 0 19 (dk_at dksX5_atom_1 15 rfl rfl)
theorem dX5_atom_42 : decode cX5_atom 42 = .ok (.new 240, 3) := dk_187 0 240 (dk_at dksX5_atom_1 18 rfl rfl)
theorem dX5_atom_45 : decode cX5_atom 45 = .ok (.dup, 1) := dk_89 (dk_at dksX5_atom_1 21 rfl rfl)
theorem dX5_atom_46 : decode cX5_atom 46 = .ok (.aload_n 0, 1) := dk_42 (dk_at dksX5_atom_1 22 rfl rfl)
theorem dX5_atom_47 : decode cX5_atom 47 = .ok (.iconst 0, 1) := dk_3 (dk_at dksX5_atom_1 23 rfl rfl)
theorem dX5_atom_48 : decode cX5_atom 48 = .ok (.sipush 999, 3) := dk_17 3 231 (dk_at dksX5_atom_2 0 rfl rfl)
theorem dX5_atom_51 : decode cX5_atom 51 = .ok (.invokevirtual 136, 3) := dk_182 0 136 (dk_at dksX5_atom_2 3 rfl rfl)
theorem dX5_atom_54 : decode cX5_atom 54 = .ok (.invokespecial 242, 3) := dk_183 0 242 (dk_at dksX5_atom_2 6 rfl rfl)
theorem dX5_atom_57 : decode cX5_atom 57 = .ok (.areturn, 1) := dk_176 (dk_at dksX5_atom_2 9 rfl rfl)
theorem dX5_atom_58 : decode cX5_atom 58 = .ok (.aload_n 0, 1) := dk_42 (dk_at dksX5_atom_2 10 rfl rfl)
theorem dX5_atom_59 : decode cX5_atom 59 = .ok (.invokevirtual 243, 3) := dk_182 0 243 (dk_at dksX5_atom_2 11 rfl rfl)
theorem dX5_atom_62 : decode cX5_atom 62 = .ok (.aload_n 0, 1) := dk_42 (dk_at dksX5_atom_2 14 rfl rfl)
theorem dX5_atom_63 : decode cX5_atom 63 = .ok (.getfield 75, 3) := dk_180 0 75 (dk_at dksX5_atom_2 15 rfl rfl)
theorem dX5_atom_66 : decode cX5_atom 66 = .ok (.ifCond .ne 10, 3) := dk_154 0 10 (dk_at dksX5_atom_2 18 rfl rfl)
theorem dX5_atom_69 : decode cX5_atom 69 = .ok (.aload_n 0, 1) := dk_42 (dk_at dksX5_atom_2 21 rfl rfl)
theorem dX5_atom_70 : decode cX5_atom 70 = .ok (.invokevirtual 200, 3) := dk_182 0 200 (dk_at dksX5_atom_3 0 rfl rfl)
theorem dX5_atom_73 : decode cX5_atom 73 = .ok (.goto 4, 3) := dk_167 0 4 (dk_at dksX5_atom_3 3 rfl rfl)
theorem dX5_atom_76 : decode cX5_atom 76 = .ok (.aconst_null, 1) := dk_1 (dk_at dksX5_atom_3 6 rfl rfl)
theorem dX5_atom_77 : decode cX5_atom 77 = .ok (.astore_n 2, 1) := dk_77 (dk_at dksX5_atom_3 7 rfl rfl)
theorem dX5_atom_78 : decode cX5_atom 78 = .ok (.aload_n 0, 1) := dk_42 (dk_at dksX5_atom_3 8 rfl rfl)
theorem dX5_atom_79 : decode cX5_atom 79 = .ok (.bipush 41, 2) := dk_16 41 (dk_at dksX5_atom_3 9 rfl rfl)
theorem dX5_atom_81 : decode cX5_atom 81 = .ok (.invokevirtual 103, 3) := dk_182 0 103 (dk_at dksX5_atom_3 11 rfl rfl)
theorem dX5_atom_84 : decode cX5_atom 84 = .ok (.aload_n 0, 1) := dk_42 (dk_at dksX5_atom_3 14 rfl rfl)
theorem dX5_atom_85 : decode cX5_atom 85 = .ok (.dup, 1) := dk_89 (dk_at dksX5_atom_3 15 rfl rfl)
theorem dX5_atom_86 : decode cX5_atom 86 = .ok (.getfield 204, 3) := dk_180 0 204 (dk_at dksX5_atom_3 16 rfl rfl)
theorem dX5_atom_89 : decode cX5_atom 89 = .ok (.iconst 1, 1) := dk_4 (dk_at dksX5_atom_3 19 rfl rfl)
theorem dX5_atom_90 : decode cX5_atom 90 = .ok (.isub, 1) := dk_100 (dk_at dksX5_atom_3 20 rfl rfl)
theorem dX5_atom_91 : decode cX5_atom 91 = .ok (.putfield 204, 3) := dk_181 0 204 (dk_at dksX5_atom_3 21 rfl rfl)
theorem dX5_atom_94 : decode cX5_atom 94 = .ok (.aload_n 2, 1) := dk_44 (dk_at dksX5_atom_4 0 rfl rfl)
theorem dX5_atom_95 : decode cX5_atom 95 = .ok (.areturn, 1) := dk_176 (dk_at dksX5_atom_4 1 rfl rfl)
abbrev cX5_sinkWord : ByteArray := prog_6_method_25_code
def yX5_sinkWord : MethodName := ⟨RX5, "sinkWord", "()I"⟩
def dkwX5_sinkWord_2 : List UInt8 := [182, 0, 97, 153, 0, 7, 7, 167, 0, 4, 2, 172]
abbrev dktX5_sinkWord_2 : List UInt8 := dkwX5_sinkWord_2 ++ []
def dkwX5_sinkWord_1 : List UInt8 := [18, 134, 182, 0, 97, 153, 0, 5, 5, 172, 42, 18, 142, 182, 0, 97, 153, 0, 5, 6, 172, 42, 18, 223]
abbrev dktX5_sinkWord_1 : List UInt8 := dkwX5_sinkWord_1 ++ dktX5_sinkWord_2
def dkwX5_sinkWord_0 : List UInt8 := [42, 18, 221, 182, 0, 97, 153, 0, 5, 3, 172, 42, 18, 222, 182, 0, 97, 153, 0, 5, 4, 172, 42]
abbrev dktX5_sinkWord_0 : List UInt8 := dkwX5_sinkWord_0 ++ dktX5_sinkWord_1
theorem dksX5_sinkWord_0 : cX5_sinkWord.data.toList.drop 0 = dktX5_sinkWord_0 := by decide +kernel
theorem dksX5_sinkWord_1 : cX5_sinkWord.data.toList.drop 23 = dktX5_sinkWord_1 := dk_seg dksX5_sinkWord_0 23 rfl rfl
theorem dksX5_sinkWord_2 : cX5_sinkWord.data.toList.drop 47 = dktX5_sinkWord_2 := dk_seg dksX5_sinkWord_1 24 rfl rfl
theorem dX5_sinkWord_0 : decode cX5_sinkWord 0 = .ok (.aload_n 0, 1) := dk_42 (dk_at dksX5_sinkWord_0 0 rfl rfl)
theorem dX5_sinkWord_1 : decode cX5_sinkWord 1 = .ok (.ldc 221, 2) := dk_18 221 (dk_at dksX5_sinkWord_0 1 rfl rfl)
theorem dX5_sinkWord_3 : decode cX5_sinkWord 3 = .ok (.invokevirtual 97, 3) := dk_182 0 97 (dk_at dksX5_sinkWord_0 3 rfl rfl)
theorem dX5_sinkWord_6 : decode cX5_sinkWord 6 = .ok (.ifCond .eq 5, 3) := dk_153 0 5 (dk_at dksX5_sinkWord_0 6 rfl rfl)
theorem dX5_sinkWord_9 : decode cX5_sinkWord 9 = .ok (.iconst 0, 1) := dk_3 (dk_at dksX5_sinkWord_0 9 rfl rfl)
theorem dX5_sinkWord_10 : decode cX5_sinkWord 10 = .ok (.ireturn, 1) := dk_172 (dk_at dksX5_sinkWord_0 10 rfl rfl)
theorem dX5_sinkWord_11 : decode cX5_sinkWord 11 = .ok (.aload_n 0, 1) := dk_42 (dk_at dksX5_sinkWord_0 11 rfl rfl)
theorem dX5_sinkWord_12 : decode cX5_sinkWord 12 = .ok (.ldc 222, 2) := dk_18 222 (dk_at dksX5_sinkWord_0 12 rfl rfl)
theorem dX5_sinkWord_14 : decode cX5_sinkWord 14 = .ok (.invokevirtual 97, 3) := dk_182 0 97 (dk_at dksX5_sinkWord_0 14 rfl rfl)
theorem dX5_sinkWord_17 : decode cX5_sinkWord 17 = .ok (.ifCond .eq 5, 3) := dk_153 0 5 (dk_at dksX5_sinkWord_0 17 rfl rfl)
theorem dX5_sinkWord_20 : decode cX5_sinkWord 20 = .ok (.iconst 1, 1) := dk_4 (dk_at dksX5_sinkWord_0 20 rfl rfl)
theorem dX5_sinkWord_21 : decode cX5_sinkWord 21 = .ok (.ireturn, 1) := dk_172 (dk_at dksX5_sinkWord_0 21 rfl rfl)
theorem dX5_sinkWord_22 : decode cX5_sinkWord 22 = .ok (.aload_n 0, 1) := dk_42 (dk_at dksX5_sinkWord_0 22 rfl rfl)
theorem dX5_sinkWord_23 : decode cX5_sinkWord 23 = .ok (.ldc 134, 2) := dk_18 134 (dk_at dksX5_sinkWord_1 0 rfl rfl)
theorem dX5_sinkWord_25 : decode cX5_sinkWord 25 = .ok (.invokevirtual 97, 3) := dk_182 0 97 (dk_at dksX5_sinkWord_1 2 rfl rfl)
theorem dX5_sinkWord_28 : decode cX5_sinkWord 28 = .ok (.ifCond .eq 5, 3) := dk_153 0 5 (dk_at dksX5_sinkWord_1 5 rfl rfl)
theorem dX5_sinkWord_31 : decode cX5_sinkWord 31 = .ok (.iconst 2, 1) := dk_5 (dk_at dksX5_sinkWord_1 8 rfl rfl)
theorem dX5_sinkWord_32 : decode cX5_sinkWord 32 = .ok (.ireturn, 1) := dk_172 (dk_at dksX5_sinkWord_1 9 rfl rfl)
theorem dX5_sinkWord_33 : decode cX5_sinkWord 33 = .ok (.aload_n 0, 1) := dk_42 (dk_at dksX5_sinkWord_1 10 rfl rfl)
theorem dX5_sinkWord_34 : decode cX5_sinkWord 34 = .ok (.ldc 142, 2) := dk_18 142 (dk_at dksX5_sinkWord_1 11 rfl rfl)
theorem dX5_sinkWord_36 : decode cX5_sinkWord 36 = .ok (.invokevirtual 97, 3) := dk_182 0 97 (dk_at dksX5_sinkWord_1 13 rfl rfl)
theorem dX5_sinkWord_39 : decode cX5_sinkWord 39 = .ok (.ifCond .eq 5, 3) := dk_153 0 5 (dk_at dksX5_sinkWord_1 16 rfl rfl)
theorem dX5_sinkWord_42 : decode cX5_sinkWord 42 = .ok (.iconst 3, 1) := dk_6 (dk_at dksX5_sinkWord_1 19 rfl rfl)
theorem dX5_sinkWord_43 : decode cX5_sinkWord 43 = .ok (.ireturn, 1) := dk_172 (dk_at dksX5_sinkWord_1 20 rfl rfl)
theorem dX5_sinkWord_44 : decode cX5_sinkWord 44 = .ok (.aload_n 0, 1) := dk_42 (dk_at dksX5_sinkWord_1 21 rfl rfl)
theorem dX5_sinkWord_45 : decode cX5_sinkWord 45 = .ok (.ldc 223, 2) := dk_18 223 (dk_at dksX5_sinkWord_1 22 rfl rfl)
theorem dX5_sinkWord_47 : decode cX5_sinkWord 47 = .ok (.invokevirtual 97, 3) := dk_182 0 97 (dk_at dksX5_sinkWord_2 0 rfl rfl)
theorem dX5_sinkWord_50 : decode cX5_sinkWord 50 = .ok (.ifCond .eq 7, 3) := dk_153 0 7 (dk_at dksX5_sinkWord_2 3 rfl rfl)
theorem dX5_sinkWord_53 : decode cX5_sinkWord 53 = .ok (.iconst 4, 1) := dk_7 (dk_at dksX5_sinkWord_2 6 rfl rfl)
theorem dX5_sinkWord_54 : decode cX5_sinkWord 54 = .ok (.goto 4, 3) := dk_167 0 4 (dk_at dksX5_sinkWord_2 7 rfl rfl)
theorem dX5_sinkWord_57 : decode cX5_sinkWord 57 = .ok (.iconst (-1), 1) := dk_2 (dk_at dksX5_sinkWord_2 10 rfl rfl)
theorem dX5_sinkWord_58 : decode cX5_sinkWord 58 = .ok (.ireturn, 1) := dk_172 (dk_at dksX5_sinkWord_2 11 rfl rfl)
abbrev cX5_storeyWord : ByteArray := prog_6_method_26_code
def yX5_storeyWord : MethodName := ⟨RX5, "storeyWord", "()I"⟩
def dkwX5_storeyWord_3 : List UInt8 := [182, 0, 97, 153, 0, 7, 8, 167, 0, 4, 2, 172]
abbrev dktX5_storeyWord_3 : List UInt8 := dkwX5_storeyWord_3 ++ []
def dkwX5_storeyWord_2 : List UInt8 := [182, 0, 97, 153, 0, 5, 6, 172, 42, 18, 227, 182, 0, 97, 153, 0, 5, 7, 172, 42, 18, 228]
abbrev dktX5_storeyWord_2 : List UInt8 := dkwX5_storeyWord_2 ++ dktX5_storeyWord_3
def dkwX5_storeyWord_1 : List UInt8 := [18, 142, 182, 0, 97, 153, 0, 5, 5, 172, 42, 180, 0, 197, 4, 160, 0, 5, 2, 172, 42, 18, 186]
abbrev dktX5_storeyWord_1 : List UInt8 := dkwX5_storeyWord_1 ++ dktX5_storeyWord_2
def dkwX5_storeyWord_0 : List UInt8 := [42, 18, 225, 182, 0, 97, 153, 0, 5, 3, 172, 42, 18, 109, 182, 0, 97, 153, 0, 5, 4, 172, 42]
abbrev dktX5_storeyWord_0 : List UInt8 := dkwX5_storeyWord_0 ++ dktX5_storeyWord_1
theorem dksX5_storeyWord_0 : cX5_storeyWord.data.toList.drop 0 = dktX5_storeyWord_0 := by decide +kernel
theorem dksX5_storeyWord_1 : cX5_storeyWord.data.toList.drop 23 = dktX5_storeyWord_1 := dk_seg dksX5_storeyWord_0 23 rfl rfl
theorem dksX5_storeyWord_2 : cX5_storeyWord.data.toList.drop 46 = dktX5_storeyWord_2 := dk_seg dksX5_storeyWord_1 23 rfl rfl
theorem dksX5_storeyWord_3 : cX5_storeyWord.data.toList.drop 68 = dktX5_storeyWord_3 := dk_seg dksX5_storeyWord_2 22 rfl rfl
theorem dX5_storeyWord_0 : decode cX5_storeyWord 0 = .ok (.aload_n 0, 1) := dk_42 (dk_at dksX5_storeyWord_0 0 rfl rfl)
theorem dX5_storeyWord_1 : decode cX5_storeyWord 1 = .ok (.ldc 225, 2) := dk_18 225 (dk_at dksX5_storeyWord_0 1 rfl rfl)
theorem dX5_storeyWord_3 : decode cX5_storeyWord 3 = .ok (.invokevirtual 97, 3) := dk_182 0 97 (dk_at dksX5_storeyWord_0 3 rfl rfl)
theorem dX5_storeyWord_6 : decode cX5_storeyWord 6 = .ok (.ifCond .eq 5, 3) := dk_153 0 5 (dk_at dksX5_storeyWord_0 6 rfl rfl)
theorem dX5_storeyWord_9 : decode cX5_storeyWord 9 = .ok (.iconst 0, 1) := dk_3 (dk_at dksX5_storeyWord_0 9 rfl rfl)
theorem dX5_storeyWord_10 : decode cX5_storeyWord 10 = .ok (.ireturn, 1) := dk_172 (dk_at dksX5_storeyWord_0 10 rfl rfl)
theorem dX5_storeyWord_11 : decode cX5_storeyWord 11 = .ok (.aload_n 0, 1) := dk_42 (dk_at dksX5_storeyWord_0 11 rfl rfl)
theorem dX5_storeyWord_12 : decode cX5_storeyWord 12 = .ok (.ldc 109, 2) := dk_18 109 (dk_at dksX5_storeyWord_0 12 rfl rfl)
theorem dX5_storeyWord_14 : decode cX5_storeyWord 14 = .ok (.invokevirtual 97, 3) := dk_182 0 97 (dk_at dksX5_storeyWord_0 14 rfl rfl)
theorem dX5_storeyWord_17 : decode cX5_storeyWord 17 = .ok (.ifCond .eq 5, 3) := dk_153 0 5 (dk_at dksX5_storeyWord_0 17 rfl rfl)
theorem dX5_storeyWord_20 : decode cX5_storeyWord 20 = .ok (.iconst 1, 1) := dk_4 (dk_at dksX5_storeyWord_0 20 rfl rfl)
theorem dX5_storeyWord_21 : decode cX5_storeyWord 21 = .ok (.ireturn, 1) := dk_172 (dk_at dksX5_storeyWord_0 21 rfl rfl)
theorem dX5_storeyWord_22 : decode cX5_storeyWord 22 = .ok (.aload_n 0, 1) := dk_42 (dk_at dksX5_storeyWord_0 22 rfl rfl)
theorem dX5_storeyWord_23 : decode cX5_storeyWord 23 = .ok (.ldc 142, 2) := dk_18 142 (dk_at dksX5_storeyWord_1 0 rfl rfl)
theorem dX5_storeyWord_25 : decode cX5_storeyWord 25 = .ok (.invokevirtual 97, 3) := dk_182 0 97 (dk_at dksX5_storeyWord_1 2 rfl rfl)
theorem dX5_storeyWord_28 : decode cX5_storeyWord 28 = .ok (.ifCond .eq 5, 3) := dk_153 0 5 (dk_at dksX5_storeyWord_1 5 rfl rfl)
theorem dX5_storeyWord_31 : decode cX5_storeyWord 31 = .ok (.iconst 2, 1) := dk_5 (dk_at dksX5_storeyWord_1 8 rfl rfl)
theorem dX5_storeyWord_32 : decode cX5_storeyWord 32 = .ok (.ireturn, 1) := dk_172 (dk_at dksX5_storeyWord_1 9 rfl rfl)
theorem dX5_storeyWord_33 : decode cX5_storeyWord 33 = .ok (.aload_n 0, 1) := dk_42 (dk_at dksX5_storeyWord_1 10 rfl rfl)
theorem dX5_storeyWord_34 : decode cX5_storeyWord 34 = .ok (.getfield 197, 3) := dk_180 0 197 (dk_at dksX5_storeyWord_1 11 rfl rfl)
theorem dX5_storeyWord_37 : decode cX5_storeyWord 37 = .ok (.iconst 1, 1) := dk_4 (dk_at dksX5_storeyWord_1 14 rfl rfl)
theorem dX5_storeyWord_38 : decode cX5_storeyWord 38 = .ok (.if_icmp .ne 5, 3) := dk_160 0 5 (dk_at dksX5_storeyWord_1 15 rfl rfl)
theorem dX5_storeyWord_41 : decode cX5_storeyWord 41 = .ok (.iconst (-1), 1) := dk_2 (dk_at dksX5_storeyWord_1 18 rfl rfl)
theorem dX5_storeyWord_42 : decode cX5_storeyWord 42 = .ok (.ireturn, 1) := dk_172 (dk_at dksX5_storeyWord_1 19 rfl rfl)
theorem dX5_storeyWord_43 : decode cX5_storeyWord 43 = .ok (.aload_n 0, 1) := dk_42 (dk_at dksX5_storeyWord_1 20 rfl rfl)
theorem dX5_storeyWord_44 : decode cX5_storeyWord 44 = .ok (.ldc 186, 2) := dk_18 186 (dk_at dksX5_storeyWord_1 21 rfl rfl)
theorem dX5_storeyWord_46 : decode cX5_storeyWord 46 = .ok (.invokevirtual 97, 3) := dk_182 0 97 (dk_at dksX5_storeyWord_2 0 rfl rfl)
theorem dX5_storeyWord_49 : decode cX5_storeyWord 49 = .ok (.ifCond .eq 5, 3) := dk_153 0 5 (dk_at dksX5_storeyWord_2 3 rfl rfl)
theorem dX5_storeyWord_52 : decode cX5_storeyWord 52 = .ok (.iconst 3, 1) := dk_6 (dk_at dksX5_storeyWord_2 6 rfl rfl)
theorem dX5_storeyWord_53 : decode cX5_storeyWord 53 = .ok (.ireturn, 1) := dk_172 (dk_at dksX5_storeyWord_2 7 rfl rfl)
theorem dX5_storeyWord_54 : decode cX5_storeyWord 54 = .ok (.aload_n 0, 1) := dk_42 (dk_at dksX5_storeyWord_2 8 rfl rfl)
theorem dX5_storeyWord_55 : decode cX5_storeyWord 55 = .ok (.ldc 227, 2) := dk_18 227 (dk_at dksX5_storeyWord_2 9 rfl rfl)
theorem dX5_storeyWord_57 : decode cX5_storeyWord 57 = .ok (.invokevirtual 97, 3) := dk_182 0 97 (dk_at dksX5_storeyWord_2 11 rfl rfl)
theorem dX5_storeyWord_60 : decode cX5_storeyWord 60 = .ok (.ifCond .eq 5, 3) := dk_153 0 5 (dk_at dksX5_storeyWord_2 14 rfl rfl)
theorem dX5_storeyWord_63 : decode cX5_storeyWord 63 = .ok (.iconst 4, 1) := dk_7 (dk_at dksX5_storeyWord_2 17 rfl rfl)
theorem dX5_storeyWord_64 : decode cX5_storeyWord 64 = .ok (.ireturn, 1) := dk_172 (dk_at dksX5_storeyWord_2 18 rfl rfl)
theorem dX5_storeyWord_65 : decode cX5_storeyWord 65 = .ok (.aload_n 0, 1) := dk_42 (dk_at dksX5_storeyWord_2 19 rfl rfl)
theorem dX5_storeyWord_66 : decode cX5_storeyWord 66 = .ok (.ldc 228, 2) := dk_18 228 (dk_at dksX5_storeyWord_2 20 rfl rfl)
theorem dX5_storeyWord_68 : decode cX5_storeyWord 68 = .ok (.invokevirtual 97, 3) := dk_182 0 97 (dk_at dksX5_storeyWord_3 0 rfl rfl)
theorem dX5_storeyWord_71 : decode cX5_storeyWord 71 = .ok (.ifCond .eq 7, 3) := dk_153 0 7 (dk_at dksX5_storeyWord_3 3 rfl rfl)
theorem dX5_storeyWord_74 : decode cX5_storeyWord 74 = .ok (.iconst 5, 1) := dk_8 (dk_at dksX5_storeyWord_3 6 rfl rfl)
theorem dX5_storeyWord_75 : decode cX5_storeyWord 75 = .ok (.goto 4, 3) := dk_167 0 4 (dk_at dksX5_storeyWord_3 7 rfl rfl)
theorem dX5_storeyWord_78 : decode cX5_storeyWord 78 = .ok (.iconst (-1), 1) := dk_2 (dk_at dksX5_storeyWord_3 10 rfl rfl)
theorem dX5_storeyWord_79 : decode cX5_storeyWord 79 = .ok (.ireturn, 1) := dk_172 (dk_at dksX5_storeyWord_3 11 rfl rfl)
abbrev cX5_isSign : ByteArray := prog_6_method_9_code
def yX5_isSign : MethodName := ⟨RX5, "isSign", "(I)Z"⟩
def dkwX5_isSign_0 : List UInt8 := [42, 180, 0, 75, 154, 0, 15, 42, 180, 0, 55, 27, 160, 0, 7, 4, 167, 0, 4, 3, 172]
abbrev dktX5_isSign_0 : List UInt8 := dkwX5_isSign_0 ++ []
theorem dksX5_isSign_0 : cX5_isSign.data.toList.drop 0 = dktX5_isSign_0 := by decide +kernel
theorem dX5_isSign_0 : decode cX5_isSign 0 = .ok (.aload_n 0, 1) := dk_42 (dk_at dksX5_isSign_0 0 rfl rfl)
theorem dX5_isSign_1 : decode cX5_isSign 1 = .ok (.getfield 75, 3) := dk_180 0 75 (dk_at dksX5_isSign_0 1 rfl rfl)
theorem dX5_isSign_4 : decode cX5_isSign 4 = .ok (.ifCond .ne 15, 3) := dk_154 0 15 (dk_at dksX5_isSign_0 4 rfl rfl)
theorem dX5_isSign_7 : decode cX5_isSign 7 = .ok (.aload_n 0, 1) := dk_42 (dk_at dksX5_isSign_0 7 rfl rfl)
theorem dX5_isSign_8 : decode cX5_isSign 8 = .ok (.getfield 55, 3) := dk_180 0 55 (dk_at dksX5_isSign_0 8 rfl rfl)
theorem dX5_isSign_11 : decode cX5_isSign 11 = .ok (.iload_n 1, 1) := dk_27 (dk_at dksX5_isSign_0 11 rfl rfl)
theorem dX5_isSign_12 : decode cX5_isSign 12 = .ok (.if_icmp .ne 7, 3) := dk_160 0 7 (dk_at dksX5_isSign_0 12 rfl rfl)
theorem dX5_isSign_15 : decode cX5_isSign 15 = .ok (.iconst 1, 1) := dk_4 (dk_at dksX5_isSign_0 15 rfl rfl)
theorem dX5_isSign_16 : decode cX5_isSign 16 = .ok (.goto 4, 3) := dk_167 0 4 (dk_at dksX5_isSign_0 16 rfl rfl)
theorem dX5_isSign_19 : decode cX5_isSign 19 = .ok (.iconst 0, 1) := dk_3 (dk_at dksX5_isSign_0 19 rfl rfl)
theorem dX5_isSign_20 : decode cX5_isSign 20 = .ok (.ireturn, 1) := dk_172 (dk_at dksX5_isSign_0 20 rfl rfl)
abbrev cX5_goesIn : ByteArray := prog_6_method_22_code
def yX5_goesIn : MethodName := ⟨RX5, "goesIn", "()V"⟩
def dkwX5_goesIn_1 : List UInt8 := [42, 180, 0, 75, 154, 0, 7, 42, 182, 0, 90, 177]
abbrev dktX5_goesIn_1 : List UInt8 := dkwX5_goesIn_1 ++ []
def dkwX5_goesIn_0 : List UInt8 := [42, 180, 0, 204, 16, 6, 160, 0, 8, 42, 7, 182, 0, 93, 42, 89, 180, 0, 204, 4, 96, 181, 0, 204]
abbrev dktX5_goesIn_0 : List UInt8 := dkwX5_goesIn_0 ++ dktX5_goesIn_1
theorem dksX5_goesIn_0 : cX5_goesIn.data.toList.drop 0 = dktX5_goesIn_0 := by decide +kernel
theorem dksX5_goesIn_1 : cX5_goesIn.data.toList.drop 24 = dktX5_goesIn_1 := dk_seg dksX5_goesIn_0 24 rfl rfl
theorem dX5_goesIn_0 : decode cX5_goesIn 0 = .ok (.aload_n 0, 1) := dk_42 (dk_at dksX5_goesIn_0 0 rfl rfl)
theorem dX5_goesIn_1 : decode cX5_goesIn 1 = .ok (.getfield 204, 3) := dk_180 0 204 (dk_at dksX5_goesIn_0 1 rfl rfl)
theorem dX5_goesIn_4 : decode cX5_goesIn 4 = .ok (.bipush 6, 2) := dk_16 6 (dk_at dksX5_goesIn_0 4 rfl rfl)
theorem dX5_goesIn_6 : decode cX5_goesIn 6 = .ok (.if_icmp .ne 8, 3) := dk_160 0 8 (dk_at dksX5_goesIn_0 6 rfl rfl)
theorem dX5_goesIn_9 : decode cX5_goesIn 9 = .ok (.aload_n 0, 1) := dk_42 (dk_at dksX5_goesIn_0 9 rfl rfl)
theorem dX5_goesIn_10 : decode cX5_goesIn 10 = .ok (.iconst 4, 1) := dk_7 (dk_at dksX5_goesIn_0 10 rfl rfl)
theorem dX5_goesIn_11 : decode cX5_goesIn 11 = .ok (.invokevirtual 93, 3) := dk_182 0 93 (dk_at dksX5_goesIn_0 11 rfl rfl)
theorem dX5_goesIn_14 : decode cX5_goesIn 14 = .ok (.aload_n 0, 1) := dk_42 (dk_at dksX5_goesIn_0 14 rfl rfl)
theorem dX5_goesIn_15 : decode cX5_goesIn 15 = .ok (.dup, 1) := dk_89 (dk_at dksX5_goesIn_0 15 rfl rfl)
theorem dX5_goesIn_16 : decode cX5_goesIn 16 = .ok (.getfield 204, 3) := dk_180 0 204 (dk_at dksX5_goesIn_0 16 rfl rfl)
theorem dX5_goesIn_19 : decode cX5_goesIn 19 = .ok (.iconst 1, 1) := dk_4 (dk_at dksX5_goesIn_0 19 rfl rfl)
theorem dX5_goesIn_20 : decode cX5_goesIn 20 = .ok (.iadd, 1) := dk_96 (dk_at dksX5_goesIn_0 20 rfl rfl)
theorem dX5_goesIn_21 : decode cX5_goesIn 21 = .ok (.putfield 204, 3) := dk_181 0 204 (dk_at dksX5_goesIn_0 21 rfl rfl)
theorem dX5_goesIn_24 : decode cX5_goesIn 24 = .ok (.aload_n 0, 1) := dk_42 (dk_at dksX5_goesIn_1 0 rfl rfl)
theorem dX5_goesIn_25 : decode cX5_goesIn 25 = .ok (.getfield 75, 3) := dk_180 0 75 (dk_at dksX5_goesIn_1 1 rfl rfl)
theorem dX5_goesIn_28 : decode cX5_goesIn 28 = .ok (.ifCond .ne 7, 3) := dk_154 0 7 (dk_at dksX5_goesIn_1 4 rfl rfl)
theorem dX5_goesIn_31 : decode cX5_goesIn 31 = .ok (.aload_n 0, 1) := dk_42 (dk_at dksX5_goesIn_1 7 rfl rfl)
theorem dX5_goesIn_32 : decode cX5_goesIn 32 = .ok (.invokevirtual 90, 3) := dk_182 0 90 (dk_at dksX5_goesIn_1 8 rfl rfl)
theorem dX5_goesIn_35 : decode cX5_goesIn 35 = .ok (.return_, 1) := dk_177 (dk_at dksX5_goesIn_1 11 rfl rfl)
abbrev cX5_build : ByteArray := prog_6_method_15_code
def yX5_build : MethodName := ⟨RX5, "build", "()V"⟩
def dkwX5_build_2 : List UInt8 := [180, 0, 18, 28, 181, 0, 163, 177]
abbrev dktX5_build_2 : List UInt8 := dkwX5_build_2 ++ []
def dkwX5_build_1 : List UInt8 := [17, 3, 231, 182, 0, 136, 61, 42, 180, 0, 75, 153, 0, 4, 177, 42, 180, 0, 18, 27, 181, 0, 160, 42]
abbrev dktX5_build_1 : List UInt8 := dkwX5_build_1 ++ dktX5_build_2
def dkwX5_build_0 : List UInt8 := [42, 18, 153, 182, 0, 154, 42, 3, 17, 3, 231, 182, 0, 136, 60, 42, 18, 158, 182, 0, 154, 42, 3]
abbrev dktX5_build_0 : List UInt8 := dkwX5_build_0 ++ dktX5_build_1
theorem dksX5_build_0 : cX5_build.data.toList.drop 0 = dktX5_build_0 := by decide +kernel
theorem dksX5_build_1 : cX5_build.data.toList.drop 23 = dktX5_build_1 := dk_seg dksX5_build_0 23 rfl rfl
theorem dksX5_build_2 : cX5_build.data.toList.drop 47 = dktX5_build_2 := dk_seg dksX5_build_1 24 rfl rfl
theorem dX5_build_0 : decode cX5_build 0 = .ok (.aload_n 0, 1) := dk_42 (dk_at dksX5_build_0 0 rfl rfl)
theorem dX5_build_1 : decode cX5_build 1 = .ok (.ldc 153, 2) := dk_18 153 (dk_at dksX5_build_0 1 rfl rfl)
theorem dX5_build_3 : decode cX5_build 3 = .ok (.invokevirtual 154, 3) := dk_182 0 154 (dk_at dksX5_build_0 3 rfl rfl)
theorem dX5_build_6 : decode cX5_build 6 = .ok (.aload_n 0, 1) := dk_42 (dk_at dksX5_build_0 6 rfl rfl)
theorem dX5_build_7 : decode cX5_build 7 = .ok (.iconst 0, 1) := dk_3 (dk_at dksX5_build_0 7 rfl rfl)
theorem dX5_build_8 : decode cX5_build 8 = .ok (.sipush 999, 3) := dk_17 3 231 (dk_at dksX5_build_0 8 rfl rfl)
theorem dX5_build_11 : decode cX5_build 11 = .ok (.invokevirtual 136, 3) := dk_182 0 136 (dk_at dksX5_build_0 11 rfl rfl)
theorem dX5_build_14 : decode cX5_build 14 = .ok (.istore_n 1, 1) := dk_60 (dk_at dksX5_build_0 14 rfl rfl)
theorem dX5_build_15 : decode cX5_build 15 = .ok (.aload_n 0, 1) := dk_42 (dk_at dksX5_build_0 15 rfl rfl)
theorem dX5_build_16 : decode cX5_build 16 = .ok (.ldc 158, 2) := dk_18 158 (dk_at dksX5_build_0 16 rfl rfl)
theorem dX5_build_18 : decode cX5_build 18 = .ok (.invokevirtual 154, 3) := dk_182 0 154 (dk_at dksX5_build_0 18 rfl rfl)
theorem dX5_build_21 : decode cX5_build 21 = .ok (.aload_n 0, 1) := dk_42 (dk_at dksX5_build_0 21 rfl rfl)
theorem dX5_build_22 : decode cX5_build 22 = .ok (.iconst 0, 1) := dk_3 (dk_at dksX5_build_0 22 rfl rfl)
theorem dX5_build_23 : decode cX5_build 23 = .ok (.sipush 999, 3) := dk_17 3 231 (dk_at dksX5_build_1 0 rfl rfl)
theorem dX5_build_26 : decode cX5_build 26 = .ok (.invokevirtual 136, 3) := dk_182 0 136 (dk_at dksX5_build_1 3 rfl rfl)
theorem dX5_build_29 : decode cX5_build 29 = .ok (.istore_n 2, 1) := dk_61 (dk_at dksX5_build_1 6 rfl rfl)
theorem dX5_build_30 : decode cX5_build 30 = .ok (.aload_n 0, 1) := dk_42 (dk_at dksX5_build_1 7 rfl rfl)
theorem dX5_build_31 : decode cX5_build 31 = .ok (.getfield 75, 3) := dk_180 0 75 (dk_at dksX5_build_1 8 rfl rfl)
theorem dX5_build_34 : decode cX5_build 34 = .ok (.ifCond .eq 4, 3) := dk_153 0 4 (dk_at dksX5_build_1 11 rfl rfl)
theorem dX5_build_37 : decode cX5_build 37 = .ok (.return_, 1) := dk_177 (dk_at dksX5_build_1 14 rfl rfl)
theorem dX5_build_38 : decode cX5_build 38 = .ok (.aload_n 0, 1) := dk_42 (dk_at dksX5_build_1 15 rfl rfl)
theorem dX5_build_39 : decode cX5_build 39 = .ok (.getfield 18, 3) := dk_180 0 18 (dk_at dksX5_build_1 16 rfl rfl)
theorem dX5_build_42 : decode cX5_build 42 = .ok (.iload_n 1, 1) := dk_27 (dk_at dksX5_build_1 19 rfl rfl)
theorem dX5_build_43 : decode cX5_build 43 = .ok (.putfield 160, 3) := dk_181 0 160 (dk_at dksX5_build_1 20 rfl rfl)
theorem dX5_build_46 : decode cX5_build 46 = .ok (.aload_n 0, 1) := dk_42 (dk_at dksX5_build_1 23 rfl rfl)
theorem dX5_build_47 : decode cX5_build 47 = .ok (.getfield 18, 3) := dk_180 0 18 (dk_at dksX5_build_2 0 rfl rfl)
theorem dX5_build_50 : decode cX5_build 50 = .ok (.iload_n 2, 1) := dk_28 (dk_at dksX5_build_2 3 rfl rfl)
theorem dX5_build_51 : decode cX5_build 51 = .ok (.putfield 163, 3) := dk_181 0 163 (dk_at dksX5_build_2 4 rfl rfl)
theorem dX5_build_54 : decode cX5_build 54 = .ok (.return_, 1) := dk_177 (dk_at dksX5_build_2 7 rfl rfl)
abbrev cX5_mustWord : ByteArray := prog_6_method_11_code
def yX5_mustWord : MethodName := ⟨RX5, "mustWord", "(Ljava/lang/String;)V"⟩
def dkwX5_mustWord_0 : List UInt8 := [42, 43, 182, 0, 97, 154, 0, 8, 42, 5, 182, 0, 93, 177]
abbrev dktX5_mustWord_0 : List UInt8 := dkwX5_mustWord_0 ++ []
theorem dksX5_mustWord_0 : cX5_mustWord.data.toList.drop 0 = dktX5_mustWord_0 := by decide +kernel
theorem dX5_mustWord_0 : decode cX5_mustWord 0 = .ok (.aload_n 0, 1) := dk_42 (dk_at dksX5_mustWord_0 0 rfl rfl)
theorem dX5_mustWord_1 : decode cX5_mustWord 1 = .ok (.aload_n 1, 1) := dk_43 (dk_at dksX5_mustWord_0 1 rfl rfl)
theorem dX5_mustWord_2 : decode cX5_mustWord 2 = .ok (.invokevirtual 97, 3) := dk_182 0 97 (dk_at dksX5_mustWord_0 2 rfl rfl)
theorem dX5_mustWord_5 : decode cX5_mustWord 5 = .ok (.ifCond .ne 8, 3) := dk_154 0 8 (dk_at dksX5_mustWord_0 5 rfl rfl)
theorem dX5_mustWord_8 : decode cX5_mustWord 8 = .ok (.aload_n 0, 1) := dk_42 (dk_at dksX5_mustWord_0 8 rfl rfl)
theorem dX5_mustWord_9 : decode cX5_mustWord 9 = .ok (.iconst 2, 1) := dk_5 (dk_at dksX5_mustWord_0 9 rfl rfl)
theorem dX5_mustWord_10 : decode cX5_mustWord 10 = .ok (.invokevirtual 93, 3) := dk_182 0 93 (dk_at dksX5_mustWord_0 10 rfl rfl)
theorem dX5_mustWord_13 : decode cX5_mustWord 13 = .ok (.return_, 1) := dk_177 (dk_at dksX5_mustWord_0 13 rfl rfl)
theorem q133 : (Jvm.Cond.initialized "SunkTower$Reader") ∈ lw_all := lw_g (lw_at lw_m1 7 rfl) rfl
theorem q168 : (Jvm.Cond.fieldLinkNest "SunkTower$Reader" (173 : Nat) "SunkTower$Tower" "weight" "[I" "SunkTower") ∈ lw_tbl := lw_at lw_m1 42 rfl
theorem q171 : (Jvm.Cond.fieldLinkNest "SunkTower$Reader" (180 : Nat) "SunkTower$Tower" "goods" "[I" "SunkTower") ∈ lw_tbl := lw_at lw_m1 45 rfl
theorem q175 : (Jvm.Cond.fieldLinkNest "SunkTower$Reader" (188 : Nat) "SunkTower$Tower" "wants" "[I" "SunkTower") ∈ lw_tbl := lw_at lw_m1 49 rfl
theorem q178 : (Jvm.Cond.fieldLinkNest "SunkTower$Reader" (192 : Nat) "SunkTower$Tower" "on" "[I" "SunkTower") ∈ lw_tbl := lw_at lw_m1 52 rfl
theorem q181 : (Jvm.Cond.fieldLinkNest "SunkTower$Reader" (166 : Nat) "SunkTower$Tower" "storeys" "I" "SunkTower") ∈ lw_tbl := lw_at lw_m1 55 rfl
theorem q184 : (Jvm.Cond.fieldLinkNest "SunkTower$Reader" (177 : Nat) "SunkTower$Tower" "tenants" "I" "SunkTower") ∈ lw_tbl := lw_at lw_m1 58 rfl
theorem q186 : (Jvm.Cond.fieldLinkNest "SunkTower$Reader" (140 : Nat) "SunkTower$Tower" "sunk" "I" "SunkTower") ∈ lw_tbl := lw_at lw_m1 60 rfl
theorem q188 : (Jvm.Cond.fieldLinkNest "SunkTower$Reader" (144 : Nat) "SunkTower$Tower" "month" "I" "SunkTower") ∈ lw_tbl := lw_at lw_m1 62 rfl
theorem q190 : (Jvm.Cond.fieldLinkNest "SunkTower$Reader" (160 : Nat) "SunkTower$Tower" "heavy" "I" "SunkTower") ∈ lw_tbl := lw_at lw_m1 64 rfl
theorem q193 : (Jvm.Cond.fieldLinkNest "SunkTower$Reader" (163 : Nat) "SunkTower$Tower" "dear" "I" "SunkTower") ∈ lw_tbl := lw_at lw_m1 67 rfl
theorem q196 : (Jvm.Cond.fieldLinkNest "SunkTower$Reader" (148 : Nat) "SunkTower$Tower" "move" "I" "SunkTower") ∈ lw_tbl := lw_at lw_m1 70 rfl
theorem q199 : (Jvm.Cond.fieldLinkNest "SunkTower$Reader" (106 : Nat) "SunkTower$Tower" "lines" "I" "SunkTower") ∈ lw_tbl := lw_at lw_m1 73 rfl
theorem q201 : (Jvm.Cond.fieldLinkNest "SunkTower$Reader" (119 : Nat) "SunkTower$Tower" "sinks" "LSunkTower$Sum;" "SunkTower") ∈ lw_tbl := lw_at lw_m1 75 rfl
theorem q203 : (Jvm.Cond.fieldLinkNest "SunkTower$Reader" (128 : Nat) "SunkTower$Tower" "pays" "LSunkTower$Sum;" "SunkTower") ∈ lw_tbl := lw_at lw_m1 77 rfl
theorem q205 : (Jvm.Cond.fieldLinkNest "SunkTower$Reader" (132 : Nat) "SunkTower$Tower" "worth" "LSunkTower$Sum;" "SunkTower") ∈ lw_tbl := lw_at lw_m1 79 rfl
theorem q307 : (Jvm.Cond.fieldLinkNest "SunkTower$Reader" (29 : Nat) "SunkTower" "tape" "[B" "SunkTower") ∈ lw_tbl := lw_at lw_m1 181 rfl
theorem q422 : (Jvm.Cond.instantiable "SunkTower$Reader" (11 : Nat)) ∈ lw_all := lw_g (lw_at lw_m2 56 rfl) rfl
theorem q424 : (Jvm.Cond.instanceMethod ({ cls := "SunkTower$Reader", name := "<init>", desc := "(LSunkTower;I)V" } : Jvm.MethodName)) ∈ lw_all := lw_g (lw_at lw_m2 58 rfl) rfl
theorem q425 : (Jvm.Cond.code ({ cls := "SunkTower$Reader", name := "<init>", desc := "(LSunkTower;I)V" } : Jvm.MethodName) prog_6_method_1_code (3 : Nat) (Option.none : Option Jvm.ClassFile.FieldType)) ∈ lw_all := lw_g (lw_at lw_m2 59 rfl) rfl
theorem q426 : (Jvm.Cond.methodLink "SunkTower$Reader" (9 : Nat) ({ cls := "java/lang/Object", name := "<init>", desc := "()V" } : Jvm.MethodName)) ∈ lw_all := lw_g (lw_at lw_m2 60 rfl) rfl
theorem q427 : (Jvm.Cond.classLink "SunkTower$Reader" (15 : Nat) "SunkTower$Tower") ∈ lw_all := lw_g (lw_at lw_m2 61 rfl) rfl
theorem q428 : (Jvm.Cond.methodLink "SunkTower$Reader" (17 : Nat) ({ cls := "SunkTower$Tower", name := "<init>", desc := "()V" } : Jvm.MethodName)) ∈ lw_all := lw_g (lw_at lw_m2 62 rfl) rfl
theorem q429 : (Jvm.Cond.fieldLink "SunkTower$Reader" (26 : Nat) "SunkTower$Reader" "size" "I") ∈ lw_all := lw_g (lw_at lw_m2 63 rfl) rfl
theorem q430 : (Jvm.Cond.fieldLink "SunkTower$Reader" (18 : Nat) "SunkTower$Reader" "made" "LSunkTower$Tower;") ∈ lw_all := lw_g (lw_at lw_m2 64 rfl) rfl
theorem q432 : (Jvm.Cond.fieldLink "SunkTower$Reader" (49 : Nat) "SunkTower$Reader" "at" "I") ∈ lw_all := lw_g (lw_at lw_m2 66 rfl) rfl
theorem q433 : (Jvm.Cond.fieldLink "SunkTower$Reader" (52 : Nat) "SunkTower$Reader" "begin" "I") ∈ lw_all := lw_g (lw_at lw_m2 67 rfl) rfl
theorem q434 : (Jvm.Cond.fieldLink "SunkTower$Reader" (55 : Nat) "SunkTower$Reader" "token" "I") ∈ lw_all := lw_g (lw_at lw_m2 68 rfl) rfl
theorem q435 : (Jvm.Cond.fieldLink "SunkTower$Reader" (65 : Nat) "SunkTower$Reader" "value" "I") ∈ lw_all := lw_g (lw_at lw_m2 69 rfl) rfl
theorem q436 : (Jvm.Cond.fieldLink "SunkTower$Reader" (75 : Nat) "SunkTower$Reader" "fault" "I") ∈ lw_all := lw_g (lw_at lw_m2 70 rfl) rfl
theorem q438 : (Jvm.Cond.fieldLink "SunkTower$Reader" (204 : Nat) "SunkTower$Reader" "deep" "I") ∈ lw_all := lw_g (lw_at lw_m2 72 rfl) rfl
theorem q439 : (Jvm.Cond.fieldLink "SunkTower$Reader" (22 : Nat) "SunkTower$Reader" "place" "I") ∈ lw_all := lw_g (lw_at lw_m2 73 rfl) rfl
theorem q441 : (Jvm.Cond.fieldLink "SunkTower$Reader" (197 : Nat) "SunkTower$Reader" "ofWhat" "I") ∈ lw_all := lw_g (lw_at lw_m2 75 rfl) rfl
theorem q442 : (Jvm.Cond.fieldLink "SunkTower$Reader" (3 : Nat) "SunkTower$Reader" "this$0" "LSunkTower;") ∈ lw_all := lw_g (lw_at lw_m2 76 rfl) rfl
theorem q443 : (Jvm.Cond.laysFinal "SunkTower$Reader" "SunkTower$Reader" "size" "I") ∈ lw_all := lw_g (lw_at lw_m2 77 rfl) rfl
theorem q444 : (Jvm.Cond.soleField "SunkTower$Reader" "size") ∈ lw_all := lw_g (lw_at lw_m2 78 rfl) rfl
theorem q445 : (Jvm.Cond.laysFinal "SunkTower$Reader" "SunkTower$Reader" "made" "LSunkTower$Tower;") ∈ lw_all := lw_g (lw_at lw_m2 79 rfl) rfl
theorem q446 : (Jvm.Cond.soleField "SunkTower$Reader" "made") ∈ lw_all := lw_g (lw_at lw_m2 80 rfl) rfl
theorem q447 : (Jvm.Cond.lays "SunkTower$Reader" "SunkTower$Reader" "at" "I") ∈ lw_all := lw_g (lw_at lw_m2 81 rfl) rfl
theorem q448 : (Jvm.Cond.soleField "SunkTower$Reader" "at") ∈ lw_all := lw_g (lw_at lw_m2 82 rfl) rfl
theorem q449 : (Jvm.Cond.lays "SunkTower$Reader" "SunkTower$Reader" "begin" "I") ∈ lw_all := lw_g (lw_at lw_m2 83 rfl) rfl
theorem q450 : (Jvm.Cond.soleField "SunkTower$Reader" "begin") ∈ lw_all := lw_g (lw_at lw_m2 84 rfl) rfl
theorem q451 : (Jvm.Cond.lays "SunkTower$Reader" "SunkTower$Reader" "token" "I") ∈ lw_all := lw_g (lw_at lw_m2 85 rfl) rfl
theorem q452 : (Jvm.Cond.soleField "SunkTower$Reader" "token") ∈ lw_all := lw_g (lw_at lw_m2 86 rfl) rfl
theorem q453 : (Jvm.Cond.lays "SunkTower$Reader" "SunkTower$Reader" "value" "I") ∈ lw_all := lw_g (lw_at lw_m2 87 rfl) rfl
theorem q454 : (Jvm.Cond.soleField "SunkTower$Reader" "value") ∈ lw_all := lw_g (lw_at lw_m2 88 rfl) rfl
theorem q455 : (Jvm.Cond.lays "SunkTower$Reader" "SunkTower$Reader" "fault" "I") ∈ lw_all := lw_g (lw_at lw_m2 89 rfl) rfl
theorem q456 : (Jvm.Cond.soleField "SunkTower$Reader" "fault") ∈ lw_all := lw_g (lw_at lw_m2 90 rfl) rfl
theorem q457 : (Jvm.Cond.lays "SunkTower$Reader" "SunkTower$Reader" "deep" "I") ∈ lw_all := lw_g (lw_at lw_m2 91 rfl) rfl
theorem q458 : (Jvm.Cond.soleField "SunkTower$Reader" "deep") ∈ lw_all := lw_g (lw_at lw_m2 92 rfl) rfl
theorem q459 : (Jvm.Cond.lays "SunkTower$Reader" "SunkTower$Reader" "place" "I") ∈ lw_all := lw_g (lw_at lw_m2 93 rfl) rfl
theorem q460 : (Jvm.Cond.soleField "SunkTower$Reader" "place") ∈ lw_all := lw_g (lw_at lw_m2 94 rfl) rfl
theorem q461 : (Jvm.Cond.lays "SunkTower$Reader" "SunkTower$Reader" "ofWhat" "I") ∈ lw_all := lw_g (lw_at lw_m2 95 rfl) rfl
theorem q462 : (Jvm.Cond.soleField "SunkTower$Reader" "ofWhat") ∈ lw_all := lw_g (lw_at lw_m2 96 rfl) rfl
theorem q463 : (Jvm.Cond.laysFinal "SunkTower$Reader" "SunkTower$Reader" "this$0" "LSunkTower;") ∈ lw_all := lw_g (lw_at lw_m2 97 rfl) rfl
theorem q464 : (Jvm.Cond.soleField "SunkTower$Reader" "this$0") ∈ lw_all := lw_g (lw_at lw_m2 98 rfl) rfl
theorem q465 : (Jvm.Cond.superclass "SunkTower$Reader" "java/lang/Object") ∈ lw_all := lw_g (lw_at lw_m2 99 rfl) rfl
theorem q467 : (Jvm.Cond.instanceMethod ({ cls := "SunkTower$Reader", name := "read", desc := "()V" } : Jvm.MethodName)) ∈ lw_all := lw_g (lw_at lw_m2 101 rfl) rfl
theorem q468 : (Jvm.Cond.selects "SunkTower$Reader" ({ cls := "SunkTower$Reader", name := "read", desc := "()V" } : Jvm.MethodName) ({ cls := "SunkTower$Reader", name := "read", desc := "()V" } : Jvm.MethodName)) ∈ lw_all := lw_g (lw_at lw_m2 102 rfl) rfl
theorem q469 : (Jvm.Cond.code ({ cls := "SunkTower$Reader", name := "read", desc := "()V" } : Jvm.MethodName) prog_6_method_13_code (1 : Nat) (Option.none : Option Jvm.ClassFile.FieldType)) ∈ lw_all := lw_g (lw_at lw_m2 103 rfl) rfl
theorem q470 : (Jvm.Cond.methodLink "SunkTower$Reader" (90 : Nat) ({ cls := "SunkTower$Reader", name := "next", desc := "()V" } : Jvm.MethodName)) ∈ lw_all := lw_g (lw_at lw_m2 104 rfl) rfl
theorem q471 : (Jvm.Cond.privateMethod ({ cls := "SunkTower$Reader", name := "next", desc := "()V" } : Jvm.MethodName)) ∈ lw_tbl := lw_at lw_m2 105 rfl
theorem q472 : (Jvm.Cond.instanceMethod ({ cls := "SunkTower$Reader", name := "next", desc := "()V" } : Jvm.MethodName)) ∈ lw_all := lw_g (lw_at lw_m2 106 rfl) rfl
theorem q473 : (Jvm.Cond.code ({ cls := "SunkTower$Reader", name := "next", desc := "()V" } : Jvm.MethodName) prog_6_method_5_code (1 : Nat) (Option.none : Option Jvm.ClassFile.FieldType)) ∈ lw_all := lw_g (lw_at lw_m2 107 rfl) rfl
theorem q474 : (Jvm.Cond.methodLink "SunkTower$Reader" (33 : Nat) ({ cls := "SunkTower$Reader", name := "see", desc := "(I)I" } : Jvm.MethodName)) ∈ lw_all := lw_g (lw_at lw_m2 108 rfl) rfl
theorem q475 : (Jvm.Cond.privateMethod ({ cls := "SunkTower$Reader", name := "see", desc := "(I)I" } : Jvm.MethodName)) ∈ lw_tbl := lw_at lw_m2 109 rfl
theorem q476 : (Jvm.Cond.instanceMethod ({ cls := "SunkTower$Reader", name := "see", desc := "(I)I" } : Jvm.MethodName)) ∈ lw_all := lw_g (lw_at lw_m2 110 rfl) rfl
theorem q477 : (Jvm.Cond.code ({ cls := "SunkTower$Reader", name := "see", desc := "(I)I" } : Jvm.MethodName) prog_6_method_2_code (2 : Nat) (Option.some Jvm.ClassFile.FieldType.int)) ∈ lw_all := lw_g (lw_at lw_m2 111 rfl) rfl
theorem q478 : (Jvm.Cond.methodLink "SunkTower$Reader" (58 : Nat) ({ cls := "SunkTower$Reader", name := "isSmall", desc := "(I)Z" } : Jvm.MethodName)) ∈ lw_all := lw_g (lw_at lw_m2 112 rfl) rfl
theorem q479 : (Jvm.Cond.privateMethod ({ cls := "SunkTower$Reader", name := "isSmall", desc := "(I)Z" } : Jvm.MethodName)) ∈ lw_tbl := lw_at lw_m2 113 rfl
theorem q480 : (Jvm.Cond.instanceMethod ({ cls := "SunkTower$Reader", name := "isSmall", desc := "(I)Z" } : Jvm.MethodName)) ∈ lw_all := lw_g (lw_at lw_m2 114 rfl) rfl
theorem q481 : (Jvm.Cond.code ({ cls := "SunkTower$Reader", name := "isSmall", desc := "(I)Z" } : Jvm.MethodName) prog_6_method_3_code (2 : Nat) (Option.some Jvm.ClassFile.FieldType.boolean)) ∈ lw_all := lw_g (lw_at lw_m2 115 rfl) rfl
theorem q482 : (Jvm.Cond.constantLong "SunkTower$Reader" (37 : Nat) (97 : Int64)) ∈ lw_all := lw_g (lw_at lw_m2 116 rfl) rfl
theorem q483 : (Jvm.Cond.constantLong "SunkTower$Reader" (39 : Nat) (122 : Int64)) ∈ lw_all := lw_g (lw_at lw_m2 117 rfl) rfl
theorem q484 : (Jvm.Cond.methodLinkNest "SunkTower$Reader" (41 : Nat) ({ cls := "SunkTower", name := "in", desc := "(JJJ)Z" } : Jvm.MethodName) "SunkTower") ∈ lw_tbl := lw_at lw_m2 118 rfl
theorem q485 : (Jvm.Cond.methodLink "SunkTower$Reader" (62 : Nat) ({ cls := "SunkTower$Reader", name := "isDigit", desc := "(I)Z" } : Jvm.MethodName)) ∈ lw_all := lw_g (lw_at lw_m2 119 rfl) rfl
theorem q486 : (Jvm.Cond.privateMethod ({ cls := "SunkTower$Reader", name := "isDigit", desc := "(I)Z" } : Jvm.MethodName)) ∈ lw_tbl := lw_at lw_m2 120 rfl
theorem q487 : (Jvm.Cond.instanceMethod ({ cls := "SunkTower$Reader", name := "isDigit", desc := "(I)Z" } : Jvm.MethodName)) ∈ lw_all := lw_g (lw_at lw_m2 121 rfl) rfl
theorem q488 : (Jvm.Cond.code ({ cls := "SunkTower$Reader", name := "isDigit", desc := "(I)Z" } : Jvm.MethodName) prog_6_method_4_code (2 : Nat) (Option.some Jvm.ClassFile.FieldType.boolean)) ∈ lw_all := lw_g (lw_at lw_m2 122 rfl) rfl
theorem q489 : (Jvm.Cond.constantLong "SunkTower$Reader" (45 : Nat) (48 : Int64)) ∈ lw_all := lw_g (lw_at lw_m2 123 rfl) rfl
theorem q490 : (Jvm.Cond.constantLong "SunkTower$Reader" (47 : Nat) (57 : Int64)) ∈ lw_all := lw_g (lw_at lw_m2 124 rfl) rfl
theorem q491 : (Jvm.Cond.stringRef "SunkTower$Reader" (68 : Nat) ";:+-*()") ∈ lw_tbl := lw_at lw_m2 125 rfl
theorem q492 : (Jvm.Cond.methodLink "SunkTower$Reader" (70 : Nat) ({ cls := "java/lang/String", name := "indexOf", desc := "(I)I" } : Jvm.MethodName)) ∈ lw_all := lw_g (lw_at lw_m2 126 rfl) rfl
theorem q578 : (Jvm.Cond.methodLink "SunkTower$Reader" (100 : Nat) ({ cls := "SunkTower$Reader", name := "line", desc := "()V" } : Jvm.MethodName)) ∈ lw_all := lw_g (lw_at lw_m2 212 rfl) rfl
theorem q579 : (Jvm.Cond.privateMethod ({ cls := "SunkTower$Reader", name := "line", desc := "()V" } : Jvm.MethodName)) ∈ lw_tbl := lw_at lw_m2 213 rfl
theorem q580 : (Jvm.Cond.instanceMethod ({ cls := "SunkTower$Reader", name := "line", desc := "()V" } : Jvm.MethodName)) ∈ lw_all := lw_g (lw_at lw_m2 214 rfl) rfl
theorem q581 : (Jvm.Cond.code ({ cls := "SunkTower$Reader", name := "line", desc := "()V" } : Jvm.MethodName) prog_6_method_14_code (1 : Nat) (Option.none : Option Jvm.ClassFile.FieldType)) ∈ lw_all := lw_g (lw_at lw_m2 215 rfl) rfl
theorem q582 : (Jvm.Cond.stringRef "SunkTower$Reader" (109 : Nat) "storey") ∈ lw_tbl := lw_at lw_m2 216 rfl
theorem q583 : (Jvm.Cond.methodLink "SunkTower$Reader" (86 : Nat) ({ cls := "SunkTower$Reader", name := "is", desc := "(Ljava/lang/String;)Z" } : Jvm.MethodName)) ∈ lw_all := lw_g (lw_at lw_m2 217 rfl) rfl
theorem q584 : (Jvm.Cond.privateMethod ({ cls := "SunkTower$Reader", name := "is", desc := "(Ljava/lang/String;)Z" } : Jvm.MethodName)) ∈ lw_tbl := lw_at lw_m2 218 rfl
theorem q585 : (Jvm.Cond.instanceMethod ({ cls := "SunkTower$Reader", name := "is", desc := "(Ljava/lang/String;)Z" } : Jvm.MethodName)) ∈ lw_all := lw_g (lw_at lw_m2 219 rfl) rfl
theorem q586 : (Jvm.Cond.code ({ cls := "SunkTower$Reader", name := "is", desc := "(Ljava/lang/String;)Z" } : Jvm.MethodName) prog_6_method_7_code (3 : Nat) (Option.some Jvm.ClassFile.FieldType.boolean)) ∈ lw_all := lw_g (lw_at lw_m2 220 rfl) rfl
theorem q587 : (Jvm.Cond.methodLink "SunkTower$Reader" (78 : Nat) ({ cls := "java/lang/String", name := "length", desc := "()I" } : Jvm.MethodName)) ∈ lw_all := lw_g (lw_at lw_m2 221 rfl) rfl
theorem q588 : (Jvm.Cond.methodLink "SunkTower$Reader" (82 : Nat) ({ cls := "java/lang/String", name := "charAt", desc := "(I)C" } : Jvm.MethodName)) ∈ lw_all := lw_g (lw_at lw_m2 222 rfl) rfl
theorem q608 : (Jvm.Cond.methodLink "SunkTower$Reader" (111 : Nat) ({ cls := "SunkTower$Reader", name := "storey", desc := "()V" } : Jvm.MethodName)) ∈ lw_all := lw_g (lw_at lw_m3 2 rfl) rfl
theorem q609 : (Jvm.Cond.privateMethod ({ cls := "SunkTower$Reader", name := "storey", desc := "()V" } : Jvm.MethodName)) ∈ lw_tbl := lw_at lw_m3 3 rfl
theorem q610 : (Jvm.Cond.instanceMethod ({ cls := "SunkTower$Reader", name := "storey", desc := "()V" } : Jvm.MethodName)) ∈ lw_all := lw_g (lw_at lw_m3 4 rfl) rfl
theorem q611 : (Jvm.Cond.code ({ cls := "SunkTower$Reader", name := "storey", desc := "()V" } : Jvm.MethodName) prog_6_method_17_code (2 : Nat) (Option.none : Option Jvm.ClassFile.FieldType)) ∈ lw_all := lw_g (lw_at lw_m3 5 rfl) rfl
theorem q612 : (Jvm.Cond.methodLink "SunkTower$Reader" (169 : Nat) ({ cls := "SunkTower$Reader", name := "begins", desc := "(II)Z" } : Jvm.MethodName)) ∈ lw_all := lw_g (lw_at lw_m3 6 rfl) rfl
theorem q613 : (Jvm.Cond.privateMethod ({ cls := "SunkTower$Reader", name := "begins", desc := "(II)Z" } : Jvm.MethodName)) ∈ lw_tbl := lw_at lw_m3 7 rfl
theorem q614 : (Jvm.Cond.instanceMethod ({ cls := "SunkTower$Reader", name := "begins", desc := "(II)Z" } : Jvm.MethodName)) ∈ lw_all := lw_g (lw_at lw_m3 8 rfl) rfl
theorem q615 : (Jvm.Cond.code ({ cls := "SunkTower$Reader", name := "begins", desc := "(II)Z" } : Jvm.MethodName) prog_6_method_16_code (3 : Nat) (Option.some Jvm.ClassFile.FieldType.boolean)) ∈ lw_all := lw_g (lw_at lw_m3 9 rfl) rfl
theorem q616 : (Jvm.Cond.methodLink "SunkTower$Reader" (93 : Nat) ({ cls := "SunkTower$Reader", name := "wrong", desc := "(I)V" } : Jvm.MethodName)) ∈ lw_all := lw_g (lw_at lw_m3 10 rfl) rfl
theorem q617 : (Jvm.Cond.privateMethod ({ cls := "SunkTower$Reader", name := "wrong", desc := "(I)V" } : Jvm.MethodName)) ∈ lw_tbl := lw_at lw_m3 11 rfl
theorem q618 : (Jvm.Cond.instanceMethod ({ cls := "SunkTower$Reader", name := "wrong", desc := "(I)V" } : Jvm.MethodName)) ∈ lw_all := lw_g (lw_at lw_m3 12 rfl) rfl
theorem q619 : (Jvm.Cond.code ({ cls := "SunkTower$Reader", name := "wrong", desc := "(I)V" } : Jvm.MethodName) prog_6_method_6_code (2 : Nat) (Option.none : Option Jvm.ClassFile.FieldType)) ∈ lw_all := lw_g (lw_at lw_m3 13 rfl) rfl
theorem q620 : (Jvm.Cond.methodLink "SunkTower$Reader" (136 : Nat) ({ cls := "SunkTower$Reader", name := "number", desc := "(II)I" } : Jvm.MethodName)) ∈ lw_all := lw_g (lw_at lw_m3 14 rfl) rfl
theorem q621 : (Jvm.Cond.privateMethod ({ cls := "SunkTower$Reader", name := "number", desc := "(II)I" } : Jvm.MethodName)) ∈ lw_tbl := lw_at lw_m3 15 rfl
theorem q622 : (Jvm.Cond.instanceMethod ({ cls := "SunkTower$Reader", name := "number", desc := "(II)I" } : Jvm.MethodName)) ∈ lw_all := lw_g (lw_at lw_m3 16 rfl) rfl
theorem q623 : (Jvm.Cond.code ({ cls := "SunkTower$Reader", name := "number", desc := "(II)I" } : Jvm.MethodName) prog_6_method_12_code (4 : Nat) (Option.some Jvm.ClassFile.FieldType.int)) ∈ lw_all := lw_g (lw_at lw_m3 17 rfl) rfl
theorem q624 : (Jvm.Cond.stringRef "SunkTower$Reader" (113 : Nat) "tenant") ∈ lw_tbl := lw_at lw_m3 18 rfl
theorem q625 : (Jvm.Cond.methodLink "SunkTower$Reader" (115 : Nat) ({ cls := "SunkTower$Reader", name := "tenant", desc := "()V" } : Jvm.MethodName)) ∈ lw_all := lw_g (lw_at lw_m3 19 rfl) rfl
theorem q626 : (Jvm.Cond.privateMethod ({ cls := "SunkTower$Reader", name := "tenant", desc := "()V" } : Jvm.MethodName)) ∈ lw_tbl := lw_at lw_m3 20 rfl
theorem q627 : (Jvm.Cond.instanceMethod ({ cls := "SunkTower$Reader", name := "tenant", desc := "()V" } : Jvm.MethodName)) ∈ lw_all := lw_g (lw_at lw_m3 21 rfl) rfl
theorem q628 : (Jvm.Cond.code ({ cls := "SunkTower$Reader", name := "tenant", desc := "()V" } : Jvm.MethodName) prog_6_method_18_code (2 : Nat) (Option.none : Option Jvm.ClassFile.FieldType)) ∈ lw_all := lw_g (lw_at lw_m3 22 rfl) rfl
theorem q629 : (Jvm.Cond.methodLink "SunkTower$Reader" (183 : Nat) ({ cls := "SunkTower$Reader", name := "flag", desc := "(I)Z" } : Jvm.MethodName)) ∈ lw_all := lw_g (lw_at lw_m3 23 rfl) rfl
theorem q630 : (Jvm.Cond.privateMethod ({ cls := "SunkTower$Reader", name := "flag", desc := "(I)Z" } : Jvm.MethodName)) ∈ lw_tbl := lw_at lw_m3 24 rfl
theorem q631 : (Jvm.Cond.instanceMethod ({ cls := "SunkTower$Reader", name := "flag", desc := "(I)Z" } : Jvm.MethodName)) ∈ lw_all := lw_g (lw_at lw_m3 25 rfl) rfl
theorem q632 : (Jvm.Cond.code ({ cls := "SunkTower$Reader", name := "flag", desc := "(I)Z" } : Jvm.MethodName) prog_6_method_19_code (2 : Nat) (Option.some Jvm.ClassFile.FieldType.boolean)) ∈ lw_all := lw_g (lw_at lw_m3 26 rfl) rfl
theorem q633 : (Jvm.Cond.stringRef "SunkTower$Reader" (186 : Nat) "wants") ∈ lw_tbl := lw_at lw_m3 27 rfl
theorem q634 : (Jvm.Cond.methodLink "SunkTower$Reader" (97 : Nat) ({ cls := "SunkTower$Reader", name := "takes", desc := "(Ljava/lang/String;)Z" } : Jvm.MethodName)) ∈ lw_all := lw_g (lw_at lw_m3 28 rfl) rfl
theorem q635 : (Jvm.Cond.privateMethod ({ cls := "SunkTower$Reader", name := "takes", desc := "(Ljava/lang/String;)Z" } : Jvm.MethodName)) ∈ lw_tbl := lw_at lw_m3 29 rfl
theorem q636 : (Jvm.Cond.instanceMethod ({ cls := "SunkTower$Reader", name := "takes", desc := "(Ljava/lang/String;)Z" } : Jvm.MethodName)) ∈ lw_all := lw_g (lw_at lw_m3 30 rfl) rfl
theorem q637 : (Jvm.Cond.code ({ cls := "SunkTower$Reader", name := "takes", desc := "(Ljava/lang/String;)Z" } : Jvm.MethodName) prog_6_method_8_code (2 : Nat) (Option.some Jvm.ClassFile.FieldType.boolean)) ∈ lw_all := lw_g (lw_at lw_m3 31 rfl) rfl
theorem q638 : (Jvm.Cond.stringRef "SunkTower$Reader" (190 : Nat) "on") ∈ lw_tbl := lw_at lw_m3 32 rfl
theorem q639 : (Jvm.Cond.methodLink "SunkTower$Reader" (194 : Nat) ({ cls := "SunkTower$Reader", name := "emptyStorey", desc := "(I)I" } : Jvm.MethodName)) ∈ lw_all := lw_g (lw_at lw_m3 33 rfl) rfl
theorem q640 : (Jvm.Cond.privateMethod ({ cls := "SunkTower$Reader", name := "emptyStorey", desc := "(I)I" } : Jvm.MethodName)) ∈ lw_tbl := lw_at lw_m3 34 rfl
theorem q641 : (Jvm.Cond.instanceMethod ({ cls := "SunkTower$Reader", name := "emptyStorey", desc := "(I)I" } : Jvm.MethodName)) ∈ lw_all := lw_g (lw_at lw_m3 35 rfl) rfl
theorem q642 : (Jvm.Cond.code ({ cls := "SunkTower$Reader", name := "emptyStorey", desc := "(I)I" } : Jvm.MethodName) prog_6_method_20_code (3 : Nat) (Option.some Jvm.ClassFile.FieldType.int)) ∈ lw_all := lw_g (lw_at lw_m3 36 rfl) rfl
theorem q643 : (Jvm.Cond.stringRef "SunkTower$Reader" (117 : Nat) "sinks") ∈ lw_tbl := lw_at lw_m3 37 rfl
theorem q644 : (Jvm.Cond.methodLink "SunkTower$Reader" (122 : Nat) ({ cls := "SunkTower$Reader", name := "law", desc := "(ILSunkTower$Sum;)LSunkTower$Sum;" } : Jvm.MethodName)) ∈ lw_all := lw_g (lw_at lw_m3 38 rfl) rfl
theorem q645 : (Jvm.Cond.privateMethod ({ cls := "SunkTower$Reader", name := "law", desc := "(ILSunkTower$Sum;)LSunkTower$Sum;" } : Jvm.MethodName)) ∈ lw_tbl := lw_at lw_m3 39 rfl
theorem q646 : (Jvm.Cond.instanceMethod ({ cls := "SunkTower$Reader", name := "law", desc := "(ILSunkTower$Sum;)LSunkTower$Sum;" } : Jvm.MethodName)) ∈ lw_all := lw_g (lw_at lw_m3 40 rfl) rfl
theorem q647 : (Jvm.Cond.code ({ cls := "SunkTower$Reader", name := "law", desc := "(ILSunkTower$Sum;)LSunkTower$Sum;" } : Jvm.MethodName) prog_6_method_21_code (4 : Nat) (Option.some (Jvm.ClassFile.FieldType.object "SunkTower$Sum"))) ∈ lw_all := lw_g (lw_at lw_m3 41 rfl) rfl
theorem q648 : (Jvm.Cond.methodLink "SunkTower$Reader" (103 : Nat) ({ cls := "SunkTower$Reader", name := "must", desc := "(I)V" } : Jvm.MethodName)) ∈ lw_all := lw_g (lw_at lw_m3 42 rfl) rfl
theorem q649 : (Jvm.Cond.privateMethod ({ cls := "SunkTower$Reader", name := "must", desc := "(I)V" } : Jvm.MethodName)) ∈ lw_tbl := lw_at lw_m3 43 rfl
theorem q650 : (Jvm.Cond.instanceMethod ({ cls := "SunkTower$Reader", name := "must", desc := "(I)V" } : Jvm.MethodName)) ∈ lw_all := lw_g (lw_at lw_m3 44 rfl) rfl
theorem q651 : (Jvm.Cond.code ({ cls := "SunkTower$Reader", name := "must", desc := "(I)V" } : Jvm.MethodName) prog_6_method_10_code (2 : Nat) (Option.none : Option Jvm.ClassFile.FieldType)) ∈ lw_all := lw_g (lw_at lw_m3 45 rfl) rfl
theorem q652 : (Jvm.Cond.methodLink "SunkTower$Reader" (200 : Nat) ({ cls := "SunkTower$Reader", name := "sum", desc := "()LSunkTower$Sum;" } : Jvm.MethodName)) ∈ lw_all := lw_g (lw_at lw_m3 46 rfl) rfl
theorem q653 : (Jvm.Cond.privateMethod ({ cls := "SunkTower$Reader", name := "sum", desc := "()LSunkTower$Sum;" } : Jvm.MethodName)) ∈ lw_tbl := lw_at lw_m3 47 rfl
theorem q654 : (Jvm.Cond.instanceMethod ({ cls := "SunkTower$Reader", name := "sum", desc := "()LSunkTower$Sum;" } : Jvm.MethodName)) ∈ lw_all := lw_g (lw_at lw_m3 48 rfl) rfl
theorem q655 : (Jvm.Cond.code ({ cls := "SunkTower$Reader", name := "sum", desc := "()LSunkTower$Sum;" } : Jvm.MethodName) prog_6_method_23_code (3 : Nat) (Option.some (Jvm.ClassFile.FieldType.object "SunkTower$Sum"))) ∈ lw_all := lw_g (lw_at lw_m3 49 rfl) rfl
theorem q656 : (Jvm.Cond.methodLink "SunkTower$Reader" (207 : Nat) ({ cls := "SunkTower$Reader", name := "term", desc := "()LSunkTower$Sum;" } : Jvm.MethodName)) ∈ lw_all := lw_g (lw_at lw_m3 50 rfl) rfl
theorem q657 : (Jvm.Cond.privateMethod ({ cls := "SunkTower$Reader", name := "term", desc := "()LSunkTower$Sum;" } : Jvm.MethodName)) ∈ lw_tbl := lw_at lw_m3 51 rfl
theorem q658 : (Jvm.Cond.instanceMethod ({ cls := "SunkTower$Reader", name := "term", desc := "()LSunkTower$Sum;" } : Jvm.MethodName)) ∈ lw_all := lw_g (lw_at lw_m3 52 rfl) rfl
theorem q659 : (Jvm.Cond.code ({ cls := "SunkTower$Reader", name := "term", desc := "()LSunkTower$Sum;" } : Jvm.MethodName) prog_6_method_24_code (2 : Nat) (Option.some (Jvm.ClassFile.FieldType.object "SunkTower$Sum"))) ∈ lw_all := lw_g (lw_at lw_m3 53 rfl) rfl
theorem q660 : (Jvm.Cond.methodLink "SunkTower$Reader" (218 : Nat) ({ cls := "SunkTower$Reader", name := "atom", desc := "()LSunkTower$Sum;" } : Jvm.MethodName)) ∈ lw_all := lw_g (lw_at lw_m3 54 rfl) rfl
theorem q661 : (Jvm.Cond.privateMethod ({ cls := "SunkTower$Reader", name := "atom", desc := "()LSunkTower$Sum;" } : Jvm.MethodName)) ∈ lw_tbl := lw_at lw_m3 55 rfl
theorem q662 : (Jvm.Cond.instanceMethod ({ cls := "SunkTower$Reader", name := "atom", desc := "()LSunkTower$Sum;" } : Jvm.MethodName)) ∈ lw_all := lw_g (lw_at lw_m3 56 rfl) rfl
theorem q663 : (Jvm.Cond.code ({ cls := "SunkTower$Reader", name := "atom", desc := "()LSunkTower$Sum;" } : Jvm.MethodName) prog_6_method_27_code (3 : Nat) (Option.some (Jvm.ClassFile.FieldType.object "SunkTower$Sum"))) ∈ lw_all := lw_g (lw_at lw_m3 57 rfl) rfl
theorem q664 : (Jvm.Cond.methodLink "SunkTower$Reader" (230 : Nat) ({ cls := "SunkTower$Reader", name := "sinkWord", desc := "()I" } : Jvm.MethodName)) ∈ lw_all := lw_g (lw_at lw_m3 58 rfl) rfl
theorem q665 : (Jvm.Cond.privateMethod ({ cls := "SunkTower$Reader", name := "sinkWord", desc := "()I" } : Jvm.MethodName)) ∈ lw_tbl := lw_at lw_m3 59 rfl
theorem q666 : (Jvm.Cond.instanceMethod ({ cls := "SunkTower$Reader", name := "sinkWord", desc := "()I" } : Jvm.MethodName)) ∈ lw_all := lw_g (lw_at lw_m3 60 rfl) rfl
theorem q667 : (Jvm.Cond.code ({ cls := "SunkTower$Reader", name := "sinkWord", desc := "()I" } : Jvm.MethodName) prog_6_method_25_code (1 : Nat) (Option.some Jvm.ClassFile.FieldType.int)) ∈ lw_all := lw_g (lw_at lw_m3 61 rfl) rfl
theorem q668 : (Jvm.Cond.stringRef "SunkTower$Reader" (221 : Nat) "weight") ∈ lw_tbl := lw_at lw_m3 62 rfl
theorem q669 : (Jvm.Cond.stringRef "SunkTower$Reader" (222 : Nat) "storeys") ∈ lw_tbl := lw_at lw_m3 63 rfl
theorem q670 : (Jvm.Cond.stringRef "SunkTower$Reader" (134 : Nat) "sunk") ∈ lw_tbl := lw_at lw_m3 64 rfl
theorem q671 : (Jvm.Cond.stringRef "SunkTower$Reader" (142 : Nat) "month") ∈ lw_tbl := lw_at lw_m3 65 rfl
theorem q672 : (Jvm.Cond.stringRef "SunkTower$Reader" (223 : Nat) "buried") ∈ lw_tbl := lw_at lw_m3 66 rfl
theorem q673 : (Jvm.Cond.methodLink "SunkTower$Reader" (233 : Nat) ({ cls := "SunkTower$Reader", name := "storeyWord", desc := "()I" } : Jvm.MethodName)) ∈ lw_all := lw_g (lw_at lw_m3 67 rfl) rfl
theorem q674 : (Jvm.Cond.privateMethod ({ cls := "SunkTower$Reader", name := "storeyWord", desc := "()I" } : Jvm.MethodName)) ∈ lw_tbl := lw_at lw_m3 68 rfl
theorem q675 : (Jvm.Cond.instanceMethod ({ cls := "SunkTower$Reader", name := "storeyWord", desc := "()I" } : Jvm.MethodName)) ∈ lw_all := lw_g (lw_at lw_m3 69 rfl) rfl
theorem q676 : (Jvm.Cond.code ({ cls := "SunkTower$Reader", name := "storeyWord", desc := "()I" } : Jvm.MethodName) prog_6_method_26_code (1 : Nat) (Option.some Jvm.ClassFile.FieldType.int)) ∈ lw_all := lw_g (lw_at lw_m3 70 rfl) rfl
theorem q677 : (Jvm.Cond.stringRef "SunkTower$Reader" (225 : Nat) "height") ∈ lw_tbl := lw_at lw_m3 71 rfl
theorem q678 : (Jvm.Cond.stringRef "SunkTower$Reader" (227 : Nat) "goods") ∈ lw_tbl := lw_at lw_m3 72 rfl
theorem q679 : (Jvm.Cond.stringRef "SunkTower$Reader" (228 : Nat) "was") ∈ lw_tbl := lw_at lw_m3 73 rfl
theorem q680 : (Jvm.Cond.classLink "SunkTower$Reader" (236 : Nat) "SunkTower$Known") ∈ lw_all := lw_g (lw_at lw_m3 74 rfl) rfl
theorem q682 : (Jvm.Cond.methodLink "SunkTower$Reader" (238 : Nat) ({ cls := "SunkTower$Known", name := "<init>", desc := "(I)V" } : Jvm.MethodName)) ∈ lw_all := lw_g (lw_at lw_m3 76 rfl) rfl
theorem q693 : (Jvm.Cond.methodLink "SunkTower$Reader" (210 : Nat) ({ cls := "SunkTower$Reader", name := "isSign", desc := "(I)Z" } : Jvm.MethodName)) ∈ lw_all := lw_g (lw_at lw_m3 87 rfl) rfl
theorem q694 : (Jvm.Cond.privateMethod ({ cls := "SunkTower$Reader", name := "isSign", desc := "(I)Z" } : Jvm.MethodName)) ∈ lw_tbl := lw_at lw_m3 88 rfl
theorem q695 : (Jvm.Cond.instanceMethod ({ cls := "SunkTower$Reader", name := "isSign", desc := "(I)Z" } : Jvm.MethodName)) ∈ lw_all := lw_g (lw_at lw_m3 89 rfl) rfl
theorem q696 : (Jvm.Cond.code ({ cls := "SunkTower$Reader", name := "isSign", desc := "(I)Z" } : Jvm.MethodName) prog_6_method_9_code (2 : Nat) (Option.some Jvm.ClassFile.FieldType.boolean)) ∈ lw_all := lw_g (lw_at lw_m3 90 rfl) rfl
theorem q697 : (Jvm.Cond.classLink "SunkTower$Reader" (240 : Nat) "SunkTower$Plain") ∈ lw_all := lw_g (lw_at lw_m3 91 rfl) rfl
theorem q699 : (Jvm.Cond.methodLink "SunkTower$Reader" (242 : Nat) ({ cls := "SunkTower$Plain", name := "<init>", desc := "(I)V" } : Jvm.MethodName)) ∈ lw_all := lw_g (lw_at lw_m3 93 rfl) rfl
theorem q707 : (Jvm.Cond.methodLink "SunkTower$Reader" (243 : Nat) ({ cls := "SunkTower$Reader", name := "goesIn", desc := "()V" } : Jvm.MethodName)) ∈ lw_all := lw_g (lw_at lw_m3 101 rfl) rfl
theorem q708 : (Jvm.Cond.privateMethod ({ cls := "SunkTower$Reader", name := "goesIn", desc := "()V" } : Jvm.MethodName)) ∈ lw_tbl := lw_at lw_m3 102 rfl
theorem q709 : (Jvm.Cond.instanceMethod ({ cls := "SunkTower$Reader", name := "goesIn", desc := "()V" } : Jvm.MethodName)) ∈ lw_all := lw_g (lw_at lw_m3 103 rfl) rfl
theorem q710 : (Jvm.Cond.code ({ cls := "SunkTower$Reader", name := "goesIn", desc := "()V" } : Jvm.MethodName) prog_6_method_22_code (1 : Nat) (Option.none : Option Jvm.ClassFile.FieldType)) ∈ lw_all := lw_g (lw_at lw_m3 104 rfl) rfl
theorem q711 : (Jvm.Cond.classLink "SunkTower$Reader" (213 : Nat) "SunkTower$Pair") ∈ lw_all := lw_g (lw_at lw_m3 105 rfl) rfl
theorem q713 : (Jvm.Cond.methodLink "SunkTower$Reader" (215 : Nat) ({ cls := "SunkTower$Pair", name := "<init>", desc := "(LSunkTower$Sum;ILSunkTower$Sum;)V" } : Jvm.MethodName)) ∈ lw_all := lw_g (lw_at lw_m3 107 rfl) rfl
theorem q727 : (Jvm.Cond.stringRef "SunkTower$Reader" (126 : Nat) "pays") ∈ lw_tbl := lw_at lw_m3 121 rfl
theorem q728 : (Jvm.Cond.stringRef "SunkTower$Reader" (130 : Nat) "worth") ∈ lw_tbl := lw_at lw_m3 122 rfl
theorem q729 : (Jvm.Cond.stringRef "SunkTower$Reader" (146 : Nat) "move") ∈ lw_tbl := lw_at lw_m3 123 rfl
theorem q730 : (Jvm.Cond.methodLink "SunkTower$Reader" (150 : Nat) ({ cls := "SunkTower$Reader", name := "build", desc := "()V" } : Jvm.MethodName)) ∈ lw_all := lw_g (lw_at lw_m3 124 rfl) rfl
theorem q731 : (Jvm.Cond.privateMethod ({ cls := "SunkTower$Reader", name := "build", desc := "()V" } : Jvm.MethodName)) ∈ lw_tbl := lw_at lw_m3 125 rfl
theorem q732 : (Jvm.Cond.instanceMethod ({ cls := "SunkTower$Reader", name := "build", desc := "()V" } : Jvm.MethodName)) ∈ lw_all := lw_g (lw_at lw_m3 126 rfl) rfl
theorem q733 : (Jvm.Cond.code ({ cls := "SunkTower$Reader", name := "build", desc := "()V" } : Jvm.MethodName) prog_6_method_15_code (3 : Nat) (Option.none : Option Jvm.ClassFile.FieldType)) ∈ lw_all := lw_g (lw_at lw_m3 127 rfl) rfl
theorem q734 : (Jvm.Cond.stringRef "SunkTower$Reader" (153 : Nat) "build") ∈ lw_tbl := lw_at lw_m3 128 rfl
theorem q735 : (Jvm.Cond.methodLink "SunkTower$Reader" (154 : Nat) ({ cls := "SunkTower$Reader", name := "mustWord", desc := "(Ljava/lang/String;)V" } : Jvm.MethodName)) ∈ lw_all := lw_g (lw_at lw_m3 129 rfl) rfl
theorem q736 : (Jvm.Cond.privateMethod ({ cls := "SunkTower$Reader", name := "mustWord", desc := "(Ljava/lang/String;)V" } : Jvm.MethodName)) ∈ lw_tbl := lw_at lw_m3 130 rfl
theorem q737 : (Jvm.Cond.instanceMethod ({ cls := "SunkTower$Reader", name := "mustWord", desc := "(Ljava/lang/String;)V" } : Jvm.MethodName)) ∈ lw_all := lw_g (lw_at lw_m3 131 rfl) rfl
theorem q738 : (Jvm.Cond.code ({ cls := "SunkTower$Reader", name := "mustWord", desc := "(Ljava/lang/String;)V" } : Jvm.MethodName) prog_6_method_11_code (2 : Nat) (Option.none : Option Jvm.ClassFile.FieldType)) ∈ lw_all := lw_g (lw_at lw_m3 132 rfl) rfl
theorem q739 : (Jvm.Cond.stringRef "SunkTower$Reader" (158 : Nat) "costs") ∈ lw_tbl := lw_at lw_m3 133 rfl
theorem in_X5 : ∀ w ∈ wsX50, w ∈ lw_all := lw_in wsX50 [443, 445, 447, 449, 451, 453, 455, 457, 459, 461, 463] (by decide +kernel) (by decide +kernel)
/-! java/lang/String -/
set_option maxRecDepth 100000
def RJ0 : String := "java/lang/String"
def TJ0 : u_T := fun k => match k with
  | 0 => ("java/lang/String", "value", "[B", true)
  | _ => ("java/lang/String", "coder", "B", true)
def tyJ0 : Nat → FieldType := fun k => match k with
  | 0 => .array .byte
  | _ => .byte
abbrev wsJ00 : List Cond := u_ws RJ0 TJ0 2
theorem nmJ0 : ∀ a, a < 2 → ∀ b, b < 2 → a ≠ b → (TJ0 a).2.1 ≠ (TJ0 b).2.1 := by decide +kernel
theorem tyJ0_ok : ∀ k, k < 2 → parseFieldDescriptor (TJ0 k).2.2.1 = some (tyJ0 k) := by decide +kernel
abbrev cJ0_indexOf : ByteArray := prog_21_method_79_code
def yJ0_indexOf : MethodName := ⟨RJ0, "indexOf", "(I)I"⟩
def dkwJ0_indexOf_0 : List UInt8 := [42, 27, 3, 182, 2, 121, 172]
abbrev dktJ0_indexOf_0 : List UInt8 := dkwJ0_indexOf_0 ++ []
theorem dksJ0_indexOf_0 : cJ0_indexOf.data.toList.drop 0 = dktJ0_indexOf_0 := by decide +kernel
theorem dJ0_indexOf_0 : decode cJ0_indexOf 0 = .ok (.aload_n 0, 1) := dk_42 (dk_at dksJ0_indexOf_0 0 rfl rfl)
theorem dJ0_indexOf_1 : decode cJ0_indexOf 1 = .ok (.iload_n 1, 1) := dk_27 (dk_at dksJ0_indexOf_0 1 rfl rfl)
theorem dJ0_indexOf_2 : decode cJ0_indexOf 2 = .ok (.iconst 0, 1) := dk_3 (dk_at dksJ0_indexOf_0 2 rfl rfl)
theorem dJ0_indexOf_3 : decode cJ0_indexOf 3 = .ok (.invokevirtual 633, 3) := dk_182 2 121 (dk_at dksJ0_indexOf_0 3 rfl rfl)
theorem dJ0_indexOf_6 : decode cJ0_indexOf 6 = .ok (.ireturn, 1) := dk_172 (dk_at dksJ0_indexOf_0 6 rfl rfl)
abbrev cJ0_indexOf_2 : ByteArray := prog_21_method_80_code
def yJ0_indexOf_2 : MethodName := ⟨RJ0, "indexOf", "(II)I"⟩
def dkwJ0_indexOf_2_1 : List UInt8 := [180, 0, 9, 27, 28, 42, 182, 1, 249, 184, 2, 128, 172]
abbrev dktJ0_indexOf_2_1 : List UInt8 := dkwJ0_indexOf_2_1 ++ []
def dkwJ0_indexOf_2_0 : List UInt8 := [42, 182, 1, 236, 153, 0, 19, 42, 180, 0, 9, 27, 28, 42, 182, 1, 249, 184, 2, 125, 167, 0, 16, 42]
abbrev dktJ0_indexOf_2_0 : List UInt8 := dkwJ0_indexOf_2_0 ++ dktJ0_indexOf_2_1
theorem dksJ0_indexOf_2_0 : cJ0_indexOf_2.data.toList.drop 0 = dktJ0_indexOf_2_0 := by decide +kernel
theorem dksJ0_indexOf_2_1 : cJ0_indexOf_2.data.toList.drop 24 = dktJ0_indexOf_2_1 := dk_seg dksJ0_indexOf_2_0 24 rfl rfl
theorem dJ0_indexOf_2_0 : decode cJ0_indexOf_2 0 = .ok (.aload_n 0, 1) := dk_42 (dk_at dksJ0_indexOf_2_0 0 rfl rfl)
theorem dJ0_indexOf_2_1 : decode cJ0_indexOf_2 1 = .ok (.invokevirtual 492, 3) := dk_182 1 236 (dk_at dksJ0_indexOf_2_0 1 rfl rfl)
theorem dJ0_indexOf_2_4 : decode cJ0_indexOf_2 4 = .ok (.ifCond .eq 19, 3) := dk_153 0 19 (dk_at dksJ0_indexOf_2_0 4 rfl rfl)
theorem dJ0_indexOf_2_7 : decode cJ0_indexOf_2 7 = .ok (.aload_n 0, 1) := dk_42 (dk_at dksJ0_indexOf_2_0 7 rfl rfl)
theorem dJ0_indexOf_2_8 : decode cJ0_indexOf_2 8 = .ok (.getfield 9, 3) := dk_180 0 9 (dk_at dksJ0_indexOf_2_0 8 rfl rfl)
theorem dJ0_indexOf_2_11 : decode cJ0_indexOf_2 11 = .ok (.iload_n 1, 1) := dk_27 (dk_at dksJ0_indexOf_2_0 11 rfl rfl)
theorem dJ0_indexOf_2_12 : decode cJ0_indexOf_2 12 = .ok (.iload_n 2, 1) := dk_28 (dk_at dksJ0_indexOf_2_0 12 rfl rfl)
theorem dJ0_indexOf_2_13 : decode cJ0_indexOf_2 13 = .ok (.aload_n 0, 1) := dk_42 (dk_at dksJ0_indexOf_2_0 13 rfl rfl)
theorem dJ0_indexOf_2_14 : decode cJ0_indexOf_2 14 = .ok (.invokevirtual 505, 3) := dk_182 1 249 (dk_at dksJ0_indexOf_2_0 14 rfl rfl)
theorem dJ0_indexOf_2_17 : decode cJ0_indexOf_2 17 = .ok (.invokestatic 637, 3) := dk_184 2 125 (dk_at dksJ0_indexOf_2_0 17 rfl rfl)
theorem dJ0_indexOf_2_20 : decode cJ0_indexOf_2 20 = .ok (.goto 16, 3) := dk_167 0 16 (dk_at dksJ0_indexOf_2_0 20 rfl rfl)
theorem dJ0_indexOf_2_23 : decode cJ0_indexOf_2 23 = .ok (.aload_n 0, 1) := dk_42 (dk_at dksJ0_indexOf_2_0 23 rfl rfl)
theorem dJ0_indexOf_2_24 : decode cJ0_indexOf_2 24 = .ok (.getfield 9, 3) := dk_180 0 9 (dk_at dksJ0_indexOf_2_1 0 rfl rfl)
theorem dJ0_indexOf_2_27 : decode cJ0_indexOf_2 27 = .ok (.iload_n 1, 1) := dk_27 (dk_at dksJ0_indexOf_2_1 3 rfl rfl)
theorem dJ0_indexOf_2_28 : decode cJ0_indexOf_2 28 = .ok (.iload_n 2, 1) := dk_28 (dk_at dksJ0_indexOf_2_1 4 rfl rfl)
theorem dJ0_indexOf_2_29 : decode cJ0_indexOf_2 29 = .ok (.aload_n 0, 1) := dk_42 (dk_at dksJ0_indexOf_2_1 5 rfl rfl)
theorem dJ0_indexOf_2_30 : decode cJ0_indexOf_2 30 = .ok (.invokevirtual 505, 3) := dk_182 1 249 (dk_at dksJ0_indexOf_2_1 6 rfl rfl)
theorem dJ0_indexOf_2_33 : decode cJ0_indexOf_2 33 = .ok (.invokestatic 640, 3) := dk_184 2 128 (dk_at dksJ0_indexOf_2_1 9 rfl rfl)
theorem dJ0_indexOf_2_36 : decode cJ0_indexOf_2 36 = .ok (.ireturn, 1) := dk_172 (dk_at dksJ0_indexOf_2_1 12 rfl rfl)
abbrev cJ0_isLatin1 : ByteArray := prog_21_method_154_code
def yJ0_isLatin1 : MethodName := ⟨RJ0, "isLatin1", "()Z"⟩
def dkwJ0_isLatin1_0 : List UInt8 := [178, 0, 38, 153, 0, 14, 42, 180, 0, 15, 154, 0, 7, 4, 167, 0, 4, 3, 172]
abbrev dktJ0_isLatin1_0 : List UInt8 := dkwJ0_isLatin1_0 ++ []
theorem dksJ0_isLatin1_0 : cJ0_isLatin1.data.toList.drop 0 = dktJ0_isLatin1_0 := by decide +kernel
theorem dJ0_isLatin1_0 : decode cJ0_isLatin1 0 = .ok (.getstatic 38, 3) := dk_178 0 38 (dk_at dksJ0_isLatin1_0 0 rfl rfl)
theorem dJ0_isLatin1_3 : decode cJ0_isLatin1 3 = .ok (.ifCond .eq 14, 3) := dk_153 0 14 (dk_at dksJ0_isLatin1_0 3 rfl rfl)
theorem dJ0_isLatin1_6 : decode cJ0_isLatin1 6 = .ok (.aload_n 0, 1) := dk_42 (dk_at dksJ0_isLatin1_0 6 rfl rfl)
theorem dJ0_isLatin1_7 : decode cJ0_isLatin1 7 = .ok (.getfield 15, 3) := dk_180 0 15 (dk_at dksJ0_isLatin1_0 7 rfl rfl)
theorem dJ0_isLatin1_10 : decode cJ0_isLatin1 10 = .ok (.ifCond .ne 7, 3) := dk_154 0 7 (dk_at dksJ0_isLatin1_0 10 rfl rfl)
theorem dJ0_isLatin1_13 : decode cJ0_isLatin1 13 = .ok (.iconst 1, 1) := dk_4 (dk_at dksJ0_isLatin1_0 13 rfl rfl)
theorem dJ0_isLatin1_14 : decode cJ0_isLatin1 14 = .ok (.goto 4, 3) := dk_167 0 4 (dk_at dksJ0_isLatin1_0 14 rfl rfl)
theorem dJ0_isLatin1_17 : decode cJ0_isLatin1 17 = .ok (.iconst 0, 1) := dk_3 (dk_at dksJ0_isLatin1_0 17 rfl rfl)
theorem dJ0_isLatin1_18 : decode cJ0_isLatin1 18 = .ok (.ireturn, 1) := dk_172 (dk_at dksJ0_isLatin1_0 18 rfl rfl)
abbrev cJ0_length : ByteArray := prog_21_method_54_code
def yJ0_length : MethodName := ⟨RJ0, "length", "()I"⟩
def dkwJ0_length_0 : List UInt8 := [42, 180, 0, 9, 190, 42, 182, 1, 79, 122, 172]
abbrev dktJ0_length_0 : List UInt8 := dkwJ0_length_0 ++ []
theorem dksJ0_length_0 : cJ0_length.data.toList.drop 0 = dktJ0_length_0 := by decide +kernel
theorem dJ0_length_0 : decode cJ0_length 0 = .ok (.aload_n 0, 1) := dk_42 (dk_at dksJ0_length_0 0 rfl rfl)
theorem dJ0_length_1 : decode cJ0_length 1 = .ok (.getfield 9, 3) := dk_180 0 9 (dk_at dksJ0_length_0 1 rfl rfl)
theorem dJ0_length_4 : decode cJ0_length 4 = .ok (.arraylength, 1) := dk_190 (dk_at dksJ0_length_0 4 rfl rfl)
theorem dJ0_length_5 : decode cJ0_length 5 = .ok (.aload_n 0, 1) := dk_42 (dk_at dksJ0_length_0 5 rfl rfl)
theorem dJ0_length_6 : decode cJ0_length 6 = .ok (.invokevirtual 335, 3) := dk_182 1 79 (dk_at dksJ0_length_0 6 rfl rfl)
theorem dJ0_length_9 : decode cJ0_length 9 = .ok (.ishr, 1) := dk_122 (dk_at dksJ0_length_0 9 rfl rfl)
theorem dJ0_length_10 : decode cJ0_length 10 = .ok (.ireturn, 1) := dk_172 (dk_at dksJ0_length_0 10 rfl rfl)
abbrev cJ0_coder : ByteArray := prog_21_method_152_code
def yJ0_coder : MethodName := ⟨RJ0, "coder", "()B"⟩
def dkwJ0_coder_0 : List UInt8 := [178, 0, 38, 153, 0, 10, 42, 180, 0, 15, 167, 0, 4, 4, 172]
abbrev dktJ0_coder_0 : List UInt8 := dkwJ0_coder_0 ++ []
theorem dksJ0_coder_0 : cJ0_coder.data.toList.drop 0 = dktJ0_coder_0 := by decide +kernel
theorem dJ0_coder_0 : decode cJ0_coder 0 = .ok (.getstatic 38, 3) := dk_178 0 38 (dk_at dksJ0_coder_0 0 rfl rfl)
theorem dJ0_coder_3 : decode cJ0_coder 3 = .ok (.ifCond .eq 10, 3) := dk_153 0 10 (dk_at dksJ0_coder_0 3 rfl rfl)
theorem dJ0_coder_6 : decode cJ0_coder 6 = .ok (.aload_n 0, 1) := dk_42 (dk_at dksJ0_coder_0 6 rfl rfl)
theorem dJ0_coder_7 : decode cJ0_coder 7 = .ok (.getfield 15, 3) := dk_180 0 15 (dk_at dksJ0_coder_0 7 rfl rfl)
theorem dJ0_coder_10 : decode cJ0_coder 10 = .ok (.goto 4, 3) := dk_167 0 4 (dk_at dksJ0_coder_0 10 rfl rfl)
theorem dJ0_coder_13 : decode cJ0_coder 13 = .ok (.iconst 1, 1) := dk_4 (dk_at dksJ0_coder_0 13 rfl rfl)
theorem dJ0_coder_14 : decode cJ0_coder 14 = .ok (.ireturn, 1) := dk_172 (dk_at dksJ0_coder_0 14 rfl rfl)
abbrev cJ0_checkBoundsBeginEnd : ByteArray := prog_21_method_158_code
def yJ0_checkBoundsBeginEnd : MethodName := ⟨RJ0, "checkBoundsBeginEnd", "(III)V"⟩
def dkwJ0_checkBoundsBeginEnd_0 : List UInt8 := [26, 27, 28, 178, 4, 29, 184, 4, 38, 87, 177]
abbrev dktJ0_checkBoundsBeginEnd_0 : List UInt8 := dkwJ0_checkBoundsBeginEnd_0 ++ []
theorem dksJ0_checkBoundsBeginEnd_0 : cJ0_checkBoundsBeginEnd.data.toList.drop 0 = dktJ0_checkBoundsBeginEnd_0 := by decide +kernel
theorem dJ0_checkBoundsBeginEnd_0 : decode cJ0_checkBoundsBeginEnd 0 = .ok (.iload_n 0, 1) := dk_26 (dk_at dksJ0_checkBoundsBeginEnd_0 0 rfl rfl)
theorem dJ0_checkBoundsBeginEnd_1 : decode cJ0_checkBoundsBeginEnd 1 = .ok (.iload_n 1, 1) := dk_27 (dk_at dksJ0_checkBoundsBeginEnd_0 1 rfl rfl)
theorem dJ0_checkBoundsBeginEnd_2 : decode cJ0_checkBoundsBeginEnd 2 = .ok (.iload_n 2, 1) := dk_28 (dk_at dksJ0_checkBoundsBeginEnd_0 2 rfl rfl)
theorem dJ0_checkBoundsBeginEnd_3 : decode cJ0_checkBoundsBeginEnd 3 = .ok (.getstatic 1053, 3) := dk_178 4 29 (dk_at dksJ0_checkBoundsBeginEnd_0 3 rfl rfl)
theorem dJ0_checkBoundsBeginEnd_6 : decode cJ0_checkBoundsBeginEnd 6 = .ok (.invokestatic 1062, 3) := dk_184 4 38 (dk_at dksJ0_checkBoundsBeginEnd_0 6 rfl rfl)
theorem dJ0_checkBoundsBeginEnd_9 : decode cJ0_checkBoundsBeginEnd 9 = .ok (.pop, 1) := dk_87 (dk_at dksJ0_checkBoundsBeginEnd_0 9 rfl rfl)
theorem dJ0_checkBoundsBeginEnd_10 : decode cJ0_checkBoundsBeginEnd 10 = .ok (.return_, 1) := dk_177 (dk_at dksJ0_checkBoundsBeginEnd_0 10 rfl rfl)
abbrev cJ0_charAt : ByteArray := prog_21_method_56_code
def yJ0_charAt : MethodName := ⟨RJ0, "charAt", "(I)C"⟩
def dkwJ0_charAt_1 : List UInt8 := [172]
abbrev dktJ0_charAt_1 : List UInt8 := dkwJ0_charAt_1 ++ []
def dkwJ0_charAt_0 : List UInt8 := [42, 182, 1, 236, 153, 0, 12, 42, 180, 0, 9, 27, 184, 1, 239, 172, 42, 180, 0, 9, 27, 184, 1, 242]
abbrev dktJ0_charAt_0 : List UInt8 := dkwJ0_charAt_0 ++ dktJ0_charAt_1
theorem dksJ0_charAt_0 : cJ0_charAt.data.toList.drop 0 = dktJ0_charAt_0 := by decide +kernel
theorem dksJ0_charAt_1 : cJ0_charAt.data.toList.drop 24 = dktJ0_charAt_1 := dk_seg dksJ0_charAt_0 24 rfl rfl
theorem dJ0_charAt_0 : decode cJ0_charAt 0 = .ok (.aload_n 0, 1) := dk_42 (dk_at dksJ0_charAt_0 0 rfl rfl)
theorem dJ0_charAt_1 : decode cJ0_charAt 1 = .ok (.invokevirtual 492, 3) := dk_182 1 236 (dk_at dksJ0_charAt_0 1 rfl rfl)
theorem dJ0_charAt_4 : decode cJ0_charAt 4 = .ok (.ifCond .eq 12, 3) := dk_153 0 12 (dk_at dksJ0_charAt_0 4 rfl rfl)
theorem dJ0_charAt_7 : decode cJ0_charAt 7 = .ok (.aload_n 0, 1) := dk_42 (dk_at dksJ0_charAt_0 7 rfl rfl)
theorem dJ0_charAt_8 : decode cJ0_charAt 8 = .ok (.getfield 9, 3) := dk_180 0 9 (dk_at dksJ0_charAt_0 8 rfl rfl)
theorem dJ0_charAt_11 : decode cJ0_charAt 11 = .ok (.iload_n 1, 1) := dk_27 (dk_at dksJ0_charAt_0 11 rfl rfl)
theorem dJ0_charAt_12 : decode cJ0_charAt 12 = .ok (.invokestatic 495, 3) := dk_184 1 239 (dk_at dksJ0_charAt_0 12 rfl rfl)
theorem dJ0_charAt_15 : decode cJ0_charAt 15 = .ok (.ireturn, 1) := dk_172 (dk_at dksJ0_charAt_0 15 rfl rfl)
theorem dJ0_charAt_16 : decode cJ0_charAt 16 = .ok (.aload_n 0, 1) := dk_42 (dk_at dksJ0_charAt_0 16 rfl rfl)
theorem dJ0_charAt_17 : decode cJ0_charAt 17 = .ok (.getfield 9, 3) := dk_180 0 9 (dk_at dksJ0_charAt_0 17 rfl rfl)
theorem dJ0_charAt_20 : decode cJ0_charAt 20 = .ok (.iload_n 1, 1) := dk_27 (dk_at dksJ0_charAt_0 20 rfl rfl)
theorem dJ0_charAt_21 : decode cJ0_charAt 21 = .ok (.invokestatic 498, 3) := dk_184 1 242 (dk_at dksJ0_charAt_0 21 rfl rfl)
theorem dJ0_charAt_24 : decode cJ0_charAt 24 = .ok (.ireturn, 1) := dk_172 (dk_at dksJ0_charAt_1 0 rfl rfl)
abbrev cJ0_checkIndex : ByteArray := prog_21_method_155_code
def yJ0_checkIndex : MethodName := ⟨RJ0, "checkIndex", "(II)V"⟩
def dkwJ0_checkIndex_0 : List UInt8 := [26, 27, 178, 4, 29, 184, 4, 35, 87, 177]
abbrev dktJ0_checkIndex_0 : List UInt8 := dkwJ0_checkIndex_0 ++ []
theorem dksJ0_checkIndex_0 : cJ0_checkIndex.data.toList.drop 0 = dktJ0_checkIndex_0 := by decide +kernel
theorem dJ0_checkIndex_0 : decode cJ0_checkIndex 0 = .ok (.iload_n 0, 1) := dk_26 (dk_at dksJ0_checkIndex_0 0 rfl rfl)
theorem dJ0_checkIndex_1 : decode cJ0_checkIndex 1 = .ok (.iload_n 1, 1) := dk_27 (dk_at dksJ0_checkIndex_0 1 rfl rfl)
theorem dJ0_checkIndex_2 : decode cJ0_checkIndex 2 = .ok (.getstatic 1053, 3) := dk_178 4 29 (dk_at dksJ0_checkIndex_0 2 rfl rfl)
theorem dJ0_checkIndex_5 : decode cJ0_checkIndex 5 = .ok (.invokestatic 1059, 3) := dk_184 4 35 (dk_at dksJ0_checkIndex_0 5 rfl rfl)
theorem dJ0_checkIndex_8 : decode cJ0_checkIndex 8 = .ok (.pop, 1) := dk_87 (dk_at dksJ0_checkIndex_0 8 rfl rfl)
theorem dJ0_checkIndex_9 : decode cJ0_checkIndex 9 = .ok (.return_, 1) := dk_177 (dk_at dksJ0_checkIndex_0 9 rfl rfl)
theorem q134 : (Jvm.Cond.initialized "java/lang/String") ∈ lw_all := lw_g (lw_at lw_m1 8 rfl) rfl
theorem q493 : (Jvm.Cond.instanceMethod ({ cls := "java/lang/String", name := "indexOf", desc := "(I)I" } : Jvm.MethodName)) ∈ lw_all := lw_g (lw_at lw_m2 127 rfl) rfl
theorem q494 : (Jvm.Cond.selects "java/lang/String" ({ cls := "java/lang/String", name := "indexOf", desc := "(I)I" } : Jvm.MethodName) ({ cls := "java/lang/String", name := "indexOf", desc := "(I)I" } : Jvm.MethodName)) ∈ lw_all := lw_g (lw_at lw_m2 128 rfl) rfl
theorem q495 : (Jvm.Cond.code ({ cls := "java/lang/String", name := "indexOf", desc := "(I)I" } : Jvm.MethodName) prog_21_method_79_code (2 : Nat) (Option.some Jvm.ClassFile.FieldType.int)) ∈ lw_all := lw_g (lw_at lw_m2 129 rfl) rfl
theorem q496 : (Jvm.Cond.methodLink "java/lang/String" (633 : Nat) ({ cls := "java/lang/String", name := "indexOf", desc := "(II)I" } : Jvm.MethodName)) ∈ lw_all := lw_g (lw_at lw_m2 130 rfl) rfl
theorem q497 : (Jvm.Cond.instanceMethod ({ cls := "java/lang/String", name := "indexOf", desc := "(II)I" } : Jvm.MethodName)) ∈ lw_all := lw_g (lw_at lw_m2 131 rfl) rfl
theorem q498 : (Jvm.Cond.selects "java/lang/String" ({ cls := "java/lang/String", name := "indexOf", desc := "(II)I" } : Jvm.MethodName) ({ cls := "java/lang/String", name := "indexOf", desc := "(II)I" } : Jvm.MethodName)) ∈ lw_all := lw_g (lw_at lw_m2 132 rfl) rfl
theorem q499 : (Jvm.Cond.code ({ cls := "java/lang/String", name := "indexOf", desc := "(II)I" } : Jvm.MethodName) prog_21_method_80_code (3 : Nat) (Option.some Jvm.ClassFile.FieldType.int)) ∈ lw_all := lw_g (lw_at lw_m2 133 rfl) rfl
theorem q500 : (Jvm.Cond.methodLink "java/lang/String" (492 : Nat) ({ cls := "java/lang/String", name := "isLatin1", desc := "()Z" } : Jvm.MethodName)) ∈ lw_all := lw_g (lw_at lw_m2 134 rfl) rfl
theorem q501 : (Jvm.Cond.instanceMethod ({ cls := "java/lang/String", name := "isLatin1", desc := "()Z" } : Jvm.MethodName)) ∈ lw_all := lw_g (lw_at lw_m2 135 rfl) rfl
theorem q502 : (Jvm.Cond.selects "java/lang/String" ({ cls := "java/lang/String", name := "isLatin1", desc := "()Z" } : Jvm.MethodName) ({ cls := "java/lang/String", name := "isLatin1", desc := "()Z" } : Jvm.MethodName)) ∈ lw_all := lw_g (lw_at lw_m2 136 rfl) rfl
theorem q503 : (Jvm.Cond.code ({ cls := "java/lang/String", name := "isLatin1", desc := "()Z" } : Jvm.MethodName) prog_21_method_154_code (1 : Nat) (Option.some Jvm.ClassFile.FieldType.boolean)) ∈ lw_all := lw_g (lw_at lw_m2 137 rfl) rfl
theorem q504 : (Jvm.Cond.fieldLink "java/lang/String" (38 : Nat) "java/lang/String" "COMPACT_STRINGS" "Z") ∈ lw_all := lw_g (lw_at lw_m2 138 rfl) rfl
theorem q505 : (Jvm.Cond.laysStatic "java/lang/String" "COMPACT_STRINGS" "Z") ∈ lw_tbl := lw_at lw_m2 139 rfl
theorem q506 : (Jvm.Cond.methodLink "java/lang/String" (505 : Nat) ({ cls := "java/lang/String", name := "length", desc := "()I" } : Jvm.MethodName)) ∈ lw_all := lw_g (lw_at lw_m2 140 rfl) rfl
theorem q507 : (Jvm.Cond.instanceMethod ({ cls := "java/lang/String", name := "length", desc := "()I" } : Jvm.MethodName)) ∈ lw_all := lw_g (lw_at lw_m2 141 rfl) rfl
theorem q508 : (Jvm.Cond.selects "java/lang/String" ({ cls := "java/lang/String", name := "length", desc := "()I" } : Jvm.MethodName) ({ cls := "java/lang/String", name := "length", desc := "()I" } : Jvm.MethodName)) ∈ lw_all := lw_g (lw_at lw_m2 142 rfl) rfl
theorem q509 : (Jvm.Cond.code ({ cls := "java/lang/String", name := "length", desc := "()I" } : Jvm.MethodName) prog_21_method_54_code (1 : Nat) (Option.some Jvm.ClassFile.FieldType.int)) ∈ lw_all := lw_g (lw_at lw_m2 143 rfl) rfl
theorem q510 : (Jvm.Cond.methodLink "java/lang/String" (335 : Nat) ({ cls := "java/lang/String", name := "coder", desc := "()B" } : Jvm.MethodName)) ∈ lw_all := lw_g (lw_at lw_m2 144 rfl) rfl
theorem q511 : (Jvm.Cond.instanceMethod ({ cls := "java/lang/String", name := "coder", desc := "()B" } : Jvm.MethodName)) ∈ lw_all := lw_g (lw_at lw_m2 145 rfl) rfl
theorem q512 : (Jvm.Cond.selects "java/lang/String" ({ cls := "java/lang/String", name := "coder", desc := "()B" } : Jvm.MethodName) ({ cls := "java/lang/String", name := "coder", desc := "()B" } : Jvm.MethodName)) ∈ lw_all := lw_g (lw_at lw_m2 146 rfl) rfl
theorem q513 : (Jvm.Cond.code ({ cls := "java/lang/String", name := "coder", desc := "()B" } : Jvm.MethodName) prog_21_method_152_code (1 : Nat) (Option.some Jvm.ClassFile.FieldType.byte)) ∈ lw_all := lw_g (lw_at lw_m2 147 rfl) rfl
theorem q514 : (Jvm.Cond.methodLink "java/lang/String" (637 : Nat) ({ cls := "java/lang/StringLatin1", name := "indexOf", desc := "([BIII)I" } : Jvm.MethodName)) ∈ lw_all := lw_g (lw_at lw_m2 148 rfl) rfl
theorem q529 : (Jvm.Cond.methodLink "java/lang/String" (640 : Nat) ({ cls := "java/lang/StringUTF16", name := "indexOf", desc := "([BIII)I" } : Jvm.MethodName)) ∈ lw_all := lw_g (lw_at lw_m2 163 rfl) rfl
theorem q545 : (Jvm.Cond.static ({ cls := "java/lang/String", name := "checkBoundsBeginEnd", desc := "(III)V" } : Jvm.MethodName)) ∈ lw_all := lw_g (lw_at lw_m2 179 rfl) rfl
theorem q546 : (Jvm.Cond.code ({ cls := "java/lang/String", name := "checkBoundsBeginEnd", desc := "(III)V" } : Jvm.MethodName) prog_21_method_158_code (3 : Nat) (Option.none : Option Jvm.ClassFile.FieldType)) ∈ lw_all := lw_g (lw_at lw_m2 180 rfl) rfl
theorem q547 : (Jvm.Cond.fieldLink "java/lang/String" (1053 : Nat) "jdk/internal/util/Preconditions" "SIOOBE_FORMATTER" "Ljava/util/function/BiFunction;") ∈ lw_all := lw_g (lw_at lw_m2 181 rfl) rfl
theorem q549 : (Jvm.Cond.methodLink "java/lang/String" (1062 : Nat) ({ cls := "jdk/internal/util/Preconditions", name := "checkFromToIndex", desc := "(IIILjava/util/function/BiFunction;)I" } : Jvm.MethodName)) ∈ lw_all := lw_g (lw_at lw_m2 183 rfl) rfl
theorem q589 : (Jvm.Cond.instanceMethod ({ cls := "java/lang/String", name := "charAt", desc := "(I)C" } : Jvm.MethodName)) ∈ lw_all := lw_g (lw_at lw_m2 223 rfl) rfl
theorem q590 : (Jvm.Cond.selects "java/lang/String" ({ cls := "java/lang/String", name := "charAt", desc := "(I)C" } : Jvm.MethodName) ({ cls := "java/lang/String", name := "charAt", desc := "(I)C" } : Jvm.MethodName)) ∈ lw_all := lw_g (lw_at lw_m2 224 rfl) rfl
theorem q591 : (Jvm.Cond.code ({ cls := "java/lang/String", name := "charAt", desc := "(I)C" } : Jvm.MethodName) prog_21_method_56_code (2 : Nat) (Option.some Jvm.ClassFile.FieldType.char)) ∈ lw_all := lw_g (lw_at lw_m2 225 rfl) rfl
theorem q592 : (Jvm.Cond.methodLink "java/lang/String" (495 : Nat) ({ cls := "java/lang/StringLatin1", name := "charAt", desc := "([BI)C" } : Jvm.MethodName)) ∈ lw_all := lw_g (lw_at lw_m2 226 rfl) rfl
theorem q596 : (Jvm.Cond.static ({ cls := "java/lang/String", name := "checkIndex", desc := "(II)V" } : Jvm.MethodName)) ∈ lw_all := lw_g (lw_at lw_m2 230 rfl) rfl
theorem q597 : (Jvm.Cond.code ({ cls := "java/lang/String", name := "checkIndex", desc := "(II)V" } : Jvm.MethodName) prog_21_method_155_code (2 : Nat) (Option.none : Option Jvm.ClassFile.FieldType)) ∈ lw_all := lw_g (lw_at lw_m2 231 rfl) rfl
theorem q598 : (Jvm.Cond.methodLink "java/lang/String" (1059 : Nat) ({ cls := "jdk/internal/util/Preconditions", name := "checkIndex", desc := "(IILjava/util/function/BiFunction;)I" } : Jvm.MethodName)) ∈ lw_all := lw_g (lw_at lw_m2 232 rfl) rfl
theorem q601 : (Jvm.Cond.methodLink "java/lang/String" (498 : Nat) ({ cls := "java/lang/StringUTF16", name := "charAt", desc := "([BI)C" } : Jvm.MethodName)) ∈ lw_all := lw_g (lw_at lw_m2 235 rfl) rfl
theorem q1300 : (Jvm.Cond.instantiable "java/lang/String" (4 : Nat)) ∈ lw_all := lw_g (lw_at lw_m5 214 rfl) rfl
theorem q1301 : (Jvm.Cond.laysFinal "java/lang/String" "java/lang/String" "value" "[B") ∈ lw_all := lw_g (lw_at lw_m5 215 rfl) rfl
theorem q1302 : (Jvm.Cond.soleField "java/lang/String" "value") ∈ lw_all := lw_g (lw_at lw_m5 216 rfl) rfl
theorem q1303 : (Jvm.Cond.laysFinal "java/lang/String" "java/lang/String" "coder" "B") ∈ lw_all := lw_g (lw_at lw_m5 217 rfl) rfl
theorem q1304 : (Jvm.Cond.soleField "java/lang/String" "coder") ∈ lw_all := lw_g (lw_at lw_m5 218 rfl) rfl
theorem q2034 : (Jvm.Cond.fieldLink "java/lang/String" (15 : Nat) "java/lang/String" "coder" "B") ∈ lw_all := lw_g (lw_at lw_m8 228 rfl) rfl
theorem q2035 : (Jvm.Cond.fieldLink "java/lang/String" (9 : Nat) "java/lang/String" "value" "[B") ∈ lw_all := lw_g (lw_at lw_m8 229 rfl) rfl
theorem in_J0 : ∀ w ∈ wsJ00, w ∈ lw_all := lw_in wsJ00 [1301, 1303] (by decide +kernel) (by decide +kernel)
/-! java/lang/StringLatin1 -/
set_option maxRecDepth 100000
def RJ1 : String := "java/lang/StringLatin1"
abbrev cJ1_indexOf : ByteArray := prog_22_method_22_code
def yJ1_indexOf : MethodName := ⟨RJ1, "indexOf", "([BIII)I"⟩
def dkwJ1_indexOf_1 : List UInt8 := [161, 0, 5, 2, 172, 42, 27, 28, 29, 184, 0, 95, 172]
abbrev dktJ1_indexOf_1 : List UInt8 := dkwJ1_indexOf_1 ++ []
def dkwJ1_indexOf_0 : List UInt8 := [27, 184, 0, 88, 154, 0, 5, 2, 172, 28, 3, 184, 0, 92, 61, 29, 42, 190, 184, 0, 38, 62, 28, 29]
abbrev dktJ1_indexOf_0 : List UInt8 := dkwJ1_indexOf_0 ++ dktJ1_indexOf_1
theorem dksJ1_indexOf_0 : cJ1_indexOf.data.toList.drop 0 = dktJ1_indexOf_0 := by decide +kernel
theorem dksJ1_indexOf_1 : cJ1_indexOf.data.toList.drop 24 = dktJ1_indexOf_1 := dk_seg dksJ1_indexOf_0 24 rfl rfl
theorem dJ1_indexOf_0 : decode cJ1_indexOf 0 = .ok (.iload_n 1, 1) := dk_27 (dk_at dksJ1_indexOf_0 0 rfl rfl)
theorem dJ1_indexOf_1 : decode cJ1_indexOf 1 = .ok (.invokestatic 88, 3) := dk_184 0 88 (dk_at dksJ1_indexOf_0 1 rfl rfl)
theorem dJ1_indexOf_4 : decode cJ1_indexOf 4 = .ok (.ifCond .ne 5, 3) := dk_154 0 5 (dk_at dksJ1_indexOf_0 4 rfl rfl)
theorem dJ1_indexOf_7 : decode cJ1_indexOf 7 = .ok (.iconst (-1), 1) := dk_2 (dk_at dksJ1_indexOf_0 7 rfl rfl)
theorem dJ1_indexOf_8 : decode cJ1_indexOf 8 = .ok (.ireturn, 1) := dk_172 (dk_at dksJ1_indexOf_0 8 rfl rfl)
theorem dJ1_indexOf_9 : decode cJ1_indexOf 9 = .ok (.iload_n 2, 1) := dk_28 (dk_at dksJ1_indexOf_0 9 rfl rfl)
theorem dJ1_indexOf_10 : decode cJ1_indexOf 10 = .ok (.iconst 0, 1) := dk_3 (dk_at dksJ1_indexOf_0 10 rfl rfl)
theorem dJ1_indexOf_11 : decode cJ1_indexOf 11 = .ok (.invokestatic 92, 3) := dk_184 0 92 (dk_at dksJ1_indexOf_0 11 rfl rfl)
theorem dJ1_indexOf_14 : decode cJ1_indexOf 14 = .ok (.istore_n 2, 1) := dk_61 (dk_at dksJ1_indexOf_0 14 rfl rfl)
theorem dJ1_indexOf_15 : decode cJ1_indexOf 15 = .ok (.iload_n 3, 1) := dk_29 (dk_at dksJ1_indexOf_0 15 rfl rfl)
theorem dJ1_indexOf_16 : decode cJ1_indexOf 16 = .ok (.aload_n 0, 1) := dk_42 (dk_at dksJ1_indexOf_0 16 rfl rfl)
theorem dJ1_indexOf_17 : decode cJ1_indexOf 17 = .ok (.arraylength, 1) := dk_190 (dk_at dksJ1_indexOf_0 17 rfl rfl)
theorem dJ1_indexOf_18 : decode cJ1_indexOf 18 = .ok (.invokestatic 38, 3) := dk_184 0 38 (dk_at dksJ1_indexOf_0 18 rfl rfl)
theorem dJ1_indexOf_21 : decode cJ1_indexOf 21 = .ok (.istore_n 3, 1) := dk_62 (dk_at dksJ1_indexOf_0 21 rfl rfl)
theorem dJ1_indexOf_22 : decode cJ1_indexOf 22 = .ok (.iload_n 2, 1) := dk_28 (dk_at dksJ1_indexOf_0 22 rfl rfl)
theorem dJ1_indexOf_23 : decode cJ1_indexOf 23 = .ok (.iload_n 3, 1) := dk_29 (dk_at dksJ1_indexOf_0 23 rfl rfl)
theorem dJ1_indexOf_24 : decode cJ1_indexOf 24 = .ok (.if_icmp .lt 5, 3) := dk_161 0 5 (dk_at dksJ1_indexOf_1 0 rfl rfl)
theorem dJ1_indexOf_27 : decode cJ1_indexOf 27 = .ok (.iconst (-1), 1) := dk_2 (dk_at dksJ1_indexOf_1 3 rfl rfl)
theorem dJ1_indexOf_28 : decode cJ1_indexOf 28 = .ok (.ireturn, 1) := dk_172 (dk_at dksJ1_indexOf_1 4 rfl rfl)
theorem dJ1_indexOf_29 : decode cJ1_indexOf 29 = .ok (.aload_n 0, 1) := dk_42 (dk_at dksJ1_indexOf_1 5 rfl rfl)
theorem dJ1_indexOf_30 : decode cJ1_indexOf 30 = .ok (.iload_n 1, 1) := dk_27 (dk_at dksJ1_indexOf_1 6 rfl rfl)
theorem dJ1_indexOf_31 : decode cJ1_indexOf 31 = .ok (.iload_n 2, 1) := dk_28 (dk_at dksJ1_indexOf_1 7 rfl rfl)
theorem dJ1_indexOf_32 : decode cJ1_indexOf 32 = .ok (.iload_n 3, 1) := dk_29 (dk_at dksJ1_indexOf_1 8 rfl rfl)
theorem dJ1_indexOf_33 : decode cJ1_indexOf 33 = .ok (.invokestatic 95, 3) := dk_184 0 95 (dk_at dksJ1_indexOf_1 9 rfl rfl)
theorem dJ1_indexOf_36 : decode cJ1_indexOf 36 = .ok (.ireturn, 1) := dk_172 (dk_at dksJ1_indexOf_1 12 rfl rfl)
abbrev cJ1_canEncode : ByteArray := prog_22_method_4_code
def yJ1_canEncode : MethodName := ⟨RJ1, "canEncode", "(I)Z"⟩
def dkwJ1_canEncode_0 : List UInt8 := [26, 155, 0, 14, 26, 17, 0, 255, 163, 0, 7, 4, 167, 0, 4, 3, 172]
abbrev dktJ1_canEncode_0 : List UInt8 := dkwJ1_canEncode_0 ++ []
theorem dksJ1_canEncode_0 : cJ1_canEncode.data.toList.drop 0 = dktJ1_canEncode_0 := by decide +kernel
theorem dJ1_canEncode_0 : decode cJ1_canEncode 0 = .ok (.iload_n 0, 1) := dk_26 (dk_at dksJ1_canEncode_0 0 rfl rfl)
theorem dJ1_canEncode_1 : decode cJ1_canEncode 1 = .ok (.ifCond .lt 14, 3) := dk_155 0 14 (dk_at dksJ1_canEncode_0 1 rfl rfl)
theorem dJ1_canEncode_4 : decode cJ1_canEncode 4 = .ok (.iload_n 0, 1) := dk_26 (dk_at dksJ1_canEncode_0 4 rfl rfl)
theorem dJ1_canEncode_5 : decode cJ1_canEncode 5 = .ok (.sipush 255, 3) := dk_17 0 255 (dk_at dksJ1_canEncode_0 5 rfl rfl)
theorem dJ1_canEncode_8 : decode cJ1_canEncode 8 = .ok (.if_icmp .gt 7, 3) := dk_163 0 7 (dk_at dksJ1_canEncode_0 8 rfl rfl)
theorem dJ1_canEncode_11 : decode cJ1_canEncode 11 = .ok (.iconst 1, 1) := dk_4 (dk_at dksJ1_canEncode_0 11 rfl rfl)
theorem dJ1_canEncode_12 : decode cJ1_canEncode 12 = .ok (.goto 4, 3) := dk_167 0 4 (dk_at dksJ1_canEncode_0 12 rfl rfl)
theorem dJ1_canEncode_15 : decode cJ1_canEncode 15 = .ok (.iconst 0, 1) := dk_3 (dk_at dksJ1_canEncode_0 15 rfl rfl)
theorem dJ1_canEncode_16 : decode cJ1_canEncode 16 = .ok (.ireturn, 1) := dk_172 (dk_at dksJ1_canEncode_0 16 rfl rfl)
abbrev cJ1_indexOfChar : ByteArray := prog_22_method_23_code
def yJ1_indexOfChar : MethodName := ⟨RJ1, "indexOfChar", "([BIII)I"⟩
def dkwJ1_indexOfChar_1 : List UInt8 := [172, 132, 5, 1, 167, 255, 235, 2, 172]
abbrev dktJ1_indexOfChar_1 : List UInt8 := dkwJ1_indexOfChar_1 ++ []
def dkwJ1_indexOfChar_0 : List UInt8 := [27, 145, 54, 4, 28, 54, 5, 21, 5, 29, 162, 0, 21, 42, 21, 5, 51, 21, 4, 160, 0, 6, 21, 5]
abbrev dktJ1_indexOfChar_0 : List UInt8 := dkwJ1_indexOfChar_0 ++ dktJ1_indexOfChar_1
theorem dksJ1_indexOfChar_0 : cJ1_indexOfChar.data.toList.drop 0 = dktJ1_indexOfChar_0 := by decide +kernel
theorem dksJ1_indexOfChar_1 : cJ1_indexOfChar.data.toList.drop 24 = dktJ1_indexOfChar_1 := dk_seg dksJ1_indexOfChar_0 24 rfl rfl
theorem dJ1_indexOfChar_0 : decode cJ1_indexOfChar 0 = .ok (.iload_n 1, 1) := dk_27 (dk_at dksJ1_indexOfChar_0 0 rfl rfl)
theorem dJ1_indexOfChar_1 : decode cJ1_indexOfChar 1 = .ok (.i2b, 1) := dk_145 (dk_at dksJ1_indexOfChar_0 1 rfl rfl)
theorem dJ1_indexOfChar_2 : decode cJ1_indexOfChar 2 = .ok (.istore 4, 2) := dk_54 4 (dk_at dksJ1_indexOfChar_0 2 rfl rfl)
theorem dJ1_indexOfChar_4 : decode cJ1_indexOfChar 4 = .ok (.iload_n 2, 1) := dk_28 (dk_at dksJ1_indexOfChar_0 4 rfl rfl)
theorem dJ1_indexOfChar_5 : decode cJ1_indexOfChar 5 = .ok (.istore 5, 2) := dk_54 5 (dk_at dksJ1_indexOfChar_0 5 rfl rfl)
theorem dJ1_indexOfChar_7 : decode cJ1_indexOfChar 7 = .ok (.iload 5, 2) := dk_21 5 (dk_at dksJ1_indexOfChar_0 7 rfl rfl)
theorem dJ1_indexOfChar_9 : decode cJ1_indexOfChar 9 = .ok (.iload_n 3, 1) := dk_29 (dk_at dksJ1_indexOfChar_0 9 rfl rfl)
theorem dJ1_indexOfChar_10 : decode cJ1_indexOfChar 10 = .ok (.if_icmp .ge 21, 3) := dk_162 0 21 (dk_at dksJ1_indexOfChar_0 10 rfl rfl)
theorem dJ1_indexOfChar_13 : decode cJ1_indexOfChar 13 = .ok (.aload_n 0, 1) := dk_42 (dk_at dksJ1_indexOfChar_0 13 rfl rfl)
theorem dJ1_indexOfChar_14 : decode cJ1_indexOfChar 14 = .ok (.iload 5, 2) := dk_21 5 (dk_at dksJ1_indexOfChar_0 14 rfl rfl)
theorem dJ1_indexOfChar_16 : decode cJ1_indexOfChar 16 = .ok (.baload, 1) := dk_51 (dk_at dksJ1_indexOfChar_0 16 rfl rfl)
theorem dJ1_indexOfChar_17 : decode cJ1_indexOfChar 17 = .ok (.iload 4, 2) := dk_21 4 (dk_at dksJ1_indexOfChar_0 17 rfl rfl)
theorem dJ1_indexOfChar_19 : decode cJ1_indexOfChar 19 = .ok (.if_icmp .ne 6, 3) := dk_160 0 6 (dk_at dksJ1_indexOfChar_0 19 rfl rfl)
theorem dJ1_indexOfChar_22 : decode cJ1_indexOfChar 22 = .ok (.iload 5, 2) := dk_21 5 (dk_at dksJ1_indexOfChar_0 22 rfl rfl)
theorem dJ1_indexOfChar_24 : decode cJ1_indexOfChar 24 = .ok (.ireturn, 1) := dk_172 (dk_at dksJ1_indexOfChar_1 0 rfl rfl)
theorem dJ1_indexOfChar_25 : decode cJ1_indexOfChar 25 = .ok (.iinc 5 1, 3) := dk_132 5 1 (dk_at dksJ1_indexOfChar_1 1 rfl rfl)
theorem dJ1_indexOfChar_28 : decode cJ1_indexOfChar 28 = .ok (.goto (-21), 3) := dk_167 255 235 (dk_at dksJ1_indexOfChar_1 4 rfl rfl)
theorem dJ1_indexOfChar_31 : decode cJ1_indexOfChar 31 = .ok (.iconst (-1), 1) := dk_2 (dk_at dksJ1_indexOfChar_1 7 rfl rfl)
theorem dJ1_indexOfChar_32 : decode cJ1_indexOfChar 32 = .ok (.ireturn, 1) := dk_172 (dk_at dksJ1_indexOfChar_1 8 rfl rfl)
abbrev cJ1_charAt : ByteArray := prog_22_method_2_code
def yJ1_charAt : MethodName := ⟨RJ1, "charAt", "([BI)C"⟩
def dkwJ1_charAt_0 : List UInt8 := [27, 42, 190, 184, 0, 9, 42, 27, 51, 17, 0, 255, 126, 146, 172]
abbrev dktJ1_charAt_0 : List UInt8 := dkwJ1_charAt_0 ++ []
theorem dksJ1_charAt_0 : cJ1_charAt.data.toList.drop 0 = dktJ1_charAt_0 := by decide +kernel
theorem dJ1_charAt_0 : decode cJ1_charAt 0 = .ok (.iload_n 1, 1) := dk_27 (dk_at dksJ1_charAt_0 0 rfl rfl)
theorem dJ1_charAt_1 : decode cJ1_charAt 1 = .ok (.aload_n 0, 1) := dk_42 (dk_at dksJ1_charAt_0 1 rfl rfl)
theorem dJ1_charAt_2 : decode cJ1_charAt 2 = .ok (.arraylength, 1) := dk_190 (dk_at dksJ1_charAt_0 2 rfl rfl)
theorem dJ1_charAt_3 : decode cJ1_charAt 3 = .ok (.invokestatic 9, 3) := dk_184 0 9 (dk_at dksJ1_charAt_0 3 rfl rfl)
theorem dJ1_charAt_6 : decode cJ1_charAt 6 = .ok (.aload_n 0, 1) := dk_42 (dk_at dksJ1_charAt_0 6 rfl rfl)
theorem dJ1_charAt_7 : decode cJ1_charAt 7 = .ok (.iload_n 1, 1) := dk_27 (dk_at dksJ1_charAt_0 7 rfl rfl)
theorem dJ1_charAt_8 : decode cJ1_charAt 8 = .ok (.baload, 1) := dk_51 (dk_at dksJ1_charAt_0 8 rfl rfl)
theorem dJ1_charAt_9 : decode cJ1_charAt 9 = .ok (.sipush 255, 3) := dk_17 0 255 (dk_at dksJ1_charAt_0 9 rfl rfl)
theorem dJ1_charAt_12 : decode cJ1_charAt 12 = .ok (.iand, 1) := dk_126 (dk_at dksJ1_charAt_0 12 rfl rfl)
theorem dJ1_charAt_13 : decode cJ1_charAt 13 = .ok (.i2c, 1) := dk_146 (dk_at dksJ1_charAt_0 13 rfl rfl)
theorem dJ1_charAt_14 : decode cJ1_charAt 14 = .ok (.ireturn, 1) := dk_172 (dk_at dksJ1_charAt_0 14 rfl rfl)
theorem q135 : (Jvm.Cond.initialized "java/lang/StringLatin1") ∈ lw_all := lw_g (lw_at lw_m1 9 rfl) rfl
theorem q515 : (Jvm.Cond.static ({ cls := "java/lang/StringLatin1", name := "indexOf", desc := "([BIII)I" } : Jvm.MethodName)) ∈ lw_all := lw_g (lw_at lw_m2 149 rfl) rfl
theorem q516 : (Jvm.Cond.code ({ cls := "java/lang/StringLatin1", name := "indexOf", desc := "([BIII)I" } : Jvm.MethodName) prog_22_method_22_code (4 : Nat) (Option.some Jvm.ClassFile.FieldType.int)) ∈ lw_all := lw_g (lw_at lw_m2 150 rfl) rfl
theorem q517 : (Jvm.Cond.methodLink "java/lang/StringLatin1" (88 : Nat) ({ cls := "java/lang/StringLatin1", name := "canEncode", desc := "(I)Z" } : Jvm.MethodName)) ∈ lw_all := lw_g (lw_at lw_m2 151 rfl) rfl
theorem q518 : (Jvm.Cond.static ({ cls := "java/lang/StringLatin1", name := "canEncode", desc := "(I)Z" } : Jvm.MethodName)) ∈ lw_all := lw_g (lw_at lw_m2 152 rfl) rfl
theorem q519 : (Jvm.Cond.code ({ cls := "java/lang/StringLatin1", name := "canEncode", desc := "(I)Z" } : Jvm.MethodName) prog_22_method_4_code (1 : Nat) (Option.some Jvm.ClassFile.FieldType.boolean)) ∈ lw_all := lw_g (lw_at lw_m2 153 rfl) rfl
theorem q520 : (Jvm.Cond.methodLink "java/lang/StringLatin1" (92 : Nat) ({ cls := "java/lang/Math", name := "max", desc := "(II)I" } : Jvm.MethodName)) ∈ lw_all := lw_g (lw_at lw_m2 154 rfl) rfl
theorem q523 : (Jvm.Cond.methodLink "java/lang/StringLatin1" (38 : Nat) ({ cls := "java/lang/Math", name := "min", desc := "(II)I" } : Jvm.MethodName)) ∈ lw_all := lw_g (lw_at lw_m2 157 rfl) rfl
theorem q526 : (Jvm.Cond.methodLink "java/lang/StringLatin1" (95 : Nat) ({ cls := "java/lang/StringLatin1", name := "indexOfChar", desc := "([BIII)I" } : Jvm.MethodName)) ∈ lw_all := lw_g (lw_at lw_m2 160 rfl) rfl
theorem q527 : (Jvm.Cond.static ({ cls := "java/lang/StringLatin1", name := "indexOfChar", desc := "([BIII)I" } : Jvm.MethodName)) ∈ lw_all := lw_g (lw_at lw_m2 161 rfl) rfl
theorem q528 : (Jvm.Cond.code ({ cls := "java/lang/StringLatin1", name := "indexOfChar", desc := "([BIII)I" } : Jvm.MethodName) prog_22_method_23_code (6 : Nat) (Option.some Jvm.ClassFile.FieldType.int)) ∈ lw_all := lw_g (lw_at lw_m2 162 rfl) rfl
theorem q593 : (Jvm.Cond.static ({ cls := "java/lang/StringLatin1", name := "charAt", desc := "([BI)C" } : Jvm.MethodName)) ∈ lw_all := lw_g (lw_at lw_m2 227 rfl) rfl
theorem q594 : (Jvm.Cond.code ({ cls := "java/lang/StringLatin1", name := "charAt", desc := "([BI)C" } : Jvm.MethodName) prog_22_method_2_code (2 : Nat) (Option.some Jvm.ClassFile.FieldType.char)) ∈ lw_all := lw_g (lw_at lw_m2 228 rfl) rfl
theorem q595 : (Jvm.Cond.methodLink "java/lang/StringLatin1" (9 : Nat) ({ cls := "java/lang/String", name := "checkIndex", desc := "(II)V" } : Jvm.MethodName)) ∈ lw_all := lw_g (lw_at lw_m2 229 rfl) rfl
/-! java/lang/NegativeArraySizeException -/
set_option maxRecDepth 100000
def RJ10 : String := "java/lang/NegativeArraySizeException"
def TJ10 : u_T := fun k => match k with
  | 0 => ("java/lang/Throwable", "backtrace", "Ljava/lang/Object;", false)
  | 1 => ("java/lang/Throwable", "detailMessage", "Ljava/lang/String;", false)
  | 2 => ("java/lang/Throwable", "cause", "Ljava/lang/Throwable;", false)
  | 3 => ("java/lang/Throwable", "stackTrace", "[Ljava/lang/StackTraceElement;", false)
  | 4 => ("java/lang/Throwable", "depth", "I", false)
  | _ => ("java/lang/Throwable", "suppressedExceptions", "Ljava/util/List;", false)
def tyJ10 : Nat → FieldType := fun k => match k with
  | 0 => .object "java/lang/Object"
  | 1 => .object "java/lang/String"
  | 2 => .object "java/lang/Throwable"
  | 3 => .array (.object "java/lang/StackTraceElement")
  | 4 => .int
  | _ => .object "java/util/List"
abbrev wsJ100 : List Cond := u_ws RJ10 TJ10 6
theorem nmJ10 : ∀ a, a < 6 → ∀ b, b < 6 → a ≠ b → (TJ10 a).2.1 ≠ (TJ10 b).2.1 := by decide +kernel
theorem tyJ10_ok : ∀ k, k < 6 → parseFieldDescriptor (TJ10 k).2.2.1 = some (tyJ10 k) := by decide +kernel
abbrev cJ10_init : ByteArray := prog_18_method_2_code
def yJ10_init : MethodName := ⟨RJ10, "<init>", "(Ljava/lang/String;)V"⟩
def dkwJ10_init_0 : List UInt8 := [42, 43, 183, 0, 7, 177]
abbrev dktJ10_init_0 : List UInt8 := dkwJ10_init_0 ++ []
theorem dksJ10_init_0 : cJ10_init.data.toList.drop 0 = dktJ10_init_0 := by decide +kernel
theorem dJ10_init_0 : decode cJ10_init 0 = .ok (.aload_n 0, 1) := dk_42 (dk_at dksJ10_init_0 0 rfl rfl)
theorem dJ10_init_1 : decode cJ10_init 1 = .ok (.aload_n 1, 1) := dk_43 (dk_at dksJ10_init_0 1 rfl rfl)
theorem dJ10_init_2 : decode cJ10_init 2 = .ok (.invokespecial 7, 3) := dk_183 0 7 (dk_at dksJ10_init_0 2 rfl rfl)
theorem dJ10_init_5 : decode cJ10_init 5 = .ok (.return_, 1) := dk_177 (dk_at dksJ10_init_0 5 rfl rfl)
theorem q148 : (Jvm.Cond.initialized "java/lang/NegativeArraySizeException") ∈ lw_all := lw_g (lw_at lw_m1 22 rfl) rfl
theorem q1223 : (Jvm.Cond.instantiable "java/lang/NegativeArraySizeException" (6 : Nat)) ∈ lw_all := lw_g (lw_at lw_m5 137 rfl) rfl
theorem q1224 : (Jvm.Cond.instanceMethod ({ cls := "java/lang/NegativeArraySizeException", name := "<init>", desc := "(Ljava/lang/String;)V" } : Jvm.MethodName)) ∈ lw_all := lw_g (lw_at lw_m5 138 rfl) rfl
theorem q1225 : (Jvm.Cond.code ({ cls := "java/lang/NegativeArraySizeException", name := "<init>", desc := "(Ljava/lang/String;)V" } : Jvm.MethodName) prog_18_method_2_code (2 : Nat) (Option.none : Option Jvm.ClassFile.FieldType)) ∈ lw_all := lw_g (lw_at lw_m5 139 rfl) rfl
theorem q1226 : (Jvm.Cond.methodLink "java/lang/NegativeArraySizeException" (7 : Nat) ({ cls := "java/lang/RuntimeException", name := "<init>", desc := "(Ljava/lang/String;)V" } : Jvm.MethodName)) ∈ lw_all := lw_g (lw_at lw_m5 140 rfl) rfl
theorem q1244 : (Jvm.Cond.selects "java/lang/NegativeArraySizeException" ({ cls := "java/lang/Throwable", name := "fillInStackTrace", desc := "()Ljava/lang/Throwable;" } : Jvm.MethodName) ({ cls := "java/lang/Throwable", name := "fillInStackTrace", desc := "()Ljava/lang/Throwable;" } : Jvm.MethodName)) ∈ lw_all := lw_g (lw_at lw_m5 158 rfl) rfl
theorem q1270 : (Jvm.Cond.lays "java/lang/NegativeArraySizeException" "java/lang/Throwable" "backtrace" "Ljava/lang/Object;") ∈ lw_all := lw_g (lw_at lw_m5 184 rfl) rfl
theorem q1272 : (Jvm.Cond.lays "java/lang/NegativeArraySizeException" "java/lang/Throwable" "detailMessage" "Ljava/lang/String;") ∈ lw_all := lw_g (lw_at lw_m5 186 rfl) rfl
theorem q1274 : (Jvm.Cond.lays "java/lang/NegativeArraySizeException" "java/lang/Throwable" "cause" "Ljava/lang/Throwable;") ∈ lw_all := lw_g (lw_at lw_m5 188 rfl) rfl
theorem q1276 : (Jvm.Cond.lays "java/lang/NegativeArraySizeException" "java/lang/Throwable" "stackTrace" "[Ljava/lang/StackTraceElement;") ∈ lw_all := lw_g (lw_at lw_m5 190 rfl) rfl
theorem q1278 : (Jvm.Cond.lays "java/lang/NegativeArraySizeException" "java/lang/Throwable" "depth" "I") ∈ lw_all := lw_g (lw_at lw_m5 192 rfl) rfl
theorem q1280 : (Jvm.Cond.lays "java/lang/NegativeArraySizeException" "java/lang/Throwable" "suppressedExceptions" "Ljava/util/List;") ∈ lw_all := lw_g (lw_at lw_m5 194 rfl) rfl
theorem q1282 : (Jvm.Cond.superclass "java/lang/NegativeArraySizeException" "java/lang/RuntimeException") ∈ lw_all := lw_g (lw_at lw_m5 196 rfl) rfl
theorem q1283 : (Jvm.Cond.castable "java/lang/NegativeArraySizeException" "java/lang/NegativeArraySizeException") ∈ lw_tbl := lw_at lw_m5 197 rfl
theorem q1290 : (Jvm.Cond.selects "java/lang/NegativeArraySizeException" ({ cls := "java/lang/Throwable", name := "fillInStackTrace", desc := "(I)Ljava/lang/Throwable;" } : Jvm.MethodName) ({ cls := "java/lang/Throwable", name := "fillInStackTrace", desc := "(I)Ljava/lang/Throwable;" } : Jvm.MethodName)) ∈ lw_all := lw_g (lw_at lw_m5 204 rfl) rfl
theorem in_J10 : ∀ w ∈ wsJ100, w ∈ lw_all := lw_in wsJ100 [1270, 1272, 1274, 1276, 1278, 1280] (by decide +kernel) (by decide +kernel)
/-! java/lang/NullPointerException -/
set_option maxRecDepth 100000
def RJ11 : String := "java/lang/NullPointerException"
def TJ11 : u_T := fun k => match k with
  | 0 => ("java/lang/Throwable", "backtrace", "Ljava/lang/Object;", false)
  | 1 => ("java/lang/Throwable", "detailMessage", "Ljava/lang/String;", false)
  | 2 => ("java/lang/Throwable", "cause", "Ljava/lang/Throwable;", false)
  | 3 => ("java/lang/Throwable", "stackTrace", "[Ljava/lang/StackTraceElement;", false)
  | 4 => ("java/lang/Throwable", "depth", "I", false)
  | 5 => ("java/lang/Throwable", "suppressedExceptions", "Ljava/util/List;", false)
  | 6 => ("java/lang/NullPointerException", "extendedMessageState", "I", false)
  | _ => ("java/lang/NullPointerException", "extendedMessage", "Ljava/lang/String;", false)
def tyJ11 : Nat → FieldType := fun k => match k with
  | 0 => .object "java/lang/Object"
  | 1 => .object "java/lang/String"
  | 2 => .object "java/lang/Throwable"
  | 3 => .array (.object "java/lang/StackTraceElement")
  | 4 => .int
  | 5 => .object "java/util/List"
  | 6 => .int
  | _ => .object "java/lang/String"
abbrev wsJ110 : List Cond := u_ws RJ11 TJ11 8
theorem nmJ11 : ∀ a, a < 8 → ∀ b, b < 8 → a ≠ b → (TJ11 a).2.1 ≠ (TJ11 b).2.1 := by decide +kernel
theorem tyJ11_ok : ∀ k, k < 8 → parseFieldDescriptor (TJ11 k).2.2.1 = some (tyJ11 k) := by decide +kernel
abbrev cJ11_init : ByteArray := prog_19_method_1_code
def yJ11_init : MethodName := ⟨RJ11, "<init>", "()V"⟩
theorem dJ11_init_0 : decode cJ11_init 0 = .ok (.aload_n 0, 1) := by decide +kernel
theorem dJ11_init_1 : decode cJ11_init 1 = .ok (.invokespecial 1, 3) := by decide +kernel
theorem dJ11_init_4 : decode cJ11_init 4 = .ok (.return_, 1) := by decide +kernel
theorem q149 : (Jvm.Cond.initialized "java/lang/NullPointerException") ∈ lw_all := lw_g (lw_at lw_m1 23 rfl) rfl
theorem q1245 : (Jvm.Cond.selects "java/lang/NullPointerException" ({ cls := "java/lang/Throwable", name := "fillInStackTrace", desc := "()Ljava/lang/Throwable;" } : Jvm.MethodName) ({ cls := "java/lang/NullPointerException", name := "fillInStackTrace", desc := "()Ljava/lang/Throwable;" } : Jvm.MethodName)) ∈ lw_all := lw_g (lw_at lw_m5 159 rfl) rfl
theorem q1246 : (Jvm.Cond.instanceMethod ({ cls := "java/lang/NullPointerException", name := "fillInStackTrace", desc := "()Ljava/lang/Throwable;" } : Jvm.MethodName)) ∈ lw_all := lw_g (lw_at lw_m5 160 rfl) rfl
theorem q1247 : (Jvm.Cond.codeSync ({ cls := "java/lang/NullPointerException", name := "fillInStackTrace", desc := "()Ljava/lang/Throwable;" } : Jvm.MethodName) prog_19_method_3_code (1 : Nat) (Option.some (Jvm.ClassFile.FieldType.object "java/lang/Throwable"))) ∈ lw_all := lw_g (lw_at lw_m5 161 rfl) rfl
theorem q1248 : (Jvm.Cond.methodLink "java/lang/NullPointerException" (16 : Nat) ({ cls := "java/lang/NullPointerException", name := "getExtendedNPEMessage", desc := "()Ljava/lang/String;" } : Jvm.MethodName)) ∈ lw_all := lw_g (lw_at lw_m5 162 rfl) rfl
theorem q1249 : (Jvm.Cond.privateMethod ({ cls := "java/lang/NullPointerException", name := "getExtendedNPEMessage", desc := "()Ljava/lang/String;" } : Jvm.MethodName)) ∈ lw_tbl := lw_at lw_m5 163 rfl
theorem q1250 : (Jvm.Cond.instanceMethod ({ cls := "java/lang/NullPointerException", name := "getExtendedNPEMessage", desc := "()Ljava/lang/String;" } : Jvm.MethodName)) ∈ lw_all := lw_g (lw_at lw_m5 164 rfl) rfl
theorem q1251 : (Jvm.Cond.instantiable "java/lang/NullPointerException" (8 : Nat)) ∈ lw_all := lw_g (lw_at lw_m5 165 rfl) rfl
theorem q1252 : (Jvm.Cond.native ({ cls := "java/lang/NullPointerException", name := "getExtendedNPEMessage", desc := "()Ljava/lang/String;" } : Jvm.MethodName)) ∈ lw_all := lw_g (lw_at lw_m5 166 rfl) rfl
theorem q1253 : (Jvm.Cond.methodLink "java/lang/NullPointerException" (24 : Nat) ({ cls := "java/lang/RuntimeException", name := "fillInStackTrace", desc := "()Ljava/lang/Throwable;" } : Jvm.MethodName)) ∈ lw_all := lw_g (lw_at lw_m5 167 rfl) rfl
theorem q1256 : (Jvm.Cond.superclass "java/lang/NullPointerException" "java/lang/RuntimeException") ∈ lw_all := lw_g (lw_at lw_m5 170 rfl) rfl
theorem q1311 : (Jvm.Cond.instanceMethod ({ cls := "java/lang/NullPointerException", name := "<init>", desc := "()V" } : Jvm.MethodName)) ∈ lw_all := lw_g (lw_at lw_m5 225 rfl) rfl
theorem q1312 : (Jvm.Cond.code ({ cls := "java/lang/NullPointerException", name := "<init>", desc := "()V" } : Jvm.MethodName) prog_19_method_1_code (1 : Nat) (Option.none : Option Jvm.ClassFile.FieldType)) ∈ lw_all := lw_g (lw_at lw_m5 226 rfl) rfl
theorem q1313 : (Jvm.Cond.methodLink "java/lang/NullPointerException" (1 : Nat) ({ cls := "java/lang/RuntimeException", name := "<init>", desc := "()V" } : Jvm.MethodName)) ∈ lw_all := lw_g (lw_at lw_m5 227 rfl) rfl
theorem q1320 : (Jvm.Cond.fieldLink "java/lang/NullPointerException" (10 : Nat) "java/lang/NullPointerException" "extendedMessageState" "I") ∈ lw_all := lw_g (lw_at lw_m5 234 rfl) rfl
theorem q1321 : (Jvm.Cond.fieldLink "java/lang/NullPointerException" (20 : Nat) "java/lang/NullPointerException" "extendedMessage" "Ljava/lang/String;") ∈ lw_all := lw_g (lw_at lw_m5 235 rfl) rfl
theorem q1322 : (Jvm.Cond.lays "java/lang/NullPointerException" "java/lang/NullPointerException" "extendedMessageState" "I") ∈ lw_all := lw_g (lw_at lw_m5 236 rfl) rfl
theorem q1323 : (Jvm.Cond.soleField "java/lang/NullPointerException" "extendedMessageState") ∈ lw_all := lw_g (lw_at lw_m5 237 rfl) rfl
theorem q1324 : (Jvm.Cond.lays "java/lang/NullPointerException" "java/lang/NullPointerException" "extendedMessage" "Ljava/lang/String;") ∈ lw_all := lw_g (lw_at lw_m5 238 rfl) rfl
theorem q1325 : (Jvm.Cond.soleField "java/lang/NullPointerException" "extendedMessage") ∈ lw_all := lw_g (lw_at lw_m5 239 rfl) rfl
theorem q1326 : (Jvm.Cond.lays "java/lang/NullPointerException" "java/lang/Throwable" "backtrace" "Ljava/lang/Object;") ∈ lw_all := lw_g (lw_at lw_m6 0 rfl) rfl
theorem q1327 : (Jvm.Cond.lays "java/lang/NullPointerException" "java/lang/Throwable" "detailMessage" "Ljava/lang/String;") ∈ lw_all := lw_g (lw_at lw_m6 1 rfl) rfl
theorem q1328 : (Jvm.Cond.lays "java/lang/NullPointerException" "java/lang/Throwable" "cause" "Ljava/lang/Throwable;") ∈ lw_all := lw_g (lw_at lw_m6 2 rfl) rfl
theorem q1329 : (Jvm.Cond.lays "java/lang/NullPointerException" "java/lang/Throwable" "stackTrace" "[Ljava/lang/StackTraceElement;") ∈ lw_all := lw_g (lw_at lw_m6 3 rfl) rfl
theorem q1330 : (Jvm.Cond.lays "java/lang/NullPointerException" "java/lang/Throwable" "depth" "I") ∈ lw_all := lw_g (lw_at lw_m6 4 rfl) rfl
theorem q1331 : (Jvm.Cond.lays "java/lang/NullPointerException" "java/lang/Throwable" "suppressedExceptions" "Ljava/util/List;") ∈ lw_all := lw_g (lw_at lw_m6 5 rfl) rfl
theorem q1332 : (Jvm.Cond.castable "java/lang/NullPointerException" "java/lang/NullPointerException") ∈ lw_tbl := lw_at lw_m6 6 rfl
theorem q1333 : (Jvm.Cond.selects "java/lang/NullPointerException" ({ cls := "java/lang/Throwable", name := "fillInStackTrace", desc := "(I)Ljava/lang/Throwable;" } : Jvm.MethodName) ({ cls := "java/lang/Throwable", name := "fillInStackTrace", desc := "(I)Ljava/lang/Throwable;" } : Jvm.MethodName)) ∈ lw_all := lw_g (lw_at lw_m6 7 rfl) rfl
theorem in_J11 : ∀ w ∈ wsJ110, w ∈ lw_all := lw_in wsJ110 [1326, 1327, 1328, 1329, 1330, 1331, 1322, 1324] (by decide +kernel) (by decide +kernel)
/-! java/lang/IndexOutOfBoundsException -/
set_option maxRecDepth 100000
def RJ12 : String := "java/lang/IndexOutOfBoundsException"
abbrev cJ12_init : ByteArray := prog_15_method_2_code
def yJ12_init : MethodName := ⟨RJ12, "<init>", "(Ljava/lang/String;)V"⟩
def dkwJ12_init_0 : List UInt8 := [42, 43, 183, 0, 7, 177]
abbrev dktJ12_init_0 : List UInt8 := dkwJ12_init_0 ++ []
theorem dksJ12_init_0 : cJ12_init.data.toList.drop 0 = dktJ12_init_0 := by decide +kernel
theorem dJ12_init_0 : decode cJ12_init 0 = .ok (.aload_n 0, 1) := dk_42 (dk_at dksJ12_init_0 0 rfl rfl)
theorem dJ12_init_1 : decode cJ12_init 1 = .ok (.aload_n 1, 1) := dk_43 (dk_at dksJ12_init_0 1 rfl rfl)
theorem dJ12_init_2 : decode cJ12_init 2 = .ok (.invokespecial 7, 3) := dk_183 0 7 (dk_at dksJ12_init_0 2 rfl rfl)
theorem dJ12_init_5 : decode cJ12_init 5 = .ok (.return_, 1) := dk_177 (dk_at dksJ12_init_0 5 rfl rfl)
theorem q150 : (Jvm.Cond.initialized "java/lang/IndexOutOfBoundsException") ∈ lw_all := lw_g (lw_at lw_m1 24 rfl) rfl
theorem q1340 : (Jvm.Cond.instanceMethod ({ cls := "java/lang/IndexOutOfBoundsException", name := "<init>", desc := "(Ljava/lang/String;)V" } : Jvm.MethodName)) ∈ lw_all := lw_g (lw_at lw_m6 14 rfl) rfl
theorem q1341 : (Jvm.Cond.code ({ cls := "java/lang/IndexOutOfBoundsException", name := "<init>", desc := "(Ljava/lang/String;)V" } : Jvm.MethodName) prog_15_method_2_code (2 : Nat) (Option.none : Option Jvm.ClassFile.FieldType)) ∈ lw_all := lw_g (lw_at lw_m6 15 rfl) rfl
theorem q1342 : (Jvm.Cond.methodLink "java/lang/IndexOutOfBoundsException" (7 : Nat) ({ cls := "java/lang/RuntimeException", name := "<init>", desc := "(Ljava/lang/String;)V" } : Jvm.MethodName)) ∈ lw_all := lw_g (lw_at lw_m6 16 rfl) rfl
theorem q1351 : (Jvm.Cond.declares ({ cls := "java/lang/IndexOutOfBoundsException", name := "<init>", desc := "()V" } : Jvm.MethodName)) ∈ lw_tbl := lw_at lw_m6 25 rfl
theorem q1352 : (Jvm.Cond.declares ({ cls := "java/lang/IndexOutOfBoundsException", name := "<init>", desc := "(Ljava/lang/String;)V" } : Jvm.MethodName)) ∈ lw_tbl := lw_at lw_m6 26 rfl
/-! java/lang/ArrayIndexOutOfBoundsException -/
set_option maxRecDepth 100000
def RJ13 : String := "java/lang/ArrayIndexOutOfBoundsException"
def TJ13 : u_T := fun k => match k with
  | 0 => ("java/lang/Throwable", "backtrace", "Ljava/lang/Object;", false)
  | 1 => ("java/lang/Throwable", "detailMessage", "Ljava/lang/String;", false)
  | 2 => ("java/lang/Throwable", "cause", "Ljava/lang/Throwable;", false)
  | 3 => ("java/lang/Throwable", "stackTrace", "[Ljava/lang/StackTraceElement;", false)
  | 4 => ("java/lang/Throwable", "depth", "I", false)
  | _ => ("java/lang/Throwable", "suppressedExceptions", "Ljava/util/List;", false)
def tyJ13 : Nat → FieldType := fun k => match k with
  | 0 => .object "java/lang/Object"
  | 1 => .object "java/lang/String"
  | 2 => .object "java/lang/Throwable"
  | 3 => .array (.object "java/lang/StackTraceElement")
  | 4 => .int
  | _ => .object "java/util/List"
abbrev wsJ130 : List Cond := u_ws RJ13 TJ13 6
theorem nmJ13 : ∀ a, a < 6 → ∀ b, b < 6 → a ≠ b → (TJ13 a).2.1 ≠ (TJ13 b).2.1 := by decide +kernel
theorem tyJ13_ok : ∀ k, k < 6 → parseFieldDescriptor (TJ13 k).2.2.1 = some (tyJ13 k) := by decide +kernel
abbrev cJ13_init : ByteArray := prog_12_method_2_code
def yJ13_init : MethodName := ⟨RJ13, "<init>", "(Ljava/lang/String;)V"⟩
def dkwJ13_init_0 : List UInt8 := [42, 43, 183, 0, 7, 177]
abbrev dktJ13_init_0 : List UInt8 := dkwJ13_init_0 ++ []
theorem dksJ13_init_0 : cJ13_init.data.toList.drop 0 = dktJ13_init_0 := by decide +kernel
theorem dJ13_init_0 : decode cJ13_init 0 = .ok (.aload_n 0, 1) := dk_42 (dk_at dksJ13_init_0 0 rfl rfl)
theorem dJ13_init_1 : decode cJ13_init 1 = .ok (.aload_n 1, 1) := dk_43 (dk_at dksJ13_init_0 1 rfl rfl)
theorem dJ13_init_2 : decode cJ13_init 2 = .ok (.invokespecial 7, 3) := dk_183 0 7 (dk_at dksJ13_init_0 2 rfl rfl)
theorem dJ13_init_5 : decode cJ13_init 5 = .ok (.return_, 1) := dk_177 (dk_at dksJ13_init_0 5 rfl rfl)
theorem q151 : (Jvm.Cond.initialized "java/lang/ArrayIndexOutOfBoundsException") ∈ lw_all := lw_g (lw_at lw_m1 25 rfl) rfl
theorem q1243 : (Jvm.Cond.selects "java/lang/ArrayIndexOutOfBoundsException" ({ cls := "java/lang/Throwable", name := "fillInStackTrace", desc := "()Ljava/lang/Throwable;" } : Jvm.MethodName) ({ cls := "java/lang/Throwable", name := "fillInStackTrace", desc := "()Ljava/lang/Throwable;" } : Jvm.MethodName)) ∈ lw_all := lw_g (lw_at lw_m5 157 rfl) rfl
theorem q1336 : (Jvm.Cond.instantiable "java/lang/ArrayIndexOutOfBoundsException" (6 : Nat)) ∈ lw_all := lw_g (lw_at lw_m6 10 rfl) rfl
theorem q1337 : (Jvm.Cond.instanceMethod ({ cls := "java/lang/ArrayIndexOutOfBoundsException", name := "<init>", desc := "(Ljava/lang/String;)V" } : Jvm.MethodName)) ∈ lw_all := lw_g (lw_at lw_m6 11 rfl) rfl
theorem q1338 : (Jvm.Cond.code ({ cls := "java/lang/ArrayIndexOutOfBoundsException", name := "<init>", desc := "(Ljava/lang/String;)V" } : Jvm.MethodName) prog_12_method_2_code (2 : Nat) (Option.none : Option Jvm.ClassFile.FieldType)) ∈ lw_all := lw_g (lw_at lw_m6 12 rfl) rfl
theorem q1339 : (Jvm.Cond.methodLink "java/lang/ArrayIndexOutOfBoundsException" (7 : Nat) ({ cls := "java/lang/IndexOutOfBoundsException", name := "<init>", desc := "(Ljava/lang/String;)V" } : Jvm.MethodName)) ∈ lw_all := lw_g (lw_at lw_m6 13 rfl) rfl
theorem q1343 : (Jvm.Cond.lays "java/lang/ArrayIndexOutOfBoundsException" "java/lang/Throwable" "backtrace" "Ljava/lang/Object;") ∈ lw_all := lw_g (lw_at lw_m6 17 rfl) rfl
theorem q1344 : (Jvm.Cond.lays "java/lang/ArrayIndexOutOfBoundsException" "java/lang/Throwable" "detailMessage" "Ljava/lang/String;") ∈ lw_all := lw_g (lw_at lw_m6 18 rfl) rfl
theorem q1345 : (Jvm.Cond.lays "java/lang/ArrayIndexOutOfBoundsException" "java/lang/Throwable" "cause" "Ljava/lang/Throwable;") ∈ lw_all := lw_g (lw_at lw_m6 19 rfl) rfl
theorem q1346 : (Jvm.Cond.lays "java/lang/ArrayIndexOutOfBoundsException" "java/lang/Throwable" "stackTrace" "[Ljava/lang/StackTraceElement;") ∈ lw_all := lw_g (lw_at lw_m6 20 rfl) rfl
theorem q1347 : (Jvm.Cond.lays "java/lang/ArrayIndexOutOfBoundsException" "java/lang/Throwable" "depth" "I") ∈ lw_all := lw_g (lw_at lw_m6 21 rfl) rfl
theorem q1348 : (Jvm.Cond.lays "java/lang/ArrayIndexOutOfBoundsException" "java/lang/Throwable" "suppressedExceptions" "Ljava/util/List;") ∈ lw_all := lw_g (lw_at lw_m6 22 rfl) rfl
theorem q1349 : (Jvm.Cond.superclass "java/lang/ArrayIndexOutOfBoundsException" "java/lang/IndexOutOfBoundsException") ∈ lw_all := lw_g (lw_at lw_m6 23 rfl) rfl
theorem q1350 : (Jvm.Cond.castable "java/lang/ArrayIndexOutOfBoundsException" "java/lang/ArrayIndexOutOfBoundsException") ∈ lw_tbl := lw_at lw_m6 24 rfl
theorem q1353 : (Jvm.Cond.selects "java/lang/ArrayIndexOutOfBoundsException" ({ cls := "java/lang/Throwable", name := "fillInStackTrace", desc := "(I)Ljava/lang/Throwable;" } : Jvm.MethodName) ({ cls := "java/lang/Throwable", name := "fillInStackTrace", desc := "(I)Ljava/lang/Throwable;" } : Jvm.MethodName)) ∈ lw_all := lw_g (lw_at lw_m6 27 rfl) rfl
theorem in_J13 : ∀ w ∈ wsJ130, w ∈ lw_all := lw_in wsJ130 [1343, 1344, 1345, 1346, 1347, 1348] (by decide +kernel) (by decide +kernel)
/-! java/lang/Object -/
set_option maxRecDepth 100000
def RJ14 : String := "java/lang/Object"
abbrev cJ14_init : ByteArray := object_method_1_code
def yJ14_init : MethodName := ⟨RJ14, "<init>", "()V"⟩
theorem dJ14_init_0 : decode cJ14_init 0 = .ok (.return_, 1) := by decide +kernel
theorem q158 : (Jvm.Cond.instanceMethod ({ cls := "java/lang/Object", name := "<init>", desc := "()V" } : Jvm.MethodName)) ∈ lw_all := lw_g (lw_at lw_m1 32 rfl) rfl
theorem q159 : (Jvm.Cond.code ({ cls := "java/lang/Object", name := "<init>", desc := "()V" } : Jvm.MethodName) object_method_1_code (1 : Nat) (Option.none : Option Jvm.ClassFile.FieldType)) ∈ lw_all := lw_g (lw_at lw_m1 33 rfl) rfl
/-! java/lang/Math -/
set_option maxRecDepth 100000
def RJ2 : String := "java/lang/Math"
abbrev cJ2_max : ByteArray := prog_17_method_65_code
def yJ2_max : MethodName := ⟨RJ2, "max", "(II)I"⟩
def dkwJ2_max_0 : List UInt8 := [26, 27, 161, 0, 7, 26, 167, 0, 4, 27, 172]
abbrev dktJ2_max_0 : List UInt8 := dkwJ2_max_0 ++ []
theorem dksJ2_max_0 : cJ2_max.data.toList.drop 0 = dktJ2_max_0 := by decide +kernel
theorem dJ2_max_0 : decode cJ2_max 0 = .ok (.iload_n 0, 1) := dk_26 (dk_at dksJ2_max_0 0 rfl rfl)
theorem dJ2_max_1 : decode cJ2_max 1 = .ok (.iload_n 1, 1) := dk_27 (dk_at dksJ2_max_0 1 rfl rfl)
theorem dJ2_max_2 : decode cJ2_max 2 = .ok (.if_icmp .lt 7, 3) := dk_161 0 7 (dk_at dksJ2_max_0 2 rfl rfl)
theorem dJ2_max_5 : decode cJ2_max 5 = .ok (.iload_n 0, 1) := dk_26 (dk_at dksJ2_max_0 5 rfl rfl)
theorem dJ2_max_6 : decode cJ2_max 6 = .ok (.goto 4, 3) := dk_167 0 4 (dk_at dksJ2_max_0 6 rfl rfl)
theorem dJ2_max_9 : decode cJ2_max 9 = .ok (.iload_n 1, 1) := dk_27 (dk_at dksJ2_max_0 9 rfl rfl)
theorem dJ2_max_10 : decode cJ2_max 10 = .ok (.ireturn, 1) := dk_172 (dk_at dksJ2_max_0 10 rfl rfl)
abbrev cJ2_min : ByteArray := prog_17_method_69_code
def yJ2_min : MethodName := ⟨RJ2, "min", "(II)I"⟩
def dkwJ2_min_0 : List UInt8 := [26, 27, 163, 0, 7, 26, 167, 0, 4, 27, 172]
abbrev dktJ2_min_0 : List UInt8 := dkwJ2_min_0 ++ []
theorem dksJ2_min_0 : cJ2_min.data.toList.drop 0 = dktJ2_min_0 := by decide +kernel
theorem dJ2_min_0 : decode cJ2_min 0 = .ok (.iload_n 0, 1) := dk_26 (dk_at dksJ2_min_0 0 rfl rfl)
theorem dJ2_min_1 : decode cJ2_min 1 = .ok (.iload_n 1, 1) := dk_27 (dk_at dksJ2_min_0 1 rfl rfl)
theorem dJ2_min_2 : decode cJ2_min 2 = .ok (.if_icmp .gt 7, 3) := dk_163 0 7 (dk_at dksJ2_min_0 2 rfl rfl)
theorem dJ2_min_5 : decode cJ2_min 5 = .ok (.iload_n 0, 1) := dk_26 (dk_at dksJ2_min_0 5 rfl rfl)
theorem dJ2_min_6 : decode cJ2_min 6 = .ok (.goto 4, 3) := dk_167 0 4 (dk_at dksJ2_min_0 6 rfl rfl)
theorem dJ2_min_9 : decode cJ2_min 9 = .ok (.iload_n 1, 1) := dk_27 (dk_at dksJ2_min_0 9 rfl rfl)
theorem dJ2_min_10 : decode cJ2_min 10 = .ok (.ireturn, 1) := dk_172 (dk_at dksJ2_min_0 10 rfl rfl)
abbrev cJ2_min_2 : ByteArray := prog_17_method_70_code
def yJ2_min_2 : MethodName := ⟨RJ2, "min", "(JJ)J"⟩
def dkwJ2_min_2_0 : List UInt8 := [30, 32, 148, 157, 0, 7, 30, 167, 0, 4, 32, 173]
abbrev dktJ2_min_2_0 : List UInt8 := dkwJ2_min_2_0 ++ []
theorem dksJ2_min_2_0 : cJ2_min_2.data.toList.drop 0 = dktJ2_min_2_0 := by decide +kernel
theorem dJ2_min_2_0 : decode cJ2_min_2 0 = .ok (.lload_n 0, 1) := dk_30 (dk_at dksJ2_min_2_0 0 rfl rfl)
theorem dJ2_min_2_1 : decode cJ2_min_2 1 = .ok (.lload_n 2, 1) := dk_32 (dk_at dksJ2_min_2_0 1 rfl rfl)
theorem dJ2_min_2_2 : decode cJ2_min_2 2 = .ok (.lcmp, 1) := dk_148 (dk_at dksJ2_min_2_0 2 rfl rfl)
theorem dJ2_min_2_3 : decode cJ2_min_2 3 = .ok (.ifCond .gt 7, 3) := dk_157 0 7 (dk_at dksJ2_min_2_0 3 rfl rfl)
theorem dJ2_min_2_6 : decode cJ2_min_2 6 = .ok (.lload_n 0, 1) := dk_30 (dk_at dksJ2_min_2_0 6 rfl rfl)
theorem dJ2_min_2_7 : decode cJ2_min_2 7 = .ok (.goto 4, 3) := dk_167 0 4 (dk_at dksJ2_min_2_0 7 rfl rfl)
theorem dJ2_min_2_10 : decode cJ2_min_2 10 = .ok (.lload_n 2, 1) := dk_32 (dk_at dksJ2_min_2_0 10 rfl rfl)
theorem dJ2_min_2_11 : decode cJ2_min_2 11 = .ok (.lreturn, 1) := dk_173 (dk_at dksJ2_min_2_0 11 rfl rfl)
abbrev cJ2_max_2 : ByteArray := prog_17_method_66_code
def yJ2_max_2 : MethodName := ⟨RJ2, "max", "(JJ)J"⟩
def dkwJ2_max_2_0 : List UInt8 := [30, 32, 148, 155, 0, 7, 30, 167, 0, 4, 32, 173]
abbrev dktJ2_max_2_0 : List UInt8 := dkwJ2_max_2_0 ++ []
theorem dksJ2_max_2_0 : cJ2_max_2.data.toList.drop 0 = dktJ2_max_2_0 := by decide +kernel
theorem dJ2_max_2_0 : decode cJ2_max_2 0 = .ok (.lload_n 0, 1) := dk_30 (dk_at dksJ2_max_2_0 0 rfl rfl)
theorem dJ2_max_2_1 : decode cJ2_max_2 1 = .ok (.lload_n 2, 1) := dk_32 (dk_at dksJ2_max_2_0 1 rfl rfl)
theorem dJ2_max_2_2 : decode cJ2_max_2 2 = .ok (.lcmp, 1) := dk_148 (dk_at dksJ2_max_2_0 2 rfl rfl)
theorem dJ2_max_2_3 : decode cJ2_max_2 3 = .ok (.ifCond .lt 7, 3) := dk_155 0 7 (dk_at dksJ2_max_2_0 3 rfl rfl)
theorem dJ2_max_2_6 : decode cJ2_max_2 6 = .ok (.lload_n 0, 1) := dk_30 (dk_at dksJ2_max_2_0 6 rfl rfl)
theorem dJ2_max_2_7 : decode cJ2_max_2 7 = .ok (.goto 4, 3) := dk_167 0 4 (dk_at dksJ2_max_2_0 7 rfl rfl)
theorem dJ2_max_2_10 : decode cJ2_max_2 10 = .ok (.lload_n 2, 1) := dk_32 (dk_at dksJ2_max_2_0 10 rfl rfl)
theorem dJ2_max_2_11 : decode cJ2_max_2 11 = .ok (.lreturn, 1) := dk_173 (dk_at dksJ2_max_2_0 11 rfl rfl)
abbrev cJ2_floorDiv : ByteArray := prog_17_method_47_code
def yJ2_floorDiv : MethodName := ⟨RJ2, "floorDiv", "(II)I"⟩
def dkwJ2_floorDiv_0 : List UInt8 := [26, 27, 108, 61, 26, 27, 130, 156, 0, 14, 28, 27, 104, 26, 159, 0, 7, 28, 4, 100, 172, 28, 172]
abbrev dktJ2_floorDiv_0 : List UInt8 := dkwJ2_floorDiv_0 ++ []
theorem dksJ2_floorDiv_0 : cJ2_floorDiv.data.toList.drop 0 = dktJ2_floorDiv_0 := by decide +kernel
theorem dJ2_floorDiv_0 : decode cJ2_floorDiv 0 = .ok (.iload_n 0, 1) := dk_26 (dk_at dksJ2_floorDiv_0 0 rfl rfl)
theorem dJ2_floorDiv_1 : decode cJ2_floorDiv 1 = .ok (.iload_n 1, 1) := dk_27 (dk_at dksJ2_floorDiv_0 1 rfl rfl)
theorem dJ2_floorDiv_2 : decode cJ2_floorDiv 2 = .ok (.idiv, 1) := dk_108 (dk_at dksJ2_floorDiv_0 2 rfl rfl)
theorem dJ2_floorDiv_3 : decode cJ2_floorDiv 3 = .ok (.istore_n 2, 1) := dk_61 (dk_at dksJ2_floorDiv_0 3 rfl rfl)
theorem dJ2_floorDiv_4 : decode cJ2_floorDiv 4 = .ok (.iload_n 0, 1) := dk_26 (dk_at dksJ2_floorDiv_0 4 rfl rfl)
theorem dJ2_floorDiv_5 : decode cJ2_floorDiv 5 = .ok (.iload_n 1, 1) := dk_27 (dk_at dksJ2_floorDiv_0 5 rfl rfl)
theorem dJ2_floorDiv_6 : decode cJ2_floorDiv 6 = .ok (.ixor, 1) := dk_130 (dk_at dksJ2_floorDiv_0 6 rfl rfl)
theorem dJ2_floorDiv_7 : decode cJ2_floorDiv 7 = .ok (.ifCond .ge 14, 3) := dk_156 0 14 (dk_at dksJ2_floorDiv_0 7 rfl rfl)
theorem dJ2_floorDiv_10 : decode cJ2_floorDiv 10 = .ok (.iload_n 2, 1) := dk_28 (dk_at dksJ2_floorDiv_0 10 rfl rfl)
theorem dJ2_floorDiv_11 : decode cJ2_floorDiv 11 = .ok (.iload_n 1, 1) := dk_27 (dk_at dksJ2_floorDiv_0 11 rfl rfl)
theorem dJ2_floorDiv_12 : decode cJ2_floorDiv 12 = .ok (.imul, 1) := dk_104 (dk_at dksJ2_floorDiv_0 12 rfl rfl)
theorem dJ2_floorDiv_13 : decode cJ2_floorDiv 13 = .ok (.iload_n 0, 1) := dk_26 (dk_at dksJ2_floorDiv_0 13 rfl rfl)
theorem dJ2_floorDiv_14 : decode cJ2_floorDiv 14 = .ok (.if_icmp .eq 7, 3) := dk_159 0 7 (dk_at dksJ2_floorDiv_0 14 rfl rfl)
theorem dJ2_floorDiv_17 : decode cJ2_floorDiv 17 = .ok (.iload_n 2, 1) := dk_28 (dk_at dksJ2_floorDiv_0 17 rfl rfl)
theorem dJ2_floorDiv_18 : decode cJ2_floorDiv 18 = .ok (.iconst 1, 1) := dk_4 (dk_at dksJ2_floorDiv_0 18 rfl rfl)
theorem dJ2_floorDiv_19 : decode cJ2_floorDiv 19 = .ok (.isub, 1) := dk_100 (dk_at dksJ2_floorDiv_0 19 rfl rfl)
theorem dJ2_floorDiv_20 : decode cJ2_floorDiv 20 = .ok (.ireturn, 1) := dk_172 (dk_at dksJ2_floorDiv_0 20 rfl rfl)
theorem dJ2_floorDiv_21 : decode cJ2_floorDiv 21 = .ok (.iload_n 2, 1) := dk_28 (dk_at dksJ2_floorDiv_0 21 rfl rfl)
theorem dJ2_floorDiv_22 : decode cJ2_floorDiv 22 = .ok (.ireturn, 1) := dk_172 (dk_at dksJ2_floorDiv_0 22 rfl rfl)
theorem q136 : (Jvm.Cond.initialized "java/lang/Math") ∈ lw_all := lw_g (lw_at lw_m1 10 rfl) rfl
theorem q521 : (Jvm.Cond.static ({ cls := "java/lang/Math", name := "max", desc := "(II)I" } : Jvm.MethodName)) ∈ lw_all := lw_g (lw_at lw_m2 155 rfl) rfl
theorem q522 : (Jvm.Cond.code ({ cls := "java/lang/Math", name := "max", desc := "(II)I" } : Jvm.MethodName) prog_17_method_65_code (2 : Nat) (Option.some Jvm.ClassFile.FieldType.int)) ∈ lw_all := lw_g (lw_at lw_m2 156 rfl) rfl
theorem q524 : (Jvm.Cond.static ({ cls := "java/lang/Math", name := "min", desc := "(II)I" } : Jvm.MethodName)) ∈ lw_all := lw_g (lw_at lw_m2 158 rfl) rfl
theorem q525 : (Jvm.Cond.code ({ cls := "java/lang/Math", name := "min", desc := "(II)I" } : Jvm.MethodName) prog_17_method_69_code (2 : Nat) (Option.some Jvm.ClassFile.FieldType.int)) ∈ lw_all := lw_g (lw_at lw_m2 159 rfl) rfl
theorem q813 : (Jvm.Cond.static ({ cls := "java/lang/Math", name := "min", desc := "(JJ)J" } : Jvm.MethodName)) ∈ lw_all := lw_g (lw_at lw_m3 207 rfl) rfl
theorem q814 : (Jvm.Cond.code ({ cls := "java/lang/Math", name := "min", desc := "(JJ)J" } : Jvm.MethodName) prog_17_method_70_code (4 : Nat) (Option.some Jvm.ClassFile.FieldType.long)) ∈ lw_all := lw_g (lw_at lw_m3 208 rfl) rfl
theorem q816 : (Jvm.Cond.static ({ cls := "java/lang/Math", name := "max", desc := "(JJ)J" } : Jvm.MethodName)) ∈ lw_all := lw_g (lw_at lw_m3 210 rfl) rfl
theorem q817 : (Jvm.Cond.code ({ cls := "java/lang/Math", name := "max", desc := "(JJ)J" } : Jvm.MethodName) prog_17_method_66_code (4 : Nat) (Option.some Jvm.ClassFile.FieldType.long)) ∈ lw_all := lw_g (lw_at lw_m3 211 rfl) rfl
theorem q838 : (Jvm.Cond.static ({ cls := "java/lang/Math", name := "floorDiv", desc := "(II)I" } : Jvm.MethodName)) ∈ lw_all := lw_g (lw_at lw_m3 232 rfl) rfl
theorem q839 : (Jvm.Cond.code ({ cls := "java/lang/Math", name := "floorDiv", desc := "(II)I" } : Jvm.MethodName) prog_17_method_47_code (3 : Nat) (Option.some Jvm.ClassFile.FieldType.int)) ∈ lw_all := lw_g (lw_at lw_m3 233 rfl) rfl
/-! java/lang/StringUTF16 -/
set_option maxRecDepth 100000
def RJ3 : String := "java/lang/StringUTF16"
abbrev cJ3_indexOf : ByteArray := prog_23_method_40_code
def yJ3_indexOf : MethodName := ⟨RJ3, "indexOf", "([BIII)I"⟩
def dkwJ3_indexOf_1 : List UInt8 := [18, 227, 162, 0, 11, 42, 27, 28, 29, 184, 0, 228, 172, 42, 27, 28, 29, 184, 0, 232, 172]
abbrev dktJ3_indexOf_1 : List UInt8 := dkwJ3_indexOf_1 ++ []
def dkwJ3_indexOf_0 : List UInt8 := [28, 3, 184, 0, 224, 61, 29, 42, 190, 4, 122, 184, 0, 183, 62, 28, 29, 161, 0, 5, 2, 172, 27]
abbrev dktJ3_indexOf_0 : List UInt8 := dkwJ3_indexOf_0 ++ dktJ3_indexOf_1
theorem dksJ3_indexOf_0 : cJ3_indexOf.data.toList.drop 0 = dktJ3_indexOf_0 := by decide +kernel
theorem dksJ3_indexOf_1 : cJ3_indexOf.data.toList.drop 23 = dktJ3_indexOf_1 := dk_seg dksJ3_indexOf_0 23 rfl rfl
theorem dJ3_indexOf_0 : decode cJ3_indexOf 0 = .ok (.iload_n 2, 1) := dk_28 (dk_at dksJ3_indexOf_0 0 rfl rfl)
theorem dJ3_indexOf_1 : decode cJ3_indexOf 1 = .ok (.iconst 0, 1) := dk_3 (dk_at dksJ3_indexOf_0 1 rfl rfl)
theorem dJ3_indexOf_2 : decode cJ3_indexOf 2 = .ok (.invokestatic 224, 3) := dk_184 0 224 (dk_at dksJ3_indexOf_0 2 rfl rfl)
theorem dJ3_indexOf_5 : decode cJ3_indexOf 5 = .ok (.istore_n 2, 1) := dk_61 (dk_at dksJ3_indexOf_0 5 rfl rfl)
theorem dJ3_indexOf_6 : decode cJ3_indexOf 6 = .ok (.iload_n 3, 1) := dk_29 (dk_at dksJ3_indexOf_0 6 rfl rfl)
theorem dJ3_indexOf_7 : decode cJ3_indexOf 7 = .ok (.aload_n 0, 1) := dk_42 (dk_at dksJ3_indexOf_0 7 rfl rfl)
theorem dJ3_indexOf_8 : decode cJ3_indexOf 8 = .ok (.arraylength, 1) := dk_190 (dk_at dksJ3_indexOf_0 8 rfl rfl)
theorem dJ3_indexOf_9 : decode cJ3_indexOf 9 = .ok (.iconst 1, 1) := dk_4 (dk_at dksJ3_indexOf_0 9 rfl rfl)
theorem dJ3_indexOf_10 : decode cJ3_indexOf 10 = .ok (.ishr, 1) := dk_122 (dk_at dksJ3_indexOf_0 10 rfl rfl)
theorem dJ3_indexOf_11 : decode cJ3_indexOf 11 = .ok (.invokestatic 183, 3) := dk_184 0 183 (dk_at dksJ3_indexOf_0 11 rfl rfl)
theorem dJ3_indexOf_14 : decode cJ3_indexOf 14 = .ok (.istore_n 3, 1) := dk_62 (dk_at dksJ3_indexOf_0 14 rfl rfl)
theorem dJ3_indexOf_15 : decode cJ3_indexOf 15 = .ok (.iload_n 2, 1) := dk_28 (dk_at dksJ3_indexOf_0 15 rfl rfl)
theorem dJ3_indexOf_16 : decode cJ3_indexOf 16 = .ok (.iload_n 3, 1) := dk_29 (dk_at dksJ3_indexOf_0 16 rfl rfl)
theorem dJ3_indexOf_17 : decode cJ3_indexOf 17 = .ok (.if_icmp .lt 5, 3) := dk_161 0 5 (dk_at dksJ3_indexOf_0 17 rfl rfl)
theorem dJ3_indexOf_20 : decode cJ3_indexOf 20 = .ok (.iconst (-1), 1) := dk_2 (dk_at dksJ3_indexOf_0 20 rfl rfl)
theorem dJ3_indexOf_21 : decode cJ3_indexOf 21 = .ok (.ireturn, 1) := dk_172 (dk_at dksJ3_indexOf_0 21 rfl rfl)
theorem dJ3_indexOf_22 : decode cJ3_indexOf 22 = .ok (.iload_n 1, 1) := dk_27 (dk_at dksJ3_indexOf_0 22 rfl rfl)
theorem dJ3_indexOf_23 : decode cJ3_indexOf 23 = .ok (.ldc 227, 2) := dk_18 227 (dk_at dksJ3_indexOf_1 0 rfl rfl)
theorem dJ3_indexOf_25 : decode cJ3_indexOf 25 = .ok (.if_icmp .ge 11, 3) := dk_162 0 11 (dk_at dksJ3_indexOf_1 2 rfl rfl)
theorem dJ3_indexOf_28 : decode cJ3_indexOf 28 = .ok (.aload_n 0, 1) := dk_42 (dk_at dksJ3_indexOf_1 5 rfl rfl)
theorem dJ3_indexOf_29 : decode cJ3_indexOf 29 = .ok (.iload_n 1, 1) := dk_27 (dk_at dksJ3_indexOf_1 6 rfl rfl)
theorem dJ3_indexOf_30 : decode cJ3_indexOf 30 = .ok (.iload_n 2, 1) := dk_28 (dk_at dksJ3_indexOf_1 7 rfl rfl)
theorem dJ3_indexOf_31 : decode cJ3_indexOf 31 = .ok (.iload_n 3, 1) := dk_29 (dk_at dksJ3_indexOf_1 8 rfl rfl)
theorem dJ3_indexOf_32 : decode cJ3_indexOf 32 = .ok (.invokestatic 228, 3) := dk_184 0 228 (dk_at dksJ3_indexOf_1 9 rfl rfl)
theorem dJ3_indexOf_35 : decode cJ3_indexOf 35 = .ok (.ireturn, 1) := dk_172 (dk_at dksJ3_indexOf_1 12 rfl rfl)
theorem dJ3_indexOf_36 : decode cJ3_indexOf 36 = .ok (.aload_n 0, 1) := dk_42 (dk_at dksJ3_indexOf_1 13 rfl rfl)
theorem dJ3_indexOf_37 : decode cJ3_indexOf 37 = .ok (.iload_n 1, 1) := dk_27 (dk_at dksJ3_indexOf_1 14 rfl rfl)
theorem dJ3_indexOf_38 : decode cJ3_indexOf 38 = .ok (.iload_n 2, 1) := dk_28 (dk_at dksJ3_indexOf_1 15 rfl rfl)
theorem dJ3_indexOf_39 : decode cJ3_indexOf 39 = .ok (.iload_n 3, 1) := dk_29 (dk_at dksJ3_indexOf_1 16 rfl rfl)
theorem dJ3_indexOf_40 : decode cJ3_indexOf 40 = .ok (.invokestatic 232, 3) := dk_184 0 232 (dk_at dksJ3_indexOf_1 17 rfl rfl)
theorem dJ3_indexOf_43 : decode cJ3_indexOf 43 = .ok (.ireturn, 1) := dk_172 (dk_at dksJ3_indexOf_1 20 rfl rfl)
abbrev cJ3_indexOfChar : ByteArray := prog_23_method_47_code
def yJ3_indexOfChar : MethodName := ⟨RJ3, "indexOfChar", "([BIII)I"⟩
def dkwJ3_indexOfChar_0 : List UInt8 := [28, 29, 42, 184, 0, 96, 42, 27, 28, 29, 184, 0, 244, 172]
abbrev dktJ3_indexOfChar_0 : List UInt8 := dkwJ3_indexOfChar_0 ++ []
theorem dksJ3_indexOfChar_0 : cJ3_indexOfChar.data.toList.drop 0 = dktJ3_indexOfChar_0 := by decide +kernel
theorem dJ3_indexOfChar_0 : decode cJ3_indexOfChar 0 = .ok (.iload_n 2, 1) := dk_28 (dk_at dksJ3_indexOfChar_0 0 rfl rfl)
theorem dJ3_indexOfChar_1 : decode cJ3_indexOfChar 1 = .ok (.iload_n 3, 1) := dk_29 (dk_at dksJ3_indexOfChar_0 1 rfl rfl)
theorem dJ3_indexOfChar_2 : decode cJ3_indexOfChar 2 = .ok (.aload_n 0, 1) := dk_42 (dk_at dksJ3_indexOfChar_0 2 rfl rfl)
theorem dJ3_indexOfChar_3 : decode cJ3_indexOfChar 3 = .ok (.invokestatic 96, 3) := dk_184 0 96 (dk_at dksJ3_indexOfChar_0 3 rfl rfl)
theorem dJ3_indexOfChar_6 : decode cJ3_indexOfChar 6 = .ok (.aload_n 0, 1) := dk_42 (dk_at dksJ3_indexOfChar_0 6 rfl rfl)
theorem dJ3_indexOfChar_7 : decode cJ3_indexOfChar 7 = .ok (.iload_n 1, 1) := dk_27 (dk_at dksJ3_indexOfChar_0 7 rfl rfl)
theorem dJ3_indexOfChar_8 : decode cJ3_indexOfChar 8 = .ok (.iload_n 2, 1) := dk_28 (dk_at dksJ3_indexOfChar_0 8 rfl rfl)
theorem dJ3_indexOfChar_9 : decode cJ3_indexOfChar 9 = .ok (.iload_n 3, 1) := dk_29 (dk_at dksJ3_indexOfChar_0 9 rfl rfl)
theorem dJ3_indexOfChar_10 : decode cJ3_indexOfChar 10 = .ok (.invokestatic 244, 3) := dk_184 0 244 (dk_at dksJ3_indexOfChar_0 10 rfl rfl)
theorem dJ3_indexOfChar_13 : decode cJ3_indexOfChar 13 = .ok (.ireturn, 1) := dk_172 (dk_at dksJ3_indexOfChar_0 13 rfl rfl)
abbrev cJ3_checkBoundsBeginEnd : ByteArray := prog_23_method_93_code
def yJ3_checkBoundsBeginEnd : MethodName := ⟨RJ3, "checkBoundsBeginEnd", "(II[B)V"⟩
def dkwJ3_checkBoundsBeginEnd_0 : List UInt8 := [26, 27, 44, 184, 0, 48, 184, 0, 241, 177]
abbrev dktJ3_checkBoundsBeginEnd_0 : List UInt8 := dkwJ3_checkBoundsBeginEnd_0 ++ []
theorem dksJ3_checkBoundsBeginEnd_0 : cJ3_checkBoundsBeginEnd.data.toList.drop 0 = dktJ3_checkBoundsBeginEnd_0 := by decide +kernel
theorem dJ3_checkBoundsBeginEnd_0 : decode cJ3_checkBoundsBeginEnd 0 = .ok (.iload_n 0, 1) := dk_26 (dk_at dksJ3_checkBoundsBeginEnd_0 0 rfl rfl)
theorem dJ3_checkBoundsBeginEnd_1 : decode cJ3_checkBoundsBeginEnd 1 = .ok (.iload_n 1, 1) := dk_27 (dk_at dksJ3_checkBoundsBeginEnd_0 1 rfl rfl)
theorem dJ3_checkBoundsBeginEnd_2 : decode cJ3_checkBoundsBeginEnd 2 = .ok (.aload_n 2, 1) := dk_44 (dk_at dksJ3_checkBoundsBeginEnd_0 2 rfl rfl)
theorem dJ3_checkBoundsBeginEnd_3 : decode cJ3_checkBoundsBeginEnd 3 = .ok (.invokestatic 48, 3) := dk_184 0 48 (dk_at dksJ3_checkBoundsBeginEnd_0 3 rfl rfl)
theorem dJ3_checkBoundsBeginEnd_6 : decode cJ3_checkBoundsBeginEnd 6 = .ok (.invokestatic 241, 3) := dk_184 0 241 (dk_at dksJ3_checkBoundsBeginEnd_0 6 rfl rfl)
theorem dJ3_checkBoundsBeginEnd_9 : decode cJ3_checkBoundsBeginEnd 9 = .ok (.return_, 1) := dk_177 (dk_at dksJ3_checkBoundsBeginEnd_0 9 rfl rfl)
abbrev cJ3_length : ByteArray := prog_23_method_6_code
def yJ3_length : MethodName := ⟨RJ3, "length", "([B)I"⟩
def dkwJ3_length_0 : List UInt8 := [42, 190, 4, 122, 172]
abbrev dktJ3_length_0 : List UInt8 := dkwJ3_length_0 ++ []
theorem dksJ3_length_0 : cJ3_length.data.toList.drop 0 = dktJ3_length_0 := by decide +kernel
theorem dJ3_length_0 : decode cJ3_length 0 = .ok (.aload_n 0, 1) := dk_42 (dk_at dksJ3_length_0 0 rfl rfl)
theorem dJ3_length_1 : decode cJ3_length 1 = .ok (.arraylength, 1) := dk_190 (dk_at dksJ3_length_0 1 rfl rfl)
theorem dJ3_length_2 : decode cJ3_length 2 = .ok (.iconst 1, 1) := dk_4 (dk_at dksJ3_length_0 2 rfl rfl)
theorem dJ3_length_3 : decode cJ3_length 3 = .ok (.ishr, 1) := dk_122 (dk_at dksJ3_length_0 3 rfl rfl)
theorem dJ3_length_4 : decode cJ3_length 4 = .ok (.ireturn, 1) := dk_172 (dk_at dksJ3_length_0 4 rfl rfl)
abbrev cJ3_indexOfCharUnsafe : ByteArray := prog_23_method_48_code
def yJ3_indexOfCharUnsafe : MethodName := ⟨RJ3, "indexOfCharUnsafe", "([BIII)I"⟩
def dkwJ3_indexOfCharUnsafe_1 : List UInt8 := [132, 4, 1, 167, 255, 234, 2, 172]
abbrev dktJ3_indexOfCharUnsafe_1 : List UInt8 := dkwJ3_indexOfCharUnsafe_1 ++ []
def dkwJ3_indexOfCharUnsafe_0 : List UInt8 := [28, 54, 4, 21, 4, 29, 162, 0, 22, 42, 21, 4, 184, 0, 71, 27, 160, 0, 6, 21, 4, 172]
abbrev dktJ3_indexOfCharUnsafe_0 : List UInt8 := dkwJ3_indexOfCharUnsafe_0 ++ dktJ3_indexOfCharUnsafe_1
theorem dksJ3_indexOfCharUnsafe_0 : cJ3_indexOfCharUnsafe.data.toList.drop 0 = dktJ3_indexOfCharUnsafe_0 := by decide +kernel
theorem dksJ3_indexOfCharUnsafe_1 : cJ3_indexOfCharUnsafe.data.toList.drop 22 = dktJ3_indexOfCharUnsafe_1 := dk_seg dksJ3_indexOfCharUnsafe_0 22 rfl rfl
theorem dJ3_indexOfCharUnsafe_0 : decode cJ3_indexOfCharUnsafe 0 = .ok (.iload_n 2, 1) := dk_28 (dk_at dksJ3_indexOfCharUnsafe_0 0 rfl rfl)
theorem dJ3_indexOfCharUnsafe_1 : decode cJ3_indexOfCharUnsafe 1 = .ok (.istore 4, 2) := dk_54 4 (dk_at dksJ3_indexOfCharUnsafe_0 1 rfl rfl)
theorem dJ3_indexOfCharUnsafe_3 : decode cJ3_indexOfCharUnsafe 3 = .ok (.iload 4, 2) := dk_21 4 (dk_at dksJ3_indexOfCharUnsafe_0 3 rfl rfl)
theorem dJ3_indexOfCharUnsafe_5 : decode cJ3_indexOfCharUnsafe 5 = .ok (.iload_n 3, 1) := dk_29 (dk_at dksJ3_indexOfCharUnsafe_0 5 rfl rfl)
theorem dJ3_indexOfCharUnsafe_6 : decode cJ3_indexOfCharUnsafe 6 = .ok (.if_icmp .ge 22, 3) := dk_162 0 22 (dk_at dksJ3_indexOfCharUnsafe_0 6 rfl rfl)
theorem dJ3_indexOfCharUnsafe_9 : decode cJ3_indexOfCharUnsafe 9 = .ok (.aload_n 0, 1) := dk_42 (dk_at dksJ3_indexOfCharUnsafe_0 9 rfl rfl)
theorem dJ3_indexOfCharUnsafe_10 : decode cJ3_indexOfCharUnsafe 10 = .ok (.iload 4, 2) := dk_21 4 (dk_at dksJ3_indexOfCharUnsafe_0 10 rfl rfl)
theorem dJ3_indexOfCharUnsafe_12 : decode cJ3_indexOfCharUnsafe 12 = .ok (.invokestatic 71, 3) := dk_184 0 71 (dk_at dksJ3_indexOfCharUnsafe_0 12 rfl rfl)
theorem dJ3_indexOfCharUnsafe_15 : decode cJ3_indexOfCharUnsafe 15 = .ok (.iload_n 1, 1) := dk_27 (dk_at dksJ3_indexOfCharUnsafe_0 15 rfl rfl)
theorem dJ3_indexOfCharUnsafe_16 : decode cJ3_indexOfCharUnsafe 16 = .ok (.if_icmp .ne 6, 3) := dk_160 0 6 (dk_at dksJ3_indexOfCharUnsafe_0 16 rfl rfl)
theorem dJ3_indexOfCharUnsafe_19 : decode cJ3_indexOfCharUnsafe 19 = .ok (.iload 4, 2) := dk_21 4 (dk_at dksJ3_indexOfCharUnsafe_0 19 rfl rfl)
theorem dJ3_indexOfCharUnsafe_21 : decode cJ3_indexOfCharUnsafe 21 = .ok (.ireturn, 1) := dk_172 (dk_at dksJ3_indexOfCharUnsafe_0 21 rfl rfl)
theorem dJ3_indexOfCharUnsafe_22 : decode cJ3_indexOfCharUnsafe 22 = .ok (.iinc 4 1, 3) := dk_132 4 1 (dk_at dksJ3_indexOfCharUnsafe_1 0 rfl rfl)
theorem dJ3_indexOfCharUnsafe_25 : decode cJ3_indexOfCharUnsafe 25 = .ok (.goto (-22), 3) := dk_167 255 234 (dk_at dksJ3_indexOfCharUnsafe_1 3 rfl rfl)
theorem dJ3_indexOfCharUnsafe_28 : decode cJ3_indexOfCharUnsafe 28 = .ok (.iconst (-1), 1) := dk_2 (dk_at dksJ3_indexOfCharUnsafe_1 6 rfl rfl)
theorem dJ3_indexOfCharUnsafe_29 : decode cJ3_indexOfCharUnsafe 29 = .ok (.ireturn, 1) := dk_172 (dk_at dksJ3_indexOfCharUnsafe_1 7 rfl rfl)
abbrev cJ3_getChar : ByteArray := prog_23_method_5_code
def yJ3_getChar : MethodName := ⟨RJ3, "getChar", "([BI)C"⟩
def dkwJ3_getChar_2 : List UInt8 := [51, 17, 0, 255, 126, 178, 0, 63, 120, 128, 146, 172]
abbrev dktJ3_getChar_2 : List UInt8 := dkwJ3_getChar_2 ++ []
def dkwJ3_getChar_1 : List UInt8 := [183, 0, 56, 191, 27, 4, 120, 60, 42, 27, 132, 1, 1, 51, 17, 0, 255, 126, 178, 0, 59, 120, 42, 27]
abbrev dktJ3_getChar_1 : List UInt8 := dkwJ3_getChar_1 ++ dktJ3_getChar_2
def dkwJ3_getChar_0 : List UInt8 := [178, 0, 44, 154, 0, 25, 27, 155, 0, 11, 27, 42, 184, 0, 48, 161, 0, 13, 187, 0, 52, 89, 18, 54]
abbrev dktJ3_getChar_0 : List UInt8 := dkwJ3_getChar_0 ++ dktJ3_getChar_1
theorem dksJ3_getChar_0 : cJ3_getChar.data.toList.drop 0 = dktJ3_getChar_0 := by decide +kernel
theorem dksJ3_getChar_1 : cJ3_getChar.data.toList.drop 24 = dktJ3_getChar_1 := dk_seg dksJ3_getChar_0 24 rfl rfl
theorem dksJ3_getChar_2 : cJ3_getChar.data.toList.drop 48 = dktJ3_getChar_2 := dk_seg dksJ3_getChar_1 24 rfl rfl
theorem dJ3_getChar_0 : decode cJ3_getChar 0 = .ok (.getstatic 44, 3) := dk_178 0 44 (dk_at dksJ3_getChar_0 0 rfl rfl)
theorem dJ3_getChar_3 : decode cJ3_getChar 3 = .ok (.ifCond .ne 25, 3) := dk_154 0 25 (dk_at dksJ3_getChar_0 3 rfl rfl)
theorem dJ3_getChar_6 : decode cJ3_getChar 6 = .ok (.iload_n 1, 1) := dk_27 (dk_at dksJ3_getChar_0 6 rfl rfl)
theorem dJ3_getChar_7 : decode cJ3_getChar 7 = .ok (.ifCond .lt 11, 3) := dk_155 0 11 (dk_at dksJ3_getChar_0 7 rfl rfl)
theorem dJ3_getChar_10 : decode cJ3_getChar 10 = .ok (.iload_n 1, 1) := dk_27 (dk_at dksJ3_getChar_0 10 rfl rfl)
theorem dJ3_getChar_11 : decode cJ3_getChar 11 = .ok (.aload_n 0, 1) := dk_42 (dk_at dksJ3_getChar_0 11 rfl rfl)
theorem dJ3_getChar_12 : decode cJ3_getChar 12 = .ok (.invokestatic 48, 3) := dk_184 0 48 (dk_at dksJ3_getChar_0 12 rfl rfl)
theorem dJ3_getChar_15 : decode cJ3_getChar 15 = .ok (.if_icmp .lt 13, 3) := dk_161 0 13 (dk_at dksJ3_getChar_0 15 rfl rfl)
theorem dJ3_getChar_18 : decode cJ3_getChar 18 = .ok (.new 52, 3) := dk_187 0 52 (dk_at dksJ3_getChar_0 18 rfl rfl)
theorem dJ3_getChar_21 : decode cJ3_getChar 21 = .ok (.dup, 1) := dk_89 (dk_at dksJ3_getChar_0 21 rfl rfl)
theorem dJ3_getChar_22 : decode cJ3_getChar 22 = .ok (.ldc 54, 2) := dk_18 54 (dk_at dksJ3_getChar_0 22 rfl rfl)
theorem dJ3_getChar_24 : decode cJ3_getChar 24 = .ok (.invokespecial 56, 3) := dk_183 0 56 (dk_at dksJ3_getChar_1 0 rfl rfl)
theorem dJ3_getChar_27 : decode cJ3_getChar 27 = .ok (.athrow, 1) := dk_191 (dk_at dksJ3_getChar_1 3 rfl rfl)
theorem dJ3_getChar_28 : decode cJ3_getChar 28 = .ok (.iload_n 1, 1) := dk_27 (dk_at dksJ3_getChar_1 4 rfl rfl)
theorem dJ3_getChar_29 : decode cJ3_getChar 29 = .ok (.iconst 1, 1) := dk_4 (dk_at dksJ3_getChar_1 5 rfl rfl)
theorem dJ3_getChar_30 : decode cJ3_getChar 30 = .ok (.ishl, 1) := dk_120 (dk_at dksJ3_getChar_1 6 rfl rfl)
theorem dJ3_getChar_31 : decode cJ3_getChar 31 = .ok (.istore_n 1, 1) := dk_60 (dk_at dksJ3_getChar_1 7 rfl rfl)
theorem dJ3_getChar_32 : decode cJ3_getChar 32 = .ok (.aload_n 0, 1) := dk_42 (dk_at dksJ3_getChar_1 8 rfl rfl)
theorem dJ3_getChar_33 : decode cJ3_getChar 33 = .ok (.iload_n 1, 1) := dk_27 (dk_at dksJ3_getChar_1 9 rfl rfl)
theorem dJ3_getChar_34 : decode cJ3_getChar 34 = .ok (.iinc 1 1, 3) := dk_132 1 1 (dk_at dksJ3_getChar_1 10 rfl rfl)
theorem dJ3_getChar_37 : decode cJ3_getChar 37 = .ok (.baload, 1) := dk_51 (dk_at dksJ3_getChar_1 13 rfl rfl)
theorem dJ3_getChar_38 : decode cJ3_getChar 38 = .ok (.sipush 255, 3) := dk_17 0 255 (dk_at dksJ3_getChar_1 14 rfl rfl)
theorem dJ3_getChar_41 : decode cJ3_getChar 41 = .ok (.iand, 1) := dk_126 (dk_at dksJ3_getChar_1 17 rfl rfl)
theorem dJ3_getChar_42 : decode cJ3_getChar 42 = .ok (.getstatic 59, 3) := dk_178 0 59 (dk_at dksJ3_getChar_1 18 rfl rfl)
theorem dJ3_getChar_45 : decode cJ3_getChar 45 = .ok (.ishl, 1) := dk_120 (dk_at dksJ3_getChar_1 21 rfl rfl)
theorem dJ3_getChar_46 : decode cJ3_getChar 46 = .ok (.aload_n 0, 1) := dk_42 (dk_at dksJ3_getChar_1 22 rfl rfl)
theorem dJ3_getChar_47 : decode cJ3_getChar 47 = .ok (.iload_n 1, 1) := dk_27 (dk_at dksJ3_getChar_1 23 rfl rfl)
theorem dJ3_getChar_48 : decode cJ3_getChar 48 = .ok (.baload, 1) := dk_51 (dk_at dksJ3_getChar_2 0 rfl rfl)
theorem dJ3_getChar_49 : decode cJ3_getChar 49 = .ok (.sipush 255, 3) := dk_17 0 255 (dk_at dksJ3_getChar_2 1 rfl rfl)
theorem dJ3_getChar_52 : decode cJ3_getChar 52 = .ok (.iand, 1) := dk_126 (dk_at dksJ3_getChar_2 4 rfl rfl)
theorem dJ3_getChar_53 : decode cJ3_getChar 53 = .ok (.getstatic 63, 3) := dk_178 0 63 (dk_at dksJ3_getChar_2 5 rfl rfl)
theorem dJ3_getChar_56 : decode cJ3_getChar 56 = .ok (.ishl, 1) := dk_120 (dk_at dksJ3_getChar_2 8 rfl rfl)
theorem dJ3_getChar_57 : decode cJ3_getChar 57 = .ok (.ior, 1) := dk_128 (dk_at dksJ3_getChar_2 9 rfl rfl)
theorem dJ3_getChar_58 : decode cJ3_getChar 58 = .ok (.i2c, 1) := dk_146 (dk_at dksJ3_getChar_2 10 rfl rfl)
theorem dJ3_getChar_59 : decode cJ3_getChar 59 = .ok (.ireturn, 1) := dk_172 (dk_at dksJ3_getChar_2 11 rfl rfl)
abbrev cJ3_indexOfSupplementary : ByteArray := prog_23_method_49_code
def yJ3_indexOfSupplementary : MethodName := ⟨RJ3, "indexOfSupplementary", "([BIII)I"⟩
def dkwJ3_indexOfSupplementary_3 : List UInt8 := [167, 255, 218, 2, 172]
abbrev dktJ3_indexOfSupplementary_3 : List UInt8 := dkwJ3_indexOfSupplementary_3 ++ []
def dkwJ3_indexOfSupplementary_2 : List UInt8 := [160, 0, 19, 42, 21, 6, 4, 96, 184, 0, 71, 21, 5, 160, 0, 6, 21, 6, 172, 132, 6, 1]
abbrev dktJ3_indexOfSupplementary_2 : List UInt8 := dkwJ3_indexOfSupplementary_2 ++ dktJ3_indexOfSupplementary_3
def dkwJ3_indexOfSupplementary_1 : List UInt8 := [184, 0, 96, 28, 54, 6, 21, 6, 29, 4, 100, 162, 0, 36, 42, 21, 6, 184, 0, 71, 21, 4]
abbrev dktJ3_indexOfSupplementary_1 : List UInt8 := dkwJ3_indexOfSupplementary_1 ++ dktJ3_indexOfSupplementary_2
def dkwJ3_indexOfSupplementary_0 : List UInt8 := [27, 184, 0, 164, 153, 0, 65, 27, 184, 0, 157, 54, 4, 27, 184, 0, 161, 54, 5, 28, 29, 42]
abbrev dktJ3_indexOfSupplementary_0 : List UInt8 := dkwJ3_indexOfSupplementary_0 ++ dktJ3_indexOfSupplementary_1
theorem dksJ3_indexOfSupplementary_0 : cJ3_indexOfSupplementary.data.toList.drop 0 = dktJ3_indexOfSupplementary_0 := by decide +kernel
theorem dksJ3_indexOfSupplementary_1 : cJ3_indexOfSupplementary.data.toList.drop 22 = dktJ3_indexOfSupplementary_1 := dk_seg dksJ3_indexOfSupplementary_0 22 rfl rfl
theorem dksJ3_indexOfSupplementary_2 : cJ3_indexOfSupplementary.data.toList.drop 44 = dktJ3_indexOfSupplementary_2 := dk_seg dksJ3_indexOfSupplementary_1 22 rfl rfl
theorem dksJ3_indexOfSupplementary_3 : cJ3_indexOfSupplementary.data.toList.drop 66 = dktJ3_indexOfSupplementary_3 := dk_seg dksJ3_indexOfSupplementary_2 22 rfl rfl
theorem dJ3_indexOfSupplementary_0 : decode cJ3_indexOfSupplementary 0 = .ok (.iload_n 1, 1) := dk_27 (dk_at dksJ3_indexOfSupplementary_0 0 rfl rfl)
theorem dJ3_indexOfSupplementary_1 : decode cJ3_indexOfSupplementary 1 = .ok (.invokestatic 164, 3) := dk_184 0 164 (dk_at dksJ3_indexOfSupplementary_0 1 rfl rfl)
theorem dJ3_indexOfSupplementary_4 : decode cJ3_indexOfSupplementary 4 = .ok (.ifCond .eq 65, 3) := dk_153 0 65 (dk_at dksJ3_indexOfSupplementary_0 4 rfl rfl)
theorem dJ3_indexOfSupplementary_7 : decode cJ3_indexOfSupplementary 7 = .ok (.iload_n 1, 1) := dk_27 (dk_at dksJ3_indexOfSupplementary_0 7 rfl rfl)
theorem dJ3_indexOfSupplementary_8 : decode cJ3_indexOfSupplementary 8 = .ok (.invokestatic 157, 3) := dk_184 0 157 (dk_at dksJ3_indexOfSupplementary_0 8 rfl rfl)
theorem dJ3_indexOfSupplementary_11 : decode cJ3_indexOfSupplementary 11 = .ok (.istore 4, 2) := dk_54 4 (dk_at dksJ3_indexOfSupplementary_0 11 rfl rfl)
theorem dJ3_indexOfSupplementary_13 : decode cJ3_indexOfSupplementary 13 = .ok (.iload_n 1, 1) := dk_27 (dk_at dksJ3_indexOfSupplementary_0 13 rfl rfl)
theorem dJ3_indexOfSupplementary_14 : decode cJ3_indexOfSupplementary 14 = .ok (.invokestatic 161, 3) := dk_184 0 161 (dk_at dksJ3_indexOfSupplementary_0 14 rfl rfl)
theorem dJ3_indexOfSupplementary_17 : decode cJ3_indexOfSupplementary 17 = .ok (.istore 5, 2) := dk_54 5 (dk_at dksJ3_indexOfSupplementary_0 17 rfl rfl)
theorem dJ3_indexOfSupplementary_19 : decode cJ3_indexOfSupplementary 19 = .ok (.iload_n 2, 1) := dk_28 (dk_at dksJ3_indexOfSupplementary_0 19 rfl rfl)
theorem dJ3_indexOfSupplementary_20 : decode cJ3_indexOfSupplementary 20 = .ok (.iload_n 3, 1) := dk_29 (dk_at dksJ3_indexOfSupplementary_0 20 rfl rfl)
theorem dJ3_indexOfSupplementary_21 : decode cJ3_indexOfSupplementary 21 = .ok (.aload_n 0, 1) := dk_42 (dk_at dksJ3_indexOfSupplementary_0 21 rfl rfl)
theorem dJ3_indexOfSupplementary_22 : decode cJ3_indexOfSupplementary 22 = .ok (.invokestatic 96, 3) := dk_184 0 96 (dk_at dksJ3_indexOfSupplementary_1 0 rfl rfl)
theorem dJ3_indexOfSupplementary_25 : decode cJ3_indexOfSupplementary 25 = .ok (.iload_n 2, 1) := dk_28 (dk_at dksJ3_indexOfSupplementary_1 3 rfl rfl)
theorem dJ3_indexOfSupplementary_26 : decode cJ3_indexOfSupplementary 26 = .ok (.istore 6, 2) := dk_54 6 (dk_at dksJ3_indexOfSupplementary_1 4 rfl rfl)
theorem dJ3_indexOfSupplementary_28 : decode cJ3_indexOfSupplementary 28 = .ok (.iload 6, 2) := dk_21 6 (dk_at dksJ3_indexOfSupplementary_1 6 rfl rfl)
theorem dJ3_indexOfSupplementary_30 : decode cJ3_indexOfSupplementary 30 = .ok (.iload_n 3, 1) := dk_29 (dk_at dksJ3_indexOfSupplementary_1 8 rfl rfl)
theorem dJ3_indexOfSupplementary_31 : decode cJ3_indexOfSupplementary 31 = .ok (.iconst 1, 1) := dk_4 (dk_at dksJ3_indexOfSupplementary_1 9 rfl rfl)
theorem dJ3_indexOfSupplementary_32 : decode cJ3_indexOfSupplementary 32 = .ok (.isub, 1) := dk_100 (dk_at dksJ3_indexOfSupplementary_1 10 rfl rfl)
theorem dJ3_indexOfSupplementary_33 : decode cJ3_indexOfSupplementary 33 = .ok (.if_icmp .ge 36, 3) := dk_162 0 36 (dk_at dksJ3_indexOfSupplementary_1 11 rfl rfl)
theorem dJ3_indexOfSupplementary_36 : decode cJ3_indexOfSupplementary 36 = .ok (.aload_n 0, 1) := dk_42 (dk_at dksJ3_indexOfSupplementary_1 14 rfl rfl)
theorem dJ3_indexOfSupplementary_37 : decode cJ3_indexOfSupplementary 37 = .ok (.iload 6, 2) := dk_21 6 (dk_at dksJ3_indexOfSupplementary_1 15 rfl rfl)
theorem dJ3_indexOfSupplementary_39 : decode cJ3_indexOfSupplementary 39 = .ok (.invokestatic 71, 3) := dk_184 0 71 (dk_at dksJ3_indexOfSupplementary_1 17 rfl rfl)
theorem dJ3_indexOfSupplementary_42 : decode cJ3_indexOfSupplementary 42 = .ok (.iload 4, 2) := dk_21 4 (dk_at dksJ3_indexOfSupplementary_1 20 rfl rfl)
theorem dJ3_indexOfSupplementary_44 : decode cJ3_indexOfSupplementary 44 = .ok (.if_icmp .ne 19, 3) := dk_160 0 19 (dk_at dksJ3_indexOfSupplementary_2 0 rfl rfl)
theorem dJ3_indexOfSupplementary_47 : decode cJ3_indexOfSupplementary 47 = .ok (.aload_n 0, 1) := dk_42 (dk_at dksJ3_indexOfSupplementary_2 3 rfl rfl)
theorem dJ3_indexOfSupplementary_48 : decode cJ3_indexOfSupplementary 48 = .ok (.iload 6, 2) := dk_21 6 (dk_at dksJ3_indexOfSupplementary_2 4 rfl rfl)
theorem dJ3_indexOfSupplementary_50 : decode cJ3_indexOfSupplementary 50 = .ok (.iconst 1, 1) := dk_4 (dk_at dksJ3_indexOfSupplementary_2 6 rfl rfl)
theorem dJ3_indexOfSupplementary_51 : decode cJ3_indexOfSupplementary 51 = .ok (.iadd, 1) := dk_96 (dk_at dksJ3_indexOfSupplementary_2 7 rfl rfl)
theorem dJ3_indexOfSupplementary_52 : decode cJ3_indexOfSupplementary 52 = .ok (.invokestatic 71, 3) := dk_184 0 71 (dk_at dksJ3_indexOfSupplementary_2 8 rfl rfl)
theorem dJ3_indexOfSupplementary_55 : decode cJ3_indexOfSupplementary 55 = .ok (.iload 5, 2) := dk_21 5 (dk_at dksJ3_indexOfSupplementary_2 11 rfl rfl)
theorem dJ3_indexOfSupplementary_57 : decode cJ3_indexOfSupplementary 57 = .ok (.if_icmp .ne 6, 3) := dk_160 0 6 (dk_at dksJ3_indexOfSupplementary_2 13 rfl rfl)
theorem dJ3_indexOfSupplementary_60 : decode cJ3_indexOfSupplementary 60 = .ok (.iload 6, 2) := dk_21 6 (dk_at dksJ3_indexOfSupplementary_2 16 rfl rfl)
theorem dJ3_indexOfSupplementary_62 : decode cJ3_indexOfSupplementary 62 = .ok (.ireturn, 1) := dk_172 (dk_at dksJ3_indexOfSupplementary_2 18 rfl rfl)
theorem dJ3_indexOfSupplementary_63 : decode cJ3_indexOfSupplementary 63 = .ok (.iinc 6 1, 3) := dk_132 6 1 (dk_at dksJ3_indexOfSupplementary_2 19 rfl rfl)
theorem dJ3_indexOfSupplementary_66 : decode cJ3_indexOfSupplementary 66 = .ok (.goto (-38), 3) := dk_167 255 218 (dk_at dksJ3_indexOfSupplementary_3 0 rfl rfl)
theorem dJ3_indexOfSupplementary_69 : decode cJ3_indexOfSupplementary 69 = .ok (.iconst (-1), 1) := dk_2 (dk_at dksJ3_indexOfSupplementary_3 3 rfl rfl)
theorem dJ3_indexOfSupplementary_70 : decode cJ3_indexOfSupplementary 70 = .ok (.ireturn, 1) := dk_172 (dk_at dksJ3_indexOfSupplementary_3 4 rfl rfl)
abbrev cJ3_charAt : ByteArray := prog_23_method_83_code
def yJ3_charAt : MethodName := ⟨RJ3, "charAt", "([BI)C"⟩
def dkwJ3_charAt_0 : List UInt8 := [27, 42, 184, 0, 67, 42, 27, 184, 0, 71, 172]
abbrev dktJ3_charAt_0 : List UInt8 := dkwJ3_charAt_0 ++ []
theorem dksJ3_charAt_0 : cJ3_charAt.data.toList.drop 0 = dktJ3_charAt_0 := by decide +kernel
theorem dJ3_charAt_0 : decode cJ3_charAt 0 = .ok (.iload_n 1, 1) := dk_27 (dk_at dksJ3_charAt_0 0 rfl rfl)
theorem dJ3_charAt_1 : decode cJ3_charAt 1 = .ok (.aload_n 0, 1) := dk_42 (dk_at dksJ3_charAt_0 1 rfl rfl)
theorem dJ3_charAt_2 : decode cJ3_charAt 2 = .ok (.invokestatic 67, 3) := dk_184 0 67 (dk_at dksJ3_charAt_0 2 rfl rfl)
theorem dJ3_charAt_5 : decode cJ3_charAt 5 = .ok (.aload_n 0, 1) := dk_42 (dk_at dksJ3_charAt_0 5 rfl rfl)
theorem dJ3_charAt_6 : decode cJ3_charAt 6 = .ok (.iload_n 1, 1) := dk_27 (dk_at dksJ3_charAt_0 6 rfl rfl)
theorem dJ3_charAt_7 : decode cJ3_charAt 7 = .ok (.invokestatic 71, 3) := dk_184 0 71 (dk_at dksJ3_charAt_0 7 rfl rfl)
theorem dJ3_charAt_10 : decode cJ3_charAt 10 = .ok (.ireturn, 1) := dk_172 (dk_at dksJ3_charAt_0 10 rfl rfl)
abbrev cJ3_checkIndex : ByteArray := prog_23_method_91_code
def yJ3_checkIndex : MethodName := ⟨RJ3, "checkIndex", "(I[B)V"⟩
def dkwJ3_checkIndex_0 : List UInt8 := [26, 43, 184, 0, 48, 184, 1, 158, 177]
abbrev dktJ3_checkIndex_0 : List UInt8 := dkwJ3_checkIndex_0 ++ []
theorem dksJ3_checkIndex_0 : cJ3_checkIndex.data.toList.drop 0 = dktJ3_checkIndex_0 := by decide +kernel
theorem dJ3_checkIndex_0 : decode cJ3_checkIndex 0 = .ok (.iload_n 0, 1) := dk_26 (dk_at dksJ3_checkIndex_0 0 rfl rfl)
theorem dJ3_checkIndex_1 : decode cJ3_checkIndex 1 = .ok (.aload_n 1, 1) := dk_43 (dk_at dksJ3_checkIndex_0 1 rfl rfl)
theorem dJ3_checkIndex_2 : decode cJ3_checkIndex 2 = .ok (.invokestatic 48, 3) := dk_184 0 48 (dk_at dksJ3_checkIndex_0 2 rfl rfl)
theorem dJ3_checkIndex_5 : decode cJ3_checkIndex 5 = .ok (.invokestatic 414, 3) := dk_184 1 158 (dk_at dksJ3_checkIndex_0 5 rfl rfl)
theorem dJ3_checkIndex_8 : decode cJ3_checkIndex 8 = .ok (.return_, 1) := dk_177 (dk_at dksJ3_checkIndex_0 8 rfl rfl)
theorem q137 : (Jvm.Cond.initialized "java/lang/StringUTF16") ∈ lw_all := lw_g (lw_at lw_m1 11 rfl) rfl
theorem q530 : (Jvm.Cond.static ({ cls := "java/lang/StringUTF16", name := "indexOf", desc := "([BIII)I" } : Jvm.MethodName)) ∈ lw_all := lw_g (lw_at lw_m2 164 rfl) rfl
theorem q531 : (Jvm.Cond.code ({ cls := "java/lang/StringUTF16", name := "indexOf", desc := "([BIII)I" } : Jvm.MethodName) prog_23_method_40_code (4 : Nat) (Option.some Jvm.ClassFile.FieldType.int)) ∈ lw_all := lw_g (lw_at lw_m2 165 rfl) rfl
theorem q532 : (Jvm.Cond.methodLink "java/lang/StringUTF16" (224 : Nat) ({ cls := "java/lang/Math", name := "max", desc := "(II)I" } : Jvm.MethodName)) ∈ lw_all := lw_g (lw_at lw_m2 166 rfl) rfl
theorem q533 : (Jvm.Cond.methodLink "java/lang/StringUTF16" (183 : Nat) ({ cls := "java/lang/Math", name := "min", desc := "(II)I" } : Jvm.MethodName)) ∈ lw_all := lw_g (lw_at lw_m2 167 rfl) rfl
theorem q534 : (Jvm.Cond.constant "java/lang/StringUTF16" (227 : Nat) (65536 : Int32)) ∈ lw_all := lw_g (lw_at lw_m2 168 rfl) rfl
theorem q535 : (Jvm.Cond.methodLink "java/lang/StringUTF16" (228 : Nat) ({ cls := "java/lang/StringUTF16", name := "indexOfChar", desc := "([BIII)I" } : Jvm.MethodName)) ∈ lw_all := lw_g (lw_at lw_m2 169 rfl) rfl
theorem q536 : (Jvm.Cond.static ({ cls := "java/lang/StringUTF16", name := "indexOfChar", desc := "([BIII)I" } : Jvm.MethodName)) ∈ lw_all := lw_g (lw_at lw_m2 170 rfl) rfl
theorem q537 : (Jvm.Cond.code ({ cls := "java/lang/StringUTF16", name := "indexOfChar", desc := "([BIII)I" } : Jvm.MethodName) prog_23_method_47_code (4 : Nat) (Option.some Jvm.ClassFile.FieldType.int)) ∈ lw_all := lw_g (lw_at lw_m2 171 rfl) rfl
theorem q538 : (Jvm.Cond.methodLink "java/lang/StringUTF16" (96 : Nat) ({ cls := "java/lang/StringUTF16", name := "checkBoundsBeginEnd", desc := "(II[B)V" } : Jvm.MethodName)) ∈ lw_all := lw_g (lw_at lw_m2 172 rfl) rfl
theorem q539 : (Jvm.Cond.static ({ cls := "java/lang/StringUTF16", name := "checkBoundsBeginEnd", desc := "(II[B)V" } : Jvm.MethodName)) ∈ lw_all := lw_g (lw_at lw_m2 173 rfl) rfl
theorem q540 : (Jvm.Cond.code ({ cls := "java/lang/StringUTF16", name := "checkBoundsBeginEnd", desc := "(II[B)V" } : Jvm.MethodName) prog_23_method_93_code (3 : Nat) (Option.none : Option Jvm.ClassFile.FieldType)) ∈ lw_all := lw_g (lw_at lw_m2 174 rfl) rfl
theorem q541 : (Jvm.Cond.methodLink "java/lang/StringUTF16" (48 : Nat) ({ cls := "java/lang/StringUTF16", name := "length", desc := "([B)I" } : Jvm.MethodName)) ∈ lw_all := lw_g (lw_at lw_m2 175 rfl) rfl
theorem q542 : (Jvm.Cond.static ({ cls := "java/lang/StringUTF16", name := "length", desc := "([B)I" } : Jvm.MethodName)) ∈ lw_all := lw_g (lw_at lw_m2 176 rfl) rfl
theorem q543 : (Jvm.Cond.code ({ cls := "java/lang/StringUTF16", name := "length", desc := "([B)I" } : Jvm.MethodName) prog_23_method_6_code (1 : Nat) (Option.some Jvm.ClassFile.FieldType.int)) ∈ lw_all := lw_g (lw_at lw_m2 177 rfl) rfl
theorem q544 : (Jvm.Cond.methodLink "java/lang/StringUTF16" (241 : Nat) ({ cls := "java/lang/String", name := "checkBoundsBeginEnd", desc := "(III)V" } : Jvm.MethodName)) ∈ lw_all := lw_g (lw_at lw_m2 178 rfl) rfl
theorem q552 : (Jvm.Cond.methodLink "java/lang/StringUTF16" (244 : Nat) ({ cls := "java/lang/StringUTF16", name := "indexOfCharUnsafe", desc := "([BIII)I" } : Jvm.MethodName)) ∈ lw_all := lw_g (lw_at lw_m2 186 rfl) rfl
theorem q553 : (Jvm.Cond.static ({ cls := "java/lang/StringUTF16", name := "indexOfCharUnsafe", desc := "([BIII)I" } : Jvm.MethodName)) ∈ lw_all := lw_g (lw_at lw_m2 187 rfl) rfl
theorem q554 : (Jvm.Cond.code ({ cls := "java/lang/StringUTF16", name := "indexOfCharUnsafe", desc := "([BIII)I" } : Jvm.MethodName) prog_23_method_48_code (5 : Nat) (Option.some Jvm.ClassFile.FieldType.int)) ∈ lw_all := lw_g (lw_at lw_m2 188 rfl) rfl
theorem q555 : (Jvm.Cond.methodLink "java/lang/StringUTF16" (71 : Nat) ({ cls := "java/lang/StringUTF16", name := "getChar", desc := "([BI)C" } : Jvm.MethodName)) ∈ lw_all := lw_g (lw_at lw_m2 189 rfl) rfl
theorem q556 : (Jvm.Cond.static ({ cls := "java/lang/StringUTF16", name := "getChar", desc := "([BI)C" } : Jvm.MethodName)) ∈ lw_all := lw_g (lw_at lw_m2 190 rfl) rfl
theorem q557 : (Jvm.Cond.code ({ cls := "java/lang/StringUTF16", name := "getChar", desc := "([BI)C" } : Jvm.MethodName) prog_23_method_5_code (2 : Nat) (Option.some Jvm.ClassFile.FieldType.char)) ∈ lw_all := lw_g (lw_at lw_m2 191 rfl) rfl
theorem q558 : (Jvm.Cond.fieldLink "java/lang/StringUTF16" (44 : Nat) "java/lang/StringUTF16" "$assertionsDisabled" "Z") ∈ lw_all := lw_g (lw_at lw_m2 192 rfl) rfl
theorem q559 : (Jvm.Cond.laysStatic "java/lang/StringUTF16" "$assertionsDisabled" "Z") ∈ lw_tbl := lw_at lw_m2 193 rfl
theorem q560 : (Jvm.Cond.fieldLink "java/lang/StringUTF16" (59 : Nat) "java/lang/StringUTF16" "HI_BYTE_SHIFT" "I") ∈ lw_all := lw_g (lw_at lw_m2 194 rfl) rfl
theorem q561 : (Jvm.Cond.laysStatic "java/lang/StringUTF16" "HI_BYTE_SHIFT" "I") ∈ lw_tbl := lw_at lw_m2 195 rfl
theorem q562 : (Jvm.Cond.fieldLink "java/lang/StringUTF16" (63 : Nat) "java/lang/StringUTF16" "LO_BYTE_SHIFT" "I") ∈ lw_all := lw_g (lw_at lw_m2 196 rfl) rfl
theorem q563 : (Jvm.Cond.laysStatic "java/lang/StringUTF16" "LO_BYTE_SHIFT" "I") ∈ lw_tbl := lw_at lw_m2 197 rfl
theorem q564 : (Jvm.Cond.methodLink "java/lang/StringUTF16" (232 : Nat) ({ cls := "java/lang/StringUTF16", name := "indexOfSupplementary", desc := "([BIII)I" } : Jvm.MethodName)) ∈ lw_all := lw_g (lw_at lw_m2 198 rfl) rfl
theorem q565 : (Jvm.Cond.static ({ cls := "java/lang/StringUTF16", name := "indexOfSupplementary", desc := "([BIII)I" } : Jvm.MethodName)) ∈ lw_all := lw_g (lw_at lw_m2 199 rfl) rfl
theorem q566 : (Jvm.Cond.code ({ cls := "java/lang/StringUTF16", name := "indexOfSupplementary", desc := "([BIII)I" } : Jvm.MethodName) prog_23_method_49_code (7 : Nat) (Option.some Jvm.ClassFile.FieldType.int)) ∈ lw_all := lw_g (lw_at lw_m2 200 rfl) rfl
theorem q567 : (Jvm.Cond.methodLink "java/lang/StringUTF16" (164 : Nat) ({ cls := "java/lang/Character", name := "isValidCodePoint", desc := "(I)Z" } : Jvm.MethodName)) ∈ lw_all := lw_g (lw_at lw_m2 201 rfl) rfl
theorem q570 : (Jvm.Cond.methodLink "java/lang/StringUTF16" (157 : Nat) ({ cls := "java/lang/Character", name := "highSurrogate", desc := "(I)C" } : Jvm.MethodName)) ∈ lw_all := lw_g (lw_at lw_m2 204 rfl) rfl
theorem q574 : (Jvm.Cond.methodLink "java/lang/StringUTF16" (161 : Nat) ({ cls := "java/lang/Character", name := "lowSurrogate", desc := "(I)C" } : Jvm.MethodName)) ∈ lw_all := lw_g (lw_at lw_m2 208 rfl) rfl
theorem q602 : (Jvm.Cond.static ({ cls := "java/lang/StringUTF16", name := "charAt", desc := "([BI)C" } : Jvm.MethodName)) ∈ lw_all := lw_g (lw_at lw_m2 236 rfl) rfl
theorem q603 : (Jvm.Cond.code ({ cls := "java/lang/StringUTF16", name := "charAt", desc := "([BI)C" } : Jvm.MethodName) prog_23_method_83_code (2 : Nat) (Option.some Jvm.ClassFile.FieldType.char)) ∈ lw_all := lw_g (lw_at lw_m2 237 rfl) rfl
theorem q604 : (Jvm.Cond.methodLink "java/lang/StringUTF16" (67 : Nat) ({ cls := "java/lang/StringUTF16", name := "checkIndex", desc := "(I[B)V" } : Jvm.MethodName)) ∈ lw_all := lw_g (lw_at lw_m2 238 rfl) rfl
theorem q605 : (Jvm.Cond.static ({ cls := "java/lang/StringUTF16", name := "checkIndex", desc := "(I[B)V" } : Jvm.MethodName)) ∈ lw_all := lw_g (lw_at lw_m2 239 rfl) rfl
theorem q606 : (Jvm.Cond.code ({ cls := "java/lang/StringUTF16", name := "checkIndex", desc := "(I[B)V" } : Jvm.MethodName) prog_23_method_91_code (2 : Nat) (Option.none : Option Jvm.ClassFile.FieldType)) ∈ lw_all := lw_g (lw_at lw_m3 0 rfl) rfl
theorem q607 : (Jvm.Cond.methodLink "java/lang/StringUTF16" (414 : Nat) ({ cls := "java/lang/String", name := "checkIndex", desc := "(II)V" } : Jvm.MethodName)) ∈ lw_all := lw_g (lw_at lw_m3 1 rfl) rfl
/-! jdk/internal/util/Preconditions -/
set_option maxRecDepth 100000
def RJ4 : String := "jdk/internal/util/Preconditions"
abbrev cJ4_checkFromToIndex : ByteArray := prog_26_method_12_code
def yJ4_checkFromToIndex : MethodName := ⟨RJ4, "checkFromToIndex", "(IIILjava/util/function/BiFunction;)I"⟩
def dkwJ4_checkFromToIndex_0 : List UInt8 := [26, 155, 0, 13, 26, 27, 163, 0, 8, 27, 28, 164, 0, 11, 45, 26, 27, 28, 184, 0, 99, 191, 26, 172]
abbrev dktJ4_checkFromToIndex_0 : List UInt8 := dkwJ4_checkFromToIndex_0 ++ []
theorem dksJ4_checkFromToIndex_0 : cJ4_checkFromToIndex.data.toList.drop 0 = dktJ4_checkFromToIndex_0 := by decide +kernel
theorem dJ4_checkFromToIndex_0 : decode cJ4_checkFromToIndex 0 = .ok (.iload_n 0, 1) := dk_26 (dk_at dksJ4_checkFromToIndex_0 0 rfl rfl)
theorem dJ4_checkFromToIndex_1 : decode cJ4_checkFromToIndex 1 = .ok (.ifCond .lt 13, 3) := dk_155 0 13 (dk_at dksJ4_checkFromToIndex_0 1 rfl rfl)
theorem dJ4_checkFromToIndex_4 : decode cJ4_checkFromToIndex 4 = .ok (.iload_n 0, 1) := dk_26 (dk_at dksJ4_checkFromToIndex_0 4 rfl rfl)
theorem dJ4_checkFromToIndex_5 : decode cJ4_checkFromToIndex 5 = .ok (.iload_n 1, 1) := dk_27 (dk_at dksJ4_checkFromToIndex_0 5 rfl rfl)
theorem dJ4_checkFromToIndex_6 : decode cJ4_checkFromToIndex 6 = .ok (.if_icmp .gt 8, 3) := dk_163 0 8 (dk_at dksJ4_checkFromToIndex_0 6 rfl rfl)
theorem dJ4_checkFromToIndex_9 : decode cJ4_checkFromToIndex 9 = .ok (.iload_n 1, 1) := dk_27 (dk_at dksJ4_checkFromToIndex_0 9 rfl rfl)
theorem dJ4_checkFromToIndex_10 : decode cJ4_checkFromToIndex 10 = .ok (.iload_n 2, 1) := dk_28 (dk_at dksJ4_checkFromToIndex_0 10 rfl rfl)
theorem dJ4_checkFromToIndex_11 : decode cJ4_checkFromToIndex 11 = .ok (.if_icmp .le 11, 3) := dk_164 0 11 (dk_at dksJ4_checkFromToIndex_0 11 rfl rfl)
theorem dJ4_checkFromToIndex_14 : decode cJ4_checkFromToIndex 14 = .ok (.aload_n 3, 1) := dk_45 (dk_at dksJ4_checkFromToIndex_0 14 rfl rfl)
theorem dJ4_checkFromToIndex_15 : decode cJ4_checkFromToIndex 15 = .ok (.iload_n 0, 1) := dk_26 (dk_at dksJ4_checkFromToIndex_0 15 rfl rfl)
theorem dJ4_checkFromToIndex_16 : decode cJ4_checkFromToIndex 16 = .ok (.iload_n 1, 1) := dk_27 (dk_at dksJ4_checkFromToIndex_0 16 rfl rfl)
theorem dJ4_checkFromToIndex_17 : decode cJ4_checkFromToIndex 17 = .ok (.iload_n 2, 1) := dk_28 (dk_at dksJ4_checkFromToIndex_0 17 rfl rfl)
theorem dJ4_checkFromToIndex_18 : decode cJ4_checkFromToIndex 18 = .ok (.invokestatic 99, 3) := dk_184 0 99 (dk_at dksJ4_checkFromToIndex_0 18 rfl rfl)
theorem dJ4_checkFromToIndex_21 : decode cJ4_checkFromToIndex 21 = .ok (.athrow, 1) := dk_191 (dk_at dksJ4_checkFromToIndex_0 21 rfl rfl)
theorem dJ4_checkFromToIndex_22 : decode cJ4_checkFromToIndex 22 = .ok (.iload_n 0, 1) := dk_26 (dk_at dksJ4_checkFromToIndex_0 22 rfl rfl)
theorem dJ4_checkFromToIndex_23 : decode cJ4_checkFromToIndex 23 = .ok (.ireturn, 1) := dk_172 (dk_at dksJ4_checkFromToIndex_0 23 rfl rfl)
abbrev cJ4_checkIndex : ByteArray := prog_26_method_11_code
def yJ4_checkIndex : MethodName := ⟨RJ4, "checkIndex", "(IILjava/util/function/BiFunction;)I"⟩
def dkwJ4_checkIndex_0 : List UInt8 := [26, 155, 0, 8, 26, 27, 161, 0, 10, 44, 26, 27, 184, 0, 95, 191, 26, 172]
abbrev dktJ4_checkIndex_0 : List UInt8 := dkwJ4_checkIndex_0 ++ []
theorem dksJ4_checkIndex_0 : cJ4_checkIndex.data.toList.drop 0 = dktJ4_checkIndex_0 := by decide +kernel
theorem dJ4_checkIndex_0 : decode cJ4_checkIndex 0 = .ok (.iload_n 0, 1) := dk_26 (dk_at dksJ4_checkIndex_0 0 rfl rfl)
theorem dJ4_checkIndex_1 : decode cJ4_checkIndex 1 = .ok (.ifCond .lt 8, 3) := dk_155 0 8 (dk_at dksJ4_checkIndex_0 1 rfl rfl)
theorem dJ4_checkIndex_4 : decode cJ4_checkIndex 4 = .ok (.iload_n 0, 1) := dk_26 (dk_at dksJ4_checkIndex_0 4 rfl rfl)
theorem dJ4_checkIndex_5 : decode cJ4_checkIndex 5 = .ok (.iload_n 1, 1) := dk_27 (dk_at dksJ4_checkIndex_0 5 rfl rfl)
theorem dJ4_checkIndex_6 : decode cJ4_checkIndex 6 = .ok (.if_icmp .lt 10, 3) := dk_161 0 10 (dk_at dksJ4_checkIndex_0 6 rfl rfl)
theorem dJ4_checkIndex_9 : decode cJ4_checkIndex 9 = .ok (.aload_n 2, 1) := dk_44 (dk_at dksJ4_checkIndex_0 9 rfl rfl)
theorem dJ4_checkIndex_10 : decode cJ4_checkIndex 10 = .ok (.iload_n 0, 1) := dk_26 (dk_at dksJ4_checkIndex_0 10 rfl rfl)
theorem dJ4_checkIndex_11 : decode cJ4_checkIndex 11 = .ok (.iload_n 1, 1) := dk_27 (dk_at dksJ4_checkIndex_0 11 rfl rfl)
theorem dJ4_checkIndex_12 : decode cJ4_checkIndex 12 = .ok (.invokestatic 95, 3) := dk_184 0 95 (dk_at dksJ4_checkIndex_0 12 rfl rfl)
theorem dJ4_checkIndex_15 : decode cJ4_checkIndex 15 = .ok (.athrow, 1) := dk_191 (dk_at dksJ4_checkIndex_0 15 rfl rfl)
theorem dJ4_checkIndex_16 : decode cJ4_checkIndex 16 = .ok (.iload_n 0, 1) := dk_26 (dk_at dksJ4_checkIndex_0 16 rfl rfl)
theorem dJ4_checkIndex_17 : decode cJ4_checkIndex 17 = .ok (.ireturn, 1) := dk_172 (dk_at dksJ4_checkIndex_0 17 rfl rfl)
theorem q138 : (Jvm.Cond.initialized "jdk/internal/util/Preconditions") ∈ lw_all := lw_g (lw_at lw_m1 12 rfl) rfl
theorem q548 : (Jvm.Cond.laysStatic "jdk/internal/util/Preconditions" "SIOOBE_FORMATTER" "Ljava/util/function/BiFunction;") ∈ lw_tbl := lw_at lw_m2 182 rfl
theorem q550 : (Jvm.Cond.static ({ cls := "jdk/internal/util/Preconditions", name := "checkFromToIndex", desc := "(IIILjava/util/function/BiFunction;)I" } : Jvm.MethodName)) ∈ lw_all := lw_g (lw_at lw_m2 184 rfl) rfl
theorem q551 : (Jvm.Cond.code ({ cls := "jdk/internal/util/Preconditions", name := "checkFromToIndex", desc := "(IIILjava/util/function/BiFunction;)I" } : Jvm.MethodName) prog_26_method_12_code (4 : Nat) (Option.some Jvm.ClassFile.FieldType.int)) ∈ lw_all := lw_g (lw_at lw_m2 185 rfl) rfl
theorem q599 : (Jvm.Cond.static ({ cls := "jdk/internal/util/Preconditions", name := "checkIndex", desc := "(IILjava/util/function/BiFunction;)I" } : Jvm.MethodName)) ∈ lw_all := lw_g (lw_at lw_m2 233 rfl) rfl
theorem q600 : (Jvm.Cond.code ({ cls := "jdk/internal/util/Preconditions", name := "checkIndex", desc := "(IILjava/util/function/BiFunction;)I" } : Jvm.MethodName) prog_26_method_11_code (3 : Nat) (Option.some Jvm.ClassFile.FieldType.int)) ∈ lw_all := lw_g (lw_at lw_m2 234 rfl) rfl
/-! java/lang/Character -/
set_option maxRecDepth 100000
def RJ5 : String := "java/lang/Character"
abbrev cJ5_isValidCodePoint : ByteArray := prog_13_method_11_code
def yJ5_isValidCodePoint : MethodName := ⟨RJ5, "isValidCodePoint", "(I)Z"⟩
def dkwJ5_isValidCodePoint_0 : List UInt8 := [26, 16, 16, 124, 60, 27, 16, 17, 162, 0, 7, 4, 167, 0, 4, 3, 172]
abbrev dktJ5_isValidCodePoint_0 : List UInt8 := dkwJ5_isValidCodePoint_0 ++ []
theorem dksJ5_isValidCodePoint_0 : cJ5_isValidCodePoint.data.toList.drop 0 = dktJ5_isValidCodePoint_0 := by decide +kernel
theorem dJ5_isValidCodePoint_0 : decode cJ5_isValidCodePoint 0 = .ok (.iload_n 0, 1) := dk_26 (dk_at dksJ5_isValidCodePoint_0 0 rfl rfl)
theorem dJ5_isValidCodePoint_1 : decode cJ5_isValidCodePoint 1 = .ok (.bipush 16, 2) := dk_16 16 (dk_at dksJ5_isValidCodePoint_0 1 rfl rfl)
theorem dJ5_isValidCodePoint_3 : decode cJ5_isValidCodePoint 3 = .ok (.iushr, 1) := dk_124 (dk_at dksJ5_isValidCodePoint_0 3 rfl rfl)
theorem dJ5_isValidCodePoint_4 : decode cJ5_isValidCodePoint 4 = .ok (.istore_n 1, 1) := dk_60 (dk_at dksJ5_isValidCodePoint_0 4 rfl rfl)
theorem dJ5_isValidCodePoint_5 : decode cJ5_isValidCodePoint 5 = .ok (.iload_n 1, 1) := dk_27 (dk_at dksJ5_isValidCodePoint_0 5 rfl rfl)
theorem dJ5_isValidCodePoint_6 : decode cJ5_isValidCodePoint 6 = .ok (.bipush 17, 2) := dk_16 17 (dk_at dksJ5_isValidCodePoint_0 6 rfl rfl)
theorem dJ5_isValidCodePoint_8 : decode cJ5_isValidCodePoint 8 = .ok (.if_icmp .ge 7, 3) := dk_162 0 7 (dk_at dksJ5_isValidCodePoint_0 8 rfl rfl)
theorem dJ5_isValidCodePoint_11 : decode cJ5_isValidCodePoint 11 = .ok (.iconst 1, 1) := dk_4 (dk_at dksJ5_isValidCodePoint_0 11 rfl rfl)
theorem dJ5_isValidCodePoint_12 : decode cJ5_isValidCodePoint 12 = .ok (.goto 4, 3) := dk_167 0 4 (dk_at dksJ5_isValidCodePoint_0 12 rfl rfl)
theorem dJ5_isValidCodePoint_15 : decode cJ5_isValidCodePoint 15 = .ok (.iconst 0, 1) := dk_3 (dk_at dksJ5_isValidCodePoint_0 15 rfl rfl)
theorem dJ5_isValidCodePoint_16 : decode cJ5_isValidCodePoint 16 = .ok (.ireturn, 1) := dk_172 (dk_at dksJ5_isValidCodePoint_0 16 rfl rfl)
abbrev cJ5_highSurrogate : ByteArray := prog_13_method_28_code
def yJ5_highSurrogate : MethodName := ⟨RJ5, "highSurrogate", "(I)C"⟩
def dkwJ5_highSurrogate_0 : List UInt8 := [26, 16, 10, 124, 18, 110, 96, 146, 172]
abbrev dktJ5_highSurrogate_0 : List UInt8 := dkwJ5_highSurrogate_0 ++ []
theorem dksJ5_highSurrogate_0 : cJ5_highSurrogate.data.toList.drop 0 = dktJ5_highSurrogate_0 := by decide +kernel
theorem dJ5_highSurrogate_0 : decode cJ5_highSurrogate 0 = .ok (.iload_n 0, 1) := dk_26 (dk_at dksJ5_highSurrogate_0 0 rfl rfl)
theorem dJ5_highSurrogate_1 : decode cJ5_highSurrogate 1 = .ok (.bipush 10, 2) := dk_16 10 (dk_at dksJ5_highSurrogate_0 1 rfl rfl)
theorem dJ5_highSurrogate_3 : decode cJ5_highSurrogate 3 = .ok (.iushr, 1) := dk_124 (dk_at dksJ5_highSurrogate_0 3 rfl rfl)
theorem dJ5_highSurrogate_4 : decode cJ5_highSurrogate 4 = .ok (.ldc 110, 2) := dk_18 110 (dk_at dksJ5_highSurrogate_0 4 rfl rfl)
theorem dJ5_highSurrogate_6 : decode cJ5_highSurrogate 6 = .ok (.iadd, 1) := dk_96 (dk_at dksJ5_highSurrogate_0 6 rfl rfl)
theorem dJ5_highSurrogate_7 : decode cJ5_highSurrogate 7 = .ok (.i2c, 1) := dk_146 (dk_at dksJ5_highSurrogate_0 7 rfl rfl)
theorem dJ5_highSurrogate_8 : decode cJ5_highSurrogate 8 = .ok (.ireturn, 1) := dk_172 (dk_at dksJ5_highSurrogate_0 8 rfl rfl)
abbrev cJ5_lowSurrogate : ByteArray := prog_13_method_29_code
def yJ5_lowSurrogate : MethodName := ⟨RJ5, "lowSurrogate", "(I)C"⟩
def dkwJ5_lowSurrogate_0 : List UInt8 := [26, 17, 3, 255, 126, 18, 76, 96, 146, 172]
abbrev dktJ5_lowSurrogate_0 : List UInt8 := dkwJ5_lowSurrogate_0 ++ []
theorem dksJ5_lowSurrogate_0 : cJ5_lowSurrogate.data.toList.drop 0 = dktJ5_lowSurrogate_0 := by decide +kernel
theorem dJ5_lowSurrogate_0 : decode cJ5_lowSurrogate 0 = .ok (.iload_n 0, 1) := dk_26 (dk_at dksJ5_lowSurrogate_0 0 rfl rfl)
theorem dJ5_lowSurrogate_1 : decode cJ5_lowSurrogate 1 = .ok (.sipush 1023, 3) := dk_17 3 255 (dk_at dksJ5_lowSurrogate_0 1 rfl rfl)
theorem dJ5_lowSurrogate_4 : decode cJ5_lowSurrogate 4 = .ok (.iand, 1) := dk_126 (dk_at dksJ5_lowSurrogate_0 4 rfl rfl)
theorem dJ5_lowSurrogate_5 : decode cJ5_lowSurrogate 5 = .ok (.ldc 76, 2) := dk_18 76 (dk_at dksJ5_lowSurrogate_0 5 rfl rfl)
theorem dJ5_lowSurrogate_7 : decode cJ5_lowSurrogate 7 = .ok (.iadd, 1) := dk_96 (dk_at dksJ5_lowSurrogate_0 7 rfl rfl)
theorem dJ5_lowSurrogate_8 : decode cJ5_lowSurrogate 8 = .ok (.i2c, 1) := dk_146 (dk_at dksJ5_lowSurrogate_0 8 rfl rfl)
theorem dJ5_lowSurrogate_9 : decode cJ5_lowSurrogate 9 = .ok (.ireturn, 1) := dk_172 (dk_at dksJ5_lowSurrogate_0 9 rfl rfl)
theorem q139 : (Jvm.Cond.initialized "java/lang/Character") ∈ lw_all := lw_g (lw_at lw_m1 13 rfl) rfl
theorem q568 : (Jvm.Cond.static ({ cls := "java/lang/Character", name := "isValidCodePoint", desc := "(I)Z" } : Jvm.MethodName)) ∈ lw_all := lw_g (lw_at lw_m2 202 rfl) rfl
theorem q569 : (Jvm.Cond.code ({ cls := "java/lang/Character", name := "isValidCodePoint", desc := "(I)Z" } : Jvm.MethodName) prog_13_method_11_code (2 : Nat) (Option.some Jvm.ClassFile.FieldType.boolean)) ∈ lw_all := lw_g (lw_at lw_m2 203 rfl) rfl
theorem q571 : (Jvm.Cond.static ({ cls := "java/lang/Character", name := "highSurrogate", desc := "(I)C" } : Jvm.MethodName)) ∈ lw_all := lw_g (lw_at lw_m2 205 rfl) rfl
theorem q572 : (Jvm.Cond.code ({ cls := "java/lang/Character", name := "highSurrogate", desc := "(I)C" } : Jvm.MethodName) prog_13_method_28_code (1 : Nat) (Option.some Jvm.ClassFile.FieldType.char)) ∈ lw_all := lw_g (lw_at lw_m2 206 rfl) rfl
theorem q573 : (Jvm.Cond.constant "java/lang/Character" (110 : Nat) (55232 : Int32)) ∈ lw_all := lw_g (lw_at lw_m2 207 rfl) rfl
theorem q575 : (Jvm.Cond.static ({ cls := "java/lang/Character", name := "lowSurrogate", desc := "(I)C" } : Jvm.MethodName)) ∈ lw_all := lw_g (lw_at lw_m2 209 rfl) rfl
theorem q576 : (Jvm.Cond.code ({ cls := "java/lang/Character", name := "lowSurrogate", desc := "(I)C" } : Jvm.MethodName) prog_13_method_29_code (1 : Nat) (Option.some Jvm.ClassFile.FieldType.char)) ∈ lw_all := lw_g (lw_at lw_m2 210 rfl) rfl
theorem q577 : (Jvm.Cond.constant "java/lang/Character" (76 : Nat) (56320 : Int32)) ∈ lw_all := lw_g (lw_at lw_m2 211 rfl) rfl
/-! java/lang/Integer -/
set_option maxRecDepth 100000
def RJ6 : String := "java/lang/Integer"
abbrev cJ6_bitCount : ByteArray := prog_16_method_49_code
def yJ6_bitCount : MethodName := ⟨RJ6, "bitCount", "(I)I"⟩
def dkwJ6_bitCount_2 : List UInt8 := [26, 16, 63, 126, 172]
abbrev dktJ6_bitCount_2 : List UInt8 := dkwJ6_bitCount_2 ++ []
def dkwJ6_bitCount_1 : List UInt8 := [26, 26, 7, 124, 96, 19, 1, 11, 126, 59, 26, 26, 16, 8, 124, 96, 59, 26, 26, 16, 16, 124, 96, 59]
abbrev dktJ6_bitCount_1 : List UInt8 := dkwJ6_bitCount_1 ++ dktJ6_bitCount_2
def dkwJ6_bitCount_0 : List UInt8 := [26, 26, 4, 124, 19, 1, 9, 126, 100, 59, 26, 19, 1, 10, 126, 26, 5, 124, 19, 1, 10, 126, 96, 59]
abbrev dktJ6_bitCount_0 : List UInt8 := dkwJ6_bitCount_0 ++ dktJ6_bitCount_1
theorem dksJ6_bitCount_0 : cJ6_bitCount.data.toList.drop 0 = dktJ6_bitCount_0 := by decide +kernel
theorem dksJ6_bitCount_1 : cJ6_bitCount.data.toList.drop 24 = dktJ6_bitCount_1 := dk_seg dksJ6_bitCount_0 24 rfl rfl
theorem dksJ6_bitCount_2 : cJ6_bitCount.data.toList.drop 48 = dktJ6_bitCount_2 := dk_seg dksJ6_bitCount_1 24 rfl rfl
theorem dJ6_bitCount_0 : decode cJ6_bitCount 0 = .ok (.iload_n 0, 1) := dk_26 (dk_at dksJ6_bitCount_0 0 rfl rfl)
theorem dJ6_bitCount_1 : decode cJ6_bitCount 1 = .ok (.iload_n 0, 1) := dk_26 (dk_at dksJ6_bitCount_0 1 rfl rfl)
theorem dJ6_bitCount_2 : decode cJ6_bitCount 2 = .ok (.iconst 1, 1) := dk_4 (dk_at dksJ6_bitCount_0 2 rfl rfl)
theorem dJ6_bitCount_3 : decode cJ6_bitCount 3 = .ok (.iushr, 1) := dk_124 (dk_at dksJ6_bitCount_0 3 rfl rfl)
theorem dJ6_bitCount_4 : decode cJ6_bitCount 4 = .ok (.ldc_w 265, 3) := dk_19 1 9 (dk_at dksJ6_bitCount_0 4 rfl rfl)
theorem dJ6_bitCount_7 : decode cJ6_bitCount 7 = .ok (.iand, 1) := dk_126 (dk_at dksJ6_bitCount_0 7 rfl rfl)
theorem dJ6_bitCount_8 : decode cJ6_bitCount 8 = .ok (.isub, 1) := dk_100 (dk_at dksJ6_bitCount_0 8 rfl rfl)
theorem dJ6_bitCount_9 : decode cJ6_bitCount 9 = .ok (.istore_n 0, 1) := dk_59 (dk_at dksJ6_bitCount_0 9 rfl rfl)
theorem dJ6_bitCount_10 : decode cJ6_bitCount 10 = .ok (.iload_n 0, 1) := dk_26 (dk_at dksJ6_bitCount_0 10 rfl rfl)
theorem dJ6_bitCount_11 : decode cJ6_bitCount 11 = .ok (.ldc_w 266, 3) := dk_19 1 10 (dk_at dksJ6_bitCount_0 11 rfl rfl)
theorem dJ6_bitCount_14 : decode cJ6_bitCount 14 = .ok (.iand, 1) := dk_126 (dk_at dksJ6_bitCount_0 14 rfl rfl)
theorem dJ6_bitCount_15 : decode cJ6_bitCount 15 = .ok (.iload_n 0, 1) := dk_26 (dk_at dksJ6_bitCount_0 15 rfl rfl)
theorem dJ6_bitCount_16 : decode cJ6_bitCount 16 = .ok (.iconst 2, 1) := dk_5 (dk_at dksJ6_bitCount_0 16 rfl rfl)
theorem dJ6_bitCount_17 : decode cJ6_bitCount 17 = .ok (.iushr, 1) := dk_124 (dk_at dksJ6_bitCount_0 17 rfl rfl)
theorem dJ6_bitCount_18 : decode cJ6_bitCount 18 = .ok (.ldc_w 266, 3) := dk_19 1 10 (dk_at dksJ6_bitCount_0 18 rfl rfl)
theorem dJ6_bitCount_21 : decode cJ6_bitCount 21 = .ok (.iand, 1) := dk_126 (dk_at dksJ6_bitCount_0 21 rfl rfl)
theorem dJ6_bitCount_22 : decode cJ6_bitCount 22 = .ok (.iadd, 1) := dk_96 (dk_at dksJ6_bitCount_0 22 rfl rfl)
theorem dJ6_bitCount_23 : decode cJ6_bitCount 23 = .ok (.istore_n 0, 1) := dk_59 (dk_at dksJ6_bitCount_0 23 rfl rfl)
theorem dJ6_bitCount_24 : decode cJ6_bitCount 24 = .ok (.iload_n 0, 1) := dk_26 (dk_at dksJ6_bitCount_1 0 rfl rfl)
theorem dJ6_bitCount_25 : decode cJ6_bitCount 25 = .ok (.iload_n 0, 1) := dk_26 (dk_at dksJ6_bitCount_1 1 rfl rfl)
theorem dJ6_bitCount_26 : decode cJ6_bitCount 26 = .ok (.iconst 4, 1) := dk_7 (dk_at dksJ6_bitCount_1 2 rfl rfl)
theorem dJ6_bitCount_27 : decode cJ6_bitCount 27 = .ok (.iushr, 1) := dk_124 (dk_at dksJ6_bitCount_1 3 rfl rfl)
theorem dJ6_bitCount_28 : decode cJ6_bitCount 28 = .ok (.iadd, 1) := dk_96 (dk_at dksJ6_bitCount_1 4 rfl rfl)
theorem dJ6_bitCount_29 : decode cJ6_bitCount 29 = .ok (.ldc_w 267, 3) := dk_19 1 11 (dk_at dksJ6_bitCount_1 5 rfl rfl)
theorem dJ6_bitCount_32 : decode cJ6_bitCount 32 = .ok (.iand, 1) := dk_126 (dk_at dksJ6_bitCount_1 8 rfl rfl)
theorem dJ6_bitCount_33 : decode cJ6_bitCount 33 = .ok (.istore_n 0, 1) := dk_59 (dk_at dksJ6_bitCount_1 9 rfl rfl)
theorem dJ6_bitCount_34 : decode cJ6_bitCount 34 = .ok (.iload_n 0, 1) := dk_26 (dk_at dksJ6_bitCount_1 10 rfl rfl)
theorem dJ6_bitCount_35 : decode cJ6_bitCount 35 = .ok (.iload_n 0, 1) := dk_26 (dk_at dksJ6_bitCount_1 11 rfl rfl)
theorem dJ6_bitCount_36 : decode cJ6_bitCount 36 = .ok (.bipush 8, 2) := dk_16 8 (dk_at dksJ6_bitCount_1 12 rfl rfl)
theorem dJ6_bitCount_38 : decode cJ6_bitCount 38 = .ok (.iushr, 1) := dk_124 (dk_at dksJ6_bitCount_1 14 rfl rfl)
theorem dJ6_bitCount_39 : decode cJ6_bitCount 39 = .ok (.iadd, 1) := dk_96 (dk_at dksJ6_bitCount_1 15 rfl rfl)
theorem dJ6_bitCount_40 : decode cJ6_bitCount 40 = .ok (.istore_n 0, 1) := dk_59 (dk_at dksJ6_bitCount_1 16 rfl rfl)
theorem dJ6_bitCount_41 : decode cJ6_bitCount 41 = .ok (.iload_n 0, 1) := dk_26 (dk_at dksJ6_bitCount_1 17 rfl rfl)
theorem dJ6_bitCount_42 : decode cJ6_bitCount 42 = .ok (.iload_n 0, 1) := dk_26 (dk_at dksJ6_bitCount_1 18 rfl rfl)
theorem dJ6_bitCount_43 : decode cJ6_bitCount 43 = .ok (.bipush 16, 2) := dk_16 16 (dk_at dksJ6_bitCount_1 19 rfl rfl)
theorem dJ6_bitCount_45 : decode cJ6_bitCount 45 = .ok (.iushr, 1) := dk_124 (dk_at dksJ6_bitCount_1 21 rfl rfl)
theorem dJ6_bitCount_46 : decode cJ6_bitCount 46 = .ok (.iadd, 1) := dk_96 (dk_at dksJ6_bitCount_1 22 rfl rfl)
theorem dJ6_bitCount_47 : decode cJ6_bitCount 47 = .ok (.istore_n 0, 1) := dk_59 (dk_at dksJ6_bitCount_1 23 rfl rfl)
theorem dJ6_bitCount_48 : decode cJ6_bitCount 48 = .ok (.iload_n 0, 1) := dk_26 (dk_at dksJ6_bitCount_2 0 rfl rfl)
theorem dJ6_bitCount_49 : decode cJ6_bitCount 49 = .ok (.bipush 63, 2) := dk_16 63 (dk_at dksJ6_bitCount_2 1 rfl rfl)
theorem dJ6_bitCount_51 : decode cJ6_bitCount 51 = .ok (.iand, 1) := dk_126 (dk_at dksJ6_bitCount_2 3 rfl rfl)
theorem dJ6_bitCount_52 : decode cJ6_bitCount 52 = .ok (.ireturn, 1) := dk_172 (dk_at dksJ6_bitCount_2 4 rfl rfl)
theorem q144 : (Jvm.Cond.initialized "java/lang/Integer") ∈ lw_all := lw_g (lw_at lw_m1 18 rfl) rfl
theorem q933 : (Jvm.Cond.static ({ cls := "java/lang/Integer", name := "bitCount", desc := "(I)I" } : Jvm.MethodName)) ∈ lw_all := lw_g (lw_at lw_m4 87 rfl) rfl
theorem q934 : (Jvm.Cond.code ({ cls := "java/lang/Integer", name := "bitCount", desc := "(I)I" } : Jvm.MethodName) prog_16_method_49_code (1 : Nat) (Option.some Jvm.ClassFile.FieldType.int)) ∈ lw_all := lw_g (lw_at lw_m4 88 rfl) rfl
theorem q935 : (Jvm.Cond.constant "java/lang/Integer" (265 : Nat) (1431655765 : Int32)) ∈ lw_all := lw_g (lw_at lw_m4 89 rfl) rfl
theorem q936 : (Jvm.Cond.constant "java/lang/Integer" (266 : Nat) (858993459 : Int32)) ∈ lw_all := lw_g (lw_at lw_m4 90 rfl) rfl
theorem q937 : (Jvm.Cond.constant "java/lang/Integer" (267 : Nat) (252645135 : Int32)) ∈ lw_all := lw_g (lw_at lw_m4 91 rfl) rfl
/-! java/lang/Throwable -/
set_option maxRecDepth 100000
def RJ7 : String := "java/lang/Throwable"
def TJ7 : u_T := fun k => match k with
  | 0 => ("java/lang/Throwable", "cause", "Ljava/lang/Throwable;", false)
  | 1 => ("java/lang/Throwable", "stackTrace", "[Ljava/lang/StackTraceElement;", false)
  | 2 => ("java/lang/Throwable", "suppressedExceptions", "Ljava/util/List;", false)
  | 3 => ("java/lang/Throwable", "detailMessage", "Ljava/lang/String;", false)
  | _ => ("java/lang/Throwable", "backtrace", "Ljava/lang/Object;", false)
def tyJ7 : Nat → FieldType := fun k => match k with
  | 0 => .object "java/lang/Throwable"
  | 1 => .array (.object "java/lang/StackTraceElement")
  | 2 => .object "java/util/List"
  | 3 => .object "java/lang/String"
  | _ => .object "java/lang/Object"
abbrev wsJ70 : List Cond := u_ws RJ7 TJ7 5
theorem nmJ7 : ∀ a, a < 5 → ∀ b, b < 5 → a ≠ b → (TJ7 a).2.1 ≠ (TJ7 b).2.1 := by decide +kernel
theorem tyJ7_ok : ∀ k, k < 5 → parseFieldDescriptor (TJ7 k).2.2.1 = some (tyJ7 k) := by decide +kernel
abbrev cJ7_init : ByteArray := prog_25_method_2_code
def yJ7_init : MethodName := ⟨RJ7, "<init>", "(Ljava/lang/String;)V"⟩
def dkwJ7_init_1 : List UInt8 := [182, 0, 27, 87, 42, 43, 181, 0, 31, 177]
abbrev dktJ7_init_1 : List UInt8 := dkwJ7_init_1 ++ []
def dkwJ7_init_0 : List UInt8 := [42, 183, 0, 1, 42, 42, 181, 0, 7, 42, 178, 0, 13, 181, 0, 17, 42, 178, 0, 20, 181, 0, 24, 42]
abbrev dktJ7_init_0 : List UInt8 := dkwJ7_init_0 ++ dktJ7_init_1
theorem dksJ7_init_0 : cJ7_init.data.toList.drop 0 = dktJ7_init_0 := by decide +kernel
theorem dksJ7_init_1 : cJ7_init.data.toList.drop 24 = dktJ7_init_1 := dk_seg dksJ7_init_0 24 rfl rfl
theorem dJ7_init_0 : decode cJ7_init 0 = .ok (.aload_n 0, 1) := dk_42 (dk_at dksJ7_init_0 0 rfl rfl)
theorem dJ7_init_1 : decode cJ7_init 1 = .ok (.invokespecial 1, 3) := dk_183 0 1 (dk_at dksJ7_init_0 1 rfl rfl)
theorem dJ7_init_4 : decode cJ7_init 4 = .ok (.aload_n 0, 1) := dk_42 (dk_at dksJ7_init_0 4 rfl rfl)
theorem dJ7_init_5 : decode cJ7_init 5 = .ok (.aload_n 0, 1) := dk_42 (dk_at dksJ7_init_0 5 rfl rfl)
theorem dJ7_init_6 : decode cJ7_init 6 = .ok (.putfield 7, 3) := dk_181 0 7 (dk_at dksJ7_init_0 6 rfl rfl)
theorem dJ7_init_9 : decode cJ7_init 9 = .ok (.aload_n 0, 1) := dk_42 (dk_at dksJ7_init_0 9 rfl rfl)
theorem dJ7_init_10 : decode cJ7_init 10 = .ok (.getstatic 13, 3) := dk_178 0 13 (dk_at dksJ7_init_0 10 rfl rfl)
theorem dJ7_init_13 : decode cJ7_init 13 = .ok (.putfield 17, 3) := dk_181 0 17 (dk_at dksJ7_init_0 13 rfl rfl)
theorem dJ7_init_16 : decode cJ7_init 16 = .ok (.aload_n 0, 1) := dk_42 (dk_at dksJ7_init_0 16 rfl rfl)
theorem dJ7_init_17 : decode cJ7_init 17 = .ok (.getstatic 20, 3) := dk_178 0 20 (dk_at dksJ7_init_0 17 rfl rfl)
theorem dJ7_init_20 : decode cJ7_init 20 = .ok (.putfield 24, 3) := dk_181 0 24 (dk_at dksJ7_init_0 20 rfl rfl)
theorem dJ7_init_23 : decode cJ7_init 23 = .ok (.aload_n 0, 1) := dk_42 (dk_at dksJ7_init_0 23 rfl rfl)
theorem dJ7_init_24 : decode cJ7_init 24 = .ok (.invokevirtual 27, 3) := dk_182 0 27 (dk_at dksJ7_init_1 0 rfl rfl)
theorem dJ7_init_27 : decode cJ7_init 27 = .ok (.pop, 1) := dk_87 (dk_at dksJ7_init_1 3 rfl rfl)
theorem dJ7_init_28 : decode cJ7_init 28 = .ok (.aload_n 0, 1) := dk_42 (dk_at dksJ7_init_1 4 rfl rfl)
theorem dJ7_init_29 : decode cJ7_init 29 = .ok (.aload_n 1, 1) := dk_43 (dk_at dksJ7_init_1 5 rfl rfl)
theorem dJ7_init_30 : decode cJ7_init 30 = .ok (.putfield 31, 3) := dk_181 0 31 (dk_at dksJ7_init_1 6 rfl rfl)
theorem dJ7_init_33 : decode cJ7_init 33 = .ok (.return_, 1) := dk_177 (dk_at dksJ7_init_1 9 rfl rfl)
abbrev cJ7_init_2 : ByteArray := prog_25_method_1_code
def yJ7_init_2 : MethodName := ⟨RJ7, "<init>", "()V"⟩
def dkwJ7_init_2_1 : List UInt8 := [182, 0, 27, 87, 177]
abbrev dktJ7_init_2_1 : List UInt8 := dkwJ7_init_2_1 ++ []
def dkwJ7_init_2_0 : List UInt8 := [42, 183, 0, 1, 42, 42, 181, 0, 7, 42, 178, 0, 13, 181, 0, 17, 42, 178, 0, 20, 181, 0, 24, 42]
abbrev dktJ7_init_2_0 : List UInt8 := dkwJ7_init_2_0 ++ dktJ7_init_2_1
theorem dksJ7_init_2_0 : cJ7_init_2.data.toList.drop 0 = dktJ7_init_2_0 := by decide +kernel
theorem dksJ7_init_2_1 : cJ7_init_2.data.toList.drop 24 = dktJ7_init_2_1 := dk_seg dksJ7_init_2_0 24 rfl rfl
theorem dJ7_init_2_0 : decode cJ7_init_2 0 = .ok (.aload_n 0, 1) := dk_42 (dk_at dksJ7_init_2_0 0 rfl rfl)
theorem dJ7_init_2_1 : decode cJ7_init_2 1 = .ok (.invokespecial 1, 3) := dk_183 0 1 (dk_at dksJ7_init_2_0 1 rfl rfl)
theorem dJ7_init_2_4 : decode cJ7_init_2 4 = .ok (.aload_n 0, 1) := dk_42 (dk_at dksJ7_init_2_0 4 rfl rfl)
theorem dJ7_init_2_5 : decode cJ7_init_2 5 = .ok (.aload_n 0, 1) := dk_42 (dk_at dksJ7_init_2_0 5 rfl rfl)
theorem dJ7_init_2_6 : decode cJ7_init_2 6 = .ok (.putfield 7, 3) := dk_181 0 7 (dk_at dksJ7_init_2_0 6 rfl rfl)
theorem dJ7_init_2_9 : decode cJ7_init_2 9 = .ok (.aload_n 0, 1) := dk_42 (dk_at dksJ7_init_2_0 9 rfl rfl)
theorem dJ7_init_2_10 : decode cJ7_init_2 10 = .ok (.getstatic 13, 3) := dk_178 0 13 (dk_at dksJ7_init_2_0 10 rfl rfl)
theorem dJ7_init_2_13 : decode cJ7_init_2 13 = .ok (.putfield 17, 3) := dk_181 0 17 (dk_at dksJ7_init_2_0 13 rfl rfl)
theorem dJ7_init_2_16 : decode cJ7_init_2 16 = .ok (.aload_n 0, 1) := dk_42 (dk_at dksJ7_init_2_0 16 rfl rfl)
theorem dJ7_init_2_17 : decode cJ7_init_2 17 = .ok (.getstatic 20, 3) := dk_178 0 20 (dk_at dksJ7_init_2_0 17 rfl rfl)
theorem dJ7_init_2_20 : decode cJ7_init_2 20 = .ok (.putfield 24, 3) := dk_181 0 24 (dk_at dksJ7_init_2_0 20 rfl rfl)
theorem dJ7_init_2_23 : decode cJ7_init_2 23 = .ok (.aload_n 0, 1) := dk_42 (dk_at dksJ7_init_2_0 23 rfl rfl)
theorem dJ7_init_2_24 : decode cJ7_init_2 24 = .ok (.invokevirtual 27, 3) := dk_182 0 27 (dk_at dksJ7_init_2_1 0 rfl rfl)
theorem dJ7_init_2_27 : decode cJ7_init_2 27 = .ok (.pop, 1) := dk_87 (dk_at dksJ7_init_2_1 3 rfl rfl)
theorem dJ7_init_2_28 : decode cJ7_init_2 28 = .ok (.return_, 1) := dk_177 (dk_at dksJ7_init_2_1 4 rfl rfl)
theorem q145 : (Jvm.Cond.initialized "java/lang/Throwable") ∈ lw_all := lw_g (lw_at lw_m1 19 rfl) rfl
theorem q1233 : (Jvm.Cond.instanceMethod ({ cls := "java/lang/Throwable", name := "<init>", desc := "(Ljava/lang/String;)V" } : Jvm.MethodName)) ∈ lw_all := lw_g (lw_at lw_m5 147 rfl) rfl
theorem q1234 : (Jvm.Cond.code ({ cls := "java/lang/Throwable", name := "<init>", desc := "(Ljava/lang/String;)V" } : Jvm.MethodName) prog_25_method_2_code (2 : Nat) (Option.none : Option Jvm.ClassFile.FieldType)) ∈ lw_all := lw_g (lw_at lw_m5 148 rfl) rfl
theorem q1235 : (Jvm.Cond.methodLink "java/lang/Throwable" (1 : Nat) ({ cls := "java/lang/Object", name := "<init>", desc := "()V" } : Jvm.MethodName)) ∈ lw_all := lw_g (lw_at lw_m5 149 rfl) rfl
theorem q1236 : (Jvm.Cond.fieldLink "java/lang/Throwable" (13 : Nat) "java/lang/Throwable" "UNASSIGNED_STACK" "[Ljava/lang/StackTraceElement;") ∈ lw_all := lw_g (lw_at lw_m5 150 rfl) rfl
theorem q1237 : (Jvm.Cond.laysStatic "java/lang/Throwable" "UNASSIGNED_STACK" "[Ljava/lang/StackTraceElement;") ∈ lw_tbl := lw_at lw_m5 151 rfl
theorem q1238 : (Jvm.Cond.fieldLink "java/lang/Throwable" (20 : Nat) "java/lang/Throwable" "SUPPRESSED_SENTINEL" "Ljava/util/List;") ∈ lw_all := lw_g (lw_at lw_m5 152 rfl) rfl
theorem q1239 : (Jvm.Cond.laysStatic "java/lang/Throwable" "SUPPRESSED_SENTINEL" "Ljava/util/List;") ∈ lw_tbl := lw_at lw_m5 153 rfl
theorem q1240 : (Jvm.Cond.methodLink "java/lang/Throwable" (27 : Nat) ({ cls := "java/lang/Throwable", name := "fillInStackTrace", desc := "()Ljava/lang/Throwable;" } : Jvm.MethodName)) ∈ lw_all := lw_g (lw_at lw_m5 154 rfl) rfl
theorem q1241 : (Jvm.Cond.instanceMethod ({ cls := "java/lang/Throwable", name := "fillInStackTrace", desc := "()Ljava/lang/Throwable;" } : Jvm.MethodName)) ∈ lw_all := lw_g (lw_at lw_m5 155 rfl) rfl
theorem q1242 : (Jvm.Cond.sameMethod "java/lang/Throwable" "java/lang/Throwable" "fillInStackTrace" "()Ljava/lang/Throwable;") ∈ lw_all := lw_g (lw_at lw_m5 156 rfl) rfl
theorem q1255 : (Jvm.Cond.declares ({ cls := "java/lang/Throwable", name := "fillInStackTrace", desc := "()Ljava/lang/Throwable;" } : Jvm.MethodName)) ∈ lw_tbl := lw_at lw_m5 169 rfl
theorem q1259 : (Jvm.Cond.codeSync ({ cls := "java/lang/Throwable", name := "fillInStackTrace", desc := "()Ljava/lang/Throwable;" } : Jvm.MethodName) prog_25_method_18_code (1 : Nat) (Option.some (Jvm.ClassFile.FieldType.object "java/lang/Throwable"))) ∈ lw_all := lw_g (lw_at lw_m5 173 rfl) rfl
theorem q1260 : (Jvm.Cond.methodLink "java/lang/Throwable" (202 : Nat) ({ cls := "java/lang/Throwable", name := "fillInStackTrace", desc := "(I)Ljava/lang/Throwable;" } : Jvm.MethodName)) ∈ lw_all := lw_g (lw_at lw_m5 174 rfl) rfl
theorem q1261 : (Jvm.Cond.privateMethod ({ cls := "java/lang/Throwable", name := "fillInStackTrace", desc := "(I)Ljava/lang/Throwable;" } : Jvm.MethodName)) ∈ lw_tbl := lw_at lw_m5 175 rfl
theorem q1262 : (Jvm.Cond.instanceMethod ({ cls := "java/lang/Throwable", name := "fillInStackTrace", desc := "(I)Ljava/lang/Throwable;" } : Jvm.MethodName)) ∈ lw_all := lw_g (lw_at lw_m5 176 rfl) rfl
theorem q1263 : (Jvm.Cond.instantiable "java/lang/Throwable" (6 : Nat)) ∈ lw_all := lw_g (lw_at lw_m5 177 rfl) rfl
theorem q1264 : (Jvm.Cond.native ({ cls := "java/lang/Throwable", name := "fillInStackTrace", desc := "(I)Ljava/lang/Throwable;" } : Jvm.MethodName)) ∈ lw_all := lw_g (lw_at lw_m5 178 rfl) rfl
theorem q1265 : (Jvm.Cond.fieldLink "java/lang/Throwable" (198 : Nat) "java/lang/Throwable" "backtrace" "Ljava/lang/Object;") ∈ lw_all := lw_g (lw_at lw_m5 179 rfl) rfl
theorem q1266 : (Jvm.Cond.fieldLink "java/lang/Throwable" (31 : Nat) "java/lang/Throwable" "detailMessage" "Ljava/lang/String;") ∈ lw_all := lw_g (lw_at lw_m5 180 rfl) rfl
theorem q1267 : (Jvm.Cond.fieldLink "java/lang/Throwable" (7 : Nat) "java/lang/Throwable" "cause" "Ljava/lang/Throwable;") ∈ lw_all := lw_g (lw_at lw_m5 181 rfl) rfl
theorem q1268 : (Jvm.Cond.fieldLink "java/lang/Throwable" (17 : Nat) "java/lang/Throwable" "stackTrace" "[Ljava/lang/StackTraceElement;") ∈ lw_all := lw_g (lw_at lw_m5 182 rfl) rfl
theorem q1269 : (Jvm.Cond.fieldLink "java/lang/Throwable" (24 : Nat) "java/lang/Throwable" "suppressedExceptions" "Ljava/util/List;") ∈ lw_all := lw_g (lw_at lw_m5 183 rfl) rfl
theorem q1271 : (Jvm.Cond.soleField "java/lang/Throwable" "backtrace") ∈ lw_all := lw_g (lw_at lw_m5 185 rfl) rfl
theorem q1273 : (Jvm.Cond.soleField "java/lang/Throwable" "detailMessage") ∈ lw_all := lw_g (lw_at lw_m5 187 rfl) rfl
theorem q1275 : (Jvm.Cond.soleField "java/lang/Throwable" "cause") ∈ lw_all := lw_g (lw_at lw_m5 189 rfl) rfl
theorem q1277 : (Jvm.Cond.soleField "java/lang/Throwable" "stackTrace") ∈ lw_all := lw_g (lw_at lw_m5 191 rfl) rfl
theorem q1279 : (Jvm.Cond.soleField "java/lang/Throwable" "depth") ∈ lw_all := lw_g (lw_at lw_m5 193 rfl) rfl
theorem q1281 : (Jvm.Cond.soleField "java/lang/Throwable" "suppressedExceptions") ∈ lw_all := lw_g (lw_at lw_m5 195 rfl) rfl
theorem q1288 : (Jvm.Cond.declares ({ cls := "java/lang/Throwable", name := "<init>", desc := "()V" } : Jvm.MethodName)) ∈ lw_tbl := lw_at lw_m5 202 rfl
theorem q1289 : (Jvm.Cond.declares ({ cls := "java/lang/Throwable", name := "<init>", desc := "(Ljava/lang/String;)V" } : Jvm.MethodName)) ∈ lw_tbl := lw_at lw_m5 203 rfl
theorem q1291 : (Jvm.Cond.lays "java/lang/Throwable" "java/lang/Throwable" "cause" "Ljava/lang/Throwable;") ∈ lw_all := lw_g (lw_at lw_m5 205 rfl) rfl
theorem q1292 : (Jvm.Cond.lays "java/lang/Throwable" "java/lang/Throwable" "stackTrace" "[Ljava/lang/StackTraceElement;") ∈ lw_all := lw_g (lw_at lw_m5 206 rfl) rfl
theorem q1293 : (Jvm.Cond.lays "java/lang/Throwable" "java/lang/Throwable" "suppressedExceptions" "Ljava/util/List;") ∈ lw_all := lw_g (lw_at lw_m5 207 rfl) rfl
theorem q1294 : (Jvm.Cond.lays "java/lang/Throwable" "java/lang/Throwable" "detailMessage" "Ljava/lang/String;") ∈ lw_all := lw_g (lw_at lw_m5 208 rfl) rfl
theorem q1295 : (Jvm.Cond.lays "java/lang/Throwable" "java/lang/Throwable" "backtrace" "Ljava/lang/Object;") ∈ lw_all := lw_g (lw_at lw_m5 209 rfl) rfl
theorem q1296 : (Jvm.Cond.fieldLink "java/lang/Throwable" (198 : Nat) "java/lang/Throwable" "backtrace" "Ljava/lang/Object;") ∈ lw_all := lw_g (lw_at lw_m5 210 rfl) rfl
theorem q1297 : (Jvm.Cond.superclass "java/lang/Throwable" "java/lang/Object") ∈ lw_all := lw_g (lw_at lw_m5 211 rfl) rfl
theorem q1298 : (Jvm.Cond.instanceMethod ({ cls := "java/lang/Throwable", name := "<init>", desc := "()V" } : Jvm.MethodName)) ∈ lw_all := lw_g (lw_at lw_m5 212 rfl) rfl
theorem q1299 : (Jvm.Cond.code ({ cls := "java/lang/Throwable", name := "<init>", desc := "()V" } : Jvm.MethodName) prog_25_method_1_code (1 : Nat) (Option.none : Option Jvm.ClassFile.FieldType)) ∈ lw_all := lw_g (lw_at lw_m5 213 rfl) rfl
theorem q2033 : (Jvm.Cond.sameMethod "java/lang/Throwable" "java/lang/Throwable" "fillInStackTrace" "(I)Ljava/lang/Throwable;") ∈ lw_all := lw_g (lw_at lw_m8 227 rfl) rfl
theorem in_J7 : ∀ w ∈ wsJ70, w ∈ lw_all := lw_in wsJ70 [1291, 1292, 1293, 1294, 1295] (by decide +kernel) (by decide +kernel)
/-! java/lang/Exception -/
set_option maxRecDepth 100000
def RJ8 : String := "java/lang/Exception"
abbrev cJ8_init : ByteArray := prog_14_method_2_code
def yJ8_init : MethodName := ⟨RJ8, "<init>", "(Ljava/lang/String;)V"⟩
def dkwJ8_init_0 : List UInt8 := [42, 43, 183, 0, 7, 177]
abbrev dktJ8_init_0 : List UInt8 := dkwJ8_init_0 ++ []
theorem dksJ8_init_0 : cJ8_init.data.toList.drop 0 = dktJ8_init_0 := by decide +kernel
theorem dJ8_init_0 : decode cJ8_init 0 = .ok (.aload_n 0, 1) := dk_42 (dk_at dksJ8_init_0 0 rfl rfl)
theorem dJ8_init_1 : decode cJ8_init 1 = .ok (.aload_n 1, 1) := dk_43 (dk_at dksJ8_init_0 1 rfl rfl)
theorem dJ8_init_2 : decode cJ8_init 2 = .ok (.invokespecial 7, 3) := dk_183 0 7 (dk_at dksJ8_init_0 2 rfl rfl)
theorem dJ8_init_5 : decode cJ8_init 5 = .ok (.return_, 1) := dk_177 (dk_at dksJ8_init_0 5 rfl rfl)
abbrev cJ8_init_2 : ByteArray := prog_14_method_1_code
def yJ8_init_2 : MethodName := ⟨RJ8, "<init>", "()V"⟩
theorem dJ8_init_2_0 : decode cJ8_init_2 0 = .ok (.aload_n 0, 1) := by decide +kernel
theorem dJ8_init_2_1 : decode cJ8_init_2 1 = .ok (.invokespecial 1, 3) := by decide +kernel
theorem dJ8_init_2_4 : decode cJ8_init_2 4 = .ok (.return_, 1) := by decide +kernel
theorem q146 : (Jvm.Cond.initialized "java/lang/Exception") ∈ lw_all := lw_g (lw_at lw_m1 20 rfl) rfl
theorem q1230 : (Jvm.Cond.instanceMethod ({ cls := "java/lang/Exception", name := "<init>", desc := "(Ljava/lang/String;)V" } : Jvm.MethodName)) ∈ lw_all := lw_g (lw_at lw_m5 144 rfl) rfl
theorem q1231 : (Jvm.Cond.code ({ cls := "java/lang/Exception", name := "<init>", desc := "(Ljava/lang/String;)V" } : Jvm.MethodName) prog_14_method_2_code (2 : Nat) (Option.none : Option Jvm.ClassFile.FieldType)) ∈ lw_all := lw_g (lw_at lw_m5 145 rfl) rfl
theorem q1232 : (Jvm.Cond.methodLink "java/lang/Exception" (7 : Nat) ({ cls := "java/lang/Throwable", name := "<init>", desc := "(Ljava/lang/String;)V" } : Jvm.MethodName)) ∈ lw_all := lw_g (lw_at lw_m5 146 rfl) rfl
theorem q1258 : (Jvm.Cond.superclass "java/lang/Exception" "java/lang/Throwable") ∈ lw_all := lw_g (lw_at lw_m5 172 rfl) rfl
theorem q1286 : (Jvm.Cond.declares ({ cls := "java/lang/Exception", name := "<init>", desc := "()V" } : Jvm.MethodName)) ∈ lw_tbl := lw_at lw_m5 200 rfl
theorem q1287 : (Jvm.Cond.declares ({ cls := "java/lang/Exception", name := "<init>", desc := "(Ljava/lang/String;)V" } : Jvm.MethodName)) ∈ lw_tbl := lw_at lw_m5 201 rfl
theorem q1317 : (Jvm.Cond.instanceMethod ({ cls := "java/lang/Exception", name := "<init>", desc := "()V" } : Jvm.MethodName)) ∈ lw_all := lw_g (lw_at lw_m5 231 rfl) rfl
theorem q1318 : (Jvm.Cond.code ({ cls := "java/lang/Exception", name := "<init>", desc := "()V" } : Jvm.MethodName) prog_14_method_1_code (1 : Nat) (Option.none : Option Jvm.ClassFile.FieldType)) ∈ lw_all := lw_g (lw_at lw_m5 232 rfl) rfl
theorem q1319 : (Jvm.Cond.methodLink "java/lang/Exception" (1 : Nat) ({ cls := "java/lang/Throwable", name := "<init>", desc := "()V" } : Jvm.MethodName)) ∈ lw_all := lw_g (lw_at lw_m5 233 rfl) rfl
/-! java/lang/RuntimeException -/
set_option maxRecDepth 100000
def RJ9 : String := "java/lang/RuntimeException"
abbrev cJ9_init : ByteArray := prog_20_method_2_code
def yJ9_init : MethodName := ⟨RJ9, "<init>", "(Ljava/lang/String;)V"⟩
def dkwJ9_init_0 : List UInt8 := [42, 43, 183, 0, 7, 177]
abbrev dktJ9_init_0 : List UInt8 := dkwJ9_init_0 ++ []
theorem dksJ9_init_0 : cJ9_init.data.toList.drop 0 = dktJ9_init_0 := by decide +kernel
theorem dJ9_init_0 : decode cJ9_init 0 = .ok (.aload_n 0, 1) := dk_42 (dk_at dksJ9_init_0 0 rfl rfl)
theorem dJ9_init_1 : decode cJ9_init 1 = .ok (.aload_n 1, 1) := dk_43 (dk_at dksJ9_init_0 1 rfl rfl)
theorem dJ9_init_2 : decode cJ9_init 2 = .ok (.invokespecial 7, 3) := dk_183 0 7 (dk_at dksJ9_init_0 2 rfl rfl)
theorem dJ9_init_5 : decode cJ9_init 5 = .ok (.return_, 1) := dk_177 (dk_at dksJ9_init_0 5 rfl rfl)
abbrev cJ9_init_2 : ByteArray := prog_20_method_1_code
def yJ9_init_2 : MethodName := ⟨RJ9, "<init>", "()V"⟩
theorem dJ9_init_2_0 : decode cJ9_init_2 0 = .ok (.aload_n 0, 1) := by decide +kernel
theorem dJ9_init_2_1 : decode cJ9_init_2 1 = .ok (.invokespecial 1, 3) := by decide +kernel
theorem dJ9_init_2_4 : decode cJ9_init_2 4 = .ok (.return_, 1) := by decide +kernel
theorem q147 : (Jvm.Cond.initialized "java/lang/RuntimeException") ∈ lw_all := lw_g (lw_at lw_m1 21 rfl) rfl
theorem q1227 : (Jvm.Cond.instanceMethod ({ cls := "java/lang/RuntimeException", name := "<init>", desc := "(Ljava/lang/String;)V" } : Jvm.MethodName)) ∈ lw_all := lw_g (lw_at lw_m5 141 rfl) rfl
theorem q1228 : (Jvm.Cond.code ({ cls := "java/lang/RuntimeException", name := "<init>", desc := "(Ljava/lang/String;)V" } : Jvm.MethodName) prog_20_method_2_code (2 : Nat) (Option.none : Option Jvm.ClassFile.FieldType)) ∈ lw_all := lw_g (lw_at lw_m5 142 rfl) rfl
theorem q1229 : (Jvm.Cond.methodLink "java/lang/RuntimeException" (7 : Nat) ({ cls := "java/lang/Exception", name := "<init>", desc := "(Ljava/lang/String;)V" } : Jvm.MethodName)) ∈ lw_all := lw_g (lw_at lw_m5 143 rfl) rfl
theorem q1254 : (Jvm.Cond.sameMethod "java/lang/RuntimeException" "java/lang/Throwable" "fillInStackTrace" "()Ljava/lang/Throwable;") ∈ lw_all := lw_g (lw_at lw_m5 168 rfl) rfl
theorem q1257 : (Jvm.Cond.superclass "java/lang/RuntimeException" "java/lang/Exception") ∈ lw_all := lw_g (lw_at lw_m5 171 rfl) rfl
theorem q1284 : (Jvm.Cond.declares ({ cls := "java/lang/RuntimeException", name := "<init>", desc := "()V" } : Jvm.MethodName)) ∈ lw_tbl := lw_at lw_m5 198 rfl
theorem q1285 : (Jvm.Cond.declares ({ cls := "java/lang/RuntimeException", name := "<init>", desc := "(Ljava/lang/String;)V" } : Jvm.MethodName)) ∈ lw_tbl := lw_at lw_m5 199 rfl
theorem q1314 : (Jvm.Cond.instanceMethod ({ cls := "java/lang/RuntimeException", name := "<init>", desc := "()V" } : Jvm.MethodName)) ∈ lw_all := lw_g (lw_at lw_m5 228 rfl) rfl
theorem q1315 : (Jvm.Cond.code ({ cls := "java/lang/RuntimeException", name := "<init>", desc := "()V" } : Jvm.MethodName) prog_20_method_1_code (1 : Nat) (Option.none : Option Jvm.ClassFile.FieldType)) ∈ lw_all := lw_g (lw_at lw_m5 229 rfl) rfl
theorem q1316 : (Jvm.Cond.methodLink "java/lang/RuntimeException" (1 : Nat) ({ cls := "java/lang/Exception", name := "<init>", desc := "()V" } : Jvm.MethodName)) ∈ lw_all := lw_g (lw_at lw_m5 230 rfl) rfl
theorem q1334 : (Jvm.Cond.castable "java/lang/RuntimeException" "java/lang/Throwable") ∈ lw_tbl := lw_at lw_m6 8 rfl
