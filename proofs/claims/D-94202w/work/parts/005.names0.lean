/-! ThroughPackLaw -/
set_option maxRecDepth 100000
def RX0 : String := "ThroughPackLaw"
abbrev cX0_cell : ByteArray := method_2_code
def yX0_cell : MethodName := ⟨RX0, "cell", "([II)I"⟩
def dkwX0_cell_0 : List UInt8 := [27, 42, 190, 162, 0, 9, 42, 27, 46, 167, 0, 4, 3, 172]
abbrev dktX0_cell_0 : List UInt8 := dkwX0_cell_0 ++ []
theorem dksX0_cell_0 : cX0_cell.data.toList.drop 0 = dktX0_cell_0 := by decide +kernel
theorem dX0_cell_0 : decode cX0_cell 0 = .ok (.iload_n 1, 1) := dk_27 (dk_at dksX0_cell_0 0 rfl rfl)
theorem dX0_cell_1 : decode cX0_cell 1 = .ok (.aload_n 0, 1) := dk_42 (dk_at dksX0_cell_0 1 rfl rfl)
theorem dX0_cell_2 : decode cX0_cell 2 = .ok (.arraylength, 1) := dk_190 (dk_at dksX0_cell_0 2 rfl rfl)
theorem dX0_cell_3 : decode cX0_cell 3 = .ok (.if_icmp .ge 9, 3) := dk_162 0 9 (dk_at dksX0_cell_0 3 rfl rfl)
theorem dX0_cell_6 : decode cX0_cell 6 = .ok (.aload_n 0, 1) := dk_42 (dk_at dksX0_cell_0 6 rfl rfl)
theorem dX0_cell_7 : decode cX0_cell 7 = .ok (.iload_n 1, 1) := dk_27 (dk_at dksX0_cell_0 7 rfl rfl)
theorem dX0_cell_8 : decode cX0_cell 8 = .ok (.iaload, 1) := dk_46 (dk_at dksX0_cell_0 8 rfl rfl)
theorem dX0_cell_9 : decode cX0_cell 9 = .ok (.goto 4, 3) := dk_167 0 4 (dk_at dksX0_cell_0 9 rfl rfl)
theorem dX0_cell_12 : decode cX0_cell 12 = .ok (.iconst 0, 1) := dk_3 (dk_at dksX0_cell_0 12 rfl rfl)
theorem dX0_cell_13 : decode cX0_cell 13 = .ok (.ireturn, 1) := dk_172 (dk_at dksX0_cell_0 13 rfl rfl)
theorem q124 : (Jvm.Cond.initialized "ThroughPackLaw") ∈ lw_all := lw_g (lw_at lw_m1 0 rfl) rfl
theorem q157 : (Jvm.Cond.classLink "ThroughPackLaw" (7 : Nat) "ThroughPack") ∈ lw_all := lw_g (lw_at lw_m1 33 rfl) rfl
theorem q159 : (Jvm.Cond.methodLink "ThroughPackLaw" (15 : Nat) ({ cls := "ThroughPack", name := "<init>", desc := "(II)V" } : Jvm.MethodName)) ∈ lw_all := lw_g (lw_at lw_m1 35 rfl) rfl
theorem q327 : (Jvm.Cond.methodLink "ThroughPackLaw" (21 : Nat) ({ cls := "ThroughPack", name := "ice", desc := "(II)Z" } : Jvm.MethodName)) ∈ lw_all := lw_g (lw_at lw_m1 203 rfl) rfl
theorem q338 : (Jvm.Cond.methodLink "ThroughPackLaw" (26 : Nat) ({ cls := "ThroughPack", name := "iceAt", desc := "(I)I" } : Jvm.MethodName)) ∈ lw_all := lw_g (lw_at lw_m1 214 rfl) rfl
theorem q342 : (Jvm.Cond.methodLink "ThroughPackLaw" (31 : Nat) ({ cls := "ThroughPack", name := "mark", desc := "(IZZ)Z" } : Jvm.MethodName)) ∈ lw_all := lw_g (lw_at lw_m1 218 rfl) rfl
theorem q346 : (Jvm.Cond.methodLink "ThroughPackLaw" (36 : Nat) ({ cls := "ThroughPack", name := "edge", desc := "(I)Z" } : Jvm.MethodName)) ∈ lw_all := lw_g (lw_at lw_m1 222 rfl) rfl
theorem q350 : (Jvm.Cond.methodLink "ThroughPackLaw" (41 : Nat) ({ cls := "ThroughPack", name := "drift", desc := "(III)Z" } : Jvm.MethodName)) ∈ lw_all := lw_g (lw_at lw_m1 226 rfl) rfl
theorem q357 : (Jvm.Cond.methodLink "ThroughPackLaw" (46 : Nat) ({ cls := "ThroughPack", name := "chances", desc := "(IIIII)Z" } : Jvm.MethodName)) ∈ lw_all := lw_g (lw_at lw_m1 233 rfl) rfl
theorem q362 : (Jvm.Cond.methodLink "ThroughPackLaw" (51 : Nat) ({ cls := "ThroughPack", name := "ship", desc := "(III)Z" } : Jvm.MethodName)) ∈ lw_all := lw_g (lw_at lw_m1 238 rfl) rfl
theorem q366 : (Jvm.Cond.methodLink "ThroughPackLaw" (55 : Nat) ({ cls := "ThroughPack", name := "costs", desc := "(III)Z" } : Jvm.MethodName)) ∈ lw_all := lw_g (lw_at lw_m2 2 rfl) rfl
theorem q370 : (Jvm.Cond.methodLink "ThroughPackLaw" (59 : Nat) ({ cls := "ThroughPack", name := "wind", desc := "(I)Z" } : Jvm.MethodName)) ∈ lw_all := lw_g (lw_at lw_m2 6 rfl) rfl
theorem q374 : (Jvm.Cond.methodLink "ThroughPackLaw" (63 : Nat) ({ cls := "ThroughPack", name := "feed", desc := "(IIIII)I" } : Jvm.MethodName)) ∈ lw_all := lw_g (lw_at lw_m2 10 rfl) rfl
theorem q382 : (Jvm.Cond.methodLink "ThroughPackLaw" (68 : Nat) ({ cls := "ThroughPack", name := "end", desc := "(I)I" } : Jvm.MethodName)) ∈ lw_all := lw_g (lw_at lw_m2 18 rfl) rfl
theorem q386 : (Jvm.Cond.methodLink "ThroughPackLaw" (72 : Nat) ({ cls := "ThroughPack", name := "text", desc := "()I" } : Jvm.MethodName)) ∈ lw_all := lw_g (lw_at lw_m2 22 rfl) rfl
theorem q877 : (Jvm.Cond.methodLink "ThroughPackLaw" (77 : Nat) ({ cls := "ThroughPack", name := "fault", desc := "(I)I" } : Jvm.MethodName)) ∈ lw_all := lw_g (lw_at lw_m4 33 rfl) rfl
theorem q881 : (Jvm.Cond.methodLink "ThroughPackLaw" (81 : Nat) ({ cls := "ThroughPack", name := "by", desc := "(I)Z" } : Jvm.MethodName)) ∈ lw_all := lw_g (lw_at lw_m4 37 rfl) rfl
theorem q889 : (Jvm.Cond.methodLink "ThroughPackLaw" (85 : Nat) ({ cls := "ThroughPack", name := "can", desc := "(II)Z" } : Jvm.MethodName)) ∈ lw_all := lw_g (lw_at lw_m4 45 rfl) rfl
theorem q1015 : (Jvm.Cond.methodLink "ThroughPackLaw" (89 : Nat) ({ cls := "ThroughPack", name := "watch", desc := "(III)I" } : Jvm.MethodName)) ∈ lw_all := lw_g (lw_at lw_m4 171 rfl) rfl
theorem q1036 : (Jvm.Cond.methodLink "ThroughPackLaw" (94 : Nat) ({ cls := "ThroughPack", name := "of", desc := "(II)I" } : Jvm.MethodName)) ∈ lw_all := lw_g (lw_at lw_m4 192 rfl) rfl
theorem q1040 : (Jvm.Cond.methodLink "ThroughPackLaw" (107 : Nat) ({ cls := "ThroughPack", name := "soonest", desc := "(I)I" } : Jvm.MethodName)) ∈ lw_all := lw_g (lw_at lw_m4 196 rfl) rfl
theorem q1085 : (Jvm.Cond.methodLink "ThroughPackLaw" (111 : Nat) ({ cls := "ThroughPack", name := "least", desc := "()I" } : Jvm.MethodName)) ∈ lw_all := lw_g (lw_at lw_m5 1 rfl) rfl
theorem q1089 : (Jvm.Cond.methodLink "ThroughPackLaw" (99 : Nat) ({ cls := "ThroughPack", name := "ahead", desc := "(II)I" } : Jvm.MethodName)) ∈ lw_all := lw_g (lw_at lw_m5 5 rfl) rfl
theorem q1093 : (Jvm.Cond.methodLink "ThroughPackLaw" (103 : Nat) ({ cls := "ThroughPack", name := "many", desc := "(II)Z" } : Jvm.MethodName)) ∈ lw_all := lw_g (lw_at lw_m5 9 rfl) rfl
theorem q1097 : (Jvm.Cond.methodLink "ThroughPackLaw" (115 : Nat) ({ cls := "ThroughPack", name := "order", desc := "(II)I" } : Jvm.MethodName)) ∈ lw_all := lw_g (lw_at lw_m5 13 rfl) rfl
theorem q1101 : (Jvm.Cond.methodLink "ThroughPackLaw" (119 : Nat) ({ cls := "ThroughPack", name := "told", desc := "(I)I" } : Jvm.MethodName)) ∈ lw_all := lw_g (lw_at lw_m5 17 rfl) rfl
theorem q1109 : (Jvm.Cond.methodLink "ThroughPackLaw" (123 : Nat) ({ cls := "ThroughPack", name := "home", desc := "(I)Z" } : Jvm.MethodName)) ∈ lw_all := lw_g (lw_at lw_m5 25 rfl) rfl
theorem q1113 : (Jvm.Cond.methodLink "ThroughPackLaw" (127 : Nat) ({ cls := "ThroughPack", name := "last", desc := "()I" } : Jvm.MethodName)) ∈ lw_all := lw_g (lw_at lw_m5 29 rfl) rfl
theorem q1121 : (Jvm.Cond.methodLink "ThroughPackLaw" (131 : Nat) ({ cls := "ThroughPack", name := "walk", desc := "(I)I" } : Jvm.MethodName)) ∈ lw_all := lw_g (lw_at lw_m5 37 rfl) rfl
theorem q1133 : (Jvm.Cond.methodLink "ThroughPackLaw" (135 : Nat) ({ cls := "ThroughPack", name := "leave", desc := "()I" } : Jvm.MethodName)) ∈ lw_all := lw_g (lw_at lw_m5 49 rfl) rfl
theorem q1137 : (Jvm.Cond.methodLink "ThroughPackLaw" (139 : Nat) ({ cls := "ThroughPack", name := "winter", desc := "(I)I" } : Jvm.MethodName)) ∈ lw_all := lw_g (lw_at lw_m5 53 rfl) rfl
theorem q1145 : (Jvm.Cond.methodLink "ThroughPackLaw" (143 : Nat) ({ cls := "ThroughPack", name := "surest", desc := "(II)I" } : Jvm.MethodName)) ∈ lw_all := lw_g (lw_at lw_m5 61 rfl) rfl
theorem q1169 : (Jvm.Cond.methodLink "ThroughPackLaw" (147 : Nat) ({ cls := "ThroughPack", name := "leads", desc := "(I)I" } : Jvm.MethodName)) ∈ lw_all := lw_g (lw_at lw_m5 85 rfl) rfl
theorem q1173 : (Jvm.Cond.methodLink "ThroughPackLaw" (151 : Nat) ({ cls := "ThroughPack", name := "prior", desc := "(II)Z" } : Jvm.MethodName)) ∈ lw_all := lw_g (lw_at lw_m5 89 rfl) rfl
theorem q1180 : (Jvm.Cond.methodLink "ThroughPackLaw" (155 : Nat) ({ cls := "ThroughPack", name := "look", desc := "(II)I" } : Jvm.MethodName)) ∈ lw_all := lw_g (lw_at lw_m5 96 rfl) rfl
theorem q1184 : (Jvm.Cond.methodLink "ThroughPackLaw" (159 : Nat) ({ cls := "ThroughPack", name := "think", desc := "(II)I" } : Jvm.MethodName)) ∈ lw_all := lw_g (lw_at lw_m5 100 rfl) rfl
theorem q1194 : (Jvm.Cond.methodLink "ThroughPackLaw" (163 : Nat) ({ cls := "ThroughPack", name := "run", desc := "(IIII)I" } : Jvm.MethodName)) ∈ lw_all := lw_g (lw_at lw_m5 110 rfl) rfl
theorem q1223 : (Jvm.Cond.methodLink "ThroughPackLaw" (168 : Nat) ({ cls := "ThroughPack", name := "runs", desc := "(IIIII)I" } : Jvm.MethodName)) ∈ lw_all := lw_g (lw_at lw_m5 139 rfl) rfl
theorem q1227 : (Jvm.Cond.methodLink "ThroughPackLaw" (172 : Nat) ({ cls := "ThroughPack", name := "image", desc := "()I" } : Jvm.MethodName)) ∈ lw_all := lw_g (lw_at lw_m5 143 rfl) rfl
theorem q1231 : (Jvm.Cond.methodLink "ThroughPackLaw" (176 : Nat) ({ cls := "ThroughPack", name := "back", desc := "()I" } : Jvm.MethodName)) ∈ lw_all := lw_g (lw_at lw_m5 147 rfl) rfl
theorem q1235 : (Jvm.Cond.methodLink "ThroughPackLaw" (180 : Nat) ({ cls := "ThroughPack", name := "about", desc := "(I)I" } : Jvm.MethodName)) ∈ lw_all := lw_g (lw_at lw_m5 151 rfl) rfl
theorem q1239 : (Jvm.Cond.methodLink "ThroughPackLaw" (9 : Nat) ({ cls := "ThroughPackLaw", name := "cell", desc := "([II)I" } : Jvm.MethodName)) ∈ lw_all := lw_g (lw_at lw_m5 155 rfl) rfl
theorem q1240 : (Jvm.Cond.static ({ cls := "ThroughPackLaw", name := "cell", desc := "([II)I" } : Jvm.MethodName)) ∈ lw_all := lw_g (lw_at lw_m5 156 rfl) rfl
theorem q1241 : (Jvm.Cond.code ({ cls := "ThroughPackLaw", name := "cell", desc := "([II)I" } : Jvm.MethodName) method_2_code (2 : Nat) (Option.some Jvm.ClassFile.FieldType.int)) ∈ lw_all := lw_g (lw_at lw_m5 157 rfl) rfl
theorem q1242 : (Jvm.Cond.classLink "ThroughPackLaw" (18 : Nat) "ThroughPackModel") ∈ lw_all := lw_g (lw_at lw_m5 158 rfl) rfl
theorem q1244 : (Jvm.Cond.methodLink "ThroughPackLaw" (20 : Nat) ({ cls := "ThroughPackModel", name := "<init>", desc := "(II)V" } : Jvm.MethodName)) ∈ lw_all := lw_g (lw_at lw_m5 160 rfl) rfl
theorem q1392 : (Jvm.Cond.methodLink "ThroughPackLaw" (25 : Nat) ({ cls := "ThroughPackModel", name := "ice", desc := "(II)Z" } : Jvm.MethodName)) ∈ lw_all := lw_g (lw_at lw_m6 68 rfl) rfl
theorem q1403 : (Jvm.Cond.methodLink "ThroughPackLaw" (30 : Nat) ({ cls := "ThroughPackModel", name := "iceAt", desc := "(I)I" } : Jvm.MethodName)) ∈ lw_all := lw_g (lw_at lw_m6 79 rfl) rfl
theorem q1407 : (Jvm.Cond.methodLink "ThroughPackLaw" (35 : Nat) ({ cls := "ThroughPackModel", name := "mark", desc := "(IZZ)Z" } : Jvm.MethodName)) ∈ lw_all := lw_g (lw_at lw_m6 83 rfl) rfl
theorem q1411 : (Jvm.Cond.methodLink "ThroughPackLaw" (40 : Nat) ({ cls := "ThroughPackModel", name := "edge", desc := "(I)Z" } : Jvm.MethodName)) ∈ lw_all := lw_g (lw_at lw_m6 87 rfl) rfl
theorem q1415 : (Jvm.Cond.methodLink "ThroughPackLaw" (45 : Nat) ({ cls := "ThroughPackModel", name := "drift", desc := "(III)Z" } : Jvm.MethodName)) ∈ lw_all := lw_g (lw_at lw_m6 91 rfl) rfl
theorem q1422 : (Jvm.Cond.methodLink "ThroughPackLaw" (50 : Nat) ({ cls := "ThroughPackModel", name := "chances", desc := "(IIIII)Z" } : Jvm.MethodName)) ∈ lw_all := lw_g (lw_at lw_m6 98 rfl) rfl
theorem q1426 : (Jvm.Cond.methodLink "ThroughPackLaw" (54 : Nat) ({ cls := "ThroughPackModel", name := "ship", desc := "(III)Z" } : Jvm.MethodName)) ∈ lw_all := lw_g (lw_at lw_m6 102 rfl) rfl
theorem q1436 : (Jvm.Cond.methodLink "ThroughPackLaw" (58 : Nat) ({ cls := "ThroughPackModel", name := "costs", desc := "(III)Z" } : Jvm.MethodName)) ∈ lw_all := lw_g (lw_at lw_m6 112 rfl) rfl
theorem q1440 : (Jvm.Cond.methodLink "ThroughPackLaw" (62 : Nat) ({ cls := "ThroughPackModel", name := "wind", desc := "(I)Z" } : Jvm.MethodName)) ∈ lw_all := lw_g (lw_at lw_m6 116 rfl) rfl
theorem q1444 : (Jvm.Cond.methodLink "ThroughPackLaw" (67 : Nat) ({ cls := "ThroughPackModel", name := "feed", desc := "(IIIII)I" } : Jvm.MethodName)) ∈ lw_all := lw_g (lw_at lw_m6 120 rfl) rfl
theorem q1452 : (Jvm.Cond.methodLink "ThroughPackLaw" (71 : Nat) ({ cls := "ThroughPackModel", name := "end", desc := "(I)I" } : Jvm.MethodName)) ∈ lw_all := lw_g (lw_at lw_m6 128 rfl) rfl
theorem q1456 : (Jvm.Cond.methodLink "ThroughPackLaw" (76 : Nat) ({ cls := "ThroughPackModel", name := "text", desc := "()I" } : Jvm.MethodName)) ∈ lw_all := lw_g (lw_at lw_m6 132 rfl) rfl
theorem q1567 : (Jvm.Cond.methodLink "ThroughPackLaw" (80 : Nat) ({ cls := "ThroughPackModel", name := "fault", desc := "(I)I" } : Jvm.MethodName)) ∈ lw_all := lw_g (lw_at lw_m7 3 rfl) rfl
theorem q1571 : (Jvm.Cond.methodLink "ThroughPackLaw" (84 : Nat) ({ cls := "ThroughPackModel", name := "by", desc := "(I)Z" } : Jvm.MethodName)) ∈ lw_all := lw_g (lw_at lw_m7 7 rfl) rfl
theorem q1575 : (Jvm.Cond.methodLink "ThroughPackLaw" (88 : Nat) ({ cls := "ThroughPackModel", name := "can", desc := "(II)Z" } : Jvm.MethodName)) ∈ lw_all := lw_g (lw_at lw_m7 11 rfl) rfl
theorem q1650 : (Jvm.Cond.methodLink "ThroughPackLaw" (93 : Nat) ({ cls := "ThroughPackModel", name := "watch", desc := "(III)I" } : Jvm.MethodName)) ∈ lw_all := lw_g (lw_at lw_m7 86 rfl) rfl
theorem q1681 : (Jvm.Cond.methodLink "ThroughPackLaw" (98 : Nat) ({ cls := "ThroughPackModel", name := "of", desc := "(II)I" } : Jvm.MethodName)) ∈ lw_all := lw_g (lw_at lw_m7 117 rfl) rfl
theorem q1685 : (Jvm.Cond.methodLink "ThroughPackLaw" (102 : Nat) ({ cls := "ThroughPackModel", name := "ahead", desc := "(II)I" } : Jvm.MethodName)) ∈ lw_all := lw_g (lw_at lw_m7 121 rfl) rfl
theorem q1689 : (Jvm.Cond.methodLink "ThroughPackLaw" (106 : Nat) ({ cls := "ThroughPackModel", name := "many", desc := "(II)Z" } : Jvm.MethodName)) ∈ lw_all := lw_g (lw_at lw_m7 125 rfl) rfl
theorem q1693 : (Jvm.Cond.methodLink "ThroughPackLaw" (110 : Nat) ({ cls := "ThroughPackModel", name := "soonest", desc := "(I)I" } : Jvm.MethodName)) ∈ lw_all := lw_g (lw_at lw_m7 129 rfl) rfl
theorem q1740 : (Jvm.Cond.methodLink "ThroughPackLaw" (114 : Nat) ({ cls := "ThroughPackModel", name := "least", desc := "()I" } : Jvm.MethodName)) ∈ lw_all := lw_g (lw_at lw_m7 176 rfl) rfl
theorem q1744 : (Jvm.Cond.methodLink "ThroughPackLaw" (118 : Nat) ({ cls := "ThroughPackModel", name := "order", desc := "(II)I" } : Jvm.MethodName)) ∈ lw_all := lw_g (lw_at lw_m7 180 rfl) rfl
theorem q1748 : (Jvm.Cond.methodLink "ThroughPackLaw" (122 : Nat) ({ cls := "ThroughPackModel", name := "told", desc := "(I)I" } : Jvm.MethodName)) ∈ lw_all := lw_g (lw_at lw_m7 184 rfl) rfl
theorem q1756 : (Jvm.Cond.methodLink "ThroughPackLaw" (126 : Nat) ({ cls := "ThroughPackModel", name := "home", desc := "(I)Z" } : Jvm.MethodName)) ∈ lw_all := lw_g (lw_at lw_m7 192 rfl) rfl
theorem q1760 : (Jvm.Cond.methodLink "ThroughPackLaw" (130 : Nat) ({ cls := "ThroughPackModel", name := "last", desc := "()I" } : Jvm.MethodName)) ∈ lw_all := lw_g (lw_at lw_m7 196 rfl) rfl
theorem q1768 : (Jvm.Cond.methodLink "ThroughPackLaw" (134 : Nat) ({ cls := "ThroughPackModel", name := "walk", desc := "(I)I" } : Jvm.MethodName)) ∈ lw_all := lw_g (lw_at lw_m7 204 rfl) rfl
theorem q1784 : (Jvm.Cond.methodLink "ThroughPackLaw" (138 : Nat) ({ cls := "ThroughPackModel", name := "leave", desc := "()I" } : Jvm.MethodName)) ∈ lw_all := lw_g (lw_at lw_m7 220 rfl) rfl
theorem q1788 : (Jvm.Cond.methodLink "ThroughPackLaw" (142 : Nat) ({ cls := "ThroughPackModel", name := "winter", desc := "(I)I" } : Jvm.MethodName)) ∈ lw_all := lw_g (lw_at lw_m7 224 rfl) rfl
theorem q1796 : (Jvm.Cond.methodLink "ThroughPackLaw" (146 : Nat) ({ cls := "ThroughPackModel", name := "surest", desc := "(II)I" } : Jvm.MethodName)) ∈ lw_all := lw_g (lw_at lw_m7 232 rfl) rfl
theorem q1832 : (Jvm.Cond.methodLink "ThroughPackLaw" (150 : Nat) ({ cls := "ThroughPackModel", name := "leads", desc := "(I)I" } : Jvm.MethodName)) ∈ lw_all := lw_g (lw_at lw_m8 28 rfl) rfl
theorem q1836 : (Jvm.Cond.methodLink "ThroughPackLaw" (154 : Nat) ({ cls := "ThroughPackModel", name := "prior", desc := "(II)Z" } : Jvm.MethodName)) ∈ lw_all := lw_g (lw_at lw_m8 32 rfl) rfl
theorem q1840 : (Jvm.Cond.methodLink "ThroughPackLaw" (158 : Nat) ({ cls := "ThroughPackModel", name := "look", desc := "(II)I" } : Jvm.MethodName)) ∈ lw_all := lw_g (lw_at lw_m8 36 rfl) rfl
theorem q1844 : (Jvm.Cond.methodLink "ThroughPackLaw" (162 : Nat) ({ cls := "ThroughPackModel", name := "think", desc := "(II)I" } : Jvm.MethodName)) ∈ lw_all := lw_g (lw_at lw_m8 40 rfl) rfl
theorem q1854 : (Jvm.Cond.methodLink "ThroughPackLaw" (167 : Nat) ({ cls := "ThroughPackModel", name := "run", desc := "(IIII)I" } : Jvm.MethodName)) ∈ lw_all := lw_g (lw_at lw_m8 50 rfl) rfl
theorem q1882 : (Jvm.Cond.methodLink "ThroughPackLaw" (171 : Nat) ({ cls := "ThroughPackModel", name := "runs", desc := "(IIIII)I" } : Jvm.MethodName)) ∈ lw_all := lw_g (lw_at lw_m8 78 rfl) rfl
theorem q1886 : (Jvm.Cond.methodLink "ThroughPackLaw" (175 : Nat) ({ cls := "ThroughPackModel", name := "image", desc := "()I" } : Jvm.MethodName)) ∈ lw_all := lw_g (lw_at lw_m8 82 rfl) rfl
theorem q1890 : (Jvm.Cond.methodLink "ThroughPackLaw" (179 : Nat) ({ cls := "ThroughPackModel", name := "back", desc := "()I" } : Jvm.MethodName)) ∈ lw_all := lw_g (lw_at lw_m8 86 rfl) rfl
theorem q1894 : (Jvm.Cond.methodLink "ThroughPackLaw" (183 : Nat) ({ cls := "ThroughPackModel", name := "about", desc := "(I)I" } : Jvm.MethodName)) ∈ lw_all := lw_g (lw_at lw_m8 90 rfl) rfl
/-! the law's own entry -/
set_option maxRecDepth 100000
abbrev cL_law : ByteArray := code
def dkwL_law_54 : List UInt8 := [4, 96, 46, 182, 0, 183, 159, 0, 5, 3, 172, 132, 3, 6, 167, 250, 155, 4, 172]
abbrev dktL_law_54 : List UInt8 := dkwL_law_54 ++ []
def dkwL_law_53 : List UInt8 := [182, 0, 176, 44, 182, 0, 179, 159, 0, 28, 3, 172, 43, 42, 29, 4, 96, 46, 182, 0, 180, 44, 42, 29]
abbrev dktL_law_53 : List UInt8 := dkwL_law_53 ++ dktL_law_54
def dkwL_law_52 : List UInt8 := [182, 0, 171, 159, 0, 54, 3, 172, 43, 182, 0, 172, 44, 182, 0, 175, 159, 0, 41, 3, 172, 43]
abbrev dktL_law_52 : List UInt8 := dkwL_law_52 ++ dktL_law_53
def dkwL_law_51 : List UInt8 := [4, 96, 46, 42, 29, 5, 96, 46, 42, 29, 6, 96, 46, 42, 29, 7, 96, 46, 42, 29, 8, 96, 46]
abbrev dktL_law_51 : List UInt8 := dkwL_law_51 ++ dktL_law_52
def dkwL_law_50 : List UInt8 := [5, 96, 46, 42, 29, 6, 96, 46, 42, 29, 7, 96, 46, 42, 29, 8, 96, 46, 182, 0, 168, 44, 42, 29]
abbrev dktL_law_50 : List UInt8 := dkwL_law_50 ++ dktL_law_51
def dkwL_law_49 : List UInt8 := [6, 96, 46, 42, 29, 7, 96, 46, 182, 0, 167, 159, 0, 117, 3, 172, 43, 42, 29, 4, 96, 46, 42, 29]
abbrev dktL_law_49 : List UInt8 := dkwL_law_49 ++ dktL_law_50
def dkwL_law_48 : List UInt8 := [6, 96, 46, 42, 29, 7, 96, 46, 182, 0, 163, 44, 42, 29, 4, 96, 46, 42, 29, 5, 96, 46, 42, 29]
abbrev dktL_law_48 : List UInt8 := dkwL_law_48 ++ dktL_law_49
def dkwL_law_47 : List UInt8 := [5, 96, 46, 182, 0, 162, 159, 0, 170, 3, 172, 43, 42, 29, 4, 96, 46, 42, 29, 5, 96, 46, 42, 29]
abbrev dktL_law_47 : List UInt8 := dkwL_law_47 ++ dktL_law_48
def dkwL_law_46 : List UInt8 := [3, 172, 43, 42, 29, 4, 96, 46, 42, 29, 5, 96, 46, 182, 0, 159, 44, 42, 29, 4, 96, 46, 42, 29]
abbrev dktL_law_46 : List UInt8 := dkwL_law_46 ++ dktL_law_47
def dkwL_law_45 : List UInt8 := [29, 5, 96, 46, 182, 0, 155, 44, 42, 29, 4, 96, 46, 42, 29, 5, 96, 46, 182, 0, 158, 159, 0, 203]
abbrev dktL_law_45 : List UInt8 := dkwL_law_45 ++ dktL_law_46
def dkwL_law_44 : List UInt8 := [29, 4, 96, 46, 42, 29, 5, 96, 46, 182, 0, 154, 159, 0, 236, 3, 172, 43, 42, 29, 4, 96, 46, 42]
abbrev dktL_law_44 : List UInt8 := dkwL_law_44 ++ dktL_law_45
def dkwL_law_43 : List UInt8 := [182, 0, 150, 159, 1, 13, 3, 172, 43, 42, 29, 4, 96, 46, 42, 29, 5, 96, 46, 182, 0, 151, 44, 42]
abbrev dktL_law_43 : List UInt8 := dkwL_law_43 ++ dktL_law_44
def dkwL_law_42 : List UInt8 := [182, 0, 146, 159, 1, 36, 3, 172, 43, 42, 29, 4, 96, 46, 182, 0, 147, 44, 42, 29, 4, 96, 46]
abbrev dktL_law_42 : List UInt8 := dkwL_law_42 ++ dktL_law_43
def dkwL_law_41 : List UInt8 := [42, 29, 4, 96, 46, 42, 29, 5, 96, 46, 182, 0, 143, 44, 42, 29, 4, 96, 46, 42, 29, 5, 96, 46]
abbrev dktL_law_41 : List UInt8 := dkwL_law_41 ++ dktL_law_42
def dkwL_law_40 : List UInt8 := [43, 42, 29, 4, 96, 46, 182, 0, 139, 44, 42, 29, 4, 96, 46, 182, 0, 142, 159, 1, 69, 3, 172, 43]
abbrev dktL_law_40 : List UInt8 := dkwL_law_40 ++ dktL_law_41
def dkwL_law_39 : List UInt8 := [4, 96, 46, 182, 0, 134, 159, 1, 105, 3, 172, 43, 182, 0, 135, 44, 182, 0, 138, 159, 1, 92, 3, 172]
abbrev dktL_law_39 : List UInt8 := dkwL_law_39 ++ dktL_law_40
def dkwL_law_38 : List UInt8 := [182, 0, 127, 44, 182, 0, 130, 159, 1, 128, 3, 172, 43, 42, 29, 4, 96, 46, 182, 0, 131, 44, 42, 29]
abbrev dktL_law_38 : List UInt8 := dkwL_law_38 ++ dktL_law_39
def dkwL_law_37 : List UInt8 := [29, 4, 96, 46, 182, 0, 123, 44, 42, 29, 4, 96, 46, 182, 0, 126, 159, 1, 141, 3, 172, 43]
abbrev dktL_law_37 : List UInt8 := dkwL_law_37 ++ dktL_law_38
def dkwL_law_36 : List UInt8 := [42, 29, 4, 96, 46, 182, 0, 119, 44, 42, 29, 4, 96, 46, 182, 0, 122, 159, 1, 164, 3, 172, 43, 42]
abbrev dktL_law_36 : List UInt8 := dkwL_law_36 ++ dktL_law_37
def dkwL_law_35 : List UInt8 := [46, 182, 0, 115, 44, 42, 29, 4, 96, 46, 42, 29, 5, 96, 46, 182, 0, 118, 159, 1, 187, 3, 172, 43]
abbrev dktL_law_35 : List UInt8 := dkwL_law_35 ++ dktL_law_36
def dkwL_law_34 : List UInt8 := [172, 43, 182, 0, 111, 44, 182, 0, 114, 159, 1, 220, 3, 172, 43, 42, 29, 4, 96, 46, 42, 29, 5, 96]
abbrev dktL_law_34 : List UInt8 := dkwL_law_34 ++ dktL_law_35
def dkwL_law_33 : List UInt8 := [3, 172, 43, 42, 29, 4, 96, 46, 182, 0, 107, 44, 42, 29, 4, 96, 46, 182, 0, 110, 159, 1, 233, 3]
abbrev dktL_law_33 : List UInt8 := dkwL_law_33 ++ dktL_law_34
def dkwL_law_32 : List UInt8 := [29, 5, 96, 46, 182, 0, 103, 44, 42, 29, 4, 96, 46, 42, 29, 5, 96, 46, 182, 0, 106, 159, 2, 0]
abbrev dktL_law_32 : List UInt8 := dkwL_law_32 ++ dktL_law_33
def dkwL_law_31 : List UInt8 := [29, 4, 96, 46, 42, 29, 5, 96, 46, 182, 0, 102, 159, 2, 33, 3, 172, 43, 42, 29, 4, 96, 46, 42]
abbrev dktL_law_31 : List UInt8 := dkwL_law_31 ++ dktL_law_32
def dkwL_law_30 : List UInt8 := [182, 0, 98, 159, 2, 66, 3, 172, 43, 42, 29, 4, 96, 46, 42, 29, 5, 96, 46, 182, 0, 99, 44, 42]
abbrev dktL_law_30 : List UInt8 := dkwL_law_30 ++ dktL_law_31
def dkwL_law_29 : List UInt8 := [4, 96, 46, 42, 29, 5, 96, 46, 182, 0, 94, 44, 42, 29, 4, 96, 46, 42, 29, 5, 96, 46]
abbrev dktL_law_29 : List UInt8 := dkwL_law_29 ++ dktL_law_30
def dkwL_law_28 : List UInt8 := [4, 96, 46, 42, 29, 5, 96, 46, 42, 29, 6, 96, 46, 182, 0, 93, 159, 2, 99, 3, 172, 43, 42, 29]
abbrev dktL_law_28 : List UInt8 := dkwL_law_28 ++ dktL_law_29
def dkwL_law_27 : List UInt8 := [3, 172, 43, 42, 29, 4, 96, 46, 42, 29, 5, 96, 46, 42, 29, 6, 96, 46, 182, 0, 89, 44, 42, 29]
abbrev dktL_law_27 : List UInt8 := dkwL_law_27 ++ dktL_law_28
def dkwL_law_26 : List UInt8 := [29, 5, 96, 46, 182, 0, 85, 44, 42, 29, 4, 96, 46, 42, 29, 5, 96, 46, 182, 0, 88, 159, 2, 142]
abbrev dktL_law_26 : List UInt8 := dkwL_law_26 ++ dktL_law_27
def dkwL_law_25 : List UInt8 := [182, 0, 81, 44, 42, 29, 4, 96, 46, 182, 0, 84, 159, 2, 175, 3, 172, 43, 42, 29, 4, 96, 46, 42]
abbrev dktL_law_25 : List UInt8 := dkwL_law_25 ++ dktL_law_26
def dkwL_law_24 : List UInt8 := [182, 0, 77, 44, 42, 29, 4, 96, 46, 182, 0, 80, 159, 2, 198, 3, 172, 43, 42, 29, 4, 96, 46]
abbrev dktL_law_24 : List UInt8 := dkwL_law_24 ++ dktL_law_25
def dkwL_law_23 : List UInt8 := [159, 2, 234, 3, 172, 43, 182, 0, 72, 44, 182, 0, 76, 159, 2, 221, 3, 172, 43, 42, 29, 4, 96, 46]
abbrev dktL_law_23 : List UInt8 := dkwL_law_23 ++ dktL_law_24
def dkwL_law_22 : List UInt8 := [159, 3, 1, 3, 172, 43, 42, 29, 4, 96, 46, 182, 0, 68, 44, 42, 29, 4, 96, 46, 182, 0, 71]
abbrev dktL_law_22 : List UInt8 := dkwL_law_22 ++ dktL_law_23
def dkwL_law_21 : List UInt8 := [29, 5, 96, 46, 42, 29, 6, 96, 46, 42, 29, 7, 96, 46, 42, 29, 8, 96, 46, 182, 0, 67]
abbrev dktL_law_21 : List UInt8 := dkwL_law_21 ++ dktL_law_22
def dkwL_law_20 : List UInt8 := [29, 6, 96, 46, 42, 29, 7, 96, 46, 42, 29, 8, 96, 46, 182, 0, 63, 44, 42, 29, 4, 96, 46, 42]
abbrev dktL_law_20 : List UInt8 := dkwL_law_20 ++ dktL_law_21
def dkwL_law_19 : List UInt8 := [29, 4, 96, 46, 182, 0, 62, 159, 3, 64, 3, 172, 43, 42, 29, 4, 96, 46, 42, 29, 5, 96, 46, 42]
abbrev dktL_law_19 : List UInt8 := dkwL_law_19 ++ dktL_law_20
def dkwL_law_18 : List UInt8 := [42, 29, 6, 96, 46, 182, 0, 58, 159, 3, 87, 3, 172, 43, 42, 29, 4, 96, 46, 182, 0, 59, 44, 42]
abbrev dktL_law_18 : List UInt8 := dkwL_law_18 ++ dktL_law_19
def dkwL_law_17 : List UInt8 := [42, 29, 5, 96, 46, 42, 29, 6, 96, 46, 182, 0, 55, 44, 42, 29, 4, 96, 46, 42, 29, 5, 96, 46]
abbrev dktL_law_17 : List UInt8 := dkwL_law_17 ++ dktL_law_18
def dkwL_law_16 : List UInt8 := [42, 29, 5, 96, 46, 42, 29, 6, 96, 46, 182, 0, 54, 159, 3, 130, 3, 172, 43, 42, 29, 4, 96, 46]
abbrev dktL_law_16 : List UInt8 := dkwL_law_16 ++ dktL_law_17
def dkwL_law_15 : List UInt8 := [42, 29, 4, 96, 46, 42, 29, 5, 96, 46, 42, 29, 6, 96, 46, 182, 0, 51, 44, 42, 29, 4, 96, 46]
abbrev dktL_law_15 : List UInt8 := dkwL_law_15 ++ dktL_law_16
def dkwL_law_14 : List UInt8 := [42, 29, 6, 96, 46, 42, 29, 7, 96, 46, 42, 29, 8, 96, 46, 182, 0, 50, 159, 3, 173, 3, 172, 43]
abbrev dktL_law_14 : List UInt8 := dkwL_law_14 ++ dktL_law_15
def dkwL_law_13 : List UInt8 := [42, 29, 7, 96, 46, 42, 29, 8, 96, 46, 182, 0, 46, 44, 42, 29, 4, 96, 46, 42, 29, 5, 96, 46]
abbrev dktL_law_13 : List UInt8 := dkwL_law_13 ++ dktL_law_14
def dkwL_law_12 : List UInt8 := [182, 0, 45, 159, 3, 236, 3, 172, 43, 42, 29, 4, 96, 46, 42, 29, 5, 96, 46, 42, 29, 6, 96, 46]
abbrev dktL_law_12 : List UInt8 := dkwL_law_12 ++ dktL_law_13
def dkwL_law_11 : List UInt8 := [6, 96, 46, 182, 0, 41, 44, 42, 29, 4, 96, 46, 42, 29, 5, 96, 46, 42, 29, 6, 96, 46]
abbrev dktL_law_11 : List UInt8 := dkwL_law_11 ++ dktL_law_12
def dkwL_law_10 : List UInt8 := [4, 96, 46, 182, 0, 40, 159, 4, 23, 3, 172, 43, 42, 29, 4, 96, 46, 42, 29, 5, 96, 46, 42, 29]
abbrev dktL_law_10 : List UInt8 := dkwL_law_10 ++ dktL_law_11
def dkwL_law_9 : List UInt8 := [167, 0, 4, 3, 182, 0, 35, 159, 4, 46, 3, 172, 43, 42, 29, 4, 96, 46, 182, 0, 36, 44, 42, 29]
abbrev dktL_law_9 : List UInt8 := dkwL_law_9 ++ dktL_law_10
def dkwL_law_8 : List UInt8 := [96, 46, 42, 29, 5, 96, 46, 153, 0, 7, 4, 167, 0, 4, 3, 42, 29, 6, 96, 46, 153, 0, 7, 4]
abbrev dktL_law_8 : List UInt8 := dkwL_law_8 ++ dktL_law_9
def dkwL_law_7 : List UInt8 := [167, 0, 4, 3, 42, 29, 6, 96, 46, 153, 0, 7, 4, 167, 0, 4, 3, 182, 0, 31, 44, 42, 29, 4]
abbrev dktL_law_7 : List UInt8 := dkwL_law_7 ++ dktL_law_8
def dkwL_law_6 : List UInt8 := [182, 0, 30, 159, 4, 121, 3, 172, 43, 42, 29, 4, 96, 46, 42, 29, 5, 96, 46, 153, 0, 7, 4]
abbrev dktL_law_6 : List UInt8 := dkwL_law_6 ++ dktL_law_7
def dkwL_law_5 : List UInt8 := [46, 182, 0, 25, 159, 4, 144, 3, 172, 43, 42, 29, 4, 96, 46, 182, 0, 26, 44, 42, 29, 4, 96, 46]
abbrev dktL_law_5 : List UInt8 := dkwL_law_5 ++ dktL_law_6
def dkwL_law_4 : List UInt8 := [43, 42, 29, 4, 96, 46, 42, 29, 5, 96, 46, 182, 0, 21, 44, 42, 29, 4, 96, 46, 42, 29, 5, 96]
abbrev dktL_law_4 : List UInt8 := dkwL_law_4 ++ dktL_law_5
def dkwL_law_3 : List UInt8 := [170, 0, 0, 0, 0, 5, 83, 0, 0, 0, 0, 0, 0, 0, 37, 0, 0, 0, 167, 0, 0, 0, 200, 0, 0, 0, 223, 0, 0, 1, 42, 0, 0, 1, 65, 0, 0, 1, 108, 0, 0, 1, 171, 0, 0, 1, 214, 0, 0, 2, 1, 0, 0, 2, 24, 0, 0, 2, 87, 0, 0, 2, 110, 0, 0, 2, 123, 0, 0, 2, 146, 0, 0, 2, 169, 0, 0, 2, 202, 0, 0, 2, 245, 0, 0, 3, 22, 0, 0, 3, 55, 0, 0, 3, 88, 0, 0, 3, 111, 0, 0, 3, 124, 0, 0, 3, 157, 0, 0, 3, 180, 0, 0, 3, 203, 0, 0, 3, 216, 0, 0, 3, 239, 0, 0, 3, 252, 0, 0, 4, 19, 0, 0, 4, 52, 0, 0, 4, 75, 0, 0, 4, 108, 0, 0, 4, 141, 0, 0, 4, 174, 0, 0, 4, 227, 0, 0, 5, 34, 0, 0, 5, 47, 0, 0, 5, 60]
abbrev dktL_law_3 : List UInt8 := dkwL_law_3 ++ dktL_law_4
def dkwL_law_2 : List UInt8 := [29, 46, 16, 63, 126]
abbrev dktL_law_2 : List UInt8 := dkwL_law_2 ++ dktL_law_3
def dkwL_law_1 : List UInt8 := [184, 0, 9, 42, 4, 184, 0, 9, 183, 0, 20, 77, 5, 62, 29, 42, 190, 16, 6, 100, 163, 5, 98, 42]
abbrev dktL_law_1 : List UInt8 := dkwL_law_1 ++ dktL_law_2
def dkwL_law_0 : List UInt8 := [187, 0, 7, 89, 42, 3, 184, 0, 9, 42, 4, 184, 0, 9, 183, 0, 15, 76, 187, 0, 18, 89, 42, 3]
abbrev dktL_law_0 : List UInt8 := dkwL_law_0 ++ dktL_law_1
theorem dksL_law_0 : cL_law.data.toList.drop 0 = dktL_law_0 := by decide +kernel
theorem dksL_law_1 : cL_law.data.toList.drop 24 = dktL_law_1 := dk_seg dksL_law_0 24 rfl rfl
theorem dksL_law_2 : cL_law.data.toList.drop 48 = dktL_law_2 := dk_seg dksL_law_1 24 rfl rfl
theorem dksL_law_3 : cL_law.data.toList.drop 53 = dktL_law_3 := dk_seg dksL_law_2 5 rfl rfl
theorem dksL_law_4 : cL_law.data.toList.drop 220 = dktL_law_4 := dk_seg dksL_law_3 167 rfl rfl
theorem dksL_law_5 : cL_law.data.toList.drop 244 = dktL_law_5 := dk_seg dksL_law_4 24 rfl rfl
theorem dksL_law_6 : cL_law.data.toList.drop 268 = dktL_law_6 := dk_seg dksL_law_5 24 rfl rfl
theorem dksL_law_7 : cL_law.data.toList.drop 291 = dktL_law_7 := dk_seg dksL_law_6 23 rfl rfl
theorem dksL_law_8 : cL_law.data.toList.drop 315 = dktL_law_8 := dk_seg dksL_law_7 24 rfl rfl
theorem dksL_law_9 : cL_law.data.toList.drop 339 = dktL_law_9 := dk_seg dksL_law_8 24 rfl rfl
theorem dksL_law_10 : cL_law.data.toList.drop 363 = dktL_law_10 := dk_seg dksL_law_9 24 rfl rfl
theorem dksL_law_11 : cL_law.data.toList.drop 387 = dktL_law_11 := dk_seg dksL_law_10 24 rfl rfl
theorem dksL_law_12 : cL_law.data.toList.drop 409 = dktL_law_12 := dk_seg dksL_law_11 22 rfl rfl
theorem dksL_law_13 : cL_law.data.toList.drop 433 = dktL_law_13 := dk_seg dksL_law_12 24 rfl rfl
theorem dksL_law_14 : cL_law.data.toList.drop 457 = dktL_law_14 := dk_seg dksL_law_13 24 rfl rfl
theorem dksL_law_15 : cL_law.data.toList.drop 481 = dktL_law_15 := dk_seg dksL_law_14 24 rfl rfl
theorem dksL_law_16 : cL_law.data.toList.drop 505 = dktL_law_16 := dk_seg dksL_law_15 24 rfl rfl
theorem dksL_law_17 : cL_law.data.toList.drop 529 = dktL_law_17 := dk_seg dksL_law_16 24 rfl rfl
theorem dksL_law_18 : cL_law.data.toList.drop 553 = dktL_law_18 := dk_seg dksL_law_17 24 rfl rfl
theorem dksL_law_19 : cL_law.data.toList.drop 577 = dktL_law_19 := dk_seg dksL_law_18 24 rfl rfl
theorem dksL_law_20 : cL_law.data.toList.drop 601 = dktL_law_20 := dk_seg dksL_law_19 24 rfl rfl
theorem dksL_law_21 : cL_law.data.toList.drop 625 = dktL_law_21 := dk_seg dksL_law_20 24 rfl rfl
theorem dksL_law_22 : cL_law.data.toList.drop 647 = dktL_law_22 := dk_seg dksL_law_21 22 rfl rfl
theorem dksL_law_23 : cL_law.data.toList.drop 670 = dktL_law_23 := dk_seg dksL_law_22 23 rfl rfl
theorem dksL_law_24 : cL_law.data.toList.drop 694 = dktL_law_24 := dk_seg dksL_law_23 24 rfl rfl
theorem dksL_law_25 : cL_law.data.toList.drop 717 = dktL_law_25 := dk_seg dksL_law_24 23 rfl rfl
theorem dksL_law_26 : cL_law.data.toList.drop 741 = dktL_law_26 := dk_seg dksL_law_25 24 rfl rfl
theorem dksL_law_27 : cL_law.data.toList.drop 765 = dktL_law_27 := dk_seg dksL_law_26 24 rfl rfl
theorem dksL_law_28 : cL_law.data.toList.drop 789 = dktL_law_28 := dk_seg dksL_law_27 24 rfl rfl
theorem dksL_law_29 : cL_law.data.toList.drop 813 = dktL_law_29 := dk_seg dksL_law_28 24 rfl rfl
theorem dksL_law_30 : cL_law.data.toList.drop 835 = dktL_law_30 := dk_seg dksL_law_29 22 rfl rfl
theorem dksL_law_31 : cL_law.data.toList.drop 859 = dktL_law_31 := dk_seg dksL_law_30 24 rfl rfl
theorem dksL_law_32 : cL_law.data.toList.drop 883 = dktL_law_32 := dk_seg dksL_law_31 24 rfl rfl
theorem dksL_law_33 : cL_law.data.toList.drop 907 = dktL_law_33 := dk_seg dksL_law_32 24 rfl rfl
theorem dksL_law_34 : cL_law.data.toList.drop 931 = dktL_law_34 := dk_seg dksL_law_33 24 rfl rfl
theorem dksL_law_35 : cL_law.data.toList.drop 955 = dktL_law_35 := dk_seg dksL_law_34 24 rfl rfl
theorem dksL_law_36 : cL_law.data.toList.drop 979 = dktL_law_36 := dk_seg dksL_law_35 24 rfl rfl
theorem dksL_law_37 : cL_law.data.toList.drop 1003 = dktL_law_37 := dk_seg dksL_law_36 24 rfl rfl
theorem dksL_law_38 : cL_law.data.toList.drop 1025 = dktL_law_38 := dk_seg dksL_law_37 22 rfl rfl
theorem dksL_law_39 : cL_law.data.toList.drop 1049 = dktL_law_39 := dk_seg dksL_law_38 24 rfl rfl
theorem dksL_law_40 : cL_law.data.toList.drop 1073 = dktL_law_40 := dk_seg dksL_law_39 24 rfl rfl
theorem dksL_law_41 : cL_law.data.toList.drop 1097 = dktL_law_41 := dk_seg dksL_law_40 24 rfl rfl
theorem dksL_law_42 : cL_law.data.toList.drop 1121 = dktL_law_42 := dk_seg dksL_law_41 24 rfl rfl
theorem dksL_law_43 : cL_law.data.toList.drop 1144 = dktL_law_43 := dk_seg dksL_law_42 23 rfl rfl
theorem dksL_law_44 : cL_law.data.toList.drop 1168 = dktL_law_44 := dk_seg dksL_law_43 24 rfl rfl
theorem dksL_law_45 : cL_law.data.toList.drop 1192 = dktL_law_45 := dk_seg dksL_law_44 24 rfl rfl
theorem dksL_law_46 : cL_law.data.toList.drop 1216 = dktL_law_46 := dk_seg dksL_law_45 24 rfl rfl
theorem dksL_law_47 : cL_law.data.toList.drop 1240 = dktL_law_47 := dk_seg dksL_law_46 24 rfl rfl
theorem dksL_law_48 : cL_law.data.toList.drop 1264 = dktL_law_48 := dk_seg dksL_law_47 24 rfl rfl
theorem dksL_law_49 : cL_law.data.toList.drop 1288 = dktL_law_49 := dk_seg dksL_law_48 24 rfl rfl
theorem dksL_law_50 : cL_law.data.toList.drop 1312 = dktL_law_50 := dk_seg dksL_law_49 24 rfl rfl
theorem dksL_law_51 : cL_law.data.toList.drop 1336 = dktL_law_51 := dk_seg dksL_law_50 24 rfl rfl
theorem dksL_law_52 : cL_law.data.toList.drop 1359 = dktL_law_52 := dk_seg dksL_law_51 23 rfl rfl
theorem dksL_law_53 : cL_law.data.toList.drop 1381 = dktL_law_53 := dk_seg dksL_law_52 22 rfl rfl
theorem dksL_law_54 : cL_law.data.toList.drop 1405 = dktL_law_54 := dk_seg dksL_law_53 24 rfl rfl
theorem dL_law_0 : decode cL_law 0 = .ok (.new 7, 3) := dk_187 0 7 (dk_at dksL_law_0 0 rfl rfl)
theorem dL_law_3 : decode cL_law 3 = .ok (.dup, 1) := dk_89 (dk_at dksL_law_0 3 rfl rfl)
theorem dL_law_4 : decode cL_law 4 = .ok (.aload_n 0, 1) := dk_42 (dk_at dksL_law_0 4 rfl rfl)
theorem dL_law_5 : decode cL_law 5 = .ok (.iconst 0, 1) := dk_3 (dk_at dksL_law_0 5 rfl rfl)
theorem dL_law_6 : decode cL_law 6 = .ok (.invokestatic 9, 3) := dk_184 0 9 (dk_at dksL_law_0 6 rfl rfl)
theorem dL_law_9 : decode cL_law 9 = .ok (.aload_n 0, 1) := dk_42 (dk_at dksL_law_0 9 rfl rfl)
theorem dL_law_10 : decode cL_law 10 = .ok (.iconst 1, 1) := dk_4 (dk_at dksL_law_0 10 rfl rfl)
theorem dL_law_11 : decode cL_law 11 = .ok (.invokestatic 9, 3) := dk_184 0 9 (dk_at dksL_law_0 11 rfl rfl)
theorem dL_law_14 : decode cL_law 14 = .ok (.invokespecial 15, 3) := dk_183 0 15 (dk_at dksL_law_0 14 rfl rfl)
theorem dL_law_17 : decode cL_law 17 = .ok (.astore_n 1, 1) := dk_76 (dk_at dksL_law_0 17 rfl rfl)
theorem dL_law_18 : decode cL_law 18 = .ok (.new 18, 3) := dk_187 0 18 (dk_at dksL_law_0 18 rfl rfl)
theorem dL_law_21 : decode cL_law 21 = .ok (.dup, 1) := dk_89 (dk_at dksL_law_0 21 rfl rfl)
theorem dL_law_22 : decode cL_law 22 = .ok (.aload_n 0, 1) := dk_42 (dk_at dksL_law_0 22 rfl rfl)
theorem dL_law_23 : decode cL_law 23 = .ok (.iconst 0, 1) := dk_3 (dk_at dksL_law_0 23 rfl rfl)
theorem dL_law_24 : decode cL_law 24 = .ok (.invokestatic 9, 3) := dk_184 0 9 (dk_at dksL_law_1 0 rfl rfl)
theorem dL_law_27 : decode cL_law 27 = .ok (.aload_n 0, 1) := dk_42 (dk_at dksL_law_1 3 rfl rfl)
theorem dL_law_28 : decode cL_law 28 = .ok (.iconst 1, 1) := dk_4 (dk_at dksL_law_1 4 rfl rfl)
theorem dL_law_29 : decode cL_law 29 = .ok (.invokestatic 9, 3) := dk_184 0 9 (dk_at dksL_law_1 5 rfl rfl)
theorem dL_law_32 : decode cL_law 32 = .ok (.invokespecial 20, 3) := dk_183 0 20 (dk_at dksL_law_1 8 rfl rfl)
theorem dL_law_35 : decode cL_law 35 = .ok (.astore_n 2, 1) := dk_77 (dk_at dksL_law_1 11 rfl rfl)
theorem dL_law_36 : decode cL_law 36 = .ok (.iconst 2, 1) := dk_5 (dk_at dksL_law_1 12 rfl rfl)
theorem dL_law_37 : decode cL_law 37 = .ok (.istore_n 3, 1) := dk_62 (dk_at dksL_law_1 13 rfl rfl)
theorem dL_law_38 : decode cL_law 38 = .ok (.iload_n 3, 1) := dk_29 (dk_at dksL_law_1 14 rfl rfl)
theorem dL_law_39 : decode cL_law 39 = .ok (.aload_n 0, 1) := dk_42 (dk_at dksL_law_1 15 rfl rfl)
theorem dL_law_40 : decode cL_law 40 = .ok (.arraylength, 1) := dk_190 (dk_at dksL_law_1 16 rfl rfl)
theorem dL_law_41 : decode cL_law 41 = .ok (.bipush 6, 2) := dk_16 6 (dk_at dksL_law_1 17 rfl rfl)
theorem dL_law_43 : decode cL_law 43 = .ok (.isub, 1) := dk_100 (dk_at dksL_law_1 19 rfl rfl)
theorem dL_law_44 : decode cL_law 44 = .ok (.if_icmp .gt 1378, 3) := dk_163 5 98 (dk_at dksL_law_1 20 rfl rfl)
theorem dL_law_47 : decode cL_law 47 = .ok (.aload_n 0, 1) := dk_42 (dk_at dksL_law_1 23 rfl rfl)
theorem dL_law_48 : decode cL_law 48 = .ok (.iload_n 3, 1) := dk_29 (dk_at dksL_law_2 0 rfl rfl)
theorem dL_law_49 : decode cL_law 49 = .ok (.iaload, 1) := dk_46 (dk_at dksL_law_2 1 rfl rfl)
theorem dL_law_50 : decode cL_law 50 = .ok (.bipush 63, 2) := dk_16 63 (dk_at dksL_law_2 2 rfl rfl)
theorem dL_law_52 : decode cL_law 52 = .ok (.iand, 1) := dk_126 (dk_at dksL_law_2 4 rfl rfl)
theorem dL_law_53 : decode cL_law 53 = .ok (.tableswitch 1363 0 37 #[167, 200, 223, 298, 321, 364, 427, 470, 513, 536, 599, 622, 635, 658, 681, 714, 757, 790, 823, 856, 879, 892, 925, 948, 971, 984, 1007, 1020, 1043, 1076, 1099, 1132, 1165, 1198, 1251, 1314, 1327, 1340], 167) := by decide +kernel
theorem dL_law_220 : decode cL_law 220 = .ok (.aload_n 1, 1) := dk_43 (dk_at dksL_law_4 0 rfl rfl)
theorem dL_law_221 : decode cL_law 221 = .ok (.aload_n 0, 1) := dk_42 (dk_at dksL_law_4 1 rfl rfl)
theorem dL_law_222 : decode cL_law 222 = .ok (.iload_n 3, 1) := dk_29 (dk_at dksL_law_4 2 rfl rfl)
theorem dL_law_223 : decode cL_law 223 = .ok (.iconst 1, 1) := dk_4 (dk_at dksL_law_4 3 rfl rfl)
theorem dL_law_224 : decode cL_law 224 = .ok (.iadd, 1) := dk_96 (dk_at dksL_law_4 4 rfl rfl)
theorem dL_law_225 : decode cL_law 225 = .ok (.iaload, 1) := dk_46 (dk_at dksL_law_4 5 rfl rfl)
theorem dL_law_226 : decode cL_law 226 = .ok (.aload_n 0, 1) := dk_42 (dk_at dksL_law_4 6 rfl rfl)
theorem dL_law_227 : decode cL_law 227 = .ok (.iload_n 3, 1) := dk_29 (dk_at dksL_law_4 7 rfl rfl)
theorem dL_law_228 : decode cL_law 228 = .ok (.iconst 2, 1) := dk_5 (dk_at dksL_law_4 8 rfl rfl)
theorem dL_law_229 : decode cL_law 229 = .ok (.iadd, 1) := dk_96 (dk_at dksL_law_4 9 rfl rfl)
theorem dL_law_230 : decode cL_law 230 = .ok (.iaload, 1) := dk_46 (dk_at dksL_law_4 10 rfl rfl)
theorem dL_law_231 : decode cL_law 231 = .ok (.invokevirtual 21, 3) := dk_182 0 21 (dk_at dksL_law_4 11 rfl rfl)
theorem dL_law_234 : decode cL_law 234 = .ok (.aload_n 2, 1) := dk_44 (dk_at dksL_law_4 14 rfl rfl)
theorem dL_law_235 : decode cL_law 235 = .ok (.aload_n 0, 1) := dk_42 (dk_at dksL_law_4 15 rfl rfl)
theorem dL_law_236 : decode cL_law 236 = .ok (.iload_n 3, 1) := dk_29 (dk_at dksL_law_4 16 rfl rfl)
theorem dL_law_237 : decode cL_law 237 = .ok (.iconst 1, 1) := dk_4 (dk_at dksL_law_4 17 rfl rfl)
theorem dL_law_238 : decode cL_law 238 = .ok (.iadd, 1) := dk_96 (dk_at dksL_law_4 18 rfl rfl)
theorem dL_law_239 : decode cL_law 239 = .ok (.iaload, 1) := dk_46 (dk_at dksL_law_4 19 rfl rfl)
theorem dL_law_240 : decode cL_law 240 = .ok (.aload_n 0, 1) := dk_42 (dk_at dksL_law_4 20 rfl rfl)
theorem dL_law_241 : decode cL_law 241 = .ok (.iload_n 3, 1) := dk_29 (dk_at dksL_law_4 21 rfl rfl)
theorem dL_law_242 : decode cL_law 242 = .ok (.iconst 2, 1) := dk_5 (dk_at dksL_law_4 22 rfl rfl)
theorem dL_law_243 : decode cL_law 243 = .ok (.iadd, 1) := dk_96 (dk_at dksL_law_4 23 rfl rfl)
theorem dL_law_244 : decode cL_law 244 = .ok (.iaload, 1) := dk_46 (dk_at dksL_law_5 0 rfl rfl)
theorem dL_law_245 : decode cL_law 245 = .ok (.invokevirtual 25, 3) := dk_182 0 25 (dk_at dksL_law_5 1 rfl rfl)
theorem dL_law_248 : decode cL_law 248 = .ok (.if_icmp .eq 1168, 3) := dk_159 4 144 (dk_at dksL_law_5 4 rfl rfl)
theorem dL_law_251 : decode cL_law 251 = .ok (.iconst 0, 1) := dk_3 (dk_at dksL_law_5 7 rfl rfl)
theorem dL_law_252 : decode cL_law 252 = .ok (.ireturn, 1) := dk_172 (dk_at dksL_law_5 8 rfl rfl)
theorem dL_law_253 : decode cL_law 253 = .ok (.aload_n 1, 1) := dk_43 (dk_at dksL_law_5 9 rfl rfl)
theorem dL_law_254 : decode cL_law 254 = .ok (.aload_n 0, 1) := dk_42 (dk_at dksL_law_5 10 rfl rfl)
theorem dL_law_255 : decode cL_law 255 = .ok (.iload_n 3, 1) := dk_29 (dk_at dksL_law_5 11 rfl rfl)
theorem dL_law_256 : decode cL_law 256 = .ok (.iconst 1, 1) := dk_4 (dk_at dksL_law_5 12 rfl rfl)
theorem dL_law_257 : decode cL_law 257 = .ok (.iadd, 1) := dk_96 (dk_at dksL_law_5 13 rfl rfl)
theorem dL_law_258 : decode cL_law 258 = .ok (.iaload, 1) := dk_46 (dk_at dksL_law_5 14 rfl rfl)
theorem dL_law_259 : decode cL_law 259 = .ok (.invokevirtual 26, 3) := dk_182 0 26 (dk_at dksL_law_5 15 rfl rfl)
theorem dL_law_262 : decode cL_law 262 = .ok (.aload_n 2, 1) := dk_44 (dk_at dksL_law_5 18 rfl rfl)
theorem dL_law_263 : decode cL_law 263 = .ok (.aload_n 0, 1) := dk_42 (dk_at dksL_law_5 19 rfl rfl)
theorem dL_law_264 : decode cL_law 264 = .ok (.iload_n 3, 1) := dk_29 (dk_at dksL_law_5 20 rfl rfl)
theorem dL_law_265 : decode cL_law 265 = .ok (.iconst 1, 1) := dk_4 (dk_at dksL_law_5 21 rfl rfl)
theorem dL_law_266 : decode cL_law 266 = .ok (.iadd, 1) := dk_96 (dk_at dksL_law_5 22 rfl rfl)
theorem dL_law_267 : decode cL_law 267 = .ok (.iaload, 1) := dk_46 (dk_at dksL_law_5 23 rfl rfl)
theorem dL_law_268 : decode cL_law 268 = .ok (.invokevirtual 30, 3) := dk_182 0 30 (dk_at dksL_law_6 0 rfl rfl)
theorem dL_law_271 : decode cL_law 271 = .ok (.if_icmp .eq 1145, 3) := dk_159 4 121 (dk_at dksL_law_6 3 rfl rfl)
theorem dL_law_274 : decode cL_law 274 = .ok (.iconst 0, 1) := dk_3 (dk_at dksL_law_6 6 rfl rfl)
theorem dL_law_275 : decode cL_law 275 = .ok (.ireturn, 1) := dk_172 (dk_at dksL_law_6 7 rfl rfl)
theorem dL_law_276 : decode cL_law 276 = .ok (.aload_n 1, 1) := dk_43 (dk_at dksL_law_6 8 rfl rfl)
theorem dL_law_277 : decode cL_law 277 = .ok (.aload_n 0, 1) := dk_42 (dk_at dksL_law_6 9 rfl rfl)
theorem dL_law_278 : decode cL_law 278 = .ok (.iload_n 3, 1) := dk_29 (dk_at dksL_law_6 10 rfl rfl)
theorem dL_law_279 : decode cL_law 279 = .ok (.iconst 1, 1) := dk_4 (dk_at dksL_law_6 11 rfl rfl)
theorem dL_law_280 : decode cL_law 280 = .ok (.iadd, 1) := dk_96 (dk_at dksL_law_6 12 rfl rfl)
theorem dL_law_281 : decode cL_law 281 = .ok (.iaload, 1) := dk_46 (dk_at dksL_law_6 13 rfl rfl)
theorem dL_law_282 : decode cL_law 282 = .ok (.aload_n 0, 1) := dk_42 (dk_at dksL_law_6 14 rfl rfl)
theorem dL_law_283 : decode cL_law 283 = .ok (.iload_n 3, 1) := dk_29 (dk_at dksL_law_6 15 rfl rfl)
theorem dL_law_284 : decode cL_law 284 = .ok (.iconst 2, 1) := dk_5 (dk_at dksL_law_6 16 rfl rfl)
theorem dL_law_285 : decode cL_law 285 = .ok (.iadd, 1) := dk_96 (dk_at dksL_law_6 17 rfl rfl)
theorem dL_law_286 : decode cL_law 286 = .ok (.iaload, 1) := dk_46 (dk_at dksL_law_6 18 rfl rfl)
theorem dL_law_287 : decode cL_law 287 = .ok (.ifCond .eq 7, 3) := dk_153 0 7 (dk_at dksL_law_6 19 rfl rfl)
theorem dL_law_290 : decode cL_law 290 = .ok (.iconst 1, 1) := dk_4 (dk_at dksL_law_6 22 rfl rfl)
theorem dL_law_291 : decode cL_law 291 = .ok (.goto 4, 3) := dk_167 0 4 (dk_at dksL_law_7 0 rfl rfl)
theorem dL_law_294 : decode cL_law 294 = .ok (.iconst 0, 1) := dk_3 (dk_at dksL_law_7 3 rfl rfl)
theorem dL_law_295 : decode cL_law 295 = .ok (.aload_n 0, 1) := dk_42 (dk_at dksL_law_7 4 rfl rfl)
theorem dL_law_296 : decode cL_law 296 = .ok (.iload_n 3, 1) := dk_29 (dk_at dksL_law_7 5 rfl rfl)
theorem dL_law_297 : decode cL_law 297 = .ok (.iconst 3, 1) := dk_6 (dk_at dksL_law_7 6 rfl rfl)
theorem dL_law_298 : decode cL_law 298 = .ok (.iadd, 1) := dk_96 (dk_at dksL_law_7 7 rfl rfl)
theorem dL_law_299 : decode cL_law 299 = .ok (.iaload, 1) := dk_46 (dk_at dksL_law_7 8 rfl rfl)
theorem dL_law_300 : decode cL_law 300 = .ok (.ifCond .eq 7, 3) := dk_153 0 7 (dk_at dksL_law_7 9 rfl rfl)
theorem dL_law_303 : decode cL_law 303 = .ok (.iconst 1, 1) := dk_4 (dk_at dksL_law_7 12 rfl rfl)
theorem dL_law_304 : decode cL_law 304 = .ok (.goto 4, 3) := dk_167 0 4 (dk_at dksL_law_7 13 rfl rfl)
theorem dL_law_307 : decode cL_law 307 = .ok (.iconst 0, 1) := dk_3 (dk_at dksL_law_7 16 rfl rfl)
theorem dL_law_308 : decode cL_law 308 = .ok (.invokevirtual 31, 3) := dk_182 0 31 (dk_at dksL_law_7 17 rfl rfl)
theorem dL_law_311 : decode cL_law 311 = .ok (.aload_n 2, 1) := dk_44 (dk_at dksL_law_7 20 rfl rfl)
theorem dL_law_312 : decode cL_law 312 = .ok (.aload_n 0, 1) := dk_42 (dk_at dksL_law_7 21 rfl rfl)
theorem dL_law_313 : decode cL_law 313 = .ok (.iload_n 3, 1) := dk_29 (dk_at dksL_law_7 22 rfl rfl)
theorem dL_law_314 : decode cL_law 314 = .ok (.iconst 1, 1) := dk_4 (dk_at dksL_law_7 23 rfl rfl)
theorem dL_law_315 : decode cL_law 315 = .ok (.iadd, 1) := dk_96 (dk_at dksL_law_8 0 rfl rfl)
theorem dL_law_316 : decode cL_law 316 = .ok (.iaload, 1) := dk_46 (dk_at dksL_law_8 1 rfl rfl)
theorem dL_law_317 : decode cL_law 317 = .ok (.aload_n 0, 1) := dk_42 (dk_at dksL_law_8 2 rfl rfl)
theorem dL_law_318 : decode cL_law 318 = .ok (.iload_n 3, 1) := dk_29 (dk_at dksL_law_8 3 rfl rfl)
theorem dL_law_319 : decode cL_law 319 = .ok (.iconst 2, 1) := dk_5 (dk_at dksL_law_8 4 rfl rfl)
theorem dL_law_320 : decode cL_law 320 = .ok (.iadd, 1) := dk_96 (dk_at dksL_law_8 5 rfl rfl)
theorem dL_law_321 : decode cL_law 321 = .ok (.iaload, 1) := dk_46 (dk_at dksL_law_8 6 rfl rfl)
theorem dL_law_322 : decode cL_law 322 = .ok (.ifCond .eq 7, 3) := dk_153 0 7 (dk_at dksL_law_8 7 rfl rfl)
theorem dL_law_325 : decode cL_law 325 = .ok (.iconst 1, 1) := dk_4 (dk_at dksL_law_8 10 rfl rfl)
theorem dL_law_326 : decode cL_law 326 = .ok (.goto 4, 3) := dk_167 0 4 (dk_at dksL_law_8 11 rfl rfl)
theorem dL_law_329 : decode cL_law 329 = .ok (.iconst 0, 1) := dk_3 (dk_at dksL_law_8 14 rfl rfl)
theorem dL_law_330 : decode cL_law 330 = .ok (.aload_n 0, 1) := dk_42 (dk_at dksL_law_8 15 rfl rfl)
theorem dL_law_331 : decode cL_law 331 = .ok (.iload_n 3, 1) := dk_29 (dk_at dksL_law_8 16 rfl rfl)
theorem dL_law_332 : decode cL_law 332 = .ok (.iconst 3, 1) := dk_6 (dk_at dksL_law_8 17 rfl rfl)
theorem dL_law_333 : decode cL_law 333 = .ok (.iadd, 1) := dk_96 (dk_at dksL_law_8 18 rfl rfl)
theorem dL_law_334 : decode cL_law 334 = .ok (.iaload, 1) := dk_46 (dk_at dksL_law_8 19 rfl rfl)
theorem dL_law_335 : decode cL_law 335 = .ok (.ifCond .eq 7, 3) := dk_153 0 7 (dk_at dksL_law_8 20 rfl rfl)
theorem dL_law_338 : decode cL_law 338 = .ok (.iconst 1, 1) := dk_4 (dk_at dksL_law_8 23 rfl rfl)
theorem dL_law_339 : decode cL_law 339 = .ok (.goto 4, 3) := dk_167 0 4 (dk_at dksL_law_9 0 rfl rfl)
theorem dL_law_342 : decode cL_law 342 = .ok (.iconst 0, 1) := dk_3 (dk_at dksL_law_9 3 rfl rfl)
theorem dL_law_343 : decode cL_law 343 = .ok (.invokevirtual 35, 3) := dk_182 0 35 (dk_at dksL_law_9 4 rfl rfl)
theorem dL_law_346 : decode cL_law 346 = .ok (.if_icmp .eq 1070, 3) := dk_159 4 46 (dk_at dksL_law_9 7 rfl rfl)
theorem dL_law_349 : decode cL_law 349 = .ok (.iconst 0, 1) := dk_3 (dk_at dksL_law_9 10 rfl rfl)
theorem dL_law_350 : decode cL_law 350 = .ok (.ireturn, 1) := dk_172 (dk_at dksL_law_9 11 rfl rfl)
theorem dL_law_351 : decode cL_law 351 = .ok (.aload_n 1, 1) := dk_43 (dk_at dksL_law_9 12 rfl rfl)
theorem dL_law_352 : decode cL_law 352 = .ok (.aload_n 0, 1) := dk_42 (dk_at dksL_law_9 13 rfl rfl)
theorem dL_law_353 : decode cL_law 353 = .ok (.iload_n 3, 1) := dk_29 (dk_at dksL_law_9 14 rfl rfl)
theorem dL_law_354 : decode cL_law 354 = .ok (.iconst 1, 1) := dk_4 (dk_at dksL_law_9 15 rfl rfl)
theorem dL_law_355 : decode cL_law 355 = .ok (.iadd, 1) := dk_96 (dk_at dksL_law_9 16 rfl rfl)
theorem dL_law_356 : decode cL_law 356 = .ok (.iaload, 1) := dk_46 (dk_at dksL_law_9 17 rfl rfl)
theorem dL_law_357 : decode cL_law 357 = .ok (.invokevirtual 36, 3) := dk_182 0 36 (dk_at dksL_law_9 18 rfl rfl)
theorem dL_law_360 : decode cL_law 360 = .ok (.aload_n 2, 1) := dk_44 (dk_at dksL_law_9 21 rfl rfl)
theorem dL_law_361 : decode cL_law 361 = .ok (.aload_n 0, 1) := dk_42 (dk_at dksL_law_9 22 rfl rfl)
theorem dL_law_362 : decode cL_law 362 = .ok (.iload_n 3, 1) := dk_29 (dk_at dksL_law_9 23 rfl rfl)
theorem dL_law_363 : decode cL_law 363 = .ok (.iconst 1, 1) := dk_4 (dk_at dksL_law_10 0 rfl rfl)
theorem dL_law_364 : decode cL_law 364 = .ok (.iadd, 1) := dk_96 (dk_at dksL_law_10 1 rfl rfl)
theorem dL_law_365 : decode cL_law 365 = .ok (.iaload, 1) := dk_46 (dk_at dksL_law_10 2 rfl rfl)
theorem dL_law_366 : decode cL_law 366 = .ok (.invokevirtual 40, 3) := dk_182 0 40 (dk_at dksL_law_10 3 rfl rfl)
theorem dL_law_369 : decode cL_law 369 = .ok (.if_icmp .eq 1047, 3) := dk_159 4 23 (dk_at dksL_law_10 6 rfl rfl)
theorem dL_law_372 : decode cL_law 372 = .ok (.iconst 0, 1) := dk_3 (dk_at dksL_law_10 9 rfl rfl)
theorem dL_law_373 : decode cL_law 373 = .ok (.ireturn, 1) := dk_172 (dk_at dksL_law_10 10 rfl rfl)
theorem dL_law_374 : decode cL_law 374 = .ok (.aload_n 1, 1) := dk_43 (dk_at dksL_law_10 11 rfl rfl)
theorem dL_law_375 : decode cL_law 375 = .ok (.aload_n 0, 1) := dk_42 (dk_at dksL_law_10 12 rfl rfl)
theorem dL_law_376 : decode cL_law 376 = .ok (.iload_n 3, 1) := dk_29 (dk_at dksL_law_10 13 rfl rfl)
theorem dL_law_377 : decode cL_law 377 = .ok (.iconst 1, 1) := dk_4 (dk_at dksL_law_10 14 rfl rfl)
theorem dL_law_378 : decode cL_law 378 = .ok (.iadd, 1) := dk_96 (dk_at dksL_law_10 15 rfl rfl)
theorem dL_law_379 : decode cL_law 379 = .ok (.iaload, 1) := dk_46 (dk_at dksL_law_10 16 rfl rfl)
theorem dL_law_380 : decode cL_law 380 = .ok (.aload_n 0, 1) := dk_42 (dk_at dksL_law_10 17 rfl rfl)
theorem dL_law_381 : decode cL_law 381 = .ok (.iload_n 3, 1) := dk_29 (dk_at dksL_law_10 18 rfl rfl)
theorem dL_law_382 : decode cL_law 382 = .ok (.iconst 2, 1) := dk_5 (dk_at dksL_law_10 19 rfl rfl)
theorem dL_law_383 : decode cL_law 383 = .ok (.iadd, 1) := dk_96 (dk_at dksL_law_10 20 rfl rfl)
theorem dL_law_384 : decode cL_law 384 = .ok (.iaload, 1) := dk_46 (dk_at dksL_law_10 21 rfl rfl)
theorem dL_law_385 : decode cL_law 385 = .ok (.aload_n 0, 1) := dk_42 (dk_at dksL_law_10 22 rfl rfl)
theorem dL_law_386 : decode cL_law 386 = .ok (.iload_n 3, 1) := dk_29 (dk_at dksL_law_10 23 rfl rfl)
theorem dL_law_387 : decode cL_law 387 = .ok (.iconst 3, 1) := dk_6 (dk_at dksL_law_11 0 rfl rfl)
theorem dL_law_388 : decode cL_law 388 = .ok (.iadd, 1) := dk_96 (dk_at dksL_law_11 1 rfl rfl)
theorem dL_law_389 : decode cL_law 389 = .ok (.iaload, 1) := dk_46 (dk_at dksL_law_11 2 rfl rfl)
theorem dL_law_390 : decode cL_law 390 = .ok (.invokevirtual 41, 3) := dk_182 0 41 (dk_at dksL_law_11 3 rfl rfl)
theorem dL_law_393 : decode cL_law 393 = .ok (.aload_n 2, 1) := dk_44 (dk_at dksL_law_11 6 rfl rfl)
theorem dL_law_394 : decode cL_law 394 = .ok (.aload_n 0, 1) := dk_42 (dk_at dksL_law_11 7 rfl rfl)
theorem dL_law_395 : decode cL_law 395 = .ok (.iload_n 3, 1) := dk_29 (dk_at dksL_law_11 8 rfl rfl)
theorem dL_law_396 : decode cL_law 396 = .ok (.iconst 1, 1) := dk_4 (dk_at dksL_law_11 9 rfl rfl)
theorem dL_law_397 : decode cL_law 397 = .ok (.iadd, 1) := dk_96 (dk_at dksL_law_11 10 rfl rfl)
theorem dL_law_398 : decode cL_law 398 = .ok (.iaload, 1) := dk_46 (dk_at dksL_law_11 11 rfl rfl)
theorem dL_law_399 : decode cL_law 399 = .ok (.aload_n 0, 1) := dk_42 (dk_at dksL_law_11 12 rfl rfl)
theorem dL_law_400 : decode cL_law 400 = .ok (.iload_n 3, 1) := dk_29 (dk_at dksL_law_11 13 rfl rfl)
theorem dL_law_401 : decode cL_law 401 = .ok (.iconst 2, 1) := dk_5 (dk_at dksL_law_11 14 rfl rfl)
theorem dL_law_402 : decode cL_law 402 = .ok (.iadd, 1) := dk_96 (dk_at dksL_law_11 15 rfl rfl)
theorem dL_law_403 : decode cL_law 403 = .ok (.iaload, 1) := dk_46 (dk_at dksL_law_11 16 rfl rfl)
theorem dL_law_404 : decode cL_law 404 = .ok (.aload_n 0, 1) := dk_42 (dk_at dksL_law_11 17 rfl rfl)
theorem dL_law_405 : decode cL_law 405 = .ok (.iload_n 3, 1) := dk_29 (dk_at dksL_law_11 18 rfl rfl)
theorem dL_law_406 : decode cL_law 406 = .ok (.iconst 3, 1) := dk_6 (dk_at dksL_law_11 19 rfl rfl)
theorem dL_law_407 : decode cL_law 407 = .ok (.iadd, 1) := dk_96 (dk_at dksL_law_11 20 rfl rfl)
theorem dL_law_408 : decode cL_law 408 = .ok (.iaload, 1) := dk_46 (dk_at dksL_law_11 21 rfl rfl)
theorem dL_law_409 : decode cL_law 409 = .ok (.invokevirtual 45, 3) := dk_182 0 45 (dk_at dksL_law_12 0 rfl rfl)
theorem dL_law_412 : decode cL_law 412 = .ok (.if_icmp .eq 1004, 3) := dk_159 3 236 (dk_at dksL_law_12 3 rfl rfl)
theorem dL_law_415 : decode cL_law 415 = .ok (.iconst 0, 1) := dk_3 (dk_at dksL_law_12 6 rfl rfl)
theorem dL_law_416 : decode cL_law 416 = .ok (.ireturn, 1) := dk_172 (dk_at dksL_law_12 7 rfl rfl)
theorem dL_law_417 : decode cL_law 417 = .ok (.aload_n 1, 1) := dk_43 (dk_at dksL_law_12 8 rfl rfl)
theorem dL_law_418 : decode cL_law 418 = .ok (.aload_n 0, 1) := dk_42 (dk_at dksL_law_12 9 rfl rfl)
theorem dL_law_419 : decode cL_law 419 = .ok (.iload_n 3, 1) := dk_29 (dk_at dksL_law_12 10 rfl rfl)
theorem dL_law_420 : decode cL_law 420 = .ok (.iconst 1, 1) := dk_4 (dk_at dksL_law_12 11 rfl rfl)
theorem dL_law_421 : decode cL_law 421 = .ok (.iadd, 1) := dk_96 (dk_at dksL_law_12 12 rfl rfl)
theorem dL_law_422 : decode cL_law 422 = .ok (.iaload, 1) := dk_46 (dk_at dksL_law_12 13 rfl rfl)
theorem dL_law_423 : decode cL_law 423 = .ok (.aload_n 0, 1) := dk_42 (dk_at dksL_law_12 14 rfl rfl)
theorem dL_law_424 : decode cL_law 424 = .ok (.iload_n 3, 1) := dk_29 (dk_at dksL_law_12 15 rfl rfl)
theorem dL_law_425 : decode cL_law 425 = .ok (.iconst 2, 1) := dk_5 (dk_at dksL_law_12 16 rfl rfl)
theorem dL_law_426 : decode cL_law 426 = .ok (.iadd, 1) := dk_96 (dk_at dksL_law_12 17 rfl rfl)
theorem dL_law_427 : decode cL_law 427 = .ok (.iaload, 1) := dk_46 (dk_at dksL_law_12 18 rfl rfl)
theorem dL_law_428 : decode cL_law 428 = .ok (.aload_n 0, 1) := dk_42 (dk_at dksL_law_12 19 rfl rfl)
theorem dL_law_429 : decode cL_law 429 = .ok (.iload_n 3, 1) := dk_29 (dk_at dksL_law_12 20 rfl rfl)
theorem dL_law_430 : decode cL_law 430 = .ok (.iconst 3, 1) := dk_6 (dk_at dksL_law_12 21 rfl rfl)
theorem dL_law_431 : decode cL_law 431 = .ok (.iadd, 1) := dk_96 (dk_at dksL_law_12 22 rfl rfl)
theorem dL_law_432 : decode cL_law 432 = .ok (.iaload, 1) := dk_46 (dk_at dksL_law_12 23 rfl rfl)
theorem dL_law_433 : decode cL_law 433 = .ok (.aload_n 0, 1) := dk_42 (dk_at dksL_law_13 0 rfl rfl)
theorem dL_law_434 : decode cL_law 434 = .ok (.iload_n 3, 1) := dk_29 (dk_at dksL_law_13 1 rfl rfl)
theorem dL_law_435 : decode cL_law 435 = .ok (.iconst 4, 1) := dk_7 (dk_at dksL_law_13 2 rfl rfl)
theorem dL_law_436 : decode cL_law 436 = .ok (.iadd, 1) := dk_96 (dk_at dksL_law_13 3 rfl rfl)
theorem dL_law_437 : decode cL_law 437 = .ok (.iaload, 1) := dk_46 (dk_at dksL_law_13 4 rfl rfl)
theorem dL_law_438 : decode cL_law 438 = .ok (.aload_n 0, 1) := dk_42 (dk_at dksL_law_13 5 rfl rfl)
theorem dL_law_439 : decode cL_law 439 = .ok (.iload_n 3, 1) := dk_29 (dk_at dksL_law_13 6 rfl rfl)
theorem dL_law_440 : decode cL_law 440 = .ok (.iconst 5, 1) := dk_8 (dk_at dksL_law_13 7 rfl rfl)
theorem dL_law_441 : decode cL_law 441 = .ok (.iadd, 1) := dk_96 (dk_at dksL_law_13 8 rfl rfl)
theorem dL_law_442 : decode cL_law 442 = .ok (.iaload, 1) := dk_46 (dk_at dksL_law_13 9 rfl rfl)
theorem dL_law_443 : decode cL_law 443 = .ok (.invokevirtual 46, 3) := dk_182 0 46 (dk_at dksL_law_13 10 rfl rfl)
theorem dL_law_446 : decode cL_law 446 = .ok (.aload_n 2, 1) := dk_44 (dk_at dksL_law_13 13 rfl rfl)
theorem dL_law_447 : decode cL_law 447 = .ok (.aload_n 0, 1) := dk_42 (dk_at dksL_law_13 14 rfl rfl)
theorem dL_law_448 : decode cL_law 448 = .ok (.iload_n 3, 1) := dk_29 (dk_at dksL_law_13 15 rfl rfl)
theorem dL_law_449 : decode cL_law 449 = .ok (.iconst 1, 1) := dk_4 (dk_at dksL_law_13 16 rfl rfl)
theorem dL_law_450 : decode cL_law 450 = .ok (.iadd, 1) := dk_96 (dk_at dksL_law_13 17 rfl rfl)
theorem dL_law_451 : decode cL_law 451 = .ok (.iaload, 1) := dk_46 (dk_at dksL_law_13 18 rfl rfl)
theorem dL_law_452 : decode cL_law 452 = .ok (.aload_n 0, 1) := dk_42 (dk_at dksL_law_13 19 rfl rfl)
theorem dL_law_453 : decode cL_law 453 = .ok (.iload_n 3, 1) := dk_29 (dk_at dksL_law_13 20 rfl rfl)
theorem dL_law_454 : decode cL_law 454 = .ok (.iconst 2, 1) := dk_5 (dk_at dksL_law_13 21 rfl rfl)
theorem dL_law_455 : decode cL_law 455 = .ok (.iadd, 1) := dk_96 (dk_at dksL_law_13 22 rfl rfl)
theorem dL_law_456 : decode cL_law 456 = .ok (.iaload, 1) := dk_46 (dk_at dksL_law_13 23 rfl rfl)
theorem dL_law_457 : decode cL_law 457 = .ok (.aload_n 0, 1) := dk_42 (dk_at dksL_law_14 0 rfl rfl)
theorem dL_law_458 : decode cL_law 458 = .ok (.iload_n 3, 1) := dk_29 (dk_at dksL_law_14 1 rfl rfl)
theorem dL_law_459 : decode cL_law 459 = .ok (.iconst 3, 1) := dk_6 (dk_at dksL_law_14 2 rfl rfl)
theorem dL_law_460 : decode cL_law 460 = .ok (.iadd, 1) := dk_96 (dk_at dksL_law_14 3 rfl rfl)
theorem dL_law_461 : decode cL_law 461 = .ok (.iaload, 1) := dk_46 (dk_at dksL_law_14 4 rfl rfl)
theorem dL_law_462 : decode cL_law 462 = .ok (.aload_n 0, 1) := dk_42 (dk_at dksL_law_14 5 rfl rfl)
theorem dL_law_463 : decode cL_law 463 = .ok (.iload_n 3, 1) := dk_29 (dk_at dksL_law_14 6 rfl rfl)
theorem dL_law_464 : decode cL_law 464 = .ok (.iconst 4, 1) := dk_7 (dk_at dksL_law_14 7 rfl rfl)
theorem dL_law_465 : decode cL_law 465 = .ok (.iadd, 1) := dk_96 (dk_at dksL_law_14 8 rfl rfl)
theorem dL_law_466 : decode cL_law 466 = .ok (.iaload, 1) := dk_46 (dk_at dksL_law_14 9 rfl rfl)
theorem dL_law_467 : decode cL_law 467 = .ok (.aload_n 0, 1) := dk_42 (dk_at dksL_law_14 10 rfl rfl)
theorem dL_law_468 : decode cL_law 468 = .ok (.iload_n 3, 1) := dk_29 (dk_at dksL_law_14 11 rfl rfl)
theorem dL_law_469 : decode cL_law 469 = .ok (.iconst 5, 1) := dk_8 (dk_at dksL_law_14 12 rfl rfl)
theorem dL_law_470 : decode cL_law 470 = .ok (.iadd, 1) := dk_96 (dk_at dksL_law_14 13 rfl rfl)
theorem dL_law_471 : decode cL_law 471 = .ok (.iaload, 1) := dk_46 (dk_at dksL_law_14 14 rfl rfl)
theorem dL_law_472 : decode cL_law 472 = .ok (.invokevirtual 50, 3) := dk_182 0 50 (dk_at dksL_law_14 15 rfl rfl)
theorem dL_law_475 : decode cL_law 475 = .ok (.if_icmp .eq 941, 3) := dk_159 3 173 (dk_at dksL_law_14 18 rfl rfl)
theorem dL_law_478 : decode cL_law 478 = .ok (.iconst 0, 1) := dk_3 (dk_at dksL_law_14 21 rfl rfl)
theorem dL_law_479 : decode cL_law 479 = .ok (.ireturn, 1) := dk_172 (dk_at dksL_law_14 22 rfl rfl)
theorem dL_law_480 : decode cL_law 480 = .ok (.aload_n 1, 1) := dk_43 (dk_at dksL_law_14 23 rfl rfl)
theorem dL_law_481 : decode cL_law 481 = .ok (.aload_n 0, 1) := dk_42 (dk_at dksL_law_15 0 rfl rfl)
theorem dL_law_482 : decode cL_law 482 = .ok (.iload_n 3, 1) := dk_29 (dk_at dksL_law_15 1 rfl rfl)
theorem dL_law_483 : decode cL_law 483 = .ok (.iconst 1, 1) := dk_4 (dk_at dksL_law_15 2 rfl rfl)
theorem dL_law_484 : decode cL_law 484 = .ok (.iadd, 1) := dk_96 (dk_at dksL_law_15 3 rfl rfl)
theorem dL_law_485 : decode cL_law 485 = .ok (.iaload, 1) := dk_46 (dk_at dksL_law_15 4 rfl rfl)
theorem dL_law_486 : decode cL_law 486 = .ok (.aload_n 0, 1) := dk_42 (dk_at dksL_law_15 5 rfl rfl)
theorem dL_law_487 : decode cL_law 487 = .ok (.iload_n 3, 1) := dk_29 (dk_at dksL_law_15 6 rfl rfl)
theorem dL_law_488 : decode cL_law 488 = .ok (.iconst 2, 1) := dk_5 (dk_at dksL_law_15 7 rfl rfl)
theorem dL_law_489 : decode cL_law 489 = .ok (.iadd, 1) := dk_96 (dk_at dksL_law_15 8 rfl rfl)
theorem dL_law_490 : decode cL_law 490 = .ok (.iaload, 1) := dk_46 (dk_at dksL_law_15 9 rfl rfl)
theorem dL_law_491 : decode cL_law 491 = .ok (.aload_n 0, 1) := dk_42 (dk_at dksL_law_15 10 rfl rfl)
theorem dL_law_492 : decode cL_law 492 = .ok (.iload_n 3, 1) := dk_29 (dk_at dksL_law_15 11 rfl rfl)
theorem dL_law_493 : decode cL_law 493 = .ok (.iconst 3, 1) := dk_6 (dk_at dksL_law_15 12 rfl rfl)
theorem dL_law_494 : decode cL_law 494 = .ok (.iadd, 1) := dk_96 (dk_at dksL_law_15 13 rfl rfl)
theorem dL_law_495 : decode cL_law 495 = .ok (.iaload, 1) := dk_46 (dk_at dksL_law_15 14 rfl rfl)
theorem dL_law_496 : decode cL_law 496 = .ok (.invokevirtual 51, 3) := dk_182 0 51 (dk_at dksL_law_15 15 rfl rfl)
theorem dL_law_499 : decode cL_law 499 = .ok (.aload_n 2, 1) := dk_44 (dk_at dksL_law_15 18 rfl rfl)
theorem dL_law_500 : decode cL_law 500 = .ok (.aload_n 0, 1) := dk_42 (dk_at dksL_law_15 19 rfl rfl)
theorem dL_law_501 : decode cL_law 501 = .ok (.iload_n 3, 1) := dk_29 (dk_at dksL_law_15 20 rfl rfl)
theorem dL_law_502 : decode cL_law 502 = .ok (.iconst 1, 1) := dk_4 (dk_at dksL_law_15 21 rfl rfl)
theorem dL_law_503 : decode cL_law 503 = .ok (.iadd, 1) := dk_96 (dk_at dksL_law_15 22 rfl rfl)
theorem dL_law_504 : decode cL_law 504 = .ok (.iaload, 1) := dk_46 (dk_at dksL_law_15 23 rfl rfl)
theorem dL_law_505 : decode cL_law 505 = .ok (.aload_n 0, 1) := dk_42 (dk_at dksL_law_16 0 rfl rfl)
theorem dL_law_506 : decode cL_law 506 = .ok (.iload_n 3, 1) := dk_29 (dk_at dksL_law_16 1 rfl rfl)
theorem dL_law_507 : decode cL_law 507 = .ok (.iconst 2, 1) := dk_5 (dk_at dksL_law_16 2 rfl rfl)
theorem dL_law_508 : decode cL_law 508 = .ok (.iadd, 1) := dk_96 (dk_at dksL_law_16 3 rfl rfl)
theorem dL_law_509 : decode cL_law 509 = .ok (.iaload, 1) := dk_46 (dk_at dksL_law_16 4 rfl rfl)
theorem dL_law_510 : decode cL_law 510 = .ok (.aload_n 0, 1) := dk_42 (dk_at dksL_law_16 5 rfl rfl)
theorem dL_law_511 : decode cL_law 511 = .ok (.iload_n 3, 1) := dk_29 (dk_at dksL_law_16 6 rfl rfl)
theorem dL_law_512 : decode cL_law 512 = .ok (.iconst 3, 1) := dk_6 (dk_at dksL_law_16 7 rfl rfl)
theorem dL_law_513 : decode cL_law 513 = .ok (.iadd, 1) := dk_96 (dk_at dksL_law_16 8 rfl rfl)
theorem dL_law_514 : decode cL_law 514 = .ok (.iaload, 1) := dk_46 (dk_at dksL_law_16 9 rfl rfl)
theorem dL_law_515 : decode cL_law 515 = .ok (.invokevirtual 54, 3) := dk_182 0 54 (dk_at dksL_law_16 10 rfl rfl)
theorem dL_law_518 : decode cL_law 518 = .ok (.if_icmp .eq 898, 3) := dk_159 3 130 (dk_at dksL_law_16 13 rfl rfl)
theorem dL_law_521 : decode cL_law 521 = .ok (.iconst 0, 1) := dk_3 (dk_at dksL_law_16 16 rfl rfl)
theorem dL_law_522 : decode cL_law 522 = .ok (.ireturn, 1) := dk_172 (dk_at dksL_law_16 17 rfl rfl)
theorem dL_law_523 : decode cL_law 523 = .ok (.aload_n 1, 1) := dk_43 (dk_at dksL_law_16 18 rfl rfl)
theorem dL_law_524 : decode cL_law 524 = .ok (.aload_n 0, 1) := dk_42 (dk_at dksL_law_16 19 rfl rfl)
theorem dL_law_525 : decode cL_law 525 = .ok (.iload_n 3, 1) := dk_29 (dk_at dksL_law_16 20 rfl rfl)
theorem dL_law_526 : decode cL_law 526 = .ok (.iconst 1, 1) := dk_4 (dk_at dksL_law_16 21 rfl rfl)
theorem dL_law_527 : decode cL_law 527 = .ok (.iadd, 1) := dk_96 (dk_at dksL_law_16 22 rfl rfl)
theorem dL_law_528 : decode cL_law 528 = .ok (.iaload, 1) := dk_46 (dk_at dksL_law_16 23 rfl rfl)
theorem dL_law_529 : decode cL_law 529 = .ok (.aload_n 0, 1) := dk_42 (dk_at dksL_law_17 0 rfl rfl)
theorem dL_law_530 : decode cL_law 530 = .ok (.iload_n 3, 1) := dk_29 (dk_at dksL_law_17 1 rfl rfl)
theorem dL_law_531 : decode cL_law 531 = .ok (.iconst 2, 1) := dk_5 (dk_at dksL_law_17 2 rfl rfl)
theorem dL_law_532 : decode cL_law 532 = .ok (.iadd, 1) := dk_96 (dk_at dksL_law_17 3 rfl rfl)
theorem dL_law_533 : decode cL_law 533 = .ok (.iaload, 1) := dk_46 (dk_at dksL_law_17 4 rfl rfl)
theorem dL_law_534 : decode cL_law 534 = .ok (.aload_n 0, 1) := dk_42 (dk_at dksL_law_17 5 rfl rfl)
theorem dL_law_535 : decode cL_law 535 = .ok (.iload_n 3, 1) := dk_29 (dk_at dksL_law_17 6 rfl rfl)
theorem dL_law_536 : decode cL_law 536 = .ok (.iconst 3, 1) := dk_6 (dk_at dksL_law_17 7 rfl rfl)
theorem dL_law_537 : decode cL_law 537 = .ok (.iadd, 1) := dk_96 (dk_at dksL_law_17 8 rfl rfl)
theorem dL_law_538 : decode cL_law 538 = .ok (.iaload, 1) := dk_46 (dk_at dksL_law_17 9 rfl rfl)
theorem dL_law_539 : decode cL_law 539 = .ok (.invokevirtual 55, 3) := dk_182 0 55 (dk_at dksL_law_17 10 rfl rfl)
theorem dL_law_542 : decode cL_law 542 = .ok (.aload_n 2, 1) := dk_44 (dk_at dksL_law_17 13 rfl rfl)
theorem dL_law_543 : decode cL_law 543 = .ok (.aload_n 0, 1) := dk_42 (dk_at dksL_law_17 14 rfl rfl)
theorem dL_law_544 : decode cL_law 544 = .ok (.iload_n 3, 1) := dk_29 (dk_at dksL_law_17 15 rfl rfl)
theorem dL_law_545 : decode cL_law 545 = .ok (.iconst 1, 1) := dk_4 (dk_at dksL_law_17 16 rfl rfl)
theorem dL_law_546 : decode cL_law 546 = .ok (.iadd, 1) := dk_96 (dk_at dksL_law_17 17 rfl rfl)
theorem dL_law_547 : decode cL_law 547 = .ok (.iaload, 1) := dk_46 (dk_at dksL_law_17 18 rfl rfl)
theorem dL_law_548 : decode cL_law 548 = .ok (.aload_n 0, 1) := dk_42 (dk_at dksL_law_17 19 rfl rfl)
theorem dL_law_549 : decode cL_law 549 = .ok (.iload_n 3, 1) := dk_29 (dk_at dksL_law_17 20 rfl rfl)
theorem dL_law_550 : decode cL_law 550 = .ok (.iconst 2, 1) := dk_5 (dk_at dksL_law_17 21 rfl rfl)
theorem dL_law_551 : decode cL_law 551 = .ok (.iadd, 1) := dk_96 (dk_at dksL_law_17 22 rfl rfl)
theorem dL_law_552 : decode cL_law 552 = .ok (.iaload, 1) := dk_46 (dk_at dksL_law_17 23 rfl rfl)
theorem dL_law_553 : decode cL_law 553 = .ok (.aload_n 0, 1) := dk_42 (dk_at dksL_law_18 0 rfl rfl)
theorem dL_law_554 : decode cL_law 554 = .ok (.iload_n 3, 1) := dk_29 (dk_at dksL_law_18 1 rfl rfl)
theorem dL_law_555 : decode cL_law 555 = .ok (.iconst 3, 1) := dk_6 (dk_at dksL_law_18 2 rfl rfl)
theorem dL_law_556 : decode cL_law 556 = .ok (.iadd, 1) := dk_96 (dk_at dksL_law_18 3 rfl rfl)
theorem dL_law_557 : decode cL_law 557 = .ok (.iaload, 1) := dk_46 (dk_at dksL_law_18 4 rfl rfl)
theorem dL_law_558 : decode cL_law 558 = .ok (.invokevirtual 58, 3) := dk_182 0 58 (dk_at dksL_law_18 5 rfl rfl)
theorem dL_law_561 : decode cL_law 561 = .ok (.if_icmp .eq 855, 3) := dk_159 3 87 (dk_at dksL_law_18 8 rfl rfl)
theorem dL_law_564 : decode cL_law 564 = .ok (.iconst 0, 1) := dk_3 (dk_at dksL_law_18 11 rfl rfl)
theorem dL_law_565 : decode cL_law 565 = .ok (.ireturn, 1) := dk_172 (dk_at dksL_law_18 12 rfl rfl)
theorem dL_law_566 : decode cL_law 566 = .ok (.aload_n 1, 1) := dk_43 (dk_at dksL_law_18 13 rfl rfl)
theorem dL_law_567 : decode cL_law 567 = .ok (.aload_n 0, 1) := dk_42 (dk_at dksL_law_18 14 rfl rfl)
theorem dL_law_568 : decode cL_law 568 = .ok (.iload_n 3, 1) := dk_29 (dk_at dksL_law_18 15 rfl rfl)
theorem dL_law_569 : decode cL_law 569 = .ok (.iconst 1, 1) := dk_4 (dk_at dksL_law_18 16 rfl rfl)
theorem dL_law_570 : decode cL_law 570 = .ok (.iadd, 1) := dk_96 (dk_at dksL_law_18 17 rfl rfl)
theorem dL_law_571 : decode cL_law 571 = .ok (.iaload, 1) := dk_46 (dk_at dksL_law_18 18 rfl rfl)
theorem dL_law_572 : decode cL_law 572 = .ok (.invokevirtual 59, 3) := dk_182 0 59 (dk_at dksL_law_18 19 rfl rfl)
theorem dL_law_575 : decode cL_law 575 = .ok (.aload_n 2, 1) := dk_44 (dk_at dksL_law_18 22 rfl rfl)
theorem dL_law_576 : decode cL_law 576 = .ok (.aload_n 0, 1) := dk_42 (dk_at dksL_law_18 23 rfl rfl)
theorem dL_law_577 : decode cL_law 577 = .ok (.iload_n 3, 1) := dk_29 (dk_at dksL_law_19 0 rfl rfl)
theorem dL_law_578 : decode cL_law 578 = .ok (.iconst 1, 1) := dk_4 (dk_at dksL_law_19 1 rfl rfl)
theorem dL_law_579 : decode cL_law 579 = .ok (.iadd, 1) := dk_96 (dk_at dksL_law_19 2 rfl rfl)
theorem dL_law_580 : decode cL_law 580 = .ok (.iaload, 1) := dk_46 (dk_at dksL_law_19 3 rfl rfl)
theorem dL_law_581 : decode cL_law 581 = .ok (.invokevirtual 62, 3) := dk_182 0 62 (dk_at dksL_law_19 4 rfl rfl)
theorem dL_law_584 : decode cL_law 584 = .ok (.if_icmp .eq 832, 3) := dk_159 3 64 (dk_at dksL_law_19 7 rfl rfl)
theorem dL_law_587 : decode cL_law 587 = .ok (.iconst 0, 1) := dk_3 (dk_at dksL_law_19 10 rfl rfl)
theorem dL_law_588 : decode cL_law 588 = .ok (.ireturn, 1) := dk_172 (dk_at dksL_law_19 11 rfl rfl)
theorem dL_law_589 : decode cL_law 589 = .ok (.aload_n 1, 1) := dk_43 (dk_at dksL_law_19 12 rfl rfl)
theorem dL_law_590 : decode cL_law 590 = .ok (.aload_n 0, 1) := dk_42 (dk_at dksL_law_19 13 rfl rfl)
theorem dL_law_591 : decode cL_law 591 = .ok (.iload_n 3, 1) := dk_29 (dk_at dksL_law_19 14 rfl rfl)
theorem dL_law_592 : decode cL_law 592 = .ok (.iconst 1, 1) := dk_4 (dk_at dksL_law_19 15 rfl rfl)
theorem dL_law_593 : decode cL_law 593 = .ok (.iadd, 1) := dk_96 (dk_at dksL_law_19 16 rfl rfl)
theorem dL_law_594 : decode cL_law 594 = .ok (.iaload, 1) := dk_46 (dk_at dksL_law_19 17 rfl rfl)
theorem dL_law_595 : decode cL_law 595 = .ok (.aload_n 0, 1) := dk_42 (dk_at dksL_law_19 18 rfl rfl)
theorem dL_law_596 : decode cL_law 596 = .ok (.iload_n 3, 1) := dk_29 (dk_at dksL_law_19 19 rfl rfl)
theorem dL_law_597 : decode cL_law 597 = .ok (.iconst 2, 1) := dk_5 (dk_at dksL_law_19 20 rfl rfl)
theorem dL_law_598 : decode cL_law 598 = .ok (.iadd, 1) := dk_96 (dk_at dksL_law_19 21 rfl rfl)
theorem dL_law_599 : decode cL_law 599 = .ok (.iaload, 1) := dk_46 (dk_at dksL_law_19 22 rfl rfl)
theorem dL_law_600 : decode cL_law 600 = .ok (.aload_n 0, 1) := dk_42 (dk_at dksL_law_19 23 rfl rfl)
theorem dL_law_601 : decode cL_law 601 = .ok (.iload_n 3, 1) := dk_29 (dk_at dksL_law_20 0 rfl rfl)
theorem dL_law_602 : decode cL_law 602 = .ok (.iconst 3, 1) := dk_6 (dk_at dksL_law_20 1 rfl rfl)
theorem dL_law_603 : decode cL_law 603 = .ok (.iadd, 1) := dk_96 (dk_at dksL_law_20 2 rfl rfl)
theorem dL_law_604 : decode cL_law 604 = .ok (.iaload, 1) := dk_46 (dk_at dksL_law_20 3 rfl rfl)
theorem dL_law_605 : decode cL_law 605 = .ok (.aload_n 0, 1) := dk_42 (dk_at dksL_law_20 4 rfl rfl)
theorem dL_law_606 : decode cL_law 606 = .ok (.iload_n 3, 1) := dk_29 (dk_at dksL_law_20 5 rfl rfl)
theorem dL_law_607 : decode cL_law 607 = .ok (.iconst 4, 1) := dk_7 (dk_at dksL_law_20 6 rfl rfl)
theorem dL_law_608 : decode cL_law 608 = .ok (.iadd, 1) := dk_96 (dk_at dksL_law_20 7 rfl rfl)
theorem dL_law_609 : decode cL_law 609 = .ok (.iaload, 1) := dk_46 (dk_at dksL_law_20 8 rfl rfl)
theorem dL_law_610 : decode cL_law 610 = .ok (.aload_n 0, 1) := dk_42 (dk_at dksL_law_20 9 rfl rfl)
theorem dL_law_611 : decode cL_law 611 = .ok (.iload_n 3, 1) := dk_29 (dk_at dksL_law_20 10 rfl rfl)
theorem dL_law_612 : decode cL_law 612 = .ok (.iconst 5, 1) := dk_8 (dk_at dksL_law_20 11 rfl rfl)
theorem dL_law_613 : decode cL_law 613 = .ok (.iadd, 1) := dk_96 (dk_at dksL_law_20 12 rfl rfl)
theorem dL_law_614 : decode cL_law 614 = .ok (.iaload, 1) := dk_46 (dk_at dksL_law_20 13 rfl rfl)
theorem dL_law_615 : decode cL_law 615 = .ok (.invokevirtual 63, 3) := dk_182 0 63 (dk_at dksL_law_20 14 rfl rfl)
theorem dL_law_618 : decode cL_law 618 = .ok (.aload_n 2, 1) := dk_44 (dk_at dksL_law_20 17 rfl rfl)
theorem dL_law_619 : decode cL_law 619 = .ok (.aload_n 0, 1) := dk_42 (dk_at dksL_law_20 18 rfl rfl)
theorem dL_law_620 : decode cL_law 620 = .ok (.iload_n 3, 1) := dk_29 (dk_at dksL_law_20 19 rfl rfl)
theorem dL_law_621 : decode cL_law 621 = .ok (.iconst 1, 1) := dk_4 (dk_at dksL_law_20 20 rfl rfl)
theorem dL_law_622 : decode cL_law 622 = .ok (.iadd, 1) := dk_96 (dk_at dksL_law_20 21 rfl rfl)
theorem dL_law_623 : decode cL_law 623 = .ok (.iaload, 1) := dk_46 (dk_at dksL_law_20 22 rfl rfl)
theorem dL_law_624 : decode cL_law 624 = .ok (.aload_n 0, 1) := dk_42 (dk_at dksL_law_20 23 rfl rfl)
theorem dL_law_625 : decode cL_law 625 = .ok (.iload_n 3, 1) := dk_29 (dk_at dksL_law_21 0 rfl rfl)
theorem dL_law_626 : decode cL_law 626 = .ok (.iconst 2, 1) := dk_5 (dk_at dksL_law_21 1 rfl rfl)
theorem dL_law_627 : decode cL_law 627 = .ok (.iadd, 1) := dk_96 (dk_at dksL_law_21 2 rfl rfl)
theorem dL_law_628 : decode cL_law 628 = .ok (.iaload, 1) := dk_46 (dk_at dksL_law_21 3 rfl rfl)
theorem dL_law_629 : decode cL_law 629 = .ok (.aload_n 0, 1) := dk_42 (dk_at dksL_law_21 4 rfl rfl)
theorem dL_law_630 : decode cL_law 630 = .ok (.iload_n 3, 1) := dk_29 (dk_at dksL_law_21 5 rfl rfl)
theorem dL_law_631 : decode cL_law 631 = .ok (.iconst 3, 1) := dk_6 (dk_at dksL_law_21 6 rfl rfl)
theorem dL_law_632 : decode cL_law 632 = .ok (.iadd, 1) := dk_96 (dk_at dksL_law_21 7 rfl rfl)
theorem dL_law_633 : decode cL_law 633 = .ok (.iaload, 1) := dk_46 (dk_at dksL_law_21 8 rfl rfl)
theorem dL_law_634 : decode cL_law 634 = .ok (.aload_n 0, 1) := dk_42 (dk_at dksL_law_21 9 rfl rfl)
theorem dL_law_635 : decode cL_law 635 = .ok (.iload_n 3, 1) := dk_29 (dk_at dksL_law_21 10 rfl rfl)
theorem dL_law_636 : decode cL_law 636 = .ok (.iconst 4, 1) := dk_7 (dk_at dksL_law_21 11 rfl rfl)
theorem dL_law_637 : decode cL_law 637 = .ok (.iadd, 1) := dk_96 (dk_at dksL_law_21 12 rfl rfl)
theorem dL_law_638 : decode cL_law 638 = .ok (.iaload, 1) := dk_46 (dk_at dksL_law_21 13 rfl rfl)
theorem dL_law_639 : decode cL_law 639 = .ok (.aload_n 0, 1) := dk_42 (dk_at dksL_law_21 14 rfl rfl)
theorem dL_law_640 : decode cL_law 640 = .ok (.iload_n 3, 1) := dk_29 (dk_at dksL_law_21 15 rfl rfl)
theorem dL_law_641 : decode cL_law 641 = .ok (.iconst 5, 1) := dk_8 (dk_at dksL_law_21 16 rfl rfl)
theorem dL_law_642 : decode cL_law 642 = .ok (.iadd, 1) := dk_96 (dk_at dksL_law_21 17 rfl rfl)
theorem dL_law_643 : decode cL_law 643 = .ok (.iaload, 1) := dk_46 (dk_at dksL_law_21 18 rfl rfl)
theorem dL_law_644 : decode cL_law 644 = .ok (.invokevirtual 67, 3) := dk_182 0 67 (dk_at dksL_law_21 19 rfl rfl)
theorem dL_law_647 : decode cL_law 647 = .ok (.if_icmp .eq 769, 3) := dk_159 3 1 (dk_at dksL_law_22 0 rfl rfl)
theorem dL_law_650 : decode cL_law 650 = .ok (.iconst 0, 1) := dk_3 (dk_at dksL_law_22 3 rfl rfl)
theorem dL_law_651 : decode cL_law 651 = .ok (.ireturn, 1) := dk_172 (dk_at dksL_law_22 4 rfl rfl)
theorem dL_law_652 : decode cL_law 652 = .ok (.aload_n 1, 1) := dk_43 (dk_at dksL_law_22 5 rfl rfl)
theorem dL_law_653 : decode cL_law 653 = .ok (.aload_n 0, 1) := dk_42 (dk_at dksL_law_22 6 rfl rfl)
theorem dL_law_654 : decode cL_law 654 = .ok (.iload_n 3, 1) := dk_29 (dk_at dksL_law_22 7 rfl rfl)
theorem dL_law_655 : decode cL_law 655 = .ok (.iconst 1, 1) := dk_4 (dk_at dksL_law_22 8 rfl rfl)
theorem dL_law_656 : decode cL_law 656 = .ok (.iadd, 1) := dk_96 (dk_at dksL_law_22 9 rfl rfl)
theorem dL_law_657 : decode cL_law 657 = .ok (.iaload, 1) := dk_46 (dk_at dksL_law_22 10 rfl rfl)
theorem dL_law_658 : decode cL_law 658 = .ok (.invokevirtual 68, 3) := dk_182 0 68 (dk_at dksL_law_22 11 rfl rfl)
theorem dL_law_661 : decode cL_law 661 = .ok (.aload_n 2, 1) := dk_44 (dk_at dksL_law_22 14 rfl rfl)
theorem dL_law_662 : decode cL_law 662 = .ok (.aload_n 0, 1) := dk_42 (dk_at dksL_law_22 15 rfl rfl)
theorem dL_law_663 : decode cL_law 663 = .ok (.iload_n 3, 1) := dk_29 (dk_at dksL_law_22 16 rfl rfl)
theorem dL_law_664 : decode cL_law 664 = .ok (.iconst 1, 1) := dk_4 (dk_at dksL_law_22 17 rfl rfl)
theorem dL_law_665 : decode cL_law 665 = .ok (.iadd, 1) := dk_96 (dk_at dksL_law_22 18 rfl rfl)
theorem dL_law_666 : decode cL_law 666 = .ok (.iaload, 1) := dk_46 (dk_at dksL_law_22 19 rfl rfl)
theorem dL_law_667 : decode cL_law 667 = .ok (.invokevirtual 71, 3) := dk_182 0 71 (dk_at dksL_law_22 20 rfl rfl)
theorem dL_law_670 : decode cL_law 670 = .ok (.if_icmp .eq 746, 3) := dk_159 2 234 (dk_at dksL_law_23 0 rfl rfl)
theorem dL_law_673 : decode cL_law 673 = .ok (.iconst 0, 1) := dk_3 (dk_at dksL_law_23 3 rfl rfl)
theorem dL_law_674 : decode cL_law 674 = .ok (.ireturn, 1) := dk_172 (dk_at dksL_law_23 4 rfl rfl)
theorem dL_law_675 : decode cL_law 675 = .ok (.aload_n 1, 1) := dk_43 (dk_at dksL_law_23 5 rfl rfl)
theorem dL_law_676 : decode cL_law 676 = .ok (.invokevirtual 72, 3) := dk_182 0 72 (dk_at dksL_law_23 6 rfl rfl)
theorem dL_law_679 : decode cL_law 679 = .ok (.aload_n 2, 1) := dk_44 (dk_at dksL_law_23 9 rfl rfl)
theorem dL_law_680 : decode cL_law 680 = .ok (.invokevirtual 76, 3) := dk_182 0 76 (dk_at dksL_law_23 10 rfl rfl)
theorem dL_law_683 : decode cL_law 683 = .ok (.if_icmp .eq 733, 3) := dk_159 2 221 (dk_at dksL_law_23 13 rfl rfl)
theorem dL_law_686 : decode cL_law 686 = .ok (.iconst 0, 1) := dk_3 (dk_at dksL_law_23 16 rfl rfl)
theorem dL_law_687 : decode cL_law 687 = .ok (.ireturn, 1) := dk_172 (dk_at dksL_law_23 17 rfl rfl)
theorem dL_law_688 : decode cL_law 688 = .ok (.aload_n 1, 1) := dk_43 (dk_at dksL_law_23 18 rfl rfl)
theorem dL_law_689 : decode cL_law 689 = .ok (.aload_n 0, 1) := dk_42 (dk_at dksL_law_23 19 rfl rfl)
theorem dL_law_690 : decode cL_law 690 = .ok (.iload_n 3, 1) := dk_29 (dk_at dksL_law_23 20 rfl rfl)
theorem dL_law_691 : decode cL_law 691 = .ok (.iconst 1, 1) := dk_4 (dk_at dksL_law_23 21 rfl rfl)
theorem dL_law_692 : decode cL_law 692 = .ok (.iadd, 1) := dk_96 (dk_at dksL_law_23 22 rfl rfl)
theorem dL_law_693 : decode cL_law 693 = .ok (.iaload, 1) := dk_46 (dk_at dksL_law_23 23 rfl rfl)
theorem dL_law_694 : decode cL_law 694 = .ok (.invokevirtual 77, 3) := dk_182 0 77 (dk_at dksL_law_24 0 rfl rfl)
theorem dL_law_697 : decode cL_law 697 = .ok (.aload_n 2, 1) := dk_44 (dk_at dksL_law_24 3 rfl rfl)
theorem dL_law_698 : decode cL_law 698 = .ok (.aload_n 0, 1) := dk_42 (dk_at dksL_law_24 4 rfl rfl)
theorem dL_law_699 : decode cL_law 699 = .ok (.iload_n 3, 1) := dk_29 (dk_at dksL_law_24 5 rfl rfl)
theorem dL_law_700 : decode cL_law 700 = .ok (.iconst 1, 1) := dk_4 (dk_at dksL_law_24 6 rfl rfl)
theorem dL_law_701 : decode cL_law 701 = .ok (.iadd, 1) := dk_96 (dk_at dksL_law_24 7 rfl rfl)
theorem dL_law_702 : decode cL_law 702 = .ok (.iaload, 1) := dk_46 (dk_at dksL_law_24 8 rfl rfl)
theorem dL_law_703 : decode cL_law 703 = .ok (.invokevirtual 80, 3) := dk_182 0 80 (dk_at dksL_law_24 9 rfl rfl)
theorem dL_law_706 : decode cL_law 706 = .ok (.if_icmp .eq 710, 3) := dk_159 2 198 (dk_at dksL_law_24 12 rfl rfl)
theorem dL_law_709 : decode cL_law 709 = .ok (.iconst 0, 1) := dk_3 (dk_at dksL_law_24 15 rfl rfl)
theorem dL_law_710 : decode cL_law 710 = .ok (.ireturn, 1) := dk_172 (dk_at dksL_law_24 16 rfl rfl)
theorem dL_law_711 : decode cL_law 711 = .ok (.aload_n 1, 1) := dk_43 (dk_at dksL_law_24 17 rfl rfl)
theorem dL_law_712 : decode cL_law 712 = .ok (.aload_n 0, 1) := dk_42 (dk_at dksL_law_24 18 rfl rfl)
theorem dL_law_713 : decode cL_law 713 = .ok (.iload_n 3, 1) := dk_29 (dk_at dksL_law_24 19 rfl rfl)
theorem dL_law_714 : decode cL_law 714 = .ok (.iconst 1, 1) := dk_4 (dk_at dksL_law_24 20 rfl rfl)
theorem dL_law_715 : decode cL_law 715 = .ok (.iadd, 1) := dk_96 (dk_at dksL_law_24 21 rfl rfl)
theorem dL_law_716 : decode cL_law 716 = .ok (.iaload, 1) := dk_46 (dk_at dksL_law_24 22 rfl rfl)
theorem dL_law_717 : decode cL_law 717 = .ok (.invokevirtual 81, 3) := dk_182 0 81 (dk_at dksL_law_25 0 rfl rfl)
theorem dL_law_720 : decode cL_law 720 = .ok (.aload_n 2, 1) := dk_44 (dk_at dksL_law_25 3 rfl rfl)
theorem dL_law_721 : decode cL_law 721 = .ok (.aload_n 0, 1) := dk_42 (dk_at dksL_law_25 4 rfl rfl)
theorem dL_law_722 : decode cL_law 722 = .ok (.iload_n 3, 1) := dk_29 (dk_at dksL_law_25 5 rfl rfl)
theorem dL_law_723 : decode cL_law 723 = .ok (.iconst 1, 1) := dk_4 (dk_at dksL_law_25 6 rfl rfl)
theorem dL_law_724 : decode cL_law 724 = .ok (.iadd, 1) := dk_96 (dk_at dksL_law_25 7 rfl rfl)
theorem dL_law_725 : decode cL_law 725 = .ok (.iaload, 1) := dk_46 (dk_at dksL_law_25 8 rfl rfl)
theorem dL_law_726 : decode cL_law 726 = .ok (.invokevirtual 84, 3) := dk_182 0 84 (dk_at dksL_law_25 9 rfl rfl)
theorem dL_law_729 : decode cL_law 729 = .ok (.if_icmp .eq 687, 3) := dk_159 2 175 (dk_at dksL_law_25 12 rfl rfl)
theorem dL_law_732 : decode cL_law 732 = .ok (.iconst 0, 1) := dk_3 (dk_at dksL_law_25 15 rfl rfl)
theorem dL_law_733 : decode cL_law 733 = .ok (.ireturn, 1) := dk_172 (dk_at dksL_law_25 16 rfl rfl)
theorem dL_law_734 : decode cL_law 734 = .ok (.aload_n 1, 1) := dk_43 (dk_at dksL_law_25 17 rfl rfl)
theorem dL_law_735 : decode cL_law 735 = .ok (.aload_n 0, 1) := dk_42 (dk_at dksL_law_25 18 rfl rfl)
theorem dL_law_736 : decode cL_law 736 = .ok (.iload_n 3, 1) := dk_29 (dk_at dksL_law_25 19 rfl rfl)
theorem dL_law_737 : decode cL_law 737 = .ok (.iconst 1, 1) := dk_4 (dk_at dksL_law_25 20 rfl rfl)
theorem dL_law_738 : decode cL_law 738 = .ok (.iadd, 1) := dk_96 (dk_at dksL_law_25 21 rfl rfl)
theorem dL_law_739 : decode cL_law 739 = .ok (.iaload, 1) := dk_46 (dk_at dksL_law_25 22 rfl rfl)
theorem dL_law_740 : decode cL_law 740 = .ok (.aload_n 0, 1) := dk_42 (dk_at dksL_law_25 23 rfl rfl)
theorem dL_law_741 : decode cL_law 741 = .ok (.iload_n 3, 1) := dk_29 (dk_at dksL_law_26 0 rfl rfl)
theorem dL_law_742 : decode cL_law 742 = .ok (.iconst 2, 1) := dk_5 (dk_at dksL_law_26 1 rfl rfl)
theorem dL_law_743 : decode cL_law 743 = .ok (.iadd, 1) := dk_96 (dk_at dksL_law_26 2 rfl rfl)
theorem dL_law_744 : decode cL_law 744 = .ok (.iaload, 1) := dk_46 (dk_at dksL_law_26 3 rfl rfl)
theorem dL_law_745 : decode cL_law 745 = .ok (.invokevirtual 85, 3) := dk_182 0 85 (dk_at dksL_law_26 4 rfl rfl)
theorem dL_law_748 : decode cL_law 748 = .ok (.aload_n 2, 1) := dk_44 (dk_at dksL_law_26 7 rfl rfl)
theorem dL_law_749 : decode cL_law 749 = .ok (.aload_n 0, 1) := dk_42 (dk_at dksL_law_26 8 rfl rfl)
theorem dL_law_750 : decode cL_law 750 = .ok (.iload_n 3, 1) := dk_29 (dk_at dksL_law_26 9 rfl rfl)
theorem dL_law_751 : decode cL_law 751 = .ok (.iconst 1, 1) := dk_4 (dk_at dksL_law_26 10 rfl rfl)
theorem dL_law_752 : decode cL_law 752 = .ok (.iadd, 1) := dk_96 (dk_at dksL_law_26 11 rfl rfl)
theorem dL_law_753 : decode cL_law 753 = .ok (.iaload, 1) := dk_46 (dk_at dksL_law_26 12 rfl rfl)
theorem dL_law_754 : decode cL_law 754 = .ok (.aload_n 0, 1) := dk_42 (dk_at dksL_law_26 13 rfl rfl)
theorem dL_law_755 : decode cL_law 755 = .ok (.iload_n 3, 1) := dk_29 (dk_at dksL_law_26 14 rfl rfl)
theorem dL_law_756 : decode cL_law 756 = .ok (.iconst 2, 1) := dk_5 (dk_at dksL_law_26 15 rfl rfl)
theorem dL_law_757 : decode cL_law 757 = .ok (.iadd, 1) := dk_96 (dk_at dksL_law_26 16 rfl rfl)
theorem dL_law_758 : decode cL_law 758 = .ok (.iaload, 1) := dk_46 (dk_at dksL_law_26 17 rfl rfl)
theorem dL_law_759 : decode cL_law 759 = .ok (.invokevirtual 88, 3) := dk_182 0 88 (dk_at dksL_law_26 18 rfl rfl)
theorem dL_law_762 : decode cL_law 762 = .ok (.if_icmp .eq 654, 3) := dk_159 2 142 (dk_at dksL_law_26 21 rfl rfl)
theorem dL_law_765 : decode cL_law 765 = .ok (.iconst 0, 1) := dk_3 (dk_at dksL_law_27 0 rfl rfl)
theorem dL_law_766 : decode cL_law 766 = .ok (.ireturn, 1) := dk_172 (dk_at dksL_law_27 1 rfl rfl)
theorem dL_law_767 : decode cL_law 767 = .ok (.aload_n 1, 1) := dk_43 (dk_at dksL_law_27 2 rfl rfl)
theorem dL_law_768 : decode cL_law 768 = .ok (.aload_n 0, 1) := dk_42 (dk_at dksL_law_27 3 rfl rfl)
theorem dL_law_769 : decode cL_law 769 = .ok (.iload_n 3, 1) := dk_29 (dk_at dksL_law_27 4 rfl rfl)
theorem dL_law_770 : decode cL_law 770 = .ok (.iconst 1, 1) := dk_4 (dk_at dksL_law_27 5 rfl rfl)
theorem dL_law_771 : decode cL_law 771 = .ok (.iadd, 1) := dk_96 (dk_at dksL_law_27 6 rfl rfl)
theorem dL_law_772 : decode cL_law 772 = .ok (.iaload, 1) := dk_46 (dk_at dksL_law_27 7 rfl rfl)
theorem dL_law_773 : decode cL_law 773 = .ok (.aload_n 0, 1) := dk_42 (dk_at dksL_law_27 8 rfl rfl)
theorem dL_law_774 : decode cL_law 774 = .ok (.iload_n 3, 1) := dk_29 (dk_at dksL_law_27 9 rfl rfl)
theorem dL_law_775 : decode cL_law 775 = .ok (.iconst 2, 1) := dk_5 (dk_at dksL_law_27 10 rfl rfl)
theorem dL_law_776 : decode cL_law 776 = .ok (.iadd, 1) := dk_96 (dk_at dksL_law_27 11 rfl rfl)
theorem dL_law_777 : decode cL_law 777 = .ok (.iaload, 1) := dk_46 (dk_at dksL_law_27 12 rfl rfl)
theorem dL_law_778 : decode cL_law 778 = .ok (.aload_n 0, 1) := dk_42 (dk_at dksL_law_27 13 rfl rfl)
theorem dL_law_779 : decode cL_law 779 = .ok (.iload_n 3, 1) := dk_29 (dk_at dksL_law_27 14 rfl rfl)
theorem dL_law_780 : decode cL_law 780 = .ok (.iconst 3, 1) := dk_6 (dk_at dksL_law_27 15 rfl rfl)
theorem dL_law_781 : decode cL_law 781 = .ok (.iadd, 1) := dk_96 (dk_at dksL_law_27 16 rfl rfl)
theorem dL_law_782 : decode cL_law 782 = .ok (.iaload, 1) := dk_46 (dk_at dksL_law_27 17 rfl rfl)
theorem dL_law_783 : decode cL_law 783 = .ok (.invokevirtual 89, 3) := dk_182 0 89 (dk_at dksL_law_27 18 rfl rfl)
theorem dL_law_786 : decode cL_law 786 = .ok (.aload_n 2, 1) := dk_44 (dk_at dksL_law_27 21 rfl rfl)
theorem dL_law_787 : decode cL_law 787 = .ok (.aload_n 0, 1) := dk_42 (dk_at dksL_law_27 22 rfl rfl)
theorem dL_law_788 : decode cL_law 788 = .ok (.iload_n 3, 1) := dk_29 (dk_at dksL_law_27 23 rfl rfl)
theorem dL_law_789 : decode cL_law 789 = .ok (.iconst 1, 1) := dk_4 (dk_at dksL_law_28 0 rfl rfl)
theorem dL_law_790 : decode cL_law 790 = .ok (.iadd, 1) := dk_96 (dk_at dksL_law_28 1 rfl rfl)
theorem dL_law_791 : decode cL_law 791 = .ok (.iaload, 1) := dk_46 (dk_at dksL_law_28 2 rfl rfl)
theorem dL_law_792 : decode cL_law 792 = .ok (.aload_n 0, 1) := dk_42 (dk_at dksL_law_28 3 rfl rfl)
theorem dL_law_793 : decode cL_law 793 = .ok (.iload_n 3, 1) := dk_29 (dk_at dksL_law_28 4 rfl rfl)
theorem dL_law_794 : decode cL_law 794 = .ok (.iconst 2, 1) := dk_5 (dk_at dksL_law_28 5 rfl rfl)
theorem dL_law_795 : decode cL_law 795 = .ok (.iadd, 1) := dk_96 (dk_at dksL_law_28 6 rfl rfl)
theorem dL_law_796 : decode cL_law 796 = .ok (.iaload, 1) := dk_46 (dk_at dksL_law_28 7 rfl rfl)
theorem dL_law_797 : decode cL_law 797 = .ok (.aload_n 0, 1) := dk_42 (dk_at dksL_law_28 8 rfl rfl)
theorem dL_law_798 : decode cL_law 798 = .ok (.iload_n 3, 1) := dk_29 (dk_at dksL_law_28 9 rfl rfl)
theorem dL_law_799 : decode cL_law 799 = .ok (.iconst 3, 1) := dk_6 (dk_at dksL_law_28 10 rfl rfl)
theorem dL_law_800 : decode cL_law 800 = .ok (.iadd, 1) := dk_96 (dk_at dksL_law_28 11 rfl rfl)
theorem dL_law_801 : decode cL_law 801 = .ok (.iaload, 1) := dk_46 (dk_at dksL_law_28 12 rfl rfl)
theorem dL_law_802 : decode cL_law 802 = .ok (.invokevirtual 93, 3) := dk_182 0 93 (dk_at dksL_law_28 13 rfl rfl)
theorem dL_law_805 : decode cL_law 805 = .ok (.if_icmp .eq 611, 3) := dk_159 2 99 (dk_at dksL_law_28 16 rfl rfl)
theorem dL_law_808 : decode cL_law 808 = .ok (.iconst 0, 1) := dk_3 (dk_at dksL_law_28 19 rfl rfl)
theorem dL_law_809 : decode cL_law 809 = .ok (.ireturn, 1) := dk_172 (dk_at dksL_law_28 20 rfl rfl)
theorem dL_law_810 : decode cL_law 810 = .ok (.aload_n 1, 1) := dk_43 (dk_at dksL_law_28 21 rfl rfl)
theorem dL_law_811 : decode cL_law 811 = .ok (.aload_n 0, 1) := dk_42 (dk_at dksL_law_28 22 rfl rfl)
theorem dL_law_812 : decode cL_law 812 = .ok (.iload_n 3, 1) := dk_29 (dk_at dksL_law_28 23 rfl rfl)
theorem dL_law_813 : decode cL_law 813 = .ok (.iconst 1, 1) := dk_4 (dk_at dksL_law_29 0 rfl rfl)
theorem dL_law_814 : decode cL_law 814 = .ok (.iadd, 1) := dk_96 (dk_at dksL_law_29 1 rfl rfl)
theorem dL_law_815 : decode cL_law 815 = .ok (.iaload, 1) := dk_46 (dk_at dksL_law_29 2 rfl rfl)
theorem dL_law_816 : decode cL_law 816 = .ok (.aload_n 0, 1) := dk_42 (dk_at dksL_law_29 3 rfl rfl)
theorem dL_law_817 : decode cL_law 817 = .ok (.iload_n 3, 1) := dk_29 (dk_at dksL_law_29 4 rfl rfl)
theorem dL_law_818 : decode cL_law 818 = .ok (.iconst 2, 1) := dk_5 (dk_at dksL_law_29 5 rfl rfl)
theorem dL_law_819 : decode cL_law 819 = .ok (.iadd, 1) := dk_96 (dk_at dksL_law_29 6 rfl rfl)
theorem dL_law_820 : decode cL_law 820 = .ok (.iaload, 1) := dk_46 (dk_at dksL_law_29 7 rfl rfl)
theorem dL_law_821 : decode cL_law 821 = .ok (.invokevirtual 94, 3) := dk_182 0 94 (dk_at dksL_law_29 8 rfl rfl)
theorem dL_law_824 : decode cL_law 824 = .ok (.aload_n 2, 1) := dk_44 (dk_at dksL_law_29 11 rfl rfl)
theorem dL_law_825 : decode cL_law 825 = .ok (.aload_n 0, 1) := dk_42 (dk_at dksL_law_29 12 rfl rfl)
theorem dL_law_826 : decode cL_law 826 = .ok (.iload_n 3, 1) := dk_29 (dk_at dksL_law_29 13 rfl rfl)
theorem dL_law_827 : decode cL_law 827 = .ok (.iconst 1, 1) := dk_4 (dk_at dksL_law_29 14 rfl rfl)
theorem dL_law_828 : decode cL_law 828 = .ok (.iadd, 1) := dk_96 (dk_at dksL_law_29 15 rfl rfl)
theorem dL_law_829 : decode cL_law 829 = .ok (.iaload, 1) := dk_46 (dk_at dksL_law_29 16 rfl rfl)
theorem dL_law_830 : decode cL_law 830 = .ok (.aload_n 0, 1) := dk_42 (dk_at dksL_law_29 17 rfl rfl)
theorem dL_law_831 : decode cL_law 831 = .ok (.iload_n 3, 1) := dk_29 (dk_at dksL_law_29 18 rfl rfl)
theorem dL_law_832 : decode cL_law 832 = .ok (.iconst 2, 1) := dk_5 (dk_at dksL_law_29 19 rfl rfl)
theorem dL_law_833 : decode cL_law 833 = .ok (.iadd, 1) := dk_96 (dk_at dksL_law_29 20 rfl rfl)
theorem dL_law_834 : decode cL_law 834 = .ok (.iaload, 1) := dk_46 (dk_at dksL_law_29 21 rfl rfl)
theorem dL_law_835 : decode cL_law 835 = .ok (.invokevirtual 98, 3) := dk_182 0 98 (dk_at dksL_law_30 0 rfl rfl)
theorem dL_law_838 : decode cL_law 838 = .ok (.if_icmp .eq 578, 3) := dk_159 2 66 (dk_at dksL_law_30 3 rfl rfl)
theorem dL_law_841 : decode cL_law 841 = .ok (.iconst 0, 1) := dk_3 (dk_at dksL_law_30 6 rfl rfl)
theorem dL_law_842 : decode cL_law 842 = .ok (.ireturn, 1) := dk_172 (dk_at dksL_law_30 7 rfl rfl)
theorem dL_law_843 : decode cL_law 843 = .ok (.aload_n 1, 1) := dk_43 (dk_at dksL_law_30 8 rfl rfl)
theorem dL_law_844 : decode cL_law 844 = .ok (.aload_n 0, 1) := dk_42 (dk_at dksL_law_30 9 rfl rfl)
theorem dL_law_845 : decode cL_law 845 = .ok (.iload_n 3, 1) := dk_29 (dk_at dksL_law_30 10 rfl rfl)
theorem dL_law_846 : decode cL_law 846 = .ok (.iconst 1, 1) := dk_4 (dk_at dksL_law_30 11 rfl rfl)
theorem dL_law_847 : decode cL_law 847 = .ok (.iadd, 1) := dk_96 (dk_at dksL_law_30 12 rfl rfl)
theorem dL_law_848 : decode cL_law 848 = .ok (.iaload, 1) := dk_46 (dk_at dksL_law_30 13 rfl rfl)
theorem dL_law_849 : decode cL_law 849 = .ok (.aload_n 0, 1) := dk_42 (dk_at dksL_law_30 14 rfl rfl)
theorem dL_law_850 : decode cL_law 850 = .ok (.iload_n 3, 1) := dk_29 (dk_at dksL_law_30 15 rfl rfl)
theorem dL_law_851 : decode cL_law 851 = .ok (.iconst 2, 1) := dk_5 (dk_at dksL_law_30 16 rfl rfl)
theorem dL_law_852 : decode cL_law 852 = .ok (.iadd, 1) := dk_96 (dk_at dksL_law_30 17 rfl rfl)
theorem dL_law_853 : decode cL_law 853 = .ok (.iaload, 1) := dk_46 (dk_at dksL_law_30 18 rfl rfl)
theorem dL_law_854 : decode cL_law 854 = .ok (.invokevirtual 99, 3) := dk_182 0 99 (dk_at dksL_law_30 19 rfl rfl)
theorem dL_law_857 : decode cL_law 857 = .ok (.aload_n 2, 1) := dk_44 (dk_at dksL_law_30 22 rfl rfl)
theorem dL_law_858 : decode cL_law 858 = .ok (.aload_n 0, 1) := dk_42 (dk_at dksL_law_30 23 rfl rfl)
theorem dL_law_859 : decode cL_law 859 = .ok (.iload_n 3, 1) := dk_29 (dk_at dksL_law_31 0 rfl rfl)
theorem dL_law_860 : decode cL_law 860 = .ok (.iconst 1, 1) := dk_4 (dk_at dksL_law_31 1 rfl rfl)
theorem dL_law_861 : decode cL_law 861 = .ok (.iadd, 1) := dk_96 (dk_at dksL_law_31 2 rfl rfl)
theorem dL_law_862 : decode cL_law 862 = .ok (.iaload, 1) := dk_46 (dk_at dksL_law_31 3 rfl rfl)
theorem dL_law_863 : decode cL_law 863 = .ok (.aload_n 0, 1) := dk_42 (dk_at dksL_law_31 4 rfl rfl)
theorem dL_law_864 : decode cL_law 864 = .ok (.iload_n 3, 1) := dk_29 (dk_at dksL_law_31 5 rfl rfl)
theorem dL_law_865 : decode cL_law 865 = .ok (.iconst 2, 1) := dk_5 (dk_at dksL_law_31 6 rfl rfl)
theorem dL_law_866 : decode cL_law 866 = .ok (.iadd, 1) := dk_96 (dk_at dksL_law_31 7 rfl rfl)
theorem dL_law_867 : decode cL_law 867 = .ok (.iaload, 1) := dk_46 (dk_at dksL_law_31 8 rfl rfl)
theorem dL_law_868 : decode cL_law 868 = .ok (.invokevirtual 102, 3) := dk_182 0 102 (dk_at dksL_law_31 9 rfl rfl)
theorem dL_law_871 : decode cL_law 871 = .ok (.if_icmp .eq 545, 3) := dk_159 2 33 (dk_at dksL_law_31 12 rfl rfl)
theorem dL_law_874 : decode cL_law 874 = .ok (.iconst 0, 1) := dk_3 (dk_at dksL_law_31 15 rfl rfl)
theorem dL_law_875 : decode cL_law 875 = .ok (.ireturn, 1) := dk_172 (dk_at dksL_law_31 16 rfl rfl)
theorem dL_law_876 : decode cL_law 876 = .ok (.aload_n 1, 1) := dk_43 (dk_at dksL_law_31 17 rfl rfl)
theorem dL_law_877 : decode cL_law 877 = .ok (.aload_n 0, 1) := dk_42 (dk_at dksL_law_31 18 rfl rfl)
theorem dL_law_878 : decode cL_law 878 = .ok (.iload_n 3, 1) := dk_29 (dk_at dksL_law_31 19 rfl rfl)
theorem dL_law_879 : decode cL_law 879 = .ok (.iconst 1, 1) := dk_4 (dk_at dksL_law_31 20 rfl rfl)
theorem dL_law_880 : decode cL_law 880 = .ok (.iadd, 1) := dk_96 (dk_at dksL_law_31 21 rfl rfl)
theorem dL_law_881 : decode cL_law 881 = .ok (.iaload, 1) := dk_46 (dk_at dksL_law_31 22 rfl rfl)
theorem dL_law_882 : decode cL_law 882 = .ok (.aload_n 0, 1) := dk_42 (dk_at dksL_law_31 23 rfl rfl)
theorem dL_law_883 : decode cL_law 883 = .ok (.iload_n 3, 1) := dk_29 (dk_at dksL_law_32 0 rfl rfl)
theorem dL_law_884 : decode cL_law 884 = .ok (.iconst 2, 1) := dk_5 (dk_at dksL_law_32 1 rfl rfl)
theorem dL_law_885 : decode cL_law 885 = .ok (.iadd, 1) := dk_96 (dk_at dksL_law_32 2 rfl rfl)
theorem dL_law_886 : decode cL_law 886 = .ok (.iaload, 1) := dk_46 (dk_at dksL_law_32 3 rfl rfl)
theorem dL_law_887 : decode cL_law 887 = .ok (.invokevirtual 103, 3) := dk_182 0 103 (dk_at dksL_law_32 4 rfl rfl)
theorem dL_law_890 : decode cL_law 890 = .ok (.aload_n 2, 1) := dk_44 (dk_at dksL_law_32 7 rfl rfl)
theorem dL_law_891 : decode cL_law 891 = .ok (.aload_n 0, 1) := dk_42 (dk_at dksL_law_32 8 rfl rfl)
theorem dL_law_892 : decode cL_law 892 = .ok (.iload_n 3, 1) := dk_29 (dk_at dksL_law_32 9 rfl rfl)
theorem dL_law_893 : decode cL_law 893 = .ok (.iconst 1, 1) := dk_4 (dk_at dksL_law_32 10 rfl rfl)
theorem dL_law_894 : decode cL_law 894 = .ok (.iadd, 1) := dk_96 (dk_at dksL_law_32 11 rfl rfl)
theorem dL_law_895 : decode cL_law 895 = .ok (.iaload, 1) := dk_46 (dk_at dksL_law_32 12 rfl rfl)
theorem dL_law_896 : decode cL_law 896 = .ok (.aload_n 0, 1) := dk_42 (dk_at dksL_law_32 13 rfl rfl)
theorem dL_law_897 : decode cL_law 897 = .ok (.iload_n 3, 1) := dk_29 (dk_at dksL_law_32 14 rfl rfl)
theorem dL_law_898 : decode cL_law 898 = .ok (.iconst 2, 1) := dk_5 (dk_at dksL_law_32 15 rfl rfl)
theorem dL_law_899 : decode cL_law 899 = .ok (.iadd, 1) := dk_96 (dk_at dksL_law_32 16 rfl rfl)
theorem dL_law_900 : decode cL_law 900 = .ok (.iaload, 1) := dk_46 (dk_at dksL_law_32 17 rfl rfl)
theorem dL_law_901 : decode cL_law 901 = .ok (.invokevirtual 106, 3) := dk_182 0 106 (dk_at dksL_law_32 18 rfl rfl)
theorem dL_law_904 : decode cL_law 904 = .ok (.if_icmp .eq 512, 3) := dk_159 2 0 (dk_at dksL_law_32 21 rfl rfl)
theorem dL_law_907 : decode cL_law 907 = .ok (.iconst 0, 1) := dk_3 (dk_at dksL_law_33 0 rfl rfl)
theorem dL_law_908 : decode cL_law 908 = .ok (.ireturn, 1) := dk_172 (dk_at dksL_law_33 1 rfl rfl)
theorem dL_law_909 : decode cL_law 909 = .ok (.aload_n 1, 1) := dk_43 (dk_at dksL_law_33 2 rfl rfl)
theorem dL_law_910 : decode cL_law 910 = .ok (.aload_n 0, 1) := dk_42 (dk_at dksL_law_33 3 rfl rfl)
theorem dL_law_911 : decode cL_law 911 = .ok (.iload_n 3, 1) := dk_29 (dk_at dksL_law_33 4 rfl rfl)
theorem dL_law_912 : decode cL_law 912 = .ok (.iconst 1, 1) := dk_4 (dk_at dksL_law_33 5 rfl rfl)
theorem dL_law_913 : decode cL_law 913 = .ok (.iadd, 1) := dk_96 (dk_at dksL_law_33 6 rfl rfl)
theorem dL_law_914 : decode cL_law 914 = .ok (.iaload, 1) := dk_46 (dk_at dksL_law_33 7 rfl rfl)
theorem dL_law_915 : decode cL_law 915 = .ok (.invokevirtual 107, 3) := dk_182 0 107 (dk_at dksL_law_33 8 rfl rfl)
theorem dL_law_918 : decode cL_law 918 = .ok (.aload_n 2, 1) := dk_44 (dk_at dksL_law_33 11 rfl rfl)
theorem dL_law_919 : decode cL_law 919 = .ok (.aload_n 0, 1) := dk_42 (dk_at dksL_law_33 12 rfl rfl)
theorem dL_law_920 : decode cL_law 920 = .ok (.iload_n 3, 1) := dk_29 (dk_at dksL_law_33 13 rfl rfl)
theorem dL_law_921 : decode cL_law 921 = .ok (.iconst 1, 1) := dk_4 (dk_at dksL_law_33 14 rfl rfl)
theorem dL_law_922 : decode cL_law 922 = .ok (.iadd, 1) := dk_96 (dk_at dksL_law_33 15 rfl rfl)
theorem dL_law_923 : decode cL_law 923 = .ok (.iaload, 1) := dk_46 (dk_at dksL_law_33 16 rfl rfl)
theorem dL_law_924 : decode cL_law 924 = .ok (.invokevirtual 110, 3) := dk_182 0 110 (dk_at dksL_law_33 17 rfl rfl)
theorem dL_law_927 : decode cL_law 927 = .ok (.if_icmp .eq 489, 3) := dk_159 1 233 (dk_at dksL_law_33 20 rfl rfl)
theorem dL_law_930 : decode cL_law 930 = .ok (.iconst 0, 1) := dk_3 (dk_at dksL_law_33 23 rfl rfl)
theorem dL_law_931 : decode cL_law 931 = .ok (.ireturn, 1) := dk_172 (dk_at dksL_law_34 0 rfl rfl)
theorem dL_law_932 : decode cL_law 932 = .ok (.aload_n 1, 1) := dk_43 (dk_at dksL_law_34 1 rfl rfl)
theorem dL_law_933 : decode cL_law 933 = .ok (.invokevirtual 111, 3) := dk_182 0 111 (dk_at dksL_law_34 2 rfl rfl)
theorem dL_law_936 : decode cL_law 936 = .ok (.aload_n 2, 1) := dk_44 (dk_at dksL_law_34 5 rfl rfl)
theorem dL_law_937 : decode cL_law 937 = .ok (.invokevirtual 114, 3) := dk_182 0 114 (dk_at dksL_law_34 6 rfl rfl)
theorem dL_law_940 : decode cL_law 940 = .ok (.if_icmp .eq 476, 3) := dk_159 1 220 (dk_at dksL_law_34 9 rfl rfl)
theorem dL_law_943 : decode cL_law 943 = .ok (.iconst 0, 1) := dk_3 (dk_at dksL_law_34 12 rfl rfl)
theorem dL_law_944 : decode cL_law 944 = .ok (.ireturn, 1) := dk_172 (dk_at dksL_law_34 13 rfl rfl)
theorem dL_law_945 : decode cL_law 945 = .ok (.aload_n 1, 1) := dk_43 (dk_at dksL_law_34 14 rfl rfl)
theorem dL_law_946 : decode cL_law 946 = .ok (.aload_n 0, 1) := dk_42 (dk_at dksL_law_34 15 rfl rfl)
theorem dL_law_947 : decode cL_law 947 = .ok (.iload_n 3, 1) := dk_29 (dk_at dksL_law_34 16 rfl rfl)
theorem dL_law_948 : decode cL_law 948 = .ok (.iconst 1, 1) := dk_4 (dk_at dksL_law_34 17 rfl rfl)
theorem dL_law_949 : decode cL_law 949 = .ok (.iadd, 1) := dk_96 (dk_at dksL_law_34 18 rfl rfl)
theorem dL_law_950 : decode cL_law 950 = .ok (.iaload, 1) := dk_46 (dk_at dksL_law_34 19 rfl rfl)
theorem dL_law_951 : decode cL_law 951 = .ok (.aload_n 0, 1) := dk_42 (dk_at dksL_law_34 20 rfl rfl)
theorem dL_law_952 : decode cL_law 952 = .ok (.iload_n 3, 1) := dk_29 (dk_at dksL_law_34 21 rfl rfl)
theorem dL_law_953 : decode cL_law 953 = .ok (.iconst 2, 1) := dk_5 (dk_at dksL_law_34 22 rfl rfl)
theorem dL_law_954 : decode cL_law 954 = .ok (.iadd, 1) := dk_96 (dk_at dksL_law_34 23 rfl rfl)
theorem dL_law_955 : decode cL_law 955 = .ok (.iaload, 1) := dk_46 (dk_at dksL_law_35 0 rfl rfl)
theorem dL_law_956 : decode cL_law 956 = .ok (.invokevirtual 115, 3) := dk_182 0 115 (dk_at dksL_law_35 1 rfl rfl)
theorem dL_law_959 : decode cL_law 959 = .ok (.aload_n 2, 1) := dk_44 (dk_at dksL_law_35 4 rfl rfl)
theorem dL_law_960 : decode cL_law 960 = .ok (.aload_n 0, 1) := dk_42 (dk_at dksL_law_35 5 rfl rfl)
theorem dL_law_961 : decode cL_law 961 = .ok (.iload_n 3, 1) := dk_29 (dk_at dksL_law_35 6 rfl rfl)
theorem dL_law_962 : decode cL_law 962 = .ok (.iconst 1, 1) := dk_4 (dk_at dksL_law_35 7 rfl rfl)
theorem dL_law_963 : decode cL_law 963 = .ok (.iadd, 1) := dk_96 (dk_at dksL_law_35 8 rfl rfl)
theorem dL_law_964 : decode cL_law 964 = .ok (.iaload, 1) := dk_46 (dk_at dksL_law_35 9 rfl rfl)
theorem dL_law_965 : decode cL_law 965 = .ok (.aload_n 0, 1) := dk_42 (dk_at dksL_law_35 10 rfl rfl)
theorem dL_law_966 : decode cL_law 966 = .ok (.iload_n 3, 1) := dk_29 (dk_at dksL_law_35 11 rfl rfl)
theorem dL_law_967 : decode cL_law 967 = .ok (.iconst 2, 1) := dk_5 (dk_at dksL_law_35 12 rfl rfl)
theorem dL_law_968 : decode cL_law 968 = .ok (.iadd, 1) := dk_96 (dk_at dksL_law_35 13 rfl rfl)
theorem dL_law_969 : decode cL_law 969 = .ok (.iaload, 1) := dk_46 (dk_at dksL_law_35 14 rfl rfl)
theorem dL_law_970 : decode cL_law 970 = .ok (.invokevirtual 118, 3) := dk_182 0 118 (dk_at dksL_law_35 15 rfl rfl)
theorem dL_law_973 : decode cL_law 973 = .ok (.if_icmp .eq 443, 3) := dk_159 1 187 (dk_at dksL_law_35 18 rfl rfl)
theorem dL_law_976 : decode cL_law 976 = .ok (.iconst 0, 1) := dk_3 (dk_at dksL_law_35 21 rfl rfl)
theorem dL_law_977 : decode cL_law 977 = .ok (.ireturn, 1) := dk_172 (dk_at dksL_law_35 22 rfl rfl)
theorem dL_law_978 : decode cL_law 978 = .ok (.aload_n 1, 1) := dk_43 (dk_at dksL_law_35 23 rfl rfl)
theorem dL_law_979 : decode cL_law 979 = .ok (.aload_n 0, 1) := dk_42 (dk_at dksL_law_36 0 rfl rfl)
theorem dL_law_980 : decode cL_law 980 = .ok (.iload_n 3, 1) := dk_29 (dk_at dksL_law_36 1 rfl rfl)
theorem dL_law_981 : decode cL_law 981 = .ok (.iconst 1, 1) := dk_4 (dk_at dksL_law_36 2 rfl rfl)
theorem dL_law_982 : decode cL_law 982 = .ok (.iadd, 1) := dk_96 (dk_at dksL_law_36 3 rfl rfl)
theorem dL_law_983 : decode cL_law 983 = .ok (.iaload, 1) := dk_46 (dk_at dksL_law_36 4 rfl rfl)
theorem dL_law_984 : decode cL_law 984 = .ok (.invokevirtual 119, 3) := dk_182 0 119 (dk_at dksL_law_36 5 rfl rfl)
theorem dL_law_987 : decode cL_law 987 = .ok (.aload_n 2, 1) := dk_44 (dk_at dksL_law_36 8 rfl rfl)
theorem dL_law_988 : decode cL_law 988 = .ok (.aload_n 0, 1) := dk_42 (dk_at dksL_law_36 9 rfl rfl)
theorem dL_law_989 : decode cL_law 989 = .ok (.iload_n 3, 1) := dk_29 (dk_at dksL_law_36 10 rfl rfl)
theorem dL_law_990 : decode cL_law 990 = .ok (.iconst 1, 1) := dk_4 (dk_at dksL_law_36 11 rfl rfl)
theorem dL_law_991 : decode cL_law 991 = .ok (.iadd, 1) := dk_96 (dk_at dksL_law_36 12 rfl rfl)
theorem dL_law_992 : decode cL_law 992 = .ok (.iaload, 1) := dk_46 (dk_at dksL_law_36 13 rfl rfl)
theorem dL_law_993 : decode cL_law 993 = .ok (.invokevirtual 122, 3) := dk_182 0 122 (dk_at dksL_law_36 14 rfl rfl)
theorem dL_law_996 : decode cL_law 996 = .ok (.if_icmp .eq 420, 3) := dk_159 1 164 (dk_at dksL_law_36 17 rfl rfl)
theorem dL_law_999 : decode cL_law 999 = .ok (.iconst 0, 1) := dk_3 (dk_at dksL_law_36 20 rfl rfl)
theorem dL_law_1000 : decode cL_law 1000 = .ok (.ireturn, 1) := dk_172 (dk_at dksL_law_36 21 rfl rfl)
theorem dL_law_1001 : decode cL_law 1001 = .ok (.aload_n 1, 1) := dk_43 (dk_at dksL_law_36 22 rfl rfl)
theorem dL_law_1002 : decode cL_law 1002 = .ok (.aload_n 0, 1) := dk_42 (dk_at dksL_law_36 23 rfl rfl)
theorem dL_law_1003 : decode cL_law 1003 = .ok (.iload_n 3, 1) := dk_29 (dk_at dksL_law_37 0 rfl rfl)
theorem dL_law_1004 : decode cL_law 1004 = .ok (.iconst 1, 1) := dk_4 (dk_at dksL_law_37 1 rfl rfl)
theorem dL_law_1005 : decode cL_law 1005 = .ok (.iadd, 1) := dk_96 (dk_at dksL_law_37 2 rfl rfl)
theorem dL_law_1006 : decode cL_law 1006 = .ok (.iaload, 1) := dk_46 (dk_at dksL_law_37 3 rfl rfl)
theorem dL_law_1007 : decode cL_law 1007 = .ok (.invokevirtual 123, 3) := dk_182 0 123 (dk_at dksL_law_37 4 rfl rfl)
theorem dL_law_1010 : decode cL_law 1010 = .ok (.aload_n 2, 1) := dk_44 (dk_at dksL_law_37 7 rfl rfl)
theorem dL_law_1011 : decode cL_law 1011 = .ok (.aload_n 0, 1) := dk_42 (dk_at dksL_law_37 8 rfl rfl)
theorem dL_law_1012 : decode cL_law 1012 = .ok (.iload_n 3, 1) := dk_29 (dk_at dksL_law_37 9 rfl rfl)
theorem dL_law_1013 : decode cL_law 1013 = .ok (.iconst 1, 1) := dk_4 (dk_at dksL_law_37 10 rfl rfl)
theorem dL_law_1014 : decode cL_law 1014 = .ok (.iadd, 1) := dk_96 (dk_at dksL_law_37 11 rfl rfl)
theorem dL_law_1015 : decode cL_law 1015 = .ok (.iaload, 1) := dk_46 (dk_at dksL_law_37 12 rfl rfl)
theorem dL_law_1016 : decode cL_law 1016 = .ok (.invokevirtual 126, 3) := dk_182 0 126 (dk_at dksL_law_37 13 rfl rfl)
theorem dL_law_1019 : decode cL_law 1019 = .ok (.if_icmp .eq 397, 3) := dk_159 1 141 (dk_at dksL_law_37 16 rfl rfl)
theorem dL_law_1022 : decode cL_law 1022 = .ok (.iconst 0, 1) := dk_3 (dk_at dksL_law_37 19 rfl rfl)
theorem dL_law_1023 : decode cL_law 1023 = .ok (.ireturn, 1) := dk_172 (dk_at dksL_law_37 20 rfl rfl)
theorem dL_law_1024 : decode cL_law 1024 = .ok (.aload_n 1, 1) := dk_43 (dk_at dksL_law_37 21 rfl rfl)
theorem dL_law_1025 : decode cL_law 1025 = .ok (.invokevirtual 127, 3) := dk_182 0 127 (dk_at dksL_law_38 0 rfl rfl)
theorem dL_law_1028 : decode cL_law 1028 = .ok (.aload_n 2, 1) := dk_44 (dk_at dksL_law_38 3 rfl rfl)
theorem dL_law_1029 : decode cL_law 1029 = .ok (.invokevirtual 130, 3) := dk_182 0 130 (dk_at dksL_law_38 4 rfl rfl)
theorem dL_law_1032 : decode cL_law 1032 = .ok (.if_icmp .eq 384, 3) := dk_159 1 128 (dk_at dksL_law_38 7 rfl rfl)
theorem dL_law_1035 : decode cL_law 1035 = .ok (.iconst 0, 1) := dk_3 (dk_at dksL_law_38 10 rfl rfl)
theorem dL_law_1036 : decode cL_law 1036 = .ok (.ireturn, 1) := dk_172 (dk_at dksL_law_38 11 rfl rfl)
theorem dL_law_1037 : decode cL_law 1037 = .ok (.aload_n 1, 1) := dk_43 (dk_at dksL_law_38 12 rfl rfl)
theorem dL_law_1038 : decode cL_law 1038 = .ok (.aload_n 0, 1) := dk_42 (dk_at dksL_law_38 13 rfl rfl)
theorem dL_law_1039 : decode cL_law 1039 = .ok (.iload_n 3, 1) := dk_29 (dk_at dksL_law_38 14 rfl rfl)
theorem dL_law_1040 : decode cL_law 1040 = .ok (.iconst 1, 1) := dk_4 (dk_at dksL_law_38 15 rfl rfl)
theorem dL_law_1041 : decode cL_law 1041 = .ok (.iadd, 1) := dk_96 (dk_at dksL_law_38 16 rfl rfl)
theorem dL_law_1042 : decode cL_law 1042 = .ok (.iaload, 1) := dk_46 (dk_at dksL_law_38 17 rfl rfl)
theorem dL_law_1043 : decode cL_law 1043 = .ok (.invokevirtual 131, 3) := dk_182 0 131 (dk_at dksL_law_38 18 rfl rfl)
theorem dL_law_1046 : decode cL_law 1046 = .ok (.aload_n 2, 1) := dk_44 (dk_at dksL_law_38 21 rfl rfl)
theorem dL_law_1047 : decode cL_law 1047 = .ok (.aload_n 0, 1) := dk_42 (dk_at dksL_law_38 22 rfl rfl)
theorem dL_law_1048 : decode cL_law 1048 = .ok (.iload_n 3, 1) := dk_29 (dk_at dksL_law_38 23 rfl rfl)
theorem dL_law_1049 : decode cL_law 1049 = .ok (.iconst 1, 1) := dk_4 (dk_at dksL_law_39 0 rfl rfl)
theorem dL_law_1050 : decode cL_law 1050 = .ok (.iadd, 1) := dk_96 (dk_at dksL_law_39 1 rfl rfl)
theorem dL_law_1051 : decode cL_law 1051 = .ok (.iaload, 1) := dk_46 (dk_at dksL_law_39 2 rfl rfl)
theorem dL_law_1052 : decode cL_law 1052 = .ok (.invokevirtual 134, 3) := dk_182 0 134 (dk_at dksL_law_39 3 rfl rfl)
theorem dL_law_1055 : decode cL_law 1055 = .ok (.if_icmp .eq 361, 3) := dk_159 1 105 (dk_at dksL_law_39 6 rfl rfl)
theorem dL_law_1058 : decode cL_law 1058 = .ok (.iconst 0, 1) := dk_3 (dk_at dksL_law_39 9 rfl rfl)
theorem dL_law_1059 : decode cL_law 1059 = .ok (.ireturn, 1) := dk_172 (dk_at dksL_law_39 10 rfl rfl)
theorem dL_law_1060 : decode cL_law 1060 = .ok (.aload_n 1, 1) := dk_43 (dk_at dksL_law_39 11 rfl rfl)
theorem dL_law_1061 : decode cL_law 1061 = .ok (.invokevirtual 135, 3) := dk_182 0 135 (dk_at dksL_law_39 12 rfl rfl)
theorem dL_law_1064 : decode cL_law 1064 = .ok (.aload_n 2, 1) := dk_44 (dk_at dksL_law_39 15 rfl rfl)
theorem dL_law_1065 : decode cL_law 1065 = .ok (.invokevirtual 138, 3) := dk_182 0 138 (dk_at dksL_law_39 16 rfl rfl)
theorem dL_law_1068 : decode cL_law 1068 = .ok (.if_icmp .eq 348, 3) := dk_159 1 92 (dk_at dksL_law_39 19 rfl rfl)
theorem dL_law_1071 : decode cL_law 1071 = .ok (.iconst 0, 1) := dk_3 (dk_at dksL_law_39 22 rfl rfl)
theorem dL_law_1072 : decode cL_law 1072 = .ok (.ireturn, 1) := dk_172 (dk_at dksL_law_39 23 rfl rfl)
theorem dL_law_1073 : decode cL_law 1073 = .ok (.aload_n 1, 1) := dk_43 (dk_at dksL_law_40 0 rfl rfl)
theorem dL_law_1074 : decode cL_law 1074 = .ok (.aload_n 0, 1) := dk_42 (dk_at dksL_law_40 1 rfl rfl)
theorem dL_law_1075 : decode cL_law 1075 = .ok (.iload_n 3, 1) := dk_29 (dk_at dksL_law_40 2 rfl rfl)
theorem dL_law_1076 : decode cL_law 1076 = .ok (.iconst 1, 1) := dk_4 (dk_at dksL_law_40 3 rfl rfl)
theorem dL_law_1077 : decode cL_law 1077 = .ok (.iadd, 1) := dk_96 (dk_at dksL_law_40 4 rfl rfl)
theorem dL_law_1078 : decode cL_law 1078 = .ok (.iaload, 1) := dk_46 (dk_at dksL_law_40 5 rfl rfl)
theorem dL_law_1079 : decode cL_law 1079 = .ok (.invokevirtual 139, 3) := dk_182 0 139 (dk_at dksL_law_40 6 rfl rfl)
theorem dL_law_1082 : decode cL_law 1082 = .ok (.aload_n 2, 1) := dk_44 (dk_at dksL_law_40 9 rfl rfl)
theorem dL_law_1083 : decode cL_law 1083 = .ok (.aload_n 0, 1) := dk_42 (dk_at dksL_law_40 10 rfl rfl)
theorem dL_law_1084 : decode cL_law 1084 = .ok (.iload_n 3, 1) := dk_29 (dk_at dksL_law_40 11 rfl rfl)
theorem dL_law_1085 : decode cL_law 1085 = .ok (.iconst 1, 1) := dk_4 (dk_at dksL_law_40 12 rfl rfl)
theorem dL_law_1086 : decode cL_law 1086 = .ok (.iadd, 1) := dk_96 (dk_at dksL_law_40 13 rfl rfl)
theorem dL_law_1087 : decode cL_law 1087 = .ok (.iaload, 1) := dk_46 (dk_at dksL_law_40 14 rfl rfl)
theorem dL_law_1088 : decode cL_law 1088 = .ok (.invokevirtual 142, 3) := dk_182 0 142 (dk_at dksL_law_40 15 rfl rfl)
theorem dL_law_1091 : decode cL_law 1091 = .ok (.if_icmp .eq 325, 3) := dk_159 1 69 (dk_at dksL_law_40 18 rfl rfl)
theorem dL_law_1094 : decode cL_law 1094 = .ok (.iconst 0, 1) := dk_3 (dk_at dksL_law_40 21 rfl rfl)
theorem dL_law_1095 : decode cL_law 1095 = .ok (.ireturn, 1) := dk_172 (dk_at dksL_law_40 22 rfl rfl)
theorem dL_law_1096 : decode cL_law 1096 = .ok (.aload_n 1, 1) := dk_43 (dk_at dksL_law_40 23 rfl rfl)
theorem dL_law_1097 : decode cL_law 1097 = .ok (.aload_n 0, 1) := dk_42 (dk_at dksL_law_41 0 rfl rfl)
theorem dL_law_1098 : decode cL_law 1098 = .ok (.iload_n 3, 1) := dk_29 (dk_at dksL_law_41 1 rfl rfl)
theorem dL_law_1099 : decode cL_law 1099 = .ok (.iconst 1, 1) := dk_4 (dk_at dksL_law_41 2 rfl rfl)
theorem dL_law_1100 : decode cL_law 1100 = .ok (.iadd, 1) := dk_96 (dk_at dksL_law_41 3 rfl rfl)
theorem dL_law_1101 : decode cL_law 1101 = .ok (.iaload, 1) := dk_46 (dk_at dksL_law_41 4 rfl rfl)
theorem dL_law_1102 : decode cL_law 1102 = .ok (.aload_n 0, 1) := dk_42 (dk_at dksL_law_41 5 rfl rfl)
theorem dL_law_1103 : decode cL_law 1103 = .ok (.iload_n 3, 1) := dk_29 (dk_at dksL_law_41 6 rfl rfl)
theorem dL_law_1104 : decode cL_law 1104 = .ok (.iconst 2, 1) := dk_5 (dk_at dksL_law_41 7 rfl rfl)
theorem dL_law_1105 : decode cL_law 1105 = .ok (.iadd, 1) := dk_96 (dk_at dksL_law_41 8 rfl rfl)
theorem dL_law_1106 : decode cL_law 1106 = .ok (.iaload, 1) := dk_46 (dk_at dksL_law_41 9 rfl rfl)
theorem dL_law_1107 : decode cL_law 1107 = .ok (.invokevirtual 143, 3) := dk_182 0 143 (dk_at dksL_law_41 10 rfl rfl)
theorem dL_law_1110 : decode cL_law 1110 = .ok (.aload_n 2, 1) := dk_44 (dk_at dksL_law_41 13 rfl rfl)
theorem dL_law_1111 : decode cL_law 1111 = .ok (.aload_n 0, 1) := dk_42 (dk_at dksL_law_41 14 rfl rfl)
theorem dL_law_1112 : decode cL_law 1112 = .ok (.iload_n 3, 1) := dk_29 (dk_at dksL_law_41 15 rfl rfl)
theorem dL_law_1113 : decode cL_law 1113 = .ok (.iconst 1, 1) := dk_4 (dk_at dksL_law_41 16 rfl rfl)
theorem dL_law_1114 : decode cL_law 1114 = .ok (.iadd, 1) := dk_96 (dk_at dksL_law_41 17 rfl rfl)
theorem dL_law_1115 : decode cL_law 1115 = .ok (.iaload, 1) := dk_46 (dk_at dksL_law_41 18 rfl rfl)
theorem dL_law_1116 : decode cL_law 1116 = .ok (.aload_n 0, 1) := dk_42 (dk_at dksL_law_41 19 rfl rfl)
theorem dL_law_1117 : decode cL_law 1117 = .ok (.iload_n 3, 1) := dk_29 (dk_at dksL_law_41 20 rfl rfl)
theorem dL_law_1118 : decode cL_law 1118 = .ok (.iconst 2, 1) := dk_5 (dk_at dksL_law_41 21 rfl rfl)
theorem dL_law_1119 : decode cL_law 1119 = .ok (.iadd, 1) := dk_96 (dk_at dksL_law_41 22 rfl rfl)
theorem dL_law_1120 : decode cL_law 1120 = .ok (.iaload, 1) := dk_46 (dk_at dksL_law_41 23 rfl rfl)
theorem dL_law_1121 : decode cL_law 1121 = .ok (.invokevirtual 146, 3) := dk_182 0 146 (dk_at dksL_law_42 0 rfl rfl)
theorem dL_law_1124 : decode cL_law 1124 = .ok (.if_icmp .eq 292, 3) := dk_159 1 36 (dk_at dksL_law_42 3 rfl rfl)
theorem dL_law_1127 : decode cL_law 1127 = .ok (.iconst 0, 1) := dk_3 (dk_at dksL_law_42 6 rfl rfl)
theorem dL_law_1128 : decode cL_law 1128 = .ok (.ireturn, 1) := dk_172 (dk_at dksL_law_42 7 rfl rfl)
theorem dL_law_1129 : decode cL_law 1129 = .ok (.aload_n 1, 1) := dk_43 (dk_at dksL_law_42 8 rfl rfl)
theorem dL_law_1130 : decode cL_law 1130 = .ok (.aload_n 0, 1) := dk_42 (dk_at dksL_law_42 9 rfl rfl)
theorem dL_law_1131 : decode cL_law 1131 = .ok (.iload_n 3, 1) := dk_29 (dk_at dksL_law_42 10 rfl rfl)
theorem dL_law_1132 : decode cL_law 1132 = .ok (.iconst 1, 1) := dk_4 (dk_at dksL_law_42 11 rfl rfl)
theorem dL_law_1133 : decode cL_law 1133 = .ok (.iadd, 1) := dk_96 (dk_at dksL_law_42 12 rfl rfl)
theorem dL_law_1134 : decode cL_law 1134 = .ok (.iaload, 1) := dk_46 (dk_at dksL_law_42 13 rfl rfl)
theorem dL_law_1135 : decode cL_law 1135 = .ok (.invokevirtual 147, 3) := dk_182 0 147 (dk_at dksL_law_42 14 rfl rfl)
theorem dL_law_1138 : decode cL_law 1138 = .ok (.aload_n 2, 1) := dk_44 (dk_at dksL_law_42 17 rfl rfl)
theorem dL_law_1139 : decode cL_law 1139 = .ok (.aload_n 0, 1) := dk_42 (dk_at dksL_law_42 18 rfl rfl)
theorem dL_law_1140 : decode cL_law 1140 = .ok (.iload_n 3, 1) := dk_29 (dk_at dksL_law_42 19 rfl rfl)
theorem dL_law_1141 : decode cL_law 1141 = .ok (.iconst 1, 1) := dk_4 (dk_at dksL_law_42 20 rfl rfl)
theorem dL_law_1142 : decode cL_law 1142 = .ok (.iadd, 1) := dk_96 (dk_at dksL_law_42 21 rfl rfl)
theorem dL_law_1143 : decode cL_law 1143 = .ok (.iaload, 1) := dk_46 (dk_at dksL_law_42 22 rfl rfl)
theorem dL_law_1144 : decode cL_law 1144 = .ok (.invokevirtual 150, 3) := dk_182 0 150 (dk_at dksL_law_43 0 rfl rfl)
theorem dL_law_1147 : decode cL_law 1147 = .ok (.if_icmp .eq 269, 3) := dk_159 1 13 (dk_at dksL_law_43 3 rfl rfl)
theorem dL_law_1150 : decode cL_law 1150 = .ok (.iconst 0, 1) := dk_3 (dk_at dksL_law_43 6 rfl rfl)
theorem dL_law_1151 : decode cL_law 1151 = .ok (.ireturn, 1) := dk_172 (dk_at dksL_law_43 7 rfl rfl)
theorem dL_law_1152 : decode cL_law 1152 = .ok (.aload_n 1, 1) := dk_43 (dk_at dksL_law_43 8 rfl rfl)
theorem dL_law_1153 : decode cL_law 1153 = .ok (.aload_n 0, 1) := dk_42 (dk_at dksL_law_43 9 rfl rfl)
theorem dL_law_1154 : decode cL_law 1154 = .ok (.iload_n 3, 1) := dk_29 (dk_at dksL_law_43 10 rfl rfl)
theorem dL_law_1155 : decode cL_law 1155 = .ok (.iconst 1, 1) := dk_4 (dk_at dksL_law_43 11 rfl rfl)
theorem dL_law_1156 : decode cL_law 1156 = .ok (.iadd, 1) := dk_96 (dk_at dksL_law_43 12 rfl rfl)
theorem dL_law_1157 : decode cL_law 1157 = .ok (.iaload, 1) := dk_46 (dk_at dksL_law_43 13 rfl rfl)
theorem dL_law_1158 : decode cL_law 1158 = .ok (.aload_n 0, 1) := dk_42 (dk_at dksL_law_43 14 rfl rfl)
theorem dL_law_1159 : decode cL_law 1159 = .ok (.iload_n 3, 1) := dk_29 (dk_at dksL_law_43 15 rfl rfl)
theorem dL_law_1160 : decode cL_law 1160 = .ok (.iconst 2, 1) := dk_5 (dk_at dksL_law_43 16 rfl rfl)
theorem dL_law_1161 : decode cL_law 1161 = .ok (.iadd, 1) := dk_96 (dk_at dksL_law_43 17 rfl rfl)
theorem dL_law_1162 : decode cL_law 1162 = .ok (.iaload, 1) := dk_46 (dk_at dksL_law_43 18 rfl rfl)
theorem dL_law_1163 : decode cL_law 1163 = .ok (.invokevirtual 151, 3) := dk_182 0 151 (dk_at dksL_law_43 19 rfl rfl)
theorem dL_law_1166 : decode cL_law 1166 = .ok (.aload_n 2, 1) := dk_44 (dk_at dksL_law_43 22 rfl rfl)
theorem dL_law_1167 : decode cL_law 1167 = .ok (.aload_n 0, 1) := dk_42 (dk_at dksL_law_43 23 rfl rfl)
theorem dL_law_1168 : decode cL_law 1168 = .ok (.iload_n 3, 1) := dk_29 (dk_at dksL_law_44 0 rfl rfl)
theorem dL_law_1169 : decode cL_law 1169 = .ok (.iconst 1, 1) := dk_4 (dk_at dksL_law_44 1 rfl rfl)
theorem dL_law_1170 : decode cL_law 1170 = .ok (.iadd, 1) := dk_96 (dk_at dksL_law_44 2 rfl rfl)
theorem dL_law_1171 : decode cL_law 1171 = .ok (.iaload, 1) := dk_46 (dk_at dksL_law_44 3 rfl rfl)
theorem dL_law_1172 : decode cL_law 1172 = .ok (.aload_n 0, 1) := dk_42 (dk_at dksL_law_44 4 rfl rfl)
theorem dL_law_1173 : decode cL_law 1173 = .ok (.iload_n 3, 1) := dk_29 (dk_at dksL_law_44 5 rfl rfl)
theorem dL_law_1174 : decode cL_law 1174 = .ok (.iconst 2, 1) := dk_5 (dk_at dksL_law_44 6 rfl rfl)
theorem dL_law_1175 : decode cL_law 1175 = .ok (.iadd, 1) := dk_96 (dk_at dksL_law_44 7 rfl rfl)
theorem dL_law_1176 : decode cL_law 1176 = .ok (.iaload, 1) := dk_46 (dk_at dksL_law_44 8 rfl rfl)
theorem dL_law_1177 : decode cL_law 1177 = .ok (.invokevirtual 154, 3) := dk_182 0 154 (dk_at dksL_law_44 9 rfl rfl)
theorem dL_law_1180 : decode cL_law 1180 = .ok (.if_icmp .eq 236, 3) := dk_159 0 236 (dk_at dksL_law_44 12 rfl rfl)
theorem dL_law_1183 : decode cL_law 1183 = .ok (.iconst 0, 1) := dk_3 (dk_at dksL_law_44 15 rfl rfl)
theorem dL_law_1184 : decode cL_law 1184 = .ok (.ireturn, 1) := dk_172 (dk_at dksL_law_44 16 rfl rfl)
theorem dL_law_1185 : decode cL_law 1185 = .ok (.aload_n 1, 1) := dk_43 (dk_at dksL_law_44 17 rfl rfl)
theorem dL_law_1186 : decode cL_law 1186 = .ok (.aload_n 0, 1) := dk_42 (dk_at dksL_law_44 18 rfl rfl)
theorem dL_law_1187 : decode cL_law 1187 = .ok (.iload_n 3, 1) := dk_29 (dk_at dksL_law_44 19 rfl rfl)
theorem dL_law_1188 : decode cL_law 1188 = .ok (.iconst 1, 1) := dk_4 (dk_at dksL_law_44 20 rfl rfl)
theorem dL_law_1189 : decode cL_law 1189 = .ok (.iadd, 1) := dk_96 (dk_at dksL_law_44 21 rfl rfl)
theorem dL_law_1190 : decode cL_law 1190 = .ok (.iaload, 1) := dk_46 (dk_at dksL_law_44 22 rfl rfl)
theorem dL_law_1191 : decode cL_law 1191 = .ok (.aload_n 0, 1) := dk_42 (dk_at dksL_law_44 23 rfl rfl)
theorem dL_law_1192 : decode cL_law 1192 = .ok (.iload_n 3, 1) := dk_29 (dk_at dksL_law_45 0 rfl rfl)
theorem dL_law_1193 : decode cL_law 1193 = .ok (.iconst 2, 1) := dk_5 (dk_at dksL_law_45 1 rfl rfl)
theorem dL_law_1194 : decode cL_law 1194 = .ok (.iadd, 1) := dk_96 (dk_at dksL_law_45 2 rfl rfl)
theorem dL_law_1195 : decode cL_law 1195 = .ok (.iaload, 1) := dk_46 (dk_at dksL_law_45 3 rfl rfl)
theorem dL_law_1196 : decode cL_law 1196 = .ok (.invokevirtual 155, 3) := dk_182 0 155 (dk_at dksL_law_45 4 rfl rfl)
theorem dL_law_1199 : decode cL_law 1199 = .ok (.aload_n 2, 1) := dk_44 (dk_at dksL_law_45 7 rfl rfl)
theorem dL_law_1200 : decode cL_law 1200 = .ok (.aload_n 0, 1) := dk_42 (dk_at dksL_law_45 8 rfl rfl)
theorem dL_law_1201 : decode cL_law 1201 = .ok (.iload_n 3, 1) := dk_29 (dk_at dksL_law_45 9 rfl rfl)
theorem dL_law_1202 : decode cL_law 1202 = .ok (.iconst 1, 1) := dk_4 (dk_at dksL_law_45 10 rfl rfl)
theorem dL_law_1203 : decode cL_law 1203 = .ok (.iadd, 1) := dk_96 (dk_at dksL_law_45 11 rfl rfl)
theorem dL_law_1204 : decode cL_law 1204 = .ok (.iaload, 1) := dk_46 (dk_at dksL_law_45 12 rfl rfl)
theorem dL_law_1205 : decode cL_law 1205 = .ok (.aload_n 0, 1) := dk_42 (dk_at dksL_law_45 13 rfl rfl)
theorem dL_law_1206 : decode cL_law 1206 = .ok (.iload_n 3, 1) := dk_29 (dk_at dksL_law_45 14 rfl rfl)
theorem dL_law_1207 : decode cL_law 1207 = .ok (.iconst 2, 1) := dk_5 (dk_at dksL_law_45 15 rfl rfl)
theorem dL_law_1208 : decode cL_law 1208 = .ok (.iadd, 1) := dk_96 (dk_at dksL_law_45 16 rfl rfl)
theorem dL_law_1209 : decode cL_law 1209 = .ok (.iaload, 1) := dk_46 (dk_at dksL_law_45 17 rfl rfl)
theorem dL_law_1210 : decode cL_law 1210 = .ok (.invokevirtual 158, 3) := dk_182 0 158 (dk_at dksL_law_45 18 rfl rfl)
theorem dL_law_1213 : decode cL_law 1213 = .ok (.if_icmp .eq 203, 3) := dk_159 0 203 (dk_at dksL_law_45 21 rfl rfl)
theorem dL_law_1216 : decode cL_law 1216 = .ok (.iconst 0, 1) := dk_3 (dk_at dksL_law_46 0 rfl rfl)
theorem dL_law_1217 : decode cL_law 1217 = .ok (.ireturn, 1) := dk_172 (dk_at dksL_law_46 1 rfl rfl)
theorem dL_law_1218 : decode cL_law 1218 = .ok (.aload_n 1, 1) := dk_43 (dk_at dksL_law_46 2 rfl rfl)
theorem dL_law_1219 : decode cL_law 1219 = .ok (.aload_n 0, 1) := dk_42 (dk_at dksL_law_46 3 rfl rfl)
theorem dL_law_1220 : decode cL_law 1220 = .ok (.iload_n 3, 1) := dk_29 (dk_at dksL_law_46 4 rfl rfl)
theorem dL_law_1221 : decode cL_law 1221 = .ok (.iconst 1, 1) := dk_4 (dk_at dksL_law_46 5 rfl rfl)
theorem dL_law_1222 : decode cL_law 1222 = .ok (.iadd, 1) := dk_96 (dk_at dksL_law_46 6 rfl rfl)
theorem dL_law_1223 : decode cL_law 1223 = .ok (.iaload, 1) := dk_46 (dk_at dksL_law_46 7 rfl rfl)
theorem dL_law_1224 : decode cL_law 1224 = .ok (.aload_n 0, 1) := dk_42 (dk_at dksL_law_46 8 rfl rfl)
theorem dL_law_1225 : decode cL_law 1225 = .ok (.iload_n 3, 1) := dk_29 (dk_at dksL_law_46 9 rfl rfl)
theorem dL_law_1226 : decode cL_law 1226 = .ok (.iconst 2, 1) := dk_5 (dk_at dksL_law_46 10 rfl rfl)
theorem dL_law_1227 : decode cL_law 1227 = .ok (.iadd, 1) := dk_96 (dk_at dksL_law_46 11 rfl rfl)
theorem dL_law_1228 : decode cL_law 1228 = .ok (.iaload, 1) := dk_46 (dk_at dksL_law_46 12 rfl rfl)
theorem dL_law_1229 : decode cL_law 1229 = .ok (.invokevirtual 159, 3) := dk_182 0 159 (dk_at dksL_law_46 13 rfl rfl)
theorem dL_law_1232 : decode cL_law 1232 = .ok (.aload_n 2, 1) := dk_44 (dk_at dksL_law_46 16 rfl rfl)
theorem dL_law_1233 : decode cL_law 1233 = .ok (.aload_n 0, 1) := dk_42 (dk_at dksL_law_46 17 rfl rfl)
theorem dL_law_1234 : decode cL_law 1234 = .ok (.iload_n 3, 1) := dk_29 (dk_at dksL_law_46 18 rfl rfl)
theorem dL_law_1235 : decode cL_law 1235 = .ok (.iconst 1, 1) := dk_4 (dk_at dksL_law_46 19 rfl rfl)
theorem dL_law_1236 : decode cL_law 1236 = .ok (.iadd, 1) := dk_96 (dk_at dksL_law_46 20 rfl rfl)
theorem dL_law_1237 : decode cL_law 1237 = .ok (.iaload, 1) := dk_46 (dk_at dksL_law_46 21 rfl rfl)
theorem dL_law_1238 : decode cL_law 1238 = .ok (.aload_n 0, 1) := dk_42 (dk_at dksL_law_46 22 rfl rfl)
theorem dL_law_1239 : decode cL_law 1239 = .ok (.iload_n 3, 1) := dk_29 (dk_at dksL_law_46 23 rfl rfl)
theorem dL_law_1240 : decode cL_law 1240 = .ok (.iconst 2, 1) := dk_5 (dk_at dksL_law_47 0 rfl rfl)
theorem dL_law_1241 : decode cL_law 1241 = .ok (.iadd, 1) := dk_96 (dk_at dksL_law_47 1 rfl rfl)
theorem dL_law_1242 : decode cL_law 1242 = .ok (.iaload, 1) := dk_46 (dk_at dksL_law_47 2 rfl rfl)
theorem dL_law_1243 : decode cL_law 1243 = .ok (.invokevirtual 162, 3) := dk_182 0 162 (dk_at dksL_law_47 3 rfl rfl)
theorem dL_law_1246 : decode cL_law 1246 = .ok (.if_icmp .eq 170, 3) := dk_159 0 170 (dk_at dksL_law_47 6 rfl rfl)
theorem dL_law_1249 : decode cL_law 1249 = .ok (.iconst 0, 1) := dk_3 (dk_at dksL_law_47 9 rfl rfl)
theorem dL_law_1250 : decode cL_law 1250 = .ok (.ireturn, 1) := dk_172 (dk_at dksL_law_47 10 rfl rfl)
theorem dL_law_1251 : decode cL_law 1251 = .ok (.aload_n 1, 1) := dk_43 (dk_at dksL_law_47 11 rfl rfl)
theorem dL_law_1252 : decode cL_law 1252 = .ok (.aload_n 0, 1) := dk_42 (dk_at dksL_law_47 12 rfl rfl)
theorem dL_law_1253 : decode cL_law 1253 = .ok (.iload_n 3, 1) := dk_29 (dk_at dksL_law_47 13 rfl rfl)
theorem dL_law_1254 : decode cL_law 1254 = .ok (.iconst 1, 1) := dk_4 (dk_at dksL_law_47 14 rfl rfl)
theorem dL_law_1255 : decode cL_law 1255 = .ok (.iadd, 1) := dk_96 (dk_at dksL_law_47 15 rfl rfl)
theorem dL_law_1256 : decode cL_law 1256 = .ok (.iaload, 1) := dk_46 (dk_at dksL_law_47 16 rfl rfl)
theorem dL_law_1257 : decode cL_law 1257 = .ok (.aload_n 0, 1) := dk_42 (dk_at dksL_law_47 17 rfl rfl)
theorem dL_law_1258 : decode cL_law 1258 = .ok (.iload_n 3, 1) := dk_29 (dk_at dksL_law_47 18 rfl rfl)
theorem dL_law_1259 : decode cL_law 1259 = .ok (.iconst 2, 1) := dk_5 (dk_at dksL_law_47 19 rfl rfl)
theorem dL_law_1260 : decode cL_law 1260 = .ok (.iadd, 1) := dk_96 (dk_at dksL_law_47 20 rfl rfl)
theorem dL_law_1261 : decode cL_law 1261 = .ok (.iaload, 1) := dk_46 (dk_at dksL_law_47 21 rfl rfl)
theorem dL_law_1262 : decode cL_law 1262 = .ok (.aload_n 0, 1) := dk_42 (dk_at dksL_law_47 22 rfl rfl)
theorem dL_law_1263 : decode cL_law 1263 = .ok (.iload_n 3, 1) := dk_29 (dk_at dksL_law_47 23 rfl rfl)
theorem dL_law_1264 : decode cL_law 1264 = .ok (.iconst 3, 1) := dk_6 (dk_at dksL_law_48 0 rfl rfl)
theorem dL_law_1265 : decode cL_law 1265 = .ok (.iadd, 1) := dk_96 (dk_at dksL_law_48 1 rfl rfl)
theorem dL_law_1266 : decode cL_law 1266 = .ok (.iaload, 1) := dk_46 (dk_at dksL_law_48 2 rfl rfl)
theorem dL_law_1267 : decode cL_law 1267 = .ok (.aload_n 0, 1) := dk_42 (dk_at dksL_law_48 3 rfl rfl)
theorem dL_law_1268 : decode cL_law 1268 = .ok (.iload_n 3, 1) := dk_29 (dk_at dksL_law_48 4 rfl rfl)
theorem dL_law_1269 : decode cL_law 1269 = .ok (.iconst 4, 1) := dk_7 (dk_at dksL_law_48 5 rfl rfl)
theorem dL_law_1270 : decode cL_law 1270 = .ok (.iadd, 1) := dk_96 (dk_at dksL_law_48 6 rfl rfl)
theorem dL_law_1271 : decode cL_law 1271 = .ok (.iaload, 1) := dk_46 (dk_at dksL_law_48 7 rfl rfl)
theorem dL_law_1272 : decode cL_law 1272 = .ok (.invokevirtual 163, 3) := dk_182 0 163 (dk_at dksL_law_48 8 rfl rfl)
theorem dL_law_1275 : decode cL_law 1275 = .ok (.aload_n 2, 1) := dk_44 (dk_at dksL_law_48 11 rfl rfl)
theorem dL_law_1276 : decode cL_law 1276 = .ok (.aload_n 0, 1) := dk_42 (dk_at dksL_law_48 12 rfl rfl)
theorem dL_law_1277 : decode cL_law 1277 = .ok (.iload_n 3, 1) := dk_29 (dk_at dksL_law_48 13 rfl rfl)
theorem dL_law_1278 : decode cL_law 1278 = .ok (.iconst 1, 1) := dk_4 (dk_at dksL_law_48 14 rfl rfl)
theorem dL_law_1279 : decode cL_law 1279 = .ok (.iadd, 1) := dk_96 (dk_at dksL_law_48 15 rfl rfl)
theorem dL_law_1280 : decode cL_law 1280 = .ok (.iaload, 1) := dk_46 (dk_at dksL_law_48 16 rfl rfl)
theorem dL_law_1281 : decode cL_law 1281 = .ok (.aload_n 0, 1) := dk_42 (dk_at dksL_law_48 17 rfl rfl)
theorem dL_law_1282 : decode cL_law 1282 = .ok (.iload_n 3, 1) := dk_29 (dk_at dksL_law_48 18 rfl rfl)
theorem dL_law_1283 : decode cL_law 1283 = .ok (.iconst 2, 1) := dk_5 (dk_at dksL_law_48 19 rfl rfl)
theorem dL_law_1284 : decode cL_law 1284 = .ok (.iadd, 1) := dk_96 (dk_at dksL_law_48 20 rfl rfl)
theorem dL_law_1285 : decode cL_law 1285 = .ok (.iaload, 1) := dk_46 (dk_at dksL_law_48 21 rfl rfl)
theorem dL_law_1286 : decode cL_law 1286 = .ok (.aload_n 0, 1) := dk_42 (dk_at dksL_law_48 22 rfl rfl)
theorem dL_law_1287 : decode cL_law 1287 = .ok (.iload_n 3, 1) := dk_29 (dk_at dksL_law_48 23 rfl rfl)
theorem dL_law_1288 : decode cL_law 1288 = .ok (.iconst 3, 1) := dk_6 (dk_at dksL_law_49 0 rfl rfl)
theorem dL_law_1289 : decode cL_law 1289 = .ok (.iadd, 1) := dk_96 (dk_at dksL_law_49 1 rfl rfl)
theorem dL_law_1290 : decode cL_law 1290 = .ok (.iaload, 1) := dk_46 (dk_at dksL_law_49 2 rfl rfl)
theorem dL_law_1291 : decode cL_law 1291 = .ok (.aload_n 0, 1) := dk_42 (dk_at dksL_law_49 3 rfl rfl)
theorem dL_law_1292 : decode cL_law 1292 = .ok (.iload_n 3, 1) := dk_29 (dk_at dksL_law_49 4 rfl rfl)
theorem dL_law_1293 : decode cL_law 1293 = .ok (.iconst 4, 1) := dk_7 (dk_at dksL_law_49 5 rfl rfl)
theorem dL_law_1294 : decode cL_law 1294 = .ok (.iadd, 1) := dk_96 (dk_at dksL_law_49 6 rfl rfl)
theorem dL_law_1295 : decode cL_law 1295 = .ok (.iaload, 1) := dk_46 (dk_at dksL_law_49 7 rfl rfl)
theorem dL_law_1296 : decode cL_law 1296 = .ok (.invokevirtual 167, 3) := dk_182 0 167 (dk_at dksL_law_49 8 rfl rfl)
theorem dL_law_1299 : decode cL_law 1299 = .ok (.if_icmp .eq 117, 3) := dk_159 0 117 (dk_at dksL_law_49 11 rfl rfl)
theorem dL_law_1302 : decode cL_law 1302 = .ok (.iconst 0, 1) := dk_3 (dk_at dksL_law_49 14 rfl rfl)
theorem dL_law_1303 : decode cL_law 1303 = .ok (.ireturn, 1) := dk_172 (dk_at dksL_law_49 15 rfl rfl)
theorem dL_law_1304 : decode cL_law 1304 = .ok (.aload_n 1, 1) := dk_43 (dk_at dksL_law_49 16 rfl rfl)
theorem dL_law_1305 : decode cL_law 1305 = .ok (.aload_n 0, 1) := dk_42 (dk_at dksL_law_49 17 rfl rfl)
theorem dL_law_1306 : decode cL_law 1306 = .ok (.iload_n 3, 1) := dk_29 (dk_at dksL_law_49 18 rfl rfl)
theorem dL_law_1307 : decode cL_law 1307 = .ok (.iconst 1, 1) := dk_4 (dk_at dksL_law_49 19 rfl rfl)
theorem dL_law_1308 : decode cL_law 1308 = .ok (.iadd, 1) := dk_96 (dk_at dksL_law_49 20 rfl rfl)
theorem dL_law_1309 : decode cL_law 1309 = .ok (.iaload, 1) := dk_46 (dk_at dksL_law_49 21 rfl rfl)
theorem dL_law_1310 : decode cL_law 1310 = .ok (.aload_n 0, 1) := dk_42 (dk_at dksL_law_49 22 rfl rfl)
theorem dL_law_1311 : decode cL_law 1311 = .ok (.iload_n 3, 1) := dk_29 (dk_at dksL_law_49 23 rfl rfl)
theorem dL_law_1312 : decode cL_law 1312 = .ok (.iconst 2, 1) := dk_5 (dk_at dksL_law_50 0 rfl rfl)
theorem dL_law_1313 : decode cL_law 1313 = .ok (.iadd, 1) := dk_96 (dk_at dksL_law_50 1 rfl rfl)
theorem dL_law_1314 : decode cL_law 1314 = .ok (.iaload, 1) := dk_46 (dk_at dksL_law_50 2 rfl rfl)
theorem dL_law_1315 : decode cL_law 1315 = .ok (.aload_n 0, 1) := dk_42 (dk_at dksL_law_50 3 rfl rfl)
theorem dL_law_1316 : decode cL_law 1316 = .ok (.iload_n 3, 1) := dk_29 (dk_at dksL_law_50 4 rfl rfl)
theorem dL_law_1317 : decode cL_law 1317 = .ok (.iconst 3, 1) := dk_6 (dk_at dksL_law_50 5 rfl rfl)
theorem dL_law_1318 : decode cL_law 1318 = .ok (.iadd, 1) := dk_96 (dk_at dksL_law_50 6 rfl rfl)
theorem dL_law_1319 : decode cL_law 1319 = .ok (.iaload, 1) := dk_46 (dk_at dksL_law_50 7 rfl rfl)
theorem dL_law_1320 : decode cL_law 1320 = .ok (.aload_n 0, 1) := dk_42 (dk_at dksL_law_50 8 rfl rfl)
theorem dL_law_1321 : decode cL_law 1321 = .ok (.iload_n 3, 1) := dk_29 (dk_at dksL_law_50 9 rfl rfl)
theorem dL_law_1322 : decode cL_law 1322 = .ok (.iconst 4, 1) := dk_7 (dk_at dksL_law_50 10 rfl rfl)
theorem dL_law_1323 : decode cL_law 1323 = .ok (.iadd, 1) := dk_96 (dk_at dksL_law_50 11 rfl rfl)
theorem dL_law_1324 : decode cL_law 1324 = .ok (.iaload, 1) := dk_46 (dk_at dksL_law_50 12 rfl rfl)
theorem dL_law_1325 : decode cL_law 1325 = .ok (.aload_n 0, 1) := dk_42 (dk_at dksL_law_50 13 rfl rfl)
theorem dL_law_1326 : decode cL_law 1326 = .ok (.iload_n 3, 1) := dk_29 (dk_at dksL_law_50 14 rfl rfl)
theorem dL_law_1327 : decode cL_law 1327 = .ok (.iconst 5, 1) := dk_8 (dk_at dksL_law_50 15 rfl rfl)
theorem dL_law_1328 : decode cL_law 1328 = .ok (.iadd, 1) := dk_96 (dk_at dksL_law_50 16 rfl rfl)
theorem dL_law_1329 : decode cL_law 1329 = .ok (.iaload, 1) := dk_46 (dk_at dksL_law_50 17 rfl rfl)
theorem dL_law_1330 : decode cL_law 1330 = .ok (.invokevirtual 168, 3) := dk_182 0 168 (dk_at dksL_law_50 18 rfl rfl)
theorem dL_law_1333 : decode cL_law 1333 = .ok (.aload_n 2, 1) := dk_44 (dk_at dksL_law_50 21 rfl rfl)
theorem dL_law_1334 : decode cL_law 1334 = .ok (.aload_n 0, 1) := dk_42 (dk_at dksL_law_50 22 rfl rfl)
theorem dL_law_1335 : decode cL_law 1335 = .ok (.iload_n 3, 1) := dk_29 (dk_at dksL_law_50 23 rfl rfl)
theorem dL_law_1336 : decode cL_law 1336 = .ok (.iconst 1, 1) := dk_4 (dk_at dksL_law_51 0 rfl rfl)
theorem dL_law_1337 : decode cL_law 1337 = .ok (.iadd, 1) := dk_96 (dk_at dksL_law_51 1 rfl rfl)
theorem dL_law_1338 : decode cL_law 1338 = .ok (.iaload, 1) := dk_46 (dk_at dksL_law_51 2 rfl rfl)
theorem dL_law_1339 : decode cL_law 1339 = .ok (.aload_n 0, 1) := dk_42 (dk_at dksL_law_51 3 rfl rfl)
theorem dL_law_1340 : decode cL_law 1340 = .ok (.iload_n 3, 1) := dk_29 (dk_at dksL_law_51 4 rfl rfl)
theorem dL_law_1341 : decode cL_law 1341 = .ok (.iconst 2, 1) := dk_5 (dk_at dksL_law_51 5 rfl rfl)
theorem dL_law_1342 : decode cL_law 1342 = .ok (.iadd, 1) := dk_96 (dk_at dksL_law_51 6 rfl rfl)
theorem dL_law_1343 : decode cL_law 1343 = .ok (.iaload, 1) := dk_46 (dk_at dksL_law_51 7 rfl rfl)
theorem dL_law_1344 : decode cL_law 1344 = .ok (.aload_n 0, 1) := dk_42 (dk_at dksL_law_51 8 rfl rfl)
theorem dL_law_1345 : decode cL_law 1345 = .ok (.iload_n 3, 1) := dk_29 (dk_at dksL_law_51 9 rfl rfl)
theorem dL_law_1346 : decode cL_law 1346 = .ok (.iconst 3, 1) := dk_6 (dk_at dksL_law_51 10 rfl rfl)
theorem dL_law_1347 : decode cL_law 1347 = .ok (.iadd, 1) := dk_96 (dk_at dksL_law_51 11 rfl rfl)
theorem dL_law_1348 : decode cL_law 1348 = .ok (.iaload, 1) := dk_46 (dk_at dksL_law_51 12 rfl rfl)
theorem dL_law_1349 : decode cL_law 1349 = .ok (.aload_n 0, 1) := dk_42 (dk_at dksL_law_51 13 rfl rfl)
theorem dL_law_1350 : decode cL_law 1350 = .ok (.iload_n 3, 1) := dk_29 (dk_at dksL_law_51 14 rfl rfl)
theorem dL_law_1351 : decode cL_law 1351 = .ok (.iconst 4, 1) := dk_7 (dk_at dksL_law_51 15 rfl rfl)
theorem dL_law_1352 : decode cL_law 1352 = .ok (.iadd, 1) := dk_96 (dk_at dksL_law_51 16 rfl rfl)
theorem dL_law_1353 : decode cL_law 1353 = .ok (.iaload, 1) := dk_46 (dk_at dksL_law_51 17 rfl rfl)
theorem dL_law_1354 : decode cL_law 1354 = .ok (.aload_n 0, 1) := dk_42 (dk_at dksL_law_51 18 rfl rfl)
theorem dL_law_1355 : decode cL_law 1355 = .ok (.iload_n 3, 1) := dk_29 (dk_at dksL_law_51 19 rfl rfl)
theorem dL_law_1356 : decode cL_law 1356 = .ok (.iconst 5, 1) := dk_8 (dk_at dksL_law_51 20 rfl rfl)
theorem dL_law_1357 : decode cL_law 1357 = .ok (.iadd, 1) := dk_96 (dk_at dksL_law_51 21 rfl rfl)
theorem dL_law_1358 : decode cL_law 1358 = .ok (.iaload, 1) := dk_46 (dk_at dksL_law_51 22 rfl rfl)
theorem dL_law_1359 : decode cL_law 1359 = .ok (.invokevirtual 171, 3) := dk_182 0 171 (dk_at dksL_law_52 0 rfl rfl)
theorem dL_law_1362 : decode cL_law 1362 = .ok (.if_icmp .eq 54, 3) := dk_159 0 54 (dk_at dksL_law_52 3 rfl rfl)
theorem dL_law_1365 : decode cL_law 1365 = .ok (.iconst 0, 1) := dk_3 (dk_at dksL_law_52 6 rfl rfl)
theorem dL_law_1366 : decode cL_law 1366 = .ok (.ireturn, 1) := dk_172 (dk_at dksL_law_52 7 rfl rfl)
theorem dL_law_1367 : decode cL_law 1367 = .ok (.aload_n 1, 1) := dk_43 (dk_at dksL_law_52 8 rfl rfl)
theorem dL_law_1368 : decode cL_law 1368 = .ok (.invokevirtual 172, 3) := dk_182 0 172 (dk_at dksL_law_52 9 rfl rfl)
theorem dL_law_1371 : decode cL_law 1371 = .ok (.aload_n 2, 1) := dk_44 (dk_at dksL_law_52 12 rfl rfl)
theorem dL_law_1372 : decode cL_law 1372 = .ok (.invokevirtual 175, 3) := dk_182 0 175 (dk_at dksL_law_52 13 rfl rfl)
theorem dL_law_1375 : decode cL_law 1375 = .ok (.if_icmp .eq 41, 3) := dk_159 0 41 (dk_at dksL_law_52 16 rfl rfl)
theorem dL_law_1378 : decode cL_law 1378 = .ok (.iconst 0, 1) := dk_3 (dk_at dksL_law_52 19 rfl rfl)
theorem dL_law_1379 : decode cL_law 1379 = .ok (.ireturn, 1) := dk_172 (dk_at dksL_law_52 20 rfl rfl)
theorem dL_law_1380 : decode cL_law 1380 = .ok (.aload_n 1, 1) := dk_43 (dk_at dksL_law_52 21 rfl rfl)
theorem dL_law_1381 : decode cL_law 1381 = .ok (.invokevirtual 176, 3) := dk_182 0 176 (dk_at dksL_law_53 0 rfl rfl)
theorem dL_law_1384 : decode cL_law 1384 = .ok (.aload_n 2, 1) := dk_44 (dk_at dksL_law_53 3 rfl rfl)
theorem dL_law_1385 : decode cL_law 1385 = .ok (.invokevirtual 179, 3) := dk_182 0 179 (dk_at dksL_law_53 4 rfl rfl)
theorem dL_law_1388 : decode cL_law 1388 = .ok (.if_icmp .eq 28, 3) := dk_159 0 28 (dk_at dksL_law_53 7 rfl rfl)
theorem dL_law_1391 : decode cL_law 1391 = .ok (.iconst 0, 1) := dk_3 (dk_at dksL_law_53 10 rfl rfl)
theorem dL_law_1392 : decode cL_law 1392 = .ok (.ireturn, 1) := dk_172 (dk_at dksL_law_53 11 rfl rfl)
theorem dL_law_1393 : decode cL_law 1393 = .ok (.aload_n 1, 1) := dk_43 (dk_at dksL_law_53 12 rfl rfl)
theorem dL_law_1394 : decode cL_law 1394 = .ok (.aload_n 0, 1) := dk_42 (dk_at dksL_law_53 13 rfl rfl)
theorem dL_law_1395 : decode cL_law 1395 = .ok (.iload_n 3, 1) := dk_29 (dk_at dksL_law_53 14 rfl rfl)
theorem dL_law_1396 : decode cL_law 1396 = .ok (.iconst 1, 1) := dk_4 (dk_at dksL_law_53 15 rfl rfl)
theorem dL_law_1397 : decode cL_law 1397 = .ok (.iadd, 1) := dk_96 (dk_at dksL_law_53 16 rfl rfl)
theorem dL_law_1398 : decode cL_law 1398 = .ok (.iaload, 1) := dk_46 (dk_at dksL_law_53 17 rfl rfl)
theorem dL_law_1399 : decode cL_law 1399 = .ok (.invokevirtual 180, 3) := dk_182 0 180 (dk_at dksL_law_53 18 rfl rfl)
theorem dL_law_1402 : decode cL_law 1402 = .ok (.aload_n 2, 1) := dk_44 (dk_at dksL_law_53 21 rfl rfl)
theorem dL_law_1403 : decode cL_law 1403 = .ok (.aload_n 0, 1) := dk_42 (dk_at dksL_law_53 22 rfl rfl)
theorem dL_law_1404 : decode cL_law 1404 = .ok (.iload_n 3, 1) := dk_29 (dk_at dksL_law_53 23 rfl rfl)
theorem dL_law_1405 : decode cL_law 1405 = .ok (.iconst 1, 1) := dk_4 (dk_at dksL_law_54 0 rfl rfl)
theorem dL_law_1406 : decode cL_law 1406 = .ok (.iadd, 1) := dk_96 (dk_at dksL_law_54 1 rfl rfl)
theorem dL_law_1407 : decode cL_law 1407 = .ok (.iaload, 1) := dk_46 (dk_at dksL_law_54 2 rfl rfl)
theorem dL_law_1408 : decode cL_law 1408 = .ok (.invokevirtual 183, 3) := dk_182 0 183 (dk_at dksL_law_54 3 rfl rfl)
theorem dL_law_1411 : decode cL_law 1411 = .ok (.if_icmp .eq 5, 3) := dk_159 0 5 (dk_at dksL_law_54 6 rfl rfl)
theorem dL_law_1414 : decode cL_law 1414 = .ok (.iconst 0, 1) := dk_3 (dk_at dksL_law_54 9 rfl rfl)
theorem dL_law_1415 : decode cL_law 1415 = .ok (.ireturn, 1) := dk_172 (dk_at dksL_law_54 10 rfl rfl)
theorem dL_law_1416 : decode cL_law 1416 = .ok (.iinc 3 6, 3) := dk_132 3 6 (dk_at dksL_law_54 11 rfl rfl)
theorem dL_law_1419 : decode cL_law 1419 = .ok (.goto (-1381), 3) := dk_167 250 155 (dk_at dksL_law_54 14 rfl rfl)
theorem dL_law_1422 : decode cL_law 1422 = .ok (.iconst 1, 1) := dk_4 (dk_at dksL_law_54 17 rfl rfl)
theorem dL_law_1423 : decode cL_law 1423 = .ok (.ireturn, 1) := dk_172 (dk_at dksL_law_54 18 rfl rfl)
theorem q931 : (Jvm.Cond.interfaceMethod "ThroughPack$Asked" "ThroughPack$Asked" "is" "([I)Z") ∈ lw_tbl := lw_at lw_m4 87 rfl
set_option maxRecDepth 100000
theorem q932 : (Jvm.Cond.declares ({ cls := "ThroughPack$Asked", name := "is", desc := "([I)Z" } : Jvm.MethodName)) ∈ lw_tbl := lw_at lw_m4 88 rfl
theorem q952 : (Jvm.Cond.interfaceMethod "ThroughPack$Sum" "ThroughPack$Sum" "of" "([I)J") ∈ lw_tbl := lw_at lw_m4 108 rfl
set_option maxRecDepth 100000
theorem q953 : (Jvm.Cond.declares ({ cls := "ThroughPack$Sum", name := "of", desc := "([I)J" } : Jvm.MethodName)) ∈ lw_tbl := lw_at lw_m4 109 rfl
theorem q1926 : (Jvm.Cond.castable "[B" "java/lang/Object") ∈ lw_tbl := lw_at lw_m8 122 rfl
set_option maxRecDepth 100000
theorem q1923 : (Jvm.Cond.castable "[I" "java/lang/Object") ∈ lw_tbl := lw_at lw_m8 119 rfl
set_option maxRecDepth 100000
theorem q1928 : (Jvm.Cond.castable "[J" "java/lang/Object") ∈ lw_tbl := lw_at lw_m8 124 rfl
set_option maxRecDepth 100000
theorem q1922 : (Jvm.Cond.castable "[LThroughPack$Text;" "java/lang/Object") ∈ lw_tbl := lw_at lw_m8 118 rfl
set_option maxRecDepth 100000
theorem q1918 : (Jvm.Cond.sameMethod "[Ljava/lang/Object;" "java/lang/Object" "getClass" "()Ljava/lang/Class;") ∈ lw_all := lw_g (lw_at lw_m8 114 rfl) rfl
set_option maxRecDepth 100000
theorem q1919 : (Jvm.Cond.selects "[Ljava/lang/Object;" ({ cls := "java/lang/Object", name := "getClass", desc := "()Ljava/lang/Class;" } : Jvm.MethodName) ({ cls := "java/lang/Object", name := "getClass", desc := "()Ljava/lang/Class;" } : Jvm.MethodName)) ∈ lw_all := lw_g (lw_at lw_m8 115 rfl) rfl
theorem q1927 : (Jvm.Cond.castable "[Ljava/lang/Object;" "java/lang/Object") ∈ lw_tbl := lw_at lw_m8 123 rfl
theorem q1929 : (Jvm.Cond.castable "[Ljava/lang/String;" "java/lang/Object") ∈ lw_tbl := lw_at lw_m8 125 rfl
set_option maxRecDepth 100000
theorem q1924 : (Jvm.Cond.castable "[Z" "java/lang/Object") ∈ lw_tbl := lw_at lw_m8 120 rfl
set_option maxRecDepth 100000
theorem q1921 : (Jvm.Cond.castable "[[I" "java/lang/Object") ∈ lw_tbl := lw_at lw_m8 117 rfl
set_option maxRecDepth 100000
theorem q1925 : (Jvm.Cond.castable "[[[I" "java/lang/Object") ∈ lw_tbl := lw_at lw_m8 121 rfl
set_option maxRecDepth 100000
theorem q151 : (Jvm.Cond.initialized "java/lang/Integer$IntegerCache") ∈ lw_all := lw_g (lw_at lw_m1 27 rfl) rfl
set_option maxRecDepth 100000
theorem q736 : (Jvm.Cond.laysStatic "java/lang/Integer$IntegerCache" "high" "I") ∈ lw_tbl := lw_at lw_m3 132 rfl
theorem q738 : (Jvm.Cond.laysStatic "java/lang/Integer$IntegerCache" "cache" "[Ljava/lang/Integer;") ∈ lw_tbl := lw_at lw_m3 134 rfl
theorem q129 : (Jvm.Cond.initialized "java/lang/System") ∈ lw_all := lw_g (lw_at lw_m1 5 rfl) rfl
set_option maxRecDepth 100000
theorem q251 : (Jvm.Cond.static ({ cls := "java/lang/System", name := "arraycopy", desc := "(Ljava/lang/Object;ILjava/lang/Object;II)V" } : Jvm.MethodName)) ∈ lw_all := lw_g (lw_at lw_m1 127 rfl) rfl
theorem q252 : (Jvm.Cond.native ({ cls := "java/lang/System", name := "arraycopy", desc := "(Ljava/lang/Object;ILjava/lang/Object;II)V" } : Jvm.MethodName)) ∈ lw_all := lw_g (lw_at lw_m1 128 rfl) rfl
theorem q172 : (Jvm.Cond.arrayOver (Jvm.ClassFile.FieldType.array Jvm.ClassFile.FieldType.int)) ∈ lw_tbl := lw_at lw_m1 48 rfl
set_option maxRecDepth 100000
theorem q174 : (Jvm.Cond.arrayOver (Jvm.ClassFile.FieldType.object "ThroughPack$Text")) ∈ lw_tbl := lw_at lw_m1 50 rfl
theorem q231 : (Jvm.Cond.arrayClass Jvm.ClassFile.FieldType.int) ∈ lw_all := lw_g (lw_at lw_m1 107 rfl) rfl
theorem q232 : (Jvm.Cond.arrayClass Jvm.ClassFile.FieldType.boolean) ∈ lw_all := lw_g (lw_at lw_m1 108 rfl) rfl
theorem q236 : (Jvm.Cond.arrayOver (Jvm.ClassFile.FieldType.array (Jvm.ClassFile.FieldType.array Jvm.ClassFile.FieldType.int))) ∈ lw_tbl := lw_at lw_m1 112 rfl
theorem q326 : (Jvm.Cond.arrayClass Jvm.ClassFile.FieldType.byte) ∈ lw_all := lw_g (lw_at lw_m1 202 rfl) rfl
theorem q803 : (Jvm.Cond.arrayOver (Jvm.ClassFile.FieldType.object "java/lang/Object")) ∈ lw_tbl := lw_at lw_m3 199 rfl
theorem q1193 : (Jvm.Cond.arrayClass Jvm.ClassFile.FieldType.long) ∈ lw_all := lw_g (lw_at lw_m5 109 rfl) rfl
theorem q1953 : (Jvm.Cond.arrayOver (Jvm.ClassFile.FieldType.object "java/lang/String")) ∈ lw_tbl := lw_at lw_m8 149 rfl
