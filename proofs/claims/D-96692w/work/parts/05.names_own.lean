/-! HandUnderTheChinLaw -/
set_option maxRecDepth 100000
def RX0 : String := "HandUnderTheChinLaw"
abbrev cX0_element : ByteArray := method_3_code
def yX0_element : MethodName := ⟨RX0, "element", "(LHandUnderTheChin;II[J)I"⟩
def dkwX0_element_0 : List UInt8 := [45, 3, 42, 27, 28, 182, 0, 7, 80, 167, 0, 11, 58, 4, 4, 172, 58, 4, 5, 172, 3, 172]
abbrev dktX0_element_0 : List UInt8 := dkwX0_element_0 ++ []
theorem dksX0_element_0 : cX0_element.data.toList.drop 0 = dktX0_element_0 := by decide +kernel
theorem dX0_element_0 : decode cX0_element 0 = .ok (.aload_n 3, 1) := dk_45 (dk_at dksX0_element_0 0 rfl rfl)
theorem dX0_element_1 : decode cX0_element 1 = .ok (.iconst 0, 1) := dk_3 (dk_at dksX0_element_0 1 rfl rfl)
theorem dX0_element_2 : decode cX0_element 2 = .ok (.aload_n 0, 1) := dk_42 (dk_at dksX0_element_0 2 rfl rfl)
theorem dX0_element_3 : decode cX0_element 3 = .ok (.iload_n 1, 1) := dk_27 (dk_at dksX0_element_0 3 rfl rfl)
theorem dX0_element_4 : decode cX0_element 4 = .ok (.iload_n 2, 1) := dk_28 (dk_at dksX0_element_0 4 rfl rfl)
theorem dX0_element_5 : decode cX0_element 5 = .ok (.invokevirtual 7, 3) := dk_182 0 7 (dk_at dksX0_element_0 5 rfl rfl)
theorem dX0_element_8 : decode cX0_element 8 = .ok (.lastore, 1) := dk_80 (dk_at dksX0_element_0 8 rfl rfl)
theorem dX0_element_9 : decode cX0_element 9 = .ok (.goto 11, 3) := dk_167 0 11 (dk_at dksX0_element_0 9 rfl rfl)
theorem dX0_element_12 : decode cX0_element 12 = .ok (.astore 4, 2) := dk_58 4 (dk_at dksX0_element_0 12 rfl rfl)
theorem dX0_element_14 : decode cX0_element 14 = .ok (.iconst 1, 1) := dk_4 (dk_at dksX0_element_0 14 rfl rfl)
theorem dX0_element_15 : decode cX0_element 15 = .ok (.ireturn, 1) := dk_172 (dk_at dksX0_element_0 15 rfl rfl)
theorem dX0_element_16 : decode cX0_element 16 = .ok (.astore 4, 2) := dk_58 4 (dk_at dksX0_element_0 16 rfl rfl)
theorem dX0_element_18 : decode cX0_element 18 = .ok (.iconst 2, 1) := dk_5 (dk_at dksX0_element_0 18 rfl rfl)
theorem dX0_element_19 : decode cX0_element 19 = .ok (.ireturn, 1) := dk_172 (dk_at dksX0_element_0 19 rfl rfl)
theorem dX0_element_20 : decode cX0_element 20 = .ok (.iconst 0, 1) := dk_3 (dk_at dksX0_element_0 20 rfl rfl)
theorem dX0_element_21 : decode cX0_element 21 = .ok (.ireturn, 1) := dk_172 (dk_at dksX0_element_0 21 rfl rfl)
theorem q78 : (Jvm.Cond.initialized "HandUnderTheChinLaw") ∈ lw_all := lw_g (lw_at lw_m1 0 rfl) rfl
theorem q109 : (Jvm.Cond.methodLink "HandUnderTheChinLaw" (21 : Nat) ({ cls := "HandUnderTheChin", name := "bath", desc := "(I)I" } : Jvm.MethodName)) ∈ lw_all := lw_g (lw_at lw_m1 31 rfl) rfl
theorem q592 : (Jvm.Cond.methodLink "HandUnderTheChinLaw" (26 : Nat) ({ cls := "HandUnderTheChin", name := "child", desc := "(II)I" } : Jvm.MethodName)) ∈ lw_all := lw_g (lw_at lw_m3 34 rfl) rfl
theorem q623 : (Jvm.Cond.methodLink "HandUnderTheChinLaw" (31 : Nat) ({ cls := "HandUnderTheChin", name := "comes", desc := "(II)I" } : Jvm.MethodName)) ∈ lw_all := lw_g (lw_at lw_m3 65 rfl) rfl
theorem q627 : (Jvm.Cond.methodLink "HandUnderTheChinLaw" (35 : Nat) ({ cls := "HandUnderTheChin", name := "feels", desc := "(III)I" } : Jvm.MethodName)) ∈ lw_all := lw_g (lw_at lw_m3 69 rfl) rfl
theorem q631 : (Jvm.Cond.methodLink "HandUnderTheChinLaw" (40 : Nat) ({ cls := "HandUnderTheChin", name := "minute", desc := "(II)I" } : Jvm.MethodName)) ∈ lw_all := lw_g (lw_at lw_m3 73 rfl) rfl
theorem q635 : (Jvm.Cond.methodLink "HandUnderTheChinLaw" (44 : Nat) ({ cls := "HandUnderTheChin", name := "change", desc := "(II)I" } : Jvm.MethodName)) ∈ lw_all := lw_g (lw_at lw_m3 77 rfl) rfl
theorem q643 : (Jvm.Cond.methodLink "HandUnderTheChinLaw" (48 : Nat) ({ cls := "HandUnderTheChin", name := "rest", desc := "(I)I" } : Jvm.MethodName)) ∈ lw_all := lw_g (lw_at lw_m3 85 rfl) rfl
theorem q654 : (Jvm.Cond.methodLink "HandUnderTheChinLaw" (52 : Nat) ({ cls := "HandUnderTheChin", name := "ready", desc := "()I" } : Jvm.MethodName)) ∈ lw_all := lw_g (lw_at lw_m3 96 rfl) rfl
theorem q662 : (Jvm.Cond.methodLink "HandUnderTheChinLaw" (57 : Nat) ({ cls := "HandUnderTheChin", name := "alone", desc := "(II)I" } : Jvm.MethodName)) ∈ lw_all := lw_g (lw_at lw_m3 104 rfl) rfl
theorem q681 : (Jvm.Cond.methodLink "HandUnderTheChinLaw" (61 : Nat) ({ cls := "HandUnderTheChin", name := "neverHeld", desc := "(I)I" } : Jvm.MethodName)) ∈ lw_all := lw_g (lw_at lw_m3 123 rfl) rfl
theorem q685 : (Jvm.Cond.methodLink "HandUnderTheChinLaw" (85 : Nat) ({ cls := "HandUnderTheChin", name := "costs", desc := "(I)I" } : Jvm.MethodName)) ∈ lw_all := lw_g (lw_at lw_m3 127 rfl) rfl
theorem q689 : (Jvm.Cond.methodLink "HandUnderTheChinLaw" (65 : Nat) ({ cls := "HandUnderTheChin", name := "mostSteps", desc := "(II)I" } : Jvm.MethodName)) ∈ lw_all := lw_g (lw_at lw_m3 131 rfl) rfl
theorem q701 : (Jvm.Cond.methodLink "HandUnderTheChinLaw" (69 : Nat) ({ cls := "HandUnderTheChin", name := "byTurns", desc := "(II)I" } : Jvm.MethodName)) ∈ lw_all := lw_g (lw_at lw_m3 143 rfl) rfl
theorem q728 : (Jvm.Cond.methodLink "HandUnderTheChinLaw" (73 : Nat) ({ cls := "HandUnderTheChin", name := "allSwim", desc := "()I" } : Jvm.MethodName)) ∈ lw_all := lw_g (lw_at lw_m3 170 rfl) rfl
theorem q732 : (Jvm.Cond.methodLink "HandUnderTheChinLaw" (77 : Nat) ({ cls := "HandUnderTheChin", name := "beside", desc := "(I)I" } : Jvm.MethodName)) ∈ lw_all := lw_g (lw_at lw_m3 174 rfl) rfl
theorem q744 : (Jvm.Cond.methodLink "HandUnderTheChinLaw" (81 : Nat) ({ cls := "HandUnderTheChin", name := "helps", desc := "()I" } : Jvm.MethodName)) ∈ lw_all := lw_g (lw_at lw_m3 186 rfl) rfl
theorem q752 : (Jvm.Cond.methodLink "HandUnderTheChinLaw" (89 : Nat) ({ cls := "HandUnderTheChin", name := "bands", desc := "(III)I" } : Jvm.MethodName)) ∈ lw_all := lw_g (lw_at lw_m3 194 rfl) rfl
theorem q756 : (Jvm.Cond.methodLink "HandUnderTheChinLaw" (93 : Nat) ({ cls := "HandUnderTheChin", name := "frights", desc := "(IIIII)J" } : Jvm.MethodName)) ∈ lw_all := lw_g (lw_at lw_m3 198 rfl) rfl
theorem q771 : (Jvm.Cond.methodLink "HandUnderTheChinLaw" (98 : Nat) ({ cls := "HandUnderTheChin", name := "was", desc := "(IIII)I" } : Jvm.MethodName)) ∈ lw_all := lw_g (lw_at lw_m3 213 rfl) rfl
theorem q793 : (Jvm.Cond.methodLink "HandUnderTheChinLaw" (103 : Nat) ({ cls := "HandUnderTheChin", name := "dare", desc := "(II)I" } : Jvm.MethodName)) ∈ lw_all := lw_g (lw_at lw_m3 235 rfl) rfl
theorem q801 : (Jvm.Cond.methodLink "HandUnderTheChinLaw" (107 : Nat) ({ cls := "HandUnderTheChin", name := "group", desc := "(II)I" } : Jvm.MethodName)) ∈ lw_all := lw_g (lw_at lw_m4 3 rfl) rfl
theorem q809 : (Jvm.Cond.methodLink "HandUnderTheChinLaw" (111 : Nat) ({ cls := "HandUnderTheChin", name := "forget", desc := "()I" } : Jvm.MethodName)) ∈ lw_all := lw_g (lw_at lw_m4 11 rfl) rfl
theorem q813 : (Jvm.Cond.methodLink "HandUnderTheChinLaw" (115 : Nat) ({ cls := "HandUnderTheChin", name := "coldest", desc := "(II)I" } : Jvm.MethodName)) ∈ lw_all := lw_g (lw_at lw_m4 15 rfl) rfl
theorem q817 : (Jvm.Cond.methodLink "HandUnderTheChinLaw" (119 : Nat) ({ cls := "HandUnderTheChin", name := "last", desc := "()I" } : Jvm.MethodName)) ∈ lw_all := lw_g (lw_at lw_m4 19 rfl) rfl
theorem q821 : (Jvm.Cond.methodLink "HandUnderTheChinLaw" (123 : Nat) ({ cls := "HandUnderTheChin", name := "mean", desc := "(I)J" } : Jvm.MethodName)) ∈ lw_all := lw_g (lw_at lw_m4 23 rfl) rfl
theorem q825 : (Jvm.Cond.methodLink "HandUnderTheChinLaw" (128 : Nat) ({ cls := "HandUnderTheChin", name := "forged", desc := "(I)I" } : Jvm.MethodName)) ∈ lw_all := lw_g (lw_at lw_m4 27 rfl) rfl
theorem q829 : (Jvm.Cond.methodLink "HandUnderTheChinLaw" (132 : Nat) ({ cls := "HandUnderTheChin", name := "judge", desc := "(II)I" } : Jvm.MethodName)) ∈ lw_all := lw_g (lw_at lw_m4 31 rfl) rfl
theorem q837 : (Jvm.Cond.methodLink "HandUnderTheChinLaw" (136 : Nat) ({ cls := "HandUnderTheChin", name := "weeks", desc := "(III)I" } : Jvm.MethodName)) ∈ lw_all := lw_g (lw_at lw_m4 39 rfl) rfl
theorem q848 : (Jvm.Cond.methodLink "HandUnderTheChinLaw" (140 : Nat) ({ cls := "HandUnderTheChin", name := "image", desc := "()I" } : Jvm.MethodName)) ∈ lw_all := lw_g (lw_at lw_m4 50 rfl) rfl
theorem q852 : (Jvm.Cond.methodLink "HandUnderTheChinLaw" (144 : Nat) ({ cls := "HandUnderTheChin", name := "restore", desc := "()I" } : Jvm.MethodName)) ∈ lw_all := lw_g (lw_at lw_m4 54 rfl) rfl
theorem q856 : (Jvm.Cond.methodLink "HandUnderTheChinLaw" (148 : Nat) ({ cls := "HandUnderTheChin", name := "count", desc := "(I)I" } : Jvm.MethodName)) ∈ lw_all := lw_g (lw_at lw_m4 58 rfl) rfl
theorem q860 : (Jvm.Cond.classLink "HandUnderTheChinLaw" (8 : Nat) "HandUnderTheChin") ∈ lw_all := lw_g (lw_at lw_m4 62 rfl) rfl
theorem q861 : (Jvm.Cond.methodLink "HandUnderTheChinLaw" (17 : Nat) ({ cls := "HandUnderTheChin", name := "<init>", desc := "()V" } : Jvm.MethodName)) ∈ lw_all := lw_g (lw_at lw_m4 63 rfl) rfl
theorem q955 : (Jvm.Cond.methodLink "HandUnderTheChinLaw" (152 : Nat) ({ cls := "HandUnderTheChin", name := "keep", desc := "(IIII)I" } : Jvm.MethodName)) ∈ lw_all := lw_g (lw_at lw_m4 157 rfl) rfl
theorem q959 : (Jvm.Cond.methodLink "HandUnderTheChinLaw" (156 : Nat) ({ cls := "HandUnderTheChin", name := "row", desc := "(III)I" } : Jvm.MethodName)) ∈ lw_all := lw_g (lw_at lw_m4 161 rfl) rfl
theorem q978 : (Jvm.Cond.methodLink "HandUnderTheChinLaw" (160 : Nat) ({ cls := "HandUnderTheChin", name := "put", desc := "(III)I" } : Jvm.MethodName)) ∈ lw_all := lw_g (lw_at lw_m4 180 rfl) rfl
theorem q1001 : (Jvm.Cond.methodLink "HandUnderTheChinLaw" (173 : Nat) ({ cls := "HandUnderTheChin", name := "copy", desc := "(IIIII)I" } : Jvm.MethodName)) ∈ lw_all := lw_g (lw_at lw_m4 203 rfl) rfl
theorem q1006 : (Jvm.Cond.methodLink "HandUnderTheChinLaw" (178 : Nat) ({ cls := "HandUnderTheChin", name := "cost", desc := "(I)I" } : Jvm.MethodName)) ∈ lw_all := lw_g (lw_at lw_m4 208 rfl) rfl
theorem q1065 : (Jvm.Cond.methodLink "HandUnderTheChinLaw" (182 : Nat) ({ cls := "HandUnderTheChin", name := "toss", desc := "(I)I" } : Jvm.MethodName)) ∈ lw_all := lw_g (lw_at lw_m5 27 rfl) rfl
theorem q1117 : (Jvm.Cond.methodLink "HandUnderTheChinLaw" (164 : Nat) ({ cls := "HandUnderTheChinLaw", name := "element", desc := "(LHandUnderTheChin;II[J)I" } : Jvm.MethodName)) ∈ lw_all := lw_g (lw_at lw_m5 79 rfl) rfl
theorem q1118 : (Jvm.Cond.static ({ cls := "HandUnderTheChinLaw", name := "element", desc := "(LHandUnderTheChin;II[J)I" } : Jvm.MethodName)) ∈ lw_all := lw_g (lw_at lw_m5 80 rfl) rfl
theorem q1119 : (Jvm.Cond.codeWith ({ cls := "HandUnderTheChinLaw", name := "element", desc := "(LHandUnderTheChin;II[J)I" } : Jvm.MethodName) method_3_code (5 : Nat) (Option.some Jvm.ClassFile.FieldType.int) [((0 : Nat), (9 : Nat), (12 : Nat), (13 : Nat)), ((0 : Nat), (9 : Nat), (16 : Nat), (15 : Nat))]) ∈ lw_all := lw_g (lw_at lw_m5 81 rfl) rfl
theorem q1120 : (Jvm.Cond.classLink "HandUnderTheChinLaw" (13 : Nat) "java/lang/IllegalArgumentException") ∈ lw_all := lw_g (lw_at lw_m5 82 rfl) rfl
theorem q1121 : (Jvm.Cond.classLink "HandUnderTheChinLaw" (15 : Nat) "java/lang/IllegalStateException") ∈ lw_all := lw_g (lw_at lw_m5 83 rfl) rfl
theorem q1122 : (Jvm.Cond.methodLink "HandUnderTheChinLaw" (7 : Nat) ({ cls := "HandUnderTheChin", name := "element", desc := "(II)J" } : Jvm.MethodName)) ∈ lw_all := lw_g (lw_at lw_m5 84 rfl) rfl
theorem q1156 : (Jvm.Cond.classLink "HandUnderTheChinLaw" (18 : Nat) "HandUnderTheChinModel") ∈ lw_all := lw_g (lw_at lw_m5 118 rfl) rfl
theorem q1158 : (Jvm.Cond.methodLink "HandUnderTheChinLaw" (20 : Nat) ({ cls := "HandUnderTheChinModel", name := "<init>", desc := "()V" } : Jvm.MethodName)) ∈ lw_all := lw_g (lw_at lw_m5 120 rfl) rfl
theorem q1275 : (Jvm.Cond.methodLink "HandUnderTheChinLaw" (170 : Nat) ({ cls := "HandUnderTheChinModel", name := "thrown", desc := "()I" } : Jvm.MethodName)) ∈ lw_all := lw_g (lw_at lw_m5 237 rfl) rfl
theorem q1279 : (Jvm.Cond.methodLink "HandUnderTheChinLaw" (25 : Nat) ({ cls := "HandUnderTheChinModel", name := "bath", desc := "(I)I" } : Jvm.MethodName)) ∈ lw_all := lw_g (lw_at lw_m6 1 rfl) rfl
theorem q1410 : (Jvm.Cond.methodLink "HandUnderTheChinLaw" (143 : Nat) ({ cls := "HandUnderTheChinModel", name := "image", desc := "()I" } : Jvm.MethodName)) ∈ lw_all := lw_g (lw_at lw_m6 132 rfl) rfl
theorem q1414 : (Jvm.Cond.methodLink "HandUnderTheChinLaw" (147 : Nat) ({ cls := "HandUnderTheChinModel", name := "restore", desc := "()I" } : Jvm.MethodName)) ∈ lw_all := lw_g (lw_at lw_m6 136 rfl) rfl
theorem q1418 : (Jvm.Cond.methodLink "HandUnderTheChinLaw" (30 : Nat) ({ cls := "HandUnderTheChinModel", name := "child", desc := "(II)I" } : Jvm.MethodName)) ∈ lw_all := lw_g (lw_at lw_m6 140 rfl) rfl
theorem q1422 : (Jvm.Cond.methodLink "HandUnderTheChinLaw" (34 : Nat) ({ cls := "HandUnderTheChinModel", name := "comes", desc := "(II)I" } : Jvm.MethodName)) ∈ lw_all := lw_g (lw_at lw_m6 144 rfl) rfl
theorem q1431 : (Jvm.Cond.methodLink "HandUnderTheChinLaw" (39 : Nat) ({ cls := "HandUnderTheChinModel", name := "feels", desc := "(III)I" } : Jvm.MethodName)) ∈ lw_all := lw_g (lw_at lw_m6 153 rfl) rfl
theorem q1435 : (Jvm.Cond.methodLink "HandUnderTheChinLaw" (43 : Nat) ({ cls := "HandUnderTheChinModel", name := "minute", desc := "(II)I" } : Jvm.MethodName)) ∈ lw_all := lw_g (lw_at lw_m6 157 rfl) rfl
theorem q1440 : (Jvm.Cond.methodLink "HandUnderTheChinLaw" (47 : Nat) ({ cls := "HandUnderTheChinModel", name := "change", desc := "(II)I" } : Jvm.MethodName)) ∈ lw_all := lw_g (lw_at lw_m6 162 rfl) rfl
theorem q1444 : (Jvm.Cond.methodLink "HandUnderTheChinLaw" (51 : Nat) ({ cls := "HandUnderTheChinModel", name := "rest", desc := "(I)I" } : Jvm.MethodName)) ∈ lw_all := lw_g (lw_at lw_m6 166 rfl) rfl
theorem q1453 : (Jvm.Cond.methodLink "HandUnderTheChinLaw" (56 : Nat) ({ cls := "HandUnderTheChinModel", name := "ready", desc := "()I" } : Jvm.MethodName)) ∈ lw_all := lw_g (lw_at lw_m6 175 rfl) rfl
theorem q1461 : (Jvm.Cond.methodLink "HandUnderTheChinLaw" (60 : Nat) ({ cls := "HandUnderTheChinModel", name := "alone", desc := "(II)I" } : Jvm.MethodName)) ∈ lw_all := lw_g (lw_at lw_m6 183 rfl) rfl
theorem q1481 : (Jvm.Cond.methodLink "HandUnderTheChinLaw" (64 : Nat) ({ cls := "HandUnderTheChinModel", name := "neverHeld", desc := "(I)I" } : Jvm.MethodName)) ∈ lw_all := lw_g (lw_at lw_m6 203 rfl) rfl
theorem q1485 : (Jvm.Cond.methodLink "HandUnderTheChinLaw" (68 : Nat) ({ cls := "HandUnderTheChinModel", name := "mostSteps", desc := "(II)I" } : Jvm.MethodName)) ∈ lw_all := lw_g (lw_at lw_m6 207 rfl) rfl
theorem q1505 : (Jvm.Cond.methodLink "HandUnderTheChinLaw" (72 : Nat) ({ cls := "HandUnderTheChinModel", name := "byTurns", desc := "(II)I" } : Jvm.MethodName)) ∈ lw_all := lw_g (lw_at lw_m6 227 rfl) rfl
theorem q1521 : (Jvm.Cond.methodLink "HandUnderTheChinLaw" (76 : Nat) ({ cls := "HandUnderTheChinModel", name := "allSwim", desc := "()I" } : Jvm.MethodName)) ∈ lw_all := lw_g (lw_at lw_m7 3 rfl) rfl
theorem q1525 : (Jvm.Cond.methodLink "HandUnderTheChinLaw" (80 : Nat) ({ cls := "HandUnderTheChinModel", name := "beside", desc := "(I)I" } : Jvm.MethodName)) ∈ lw_all := lw_g (lw_at lw_m7 7 rfl) rfl
theorem q1540 : (Jvm.Cond.methodLink "HandUnderTheChinLaw" (84 : Nat) ({ cls := "HandUnderTheChinModel", name := "helps", desc := "()I" } : Jvm.MethodName)) ∈ lw_all := lw_g (lw_at lw_m7 22 rfl) rfl
theorem q1544 : (Jvm.Cond.methodLink "HandUnderTheChinLaw" (88 : Nat) ({ cls := "HandUnderTheChinModel", name := "costs", desc := "(I)I" } : Jvm.MethodName)) ∈ lw_all := lw_g (lw_at lw_m7 26 rfl) rfl
theorem q1548 : (Jvm.Cond.methodLink "HandUnderTheChinLaw" (92 : Nat) ({ cls := "HandUnderTheChinModel", name := "bands", desc := "(III)I" } : Jvm.MethodName)) ∈ lw_all := lw_g (lw_at lw_m7 30 rfl) rfl
theorem q1552 : (Jvm.Cond.methodLink "HandUnderTheChinLaw" (97 : Nat) ({ cls := "HandUnderTheChinModel", name := "frights", desc := "(IIIII)J" } : Jvm.MethodName)) ∈ lw_all := lw_g (lw_at lw_m7 34 rfl) rfl
theorem q1565 : (Jvm.Cond.methodLink "HandUnderTheChinLaw" (102 : Nat) ({ cls := "HandUnderTheChinModel", name := "was", desc := "(IIII)I" } : Jvm.MethodName)) ∈ lw_all := lw_g (lw_at lw_m7 47 rfl) rfl
theorem q1569 : (Jvm.Cond.methodLink "HandUnderTheChinLaw" (106 : Nat) ({ cls := "HandUnderTheChinModel", name := "dare", desc := "(II)I" } : Jvm.MethodName)) ∈ lw_all := lw_g (lw_at lw_m7 51 rfl) rfl
theorem q1577 : (Jvm.Cond.methodLink "HandUnderTheChinLaw" (110 : Nat) ({ cls := "HandUnderTheChinModel", name := "group", desc := "(II)I" } : Jvm.MethodName)) ∈ lw_all := lw_g (lw_at lw_m7 59 rfl) rfl
theorem q1582 : (Jvm.Cond.methodLink "HandUnderTheChinLaw" (114 : Nat) ({ cls := "HandUnderTheChinModel", name := "forget", desc := "()I" } : Jvm.MethodName)) ∈ lw_all := lw_g (lw_at lw_m7 64 rfl) rfl
theorem q1586 : (Jvm.Cond.methodLink "HandUnderTheChinLaw" (118 : Nat) ({ cls := "HandUnderTheChinModel", name := "coldest", desc := "(II)I" } : Jvm.MethodName)) ∈ lw_all := lw_g (lw_at lw_m7 68 rfl) rfl
theorem q1591 : (Jvm.Cond.methodLink "HandUnderTheChinLaw" (122 : Nat) ({ cls := "HandUnderTheChinModel", name := "last", desc := "()I" } : Jvm.MethodName)) ∈ lw_all := lw_g (lw_at lw_m7 73 rfl) rfl
theorem q1595 : (Jvm.Cond.methodLink "HandUnderTheChinLaw" (127 : Nat) ({ cls := "HandUnderTheChinModel", name := "mean", desc := "(I)J" } : Jvm.MethodName)) ∈ lw_all := lw_g (lw_at lw_m7 77 rfl) rfl
theorem q1599 : (Jvm.Cond.methodLink "HandUnderTheChinLaw" (131 : Nat) ({ cls := "HandUnderTheChinModel", name := "forged", desc := "(I)I" } : Jvm.MethodName)) ∈ lw_all := lw_g (lw_at lw_m7 81 rfl) rfl
theorem q1603 : (Jvm.Cond.methodLink "HandUnderTheChinLaw" (135 : Nat) ({ cls := "HandUnderTheChinModel", name := "judge", desc := "(II)I" } : Jvm.MethodName)) ∈ lw_all := lw_g (lw_at lw_m7 85 rfl) rfl
theorem q1614 : (Jvm.Cond.methodLink "HandUnderTheChinLaw" (139 : Nat) ({ cls := "HandUnderTheChinModel", name := "weeks", desc := "(III)I" } : Jvm.MethodName)) ∈ lw_all := lw_g (lw_at lw_m7 96 rfl) rfl
theorem q1625 : (Jvm.Cond.methodLink "HandUnderTheChinLaw" (151 : Nat) ({ cls := "HandUnderTheChinModel", name := "count", desc := "(I)I" } : Jvm.MethodName)) ∈ lw_all := lw_g (lw_at lw_m7 107 rfl) rfl
theorem q1629 : (Jvm.Cond.methodLink "HandUnderTheChinLaw" (155 : Nat) ({ cls := "HandUnderTheChinModel", name := "keep", desc := "(IIII)I" } : Jvm.MethodName)) ∈ lw_all := lw_g (lw_at lw_m7 111 rfl) rfl
theorem q1633 : (Jvm.Cond.methodLink "HandUnderTheChinLaw" (159 : Nat) ({ cls := "HandUnderTheChinModel", name := "row", desc := "(III)I" } : Jvm.MethodName)) ∈ lw_all := lw_g (lw_at lw_m7 115 rfl) rfl
theorem q1637 : (Jvm.Cond.methodLink "HandUnderTheChinLaw" (163 : Nat) ({ cls := "HandUnderTheChinModel", name := "put", desc := "(III)I" } : Jvm.MethodName)) ∈ lw_all := lw_g (lw_at lw_m7 119 rfl) rfl
theorem q1644 : (Jvm.Cond.methodLink "HandUnderTheChinLaw" (169 : Nat) ({ cls := "HandUnderTheChinModel", name := "element", desc := "(II)J" } : Jvm.MethodName)) ∈ lw_all := lw_g (lw_at lw_m7 126 rfl) rfl
theorem q1648 : (Jvm.Cond.methodLink "HandUnderTheChinLaw" (177 : Nat) ({ cls := "HandUnderTheChinModel", name := "copy", desc := "(IIIII)I" } : Jvm.MethodName)) ∈ lw_all := lw_g (lw_at lw_m7 130 rfl) rfl
theorem q1652 : (Jvm.Cond.methodLink "HandUnderTheChinLaw" (181 : Nat) ({ cls := "HandUnderTheChinModel", name := "cost", desc := "(I)I" } : Jvm.MethodName)) ∈ lw_all := lw_g (lw_at lw_m7 134 rfl) rfl
theorem q1659 : (Jvm.Cond.methodLink "HandUnderTheChinLaw" (185 : Nat) ({ cls := "HandUnderTheChinModel", name := "toss", desc := "(I)I" } : Jvm.MethodName)) ∈ lw_all := lw_g (lw_at lw_m7 141 rfl) rfl
/-! HandUnderTheChin$Bath -/
set_option maxRecDepth 100000
def RX2 : String := "HandUnderTheChin$Bath"
def TX2 : u_T := fun k => match k with
  | 0 => ("HandUnderTheChin$Bath", "who", "[LHandUnderTheChin$Child;", true)
  | 1 => ("HandUnderTheChin$Bath", "trust", "[I", true)
  | 2 => ("HandUnderTheChin$Bath", "step", "[I", true)
  | 3 => ("HandUnderTheChin$Bath", "cold", "[I", true)
  | 4 => ("HandUnderTheChin$Bath", "children", "I", false)
  | 5 => ("HandUnderTheChin$Bath", "minute", "I", false)
  | _ => ("HandUnderTheChin$Bath", "swallows", "I", false)
def tyX2 : Nat → FieldType := fun k => match k with
  | 0 => .array (.object "HandUnderTheChin$Child")
  | 1 => .array .int
  | 2 => .array .int
  | 3 => .array .int
  | 4 => .int
  | 5 => .int
  | _ => .int
abbrev wsX20 : List Cond := u_ws RX2 TX2 7
theorem nmX2 : ∀ a, a < 7 → ∀ b, b < 7 → a ≠ b → (TX2 a).2.1 ≠ (TX2 b).2.1 := by decide +kernel
theorem tyX2_ok : ∀ k, k < 7 → parseFieldDescriptor (TX2 k).2.2.1 = some (tyX2 k) := by decide +kernel
abbrev cX2_takes : ByteArray := prog_2_method_3_code
def yX2_takes : MethodName := ⟨RX2, "takes", "(LHandUnderTheChin$Bath;)V"⟩
def dkwX2_takes_3 : List UInt8 := [177]
abbrev dktX2_takes_3 : List UInt8 := dkwX2_takes_3 ++ []
def dkwX2_takes_2 : List UInt8 := [184, 0, 33, 42, 43, 180, 0, 37, 181, 0, 37, 42, 43, 180, 0, 41, 181, 0, 41, 42, 3, 181, 0, 44]
abbrev dktX2_takes_2 : List UInt8 := dkwX2_takes_2 ++ dktX2_takes_3
def dkwX2_takes_1 : List UInt8 := [184, 0, 33, 43, 180, 0, 21, 42, 180, 0, 21, 184, 0, 33, 43, 180, 0, 24, 42, 180, 0, 24]
abbrev dktX2_takes_1 : List UInt8 := dkwX2_takes_1 ++ dktX2_takes_2
def dkwX2_takes_0 : List UInt8 := [43, 180, 0, 11, 3, 42, 180, 0, 11, 3, 16, 6, 184, 0, 27, 43, 180, 0, 17, 42, 180, 0, 17]
abbrev dktX2_takes_0 : List UInt8 := dkwX2_takes_0 ++ dktX2_takes_1
theorem dksX2_takes_0 : cX2_takes.data.toList.drop 0 = dktX2_takes_0 := by decide +kernel
theorem dksX2_takes_1 : cX2_takes.data.toList.drop 23 = dktX2_takes_1 := dk_seg dksX2_takes_0 23 rfl rfl
theorem dksX2_takes_2 : cX2_takes.data.toList.drop 45 = dktX2_takes_2 := dk_seg dksX2_takes_1 22 rfl rfl
theorem dksX2_takes_3 : cX2_takes.data.toList.drop 69 = dktX2_takes_3 := dk_seg dksX2_takes_2 24 rfl rfl
theorem dX2_takes_0 : decode cX2_takes 0 = .ok (.aload_n 1, 1) := dk_43 (dk_at dksX2_takes_0 0 rfl rfl)
theorem dX2_takes_1 : decode cX2_takes 1 = .ok (.getfield 11, 3) := dk_180 0 11 (dk_at dksX2_takes_0 1 rfl rfl)
theorem dX2_takes_4 : decode cX2_takes 4 = .ok (.iconst 0, 1) := dk_3 (dk_at dksX2_takes_0 4 rfl rfl)
theorem dX2_takes_5 : decode cX2_takes 5 = .ok (.aload_n 0, 1) := dk_42 (dk_at dksX2_takes_0 5 rfl rfl)
theorem dX2_takes_6 : decode cX2_takes 6 = .ok (.getfield 11, 3) := dk_180 0 11 (dk_at dksX2_takes_0 6 rfl rfl)
theorem dX2_takes_9 : decode cX2_takes 9 = .ok (.iconst 0, 1) := dk_3 (dk_at dksX2_takes_0 9 rfl rfl)
theorem dX2_takes_10 : decode cX2_takes 10 = .ok (.bipush 6, 2) := dk_16 6 (dk_at dksX2_takes_0 10 rfl rfl)
theorem dX2_takes_12 : decode cX2_takes 12 = .ok (.invokestatic 27, 3) := dk_184 0 27 (dk_at dksX2_takes_0 12 rfl rfl)
theorem dX2_takes_15 : decode cX2_takes 15 = .ok (.aload_n 1, 1) := dk_43 (dk_at dksX2_takes_0 15 rfl rfl)
theorem dX2_takes_16 : decode cX2_takes 16 = .ok (.getfield 17, 3) := dk_180 0 17 (dk_at dksX2_takes_0 16 rfl rfl)
theorem dX2_takes_19 : decode cX2_takes 19 = .ok (.aload_n 0, 1) := dk_42 (dk_at dksX2_takes_0 19 rfl rfl)
theorem dX2_takes_20 : decode cX2_takes 20 = .ok (.getfield 17, 3) := dk_180 0 17 (dk_at dksX2_takes_0 20 rfl rfl)
theorem dX2_takes_23 : decode cX2_takes 23 = .ok (.invokestatic 33, 3) := dk_184 0 33 (dk_at dksX2_takes_1 0 rfl rfl)
theorem dX2_takes_26 : decode cX2_takes 26 = .ok (.aload_n 1, 1) := dk_43 (dk_at dksX2_takes_1 3 rfl rfl)
theorem dX2_takes_27 : decode cX2_takes 27 = .ok (.getfield 21, 3) := dk_180 0 21 (dk_at dksX2_takes_1 4 rfl rfl)
theorem dX2_takes_30 : decode cX2_takes 30 = .ok (.aload_n 0, 1) := dk_42 (dk_at dksX2_takes_1 7 rfl rfl)
theorem dX2_takes_31 : decode cX2_takes 31 = .ok (.getfield 21, 3) := dk_180 0 21 (dk_at dksX2_takes_1 8 rfl rfl)
theorem dX2_takes_34 : decode cX2_takes 34 = .ok (.invokestatic 33, 3) := dk_184 0 33 (dk_at dksX2_takes_1 11 rfl rfl)
theorem dX2_takes_37 : decode cX2_takes 37 = .ok (.aload_n 1, 1) := dk_43 (dk_at dksX2_takes_1 14 rfl rfl)
theorem dX2_takes_38 : decode cX2_takes 38 = .ok (.getfield 24, 3) := dk_180 0 24 (dk_at dksX2_takes_1 15 rfl rfl)
theorem dX2_takes_41 : decode cX2_takes 41 = .ok (.aload_n 0, 1) := dk_42 (dk_at dksX2_takes_1 18 rfl rfl)
theorem dX2_takes_42 : decode cX2_takes 42 = .ok (.getfield 24, 3) := dk_180 0 24 (dk_at dksX2_takes_1 19 rfl rfl)
theorem dX2_takes_45 : decode cX2_takes 45 = .ok (.invokestatic 33, 3) := dk_184 0 33 (dk_at dksX2_takes_2 0 rfl rfl)
theorem dX2_takes_48 : decode cX2_takes 48 = .ok (.aload_n 0, 1) := dk_42 (dk_at dksX2_takes_2 3 rfl rfl)
theorem dX2_takes_49 : decode cX2_takes 49 = .ok (.aload_n 1, 1) := dk_43 (dk_at dksX2_takes_2 4 rfl rfl)
theorem dX2_takes_50 : decode cX2_takes 50 = .ok (.getfield 37, 3) := dk_180 0 37 (dk_at dksX2_takes_2 5 rfl rfl)
theorem dX2_takes_53 : decode cX2_takes 53 = .ok (.putfield 37, 3) := dk_181 0 37 (dk_at dksX2_takes_2 8 rfl rfl)
theorem dX2_takes_56 : decode cX2_takes 56 = .ok (.aload_n 0, 1) := dk_42 (dk_at dksX2_takes_2 11 rfl rfl)
theorem dX2_takes_57 : decode cX2_takes 57 = .ok (.aload_n 1, 1) := dk_43 (dk_at dksX2_takes_2 12 rfl rfl)
theorem dX2_takes_58 : decode cX2_takes 58 = .ok (.getfield 41, 3) := dk_180 0 41 (dk_at dksX2_takes_2 13 rfl rfl)
theorem dX2_takes_61 : decode cX2_takes 61 = .ok (.putfield 41, 3) := dk_181 0 41 (dk_at dksX2_takes_2 16 rfl rfl)
theorem dX2_takes_64 : decode cX2_takes 64 = .ok (.aload_n 0, 1) := dk_42 (dk_at dksX2_takes_2 19 rfl rfl)
theorem dX2_takes_65 : decode cX2_takes 65 = .ok (.iconst 0, 1) := dk_3 (dk_at dksX2_takes_2 20 rfl rfl)
theorem dX2_takes_66 : decode cX2_takes 66 = .ok (.putfield 44, 3) := dk_181 0 44 (dk_at dksX2_takes_2 21 rfl rfl)
theorem dX2_takes_69 : decode cX2_takes 69 = .ok (.return_, 1) := dk_177 (dk_at dksX2_takes_3 0 rfl rfl)
abbrev cX2_copies : ByteArray := prog_2_method_2_code
def yX2_copies : MethodName := ⟨RX2, "copies", "([I[I)V"⟩
def dkwX2_copies_0 : List UInt8 := [42, 3, 43, 3, 16, 6, 184, 0, 27, 177]
abbrev dktX2_copies_0 : List UInt8 := dkwX2_copies_0 ++ []
theorem dksX2_copies_0 : cX2_copies.data.toList.drop 0 = dktX2_copies_0 := by decide +kernel
theorem dX2_copies_0 : decode cX2_copies 0 = .ok (.aload_n 0, 1) := dk_42 (dk_at dksX2_copies_0 0 rfl rfl)
theorem dX2_copies_1 : decode cX2_copies 1 = .ok (.iconst 0, 1) := dk_3 (dk_at dksX2_copies_0 1 rfl rfl)
theorem dX2_copies_2 : decode cX2_copies 2 = .ok (.aload_n 1, 1) := dk_43 (dk_at dksX2_copies_0 2 rfl rfl)
theorem dX2_copies_3 : decode cX2_copies 3 = .ok (.iconst 0, 1) := dk_3 (dk_at dksX2_copies_0 3 rfl rfl)
theorem dX2_copies_4 : decode cX2_copies 4 = .ok (.bipush 6, 2) := dk_16 6 (dk_at dksX2_copies_0 4 rfl rfl)
theorem dX2_copies_6 : decode cX2_copies 6 = .ok (.invokestatic 27, 3) := dk_184 0 27 (dk_at dksX2_copies_0 6 rfl rfl)
theorem dX2_copies_9 : decode cX2_copies 9 = .ok (.return_, 1) := dk_177 (dk_at dksX2_copies_0 9 rfl rfl)
abbrev cX2_comes : ByteArray := prog_2_method_7_code
def yX2_comes : MethodName := ⟨RX2, "comes", "(LHandUnderTheChin$Child;I)I"⟩
def dkwX2_comes_2 : List UInt8 := [181, 0, 37, 42, 180, 0, 37, 4, 100, 172]
abbrev dktX2_comes_2 : List UInt8 := dkwX2_comes_2 ++ []
def dkwX2_comes_1 : List UInt8 := [42, 180, 0, 37, 3, 79, 42, 180, 0, 24, 42, 180, 0, 37, 3, 79, 42, 89, 180, 0, 37, 4, 96]
abbrev dktX2_comes_1 : List UInt8 := dkwX2_comes_1 ++ dktX2_comes_2
def dkwX2_comes_0 : List UInt8 := [42, 180, 0, 11, 42, 180, 0, 37, 43, 83, 42, 180, 0, 17, 42, 180, 0, 37, 28, 79, 42, 180, 0, 21]
abbrev dktX2_comes_0 : List UInt8 := dkwX2_comes_0 ++ dktX2_comes_1
theorem dksX2_comes_0 : cX2_comes.data.toList.drop 0 = dktX2_comes_0 := by decide +kernel
theorem dksX2_comes_1 : cX2_comes.data.toList.drop 24 = dktX2_comes_1 := dk_seg dksX2_comes_0 24 rfl rfl
theorem dksX2_comes_2 : cX2_comes.data.toList.drop 47 = dktX2_comes_2 := dk_seg dksX2_comes_1 23 rfl rfl
theorem dX2_comes_0 : decode cX2_comes 0 = .ok (.aload_n 0, 1) := dk_42 (dk_at dksX2_comes_0 0 rfl rfl)
theorem dX2_comes_1 : decode cX2_comes 1 = .ok (.getfield 11, 3) := dk_180 0 11 (dk_at dksX2_comes_0 1 rfl rfl)
theorem dX2_comes_4 : decode cX2_comes 4 = .ok (.aload_n 0, 1) := dk_42 (dk_at dksX2_comes_0 4 rfl rfl)
theorem dX2_comes_5 : decode cX2_comes 5 = .ok (.getfield 37, 3) := dk_180 0 37 (dk_at dksX2_comes_0 5 rfl rfl)
theorem dX2_comes_8 : decode cX2_comes 8 = .ok (.aload_n 1, 1) := dk_43 (dk_at dksX2_comes_0 8 rfl rfl)
theorem dX2_comes_9 : decode cX2_comes 9 = .ok (.aastore, 1) := dk_83 (dk_at dksX2_comes_0 9 rfl rfl)
theorem dX2_comes_10 : decode cX2_comes 10 = .ok (.aload_n 0, 1) := dk_42 (dk_at dksX2_comes_0 10 rfl rfl)
theorem dX2_comes_11 : decode cX2_comes 11 = .ok (.getfield 17, 3) := dk_180 0 17 (dk_at dksX2_comes_0 11 rfl rfl)
theorem dX2_comes_14 : decode cX2_comes 14 = .ok (.aload_n 0, 1) := dk_42 (dk_at dksX2_comes_0 14 rfl rfl)
theorem dX2_comes_15 : decode cX2_comes 15 = .ok (.getfield 37, 3) := dk_180 0 37 (dk_at dksX2_comes_0 15 rfl rfl)
theorem dX2_comes_18 : decode cX2_comes 18 = .ok (.iload_n 2, 1) := dk_28 (dk_at dksX2_comes_0 18 rfl rfl)
theorem dX2_comes_19 : decode cX2_comes 19 = .ok (.iastore, 1) := dk_79 (dk_at dksX2_comes_0 19 rfl rfl)
theorem dX2_comes_20 : decode cX2_comes 20 = .ok (.aload_n 0, 1) := dk_42 (dk_at dksX2_comes_0 20 rfl rfl)
theorem dX2_comes_21 : decode cX2_comes 21 = .ok (.getfield 21, 3) := dk_180 0 21 (dk_at dksX2_comes_0 21 rfl rfl)
theorem dX2_comes_24 : decode cX2_comes 24 = .ok (.aload_n 0, 1) := dk_42 (dk_at dksX2_comes_1 0 rfl rfl)
theorem dX2_comes_25 : decode cX2_comes 25 = .ok (.getfield 37, 3) := dk_180 0 37 (dk_at dksX2_comes_1 1 rfl rfl)
theorem dX2_comes_28 : decode cX2_comes 28 = .ok (.iconst 0, 1) := dk_3 (dk_at dksX2_comes_1 4 rfl rfl)
theorem dX2_comes_29 : decode cX2_comes 29 = .ok (.iastore, 1) := dk_79 (dk_at dksX2_comes_1 5 rfl rfl)
theorem dX2_comes_30 : decode cX2_comes 30 = .ok (.aload_n 0, 1) := dk_42 (dk_at dksX2_comes_1 6 rfl rfl)
theorem dX2_comes_31 : decode cX2_comes 31 = .ok (.getfield 24, 3) := dk_180 0 24 (dk_at dksX2_comes_1 7 rfl rfl)
theorem dX2_comes_34 : decode cX2_comes 34 = .ok (.aload_n 0, 1) := dk_42 (dk_at dksX2_comes_1 10 rfl rfl)
theorem dX2_comes_35 : decode cX2_comes 35 = .ok (.getfield 37, 3) := dk_180 0 37 (dk_at dksX2_comes_1 11 rfl rfl)
theorem dX2_comes_38 : decode cX2_comes 38 = .ok (.iconst 0, 1) := dk_3 (dk_at dksX2_comes_1 14 rfl rfl)
theorem dX2_comes_39 : decode cX2_comes 39 = .ok (.iastore, 1) := dk_79 (dk_at dksX2_comes_1 15 rfl rfl)
theorem dX2_comes_40 : decode cX2_comes 40 = .ok (.aload_n 0, 1) := dk_42 (dk_at dksX2_comes_1 16 rfl rfl)
theorem dX2_comes_41 : decode cX2_comes 41 = .ok (.dup, 1) := dk_89 (dk_at dksX2_comes_1 17 rfl rfl)
theorem dX2_comes_42 : decode cX2_comes 42 = .ok (.getfield 37, 3) := dk_180 0 37 (dk_at dksX2_comes_1 18 rfl rfl)
theorem dX2_comes_45 : decode cX2_comes 45 = .ok (.iconst 1, 1) := dk_4 (dk_at dksX2_comes_1 21 rfl rfl)
theorem dX2_comes_46 : decode cX2_comes 46 = .ok (.iadd, 1) := dk_96 (dk_at dksX2_comes_1 22 rfl rfl)
theorem dX2_comes_47 : decode cX2_comes 47 = .ok (.putfield 37, 3) := dk_181 0 37 (dk_at dksX2_comes_2 0 rfl rfl)
theorem dX2_comes_50 : decode cX2_comes 50 = .ok (.aload_n 0, 1) := dk_42 (dk_at dksX2_comes_2 3 rfl rfl)
theorem dX2_comes_51 : decode cX2_comes 51 = .ok (.getfield 37, 3) := dk_180 0 37 (dk_at dksX2_comes_2 4 rfl rfl)
theorem dX2_comes_54 : decode cX2_comes 54 = .ok (.iconst 1, 1) := dk_4 (dk_at dksX2_comes_2 7 rfl rfl)
theorem dX2_comes_55 : decode cX2_comes 55 = .ok (.isub, 1) := dk_100 (dk_at dksX2_comes_2 8 rfl rfl)
theorem dX2_comes_56 : decode cX2_comes 56 = .ok (.ireturn, 1) := dk_172 (dk_at dksX2_comes_2 9 rfl rfl)
abbrev cX2_isOne : ByteArray := prog_2_method_4_code
def yX2_isOne : MethodName := ⟨RX2, "isOne", "(I)Z"⟩
def dkwX2_isOne_0 : List UInt8 := [27, 3, 42, 180, 0, 37, 4, 100, 184, 0, 47, 172]
abbrev dktX2_isOne_0 : List UInt8 := dkwX2_isOne_0 ++ []
theorem dksX2_isOne_0 : cX2_isOne.data.toList.drop 0 = dktX2_isOne_0 := by decide +kernel
theorem dX2_isOne_0 : decode cX2_isOne 0 = .ok (.iload_n 1, 1) := dk_27 (dk_at dksX2_isOne_0 0 rfl rfl)
theorem dX2_isOne_1 : decode cX2_isOne 1 = .ok (.iconst 0, 1) := dk_3 (dk_at dksX2_isOne_0 1 rfl rfl)
theorem dX2_isOne_2 : decode cX2_isOne 2 = .ok (.aload_n 0, 1) := dk_42 (dk_at dksX2_isOne_0 2 rfl rfl)
theorem dX2_isOne_3 : decode cX2_isOne 3 = .ok (.getfield 37, 3) := dk_180 0 37 (dk_at dksX2_isOne_0 3 rfl rfl)
theorem dX2_isOne_6 : decode cX2_isOne 6 = .ok (.iconst 1, 1) := dk_4 (dk_at dksX2_isOne_0 6 rfl rfl)
theorem dX2_isOne_7 : decode cX2_isOne 7 = .ok (.isub, 1) := dk_100 (dk_at dksX2_isOne_0 7 rfl rfl)
theorem dX2_isOne_8 : decode cX2_isOne 8 = .ok (.invokestatic 47, 3) := dk_184 0 47 (dk_at dksX2_isOne_0 8 rfl rfl)
theorem dX2_isOne_11 : decode cX2_isOne 11 = .ok (.ireturn, 1) := dk_172 (dk_at dksX2_isOne_0 11 rfl rfl)
abbrev cX2_swims : ByteArray := prog_2_method_5_code
def yX2_swims : MethodName := ⟨RX2, "swims", "(I)Z"⟩
def dkwX2_swims_0 : List UInt8 := [42, 180, 0, 21, 27, 46, 16, 7, 160, 0, 7, 4, 167, 0, 4, 3, 172]
abbrev dktX2_swims_0 : List UInt8 := dkwX2_swims_0 ++ []
theorem dksX2_swims_0 : cX2_swims.data.toList.drop 0 = dktX2_swims_0 := by decide +kernel
theorem dX2_swims_0 : decode cX2_swims 0 = .ok (.aload_n 0, 1) := dk_42 (dk_at dksX2_swims_0 0 rfl rfl)
theorem dX2_swims_1 : decode cX2_swims 1 = .ok (.getfield 21, 3) := dk_180 0 21 (dk_at dksX2_swims_0 1 rfl rfl)
theorem dX2_swims_4 : decode cX2_swims 4 = .ok (.iload_n 1, 1) := dk_27 (dk_at dksX2_swims_0 4 rfl rfl)
theorem dX2_swims_5 : decode cX2_swims 5 = .ok (.iaload, 1) := dk_46 (dk_at dksX2_swims_0 5 rfl rfl)
theorem dX2_swims_6 : decode cX2_swims 6 = .ok (.bipush 7, 2) := dk_16 7 (dk_at dksX2_swims_0 6 rfl rfl)
theorem dX2_swims_8 : decode cX2_swims 8 = .ok (.if_icmp .ne 7, 3) := dk_160 0 7 (dk_at dksX2_swims_0 8 rfl rfl)
theorem dX2_swims_11 : decode cX2_swims 11 = .ok (.iconst 1, 1) := dk_4 (dk_at dksX2_swims_0 11 rfl rfl)
theorem dX2_swims_12 : decode cX2_swims 12 = .ok (.goto 4, 3) := dk_167 0 4 (dk_at dksX2_swims_0 12 rfl rfl)
theorem dX2_swims_15 : decode cX2_swims 15 = .ok (.iconst 0, 1) := dk_3 (dk_at dksX2_swims_0 15 rfl rfl)
theorem dX2_swims_16 : decode cX2_swims 16 = .ok (.ireturn, 1) := dk_172 (dk_at dksX2_swims_0 16 rfl rfl)
abbrev cX2_minute : ByteArray := prog_2_method_15_code
def yX2_minute : MethodName := ⟨RX2, "minute", "(II)I"⟩
def dkwX2_minute_5 : List UInt8 := [167, 255, 227, 42, 89, 180, 0, 41, 4, 96, 181, 0, 41, 42, 180, 0, 17, 27, 46, 172]
abbrev dktX2_minute_5 : List UInt8 := dkwX2_minute_5 ++ []
def dkwX2_minute_4 : List UInt8 := [162, 0, 27, 29, 27, 159, 0, 16, 42, 29, 182, 0, 51, 154, 0, 8, 42, 29, 182, 0, 107, 132, 3, 1]
abbrev dktX2_minute_4 : List UInt8 := dkwX2_minute_4 ++ dktX2_minute_5
def dkwX2_minute_3 : List UInt8 := [167, 0, 16, 42, 27, 182, 0, 101, 167, 0, 8, 42, 27, 182, 0, 104, 3, 62, 29, 42, 180, 0, 37]
abbrev dktX2_minute_3 : List UInt8 := dkwX2_minute_3 ++ dktX2_minute_4
def dkwX2_minute_2 : List UInt8 := [42, 27, 42, 180, 0, 11, 27, 50, 182, 0, 85, 182, 0, 65, 167, 0, 24, 42, 27, 182, 0, 97]
abbrev dktX2_minute_2 : List UInt8 := dkwX2_minute_2 ++ dktX2_minute_3
def dkwX2_minute_1 : List UInt8 := [170, 0, 0, 0, 0, 0, 60, 0, 0, 0, 0, 0, 0, 0, 2, 0, 0, 0, 27, 0, 0, 0, 44, 0, 0, 0, 52]
abbrev dktX2_minute_1 : List UInt8 := dkwX2_minute_1 ++ dktX2_minute_2
def dkwX2_minute_0 : List UInt8 := [28]
abbrev dktX2_minute_0 : List UInt8 := dkwX2_minute_0 ++ dktX2_minute_1
theorem dksX2_minute_0 : cX2_minute.data.toList.drop 0 = dktX2_minute_0 := by decide +kernel
theorem dksX2_minute_1 : cX2_minute.data.toList.drop 1 = dktX2_minute_1 := dk_seg dksX2_minute_0 1 rfl rfl
theorem dksX2_minute_2 : cX2_minute.data.toList.drop 28 = dktX2_minute_2 := dk_seg dksX2_minute_1 27 rfl rfl
theorem dksX2_minute_3 : cX2_minute.data.toList.drop 50 = dktX2_minute_3 := dk_seg dksX2_minute_2 22 rfl rfl
theorem dksX2_minute_4 : cX2_minute.data.toList.drop 73 = dktX2_minute_4 := dk_seg dksX2_minute_3 23 rfl rfl
theorem dksX2_minute_5 : cX2_minute.data.toList.drop 97 = dktX2_minute_5 := dk_seg dksX2_minute_4 24 rfl rfl
theorem dX2_minute_0 : decode cX2_minute 0 = .ok (.iload_n 2, 1) := dk_28 (dk_at dksX2_minute_0 0 rfl rfl)
theorem dX2_minute_1 : decode cX2_minute 1 = .ok (.tableswitch 60 0 2 #[27, 44, 52], 27) := by decide +kernel
theorem dX2_minute_28 : decode cX2_minute 28 = .ok (.aload_n 0, 1) := dk_42 (dk_at dksX2_minute_2 0 rfl rfl)
theorem dX2_minute_29 : decode cX2_minute 29 = .ok (.iload_n 1, 1) := dk_27 (dk_at dksX2_minute_2 1 rfl rfl)
theorem dX2_minute_30 : decode cX2_minute 30 = .ok (.aload_n 0, 1) := dk_42 (dk_at dksX2_minute_2 2 rfl rfl)
theorem dX2_minute_31 : decode cX2_minute 31 = .ok (.getfield 11, 3) := dk_180 0 11 (dk_at dksX2_minute_2 3 rfl rfl)
theorem dX2_minute_34 : decode cX2_minute 34 = .ok (.iload_n 1, 1) := dk_27 (dk_at dksX2_minute_2 6 rfl rfl)
theorem dX2_minute_35 : decode cX2_minute 35 = .ok (.aaload, 1) := dk_50 (dk_at dksX2_minute_2 7 rfl rfl)
theorem dX2_minute_36 : decode cX2_minute 36 = .ok (.invokevirtual 85, 3) := dk_182 0 85 (dk_at dksX2_minute_2 8 rfl rfl)
theorem dX2_minute_39 : decode cX2_minute 39 = .ok (.invokevirtual 65, 3) := dk_182 0 65 (dk_at dksX2_minute_2 11 rfl rfl)
theorem dX2_minute_42 : decode cX2_minute 42 = .ok (.goto 24, 3) := dk_167 0 24 (dk_at dksX2_minute_2 14 rfl rfl)
theorem dX2_minute_45 : decode cX2_minute 45 = .ok (.aload_n 0, 1) := dk_42 (dk_at dksX2_minute_2 17 rfl rfl)
theorem dX2_minute_46 : decode cX2_minute 46 = .ok (.iload_n 1, 1) := dk_27 (dk_at dksX2_minute_2 18 rfl rfl)
theorem dX2_minute_47 : decode cX2_minute 47 = .ok (.invokevirtual 97, 3) := dk_182 0 97 (dk_at dksX2_minute_2 19 rfl rfl)
theorem dX2_minute_50 : decode cX2_minute 50 = .ok (.goto 16, 3) := dk_167 0 16 (dk_at dksX2_minute_3 0 rfl rfl)
theorem dX2_minute_53 : decode cX2_minute 53 = .ok (.aload_n 0, 1) := dk_42 (dk_at dksX2_minute_3 3 rfl rfl)
theorem dX2_minute_54 : decode cX2_minute 54 = .ok (.iload_n 1, 1) := dk_27 (dk_at dksX2_minute_3 4 rfl rfl)
theorem dX2_minute_55 : decode cX2_minute 55 = .ok (.invokevirtual 101, 3) := dk_182 0 101 (dk_at dksX2_minute_3 5 rfl rfl)
theorem dX2_minute_58 : decode cX2_minute 58 = .ok (.goto 8, 3) := dk_167 0 8 (dk_at dksX2_minute_3 8 rfl rfl)
theorem dX2_minute_61 : decode cX2_minute 61 = .ok (.aload_n 0, 1) := dk_42 (dk_at dksX2_minute_3 11 rfl rfl)
theorem dX2_minute_62 : decode cX2_minute 62 = .ok (.iload_n 1, 1) := dk_27 (dk_at dksX2_minute_3 12 rfl rfl)
theorem dX2_minute_63 : decode cX2_minute 63 = .ok (.invokevirtual 104, 3) := dk_182 0 104 (dk_at dksX2_minute_3 13 rfl rfl)
theorem dX2_minute_66 : decode cX2_minute 66 = .ok (.iconst 0, 1) := dk_3 (dk_at dksX2_minute_3 16 rfl rfl)
theorem dX2_minute_67 : decode cX2_minute 67 = .ok (.istore_n 3, 1) := dk_62 (dk_at dksX2_minute_3 17 rfl rfl)
theorem dX2_minute_68 : decode cX2_minute 68 = .ok (.iload_n 3, 1) := dk_29 (dk_at dksX2_minute_3 18 rfl rfl)
theorem dX2_minute_69 : decode cX2_minute 69 = .ok (.aload_n 0, 1) := dk_42 (dk_at dksX2_minute_3 19 rfl rfl)
theorem dX2_minute_70 : decode cX2_minute 70 = .ok (.getfield 37, 3) := dk_180 0 37 (dk_at dksX2_minute_3 20 rfl rfl)
theorem dX2_minute_73 : decode cX2_minute 73 = .ok (.if_icmp .ge 27, 3) := dk_162 0 27 (dk_at dksX2_minute_4 0 rfl rfl)
theorem dX2_minute_76 : decode cX2_minute 76 = .ok (.iload_n 3, 1) := dk_29 (dk_at dksX2_minute_4 3 rfl rfl)
theorem dX2_minute_77 : decode cX2_minute 77 = .ok (.iload_n 1, 1) := dk_27 (dk_at dksX2_minute_4 4 rfl rfl)
theorem dX2_minute_78 : decode cX2_minute 78 = .ok (.if_icmp .eq 16, 3) := dk_159 0 16 (dk_at dksX2_minute_4 5 rfl rfl)
theorem dX2_minute_81 : decode cX2_minute 81 = .ok (.aload_n 0, 1) := dk_42 (dk_at dksX2_minute_4 8 rfl rfl)
theorem dX2_minute_82 : decode cX2_minute 82 = .ok (.iload_n 3, 1) := dk_29 (dk_at dksX2_minute_4 9 rfl rfl)
theorem dX2_minute_83 : decode cX2_minute 83 = .ok (.invokevirtual 51, 3) := dk_182 0 51 (dk_at dksX2_minute_4 10 rfl rfl)
theorem dX2_minute_86 : decode cX2_minute 86 = .ok (.ifCond .ne 8, 3) := dk_154 0 8 (dk_at dksX2_minute_4 13 rfl rfl)
theorem dX2_minute_89 : decode cX2_minute 89 = .ok (.aload_n 0, 1) := dk_42 (dk_at dksX2_minute_4 16 rfl rfl)
theorem dX2_minute_90 : decode cX2_minute 90 = .ok (.iload_n 3, 1) := dk_29 (dk_at dksX2_minute_4 17 rfl rfl)
theorem dX2_minute_91 : decode cX2_minute 91 = .ok (.invokevirtual 107, 3) := dk_182 0 107 (dk_at dksX2_minute_4 18 rfl rfl)
theorem dX2_minute_94 : decode cX2_minute 94 = .ok (.iinc 3 1, 3) := dk_132 3 1 (dk_at dksX2_minute_4 21 rfl rfl)
theorem dX2_minute_97 : decode cX2_minute 97 = .ok (.goto (-29), 3) := dk_167 255 227 (dk_at dksX2_minute_5 0 rfl rfl)
theorem dX2_minute_100 : decode cX2_minute 100 = .ok (.aload_n 0, 1) := dk_42 (dk_at dksX2_minute_5 3 rfl rfl)
theorem dX2_minute_101 : decode cX2_minute 101 = .ok (.dup, 1) := dk_89 (dk_at dksX2_minute_5 4 rfl rfl)
theorem dX2_minute_102 : decode cX2_minute 102 = .ok (.getfield 41, 3) := dk_180 0 41 (dk_at dksX2_minute_5 5 rfl rfl)
theorem dX2_minute_105 : decode cX2_minute 105 = .ok (.iconst 1, 1) := dk_4 (dk_at dksX2_minute_5 8 rfl rfl)
theorem dX2_minute_106 : decode cX2_minute 106 = .ok (.iadd, 1) := dk_96 (dk_at dksX2_minute_5 9 rfl rfl)
theorem dX2_minute_107 : decode cX2_minute 107 = .ok (.putfield 41, 3) := dk_181 0 41 (dk_at dksX2_minute_5 10 rfl rfl)
theorem dX2_minute_110 : decode cX2_minute 110 = .ok (.aload_n 0, 1) := dk_42 (dk_at dksX2_minute_5 13 rfl rfl)
theorem dX2_minute_111 : decode cX2_minute 111 = .ok (.getfield 17, 3) := dk_180 0 17 (dk_at dksX2_minute_5 14 rfl rfl)
theorem dX2_minute_114 : decode cX2_minute 114 = .ok (.iload_n 1, 1) := dk_27 (dk_at dksX2_minute_5 17 rfl rfl)
theorem dX2_minute_115 : decode cX2_minute 115 = .ok (.iaload, 1) := dk_46 (dk_at dksX2_minute_5 18 rfl rfl)
theorem dX2_minute_116 : decode cX2_minute 116 = .ok (.ireturn, 1) := dk_172 (dk_at dksX2_minute_5 19 rfl rfl)
abbrev cX2_gains : ByteArray := prog_2_method_8_code
def yX2_gains : MethodName := ⟨RX2, "gains", "(II)V"⟩
def dkwX2_gains_1 : List UInt8 := [79, 177]
abbrev dktX2_gains_1 : List UInt8 := dkwX2_gains_1 ++ []
def dkwX2_gains_0 : List UInt8 := [42, 27, 182, 0, 59, 153, 0, 20, 42, 180, 0, 17, 27, 42, 180, 0, 17, 27, 46, 28, 96, 184, 0, 62]
abbrev dktX2_gains_0 : List UInt8 := dkwX2_gains_0 ++ dktX2_gains_1
theorem dksX2_gains_0 : cX2_gains.data.toList.drop 0 = dktX2_gains_0 := by decide +kernel
theorem dksX2_gains_1 : cX2_gains.data.toList.drop 24 = dktX2_gains_1 := dk_seg dksX2_gains_0 24 rfl rfl
theorem dX2_gains_0 : decode cX2_gains 0 = .ok (.aload_n 0, 1) := dk_42 (dk_at dksX2_gains_0 0 rfl rfl)
theorem dX2_gains_1 : decode cX2_gains 1 = .ok (.iload_n 1, 1) := dk_27 (dk_at dksX2_gains_0 1 rfl rfl)
theorem dX2_gains_2 : decode cX2_gains 2 = .ok (.invokevirtual 59, 3) := dk_182 0 59 (dk_at dksX2_gains_0 2 rfl rfl)
theorem dX2_gains_5 : decode cX2_gains 5 = .ok (.ifCond .eq 20, 3) := dk_153 0 20 (dk_at dksX2_gains_0 5 rfl rfl)
theorem dX2_gains_8 : decode cX2_gains 8 = .ok (.aload_n 0, 1) := dk_42 (dk_at dksX2_gains_0 8 rfl rfl)
theorem dX2_gains_9 : decode cX2_gains 9 = .ok (.getfield 17, 3) := dk_180 0 17 (dk_at dksX2_gains_0 9 rfl rfl)
theorem dX2_gains_12 : decode cX2_gains 12 = .ok (.iload_n 1, 1) := dk_27 (dk_at dksX2_gains_0 12 rfl rfl)
theorem dX2_gains_13 : decode cX2_gains 13 = .ok (.aload_n 0, 1) := dk_42 (dk_at dksX2_gains_0 13 rfl rfl)
theorem dX2_gains_14 : decode cX2_gains 14 = .ok (.getfield 17, 3) := dk_180 0 17 (dk_at dksX2_gains_0 14 rfl rfl)
theorem dX2_gains_17 : decode cX2_gains 17 = .ok (.iload_n 1, 1) := dk_27 (dk_at dksX2_gains_0 17 rfl rfl)
theorem dX2_gains_18 : decode cX2_gains 18 = .ok (.iaload, 1) := dk_46 (dk_at dksX2_gains_0 18 rfl rfl)
theorem dX2_gains_19 : decode cX2_gains 19 = .ok (.iload_n 2, 1) := dk_28 (dk_at dksX2_gains_0 19 rfl rfl)
theorem dX2_gains_20 : decode cX2_gains 20 = .ok (.iadd, 1) := dk_96 (dk_at dksX2_gains_0 20 rfl rfl)
theorem dX2_gains_21 : decode cX2_gains 21 = .ok (.invokestatic 62, 3) := dk_184 0 62 (dk_at dksX2_gains_0 21 rfl rfl)
theorem dX2_gains_24 : decode cX2_gains 24 = .ok (.iastore, 1) := dk_79 (dk_at dksX2_gains_1 0 rfl rfl)
theorem dX2_gains_25 : decode cX2_gains 25 = .ok (.return_, 1) := dk_177 (dk_at dksX2_gains_1 1 rfl rfl)
abbrev cX2_fingers : ByteArray := prog_2_method_13_code
def yX2_fingers : MethodName := ⟨RX2, "fingers", "(I)V"⟩
def dkwX2_fingers_2 : List UInt8 := [27, 92, 46, 4, 96, 79, 177]
abbrev dktX2_fingers_2 : List UInt8 := dkwX2_fingers_2 ++ []
def dkwX2_fingers_1 : List UInt8 := [42, 180, 0, 11, 27, 50, 42, 180, 0, 21, 27, 46, 182, 0, 55, 6, 96, 161, 0, 13, 42, 180, 0, 21]
abbrev dktX2_fingers_1 : List UInt8 := dkwX2_fingers_1 ++ dktX2_fingers_2
def dkwX2_fingers_0 : List UInt8 := [42, 27, 42, 180, 0, 11, 27, 50, 182, 0, 85, 5, 108, 4, 96, 182, 0, 65, 42, 180, 0, 17, 27, 46]
abbrev dktX2_fingers_0 : List UInt8 := dkwX2_fingers_0 ++ dktX2_fingers_1
theorem dksX2_fingers_0 : cX2_fingers.data.toList.drop 0 = dktX2_fingers_0 := by decide +kernel
theorem dksX2_fingers_1 : cX2_fingers.data.toList.drop 24 = dktX2_fingers_1 := dk_seg dksX2_fingers_0 24 rfl rfl
theorem dksX2_fingers_2 : cX2_fingers.data.toList.drop 48 = dktX2_fingers_2 := dk_seg dksX2_fingers_1 24 rfl rfl
theorem dX2_fingers_0 : decode cX2_fingers 0 = .ok (.aload_n 0, 1) := dk_42 (dk_at dksX2_fingers_0 0 rfl rfl)
theorem dX2_fingers_1 : decode cX2_fingers 1 = .ok (.iload_n 1, 1) := dk_27 (dk_at dksX2_fingers_0 1 rfl rfl)
theorem dX2_fingers_2 : decode cX2_fingers 2 = .ok (.aload_n 0, 1) := dk_42 (dk_at dksX2_fingers_0 2 rfl rfl)
theorem dX2_fingers_3 : decode cX2_fingers 3 = .ok (.getfield 11, 3) := dk_180 0 11 (dk_at dksX2_fingers_0 3 rfl rfl)
theorem dX2_fingers_6 : decode cX2_fingers 6 = .ok (.iload_n 1, 1) := dk_27 (dk_at dksX2_fingers_0 6 rfl rfl)
theorem dX2_fingers_7 : decode cX2_fingers 7 = .ok (.aaload, 1) := dk_50 (dk_at dksX2_fingers_0 7 rfl rfl)
theorem dX2_fingers_8 : decode cX2_fingers 8 = .ok (.invokevirtual 85, 3) := dk_182 0 85 (dk_at dksX2_fingers_0 8 rfl rfl)
theorem dX2_fingers_11 : decode cX2_fingers 11 = .ok (.iconst 2, 1) := dk_5 (dk_at dksX2_fingers_0 11 rfl rfl)
theorem dX2_fingers_12 : decode cX2_fingers 12 = .ok (.idiv, 1) := dk_108 (dk_at dksX2_fingers_0 12 rfl rfl)
theorem dX2_fingers_13 : decode cX2_fingers 13 = .ok (.iconst 1, 1) := dk_4 (dk_at dksX2_fingers_0 13 rfl rfl)
theorem dX2_fingers_14 : decode cX2_fingers 14 = .ok (.iadd, 1) := dk_96 (dk_at dksX2_fingers_0 14 rfl rfl)
theorem dX2_fingers_15 : decode cX2_fingers 15 = .ok (.invokevirtual 65, 3) := dk_182 0 65 (dk_at dksX2_fingers_0 15 rfl rfl)
theorem dX2_fingers_18 : decode cX2_fingers 18 = .ok (.aload_n 0, 1) := dk_42 (dk_at dksX2_fingers_0 18 rfl rfl)
theorem dX2_fingers_19 : decode cX2_fingers 19 = .ok (.getfield 17, 3) := dk_180 0 17 (dk_at dksX2_fingers_0 19 rfl rfl)
theorem dX2_fingers_22 : decode cX2_fingers 22 = .ok (.iload_n 1, 1) := dk_27 (dk_at dksX2_fingers_0 22 rfl rfl)
theorem dX2_fingers_23 : decode cX2_fingers 23 = .ok (.iaload, 1) := dk_46 (dk_at dksX2_fingers_0 23 rfl rfl)
theorem dX2_fingers_24 : decode cX2_fingers 24 = .ok (.aload_n 0, 1) := dk_42 (dk_at dksX2_fingers_1 0 rfl rfl)
theorem dX2_fingers_25 : decode cX2_fingers 25 = .ok (.getfield 11, 3) := dk_180 0 11 (dk_at dksX2_fingers_1 1 rfl rfl)
theorem dX2_fingers_28 : decode cX2_fingers 28 = .ok (.iload_n 1, 1) := dk_27 (dk_at dksX2_fingers_1 4 rfl rfl)
theorem dX2_fingers_29 : decode cX2_fingers 29 = .ok (.aaload, 1) := dk_50 (dk_at dksX2_fingers_1 5 rfl rfl)
theorem dX2_fingers_30 : decode cX2_fingers 30 = .ok (.aload_n 0, 1) := dk_42 (dk_at dksX2_fingers_1 6 rfl rfl)
theorem dX2_fingers_31 : decode cX2_fingers 31 = .ok (.getfield 21, 3) := dk_180 0 21 (dk_at dksX2_fingers_1 7 rfl rfl)
theorem dX2_fingers_34 : decode cX2_fingers 34 = .ok (.iload_n 1, 1) := dk_27 (dk_at dksX2_fingers_1 10 rfl rfl)
theorem dX2_fingers_35 : decode cX2_fingers 35 = .ok (.iaload, 1) := dk_46 (dk_at dksX2_fingers_1 11 rfl rfl)
theorem dX2_fingers_36 : decode cX2_fingers 36 = .ok (.invokevirtual 55, 3) := dk_182 0 55 (dk_at dksX2_fingers_1 12 rfl rfl)
theorem dX2_fingers_39 : decode cX2_fingers 39 = .ok (.iconst 3, 1) := dk_6 (dk_at dksX2_fingers_1 15 rfl rfl)
theorem dX2_fingers_40 : decode cX2_fingers 40 = .ok (.iadd, 1) := dk_96 (dk_at dksX2_fingers_1 16 rfl rfl)
theorem dX2_fingers_41 : decode cX2_fingers 41 = .ok (.if_icmp .lt 13, 3) := dk_161 0 13 (dk_at dksX2_fingers_1 17 rfl rfl)
theorem dX2_fingers_44 : decode cX2_fingers 44 = .ok (.aload_n 0, 1) := dk_42 (dk_at dksX2_fingers_1 20 rfl rfl)
theorem dX2_fingers_45 : decode cX2_fingers 45 = .ok (.getfield 21, 3) := dk_180 0 21 (dk_at dksX2_fingers_1 21 rfl rfl)
theorem dX2_fingers_48 : decode cX2_fingers 48 = .ok (.iload_n 1, 1) := dk_27 (dk_at dksX2_fingers_2 0 rfl rfl)
theorem dX2_fingers_49 : decode cX2_fingers 49 = .ok (.dup2, 1) := dk_92 (dk_at dksX2_fingers_2 1 rfl rfl)
theorem dX2_fingers_50 : decode cX2_fingers 50 = .ok (.iaload, 1) := dk_46 (dk_at dksX2_fingers_2 2 rfl rfl)
theorem dX2_fingers_51 : decode cX2_fingers 51 = .ok (.iconst 1, 1) := dk_4 (dk_at dksX2_fingers_2 3 rfl rfl)
theorem dX2_fingers_52 : decode cX2_fingers 52 = .ok (.iadd, 1) := dk_96 (dk_at dksX2_fingers_2 4 rfl rfl)
theorem dX2_fingers_53 : decode cX2_fingers 53 = .ok (.iastore, 1) := dk_79 (dk_at dksX2_fingers_2 5 rfl rfl)
theorem dX2_fingers_54 : decode cX2_fingers 54 = .ok (.return_, 1) := dk_177 (dk_at dksX2_fingers_2 6 rfl rfl)
abbrev cX2_letGo : ByteArray := prog_2_method_10_code
def yX2_letGo : MethodName := ⟨RX2, "letGo", "(I)V"⟩
def dkwX2_letGo_2 : List UInt8 := [27, 42, 180, 0, 11, 27, 50, 182, 0, 78, 116, 182, 0, 65, 42, 27, 28, 116, 182, 0, 76, 177]
abbrev dktX2_letGo_2 : List UInt8 := dkwX2_letGo_2 ++ []
def dkwX2_letGo_1 : List UInt8 := [46, 4, 96, 79, 42, 27, 28, 182, 0, 76, 167, 0, 35, 42, 89, 180, 0, 44, 4, 96, 181, 0, 44, 42]
abbrev dktX2_letGo_1 : List UInt8 := dkwX2_letGo_1 ++ dktX2_letGo_2
def dkwX2_letGo_0 : List UInt8 := [42, 180, 0, 11, 27, 50, 182, 0, 69, 61, 42, 27, 182, 0, 73, 153, 0, 22, 42, 180, 0, 21, 27, 92]
abbrev dktX2_letGo_0 : List UInt8 := dkwX2_letGo_0 ++ dktX2_letGo_1
theorem dksX2_letGo_0 : cX2_letGo.data.toList.drop 0 = dktX2_letGo_0 := by decide +kernel
theorem dksX2_letGo_1 : cX2_letGo.data.toList.drop 24 = dktX2_letGo_1 := dk_seg dksX2_letGo_0 24 rfl rfl
theorem dksX2_letGo_2 : cX2_letGo.data.toList.drop 48 = dktX2_letGo_2 := dk_seg dksX2_letGo_1 24 rfl rfl
theorem dX2_letGo_0 : decode cX2_letGo 0 = .ok (.aload_n 0, 1) := dk_42 (dk_at dksX2_letGo_0 0 rfl rfl)
theorem dX2_letGo_1 : decode cX2_letGo 1 = .ok (.getfield 11, 3) := dk_180 0 11 (dk_at dksX2_letGo_0 1 rfl rfl)
theorem dX2_letGo_4 : decode cX2_letGo 4 = .ok (.iload_n 1, 1) := dk_27 (dk_at dksX2_letGo_0 4 rfl rfl)
theorem dX2_letGo_5 : decode cX2_letGo 5 = .ok (.aaload, 1) := dk_50 (dk_at dksX2_letGo_0 5 rfl rfl)
theorem dX2_letGo_6 : decode cX2_letGo 6 = .ok (.invokevirtual 69, 3) := dk_182 0 69 (dk_at dksX2_letGo_0 6 rfl rfl)
theorem dX2_letGo_9 : decode cX2_letGo 9 = .ok (.istore_n 2, 1) := dk_61 (dk_at dksX2_letGo_0 9 rfl rfl)
theorem dX2_letGo_10 : decode cX2_letGo 10 = .ok (.aload_n 0, 1) := dk_42 (dk_at dksX2_letGo_0 10 rfl rfl)
theorem dX2_letGo_11 : decode cX2_letGo 11 = .ok (.iload_n 1, 1) := dk_27 (dk_at dksX2_letGo_0 11 rfl rfl)
theorem dX2_letGo_12 : decode cX2_letGo 12 = .ok (.invokevirtual 73, 3) := dk_182 0 73 (dk_at dksX2_letGo_0 12 rfl rfl)
theorem dX2_letGo_15 : decode cX2_letGo 15 = .ok (.ifCond .eq 22, 3) := dk_153 0 22 (dk_at dksX2_letGo_0 15 rfl rfl)
theorem dX2_letGo_18 : decode cX2_letGo 18 = .ok (.aload_n 0, 1) := dk_42 (dk_at dksX2_letGo_0 18 rfl rfl)
theorem dX2_letGo_19 : decode cX2_letGo 19 = .ok (.getfield 21, 3) := dk_180 0 21 (dk_at dksX2_letGo_0 19 rfl rfl)
theorem dX2_letGo_22 : decode cX2_letGo 22 = .ok (.iload_n 1, 1) := dk_27 (dk_at dksX2_letGo_0 22 rfl rfl)
theorem dX2_letGo_23 : decode cX2_letGo 23 = .ok (.dup2, 1) := dk_92 (dk_at dksX2_letGo_0 23 rfl rfl)
theorem dX2_letGo_24 : decode cX2_letGo 24 = .ok (.iaload, 1) := dk_46 (dk_at dksX2_letGo_1 0 rfl rfl)
theorem dX2_letGo_25 : decode cX2_letGo 25 = .ok (.iconst 1, 1) := dk_4 (dk_at dksX2_letGo_1 1 rfl rfl)
theorem dX2_letGo_26 : decode cX2_letGo 26 = .ok (.iadd, 1) := dk_96 (dk_at dksX2_letGo_1 2 rfl rfl)
theorem dX2_letGo_27 : decode cX2_letGo 27 = .ok (.iastore, 1) := dk_79 (dk_at dksX2_letGo_1 3 rfl rfl)
theorem dX2_letGo_28 : decode cX2_letGo 28 = .ok (.aload_n 0, 1) := dk_42 (dk_at dksX2_letGo_1 4 rfl rfl)
theorem dX2_letGo_29 : decode cX2_letGo 29 = .ok (.iload_n 1, 1) := dk_27 (dk_at dksX2_letGo_1 5 rfl rfl)
theorem dX2_letGo_30 : decode cX2_letGo 30 = .ok (.iload_n 2, 1) := dk_28 (dk_at dksX2_letGo_1 6 rfl rfl)
theorem dX2_letGo_31 : decode cX2_letGo 31 = .ok (.invokevirtual 76, 3) := dk_182 0 76 (dk_at dksX2_letGo_1 7 rfl rfl)
theorem dX2_letGo_34 : decode cX2_letGo 34 = .ok (.goto 35, 3) := dk_167 0 35 (dk_at dksX2_letGo_1 10 rfl rfl)
theorem dX2_letGo_37 : decode cX2_letGo 37 = .ok (.aload_n 0, 1) := dk_42 (dk_at dksX2_letGo_1 13 rfl rfl)
theorem dX2_letGo_38 : decode cX2_letGo 38 = .ok (.dup, 1) := dk_89 (dk_at dksX2_letGo_1 14 rfl rfl)
theorem dX2_letGo_39 : decode cX2_letGo 39 = .ok (.getfield 44, 3) := dk_180 0 44 (dk_at dksX2_letGo_1 15 rfl rfl)
theorem dX2_letGo_42 : decode cX2_letGo 42 = .ok (.iconst 1, 1) := dk_4 (dk_at dksX2_letGo_1 18 rfl rfl)
theorem dX2_letGo_43 : decode cX2_letGo 43 = .ok (.iadd, 1) := dk_96 (dk_at dksX2_letGo_1 19 rfl rfl)
theorem dX2_letGo_44 : decode cX2_letGo 44 = .ok (.putfield 44, 3) := dk_181 0 44 (dk_at dksX2_letGo_1 20 rfl rfl)
theorem dX2_letGo_47 : decode cX2_letGo 47 = .ok (.aload_n 0, 1) := dk_42 (dk_at dksX2_letGo_1 23 rfl rfl)
theorem dX2_letGo_48 : decode cX2_letGo 48 = .ok (.iload_n 1, 1) := dk_27 (dk_at dksX2_letGo_2 0 rfl rfl)
theorem dX2_letGo_49 : decode cX2_letGo 49 = .ok (.aload_n 0, 1) := dk_42 (dk_at dksX2_letGo_2 1 rfl rfl)
theorem dX2_letGo_50 : decode cX2_letGo 50 = .ok (.getfield 11, 3) := dk_180 0 11 (dk_at dksX2_letGo_2 2 rfl rfl)
theorem dX2_letGo_53 : decode cX2_letGo 53 = .ok (.iload_n 1, 1) := dk_27 (dk_at dksX2_letGo_2 5 rfl rfl)
theorem dX2_letGo_54 : decode cX2_letGo 54 = .ok (.aaload, 1) := dk_50 (dk_at dksX2_letGo_2 6 rfl rfl)
theorem dX2_letGo_55 : decode cX2_letGo 55 = .ok (.invokevirtual 78, 3) := dk_182 0 78 (dk_at dksX2_letGo_2 7 rfl rfl)
theorem dX2_letGo_58 : decode cX2_letGo 58 = .ok (.ineg, 1) := dk_116 (dk_at dksX2_letGo_2 10 rfl rfl)
theorem dX2_letGo_59 : decode cX2_letGo 59 = .ok (.invokevirtual 65, 3) := dk_182 0 65 (dk_at dksX2_letGo_2 11 rfl rfl)
theorem dX2_letGo_62 : decode cX2_letGo 62 = .ok (.aload_n 0, 1) := dk_42 (dk_at dksX2_letGo_2 14 rfl rfl)
theorem dX2_letGo_63 : decode cX2_letGo 63 = .ok (.iload_n 1, 1) := dk_27 (dk_at dksX2_letGo_2 15 rfl rfl)
theorem dX2_letGo_64 : decode cX2_letGo 64 = .ok (.iload_n 2, 1) := dk_28 (dk_at dksX2_letGo_2 16 rfl rfl)
theorem dX2_letGo_65 : decode cX2_letGo 65 = .ok (.ineg, 1) := dk_116 (dk_at dksX2_letGo_2 17 rfl rfl)
theorem dX2_letGo_66 : decode cX2_letGo 66 = .ok (.invokevirtual 76, 3) := dk_182 0 76 (dk_at dksX2_letGo_2 18 rfl rfl)
theorem dX2_letGo_69 : decode cX2_letGo 69 = .ok (.return_, 1) := dk_177 (dk_at dksX2_letGo_2 21 rfl rfl)
abbrev cX2_isReady : ByteArray := prog_2_method_6_code
def yX2_isReady : MethodName := ⟨RX2, "isReady", "(I)Z"⟩
def dkwX2_isReady_1 : List UInt8 := [27, 46, 182, 0, 55, 161, 0, 7, 4, 167, 0, 4, 3, 172]
abbrev dktX2_isReady_1 : List UInt8 := dkwX2_isReady_1 ++ []
def dkwX2_isReady_0 : List UInt8 := [42, 27, 182, 0, 51, 154, 0, 31, 42, 180, 0, 17, 27, 46, 42, 180, 0, 11, 27, 50, 42, 180, 0, 21]
abbrev dktX2_isReady_0 : List UInt8 := dkwX2_isReady_0 ++ dktX2_isReady_1
theorem dksX2_isReady_0 : cX2_isReady.data.toList.drop 0 = dktX2_isReady_0 := by decide +kernel
theorem dksX2_isReady_1 : cX2_isReady.data.toList.drop 24 = dktX2_isReady_1 := dk_seg dksX2_isReady_0 24 rfl rfl
theorem dX2_isReady_0 : decode cX2_isReady 0 = .ok (.aload_n 0, 1) := dk_42 (dk_at dksX2_isReady_0 0 rfl rfl)
theorem dX2_isReady_1 : decode cX2_isReady 1 = .ok (.iload_n 1, 1) := dk_27 (dk_at dksX2_isReady_0 1 rfl rfl)
theorem dX2_isReady_2 : decode cX2_isReady 2 = .ok (.invokevirtual 51, 3) := dk_182 0 51 (dk_at dksX2_isReady_0 2 rfl rfl)
theorem dX2_isReady_5 : decode cX2_isReady 5 = .ok (.ifCond .ne 31, 3) := dk_154 0 31 (dk_at dksX2_isReady_0 5 rfl rfl)
theorem dX2_isReady_8 : decode cX2_isReady 8 = .ok (.aload_n 0, 1) := dk_42 (dk_at dksX2_isReady_0 8 rfl rfl)
theorem dX2_isReady_9 : decode cX2_isReady 9 = .ok (.getfield 17, 3) := dk_180 0 17 (dk_at dksX2_isReady_0 9 rfl rfl)
theorem dX2_isReady_12 : decode cX2_isReady 12 = .ok (.iload_n 1, 1) := dk_27 (dk_at dksX2_isReady_0 12 rfl rfl)
theorem dX2_isReady_13 : decode cX2_isReady 13 = .ok (.iaload, 1) := dk_46 (dk_at dksX2_isReady_0 13 rfl rfl)
theorem dX2_isReady_14 : decode cX2_isReady 14 = .ok (.aload_n 0, 1) := dk_42 (dk_at dksX2_isReady_0 14 rfl rfl)
theorem dX2_isReady_15 : decode cX2_isReady 15 = .ok (.getfield 11, 3) := dk_180 0 11 (dk_at dksX2_isReady_0 15 rfl rfl)
theorem dX2_isReady_18 : decode cX2_isReady 18 = .ok (.iload_n 1, 1) := dk_27 (dk_at dksX2_isReady_0 18 rfl rfl)
theorem dX2_isReady_19 : decode cX2_isReady 19 = .ok (.aaload, 1) := dk_50 (dk_at dksX2_isReady_0 19 rfl rfl)
theorem dX2_isReady_20 : decode cX2_isReady 20 = .ok (.aload_n 0, 1) := dk_42 (dk_at dksX2_isReady_0 20 rfl rfl)
theorem dX2_isReady_21 : decode cX2_isReady 21 = .ok (.getfield 21, 3) := dk_180 0 21 (dk_at dksX2_isReady_0 21 rfl rfl)
theorem dX2_isReady_24 : decode cX2_isReady 24 = .ok (.iload_n 1, 1) := dk_27 (dk_at dksX2_isReady_1 0 rfl rfl)
theorem dX2_isReady_25 : decode cX2_isReady 25 = .ok (.iaload, 1) := dk_46 (dk_at dksX2_isReady_1 1 rfl rfl)
theorem dX2_isReady_26 : decode cX2_isReady 26 = .ok (.invokevirtual 55, 3) := dk_182 0 55 (dk_at dksX2_isReady_1 2 rfl rfl)
theorem dX2_isReady_29 : decode cX2_isReady 29 = .ok (.if_icmp .lt 7, 3) := dk_161 0 7 (dk_at dksX2_isReady_1 5 rfl rfl)
theorem dX2_isReady_32 : decode cX2_isReady 32 = .ok (.iconst 1, 1) := dk_4 (dk_at dksX2_isReady_1 8 rfl rfl)
theorem dX2_isReady_33 : decode cX2_isReady 33 = .ok (.goto 4, 3) := dk_167 0 4 (dk_at dksX2_isReady_1 9 rfl rfl)
theorem dX2_isReady_36 : decode cX2_isReady 36 = .ok (.iconst 0, 1) := dk_3 (dk_at dksX2_isReady_1 12 rfl rfl)
theorem dX2_isReady_37 : decode cX2_isReady 37 = .ok (.ireturn, 1) := dk_172 (dk_at dksX2_isReady_1 13 rfl rfl)
abbrev cX2_passes : ByteArray := prog_2_method_9_code
def yX2_passes : MethodName := ⟨RX2, "passes", "(II)V"⟩
def dkwX2_passes_0 : List UInt8 := [42, 27, 4, 100, 28, 182, 0, 65, 42, 27, 4, 96, 28, 182, 0, 65, 177]
abbrev dktX2_passes_0 : List UInt8 := dkwX2_passes_0 ++ []
theorem dksX2_passes_0 : cX2_passes.data.toList.drop 0 = dktX2_passes_0 := by decide +kernel
theorem dX2_passes_0 : decode cX2_passes 0 = .ok (.aload_n 0, 1) := dk_42 (dk_at dksX2_passes_0 0 rfl rfl)
theorem dX2_passes_1 : decode cX2_passes 1 = .ok (.iload_n 1, 1) := dk_27 (dk_at dksX2_passes_0 1 rfl rfl)
theorem dX2_passes_2 : decode cX2_passes 2 = .ok (.iconst 1, 1) := dk_4 (dk_at dksX2_passes_0 2 rfl rfl)
theorem dX2_passes_3 : decode cX2_passes 3 = .ok (.isub, 1) := dk_100 (dk_at dksX2_passes_0 3 rfl rfl)
theorem dX2_passes_4 : decode cX2_passes 4 = .ok (.iload_n 2, 1) := dk_28 (dk_at dksX2_passes_0 4 rfl rfl)
theorem dX2_passes_5 : decode cX2_passes 5 = .ok (.invokevirtual 65, 3) := dk_182 0 65 (dk_at dksX2_passes_0 5 rfl rfl)
theorem dX2_passes_8 : decode cX2_passes 8 = .ok (.aload_n 0, 1) := dk_42 (dk_at dksX2_passes_0 8 rfl rfl)
theorem dX2_passes_9 : decode cX2_passes 9 = .ok (.iload_n 1, 1) := dk_27 (dk_at dksX2_passes_0 9 rfl rfl)
theorem dX2_passes_10 : decode cX2_passes 10 = .ok (.iconst 1, 1) := dk_4 (dk_at dksX2_passes_0 10 rfl rfl)
theorem dX2_passes_11 : decode cX2_passes 11 = .ok (.iadd, 1) := dk_96 (dk_at dksX2_passes_0 11 rfl rfl)
theorem dX2_passes_12 : decode cX2_passes 12 = .ok (.iload_n 2, 1) := dk_28 (dk_at dksX2_passes_0 12 rfl rfl)
theorem dX2_passes_13 : decode cX2_passes 13 = .ok (.invokevirtual 65, 3) := dk_182 0 65 (dk_at dksX2_passes_0 13 rfl rfl)
theorem dX2_passes_16 : decode cX2_passes 16 = .ok (.return_, 1) := dk_177 (dk_at dksX2_passes_0 16 rfl rfl)
abbrev cX2_isShown : ByteArray := prog_2_method_12_code
def yX2_isShown : MethodName := ⟨RX2, "isShown", "(I)V"⟩
def dkwX2_isShown_2 : List UInt8 := [27, 182, 0, 81, 153, 0, 7, 5, 167, 0, 8, 4, 167, 0, 4, 3, 182, 0, 65, 177]
abbrev dktX2_isShown_2 : List UInt8 := dkwX2_isShown_2 ++ []
def dkwX2_isShown_1 : List UInt8 := [167, 255, 236, 42, 27, 28, 153, 0, 33, 42, 27, 4, 100, 27, 182, 0, 81, 154, 0, 14, 42, 27, 4, 96]
abbrev dktX2_isShown_1 : List UInt8 := dkwX2_isShown_1 ++ dktX2_isShown_2
def dkwX2_isShown_0 : List UInt8 := [3, 61, 3, 62, 29, 42, 180, 0, 37, 162, 0, 18, 28, 42, 29, 27, 182, 0, 81, 128, 61, 132, 3, 1]
abbrev dktX2_isShown_0 : List UInt8 := dkwX2_isShown_0 ++ dktX2_isShown_1
theorem dksX2_isShown_0 : cX2_isShown.data.toList.drop 0 = dktX2_isShown_0 := by decide +kernel
theorem dksX2_isShown_1 : cX2_isShown.data.toList.drop 24 = dktX2_isShown_1 := dk_seg dksX2_isShown_0 24 rfl rfl
theorem dksX2_isShown_2 : cX2_isShown.data.toList.drop 48 = dktX2_isShown_2 := dk_seg dksX2_isShown_1 24 rfl rfl
theorem dX2_isShown_0 : decode cX2_isShown 0 = .ok (.iconst 0, 1) := dk_3 (dk_at dksX2_isShown_0 0 rfl rfl)
theorem dX2_isShown_1 : decode cX2_isShown 1 = .ok (.istore_n 2, 1) := dk_61 (dk_at dksX2_isShown_0 1 rfl rfl)
theorem dX2_isShown_2 : decode cX2_isShown 2 = .ok (.iconst 0, 1) := dk_3 (dk_at dksX2_isShown_0 2 rfl rfl)
theorem dX2_isShown_3 : decode cX2_isShown 3 = .ok (.istore_n 3, 1) := dk_62 (dk_at dksX2_isShown_0 3 rfl rfl)
theorem dX2_isShown_4 : decode cX2_isShown 4 = .ok (.iload_n 3, 1) := dk_29 (dk_at dksX2_isShown_0 4 rfl rfl)
theorem dX2_isShown_5 : decode cX2_isShown 5 = .ok (.aload_n 0, 1) := dk_42 (dk_at dksX2_isShown_0 5 rfl rfl)
theorem dX2_isShown_6 : decode cX2_isShown 6 = .ok (.getfield 37, 3) := dk_180 0 37 (dk_at dksX2_isShown_0 6 rfl rfl)
theorem dX2_isShown_9 : decode cX2_isShown 9 = .ok (.if_icmp .ge 18, 3) := dk_162 0 18 (dk_at dksX2_isShown_0 9 rfl rfl)
theorem dX2_isShown_12 : decode cX2_isShown 12 = .ok (.iload_n 2, 1) := dk_28 (dk_at dksX2_isShown_0 12 rfl rfl)
theorem dX2_isShown_13 : decode cX2_isShown 13 = .ok (.aload_n 0, 1) := dk_42 (dk_at dksX2_isShown_0 13 rfl rfl)
theorem dX2_isShown_14 : decode cX2_isShown 14 = .ok (.iload_n 3, 1) := dk_29 (dk_at dksX2_isShown_0 14 rfl rfl)
theorem dX2_isShown_15 : decode cX2_isShown 15 = .ok (.iload_n 1, 1) := dk_27 (dk_at dksX2_isShown_0 15 rfl rfl)
theorem dX2_isShown_16 : decode cX2_isShown 16 = .ok (.invokevirtual 81, 3) := dk_182 0 81 (dk_at dksX2_isShown_0 16 rfl rfl)
theorem dX2_isShown_19 : decode cX2_isShown 19 = .ok (.ior, 1) := dk_128 (dk_at dksX2_isShown_0 19 rfl rfl)
theorem dX2_isShown_20 : decode cX2_isShown 20 = .ok (.istore_n 2, 1) := dk_61 (dk_at dksX2_isShown_0 20 rfl rfl)
theorem dX2_isShown_21 : decode cX2_isShown 21 = .ok (.iinc 3 1, 3) := dk_132 3 1 (dk_at dksX2_isShown_0 21 rfl rfl)
theorem dX2_isShown_24 : decode cX2_isShown 24 = .ok (.goto (-20), 3) := dk_167 255 236 (dk_at dksX2_isShown_1 0 rfl rfl)
theorem dX2_isShown_27 : decode cX2_isShown 27 = .ok (.aload_n 0, 1) := dk_42 (dk_at dksX2_isShown_1 3 rfl rfl)
theorem dX2_isShown_28 : decode cX2_isShown 28 = .ok (.iload_n 1, 1) := dk_27 (dk_at dksX2_isShown_1 4 rfl rfl)
theorem dX2_isShown_29 : decode cX2_isShown 29 = .ok (.iload_n 2, 1) := dk_28 (dk_at dksX2_isShown_1 5 rfl rfl)
theorem dX2_isShown_30 : decode cX2_isShown 30 = .ok (.ifCond .eq 33, 3) := dk_153 0 33 (dk_at dksX2_isShown_1 6 rfl rfl)
theorem dX2_isShown_33 : decode cX2_isShown 33 = .ok (.aload_n 0, 1) := dk_42 (dk_at dksX2_isShown_1 9 rfl rfl)
theorem dX2_isShown_34 : decode cX2_isShown 34 = .ok (.iload_n 1, 1) := dk_27 (dk_at dksX2_isShown_1 10 rfl rfl)
theorem dX2_isShown_35 : decode cX2_isShown 35 = .ok (.iconst 1, 1) := dk_4 (dk_at dksX2_isShown_1 11 rfl rfl)
theorem dX2_isShown_36 : decode cX2_isShown 36 = .ok (.isub, 1) := dk_100 (dk_at dksX2_isShown_1 12 rfl rfl)
theorem dX2_isShown_37 : decode cX2_isShown 37 = .ok (.iload_n 1, 1) := dk_27 (dk_at dksX2_isShown_1 13 rfl rfl)
theorem dX2_isShown_38 : decode cX2_isShown 38 = .ok (.invokevirtual 81, 3) := dk_182 0 81 (dk_at dksX2_isShown_1 14 rfl rfl)
theorem dX2_isShown_41 : decode cX2_isShown 41 = .ok (.ifCond .ne 14, 3) := dk_154 0 14 (dk_at dksX2_isShown_1 17 rfl rfl)
theorem dX2_isShown_44 : decode cX2_isShown 44 = .ok (.aload_n 0, 1) := dk_42 (dk_at dksX2_isShown_1 20 rfl rfl)
theorem dX2_isShown_45 : decode cX2_isShown 45 = .ok (.iload_n 1, 1) := dk_27 (dk_at dksX2_isShown_1 21 rfl rfl)
theorem dX2_isShown_46 : decode cX2_isShown 46 = .ok (.iconst 1, 1) := dk_4 (dk_at dksX2_isShown_1 22 rfl rfl)
theorem dX2_isShown_47 : decode cX2_isShown 47 = .ok (.iadd, 1) := dk_96 (dk_at dksX2_isShown_1 23 rfl rfl)
theorem dX2_isShown_48 : decode cX2_isShown 48 = .ok (.iload_n 1, 1) := dk_27 (dk_at dksX2_isShown_2 0 rfl rfl)
theorem dX2_isShown_49 : decode cX2_isShown 49 = .ok (.invokevirtual 81, 3) := dk_182 0 81 (dk_at dksX2_isShown_2 1 rfl rfl)
theorem dX2_isShown_52 : decode cX2_isShown 52 = .ok (.ifCond .eq 7, 3) := dk_153 0 7 (dk_at dksX2_isShown_2 4 rfl rfl)
theorem dX2_isShown_55 : decode cX2_isShown 55 = .ok (.iconst 2, 1) := dk_5 (dk_at dksX2_isShown_2 7 rfl rfl)
theorem dX2_isShown_56 : decode cX2_isShown 56 = .ok (.goto 8, 3) := dk_167 0 8 (dk_at dksX2_isShown_2 8 rfl rfl)
theorem dX2_isShown_59 : decode cX2_isShown 59 = .ok (.iconst 1, 1) := dk_4 (dk_at dksX2_isShown_2 11 rfl rfl)
theorem dX2_isShown_60 : decode cX2_isShown 60 = .ok (.goto 4, 3) := dk_167 0 4 (dk_at dksX2_isShown_2 12 rfl rfl)
theorem dX2_isShown_63 : decode cX2_isShown 63 = .ok (.iconst 0, 1) := dk_3 (dk_at dksX2_isShown_2 15 rfl rfl)
theorem dX2_isShown_64 : decode cX2_isShown 64 = .ok (.invokevirtual 65, 3) := dk_182 0 65 (dk_at dksX2_isShown_2 16 rfl rfl)
theorem dX2_isShown_67 : decode cX2_isShown 67 = .ok (.return_, 1) := dk_177 (dk_at dksX2_isShown_2 19 rfl rfl)
abbrev cX2_isGreater : ByteArray := prog_2_method_11_code
def yX2_isGreater : MethodName := ⟨RX2, "isGreater", "(II)Z"⟩
def dkwX2_isGreater_1 : List UInt8 := [167, 0, 4, 3, 172]
abbrev dktX2_isGreater_1 : List UInt8 := dkwX2_isGreater_1 ++ []
def dkwX2_isGreater_0 : List UInt8 := [42, 27, 182, 0, 59, 153, 0, 22, 42, 180, 0, 21, 27, 46, 42, 180, 0, 21, 28, 46, 164, 0, 7, 4]
abbrev dktX2_isGreater_0 : List UInt8 := dkwX2_isGreater_0 ++ dktX2_isGreater_1
theorem dksX2_isGreater_0 : cX2_isGreater.data.toList.drop 0 = dktX2_isGreater_0 := by decide +kernel
theorem dksX2_isGreater_1 : cX2_isGreater.data.toList.drop 24 = dktX2_isGreater_1 := dk_seg dksX2_isGreater_0 24 rfl rfl
theorem dX2_isGreater_0 : decode cX2_isGreater 0 = .ok (.aload_n 0, 1) := dk_42 (dk_at dksX2_isGreater_0 0 rfl rfl)
theorem dX2_isGreater_1 : decode cX2_isGreater 1 = .ok (.iload_n 1, 1) := dk_27 (dk_at dksX2_isGreater_0 1 rfl rfl)
theorem dX2_isGreater_2 : decode cX2_isGreater 2 = .ok (.invokevirtual 59, 3) := dk_182 0 59 (dk_at dksX2_isGreater_0 2 rfl rfl)
theorem dX2_isGreater_5 : decode cX2_isGreater 5 = .ok (.ifCond .eq 22, 3) := dk_153 0 22 (dk_at dksX2_isGreater_0 5 rfl rfl)
theorem dX2_isGreater_8 : decode cX2_isGreater 8 = .ok (.aload_n 0, 1) := dk_42 (dk_at dksX2_isGreater_0 8 rfl rfl)
theorem dX2_isGreater_9 : decode cX2_isGreater 9 = .ok (.getfield 21, 3) := dk_180 0 21 (dk_at dksX2_isGreater_0 9 rfl rfl)
theorem dX2_isGreater_12 : decode cX2_isGreater 12 = .ok (.iload_n 1, 1) := dk_27 (dk_at dksX2_isGreater_0 12 rfl rfl)
theorem dX2_isGreater_13 : decode cX2_isGreater 13 = .ok (.iaload, 1) := dk_46 (dk_at dksX2_isGreater_0 13 rfl rfl)
theorem dX2_isGreater_14 : decode cX2_isGreater 14 = .ok (.aload_n 0, 1) := dk_42 (dk_at dksX2_isGreater_0 14 rfl rfl)
theorem dX2_isGreater_15 : decode cX2_isGreater 15 = .ok (.getfield 21, 3) := dk_180 0 21 (dk_at dksX2_isGreater_0 15 rfl rfl)
theorem dX2_isGreater_18 : decode cX2_isGreater 18 = .ok (.iload_n 2, 1) := dk_28 (dk_at dksX2_isGreater_0 18 rfl rfl)
theorem dX2_isGreater_19 : decode cX2_isGreater 19 = .ok (.iaload, 1) := dk_46 (dk_at dksX2_isGreater_0 19 rfl rfl)
theorem dX2_isGreater_20 : decode cX2_isGreater 20 = .ok (.if_icmp .le 7, 3) := dk_164 0 7 (dk_at dksX2_isGreater_0 20 rfl rfl)
theorem dX2_isGreater_23 : decode cX2_isGreater 23 = .ok (.iconst 1, 1) := dk_4 (dk_at dksX2_isGreater_0 23 rfl rfl)
theorem dX2_isGreater_24 : decode cX2_isGreater 24 = .ok (.goto 4, 3) := dk_167 0 4 (dk_at dksX2_isGreater_1 0 rfl rfl)
theorem dX2_isGreater_27 : decode cX2_isGreater 27 = .ok (.iconst 0, 1) := dk_3 (dk_at dksX2_isGreater_1 3 rfl rfl)
theorem dX2_isGreater_28 : decode cX2_isGreater 28 = .ok (.ireturn, 1) := dk_172 (dk_at dksX2_isGreater_1 4 rfl rfl)
abbrev cX2_waits : ByteArray := prog_2_method_14_code
def yX2_waits : MethodName := ⟨RX2, "waits", "(I)V"⟩
def dkwX2_waits_2 : List UInt8 := [27, 3, 79, 177]
abbrev dktX2_waits_2 : List UInt8 := dkwX2_waits_2 ++ []
def dkwX2_waits_1 : List UInt8 := [46, 42, 180, 0, 11, 27, 50, 182, 0, 94, 163, 0, 4, 177, 42, 27, 2, 182, 0, 65, 42, 180, 0, 24]
abbrev dktX2_waits_1 : List UInt8 := dkwX2_waits_1 ++ dktX2_waits_2
def dkwX2_waits_0 : List UInt8 := [42, 180, 0, 24, 27, 16, 20, 42, 180, 0, 24, 27, 46, 4, 96, 184, 0, 88, 79, 42, 180, 0, 24, 27]
abbrev dktX2_waits_0 : List UInt8 := dkwX2_waits_0 ++ dktX2_waits_1
theorem dksX2_waits_0 : cX2_waits.data.toList.drop 0 = dktX2_waits_0 := by decide +kernel
theorem dksX2_waits_1 : cX2_waits.data.toList.drop 24 = dktX2_waits_1 := dk_seg dksX2_waits_0 24 rfl rfl
theorem dksX2_waits_2 : cX2_waits.data.toList.drop 48 = dktX2_waits_2 := dk_seg dksX2_waits_1 24 rfl rfl
theorem dX2_waits_0 : decode cX2_waits 0 = .ok (.aload_n 0, 1) := dk_42 (dk_at dksX2_waits_0 0 rfl rfl)
theorem dX2_waits_1 : decode cX2_waits 1 = .ok (.getfield 24, 3) := dk_180 0 24 (dk_at dksX2_waits_0 1 rfl rfl)
theorem dX2_waits_4 : decode cX2_waits 4 = .ok (.iload_n 1, 1) := dk_27 (dk_at dksX2_waits_0 4 rfl rfl)
theorem dX2_waits_5 : decode cX2_waits 5 = .ok (.bipush 20, 2) := dk_16 20 (dk_at dksX2_waits_0 5 rfl rfl)
theorem dX2_waits_7 : decode cX2_waits 7 = .ok (.aload_n 0, 1) := dk_42 (dk_at dksX2_waits_0 7 rfl rfl)
theorem dX2_waits_8 : decode cX2_waits 8 = .ok (.getfield 24, 3) := dk_180 0 24 (dk_at dksX2_waits_0 8 rfl rfl)
theorem dX2_waits_11 : decode cX2_waits 11 = .ok (.iload_n 1, 1) := dk_27 (dk_at dksX2_waits_0 11 rfl rfl)
theorem dX2_waits_12 : decode cX2_waits 12 = .ok (.iaload, 1) := dk_46 (dk_at dksX2_waits_0 12 rfl rfl)
theorem dX2_waits_13 : decode cX2_waits 13 = .ok (.iconst 1, 1) := dk_4 (dk_at dksX2_waits_0 13 rfl rfl)
theorem dX2_waits_14 : decode cX2_waits 14 = .ok (.iadd, 1) := dk_96 (dk_at dksX2_waits_0 14 rfl rfl)
theorem dX2_waits_15 : decode cX2_waits 15 = .ok (.invokestatic 88, 3) := dk_184 0 88 (dk_at dksX2_waits_0 15 rfl rfl)
theorem dX2_waits_18 : decode cX2_waits 18 = .ok (.iastore, 1) := dk_79 (dk_at dksX2_waits_0 18 rfl rfl)
theorem dX2_waits_19 : decode cX2_waits 19 = .ok (.aload_n 0, 1) := dk_42 (dk_at dksX2_waits_0 19 rfl rfl)
theorem dX2_waits_20 : decode cX2_waits 20 = .ok (.getfield 24, 3) := dk_180 0 24 (dk_at dksX2_waits_0 20 rfl rfl)
theorem dX2_waits_23 : decode cX2_waits 23 = .ok (.iload_n 1, 1) := dk_27 (dk_at dksX2_waits_0 23 rfl rfl)
theorem dX2_waits_24 : decode cX2_waits 24 = .ok (.iaload, 1) := dk_46 (dk_at dksX2_waits_1 0 rfl rfl)
theorem dX2_waits_25 : decode cX2_waits 25 = .ok (.aload_n 0, 1) := dk_42 (dk_at dksX2_waits_1 1 rfl rfl)
theorem dX2_waits_26 : decode cX2_waits 26 = .ok (.getfield 11, 3) := dk_180 0 11 (dk_at dksX2_waits_1 2 rfl rfl)
theorem dX2_waits_29 : decode cX2_waits 29 = .ok (.iload_n 1, 1) := dk_27 (dk_at dksX2_waits_1 5 rfl rfl)
theorem dX2_waits_30 : decode cX2_waits 30 = .ok (.aaload, 1) := dk_50 (dk_at dksX2_waits_1 6 rfl rfl)
theorem dX2_waits_31 : decode cX2_waits 31 = .ok (.invokevirtual 94, 3) := dk_182 0 94 (dk_at dksX2_waits_1 7 rfl rfl)
theorem dX2_waits_34 : decode cX2_waits 34 = .ok (.if_icmp .gt 4, 3) := dk_163 0 4 (dk_at dksX2_waits_1 10 rfl rfl)
theorem dX2_waits_37 : decode cX2_waits 37 = .ok (.return_, 1) := dk_177 (dk_at dksX2_waits_1 13 rfl rfl)
theorem dX2_waits_38 : decode cX2_waits 38 = .ok (.aload_n 0, 1) := dk_42 (dk_at dksX2_waits_1 14 rfl rfl)
theorem dX2_waits_39 : decode cX2_waits 39 = .ok (.iload_n 1, 1) := dk_27 (dk_at dksX2_waits_1 15 rfl rfl)
theorem dX2_waits_40 : decode cX2_waits 40 = .ok (.iconst (-1), 1) := dk_2 (dk_at dksX2_waits_1 16 rfl rfl)
theorem dX2_waits_41 : decode cX2_waits 41 = .ok (.invokevirtual 65, 3) := dk_182 0 65 (dk_at dksX2_waits_1 17 rfl rfl)
theorem dX2_waits_44 : decode cX2_waits 44 = .ok (.aload_n 0, 1) := dk_42 (dk_at dksX2_waits_1 20 rfl rfl)
theorem dX2_waits_45 : decode cX2_waits 45 = .ok (.getfield 24, 3) := dk_180 0 24 (dk_at dksX2_waits_1 21 rfl rfl)
theorem dX2_waits_48 : decode cX2_waits 48 = .ok (.iload_n 1, 1) := dk_27 (dk_at dksX2_waits_2 0 rfl rfl)
theorem dX2_waits_49 : decode cX2_waits 49 = .ok (.iconst 0, 1) := dk_3 (dk_at dksX2_waits_2 1 rfl rfl)
theorem dX2_waits_50 : decode cX2_waits 50 = .ok (.iastore, 1) := dk_79 (dk_at dksX2_waits_2 2 rfl rfl)
theorem dX2_waits_51 : decode cX2_waits 51 = .ok (.return_, 1) := dk_177 (dk_at dksX2_waits_2 3 rfl rfl)
abbrev cX2_rest : ByteArray := prog_2_method_18_code
def yX2_rest : MethodName := ⟨RX2, "rest", "(I)V"⟩
def dkwX2_rest_3 : List UInt8 := [167, 255, 188, 177]
abbrev dktX2_rest_3 : List UInt8 := dkwX2_rest_3 ++ []
def dkwX2_rest_2 : List UInt8 := [28, 42, 180, 0, 17, 28, 46, 27, 100, 184, 0, 62, 79, 42, 180, 0, 24, 28, 3, 79, 132, 2, 1]
abbrev dktX2_rest_2 : List UInt8 := dkwX2_rest_2 ++ dktX2_rest_3
def dkwX2_rest_1 : List UInt8 := [16, 7, 167, 0, 17, 3, 42, 180, 0, 21, 28, 46, 27, 6, 108, 100, 184, 0, 114, 79, 42, 180, 0, 17]
abbrev dktX2_rest_1 : List UInt8 := dkwX2_rest_1 ++ dktX2_rest_2
def dkwX2_rest_0 : List UInt8 := [3, 61, 28, 42, 180, 0, 37, 162, 0, 66, 42, 180, 0, 21, 28, 42, 28, 182, 0, 51, 153, 0, 8]
abbrev dktX2_rest_0 : List UInt8 := dkwX2_rest_0 ++ dktX2_rest_1
theorem dksX2_rest_0 : cX2_rest.data.toList.drop 0 = dktX2_rest_0 := by decide +kernel
theorem dksX2_rest_1 : cX2_rest.data.toList.drop 23 = dktX2_rest_1 := dk_seg dksX2_rest_0 23 rfl rfl
theorem dksX2_rest_2 : cX2_rest.data.toList.drop 47 = dktX2_rest_2 := dk_seg dksX2_rest_1 24 rfl rfl
theorem dksX2_rest_3 : cX2_rest.data.toList.drop 70 = dktX2_rest_3 := dk_seg dksX2_rest_2 23 rfl rfl
theorem dX2_rest_0 : decode cX2_rest 0 = .ok (.iconst 0, 1) := dk_3 (dk_at dksX2_rest_0 0 rfl rfl)
theorem dX2_rest_1 : decode cX2_rest 1 = .ok (.istore_n 2, 1) := dk_61 (dk_at dksX2_rest_0 1 rfl rfl)
theorem dX2_rest_2 : decode cX2_rest 2 = .ok (.iload_n 2, 1) := dk_28 (dk_at dksX2_rest_0 2 rfl rfl)
theorem dX2_rest_3 : decode cX2_rest 3 = .ok (.aload_n 0, 1) := dk_42 (dk_at dksX2_rest_0 3 rfl rfl)
theorem dX2_rest_4 : decode cX2_rest 4 = .ok (.getfield 37, 3) := dk_180 0 37 (dk_at dksX2_rest_0 4 rfl rfl)
theorem dX2_rest_7 : decode cX2_rest 7 = .ok (.if_icmp .ge 66, 3) := dk_162 0 66 (dk_at dksX2_rest_0 7 rfl rfl)
theorem dX2_rest_10 : decode cX2_rest 10 = .ok (.aload_n 0, 1) := dk_42 (dk_at dksX2_rest_0 10 rfl rfl)
theorem dX2_rest_11 : decode cX2_rest 11 = .ok (.getfield 21, 3) := dk_180 0 21 (dk_at dksX2_rest_0 11 rfl rfl)
theorem dX2_rest_14 : decode cX2_rest 14 = .ok (.iload_n 2, 1) := dk_28 (dk_at dksX2_rest_0 14 rfl rfl)
theorem dX2_rest_15 : decode cX2_rest 15 = .ok (.aload_n 0, 1) := dk_42 (dk_at dksX2_rest_0 15 rfl rfl)
theorem dX2_rest_16 : decode cX2_rest 16 = .ok (.iload_n 2, 1) := dk_28 (dk_at dksX2_rest_0 16 rfl rfl)
theorem dX2_rest_17 : decode cX2_rest 17 = .ok (.invokevirtual 51, 3) := dk_182 0 51 (dk_at dksX2_rest_0 17 rfl rfl)
theorem dX2_rest_20 : decode cX2_rest 20 = .ok (.ifCond .eq 8, 3) := dk_153 0 8 (dk_at dksX2_rest_0 20 rfl rfl)
theorem dX2_rest_23 : decode cX2_rest 23 = .ok (.bipush 7, 2) := dk_16 7 (dk_at dksX2_rest_1 0 rfl rfl)
theorem dX2_rest_25 : decode cX2_rest 25 = .ok (.goto 17, 3) := dk_167 0 17 (dk_at dksX2_rest_1 2 rfl rfl)
theorem dX2_rest_28 : decode cX2_rest 28 = .ok (.iconst 0, 1) := dk_3 (dk_at dksX2_rest_1 5 rfl rfl)
theorem dX2_rest_29 : decode cX2_rest 29 = .ok (.aload_n 0, 1) := dk_42 (dk_at dksX2_rest_1 6 rfl rfl)
theorem dX2_rest_30 : decode cX2_rest 30 = .ok (.getfield 21, 3) := dk_180 0 21 (dk_at dksX2_rest_1 7 rfl rfl)
theorem dX2_rest_33 : decode cX2_rest 33 = .ok (.iload_n 2, 1) := dk_28 (dk_at dksX2_rest_1 10 rfl rfl)
theorem dX2_rest_34 : decode cX2_rest 34 = .ok (.iaload, 1) := dk_46 (dk_at dksX2_rest_1 11 rfl rfl)
theorem dX2_rest_35 : decode cX2_rest 35 = .ok (.iload_n 1, 1) := dk_27 (dk_at dksX2_rest_1 12 rfl rfl)
theorem dX2_rest_36 : decode cX2_rest 36 = .ok (.iconst 3, 1) := dk_6 (dk_at dksX2_rest_1 13 rfl rfl)
theorem dX2_rest_37 : decode cX2_rest 37 = .ok (.idiv, 1) := dk_108 (dk_at dksX2_rest_1 14 rfl rfl)
theorem dX2_rest_38 : decode cX2_rest 38 = .ok (.isub, 1) := dk_100 (dk_at dksX2_rest_1 15 rfl rfl)
theorem dX2_rest_39 : decode cX2_rest 39 = .ok (.invokestatic 114, 3) := dk_184 0 114 (dk_at dksX2_rest_1 16 rfl rfl)
theorem dX2_rest_42 : decode cX2_rest 42 = .ok (.iastore, 1) := dk_79 (dk_at dksX2_rest_1 19 rfl rfl)
theorem dX2_rest_43 : decode cX2_rest 43 = .ok (.aload_n 0, 1) := dk_42 (dk_at dksX2_rest_1 20 rfl rfl)
theorem dX2_rest_44 : decode cX2_rest 44 = .ok (.getfield 17, 3) := dk_180 0 17 (dk_at dksX2_rest_1 21 rfl rfl)
theorem dX2_rest_47 : decode cX2_rest 47 = .ok (.iload_n 2, 1) := dk_28 (dk_at dksX2_rest_2 0 rfl rfl)
theorem dX2_rest_48 : decode cX2_rest 48 = .ok (.aload_n 0, 1) := dk_42 (dk_at dksX2_rest_2 1 rfl rfl)
theorem dX2_rest_49 : decode cX2_rest 49 = .ok (.getfield 17, 3) := dk_180 0 17 (dk_at dksX2_rest_2 2 rfl rfl)
theorem dX2_rest_52 : decode cX2_rest 52 = .ok (.iload_n 2, 1) := dk_28 (dk_at dksX2_rest_2 5 rfl rfl)
theorem dX2_rest_53 : decode cX2_rest 53 = .ok (.iaload, 1) := dk_46 (dk_at dksX2_rest_2 6 rfl rfl)
theorem dX2_rest_54 : decode cX2_rest 54 = .ok (.iload_n 1, 1) := dk_27 (dk_at dksX2_rest_2 7 rfl rfl)
theorem dX2_rest_55 : decode cX2_rest 55 = .ok (.isub, 1) := dk_100 (dk_at dksX2_rest_2 8 rfl rfl)
theorem dX2_rest_56 : decode cX2_rest 56 = .ok (.invokestatic 62, 3) := dk_184 0 62 (dk_at dksX2_rest_2 9 rfl rfl)
theorem dX2_rest_59 : decode cX2_rest 59 = .ok (.iastore, 1) := dk_79 (dk_at dksX2_rest_2 12 rfl rfl)
theorem dX2_rest_60 : decode cX2_rest 60 = .ok (.aload_n 0, 1) := dk_42 (dk_at dksX2_rest_2 13 rfl rfl)
theorem dX2_rest_61 : decode cX2_rest 61 = .ok (.getfield 24, 3) := dk_180 0 24 (dk_at dksX2_rest_2 14 rfl rfl)
theorem dX2_rest_64 : decode cX2_rest 64 = .ok (.iload_n 2, 1) := dk_28 (dk_at dksX2_rest_2 17 rfl rfl)
theorem dX2_rest_65 : decode cX2_rest 65 = .ok (.iconst 0, 1) := dk_3 (dk_at dksX2_rest_2 18 rfl rfl)
theorem dX2_rest_66 : decode cX2_rest 66 = .ok (.iastore, 1) := dk_79 (dk_at dksX2_rest_2 19 rfl rfl)
theorem dX2_rest_67 : decode cX2_rest 67 = .ok (.iinc 2 1, 3) := dk_132 2 1 (dk_at dksX2_rest_2 20 rfl rfl)
theorem dX2_rest_70 : decode cX2_rest 70 = .ok (.goto (-68), 3) := dk_167 255 188 (dk_at dksX2_rest_3 0 rfl rfl)
theorem dX2_rest_73 : decode cX2_rest 73 = .ok (.return_, 1) := dk_177 (dk_at dksX2_rest_3 3 rfl rfl)
abbrev cX2_change : ByteArray := prog_2_method_17_code
def yX2_change : MethodName := ⟨RX2, "change", "(II)V"⟩
def dkwX2_change_2 : List UInt8 := [27, 28, 184, 0, 110, 177]
abbrev dktX2_change_2 : List UInt8 := dkwX2_change_2 ++ []
def dkwX2_change_1 : List UInt8 := [45, 83, 42, 180, 0, 17, 27, 28, 184, 0, 110, 42, 180, 0, 21, 27, 28, 184, 0, 110, 42, 180, 0, 24]
abbrev dktX2_change_1 : List UInt8 := dkwX2_change_1 ++ dktX2_change_2
def dkwX2_change_0 : List UInt8 := [42, 180, 0, 11, 27, 50, 78, 42, 180, 0, 11, 27, 42, 180, 0, 11, 28, 50, 83, 42, 180, 0, 11, 28]
abbrev dktX2_change_0 : List UInt8 := dkwX2_change_0 ++ dktX2_change_1
theorem dksX2_change_0 : cX2_change.data.toList.drop 0 = dktX2_change_0 := by decide +kernel
theorem dksX2_change_1 : cX2_change.data.toList.drop 24 = dktX2_change_1 := dk_seg dksX2_change_0 24 rfl rfl
theorem dksX2_change_2 : cX2_change.data.toList.drop 48 = dktX2_change_2 := dk_seg dksX2_change_1 24 rfl rfl
theorem dX2_change_0 : decode cX2_change 0 = .ok (.aload_n 0, 1) := dk_42 (dk_at dksX2_change_0 0 rfl rfl)
theorem dX2_change_1 : decode cX2_change 1 = .ok (.getfield 11, 3) := dk_180 0 11 (dk_at dksX2_change_0 1 rfl rfl)
theorem dX2_change_4 : decode cX2_change 4 = .ok (.iload_n 1, 1) := dk_27 (dk_at dksX2_change_0 4 rfl rfl)
theorem dX2_change_5 : decode cX2_change 5 = .ok (.aaload, 1) := dk_50 (dk_at dksX2_change_0 5 rfl rfl)
theorem dX2_change_6 : decode cX2_change 6 = .ok (.astore_n 3, 1) := dk_78 (dk_at dksX2_change_0 6 rfl rfl)
theorem dX2_change_7 : decode cX2_change 7 = .ok (.aload_n 0, 1) := dk_42 (dk_at dksX2_change_0 7 rfl rfl)
theorem dX2_change_8 : decode cX2_change 8 = .ok (.getfield 11, 3) := dk_180 0 11 (dk_at dksX2_change_0 8 rfl rfl)
theorem dX2_change_11 : decode cX2_change 11 = .ok (.iload_n 1, 1) := dk_27 (dk_at dksX2_change_0 11 rfl rfl)
theorem dX2_change_12 : decode cX2_change 12 = .ok (.aload_n 0, 1) := dk_42 (dk_at dksX2_change_0 12 rfl rfl)
theorem dX2_change_13 : decode cX2_change 13 = .ok (.getfield 11, 3) := dk_180 0 11 (dk_at dksX2_change_0 13 rfl rfl)
theorem dX2_change_16 : decode cX2_change 16 = .ok (.iload_n 2, 1) := dk_28 (dk_at dksX2_change_0 16 rfl rfl)
theorem dX2_change_17 : decode cX2_change 17 = .ok (.aaload, 1) := dk_50 (dk_at dksX2_change_0 17 rfl rfl)
theorem dX2_change_18 : decode cX2_change 18 = .ok (.aastore, 1) := dk_83 (dk_at dksX2_change_0 18 rfl rfl)
theorem dX2_change_19 : decode cX2_change 19 = .ok (.aload_n 0, 1) := dk_42 (dk_at dksX2_change_0 19 rfl rfl)
theorem dX2_change_20 : decode cX2_change 20 = .ok (.getfield 11, 3) := dk_180 0 11 (dk_at dksX2_change_0 20 rfl rfl)
theorem dX2_change_23 : decode cX2_change 23 = .ok (.iload_n 2, 1) := dk_28 (dk_at dksX2_change_0 23 rfl rfl)
theorem dX2_change_24 : decode cX2_change 24 = .ok (.aload_n 3, 1) := dk_45 (dk_at dksX2_change_1 0 rfl rfl)
theorem dX2_change_25 : decode cX2_change 25 = .ok (.aastore, 1) := dk_83 (dk_at dksX2_change_1 1 rfl rfl)
theorem dX2_change_26 : decode cX2_change 26 = .ok (.aload_n 0, 1) := dk_42 (dk_at dksX2_change_1 2 rfl rfl)
theorem dX2_change_27 : decode cX2_change 27 = .ok (.getfield 17, 3) := dk_180 0 17 (dk_at dksX2_change_1 3 rfl rfl)
theorem dX2_change_30 : decode cX2_change 30 = .ok (.iload_n 1, 1) := dk_27 (dk_at dksX2_change_1 6 rfl rfl)
theorem dX2_change_31 : decode cX2_change 31 = .ok (.iload_n 2, 1) := dk_28 (dk_at dksX2_change_1 7 rfl rfl)
theorem dX2_change_32 : decode cX2_change 32 = .ok (.invokestatic 110, 3) := dk_184 0 110 (dk_at dksX2_change_1 8 rfl rfl)
theorem dX2_change_35 : decode cX2_change 35 = .ok (.aload_n 0, 1) := dk_42 (dk_at dksX2_change_1 11 rfl rfl)
theorem dX2_change_36 : decode cX2_change 36 = .ok (.getfield 21, 3) := dk_180 0 21 (dk_at dksX2_change_1 12 rfl rfl)
theorem dX2_change_39 : decode cX2_change 39 = .ok (.iload_n 1, 1) := dk_27 (dk_at dksX2_change_1 15 rfl rfl)
theorem dX2_change_40 : decode cX2_change 40 = .ok (.iload_n 2, 1) := dk_28 (dk_at dksX2_change_1 16 rfl rfl)
theorem dX2_change_41 : decode cX2_change 41 = .ok (.invokestatic 110, 3) := dk_184 0 110 (dk_at dksX2_change_1 17 rfl rfl)
theorem dX2_change_44 : decode cX2_change 44 = .ok (.aload_n 0, 1) := dk_42 (dk_at dksX2_change_1 20 rfl rfl)
theorem dX2_change_45 : decode cX2_change 45 = .ok (.getfield 24, 3) := dk_180 0 24 (dk_at dksX2_change_1 21 rfl rfl)
theorem dX2_change_48 : decode cX2_change 48 = .ok (.iload_n 1, 1) := dk_27 (dk_at dksX2_change_2 0 rfl rfl)
theorem dX2_change_49 : decode cX2_change 49 = .ok (.iload_n 2, 1) := dk_28 (dk_at dksX2_change_2 1 rfl rfl)
theorem dX2_change_50 : decode cX2_change 50 = .ok (.invokestatic 110, 3) := dk_184 0 110 (dk_at dksX2_change_2 2 rfl rfl)
theorem dX2_change_53 : decode cX2_change 53 = .ok (.return_, 1) := dk_177 (dk_at dksX2_change_2 5 rfl rfl)
abbrev cX2_swaps : ByteArray := prog_2_method_16_code
def yX2_swaps : MethodName := ⟨RX2, "swaps", "([III)V"⟩
def dkwX2_swaps_0 : List UInt8 := [42, 27, 46, 62, 42, 27, 42, 28, 46, 79, 42, 28, 29, 79, 177]
abbrev dktX2_swaps_0 : List UInt8 := dkwX2_swaps_0 ++ []
theorem dksX2_swaps_0 : cX2_swaps.data.toList.drop 0 = dktX2_swaps_0 := by decide +kernel
theorem dX2_swaps_0 : decode cX2_swaps 0 = .ok (.aload_n 0, 1) := dk_42 (dk_at dksX2_swaps_0 0 rfl rfl)
theorem dX2_swaps_1 : decode cX2_swaps 1 = .ok (.iload_n 1, 1) := dk_27 (dk_at dksX2_swaps_0 1 rfl rfl)
theorem dX2_swaps_2 : decode cX2_swaps 2 = .ok (.iaload, 1) := dk_46 (dk_at dksX2_swaps_0 2 rfl rfl)
theorem dX2_swaps_3 : decode cX2_swaps 3 = .ok (.istore_n 3, 1) := dk_62 (dk_at dksX2_swaps_0 3 rfl rfl)
theorem dX2_swaps_4 : decode cX2_swaps 4 = .ok (.aload_n 0, 1) := dk_42 (dk_at dksX2_swaps_0 4 rfl rfl)
theorem dX2_swaps_5 : decode cX2_swaps 5 = .ok (.iload_n 1, 1) := dk_27 (dk_at dksX2_swaps_0 5 rfl rfl)
theorem dX2_swaps_6 : decode cX2_swaps 6 = .ok (.aload_n 0, 1) := dk_42 (dk_at dksX2_swaps_0 6 rfl rfl)
theorem dX2_swaps_7 : decode cX2_swaps 7 = .ok (.iload_n 2, 1) := dk_28 (dk_at dksX2_swaps_0 7 rfl rfl)
theorem dX2_swaps_8 : decode cX2_swaps 8 = .ok (.iaload, 1) := dk_46 (dk_at dksX2_swaps_0 8 rfl rfl)
theorem dX2_swaps_9 : decode cX2_swaps 9 = .ok (.iastore, 1) := dk_79 (dk_at dksX2_swaps_0 9 rfl rfl)
theorem dX2_swaps_10 : decode cX2_swaps 10 = .ok (.aload_n 0, 1) := dk_42 (dk_at dksX2_swaps_0 10 rfl rfl)
theorem dX2_swaps_11 : decode cX2_swaps 11 = .ok (.iload_n 2, 1) := dk_28 (dk_at dksX2_swaps_0 11 rfl rfl)
theorem dX2_swaps_12 : decode cX2_swaps 12 = .ok (.iload_n 3, 1) := dk_29 (dk_at dksX2_swaps_0 12 rfl rfl)
theorem dX2_swaps_13 : decode cX2_swaps 13 = .ok (.iastore, 1) := dk_79 (dk_at dksX2_swaps_0 13 rfl rfl)
theorem dX2_swaps_14 : decode cX2_swaps 14 = .ok (.return_, 1) := dk_177 (dk_at dksX2_swaps_0 14 rfl rfl)
abbrev cX2_allSteps : ByteArray := prog_2_method_19_code
def yX2_allSteps : MethodName := ⟨RX2, "allSteps", "()I"⟩
def dkwX2_allSteps_1 : List UInt8 := [167, 255, 236, 27, 172]
abbrev dktX2_allSteps_1 : List UInt8 := dkwX2_allSteps_1 ++ []
def dkwX2_allSteps_0 : List UInt8 := [3, 60, 3, 61, 28, 42, 180, 0, 37, 162, 0, 18, 27, 42, 180, 0, 21, 28, 46, 96, 60, 132, 2, 1]
abbrev dktX2_allSteps_0 : List UInt8 := dkwX2_allSteps_0 ++ dktX2_allSteps_1
theorem dksX2_allSteps_0 : cX2_allSteps.data.toList.drop 0 = dktX2_allSteps_0 := by decide +kernel
theorem dksX2_allSteps_1 : cX2_allSteps.data.toList.drop 24 = dktX2_allSteps_1 := dk_seg dksX2_allSteps_0 24 rfl rfl
theorem dX2_allSteps_0 : decode cX2_allSteps 0 = .ok (.iconst 0, 1) := dk_3 (dk_at dksX2_allSteps_0 0 rfl rfl)
theorem dX2_allSteps_1 : decode cX2_allSteps 1 = .ok (.istore_n 1, 1) := dk_60 (dk_at dksX2_allSteps_0 1 rfl rfl)
theorem dX2_allSteps_2 : decode cX2_allSteps 2 = .ok (.iconst 0, 1) := dk_3 (dk_at dksX2_allSteps_0 2 rfl rfl)
theorem dX2_allSteps_3 : decode cX2_allSteps 3 = .ok (.istore_n 2, 1) := dk_61 (dk_at dksX2_allSteps_0 3 rfl rfl)
theorem dX2_allSteps_4 : decode cX2_allSteps 4 = .ok (.iload_n 2, 1) := dk_28 (dk_at dksX2_allSteps_0 4 rfl rfl)
theorem dX2_allSteps_5 : decode cX2_allSteps 5 = .ok (.aload_n 0, 1) := dk_42 (dk_at dksX2_allSteps_0 5 rfl rfl)
theorem dX2_allSteps_6 : decode cX2_allSteps 6 = .ok (.getfield 37, 3) := dk_180 0 37 (dk_at dksX2_allSteps_0 6 rfl rfl)
theorem dX2_allSteps_9 : decode cX2_allSteps 9 = .ok (.if_icmp .ge 18, 3) := dk_162 0 18 (dk_at dksX2_allSteps_0 9 rfl rfl)
theorem dX2_allSteps_12 : decode cX2_allSteps 12 = .ok (.iload_n 1, 1) := dk_27 (dk_at dksX2_allSteps_0 12 rfl rfl)
theorem dX2_allSteps_13 : decode cX2_allSteps 13 = .ok (.aload_n 0, 1) := dk_42 (dk_at dksX2_allSteps_0 13 rfl rfl)
theorem dX2_allSteps_14 : decode cX2_allSteps 14 = .ok (.getfield 21, 3) := dk_180 0 21 (dk_at dksX2_allSteps_0 14 rfl rfl)
theorem dX2_allSteps_17 : decode cX2_allSteps 17 = .ok (.iload_n 2, 1) := dk_28 (dk_at dksX2_allSteps_0 17 rfl rfl)
theorem dX2_allSteps_18 : decode cX2_allSteps 18 = .ok (.iaload, 1) := dk_46 (dk_at dksX2_allSteps_0 18 rfl rfl)
theorem dX2_allSteps_19 : decode cX2_allSteps 19 = .ok (.iadd, 1) := dk_96 (dk_at dksX2_allSteps_0 19 rfl rfl)
theorem dX2_allSteps_20 : decode cX2_allSteps 20 = .ok (.istore_n 1, 1) := dk_60 (dk_at dksX2_allSteps_0 20 rfl rfl)
theorem dX2_allSteps_21 : decode cX2_allSteps 21 = .ok (.iinc 2 1, 3) := dk_132 2 1 (dk_at dksX2_allSteps_0 21 rfl rfl)
theorem dX2_allSteps_24 : decode cX2_allSteps 24 = .ok (.goto (-20), 3) := dk_167 255 236 (dk_at dksX2_allSteps_1 0 rfl rfl)
theorem dX2_allSteps_27 : decode cX2_allSteps 27 = .ok (.iload_n 1, 1) := dk_27 (dk_at dksX2_allSteps_1 3 rfl rfl)
theorem dX2_allSteps_28 : decode cX2_allSteps 28 = .ok (.ireturn, 1) := dk_172 (dk_at dksX2_allSteps_1 4 rfl rfl)
abbrev cX2_allSwim : ByteArray := prog_2_method_21_code
def yX2_allSwim : MethodName := ⟨RX2, "allSwim", "()Z"⟩
def dkwX2_allSwim_0 : List UInt8 := [42, 182, 0, 117, 4, 42, 180, 0, 37, 120, 4, 100, 160, 0, 7, 4, 167, 0, 4, 3, 172]
abbrev dktX2_allSwim_0 : List UInt8 := dkwX2_allSwim_0 ++ []
theorem dksX2_allSwim_0 : cX2_allSwim.data.toList.drop 0 = dktX2_allSwim_0 := by decide +kernel
theorem dX2_allSwim_0 : decode cX2_allSwim 0 = .ok (.aload_n 0, 1) := dk_42 (dk_at dksX2_allSwim_0 0 rfl rfl)
theorem dX2_allSwim_1 : decode cX2_allSwim 1 = .ok (.invokevirtual 117, 3) := dk_182 0 117 (dk_at dksX2_allSwim_0 1 rfl rfl)
theorem dX2_allSwim_4 : decode cX2_allSwim 4 = .ok (.iconst 1, 1) := dk_4 (dk_at dksX2_allSwim_0 4 rfl rfl)
theorem dX2_allSwim_5 : decode cX2_allSwim 5 = .ok (.aload_n 0, 1) := dk_42 (dk_at dksX2_allSwim_0 5 rfl rfl)
theorem dX2_allSwim_6 : decode cX2_allSwim 6 = .ok (.getfield 37, 3) := dk_180 0 37 (dk_at dksX2_allSwim_0 6 rfl rfl)
theorem dX2_allSwim_9 : decode cX2_allSwim 9 = .ok (.ishl, 1) := dk_120 (dk_at dksX2_allSwim_0 9 rfl rfl)
theorem dX2_allSwim_10 : decode cX2_allSwim 10 = .ok (.iconst 1, 1) := dk_4 (dk_at dksX2_allSwim_0 10 rfl rfl)
theorem dX2_allSwim_11 : decode cX2_allSwim 11 = .ok (.isub, 1) := dk_100 (dk_at dksX2_allSwim_0 11 rfl rfl)
theorem dX2_allSwim_12 : decode cX2_allSwim 12 = .ok (.if_icmp .ne 7, 3) := dk_160 0 7 (dk_at dksX2_allSwim_0 12 rfl rfl)
theorem dX2_allSwim_15 : decode cX2_allSwim 15 = .ok (.iconst 1, 1) := dk_4 (dk_at dksX2_allSwim_0 15 rfl rfl)
theorem dX2_allSwim_16 : decode cX2_allSwim 16 = .ok (.goto 4, 3) := dk_167 0 4 (dk_at dksX2_allSwim_0 16 rfl rfl)
theorem dX2_allSwim_19 : decode cX2_allSwim 19 = .ok (.iconst 0, 1) := dk_3 (dk_at dksX2_allSwim_0 19 rfl rfl)
theorem dX2_allSwim_20 : decode cX2_allSwim 20 = .ok (.ireturn, 1) := dk_172 (dk_at dksX2_allSwim_0 20 rfl rfl)
abbrev cX2_swimming : ByteArray := prog_2_method_20_code
def yX2_swimming : MethodName := ⟨RX2, "swimming", "()I"⟩
def dkwX2_swimming_1 : List UInt8 := [167, 0, 4, 3, 128, 60, 132, 2, 1, 167, 255, 227, 27, 172]
abbrev dktX2_swimming_1 : List UInt8 := dkwX2_swimming_1 ++ []
def dkwX2_swimming_0 : List UInt8 := [3, 60, 3, 61, 28, 42, 180, 0, 37, 162, 0, 27, 27, 42, 28, 182, 0, 51, 153, 0, 9, 4, 28, 120]
abbrev dktX2_swimming_0 : List UInt8 := dkwX2_swimming_0 ++ dktX2_swimming_1
theorem dksX2_swimming_0 : cX2_swimming.data.toList.drop 0 = dktX2_swimming_0 := by decide +kernel
theorem dksX2_swimming_1 : cX2_swimming.data.toList.drop 24 = dktX2_swimming_1 := dk_seg dksX2_swimming_0 24 rfl rfl
theorem dX2_swimming_0 : decode cX2_swimming 0 = .ok (.iconst 0, 1) := dk_3 (dk_at dksX2_swimming_0 0 rfl rfl)
theorem dX2_swimming_1 : decode cX2_swimming 1 = .ok (.istore_n 1, 1) := dk_60 (dk_at dksX2_swimming_0 1 rfl rfl)
theorem dX2_swimming_2 : decode cX2_swimming 2 = .ok (.iconst 0, 1) := dk_3 (dk_at dksX2_swimming_0 2 rfl rfl)
theorem dX2_swimming_3 : decode cX2_swimming 3 = .ok (.istore_n 2, 1) := dk_61 (dk_at dksX2_swimming_0 3 rfl rfl)
theorem dX2_swimming_4 : decode cX2_swimming 4 = .ok (.iload_n 2, 1) := dk_28 (dk_at dksX2_swimming_0 4 rfl rfl)
theorem dX2_swimming_5 : decode cX2_swimming 5 = .ok (.aload_n 0, 1) := dk_42 (dk_at dksX2_swimming_0 5 rfl rfl)
theorem dX2_swimming_6 : decode cX2_swimming 6 = .ok (.getfield 37, 3) := dk_180 0 37 (dk_at dksX2_swimming_0 6 rfl rfl)
theorem dX2_swimming_9 : decode cX2_swimming 9 = .ok (.if_icmp .ge 27, 3) := dk_162 0 27 (dk_at dksX2_swimming_0 9 rfl rfl)
theorem dX2_swimming_12 : decode cX2_swimming 12 = .ok (.iload_n 1, 1) := dk_27 (dk_at dksX2_swimming_0 12 rfl rfl)
theorem dX2_swimming_13 : decode cX2_swimming 13 = .ok (.aload_n 0, 1) := dk_42 (dk_at dksX2_swimming_0 13 rfl rfl)
theorem dX2_swimming_14 : decode cX2_swimming 14 = .ok (.iload_n 2, 1) := dk_28 (dk_at dksX2_swimming_0 14 rfl rfl)
theorem dX2_swimming_15 : decode cX2_swimming 15 = .ok (.invokevirtual 51, 3) := dk_182 0 51 (dk_at dksX2_swimming_0 15 rfl rfl)
theorem dX2_swimming_18 : decode cX2_swimming 18 = .ok (.ifCond .eq 9, 3) := dk_153 0 9 (dk_at dksX2_swimming_0 18 rfl rfl)
theorem dX2_swimming_21 : decode cX2_swimming 21 = .ok (.iconst 1, 1) := dk_4 (dk_at dksX2_swimming_0 21 rfl rfl)
theorem dX2_swimming_22 : decode cX2_swimming 22 = .ok (.iload_n 2, 1) := dk_28 (dk_at dksX2_swimming_0 22 rfl rfl)
theorem dX2_swimming_23 : decode cX2_swimming 23 = .ok (.ishl, 1) := dk_120 (dk_at dksX2_swimming_0 23 rfl rfl)
theorem dX2_swimming_24 : decode cX2_swimming 24 = .ok (.goto 4, 3) := dk_167 0 4 (dk_at dksX2_swimming_1 0 rfl rfl)
theorem dX2_swimming_27 : decode cX2_swimming 27 = .ok (.iconst 0, 1) := dk_3 (dk_at dksX2_swimming_1 3 rfl rfl)
theorem dX2_swimming_28 : decode cX2_swimming 28 = .ok (.ior, 1) := dk_128 (dk_at dksX2_swimming_1 4 rfl rfl)
theorem dX2_swimming_29 : decode cX2_swimming 29 = .ok (.istore_n 1, 1) := dk_60 (dk_at dksX2_swimming_1 5 rfl rfl)
theorem dX2_swimming_30 : decode cX2_swimming 30 = .ok (.iinc 2 1, 3) := dk_132 2 1 (dk_at dksX2_swimming_1 6 rfl rfl)
theorem dX2_swimming_33 : decode cX2_swimming 33 = .ok (.goto (-29), 3) := dk_167 255 227 (dk_at dksX2_swimming_1 9 rfl rfl)
theorem dX2_swimming_36 : decode cX2_swimming 36 = .ok (.iload_n 1, 1) := dk_27 (dk_at dksX2_swimming_1 12 rfl rfl)
theorem dX2_swimming_37 : decode cX2_swimming 37 = .ok (.ireturn, 1) := dk_172 (dk_at dksX2_swimming_1 13 rfl rfl)
abbrev cX2_init : ByteArray := prog_2_method_1_code
def yX2_init : MethodName := ⟨RX2, "<init>", "()V"⟩
def dkwX2_init_1 : List UInt8 := [188, 10, 181, 0, 21, 42, 16, 6, 188, 10, 181, 0, 24, 177]
abbrev dktX2_init_1 : List UInt8 := dkwX2_init_1 ++ []
def dkwX2_init_0 : List UInt8 := [42, 183, 0, 3, 42, 16, 6, 189, 0, 9, 181, 0, 11, 42, 16, 6, 188, 10, 181, 0, 17, 42, 16, 6]
abbrev dktX2_init_0 : List UInt8 := dkwX2_init_0 ++ dktX2_init_1
theorem dksX2_init_0 : cX2_init.data.toList.drop 0 = dktX2_init_0 := by decide +kernel
theorem dksX2_init_1 : cX2_init.data.toList.drop 24 = dktX2_init_1 := dk_seg dksX2_init_0 24 rfl rfl
theorem dX2_init_0 : decode cX2_init 0 = .ok (.aload_n 0, 1) := dk_42 (dk_at dksX2_init_0 0 rfl rfl)
theorem dX2_init_1 : decode cX2_init 1 = .ok (.invokespecial 3, 3) := dk_183 0 3 (dk_at dksX2_init_0 1 rfl rfl)
theorem dX2_init_4 : decode cX2_init 4 = .ok (.aload_n 0, 1) := dk_42 (dk_at dksX2_init_0 4 rfl rfl)
theorem dX2_init_5 : decode cX2_init 5 = .ok (.bipush 6, 2) := dk_16 6 (dk_at dksX2_init_0 5 rfl rfl)
theorem dX2_init_7 : decode cX2_init 7 = .ok (.anewarray 9, 3) := dk_189 0 9 (dk_at dksX2_init_0 7 rfl rfl)
theorem dX2_init_10 : decode cX2_init 10 = .ok (.putfield 11, 3) := dk_181 0 11 (dk_at dksX2_init_0 10 rfl rfl)
theorem dX2_init_13 : decode cX2_init 13 = .ok (.aload_n 0, 1) := dk_42 (dk_at dksX2_init_0 13 rfl rfl)
theorem dX2_init_14 : decode cX2_init 14 = .ok (.bipush 6, 2) := dk_16 6 (dk_at dksX2_init_0 14 rfl rfl)
theorem dX2_init_16 : decode cX2_init 16 = .ok (.newarray .int, 2) := dk_188_10 (dk_at dksX2_init_0 16 rfl rfl)
theorem dX2_init_18 : decode cX2_init 18 = .ok (.putfield 17, 3) := dk_181 0 17 (dk_at dksX2_init_0 18 rfl rfl)
theorem dX2_init_21 : decode cX2_init 21 = .ok (.aload_n 0, 1) := dk_42 (dk_at dksX2_init_0 21 rfl rfl)
theorem dX2_init_22 : decode cX2_init 22 = .ok (.bipush 6, 2) := dk_16 6 (dk_at dksX2_init_0 22 rfl rfl)
theorem dX2_init_24 : decode cX2_init 24 = .ok (.newarray .int, 2) := dk_188_10 (dk_at dksX2_init_1 0 rfl rfl)
theorem dX2_init_26 : decode cX2_init 26 = .ok (.putfield 21, 3) := dk_181 0 21 (dk_at dksX2_init_1 2 rfl rfl)
theorem dX2_init_29 : decode cX2_init 29 = .ok (.aload_n 0, 1) := dk_42 (dk_at dksX2_init_1 5 rfl rfl)
theorem dX2_init_30 : decode cX2_init 30 = .ok (.bipush 6, 2) := dk_16 6 (dk_at dksX2_init_1 6 rfl rfl)
theorem dX2_init_32 : decode cX2_init 32 = .ok (.newarray .int, 2) := dk_188_10 (dk_at dksX2_init_1 8 rfl rfl)
theorem dX2_init_34 : decode cX2_init 34 = .ok (.putfield 24, 3) := dk_181 0 24 (dk_at dksX2_init_1 10 rfl rfl)
theorem dX2_init_37 : decode cX2_init 37 = .ok (.return_, 1) := dk_177 (dk_at dksX2_init_1 13 rfl rfl)
theorem q80 : (Jvm.Cond.initialized "HandUnderTheChin$Bath") ∈ lw_all := lw_g (lw_at lw_m1 2 rfl) rfl
theorem q307 : (Jvm.Cond.instanceMethod ({ cls := "HandUnderTheChin$Bath", name := "takes", desc := "(LHandUnderTheChin$Bath;)V" } : Jvm.MethodName)) ∈ lw_all := lw_g (lw_at lw_m1 229 rfl) rfl
theorem q308 : (Jvm.Cond.selects "HandUnderTheChin$Bath" ({ cls := "HandUnderTheChin$Bath", name := "takes", desc := "(LHandUnderTheChin$Bath;)V" } : Jvm.MethodName) ({ cls := "HandUnderTheChin$Bath", name := "takes", desc := "(LHandUnderTheChin$Bath;)V" } : Jvm.MethodName)) ∈ lw_all := lw_g (lw_at lw_m1 230 rfl) rfl
theorem q309 : (Jvm.Cond.code ({ cls := "HandUnderTheChin$Bath", name := "takes", desc := "(LHandUnderTheChin$Bath;)V" } : Jvm.MethodName) prog_2_method_3_code (2 : Nat) (Option.none : Option Jvm.ClassFile.FieldType)) ∈ lw_all := lw_g (lw_at lw_m1 231 rfl) rfl
theorem q310 : (Jvm.Cond.methodLink "HandUnderTheChin$Bath" (27 : Nat) ({ cls := "java/lang/System", name := "arraycopy", desc := "(Ljava/lang/Object;ILjava/lang/Object;II)V" } : Jvm.MethodName)) ∈ lw_all := lw_g (lw_at lw_m1 232 rfl) rfl
theorem q313 : (Jvm.Cond.methodLink "HandUnderTheChin$Bath" (33 : Nat) ({ cls := "HandUnderTheChin$Bath", name := "copies", desc := "([I[I)V" } : Jvm.MethodName)) ∈ lw_all := lw_g (lw_at lw_m1 235 rfl) rfl
theorem q314 : (Jvm.Cond.static ({ cls := "HandUnderTheChin$Bath", name := "copies", desc := "([I[I)V" } : Jvm.MethodName)) ∈ lw_all := lw_g (lw_at lw_m1 236 rfl) rfl
theorem q315 : (Jvm.Cond.code ({ cls := "HandUnderTheChin$Bath", name := "copies", desc := "([I[I)V" } : Jvm.MethodName) prog_2_method_2_code (2 : Nat) (Option.none : Option Jvm.ClassFile.FieldType)) ∈ lw_all := lw_g (lw_at lw_m1 237 rfl) rfl
theorem q406 : (Jvm.Cond.instanceMethod ({ cls := "HandUnderTheChin$Bath", name := "comes", desc := "(LHandUnderTheChin$Child;I)I" } : Jvm.MethodName)) ∈ lw_all := lw_g (lw_at lw_m2 88 rfl) rfl
theorem q407 : (Jvm.Cond.selects "HandUnderTheChin$Bath" ({ cls := "HandUnderTheChin$Bath", name := "comes", desc := "(LHandUnderTheChin$Child;I)I" } : Jvm.MethodName) ({ cls := "HandUnderTheChin$Bath", name := "comes", desc := "(LHandUnderTheChin$Child;I)I" } : Jvm.MethodName)) ∈ lw_all := lw_g (lw_at lw_m2 89 rfl) rfl
theorem q408 : (Jvm.Cond.code ({ cls := "HandUnderTheChin$Bath", name := "comes", desc := "(LHandUnderTheChin$Child;I)I" } : Jvm.MethodName) prog_2_method_7_code (3 : Nat) (Option.some Jvm.ClassFile.FieldType.int)) ∈ lw_all := lw_g (lw_at lw_m2 90 rfl) rfl
theorem q413 : (Jvm.Cond.instanceMethod ({ cls := "HandUnderTheChin$Bath", name := "isOne", desc := "(I)Z" } : Jvm.MethodName)) ∈ lw_all := lw_g (lw_at lw_m2 95 rfl) rfl
theorem q414 : (Jvm.Cond.selects "HandUnderTheChin$Bath" ({ cls := "HandUnderTheChin$Bath", name := "isOne", desc := "(I)Z" } : Jvm.MethodName) ({ cls := "HandUnderTheChin$Bath", name := "isOne", desc := "(I)Z" } : Jvm.MethodName)) ∈ lw_all := lw_g (lw_at lw_m2 96 rfl) rfl
theorem q415 : (Jvm.Cond.code ({ cls := "HandUnderTheChin$Bath", name := "isOne", desc := "(I)Z" } : Jvm.MethodName) prog_2_method_4_code (2 : Nat) (Option.some Jvm.ClassFile.FieldType.boolean)) ∈ lw_all := lw_g (lw_at lw_m2 97 rfl) rfl
theorem q416 : (Jvm.Cond.methodLinkNest "HandUnderTheChin$Bath" (47 : Nat) ({ cls := "HandUnderTheChin", name := "isIn", desc := "(III)Z" } : Jvm.MethodName) "HandUnderTheChin") ∈ lw_tbl := lw_at lw_m2 98 rfl
theorem q418 : (Jvm.Cond.instanceMethod ({ cls := "HandUnderTheChin$Bath", name := "swims", desc := "(I)Z" } : Jvm.MethodName)) ∈ lw_all := lw_g (lw_at lw_m2 100 rfl) rfl
theorem q419 : (Jvm.Cond.selects "HandUnderTheChin$Bath" ({ cls := "HandUnderTheChin$Bath", name := "swims", desc := "(I)Z" } : Jvm.MethodName) ({ cls := "HandUnderTheChin$Bath", name := "swims", desc := "(I)Z" } : Jvm.MethodName)) ∈ lw_all := lw_g (lw_at lw_m2 101 rfl) rfl
theorem q420 : (Jvm.Cond.code ({ cls := "HandUnderTheChin$Bath", name := "swims", desc := "(I)Z" } : Jvm.MethodName) prog_2_method_5_code (2 : Nat) (Option.some Jvm.ClassFile.FieldType.boolean)) ∈ lw_all := lw_g (lw_at lw_m2 102 rfl) rfl
theorem q422 : (Jvm.Cond.instanceMethod ({ cls := "HandUnderTheChin$Bath", name := "minute", desc := "(II)I" } : Jvm.MethodName)) ∈ lw_all := lw_g (lw_at lw_m2 104 rfl) rfl
theorem q423 : (Jvm.Cond.selects "HandUnderTheChin$Bath" ({ cls := "HandUnderTheChin$Bath", name := "minute", desc := "(II)I" } : Jvm.MethodName) ({ cls := "HandUnderTheChin$Bath", name := "minute", desc := "(II)I" } : Jvm.MethodName)) ∈ lw_all := lw_g (lw_at lw_m2 105 rfl) rfl
theorem q424 : (Jvm.Cond.code ({ cls := "HandUnderTheChin$Bath", name := "minute", desc := "(II)I" } : Jvm.MethodName) prog_2_method_15_code (4 : Nat) (Option.some Jvm.ClassFile.FieldType.int)) ∈ lw_all := lw_g (lw_at lw_m2 106 rfl) rfl
theorem q446 : (Jvm.Cond.methodLink "HandUnderTheChin$Bath" (65 : Nat) ({ cls := "HandUnderTheChin$Bath", name := "gains", desc := "(II)V" } : Jvm.MethodName)) ∈ lw_all := lw_g (lw_at lw_m2 128 rfl) rfl
theorem q447 : (Jvm.Cond.privateMethod ({ cls := "HandUnderTheChin$Bath", name := "gains", desc := "(II)V" } : Jvm.MethodName)) ∈ lw_tbl := lw_at lw_m2 129 rfl
theorem q448 : (Jvm.Cond.instanceMethod ({ cls := "HandUnderTheChin$Bath", name := "gains", desc := "(II)V" } : Jvm.MethodName)) ∈ lw_all := lw_g (lw_at lw_m2 130 rfl) rfl
theorem q449 : (Jvm.Cond.instantiable "HandUnderTheChin$Bath" (7 : Nat)) ∈ lw_all := lw_g (lw_at lw_m2 131 rfl) rfl
theorem q450 : (Jvm.Cond.code ({ cls := "HandUnderTheChin$Bath", name := "gains", desc := "(II)V" } : Jvm.MethodName) prog_2_method_8_code (3 : Nat) (Option.none : Option Jvm.ClassFile.FieldType)) ∈ lw_all := lw_g (lw_at lw_m2 132 rfl) rfl
theorem q451 : (Jvm.Cond.methodLink "HandUnderTheChin$Bath" (59 : Nat) ({ cls := "HandUnderTheChin$Bath", name := "isOne", desc := "(I)Z" } : Jvm.MethodName)) ∈ lw_all := lw_g (lw_at lw_m2 133 rfl) rfl
theorem q452 : (Jvm.Cond.methodLinkNest "HandUnderTheChin$Bath" (62 : Nat) ({ cls := "HandUnderTheChin", name := "held", desc := "(I)I" } : Jvm.MethodName) "HandUnderTheChin") ∈ lw_tbl := lw_at lw_m2 134 rfl
theorem q461 : (Jvm.Cond.methodLink "HandUnderTheChin$Bath" (97 : Nat) ({ cls := "HandUnderTheChin$Bath", name := "fingers", desc := "(I)V" } : Jvm.MethodName)) ∈ lw_all := lw_g (lw_at lw_m2 143 rfl) rfl
theorem q462 : (Jvm.Cond.privateMethod ({ cls := "HandUnderTheChin$Bath", name := "fingers", desc := "(I)V" } : Jvm.MethodName)) ∈ lw_tbl := lw_at lw_m2 144 rfl
theorem q463 : (Jvm.Cond.instanceMethod ({ cls := "HandUnderTheChin$Bath", name := "fingers", desc := "(I)V" } : Jvm.MethodName)) ∈ lw_all := lw_g (lw_at lw_m2 145 rfl) rfl
theorem q464 : (Jvm.Cond.code ({ cls := "HandUnderTheChin$Bath", name := "fingers", desc := "(I)V" } : Jvm.MethodName) prog_2_method_13_code (2 : Nat) (Option.none : Option Jvm.ClassFile.FieldType)) ∈ lw_all := lw_g (lw_at lw_m2 146 rfl) rfl
theorem q465 : (Jvm.Cond.methodLink "HandUnderTheChin$Bath" (55 : Nat) ({ cls := "HandUnderTheChin$Child", name := "needs", desc := "(I)I" } : Jvm.MethodName)) ∈ lw_all := lw_g (lw_at lw_m2 147 rfl) rfl
theorem q492 : (Jvm.Cond.methodLink "HandUnderTheChin$Bath" (101 : Nat) ({ cls := "HandUnderTheChin$Bath", name := "letGo", desc := "(I)V" } : Jvm.MethodName)) ∈ lw_all := lw_g (lw_at lw_m2 174 rfl) rfl
theorem q493 : (Jvm.Cond.privateMethod ({ cls := "HandUnderTheChin$Bath", name := "letGo", desc := "(I)V" } : Jvm.MethodName)) ∈ lw_tbl := lw_at lw_m2 175 rfl
theorem q494 : (Jvm.Cond.instanceMethod ({ cls := "HandUnderTheChin$Bath", name := "letGo", desc := "(I)V" } : Jvm.MethodName)) ∈ lw_all := lw_g (lw_at lw_m2 176 rfl) rfl
theorem q495 : (Jvm.Cond.code ({ cls := "HandUnderTheChin$Bath", name := "letGo", desc := "(I)V" } : Jvm.MethodName) prog_2_method_10_code (3 : Nat) (Option.none : Option Jvm.ClassFile.FieldType)) ∈ lw_all := lw_g (lw_at lw_m2 177 rfl) rfl
theorem q514 : (Jvm.Cond.methodLink "HandUnderTheChin$Bath" (73 : Nat) ({ cls := "HandUnderTheChin$Bath", name := "isReady", desc := "(I)Z" } : Jvm.MethodName)) ∈ lw_all := lw_g (lw_at lw_m2 196 rfl) rfl
theorem q515 : (Jvm.Cond.instanceMethod ({ cls := "HandUnderTheChin$Bath", name := "isReady", desc := "(I)Z" } : Jvm.MethodName)) ∈ lw_all := lw_g (lw_at lw_m2 197 rfl) rfl
theorem q516 : (Jvm.Cond.selects "HandUnderTheChin$Bath" ({ cls := "HandUnderTheChin$Bath", name := "isReady", desc := "(I)Z" } : Jvm.MethodName) ({ cls := "HandUnderTheChin$Bath", name := "isReady", desc := "(I)Z" } : Jvm.MethodName)) ∈ lw_all := lw_g (lw_at lw_m2 198 rfl) rfl
theorem q517 : (Jvm.Cond.code ({ cls := "HandUnderTheChin$Bath", name := "isReady", desc := "(I)Z" } : Jvm.MethodName) prog_2_method_6_code (2 : Nat) (Option.some Jvm.ClassFile.FieldType.boolean)) ∈ lw_all := lw_g (lw_at lw_m2 199 rfl) rfl
theorem q518 : (Jvm.Cond.methodLink "HandUnderTheChin$Bath" (51 : Nat) ({ cls := "HandUnderTheChin$Bath", name := "swims", desc := "(I)Z" } : Jvm.MethodName)) ∈ lw_all := lw_g (lw_at lw_m2 200 rfl) rfl
theorem q519 : (Jvm.Cond.methodLink "HandUnderTheChin$Bath" (76 : Nat) ({ cls := "HandUnderTheChin$Bath", name := "passes", desc := "(II)V" } : Jvm.MethodName)) ∈ lw_all := lw_g (lw_at lw_m2 201 rfl) rfl
theorem q520 : (Jvm.Cond.privateMethod ({ cls := "HandUnderTheChin$Bath", name := "passes", desc := "(II)V" } : Jvm.MethodName)) ∈ lw_tbl := lw_at lw_m2 202 rfl
theorem q521 : (Jvm.Cond.instanceMethod ({ cls := "HandUnderTheChin$Bath", name := "passes", desc := "(II)V" } : Jvm.MethodName)) ∈ lw_all := lw_g (lw_at lw_m2 203 rfl) rfl
theorem q522 : (Jvm.Cond.code ({ cls := "HandUnderTheChin$Bath", name := "passes", desc := "(II)V" } : Jvm.MethodName) prog_2_method_9_code (3 : Nat) (Option.none : Option Jvm.ClassFile.FieldType)) ∈ lw_all := lw_g (lw_at lw_m2 204 rfl) rfl
theorem q544 : (Jvm.Cond.methodLink "HandUnderTheChin$Bath" (104 : Nat) ({ cls := "HandUnderTheChin$Bath", name := "isShown", desc := "(I)V" } : Jvm.MethodName)) ∈ lw_all := lw_g (lw_at lw_m2 226 rfl) rfl
theorem q545 : (Jvm.Cond.privateMethod ({ cls := "HandUnderTheChin$Bath", name := "isShown", desc := "(I)V" } : Jvm.MethodName)) ∈ lw_tbl := lw_at lw_m2 227 rfl
theorem q546 : (Jvm.Cond.instanceMethod ({ cls := "HandUnderTheChin$Bath", name := "isShown", desc := "(I)V" } : Jvm.MethodName)) ∈ lw_all := lw_g (lw_at lw_m2 228 rfl) rfl
theorem q547 : (Jvm.Cond.code ({ cls := "HandUnderTheChin$Bath", name := "isShown", desc := "(I)V" } : Jvm.MethodName) prog_2_method_12_code (4 : Nat) (Option.none : Option Jvm.ClassFile.FieldType)) ∈ lw_all := lw_g (lw_at lw_m2 229 rfl) rfl
theorem q548 : (Jvm.Cond.methodLink "HandUnderTheChin$Bath" (81 : Nat) ({ cls := "HandUnderTheChin$Bath", name := "isGreater", desc := "(II)Z" } : Jvm.MethodName)) ∈ lw_all := lw_g (lw_at lw_m2 230 rfl) rfl
theorem q549 : (Jvm.Cond.privateMethod ({ cls := "HandUnderTheChin$Bath", name := "isGreater", desc := "(II)Z" } : Jvm.MethodName)) ∈ lw_tbl := lw_at lw_m2 231 rfl
theorem q550 : (Jvm.Cond.instanceMethod ({ cls := "HandUnderTheChin$Bath", name := "isGreater", desc := "(II)Z" } : Jvm.MethodName)) ∈ lw_all := lw_g (lw_at lw_m2 232 rfl) rfl
theorem q551 : (Jvm.Cond.code ({ cls := "HandUnderTheChin$Bath", name := "isGreater", desc := "(II)Z" } : Jvm.MethodName) prog_2_method_11_code (3 : Nat) (Option.some Jvm.ClassFile.FieldType.boolean)) ∈ lw_all := lw_g (lw_at lw_m2 233 rfl) rfl
theorem q552 : (Jvm.Cond.methodLink "HandUnderTheChin$Bath" (107 : Nat) ({ cls := "HandUnderTheChin$Bath", name := "waits", desc := "(I)V" } : Jvm.MethodName)) ∈ lw_all := lw_g (lw_at lw_m2 234 rfl) rfl
theorem q553 : (Jvm.Cond.privateMethod ({ cls := "HandUnderTheChin$Bath", name := "waits", desc := "(I)V" } : Jvm.MethodName)) ∈ lw_tbl := lw_at lw_m2 235 rfl
theorem q554 : (Jvm.Cond.instanceMethod ({ cls := "HandUnderTheChin$Bath", name := "waits", desc := "(I)V" } : Jvm.MethodName)) ∈ lw_all := lw_g (lw_at lw_m2 236 rfl) rfl
theorem q555 : (Jvm.Cond.code ({ cls := "HandUnderTheChin$Bath", name := "waits", desc := "(I)V" } : Jvm.MethodName) prog_2_method_14_code (2 : Nat) (Option.none : Option Jvm.ClassFile.FieldType)) ∈ lw_all := lw_g (lw_at lw_m2 237 rfl) rfl
theorem q556 : (Jvm.Cond.methodLink "HandUnderTheChin$Bath" (88 : Nat) ({ cls := "java/lang/Math", name := "min", desc := "(II)I" } : Jvm.MethodName)) ∈ lw_all := lw_g (lw_at lw_m2 238 rfl) rfl
theorem q576 : (Jvm.Cond.instanceMethod ({ cls := "HandUnderTheChin$Bath", name := "rest", desc := "(I)V" } : Jvm.MethodName)) ∈ lw_all := lw_g (lw_at lw_m3 18 rfl) rfl
theorem q577 : (Jvm.Cond.selects "HandUnderTheChin$Bath" ({ cls := "HandUnderTheChin$Bath", name := "rest", desc := "(I)V" } : Jvm.MethodName) ({ cls := "HandUnderTheChin$Bath", name := "rest", desc := "(I)V" } : Jvm.MethodName)) ∈ lw_all := lw_g (lw_at lw_m3 19 rfl) rfl
theorem q578 : (Jvm.Cond.code ({ cls := "HandUnderTheChin$Bath", name := "rest", desc := "(I)V" } : Jvm.MethodName) prog_2_method_18_code (3 : Nat) (Option.none : Option Jvm.ClassFile.FieldType)) ∈ lw_all := lw_g (lw_at lw_m3 20 rfl) rfl
theorem q579 : (Jvm.Cond.methodLink "HandUnderTheChin$Bath" (114 : Nat) ({ cls := "java/lang/Math", name := "max", desc := "(II)I" } : Jvm.MethodName)) ∈ lw_all := lw_g (lw_at lw_m3 21 rfl) rfl
theorem q581 : (Jvm.Cond.instanceMethod ({ cls := "HandUnderTheChin$Bath", name := "change", desc := "(II)V" } : Jvm.MethodName)) ∈ lw_all := lw_g (lw_at lw_m3 23 rfl) rfl
theorem q582 : (Jvm.Cond.selects "HandUnderTheChin$Bath" ({ cls := "HandUnderTheChin$Bath", name := "change", desc := "(II)V" } : Jvm.MethodName) ({ cls := "HandUnderTheChin$Bath", name := "change", desc := "(II)V" } : Jvm.MethodName)) ∈ lw_all := lw_g (lw_at lw_m3 24 rfl) rfl
theorem q583 : (Jvm.Cond.code ({ cls := "HandUnderTheChin$Bath", name := "change", desc := "(II)V" } : Jvm.MethodName) prog_2_method_17_code (4 : Nat) (Option.none : Option Jvm.ClassFile.FieldType)) ∈ lw_all := lw_g (lw_at lw_m3 25 rfl) rfl
theorem q584 : (Jvm.Cond.methodLink "HandUnderTheChin$Bath" (110 : Nat) ({ cls := "HandUnderTheChin$Bath", name := "swaps", desc := "([III)V" } : Jvm.MethodName)) ∈ lw_all := lw_g (lw_at lw_m3 26 rfl) rfl
theorem q585 : (Jvm.Cond.static ({ cls := "HandUnderTheChin$Bath", name := "swaps", desc := "([III)V" } : Jvm.MethodName)) ∈ lw_all := lw_g (lw_at lw_m3 27 rfl) rfl
theorem q586 : (Jvm.Cond.code ({ cls := "HandUnderTheChin$Bath", name := "swaps", desc := "([III)V" } : Jvm.MethodName) prog_2_method_16_code (4 : Nat) (Option.none : Option Jvm.ClassFile.FieldType)) ∈ lw_all := lw_g (lw_at lw_m3 28 rfl) rfl
theorem q651 : (Jvm.Cond.instanceMethod ({ cls := "HandUnderTheChin$Bath", name := "allSteps", desc := "()I" } : Jvm.MethodName)) ∈ lw_all := lw_g (lw_at lw_m3 93 rfl) rfl
theorem q652 : (Jvm.Cond.selects "HandUnderTheChin$Bath" ({ cls := "HandUnderTheChin$Bath", name := "allSteps", desc := "()I" } : Jvm.MethodName) ({ cls := "HandUnderTheChin$Bath", name := "allSteps", desc := "()I" } : Jvm.MethodName)) ∈ lw_all := lw_g (lw_at lw_m3 94 rfl) rfl
theorem q653 : (Jvm.Cond.code ({ cls := "HandUnderTheChin$Bath", name := "allSteps", desc := "()I" } : Jvm.MethodName) prog_2_method_19_code (3 : Nat) (Option.some Jvm.ClassFile.FieldType.int)) ∈ lw_all := lw_g (lw_at lw_m3 95 rfl) rfl
theorem q710 : (Jvm.Cond.instanceMethod ({ cls := "HandUnderTheChin$Bath", name := "allSwim", desc := "()Z" } : Jvm.MethodName)) ∈ lw_all := lw_g (lw_at lw_m3 152 rfl) rfl
theorem q711 : (Jvm.Cond.selects "HandUnderTheChin$Bath" ({ cls := "HandUnderTheChin$Bath", name := "allSwim", desc := "()Z" } : Jvm.MethodName) ({ cls := "HandUnderTheChin$Bath", name := "allSwim", desc := "()Z" } : Jvm.MethodName)) ∈ lw_all := lw_g (lw_at lw_m3 153 rfl) rfl
theorem q712 : (Jvm.Cond.code ({ cls := "HandUnderTheChin$Bath", name := "allSwim", desc := "()Z" } : Jvm.MethodName) prog_2_method_21_code (1 : Nat) (Option.some Jvm.ClassFile.FieldType.boolean)) ∈ lw_all := lw_g (lw_at lw_m3 154 rfl) rfl
theorem q713 : (Jvm.Cond.methodLink "HandUnderTheChin$Bath" (117 : Nat) ({ cls := "HandUnderTheChin$Bath", name := "swimming", desc := "()I" } : Jvm.MethodName)) ∈ lw_all := lw_g (lw_at lw_m3 155 rfl) rfl
theorem q714 : (Jvm.Cond.instanceMethod ({ cls := "HandUnderTheChin$Bath", name := "swimming", desc := "()I" } : Jvm.MethodName)) ∈ lw_all := lw_g (lw_at lw_m3 156 rfl) rfl
theorem q715 : (Jvm.Cond.selects "HandUnderTheChin$Bath" ({ cls := "HandUnderTheChin$Bath", name := "swimming", desc := "()I" } : Jvm.MethodName) ({ cls := "HandUnderTheChin$Bath", name := "swimming", desc := "()I" } : Jvm.MethodName)) ∈ lw_all := lw_g (lw_at lw_m3 157 rfl) rfl
theorem q716 : (Jvm.Cond.code ({ cls := "HandUnderTheChin$Bath", name := "swimming", desc := "()I" } : Jvm.MethodName) prog_2_method_20_code (3 : Nat) (Option.some Jvm.ClassFile.FieldType.int)) ∈ lw_all := lw_g (lw_at lw_m3 158 rfl) rfl
theorem q867 : (Jvm.Cond.instanceMethod ({ cls := "HandUnderTheChin$Bath", name := "<init>", desc := "()V" } : Jvm.MethodName)) ∈ lw_all := lw_g (lw_at lw_m4 69 rfl) rfl
theorem q868 : (Jvm.Cond.code ({ cls := "HandUnderTheChin$Bath", name := "<init>", desc := "()V" } : Jvm.MethodName) prog_2_method_1_code (1 : Nat) (Option.none : Option Jvm.ClassFile.FieldType)) ∈ lw_all := lw_g (lw_at lw_m4 70 rfl) rfl
theorem q869 : (Jvm.Cond.methodLink "HandUnderTheChin$Bath" (3 : Nat) ({ cls := "java/lang/Object", name := "<init>", desc := "()V" } : Jvm.MethodName)) ∈ lw_all := lw_g (lw_at lw_m4 71 rfl) rfl
theorem q870 : (Jvm.Cond.classLink "HandUnderTheChin$Bath" (9 : Nat) "HandUnderTheChin$Child") ∈ lw_all := lw_g (lw_at lw_m4 72 rfl) rfl
theorem q872 : (Jvm.Cond.fieldLink "HandUnderTheChin$Bath" (11 : Nat) "HandUnderTheChin$Bath" "who" "[LHandUnderTheChin$Child;") ∈ lw_all := lw_g (lw_at lw_m4 74 rfl) rfl
theorem q874 : (Jvm.Cond.fieldLink "HandUnderTheChin$Bath" (17 : Nat) "HandUnderTheChin$Bath" "trust" "[I") ∈ lw_all := lw_g (lw_at lw_m4 76 rfl) rfl
theorem q876 : (Jvm.Cond.fieldLink "HandUnderTheChin$Bath" (21 : Nat) "HandUnderTheChin$Bath" "step" "[I") ∈ lw_all := lw_g (lw_at lw_m4 78 rfl) rfl
theorem q878 : (Jvm.Cond.fieldLink "HandUnderTheChin$Bath" (24 : Nat) "HandUnderTheChin$Bath" "cold" "[I") ∈ lw_all := lw_g (lw_at lw_m4 80 rfl) rfl
theorem q880 : (Jvm.Cond.fieldLink "HandUnderTheChin$Bath" (37 : Nat) "HandUnderTheChin$Bath" "children" "I") ∈ lw_all := lw_g (lw_at lw_m4 82 rfl) rfl
theorem q882 : (Jvm.Cond.fieldLink "HandUnderTheChin$Bath" (41 : Nat) "HandUnderTheChin$Bath" "minute" "I") ∈ lw_all := lw_g (lw_at lw_m4 84 rfl) rfl
theorem q884 : (Jvm.Cond.fieldLink "HandUnderTheChin$Bath" (44 : Nat) "HandUnderTheChin$Bath" "swallows" "I") ∈ lw_all := lw_g (lw_at lw_m4 86 rfl) rfl
theorem q886 : (Jvm.Cond.laysFinal "HandUnderTheChin$Bath" "HandUnderTheChin$Bath" "who" "[LHandUnderTheChin$Child;") ∈ lw_all := lw_g (lw_at lw_m4 88 rfl) rfl
theorem q887 : (Jvm.Cond.soleField "HandUnderTheChin$Bath" "who") ∈ lw_all := lw_g (lw_at lw_m4 89 rfl) rfl
theorem q888 : (Jvm.Cond.laysFinal "HandUnderTheChin$Bath" "HandUnderTheChin$Bath" "trust" "[I") ∈ lw_all := lw_g (lw_at lw_m4 90 rfl) rfl
theorem q889 : (Jvm.Cond.soleField "HandUnderTheChin$Bath" "trust") ∈ lw_all := lw_g (lw_at lw_m4 91 rfl) rfl
theorem q890 : (Jvm.Cond.laysFinal "HandUnderTheChin$Bath" "HandUnderTheChin$Bath" "step" "[I") ∈ lw_all := lw_g (lw_at lw_m4 92 rfl) rfl
theorem q891 : (Jvm.Cond.soleField "HandUnderTheChin$Bath" "step") ∈ lw_all := lw_g (lw_at lw_m4 93 rfl) rfl
theorem q892 : (Jvm.Cond.laysFinal "HandUnderTheChin$Bath" "HandUnderTheChin$Bath" "cold" "[I") ∈ lw_all := lw_g (lw_at lw_m4 94 rfl) rfl
theorem q893 : (Jvm.Cond.soleField "HandUnderTheChin$Bath" "cold") ∈ lw_all := lw_g (lw_at lw_m4 95 rfl) rfl
theorem q894 : (Jvm.Cond.lays "HandUnderTheChin$Bath" "HandUnderTheChin$Bath" "children" "I") ∈ lw_all := lw_g (lw_at lw_m4 96 rfl) rfl
theorem q895 : (Jvm.Cond.soleField "HandUnderTheChin$Bath" "children") ∈ lw_all := lw_g (lw_at lw_m4 97 rfl) rfl
theorem q896 : (Jvm.Cond.lays "HandUnderTheChin$Bath" "HandUnderTheChin$Bath" "minute" "I") ∈ lw_all := lw_g (lw_at lw_m4 98 rfl) rfl
theorem q897 : (Jvm.Cond.soleField "HandUnderTheChin$Bath" "minute") ∈ lw_all := lw_g (lw_at lw_m4 99 rfl) rfl
theorem q898 : (Jvm.Cond.lays "HandUnderTheChin$Bath" "HandUnderTheChin$Bath" "swallows" "I") ∈ lw_all := lw_g (lw_at lw_m4 100 rfl) rfl
theorem q899 : (Jvm.Cond.soleField "HandUnderTheChin$Bath" "swallows") ∈ lw_all := lw_g (lw_at lw_m4 101 rfl) rfl
theorem q900 : (Jvm.Cond.superclass "HandUnderTheChin$Bath" "java/lang/Object") ∈ lw_all := lw_g (lw_at lw_m4 102 rfl) rfl
theorem in_X2 : ∀ w ∈ wsX20, w ∈ lw_all := lw_in wsX20 [886, 888, 890, 892, 894, 896, 898] (by decide +kernel) (by decide +kernel)
/-! HandUnderTheChin$Shelf -/
set_option maxRecDepth 100000
def RX3 : String := "HandUnderTheChin$Shelf"
def TX3 : u_T := fun k => match k with
  | _ => ("HandUnderTheChin$Shelf", "held", "Ljava/lang/Object;", false)
def tyX3 : Nat → FieldType := fun k => match k with
  | _ => .object "java/lang/Object"
abbrev wsX30 : List Cond := u_ws RX3 TX3 1
theorem nmX3 : ∀ a, a < 1 → ∀ b, b < 1 → a ≠ b → (TX3 a).2.1 ≠ (TX3 b).2.1 := by decide +kernel
theorem tyX3_ok : ∀ k, k < 1 → parseFieldDescriptor (TX3 k).2.2.1 = some (tyX3 k) := by decide +kernel
abbrev cX3_init : ByteArray := prog_14_method_1_code
def yX3_init : MethodName := ⟨RX3, "<init>", "()V"⟩
theorem dX3_init_0 : decode cX3_init 0 = .ok (.aload_n 0, 1) := by decide +kernel
theorem dX3_init_1 : decode cX3_init 1 = .ok (.invokespecial 1, 3) := by decide +kernel
theorem dX3_init_4 : decode cX3_init 4 = .ok (.return_, 1) := by decide +kernel
theorem q81 : (Jvm.Cond.initialized "HandUnderTheChin$Shelf") ∈ lw_all := lw_g (lw_at lw_m1 3 rfl) rfl
theorem q906 : (Jvm.Cond.instantiable "HandUnderTheChin$Shelf" (1 : Nat)) ∈ lw_all := lw_g (lw_at lw_m4 108 rfl) rfl
theorem q908 : (Jvm.Cond.instanceMethod ({ cls := "HandUnderTheChin$Shelf", name := "<init>", desc := "()V" } : Jvm.MethodName)) ∈ lw_all := lw_g (lw_at lw_m4 110 rfl) rfl
theorem q909 : (Jvm.Cond.code ({ cls := "HandUnderTheChin$Shelf", name := "<init>", desc := "()V" } : Jvm.MethodName) prog_14_method_1_code (1 : Nat) (Option.none : Option Jvm.ClassFile.FieldType)) ∈ lw_all := lw_g (lw_at lw_m4 111 rfl) rfl
theorem q910 : (Jvm.Cond.methodLink "HandUnderTheChin$Shelf" (1 : Nat) ({ cls := "java/lang/Object", name := "<init>", desc := "()V" } : Jvm.MethodName)) ∈ lw_all := lw_g (lw_at lw_m4 112 rfl) rfl
theorem q912 : (Jvm.Cond.lays "HandUnderTheChin$Shelf" "HandUnderTheChin$Shelf" "held" "Ljava/lang/Object;") ∈ lw_all := lw_g (lw_at lw_m4 114 rfl) rfl
theorem q913 : (Jvm.Cond.soleField "HandUnderTheChin$Shelf" "held") ∈ lw_all := lw_g (lw_at lw_m4 115 rfl) rfl
theorem q914 : (Jvm.Cond.superclass "HandUnderTheChin$Shelf" "java/lang/Object") ∈ lw_all := lw_g (lw_at lw_m4 116 rfl) rfl
theorem in_X3 : ∀ w ∈ wsX30, w ∈ lw_all := lw_in wsX30 [912] (by decide +kernel) (by decide +kernel)
/-! HandUnderTheChin$BathReader -/
set_option maxRecDepth 100000
def RX5 : String := "HandUnderTheChin$BathReader"
def TX5 : u_T := fun k => match k with
  | 0 => ("HandUnderTheChin$BathReader", "text", "[B", true)
  | _ => ("HandUnderTheChin$BathReader", "at", "I", false)
def tyX5 : Nat → FieldType := fun k => match k with
  | 0 => .array .byte
  | _ => .int
abbrev wsX50 : List Cond := u_ws RX5 TX5 2
theorem nmX5 : ∀ a, a < 2 → ∀ b, b < 2 → a ≠ b → (TX5 a).2.1 ≠ (TX5 b).2.1 := by decide +kernel
theorem tyX5_ok : ∀ k, k < 2 → parseFieldDescriptor (TX5 k).2.2.1 = some (tyX5 k) := by decide +kernel
abbrev cX5_init : ByteArray := prog_3_method_1_code
def yX5_init : MethodName := ⟨RX5, "<init>", "([B)V"⟩
def dkwX5_init_0 : List UInt8 := [42, 183, 0, 3, 42, 43, 181, 0, 9, 177]
abbrev dktX5_init_0 : List UInt8 := dkwX5_init_0 ++ []
theorem dksX5_init_0 : cX5_init.data.toList.drop 0 = dktX5_init_0 := by decide +kernel
theorem dX5_init_0 : decode cX5_init 0 = .ok (.aload_n 0, 1) := dk_42 (dk_at dksX5_init_0 0 rfl rfl)
theorem dX5_init_1 : decode cX5_init 1 = .ok (.invokespecial 3, 3) := dk_183 0 3 (dk_at dksX5_init_0 1 rfl rfl)
theorem dX5_init_4 : decode cX5_init 4 = .ok (.aload_n 0, 1) := dk_42 (dk_at dksX5_init_0 4 rfl rfl)
theorem dX5_init_5 : decode cX5_init 5 = .ok (.aload_n 1, 1) := dk_43 (dk_at dksX5_init_0 5 rfl rfl)
theorem dX5_init_6 : decode cX5_init 6 = .ok (.putfield 9, 3) := dk_181 0 9 (dk_at dksX5_init_0 6 rfl rfl)
theorem dX5_init_9 : decode cX5_init 9 = .ok (.return_, 1) := dk_177 (dk_at dksX5_init_0 9 rfl rfl)
abbrev cX5_whole : ByteArray := prog_3_method_7_code
def yX5_whole : MethodName := ⟨RX5, "whole", "([LHandUnderTheChin$Told;)I"⟩
def dkwX5_whole_1 : List UInt8 := [28, 172]
abbrev dktX5_whole_1 : List UInt8 := dkwX5_whole_1 ++ []
def dkwX5_whole_0 : List UInt8 := [3, 61, 43, 28, 42, 182, 0, 55, 83, 132, 2, 1, 42, 180, 0, 15, 42, 180, 0, 9, 190, 161, 255, 237]
abbrev dktX5_whole_0 : List UInt8 := dkwX5_whole_0 ++ dktX5_whole_1
theorem dksX5_whole_0 : cX5_whole.data.toList.drop 0 = dktX5_whole_0 := by decide +kernel
theorem dksX5_whole_1 : cX5_whole.data.toList.drop 24 = dktX5_whole_1 := dk_seg dksX5_whole_0 24 rfl rfl
theorem dX5_whole_0 : decode cX5_whole 0 = .ok (.iconst 0, 1) := dk_3 (dk_at dksX5_whole_0 0 rfl rfl)
theorem dX5_whole_1 : decode cX5_whole 1 = .ok (.istore_n 2, 1) := dk_61 (dk_at dksX5_whole_0 1 rfl rfl)
theorem dX5_whole_2 : decode cX5_whole 2 = .ok (.aload_n 1, 1) := dk_43 (dk_at dksX5_whole_0 2 rfl rfl)
theorem dX5_whole_3 : decode cX5_whole 3 = .ok (.iload_n 2, 1) := dk_28 (dk_at dksX5_whole_0 3 rfl rfl)
theorem dX5_whole_4 : decode cX5_whole 4 = .ok (.aload_n 0, 1) := dk_42 (dk_at dksX5_whole_0 4 rfl rfl)
theorem dX5_whole_5 : decode cX5_whole 5 = .ok (.invokevirtual 55, 3) := dk_182 0 55 (dk_at dksX5_whole_0 5 rfl rfl)
theorem dX5_whole_8 : decode cX5_whole 8 = .ok (.aastore, 1) := dk_83 (dk_at dksX5_whole_0 8 rfl rfl)
theorem dX5_whole_9 : decode cX5_whole 9 = .ok (.iinc 2 1, 3) := dk_132 2 1 (dk_at dksX5_whole_0 9 rfl rfl)
theorem dX5_whole_12 : decode cX5_whole 12 = .ok (.aload_n 0, 1) := dk_42 (dk_at dksX5_whole_0 12 rfl rfl)
theorem dX5_whole_13 : decode cX5_whole 13 = .ok (.getfield 15, 3) := dk_180 0 15 (dk_at dksX5_whole_0 13 rfl rfl)
theorem dX5_whole_16 : decode cX5_whole 16 = .ok (.aload_n 0, 1) := dk_42 (dk_at dksX5_whole_0 16 rfl rfl)
theorem dX5_whole_17 : decode cX5_whole 17 = .ok (.getfield 9, 3) := dk_180 0 9 (dk_at dksX5_whole_0 17 rfl rfl)
theorem dX5_whole_20 : decode cX5_whole 20 = .ok (.arraylength, 1) := dk_190 (dk_at dksX5_whole_0 20 rfl rfl)
theorem dX5_whole_21 : decode cX5_whole 21 = .ok (.if_icmp .lt (-19), 3) := dk_161 255 237 (dk_at dksX5_whole_0 21 rfl rfl)
theorem dX5_whole_24 : decode cX5_whole 24 = .ok (.iload_n 2, 1) := dk_28 (dk_at dksX5_whole_1 0 rfl rfl)
theorem dX5_whole_25 : decode cX5_whole 25 = .ok (.ireturn, 1) := dk_172 (dk_at dksX5_whole_1 1 rfl rfl)
abbrev cX5_statement : ByteArray := prog_3_method_6_code
def yX5_statement : MethodName := ⟨RX5, "statement", "()LHandUnderTheChin$Told;"⟩
def dkwX5_statement_2 : List UInt8 := [180, 0, 15, 4, 96, 181, 0, 15, 43, 176]
abbrev dktX5_statement_2 : List UInt8 := dkwX5_statement_2 ++ []
def dkwX5_statement_1 : List UInt8 := [181, 0, 15, 42, 43, 182, 0, 51, 42, 182, 0, 24, 16, 59, 159, 0, 8, 42, 182, 0, 32, 191, 42, 89]
abbrev dktX5_statement_1 : List UInt8 := dkwX5_statement_1 ++ dktX5_statement_2
def dkwX5_statement_0 : List UInt8 := [187, 0, 37, 89, 42, 182, 0, 24, 42, 180, 0, 15, 183, 0, 48, 76, 42, 89, 180, 0, 15, 4, 96]
abbrev dktX5_statement_0 : List UInt8 := dkwX5_statement_0 ++ dktX5_statement_1
theorem dksX5_statement_0 : cX5_statement.data.toList.drop 0 = dktX5_statement_0 := by decide +kernel
theorem dksX5_statement_1 : cX5_statement.data.toList.drop 23 = dktX5_statement_1 := dk_seg dksX5_statement_0 23 rfl rfl
theorem dksX5_statement_2 : cX5_statement.data.toList.drop 47 = dktX5_statement_2 := dk_seg dksX5_statement_1 24 rfl rfl
theorem dX5_statement_0 : decode cX5_statement 0 = .ok (.new 37, 3) := dk_187 0 37 (dk_at dksX5_statement_0 0 rfl rfl)
theorem dX5_statement_3 : decode cX5_statement 3 = .ok (.dup, 1) := dk_89 (dk_at dksX5_statement_0 3 rfl rfl)
theorem dX5_statement_4 : decode cX5_statement 4 = .ok (.aload_n 0, 1) := dk_42 (dk_at dksX5_statement_0 4 rfl rfl)
theorem dX5_statement_5 : decode cX5_statement 5 = .ok (.invokevirtual 24, 3) := dk_182 0 24 (dk_at dksX5_statement_0 5 rfl rfl)
theorem dX5_statement_8 : decode cX5_statement 8 = .ok (.aload_n 0, 1) := dk_42 (dk_at dksX5_statement_0 8 rfl rfl)
theorem dX5_statement_9 : decode cX5_statement 9 = .ok (.getfield 15, 3) := dk_180 0 15 (dk_at dksX5_statement_0 9 rfl rfl)
theorem dX5_statement_12 : decode cX5_statement 12 = .ok (.invokespecial 48, 3) := dk_183 0 48 (dk_at dksX5_statement_0 12 rfl rfl)
theorem dX5_statement_15 : decode cX5_statement 15 = .ok (.astore_n 1, 1) := dk_76 (dk_at dksX5_statement_0 15 rfl rfl)
theorem dX5_statement_16 : decode cX5_statement 16 = .ok (.aload_n 0, 1) := dk_42 (dk_at dksX5_statement_0 16 rfl rfl)
theorem dX5_statement_17 : decode cX5_statement 17 = .ok (.dup, 1) := dk_89 (dk_at dksX5_statement_0 17 rfl rfl)
theorem dX5_statement_18 : decode cX5_statement 18 = .ok (.getfield 15, 3) := dk_180 0 15 (dk_at dksX5_statement_0 18 rfl rfl)
theorem dX5_statement_21 : decode cX5_statement 21 = .ok (.iconst 1, 1) := dk_4 (dk_at dksX5_statement_0 21 rfl rfl)
theorem dX5_statement_22 : decode cX5_statement 22 = .ok (.iadd, 1) := dk_96 (dk_at dksX5_statement_0 22 rfl rfl)
theorem dX5_statement_23 : decode cX5_statement 23 = .ok (.putfield 15, 3) := dk_181 0 15 (dk_at dksX5_statement_1 0 rfl rfl)
theorem dX5_statement_26 : decode cX5_statement 26 = .ok (.aload_n 0, 1) := dk_42 (dk_at dksX5_statement_1 3 rfl rfl)
theorem dX5_statement_27 : decode cX5_statement 27 = .ok (.aload_n 1, 1) := dk_43 (dk_at dksX5_statement_1 4 rfl rfl)
theorem dX5_statement_28 : decode cX5_statement 28 = .ok (.invokevirtual 51, 3) := dk_182 0 51 (dk_at dksX5_statement_1 5 rfl rfl)
theorem dX5_statement_31 : decode cX5_statement 31 = .ok (.aload_n 0, 1) := dk_42 (dk_at dksX5_statement_1 8 rfl rfl)
theorem dX5_statement_32 : decode cX5_statement 32 = .ok (.invokevirtual 24, 3) := dk_182 0 24 (dk_at dksX5_statement_1 9 rfl rfl)
theorem dX5_statement_35 : decode cX5_statement 35 = .ok (.bipush 59, 2) := dk_16 59 (dk_at dksX5_statement_1 12 rfl rfl)
theorem dX5_statement_37 : decode cX5_statement 37 = .ok (.if_icmp .eq 8, 3) := dk_159 0 8 (dk_at dksX5_statement_1 14 rfl rfl)
theorem dX5_statement_40 : decode cX5_statement 40 = .ok (.aload_n 0, 1) := dk_42 (dk_at dksX5_statement_1 17 rfl rfl)
theorem dX5_statement_41 : decode cX5_statement 41 = .ok (.invokevirtual 32, 3) := dk_182 0 32 (dk_at dksX5_statement_1 18 rfl rfl)
theorem dX5_statement_44 : decode cX5_statement 44 = .ok (.athrow, 1) := dk_191 (dk_at dksX5_statement_1 21 rfl rfl)
theorem dX5_statement_45 : decode cX5_statement 45 = .ok (.aload_n 0, 1) := dk_42 (dk_at dksX5_statement_1 22 rfl rfl)
theorem dX5_statement_46 : decode cX5_statement 46 = .ok (.dup, 1) := dk_89 (dk_at dksX5_statement_1 23 rfl rfl)
theorem dX5_statement_47 : decode cX5_statement 47 = .ok (.getfield 15, 3) := dk_180 0 15 (dk_at dksX5_statement_2 0 rfl rfl)
theorem dX5_statement_50 : decode cX5_statement 50 = .ok (.iconst 1, 1) := dk_4 (dk_at dksX5_statement_2 3 rfl rfl)
theorem dX5_statement_51 : decode cX5_statement 51 = .ok (.iadd, 1) := dk_96 (dk_at dksX5_statement_2 4 rfl rfl)
theorem dX5_statement_52 : decode cX5_statement 52 = .ok (.putfield 15, 3) := dk_181 0 15 (dk_at dksX5_statement_2 5 rfl rfl)
theorem dX5_statement_55 : decode cX5_statement 55 = .ok (.aload_n 1, 1) := dk_43 (dk_at dksX5_statement_2 8 rfl rfl)
theorem dX5_statement_56 : decode cX5_statement 56 = .ok (.areturn, 1) := dk_176 (dk_at dksX5_statement_2 9 rfl rfl)
abbrev cX5_sign : ByteArray := prog_3_method_2_code
def yX5_sign : MethodName := ⟨RX5, "sign", "()I"⟩
def dkwX5_sign_1 : List UInt8 := [2, 172]
abbrev dktX5_sign_1 : List UInt8 := dkwX5_sign_1 ++ []
def dkwX5_sign_0 : List UInt8 := [42, 180, 0, 15, 42, 180, 0, 9, 190, 162, 0, 15, 42, 180, 0, 9, 42, 180, 0, 15, 51, 167, 0, 4]
abbrev dktX5_sign_0 : List UInt8 := dkwX5_sign_0 ++ dktX5_sign_1
theorem dksX5_sign_0 : cX5_sign.data.toList.drop 0 = dktX5_sign_0 := by decide +kernel
theorem dksX5_sign_1 : cX5_sign.data.toList.drop 24 = dktX5_sign_1 := dk_seg dksX5_sign_0 24 rfl rfl
theorem dX5_sign_0 : decode cX5_sign 0 = .ok (.aload_n 0, 1) := dk_42 (dk_at dksX5_sign_0 0 rfl rfl)
theorem dX5_sign_1 : decode cX5_sign 1 = .ok (.getfield 15, 3) := dk_180 0 15 (dk_at dksX5_sign_0 1 rfl rfl)
theorem dX5_sign_4 : decode cX5_sign 4 = .ok (.aload_n 0, 1) := dk_42 (dk_at dksX5_sign_0 4 rfl rfl)
theorem dX5_sign_5 : decode cX5_sign 5 = .ok (.getfield 9, 3) := dk_180 0 9 (dk_at dksX5_sign_0 5 rfl rfl)
theorem dX5_sign_8 : decode cX5_sign 8 = .ok (.arraylength, 1) := dk_190 (dk_at dksX5_sign_0 8 rfl rfl)
theorem dX5_sign_9 : decode cX5_sign 9 = .ok (.if_icmp .ge 15, 3) := dk_162 0 15 (dk_at dksX5_sign_0 9 rfl rfl)
theorem dX5_sign_12 : decode cX5_sign 12 = .ok (.aload_n 0, 1) := dk_42 (dk_at dksX5_sign_0 12 rfl rfl)
theorem dX5_sign_13 : decode cX5_sign 13 = .ok (.getfield 9, 3) := dk_180 0 9 (dk_at dksX5_sign_0 13 rfl rfl)
theorem dX5_sign_16 : decode cX5_sign 16 = .ok (.aload_n 0, 1) := dk_42 (dk_at dksX5_sign_0 16 rfl rfl)
theorem dX5_sign_17 : decode cX5_sign 17 = .ok (.getfield 15, 3) := dk_180 0 15 (dk_at dksX5_sign_0 17 rfl rfl)
theorem dX5_sign_20 : decode cX5_sign 20 = .ok (.baload, 1) := dk_51 (dk_at dksX5_sign_0 20 rfl rfl)
theorem dX5_sign_21 : decode cX5_sign 21 = .ok (.goto 4, 3) := dk_167 0 4 (dk_at dksX5_sign_0 21 rfl rfl)
theorem dX5_sign_24 : decode cX5_sign 24 = .ok (.iconst (-1), 1) := dk_2 (dk_at dksX5_sign_1 0 rfl rfl)
theorem dX5_sign_25 : decode cX5_sign 25 = .ok (.ireturn, 1) := dk_172 (dk_at dksX5_sign_1 1 rfl rfl)
abbrev cX5_reads : ByteArray := prog_3_method_5_code
def yX5_reads : MethodName := ⟨RX5, "reads", "(LHandUnderTheChin$Told;)V"⟩
def dkwX5_reads_6 : List UInt8 := [100, 181, 0, 15, 42, 182, 0, 32, 191, 177]
abbrev dktX5_reads_6 : List UInt8 := dkwX5_reads_6 ++ []
def dkwX5_reads_5 : List UInt8 := [182, 0, 45, 167, 0, 30, 43, 42, 4, 182, 0, 41, 182, 0, 45, 167, 0, 18, 42, 89, 180, 0, 15, 4]
abbrev dktX5_reads_5 : List UInt8 := dkwX5_reads_5 ++ dktX5_reads_6
def dkwX5_reads_4 : List UInt8 := [182, 0, 41, 182, 0, 45, 167, 0, 51, 43, 42, 4, 182, 0, 41, 182, 0, 45, 43, 42, 4, 182, 0, 41]
abbrev dktX5_reads_4 : List UInt8 := dkwX5_reads_4 ++ dktX5_reads_5
def dkwX5_reads_3 : List UInt8 := [182, 0, 45, 132, 2, 1, 167, 255, 230, 167, 0, 72, 43, 42, 4, 182, 0, 41, 182, 0, 45, 43, 42, 5]
abbrev dktX5_reads_3 : List UInt8 := dkwX5_reads_3 ++ dktX5_reads_4
def dkwX5_reads_2 : List UInt8 := [3, 61, 28, 6, 162, 0, 27, 43, 42, 28, 5, 160, 0, 7, 5, 167, 0, 4, 4, 182, 0, 41]
abbrev dktX5_reads_2 : List UInt8 := dkwX5_reads_2 ++ dktX5_reads_3
def dkwX5_reads_1 : List UInt8 := [171, 0, 0, 0, 0, 0, 0, 148, 0, 0, 0, 6, 0, 0, 0, 98, 0, 0, 0, 136, 0, 0, 0, 99, 0, 0, 0, 60, 0, 0, 0, 109, 0, 0, 0, 115, 0, 0, 0, 115, 0, 0, 0, 115, 0, 0, 0, 116, 0, 0, 0, 94, 0, 0, 0, 120, 0, 0, 0, 115]
abbrev dktX5_reads_1 : List UInt8 := dkwX5_reads_1 ++ dktX5_reads_2
def dkwX5_reads_0 : List UInt8 := [43, 180, 0, 36]
abbrev dktX5_reads_0 : List UInt8 := dkwX5_reads_0 ++ dktX5_reads_1
theorem dksX5_reads_0 : cX5_reads.data.toList.drop 0 = dktX5_reads_0 := by decide +kernel
theorem dksX5_reads_1 : cX5_reads.data.toList.drop 4 = dktX5_reads_1 := dk_seg dksX5_reads_0 4 rfl rfl
theorem dksX5_reads_2 : cX5_reads.data.toList.drop 64 = dktX5_reads_2 := dk_seg dksX5_reads_1 60 rfl rfl
theorem dksX5_reads_3 : cX5_reads.data.toList.drop 86 = dktX5_reads_3 := dk_seg dksX5_reads_2 22 rfl rfl
theorem dksX5_reads_4 : cX5_reads.data.toList.drop 110 = dktX5_reads_4 := dk_seg dksX5_reads_3 24 rfl rfl
theorem dksX5_reads_5 : cX5_reads.data.toList.drop 134 = dktX5_reads_5 := dk_seg dksX5_reads_4 24 rfl rfl
theorem dksX5_reads_6 : cX5_reads.data.toList.drop 158 = dktX5_reads_6 := dk_seg dksX5_reads_5 24 rfl rfl
theorem dX5_reads_0 : decode cX5_reads 0 = .ok (.aload_n 1, 1) := dk_43 (dk_at dksX5_reads_0 0 rfl rfl)
theorem dX5_reads_1 : decode cX5_reads 1 = .ok (.getfield 36, 3) := dk_180 0 36 (dk_at dksX5_reads_0 1 rfl rfl)
theorem dX5_reads_4 : decode cX5_reads 4 = .ok (.lookupswitch 148 #[(98, 136), (99, 60), (109, 115), (115, 115), (116, 94), (120, 115)], 60) := by decide +kernel
theorem dX5_reads_64 : decode cX5_reads 64 = .ok (.iconst 0, 1) := dk_3 (dk_at dksX5_reads_2 0 rfl rfl)
theorem dX5_reads_65 : decode cX5_reads 65 = .ok (.istore_n 2, 1) := dk_61 (dk_at dksX5_reads_2 1 rfl rfl)
theorem dX5_reads_66 : decode cX5_reads 66 = .ok (.iload_n 2, 1) := dk_28 (dk_at dksX5_reads_2 2 rfl rfl)
theorem dX5_reads_67 : decode cX5_reads 67 = .ok (.iconst 3, 1) := dk_6 (dk_at dksX5_reads_2 3 rfl rfl)
theorem dX5_reads_68 : decode cX5_reads 68 = .ok (.if_icmp .ge 27, 3) := dk_162 0 27 (dk_at dksX5_reads_2 4 rfl rfl)
theorem dX5_reads_71 : decode cX5_reads 71 = .ok (.aload_n 1, 1) := dk_43 (dk_at dksX5_reads_2 7 rfl rfl)
theorem dX5_reads_72 : decode cX5_reads 72 = .ok (.aload_n 0, 1) := dk_42 (dk_at dksX5_reads_2 8 rfl rfl)
theorem dX5_reads_73 : decode cX5_reads 73 = .ok (.iload_n 2, 1) := dk_28 (dk_at dksX5_reads_2 9 rfl rfl)
theorem dX5_reads_74 : decode cX5_reads 74 = .ok (.iconst 2, 1) := dk_5 (dk_at dksX5_reads_2 10 rfl rfl)
theorem dX5_reads_75 : decode cX5_reads 75 = .ok (.if_icmp .ne 7, 3) := dk_160 0 7 (dk_at dksX5_reads_2 11 rfl rfl)
theorem dX5_reads_78 : decode cX5_reads 78 = .ok (.iconst 2, 1) := dk_5 (dk_at dksX5_reads_2 14 rfl rfl)
theorem dX5_reads_79 : decode cX5_reads 79 = .ok (.goto 4, 3) := dk_167 0 4 (dk_at dksX5_reads_2 15 rfl rfl)
theorem dX5_reads_82 : decode cX5_reads 82 = .ok (.iconst 1, 1) := dk_4 (dk_at dksX5_reads_2 18 rfl rfl)
theorem dX5_reads_83 : decode cX5_reads 83 = .ok (.invokevirtual 41, 3) := dk_182 0 41 (dk_at dksX5_reads_2 19 rfl rfl)
theorem dX5_reads_86 : decode cX5_reads 86 = .ok (.invokevirtual 45, 3) := dk_182 0 45 (dk_at dksX5_reads_3 0 rfl rfl)
theorem dX5_reads_89 : decode cX5_reads 89 = .ok (.iinc 2 1, 3) := dk_132 2 1 (dk_at dksX5_reads_3 3 rfl rfl)
theorem dX5_reads_92 : decode cX5_reads 92 = .ok (.goto (-26), 3) := dk_167 255 230 (dk_at dksX5_reads_3 6 rfl rfl)
theorem dX5_reads_95 : decode cX5_reads 95 = .ok (.goto 72, 3) := dk_167 0 72 (dk_at dksX5_reads_3 9 rfl rfl)
theorem dX5_reads_98 : decode cX5_reads 98 = .ok (.aload_n 1, 1) := dk_43 (dk_at dksX5_reads_3 12 rfl rfl)
theorem dX5_reads_99 : decode cX5_reads 99 = .ok (.aload_n 0, 1) := dk_42 (dk_at dksX5_reads_3 13 rfl rfl)
theorem dX5_reads_100 : decode cX5_reads 100 = .ok (.iconst 1, 1) := dk_4 (dk_at dksX5_reads_3 14 rfl rfl)
theorem dX5_reads_101 : decode cX5_reads 101 = .ok (.invokevirtual 41, 3) := dk_182 0 41 (dk_at dksX5_reads_3 15 rfl rfl)
theorem dX5_reads_104 : decode cX5_reads 104 = .ok (.invokevirtual 45, 3) := dk_182 0 45 (dk_at dksX5_reads_3 18 rfl rfl)
theorem dX5_reads_107 : decode cX5_reads 107 = .ok (.aload_n 1, 1) := dk_43 (dk_at dksX5_reads_3 21 rfl rfl)
theorem dX5_reads_108 : decode cX5_reads 108 = .ok (.aload_n 0, 1) := dk_42 (dk_at dksX5_reads_3 22 rfl rfl)
theorem dX5_reads_109 : decode cX5_reads 109 = .ok (.iconst 2, 1) := dk_5 (dk_at dksX5_reads_3 23 rfl rfl)
theorem dX5_reads_110 : decode cX5_reads 110 = .ok (.invokevirtual 41, 3) := dk_182 0 41 (dk_at dksX5_reads_4 0 rfl rfl)
theorem dX5_reads_113 : decode cX5_reads 113 = .ok (.invokevirtual 45, 3) := dk_182 0 45 (dk_at dksX5_reads_4 3 rfl rfl)
theorem dX5_reads_116 : decode cX5_reads 116 = .ok (.goto 51, 3) := dk_167 0 51 (dk_at dksX5_reads_4 6 rfl rfl)
theorem dX5_reads_119 : decode cX5_reads 119 = .ok (.aload_n 1, 1) := dk_43 (dk_at dksX5_reads_4 9 rfl rfl)
theorem dX5_reads_120 : decode cX5_reads 120 = .ok (.aload_n 0, 1) := dk_42 (dk_at dksX5_reads_4 10 rfl rfl)
theorem dX5_reads_121 : decode cX5_reads 121 = .ok (.iconst 1, 1) := dk_4 (dk_at dksX5_reads_4 11 rfl rfl)
theorem dX5_reads_122 : decode cX5_reads 122 = .ok (.invokevirtual 41, 3) := dk_182 0 41 (dk_at dksX5_reads_4 12 rfl rfl)
theorem dX5_reads_125 : decode cX5_reads 125 = .ok (.invokevirtual 45, 3) := dk_182 0 45 (dk_at dksX5_reads_4 15 rfl rfl)
theorem dX5_reads_128 : decode cX5_reads 128 = .ok (.aload_n 1, 1) := dk_43 (dk_at dksX5_reads_4 18 rfl rfl)
theorem dX5_reads_129 : decode cX5_reads 129 = .ok (.aload_n 0, 1) := dk_42 (dk_at dksX5_reads_4 19 rfl rfl)
theorem dX5_reads_130 : decode cX5_reads 130 = .ok (.iconst 1, 1) := dk_4 (dk_at dksX5_reads_4 20 rfl rfl)
theorem dX5_reads_131 : decode cX5_reads 131 = .ok (.invokevirtual 41, 3) := dk_182 0 41 (dk_at dksX5_reads_4 21 rfl rfl)
theorem dX5_reads_134 : decode cX5_reads 134 = .ok (.invokevirtual 45, 3) := dk_182 0 45 (dk_at dksX5_reads_5 0 rfl rfl)
theorem dX5_reads_137 : decode cX5_reads 137 = .ok (.goto 30, 3) := dk_167 0 30 (dk_at dksX5_reads_5 3 rfl rfl)
theorem dX5_reads_140 : decode cX5_reads 140 = .ok (.aload_n 1, 1) := dk_43 (dk_at dksX5_reads_5 6 rfl rfl)
theorem dX5_reads_141 : decode cX5_reads 141 = .ok (.aload_n 0, 1) := dk_42 (dk_at dksX5_reads_5 7 rfl rfl)
theorem dX5_reads_142 : decode cX5_reads 142 = .ok (.iconst 1, 1) := dk_4 (dk_at dksX5_reads_5 8 rfl rfl)
theorem dX5_reads_143 : decode cX5_reads 143 = .ok (.invokevirtual 41, 3) := dk_182 0 41 (dk_at dksX5_reads_5 9 rfl rfl)
theorem dX5_reads_146 : decode cX5_reads 146 = .ok (.invokevirtual 45, 3) := dk_182 0 45 (dk_at dksX5_reads_5 12 rfl rfl)
theorem dX5_reads_149 : decode cX5_reads 149 = .ok (.goto 18, 3) := dk_167 0 18 (dk_at dksX5_reads_5 15 rfl rfl)
theorem dX5_reads_152 : decode cX5_reads 152 = .ok (.aload_n 0, 1) := dk_42 (dk_at dksX5_reads_5 18 rfl rfl)
theorem dX5_reads_153 : decode cX5_reads 153 = .ok (.dup, 1) := dk_89 (dk_at dksX5_reads_5 19 rfl rfl)
theorem dX5_reads_154 : decode cX5_reads 154 = .ok (.getfield 15, 3) := dk_180 0 15 (dk_at dksX5_reads_5 20 rfl rfl)
theorem dX5_reads_157 : decode cX5_reads 157 = .ok (.iconst 1, 1) := dk_4 (dk_at dksX5_reads_5 23 rfl rfl)
theorem dX5_reads_158 : decode cX5_reads 158 = .ok (.isub, 1) := dk_100 (dk_at dksX5_reads_6 0 rfl rfl)
theorem dX5_reads_159 : decode cX5_reads 159 = .ok (.putfield 15, 3) := dk_181 0 15 (dk_at dksX5_reads_6 1 rfl rfl)
theorem dX5_reads_162 : decode cX5_reads 162 = .ok (.aload_n 0, 1) := dk_42 (dk_at dksX5_reads_6 4 rfl rfl)
theorem dX5_reads_163 : decode cX5_reads 163 = .ok (.invokevirtual 32, 3) := dk_182 0 32 (dk_at dksX5_reads_6 5 rfl rfl)
theorem dX5_reads_166 : decode cX5_reads 166 = .ok (.athrow, 1) := dk_191 (dk_at dksX5_reads_6 8 rfl rfl)
theorem dX5_reads_167 : decode cX5_reads 167 = .ok (.return_, 1) := dk_177 (dk_at dksX5_reads_6 9 rfl rfl)
abbrev cX5_number : ByteArray := prog_3_method_4_code
def yX5_number : MethodName := ⟨RX5, "number", "(I)I"⟩
def dkwX5_number_2 : List UInt8 := [181, 0, 15, 132, 3, 1, 167, 255, 206, 28, 172]
abbrev dktX5_number_2 : List UInt8 := dkwX5_number_2 ++ []
def dkwX5_number_1 : List UInt8 := [182, 0, 32, 191, 16, 10, 28, 104, 42, 182, 0, 24, 96, 16, 48, 100, 61, 42, 89, 180, 0, 15, 4, 96]
abbrev dktX5_number_1 : List UInt8 := dkwX5_number_1 ++ dktX5_number_2
def dkwX5_number_0 : List UInt8 := [3, 61, 3, 62, 29, 27, 162, 0, 51, 42, 182, 0, 24, 16, 48, 16, 57, 184, 0, 28, 154, 0, 8, 42]
abbrev dktX5_number_0 : List UInt8 := dkwX5_number_0 ++ dktX5_number_1
theorem dksX5_number_0 : cX5_number.data.toList.drop 0 = dktX5_number_0 := by decide +kernel
theorem dksX5_number_1 : cX5_number.data.toList.drop 24 = dktX5_number_1 := dk_seg dksX5_number_0 24 rfl rfl
theorem dksX5_number_2 : cX5_number.data.toList.drop 48 = dktX5_number_2 := dk_seg dksX5_number_1 24 rfl rfl
theorem dX5_number_0 : decode cX5_number 0 = .ok (.iconst 0, 1) := dk_3 (dk_at dksX5_number_0 0 rfl rfl)
theorem dX5_number_1 : decode cX5_number 1 = .ok (.istore_n 2, 1) := dk_61 (dk_at dksX5_number_0 1 rfl rfl)
theorem dX5_number_2 : decode cX5_number 2 = .ok (.iconst 0, 1) := dk_3 (dk_at dksX5_number_0 2 rfl rfl)
theorem dX5_number_3 : decode cX5_number 3 = .ok (.istore_n 3, 1) := dk_62 (dk_at dksX5_number_0 3 rfl rfl)
theorem dX5_number_4 : decode cX5_number 4 = .ok (.iload_n 3, 1) := dk_29 (dk_at dksX5_number_0 4 rfl rfl)
theorem dX5_number_5 : decode cX5_number 5 = .ok (.iload_n 1, 1) := dk_27 (dk_at dksX5_number_0 5 rfl rfl)
theorem dX5_number_6 : decode cX5_number 6 = .ok (.if_icmp .ge 51, 3) := dk_162 0 51 (dk_at dksX5_number_0 6 rfl rfl)
theorem dX5_number_9 : decode cX5_number 9 = .ok (.aload_n 0, 1) := dk_42 (dk_at dksX5_number_0 9 rfl rfl)
theorem dX5_number_10 : decode cX5_number 10 = .ok (.invokevirtual 24, 3) := dk_182 0 24 (dk_at dksX5_number_0 10 rfl rfl)
theorem dX5_number_13 : decode cX5_number 13 = .ok (.bipush 48, 2) := dk_16 48 (dk_at dksX5_number_0 13 rfl rfl)
theorem dX5_number_15 : decode cX5_number 15 = .ok (.bipush 57, 2) := dk_16 57 (dk_at dksX5_number_0 15 rfl rfl)
theorem dX5_number_17 : decode cX5_number 17 = .ok (.invokestatic 28, 3) := dk_184 0 28 (dk_at dksX5_number_0 17 rfl rfl)
theorem dX5_number_20 : decode cX5_number 20 = .ok (.ifCond .ne 8, 3) := dk_154 0 8 (dk_at dksX5_number_0 20 rfl rfl)
theorem dX5_number_23 : decode cX5_number 23 = .ok (.aload_n 0, 1) := dk_42 (dk_at dksX5_number_0 23 rfl rfl)
theorem dX5_number_24 : decode cX5_number 24 = .ok (.invokevirtual 32, 3) := dk_182 0 32 (dk_at dksX5_number_1 0 rfl rfl)
theorem dX5_number_27 : decode cX5_number 27 = .ok (.athrow, 1) := dk_191 (dk_at dksX5_number_1 3 rfl rfl)
theorem dX5_number_28 : decode cX5_number 28 = .ok (.bipush 10, 2) := dk_16 10 (dk_at dksX5_number_1 4 rfl rfl)
theorem dX5_number_30 : decode cX5_number 30 = .ok (.iload_n 2, 1) := dk_28 (dk_at dksX5_number_1 6 rfl rfl)
theorem dX5_number_31 : decode cX5_number 31 = .ok (.imul, 1) := dk_104 (dk_at dksX5_number_1 7 rfl rfl)
theorem dX5_number_32 : decode cX5_number 32 = .ok (.aload_n 0, 1) := dk_42 (dk_at dksX5_number_1 8 rfl rfl)
theorem dX5_number_33 : decode cX5_number 33 = .ok (.invokevirtual 24, 3) := dk_182 0 24 (dk_at dksX5_number_1 9 rfl rfl)
theorem dX5_number_36 : decode cX5_number 36 = .ok (.iadd, 1) := dk_96 (dk_at dksX5_number_1 12 rfl rfl)
theorem dX5_number_37 : decode cX5_number 37 = .ok (.bipush 48, 2) := dk_16 48 (dk_at dksX5_number_1 13 rfl rfl)
theorem dX5_number_39 : decode cX5_number 39 = .ok (.isub, 1) := dk_100 (dk_at dksX5_number_1 15 rfl rfl)
theorem dX5_number_40 : decode cX5_number 40 = .ok (.istore_n 2, 1) := dk_61 (dk_at dksX5_number_1 16 rfl rfl)
theorem dX5_number_41 : decode cX5_number 41 = .ok (.aload_n 0, 1) := dk_42 (dk_at dksX5_number_1 17 rfl rfl)
theorem dX5_number_42 : decode cX5_number 42 = .ok (.dup, 1) := dk_89 (dk_at dksX5_number_1 18 rfl rfl)
theorem dX5_number_43 : decode cX5_number 43 = .ok (.getfield 15, 3) := dk_180 0 15 (dk_at dksX5_number_1 19 rfl rfl)
theorem dX5_number_46 : decode cX5_number 46 = .ok (.iconst 1, 1) := dk_4 (dk_at dksX5_number_1 22 rfl rfl)
theorem dX5_number_47 : decode cX5_number 47 = .ok (.iadd, 1) := dk_96 (dk_at dksX5_number_1 23 rfl rfl)
theorem dX5_number_48 : decode cX5_number 48 = .ok (.putfield 15, 3) := dk_181 0 15 (dk_at dksX5_number_2 0 rfl rfl)
theorem dX5_number_51 : decode cX5_number 51 = .ok (.iinc 3 1, 3) := dk_132 3 1 (dk_at dksX5_number_2 3 rfl rfl)
theorem dX5_number_54 : decode cX5_number 54 = .ok (.goto (-50), 3) := dk_167 255 206 (dk_at dksX5_number_2 6 rfl rfl)
theorem dX5_number_57 : decode cX5_number 57 = .ok (.iload_n 2, 1) := dk_28 (dk_at dksX5_number_2 9 rfl rfl)
theorem dX5_number_58 : decode cX5_number 58 = .ok (.ireturn, 1) := dk_172 (dk_at dksX5_number_2 10 rfl rfl)
abbrev cX5_broken : ByteArray := prog_3_method_3_code
def yX5_broken : MethodName := ⟨RX5, "broken", "()LHandUnderTheChin$Broken;"⟩
def dkwX5_broken_0 : List UInt8 := [187, 0, 19, 89, 17, 252, 24, 42, 180, 0, 15, 100, 183, 0, 21, 176]
abbrev dktX5_broken_0 : List UInt8 := dkwX5_broken_0 ++ []
theorem dksX5_broken_0 : cX5_broken.data.toList.drop 0 = dktX5_broken_0 := by decide +kernel
theorem dX5_broken_0 : decode cX5_broken 0 = .ok (.new 19, 3) := dk_187 0 19 (dk_at dksX5_broken_0 0 rfl rfl)
theorem dX5_broken_3 : decode cX5_broken 3 = .ok (.dup, 1) := dk_89 (dk_at dksX5_broken_0 3 rfl rfl)
theorem dX5_broken_4 : decode cX5_broken 4 = .ok (.sipush (-1000), 3) := dk_17 252 24 (dk_at dksX5_broken_0 4 rfl rfl)
theorem dX5_broken_7 : decode cX5_broken 7 = .ok (.aload_n 0, 1) := dk_42 (dk_at dksX5_broken_0 7 rfl rfl)
theorem dX5_broken_8 : decode cX5_broken 8 = .ok (.getfield 15, 3) := dk_180 0 15 (dk_at dksX5_broken_0 8 rfl rfl)
theorem dX5_broken_11 : decode cX5_broken 11 = .ok (.isub, 1) := dk_100 (dk_at dksX5_broken_0 11 rfl rfl)
theorem dX5_broken_12 : decode cX5_broken 12 = .ok (.invokespecial 21, 3) := dk_183 0 21 (dk_at dksX5_broken_0 12 rfl rfl)
theorem dX5_broken_15 : decode cX5_broken 15 = .ok (.areturn, 1) := dk_176 (dk_at dksX5_broken_0 15 rfl rfl)
theorem q88 : (Jvm.Cond.initialized "HandUnderTheChin$BathReader") ∈ lw_all := lw_g (lw_at lw_m1 10 rfl) rfl
theorem q219 : (Jvm.Cond.instantiable "HandUnderTheChin$BathReader" (2 : Nat)) ∈ lw_all := lw_g (lw_at lw_m1 141 rfl) rfl
theorem q221 : (Jvm.Cond.instanceMethod ({ cls := "HandUnderTheChin$BathReader", name := "<init>", desc := "([B)V" } : Jvm.MethodName)) ∈ lw_all := lw_g (lw_at lw_m1 143 rfl) rfl
theorem q222 : (Jvm.Cond.code ({ cls := "HandUnderTheChin$BathReader", name := "<init>", desc := "([B)V" } : Jvm.MethodName) prog_3_method_1_code (2 : Nat) (Option.none : Option Jvm.ClassFile.FieldType)) ∈ lw_all := lw_g (lw_at lw_m1 144 rfl) rfl
theorem q223 : (Jvm.Cond.methodLink "HandUnderTheChin$BathReader" (3 : Nat) ({ cls := "java/lang/Object", name := "<init>", desc := "()V" } : Jvm.MethodName)) ∈ lw_all := lw_g (lw_at lw_m1 145 rfl) rfl
theorem q224 : (Jvm.Cond.fieldLink "HandUnderTheChin$BathReader" (9 : Nat) "HandUnderTheChin$BathReader" "text" "[B") ∈ lw_all := lw_g (lw_at lw_m1 146 rfl) rfl
theorem q225 : (Jvm.Cond.fieldLink "HandUnderTheChin$BathReader" (15 : Nat) "HandUnderTheChin$BathReader" "at" "I") ∈ lw_all := lw_g (lw_at lw_m1 147 rfl) rfl
theorem q226 : (Jvm.Cond.laysFinal "HandUnderTheChin$BathReader" "HandUnderTheChin$BathReader" "text" "[B") ∈ lw_all := lw_g (lw_at lw_m1 148 rfl) rfl
theorem q227 : (Jvm.Cond.soleField "HandUnderTheChin$BathReader" "text") ∈ lw_all := lw_g (lw_at lw_m1 149 rfl) rfl
theorem q228 : (Jvm.Cond.lays "HandUnderTheChin$BathReader" "HandUnderTheChin$BathReader" "at" "I") ∈ lw_all := lw_g (lw_at lw_m1 150 rfl) rfl
theorem q229 : (Jvm.Cond.soleField "HandUnderTheChin$BathReader" "at") ∈ lw_all := lw_g (lw_at lw_m1 151 rfl) rfl
theorem q230 : (Jvm.Cond.superclass "HandUnderTheChin$BathReader" "java/lang/Object") ∈ lw_all := lw_g (lw_at lw_m1 152 rfl) rfl
theorem q232 : (Jvm.Cond.instanceMethod ({ cls := "HandUnderTheChin$BathReader", name := "whole", desc := "([LHandUnderTheChin$Told;)I" } : Jvm.MethodName)) ∈ lw_all := lw_g (lw_at lw_m1 154 rfl) rfl
theorem q233 : (Jvm.Cond.selects "HandUnderTheChin$BathReader" ({ cls := "HandUnderTheChin$BathReader", name := "whole", desc := "([LHandUnderTheChin$Told;)I" } : Jvm.MethodName) ({ cls := "HandUnderTheChin$BathReader", name := "whole", desc := "([LHandUnderTheChin$Told;)I" } : Jvm.MethodName)) ∈ lw_all := lw_g (lw_at lw_m1 155 rfl) rfl
theorem q234 : (Jvm.Cond.code ({ cls := "HandUnderTheChin$BathReader", name := "whole", desc := "([LHandUnderTheChin$Told;)I" } : Jvm.MethodName) prog_3_method_7_code (3 : Nat) (Option.some Jvm.ClassFile.FieldType.int)) ∈ lw_all := lw_g (lw_at lw_m1 156 rfl) rfl
theorem q235 : (Jvm.Cond.methodLink "HandUnderTheChin$BathReader" (55 : Nat) ({ cls := "HandUnderTheChin$BathReader", name := "statement", desc := "()LHandUnderTheChin$Told;" } : Jvm.MethodName)) ∈ lw_all := lw_g (lw_at lw_m1 157 rfl) rfl
theorem q236 : (Jvm.Cond.privateMethod ({ cls := "HandUnderTheChin$BathReader", name := "statement", desc := "()LHandUnderTheChin$Told;" } : Jvm.MethodName)) ∈ lw_tbl := lw_at lw_m1 158 rfl
theorem q237 : (Jvm.Cond.instanceMethod ({ cls := "HandUnderTheChin$BathReader", name := "statement", desc := "()LHandUnderTheChin$Told;" } : Jvm.MethodName)) ∈ lw_all := lw_g (lw_at lw_m1 159 rfl) rfl
theorem q238 : (Jvm.Cond.code ({ cls := "HandUnderTheChin$BathReader", name := "statement", desc := "()LHandUnderTheChin$Told;" } : Jvm.MethodName) prog_3_method_6_code (2 : Nat) (Option.some (Jvm.ClassFile.FieldType.object "HandUnderTheChin$Told"))) ∈ lw_all := lw_g (lw_at lw_m1 160 rfl) rfl
theorem q239 : (Jvm.Cond.classLink "HandUnderTheChin$BathReader" (37 : Nat) "HandUnderTheChin$Told") ∈ lw_all := lw_g (lw_at lw_m1 161 rfl) rfl
theorem q241 : (Jvm.Cond.methodLink "HandUnderTheChin$BathReader" (24 : Nat) ({ cls := "HandUnderTheChin$BathReader", name := "sign", desc := "()I" } : Jvm.MethodName)) ∈ lw_all := lw_g (lw_at lw_m1 163 rfl) rfl
theorem q242 : (Jvm.Cond.privateMethod ({ cls := "HandUnderTheChin$BathReader", name := "sign", desc := "()I" } : Jvm.MethodName)) ∈ lw_tbl := lw_at lw_m1 164 rfl
theorem q243 : (Jvm.Cond.instanceMethod ({ cls := "HandUnderTheChin$BathReader", name := "sign", desc := "()I" } : Jvm.MethodName)) ∈ lw_all := lw_g (lw_at lw_m1 165 rfl) rfl
theorem q244 : (Jvm.Cond.code ({ cls := "HandUnderTheChin$BathReader", name := "sign", desc := "()I" } : Jvm.MethodName) prog_3_method_2_code (1 : Nat) (Option.some Jvm.ClassFile.FieldType.int)) ∈ lw_all := lw_g (lw_at lw_m1 166 rfl) rfl
theorem q245 : (Jvm.Cond.methodLink "HandUnderTheChin$BathReader" (48 : Nat) ({ cls := "HandUnderTheChin$Told", name := "<init>", desc := "(II)V" } : Jvm.MethodName)) ∈ lw_all := lw_g (lw_at lw_m1 167 rfl) rfl
theorem q250 : (Jvm.Cond.fieldLink "HandUnderTheChin$BathReader" (36 : Nat) "HandUnderTheChin$Told" "letter" "I") ∈ lw_all := lw_g (lw_at lw_m1 172 rfl) rfl
theorem q267 : (Jvm.Cond.methodLink "HandUnderTheChin$BathReader" (51 : Nat) ({ cls := "HandUnderTheChin$BathReader", name := "reads", desc := "(LHandUnderTheChin$Told;)V" } : Jvm.MethodName)) ∈ lw_all := lw_g (lw_at lw_m1 189 rfl) rfl
theorem q268 : (Jvm.Cond.privateMethod ({ cls := "HandUnderTheChin$BathReader", name := "reads", desc := "(LHandUnderTheChin$Told;)V" } : Jvm.MethodName)) ∈ lw_tbl := lw_at lw_m1 190 rfl
theorem q269 : (Jvm.Cond.instanceMethod ({ cls := "HandUnderTheChin$BathReader", name := "reads", desc := "(LHandUnderTheChin$Told;)V" } : Jvm.MethodName)) ∈ lw_all := lw_g (lw_at lw_m1 191 rfl) rfl
theorem q270 : (Jvm.Cond.code ({ cls := "HandUnderTheChin$BathReader", name := "reads", desc := "(LHandUnderTheChin$Told;)V" } : Jvm.MethodName) prog_3_method_5_code (3 : Nat) (Option.none : Option Jvm.ClassFile.FieldType)) ∈ lw_all := lw_g (lw_at lw_m1 192 rfl) rfl
theorem q271 : (Jvm.Cond.methodLink "HandUnderTheChin$BathReader" (41 : Nat) ({ cls := "HandUnderTheChin$BathReader", name := "number", desc := "(I)I" } : Jvm.MethodName)) ∈ lw_all := lw_g (lw_at lw_m1 193 rfl) rfl
theorem q272 : (Jvm.Cond.privateMethod ({ cls := "HandUnderTheChin$BathReader", name := "number", desc := "(I)I" } : Jvm.MethodName)) ∈ lw_tbl := lw_at lw_m1 194 rfl
theorem q273 : (Jvm.Cond.instanceMethod ({ cls := "HandUnderTheChin$BathReader", name := "number", desc := "(I)I" } : Jvm.MethodName)) ∈ lw_all := lw_g (lw_at lw_m1 195 rfl) rfl
theorem q274 : (Jvm.Cond.code ({ cls := "HandUnderTheChin$BathReader", name := "number", desc := "(I)I" } : Jvm.MethodName) prog_3_method_4_code (4 : Nat) (Option.some Jvm.ClassFile.FieldType.int)) ∈ lw_all := lw_g (lw_at lw_m1 196 rfl) rfl
theorem q275 : (Jvm.Cond.methodLinkNest "HandUnderTheChin$BathReader" (28 : Nat) ({ cls := "HandUnderTheChin", name := "isIn", desc := "(III)Z" } : Jvm.MethodName) "HandUnderTheChin") ∈ lw_tbl := lw_at lw_m1 197 rfl
theorem q276 : (Jvm.Cond.methodLink "HandUnderTheChin$BathReader" (32 : Nat) ({ cls := "HandUnderTheChin$BathReader", name := "broken", desc := "()LHandUnderTheChin$Broken;" } : Jvm.MethodName)) ∈ lw_all := lw_g (lw_at lw_m1 198 rfl) rfl
theorem q277 : (Jvm.Cond.privateMethod ({ cls := "HandUnderTheChin$BathReader", name := "broken", desc := "()LHandUnderTheChin$Broken;" } : Jvm.MethodName)) ∈ lw_tbl := lw_at lw_m1 199 rfl
theorem q278 : (Jvm.Cond.instanceMethod ({ cls := "HandUnderTheChin$BathReader", name := "broken", desc := "()LHandUnderTheChin$Broken;" } : Jvm.MethodName)) ∈ lw_all := lw_g (lw_at lw_m1 200 rfl) rfl
theorem q279 : (Jvm.Cond.code ({ cls := "HandUnderTheChin$BathReader", name := "broken", desc := "()LHandUnderTheChin$Broken;" } : Jvm.MethodName) prog_3_method_3_code (1 : Nat) (Option.some (Jvm.ClassFile.FieldType.object "HandUnderTheChin$Broken"))) ∈ lw_all := lw_g (lw_at lw_m1 201 rfl) rfl
theorem q280 : (Jvm.Cond.classLink "HandUnderTheChin$BathReader" (19 : Nat) "HandUnderTheChin$Broken") ∈ lw_all := lw_g (lw_at lw_m1 202 rfl) rfl
theorem q289 : (Jvm.Cond.methodLink "HandUnderTheChin$BathReader" (21 : Nat) ({ cls := "HandUnderTheChin$Broken", name := "<init>", desc := "(I)V" } : Jvm.MethodName)) ∈ lw_all := lw_g (lw_at lw_m1 211 rfl) rfl
theorem q302 : (Jvm.Cond.methodLink "HandUnderTheChin$BathReader" (45 : Nat) ({ cls := "HandUnderTheChin$Told", name := "tells", desc := "(I)V" } : Jvm.MethodName)) ∈ lw_all := lw_g (lw_at lw_m1 224 rfl) rfl
theorem in_X5 : ∀ w ∈ wsX50, w ∈ lw_all := lw_in wsX50 [226, 228] (by decide +kernel) (by decide +kernel)
/-! HandUnderTheChin$Told -/
set_option maxRecDepth 100000
def RX6 : String := "HandUnderTheChin$Told"
def TX6 : u_T := fun k => match k with
  | 0 => ("HandUnderTheChin$Told", "letter", "I", true)
  | 1 => ("HandUnderTheChin$Told", "at", "I", true)
  | 2 => ("HandUnderTheChin$Told", "numbers", "[I", true)
  | _ => ("HandUnderTheChin$Told", "many", "I", false)
def tyX6 : Nat → FieldType := fun k => match k with
  | 0 => .int
  | 1 => .int
  | 2 => .array .int
  | _ => .int
abbrev wsX60 : List Cond := u_ws RX6 TX6 4
theorem nmX6 : ∀ a, a < 4 → ∀ b, b < 4 → a ≠ b → (TX6 a).2.1 ≠ (TX6 b).2.1 := by decide +kernel
theorem tyX6_ok : ∀ k, k < 4 → parseFieldDescriptor (TX6 k).2.2.1 = some (tyX6 k) := by decide +kernel
abbrev cX6_init : ByteArray := prog_16_method_1_code
def yX6_init : MethodName := ⟨RX6, "<init>", "(II)V"⟩
def dkwX6_init_0 : List UInt8 := [42, 183, 0, 1, 42, 6, 188, 10, 181, 0, 7, 42, 27, 181, 0, 13, 42, 28, 181, 0, 17, 177]
abbrev dktX6_init_0 : List UInt8 := dkwX6_init_0 ++ []
theorem dksX6_init_0 : cX6_init.data.toList.drop 0 = dktX6_init_0 := by decide +kernel
theorem dX6_init_0 : decode cX6_init 0 = .ok (.aload_n 0, 1) := dk_42 (dk_at dksX6_init_0 0 rfl rfl)
theorem dX6_init_1 : decode cX6_init 1 = .ok (.invokespecial 1, 3) := dk_183 0 1 (dk_at dksX6_init_0 1 rfl rfl)
theorem dX6_init_4 : decode cX6_init 4 = .ok (.aload_n 0, 1) := dk_42 (dk_at dksX6_init_0 4 rfl rfl)
theorem dX6_init_5 : decode cX6_init 5 = .ok (.iconst 3, 1) := dk_6 (dk_at dksX6_init_0 5 rfl rfl)
theorem dX6_init_6 : decode cX6_init 6 = .ok (.newarray .int, 2) := dk_188_10 (dk_at dksX6_init_0 6 rfl rfl)
theorem dX6_init_8 : decode cX6_init 8 = .ok (.putfield 7, 3) := dk_181 0 7 (dk_at dksX6_init_0 8 rfl rfl)
theorem dX6_init_11 : decode cX6_init 11 = .ok (.aload_n 0, 1) := dk_42 (dk_at dksX6_init_0 11 rfl rfl)
theorem dX6_init_12 : decode cX6_init 12 = .ok (.iload_n 1, 1) := dk_27 (dk_at dksX6_init_0 12 rfl rfl)
theorem dX6_init_13 : decode cX6_init 13 = .ok (.putfield 13, 3) := dk_181 0 13 (dk_at dksX6_init_0 13 rfl rfl)
theorem dX6_init_16 : decode cX6_init 16 = .ok (.aload_n 0, 1) := dk_42 (dk_at dksX6_init_0 16 rfl rfl)
theorem dX6_init_17 : decode cX6_init 17 = .ok (.iload_n 2, 1) := dk_28 (dk_at dksX6_init_0 17 rfl rfl)
theorem dX6_init_18 : decode cX6_init 18 = .ok (.putfield 17, 3) := dk_181 0 17 (dk_at dksX6_init_0 18 rfl rfl)
theorem dX6_init_21 : decode cX6_init 21 = .ok (.return_, 1) := dk_177 (dk_at dksX6_init_0 21 rfl rfl)
abbrev cX6_tells : ByteArray := prog_16_method_2_code
def yX6_tells : MethodName := ⟨RX6, "tells", "(I)V"⟩
def dkwX6_tells_0 : List UInt8 := [42, 180, 0, 7, 42, 180, 0, 20, 27, 79, 42, 89, 180, 0, 20, 4, 96, 181, 0, 20, 177]
abbrev dktX6_tells_0 : List UInt8 := dkwX6_tells_0 ++ []
theorem dksX6_tells_0 : cX6_tells.data.toList.drop 0 = dktX6_tells_0 := by decide +kernel
theorem dX6_tells_0 : decode cX6_tells 0 = .ok (.aload_n 0, 1) := dk_42 (dk_at dksX6_tells_0 0 rfl rfl)
theorem dX6_tells_1 : decode cX6_tells 1 = .ok (.getfield 7, 3) := dk_180 0 7 (dk_at dksX6_tells_0 1 rfl rfl)
theorem dX6_tells_4 : decode cX6_tells 4 = .ok (.aload_n 0, 1) := dk_42 (dk_at dksX6_tells_0 4 rfl rfl)
theorem dX6_tells_5 : decode cX6_tells 5 = .ok (.getfield 20, 3) := dk_180 0 20 (dk_at dksX6_tells_0 5 rfl rfl)
theorem dX6_tells_8 : decode cX6_tells 8 = .ok (.iload_n 1, 1) := dk_27 (dk_at dksX6_tells_0 8 rfl rfl)
theorem dX6_tells_9 : decode cX6_tells 9 = .ok (.iastore, 1) := dk_79 (dk_at dksX6_tells_0 9 rfl rfl)
theorem dX6_tells_10 : decode cX6_tells 10 = .ok (.aload_n 0, 1) := dk_42 (dk_at dksX6_tells_0 10 rfl rfl)
theorem dX6_tells_11 : decode cX6_tells 11 = .ok (.dup, 1) := dk_89 (dk_at dksX6_tells_0 11 rfl rfl)
theorem dX6_tells_12 : decode cX6_tells 12 = .ok (.getfield 20, 3) := dk_180 0 20 (dk_at dksX6_tells_0 12 rfl rfl)
theorem dX6_tells_15 : decode cX6_tells 15 = .ok (.iconst 1, 1) := dk_4 (dk_at dksX6_tells_0 15 rfl rfl)
theorem dX6_tells_16 : decode cX6_tells 16 = .ok (.iadd, 1) := dk_96 (dk_at dksX6_tells_0 16 rfl rfl)
theorem dX6_tells_17 : decode cX6_tells 17 = .ok (.putfield 20, 3) := dk_181 0 20 (dk_at dksX6_tells_0 17 rfl rfl)
theorem dX6_tells_20 : decode cX6_tells 20 = .ok (.return_, 1) := dk_177 (dk_at dksX6_tells_0 20 rfl rfl)
theorem q89 : (Jvm.Cond.initialized "HandUnderTheChin$Told") ∈ lw_all := lw_g (lw_at lw_m1 11 rfl) rfl
theorem q240 : (Jvm.Cond.instantiable "HandUnderTheChin$Told" (4 : Nat)) ∈ lw_all := lw_g (lw_at lw_m1 162 rfl) rfl
theorem q246 : (Jvm.Cond.instanceMethod ({ cls := "HandUnderTheChin$Told", name := "<init>", desc := "(II)V" } : Jvm.MethodName)) ∈ lw_all := lw_g (lw_at lw_m1 168 rfl) rfl
theorem q247 : (Jvm.Cond.code ({ cls := "HandUnderTheChin$Told", name := "<init>", desc := "(II)V" } : Jvm.MethodName) prog_16_method_1_code (3 : Nat) (Option.none : Option Jvm.ClassFile.FieldType)) ∈ lw_all := lw_g (lw_at lw_m1 169 rfl) rfl
theorem q248 : (Jvm.Cond.methodLink "HandUnderTheChin$Told" (1 : Nat) ({ cls := "java/lang/Object", name := "<init>", desc := "()V" } : Jvm.MethodName)) ∈ lw_all := lw_g (lw_at lw_m1 170 rfl) rfl
theorem q249 : (Jvm.Cond.fieldLink "HandUnderTheChin$Told" (13 : Nat) "HandUnderTheChin$Told" "letter" "I") ∈ lw_all := lw_g (lw_at lw_m1 171 rfl) rfl
theorem q252 : (Jvm.Cond.fieldLink "HandUnderTheChin$Told" (17 : Nat) "HandUnderTheChin$Told" "at" "I") ∈ lw_all := lw_g (lw_at lw_m1 174 rfl) rfl
theorem q254 : (Jvm.Cond.fieldLink "HandUnderTheChin$Told" (7 : Nat) "HandUnderTheChin$Told" "numbers" "[I") ∈ lw_all := lw_g (lw_at lw_m1 176 rfl) rfl
theorem q256 : (Jvm.Cond.fieldLink "HandUnderTheChin$Told" (20 : Nat) "HandUnderTheChin$Told" "many" "I") ∈ lw_all := lw_g (lw_at lw_m1 178 rfl) rfl
theorem q257 : (Jvm.Cond.laysFinal "HandUnderTheChin$Told" "HandUnderTheChin$Told" "letter" "I") ∈ lw_all := lw_g (lw_at lw_m1 179 rfl) rfl
theorem q258 : (Jvm.Cond.soleField "HandUnderTheChin$Told" "letter") ∈ lw_all := lw_g (lw_at lw_m1 180 rfl) rfl
theorem q259 : (Jvm.Cond.laysFinal "HandUnderTheChin$Told" "HandUnderTheChin$Told" "at" "I") ∈ lw_all := lw_g (lw_at lw_m1 181 rfl) rfl
theorem q260 : (Jvm.Cond.soleField "HandUnderTheChin$Told" "at") ∈ lw_all := lw_g (lw_at lw_m1 182 rfl) rfl
theorem q261 : (Jvm.Cond.laysFinal "HandUnderTheChin$Told" "HandUnderTheChin$Told" "numbers" "[I") ∈ lw_all := lw_g (lw_at lw_m1 183 rfl) rfl
theorem q262 : (Jvm.Cond.soleField "HandUnderTheChin$Told" "numbers") ∈ lw_all := lw_g (lw_at lw_m1 184 rfl) rfl
theorem q263 : (Jvm.Cond.lays "HandUnderTheChin$Told" "HandUnderTheChin$Told" "many" "I") ∈ lw_all := lw_g (lw_at lw_m1 185 rfl) rfl
theorem q264 : (Jvm.Cond.soleField "HandUnderTheChin$Told" "many") ∈ lw_all := lw_g (lw_at lw_m1 186 rfl) rfl
theorem q265 : (Jvm.Cond.superclass "HandUnderTheChin$Told" "java/lang/Object") ∈ lw_all := lw_g (lw_at lw_m1 187 rfl) rfl
theorem q303 : (Jvm.Cond.instanceMethod ({ cls := "HandUnderTheChin$Told", name := "tells", desc := "(I)V" } : Jvm.MethodName)) ∈ lw_all := lw_g (lw_at lw_m1 225 rfl) rfl
theorem q304 : (Jvm.Cond.selects "HandUnderTheChin$Told" ({ cls := "HandUnderTheChin$Told", name := "tells", desc := "(I)V" } : Jvm.MethodName) ({ cls := "HandUnderTheChin$Told", name := "tells", desc := "(I)V" } : Jvm.MethodName)) ∈ lw_all := lw_g (lw_at lw_m1 226 rfl) rfl
theorem q305 : (Jvm.Cond.code ({ cls := "HandUnderTheChin$Told", name := "tells", desc := "(I)V" } : Jvm.MethodName) prog_16_method_2_code (2 : Nat) (Option.none : Option Jvm.ClassFile.FieldType)) ∈ lw_all := lw_g (lw_at lw_m1 227 rfl) rfl
theorem in_X6 : ∀ w ∈ wsX60, w ∈ lw_all := lw_in wsX60 [257, 259, 261, 263] (by decide +kernel) (by decide +kernel)
/-! HandUnderTheChin$Broken -/
set_option maxRecDepth 100000
def RX7 : String := "HandUnderTheChin$Broken"
def TX7 : u_T := fun k => match k with
  | 0 => ("java/lang/Throwable", "cause", "Ljava/lang/Throwable;", false)
  | 1 => ("java/lang/Throwable", "stackTrace", "[Ljava/lang/StackTraceElement;", false)
  | 2 => ("java/lang/Throwable", "suppressedExceptions", "Ljava/util/List;", false)
  | 3 => ("java/lang/Throwable", "detailMessage", "Ljava/lang/String;", false)
  | 4 => ("java/lang/Throwable", "backtrace", "Ljava/lang/Object;", false)
  | 5 => ("java/lang/Throwable", "depth", "I", false)
  | _ => ("HandUnderTheChin$Broken", "code", "I", true)
def tyX7 : Nat → FieldType := fun k => match k with
  | 0 => .object "java/lang/Throwable"
  | 1 => .array (.object "java/lang/StackTraceElement")
  | 2 => .object "java/util/List"
  | 3 => .object "java/lang/String"
  | 4 => .object "java/lang/Object"
  | 5 => .int
  | _ => .int
abbrev wsX70 : List Cond := u_ws RX7 TX7 7
theorem nmX7 : ∀ a, a < 7 → ∀ b, b < 7 → a ≠ b → (TX7 a).2.1 ≠ (TX7 b).2.1 := by decide +kernel
theorem tyX7_ok : ∀ k, k < 7 → parseFieldDescriptor (TX7 k).2.2.1 = some (tyX7 k) := by decide +kernel
abbrev cX7_init : ByteArray := prog_5_method_1_code
def yX7_init : MethodName := ⟨RX7, "<init>", "(I)V"⟩
def dkwX7_init_0 : List UInt8 := [42, 183, 0, 1, 42, 27, 181, 0, 7, 177]
abbrev dktX7_init_0 : List UInt8 := dkwX7_init_0 ++ []
theorem dksX7_init_0 : cX7_init.data.toList.drop 0 = dktX7_init_0 := by decide +kernel
theorem dX7_init_0 : decode cX7_init 0 = .ok (.aload_n 0, 1) := dk_42 (dk_at dksX7_init_0 0 rfl rfl)
theorem dX7_init_1 : decode cX7_init 1 = .ok (.invokespecial 1, 3) := dk_183 0 1 (dk_at dksX7_init_0 1 rfl rfl)
theorem dX7_init_4 : decode cX7_init 4 = .ok (.aload_n 0, 1) := dk_42 (dk_at dksX7_init_0 4 rfl rfl)
theorem dX7_init_5 : decode cX7_init 5 = .ok (.iload_n 1, 1) := dk_27 (dk_at dksX7_init_0 5 rfl rfl)
theorem dX7_init_6 : decode cX7_init 6 = .ok (.putfield 7, 3) := dk_181 0 7 (dk_at dksX7_init_0 6 rfl rfl)
theorem dX7_init_9 : decode cX7_init 9 = .ok (.return_, 1) := dk_177 (dk_at dksX7_init_0 9 rfl rfl)
theorem q90 : (Jvm.Cond.initialized "HandUnderTheChin$Broken") ∈ lw_all := lw_g (lw_at lw_m1 12 rfl) rfl
theorem q136 : (Jvm.Cond.selects "HandUnderTheChin$Broken" ({ cls := "java/lang/Throwable", name := "fillInStackTrace", desc := "()Ljava/lang/Throwable;" } : Jvm.MethodName) ({ cls := "java/lang/Throwable", name := "fillInStackTrace", desc := "()Ljava/lang/Throwable;" } : Jvm.MethodName)) ∈ lw_all := lw_g (lw_at lw_m1 58 rfl) rfl
theorem q281 : (Jvm.Cond.instantiable "HandUnderTheChin$Broken" (7 : Nat)) ∈ lw_all := lw_g (lw_at lw_m1 203 rfl) rfl
theorem q282 : (Jvm.Cond.castable "HandUnderTheChin$Broken" "HandUnderTheChin$Broken") ∈ lw_tbl := lw_at lw_m1 204 rfl
theorem q283 : (Jvm.Cond.selects "HandUnderTheChin$Broken" ({ cls := "java/lang/Throwable", name := "fillInStackTrace", desc := "(I)Ljava/lang/Throwable;" } : Jvm.MethodName) ({ cls := "java/lang/Throwable", name := "fillInStackTrace", desc := "(I)Ljava/lang/Throwable;" } : Jvm.MethodName)) ∈ lw_all := lw_g (lw_at lw_m1 205 rfl) rfl
theorem q284 : (Jvm.Cond.lays "HandUnderTheChin$Broken" "java/lang/Throwable" "cause" "Ljava/lang/Throwable;") ∈ lw_all := lw_g (lw_at lw_m1 206 rfl) rfl
theorem q285 : (Jvm.Cond.lays "HandUnderTheChin$Broken" "java/lang/Throwable" "stackTrace" "[Ljava/lang/StackTraceElement;") ∈ lw_all := lw_g (lw_at lw_m1 207 rfl) rfl
theorem q286 : (Jvm.Cond.lays "HandUnderTheChin$Broken" "java/lang/Throwable" "suppressedExceptions" "Ljava/util/List;") ∈ lw_all := lw_g (lw_at lw_m1 208 rfl) rfl
theorem q287 : (Jvm.Cond.lays "HandUnderTheChin$Broken" "java/lang/Throwable" "detailMessage" "Ljava/lang/String;") ∈ lw_all := lw_g (lw_at lw_m1 209 rfl) rfl
theorem q288 : (Jvm.Cond.lays "HandUnderTheChin$Broken" "java/lang/Throwable" "backtrace" "Ljava/lang/Object;") ∈ lw_all := lw_g (lw_at lw_m1 210 rfl) rfl
theorem q290 : (Jvm.Cond.instanceMethod ({ cls := "HandUnderTheChin$Broken", name := "<init>", desc := "(I)V" } : Jvm.MethodName)) ∈ lw_all := lw_g (lw_at lw_m1 212 rfl) rfl
theorem q291 : (Jvm.Cond.code ({ cls := "HandUnderTheChin$Broken", name := "<init>", desc := "(I)V" } : Jvm.MethodName) prog_5_method_1_code (2 : Nat) (Option.none : Option Jvm.ClassFile.FieldType)) ∈ lw_all := lw_g (lw_at lw_m1 213 rfl) rfl
theorem q292 : (Jvm.Cond.methodLink "HandUnderTheChin$Broken" (1 : Nat) ({ cls := "java/lang/Exception", name := "<init>", desc := "()V" } : Jvm.MethodName)) ∈ lw_all := lw_g (lw_at lw_m1 214 rfl) rfl
theorem q296 : (Jvm.Cond.fieldLink "HandUnderTheChin$Broken" (7 : Nat) "HandUnderTheChin$Broken" "code" "I") ∈ lw_all := lw_g (lw_at lw_m1 218 rfl) rfl
theorem q298 : (Jvm.Cond.laysFinal "HandUnderTheChin$Broken" "HandUnderTheChin$Broken" "code" "I") ∈ lw_all := lw_g (lw_at lw_m1 220 rfl) rfl
theorem q299 : (Jvm.Cond.soleField "HandUnderTheChin$Broken" "code") ∈ lw_all := lw_g (lw_at lw_m1 221 rfl) rfl
theorem q300 : (Jvm.Cond.lays "HandUnderTheChin$Broken" "java/lang/Throwable" "depth" "I") ∈ lw_all := lw_g (lw_at lw_m1 222 rfl) rfl
theorem q301 : (Jvm.Cond.superclass "HandUnderTheChin$Broken" "java/lang/Exception") ∈ lw_all := lw_g (lw_at lw_m1 223 rfl) rfl
theorem in_X7 : ∀ w ∈ wsX70, w ∈ lw_all := lw_in wsX70 [284, 285, 286, 287, 288, 300, 298] (by decide +kernel) (by decide +kernel)
/-! HandUnderTheChin$Child -/
set_option maxRecDepth 100000
def RX8 : String := "HandUnderTheChin$Child"
def TX8 : u_T := fun k => match k with
  | _ => ("HandUnderTheChin$Child", "figure", "I", true)
def tyX8 : Nat → FieldType := fun k => match k with
  | _ => .int
abbrev wsX80 : List Cond := u_ws RX8 TX8 1
theorem nmX8 : ∀ a, a < 1 → ∀ b, b < 1 → a ≠ b → (TX8 a).2.1 ≠ (TX8 b).2.1 := by decide +kernel
theorem tyX8_ok : ∀ k, k < 1 → parseFieldDescriptor (TX8 k).2.2.1 = some (tyX8 k) := by decide +kernel
abbrev cX8_init : ByteArray := prog_6_method_1_code
def yX8_init : MethodName := ⟨RX8, "<init>", "(I)V"⟩
def dkwX8_init_0 : List UInt8 := [42, 183, 0, 1, 42, 27, 181, 0, 7, 177]
abbrev dktX8_init_0 : List UInt8 := dkwX8_init_0 ++ []
theorem dksX8_init_0 : cX8_init.data.toList.drop 0 = dktX8_init_0 := by decide +kernel
theorem dX8_init_0 : decode cX8_init 0 = .ok (.aload_n 0, 1) := dk_42 (dk_at dksX8_init_0 0 rfl rfl)
theorem dX8_init_1 : decode cX8_init 1 = .ok (.invokespecial 1, 3) := dk_183 0 1 (dk_at dksX8_init_0 1 rfl rfl)
theorem dX8_init_4 : decode cX8_init 4 = .ok (.aload_n 0, 1) := dk_42 (dk_at dksX8_init_0 4 rfl rfl)
theorem dX8_init_5 : decode cX8_init 5 = .ok (.iload_n 1, 1) := dk_27 (dk_at dksX8_init_0 5 rfl rfl)
theorem dX8_init_6 : decode cX8_init 6 = .ok (.putfield 7, 3) := dk_181 0 7 (dk_at dksX8_init_0 6 rfl rfl)
theorem dX8_init_9 : decode cX8_init 9 = .ok (.return_, 1) := dk_177 (dk_at dksX8_init_0 9 rfl rfl)
abbrev cX8_needs : ByteArray := prog_6_method_3_code
def yX8_needs : MethodName := ⟨RX8, "needs", "(I)I"⟩
def dkwX8_needs_0 : List UInt8 := [27, 7, 96, 172]
abbrev dktX8_needs_0 : List UInt8 := dkwX8_needs_0 ++ []
theorem dksX8_needs_0 : cX8_needs.data.toList.drop 0 = dktX8_needs_0 := by decide +kernel
theorem dX8_needs_0 : decode cX8_needs 0 = .ok (.iload_n 1, 1) := dk_27 (dk_at dksX8_needs_0 0 rfl rfl)
theorem dX8_needs_1 : decode cX8_needs 1 = .ok (.iconst 4, 1) := dk_7 (dk_at dksX8_needs_0 1 rfl rfl)
theorem dX8_needs_2 : decode cX8_needs 2 = .ok (.iadd, 1) := dk_96 (dk_at dksX8_needs_0 2 rfl rfl)
theorem dX8_needs_3 : decode cX8_needs 3 = .ok (.ireturn, 1) := dk_172 (dk_at dksX8_needs_0 3 rfl rfl)
abbrev cX8_kind : ByteArray := prog_6_method_2_code
def yX8_kind : MethodName := ⟨RX8, "kind", "()I"⟩
theorem dX8_kind_0 : decode cX8_kind 0 = .ok (.iconst 0, 1) := by decide +kernel
theorem dX8_kind_1 : decode cX8_kind 1 = .ok (.ireturn, 1) := by decide +kernel
abbrev cX8_cost : ByteArray := prog_6_method_4_code
def yX8_cost : MethodName := ⟨RX8, "cost", "()I"⟩
theorem dX8_cost_0 : decode cX8_cost 0 = .ok (.iconst 5, 1) := by decide +kernel
theorem dX8_cost_1 : decode cX8_cost 1 = .ok (.ireturn, 1) := by decide +kernel
abbrev cX8_failure : ByteArray := prog_6_method_5_code
def yX8_failure : MethodName := ⟨RX8, "failure", "()LHandUnderTheChin$Tossed;"⟩
def dkwX8_failure_0 : List UInt8 := [42, 180, 0, 7, 154, 0, 7, 1, 167, 0, 14, 187, 0, 13, 89, 42, 180, 0, 7, 183, 0, 15, 176]
abbrev dktX8_failure_0 : List UInt8 := dkwX8_failure_0 ++ []
theorem dksX8_failure_0 : cX8_failure.data.toList.drop 0 = dktX8_failure_0 := by decide +kernel
theorem dX8_failure_0 : decode cX8_failure 0 = .ok (.aload_n 0, 1) := dk_42 (dk_at dksX8_failure_0 0 rfl rfl)
theorem dX8_failure_1 : decode cX8_failure 1 = .ok (.getfield 7, 3) := dk_180 0 7 (dk_at dksX8_failure_0 1 rfl rfl)
theorem dX8_failure_4 : decode cX8_failure 4 = .ok (.ifCond .ne 7, 3) := dk_154 0 7 (dk_at dksX8_failure_0 4 rfl rfl)
theorem dX8_failure_7 : decode cX8_failure 7 = .ok (.aconst_null, 1) := dk_1 (dk_at dksX8_failure_0 7 rfl rfl)
theorem dX8_failure_8 : decode cX8_failure 8 = .ok (.goto 14, 3) := dk_167 0 14 (dk_at dksX8_failure_0 8 rfl rfl)
theorem dX8_failure_11 : decode cX8_failure 11 = .ok (.new 13, 3) := dk_187 0 13 (dk_at dksX8_failure_0 11 rfl rfl)
theorem dX8_failure_14 : decode cX8_failure 14 = .ok (.dup, 1) := dk_89 (dk_at dksX8_failure_0 14 rfl rfl)
theorem dX8_failure_15 : decode cX8_failure 15 = .ok (.aload_n 0, 1) := dk_42 (dk_at dksX8_failure_0 15 rfl rfl)
theorem dX8_failure_16 : decode cX8_failure 16 = .ok (.getfield 7, 3) := dk_180 0 7 (dk_at dksX8_failure_0 16 rfl rfl)
theorem dX8_failure_19 : decode cX8_failure 19 = .ok (.invokespecial 15, 3) := dk_183 0 15 (dk_at dksX8_failure_0 19 rfl rfl)
theorem dX8_failure_22 : decode cX8_failure 22 = .ok (.areturn, 1) := dk_176 (dk_at dksX8_failure_0 22 rfl rfl)
theorem q92 : (Jvm.Cond.initialized "HandUnderTheChin$Child") ∈ lw_all := lw_g (lw_at lw_m1 14 rfl) rfl
theorem q331 : (Jvm.Cond.instantiable "HandUnderTheChin$Child" (1 : Nat)) ∈ lw_all := lw_g (lw_at lw_m2 13 rfl) rfl
theorem q333 : (Jvm.Cond.instanceMethod ({ cls := "HandUnderTheChin$Child", name := "<init>", desc := "(I)V" } : Jvm.MethodName)) ∈ lw_all := lw_g (lw_at lw_m2 15 rfl) rfl
theorem q334 : (Jvm.Cond.code ({ cls := "HandUnderTheChin$Child", name := "<init>", desc := "(I)V" } : Jvm.MethodName) prog_6_method_1_code (2 : Nat) (Option.none : Option Jvm.ClassFile.FieldType)) ∈ lw_all := lw_g (lw_at lw_m2 16 rfl) rfl
theorem q335 : (Jvm.Cond.methodLink "HandUnderTheChin$Child" (1 : Nat) ({ cls := "java/lang/Object", name := "<init>", desc := "()V" } : Jvm.MethodName)) ∈ lw_all := lw_g (lw_at lw_m2 17 rfl) rfl
theorem q336 : (Jvm.Cond.fieldLink "HandUnderTheChin$Child" (7 : Nat) "HandUnderTheChin$Child" "figure" "I") ∈ lw_all := lw_g (lw_at lw_m2 18 rfl) rfl
theorem q346 : (Jvm.Cond.laysFinal "HandUnderTheChin$Child" "HandUnderTheChin$Child" "figure" "I") ∈ lw_all := lw_g (lw_at lw_m2 28 rfl) rfl
theorem q347 : (Jvm.Cond.soleField "HandUnderTheChin$Child" "figure") ∈ lw_all := lw_g (lw_at lw_m2 29 rfl) rfl
theorem q348 : (Jvm.Cond.superclass "HandUnderTheChin$Child" "java/lang/Object") ∈ lw_all := lw_g (lw_at lw_m2 30 rfl) rfl
theorem q431 : (Jvm.Cond.unhidden "HandUnderTheChin$Child" "holds" "()I") ∈ lw_tbl := lw_at lw_m2 113 rfl
theorem q466 : (Jvm.Cond.instanceMethod ({ cls := "HandUnderTheChin$Child", name := "needs", desc := "(I)I" } : Jvm.MethodName)) ∈ lw_all := lw_g (lw_at lw_m2 148 rfl) rfl
theorem q467 : (Jvm.Cond.selects "HandUnderTheChin$Child" ({ cls := "HandUnderTheChin$Child", name := "needs", desc := "(I)I" } : Jvm.MethodName) ({ cls := "HandUnderTheChin$Child", name := "needs", desc := "(I)I" } : Jvm.MethodName)) ∈ lw_all := lw_g (lw_at lw_m2 149 rfl) rfl
theorem q468 : (Jvm.Cond.sameMethod "HandUnderTheChin$Child" "HandUnderTheChin$Child" "needs" "(I)I") ∈ lw_all := lw_g (lw_at lw_m2 150 rfl) rfl
theorem q473 : (Jvm.Cond.code ({ cls := "HandUnderTheChin$Child", name := "needs", desc := "(I)I" } : Jvm.MethodName) prog_6_method_3_code (2 : Nat) (Option.some Jvm.ClassFile.FieldType.int)) ∈ lw_all := lw_g (lw_at lw_m2 155 rfl) rfl
theorem q498 : (Jvm.Cond.unhidden "HandUnderTheChin$Child" "passes" "()I") ∈ lw_tbl := lw_at lw_m2 180 rfl
theorem q529 : (Jvm.Cond.unhidden "HandUnderTheChin$Child" "fright" "()I") ∈ lw_tbl := lw_at lw_m2 211 rfl
theorem q563 : (Jvm.Cond.unhidden "HandUnderTheChin$Child" "bears" "()I") ∈ lw_tbl := lw_at lw_m3 5 rfl
theorem q597 : (Jvm.Cond.instanceMethod ({ cls := "HandUnderTheChin$Child", name := "kind", desc := "()I" } : Jvm.MethodName)) ∈ lw_all := lw_g (lw_at lw_m3 39 rfl) rfl
theorem q598 : (Jvm.Cond.selects "HandUnderTheChin$Child" ({ cls := "HandUnderTheChin$Child", name := "kind", desc := "()I" } : Jvm.MethodName) ({ cls := "HandUnderTheChin$Child", name := "kind", desc := "()I" } : Jvm.MethodName)) ∈ lw_all := lw_g (lw_at lw_m3 40 rfl) rfl
theorem q599 : (Jvm.Cond.sameMethod "HandUnderTheChin$Child" "HandUnderTheChin$Child" "kind" "()I") ∈ lw_all := lw_g (lw_at lw_m3 41 rfl) rfl
theorem q621 : (Jvm.Cond.code ({ cls := "HandUnderTheChin$Child", name := "kind", desc := "()I" } : Jvm.MethodName) prog_6_method_2_code (1 : Nat) (Option.some Jvm.ClassFile.FieldType.int)) ∈ lw_all := lw_g (lw_at lw_m3 63 rfl) rfl
theorem q1033 : (Jvm.Cond.instanceMethod ({ cls := "HandUnderTheChin$Child", name := "cost", desc := "()I" } : Jvm.MethodName)) ∈ lw_all := lw_g (lw_at lw_m4 235 rfl) rfl
theorem q1034 : (Jvm.Cond.selects "HandUnderTheChin$Child" ({ cls := "HandUnderTheChin$Child", name := "cost", desc := "()I" } : Jvm.MethodName) ({ cls := "HandUnderTheChin$Child", name := "cost", desc := "()I" } : Jvm.MethodName)) ∈ lw_all := lw_g (lw_at lw_m4 236 rfl) rfl
theorem q1035 : (Jvm.Cond.sameMethod "HandUnderTheChin$Child" "HandUnderTheChin$Child" "cost" "()I") ∈ lw_all := lw_g (lw_at lw_m4 237 rfl) rfl
theorem q1040 : (Jvm.Cond.code ({ cls := "HandUnderTheChin$Child", name := "cost", desc := "()I" } : Jvm.MethodName) prog_6_method_4_code (1 : Nat) (Option.some Jvm.ClassFile.FieldType.int)) ∈ lw_all := lw_g (lw_at lw_m5 2 rfl) rfl
theorem q1071 : (Jvm.Cond.instanceMethod ({ cls := "HandUnderTheChin$Child", name := "failure", desc := "()LHandUnderTheChin$Tossed;" } : Jvm.MethodName)) ∈ lw_all := lw_g (lw_at lw_m5 33 rfl) rfl
theorem q1072 : (Jvm.Cond.selects "HandUnderTheChin$Child" ({ cls := "HandUnderTheChin$Child", name := "failure", desc := "()LHandUnderTheChin$Tossed;" } : Jvm.MethodName) ({ cls := "HandUnderTheChin$Child", name := "failure", desc := "()LHandUnderTheChin$Tossed;" } : Jvm.MethodName)) ∈ lw_all := lw_g (lw_at lw_m5 34 rfl) rfl
theorem q1073 : (Jvm.Cond.sameMethod "HandUnderTheChin$Child" "HandUnderTheChin$Child" "failure" "()LHandUnderTheChin$Tossed;") ∈ lw_all := lw_g (lw_at lw_m5 35 rfl) rfl
theorem q1078 : (Jvm.Cond.code ({ cls := "HandUnderTheChin$Child", name := "failure", desc := "()LHandUnderTheChin$Tossed;" } : Jvm.MethodName) prog_6_method_5_code (1 : Nat) (Option.some (Jvm.ClassFile.FieldType.object "HandUnderTheChin$Tossed"))) ∈ lw_all := lw_g (lw_at lw_m5 40 rfl) rfl
theorem q1079 : (Jvm.Cond.classLink "HandUnderTheChin$Child" (13 : Nat) "HandUnderTheChin$Tossed") ∈ lw_all := lw_g (lw_at lw_m5 41 rfl) rfl
theorem q1088 : (Jvm.Cond.methodLink "HandUnderTheChin$Child" (15 : Nat) ({ cls := "HandUnderTheChin$Tossed", name := "<init>", desc := "(I)V" } : Jvm.MethodName)) ∈ lw_all := lw_g (lw_at lw_m5 50 rfl) rfl
theorem in_X8 : ∀ w ∈ wsX80, w ∈ lw_all := lw_in wsX80 [346] (by decide +kernel) (by decide +kernel)
/-! HandUnderTheChin$Bold -/
set_option maxRecDepth 100000
def RX9 : String := "HandUnderTheChin$Bold"
def TX9 : u_T := fun k => match k with
  | _ => ("HandUnderTheChin$Child", "figure", "I", true)
def tyX9 : Nat → FieldType := fun k => match k with
  | _ => .int
abbrev wsX90 : List Cond := u_ws RX9 TX9 1
theorem nmX9 : ∀ a, a < 1 → ∀ b, b < 1 → a ≠ b → (TX9 a).2.1 ≠ (TX9 b).2.1 := by decide +kernel
theorem tyX9_ok : ∀ k, k < 1 → parseFieldDescriptor (TX9 k).2.2.1 = some (tyX9 k) := by decide +kernel
abbrev cX9_init : ByteArray := prog_4_method_1_code
def yX9_init : MethodName := ⟨RX9, "<init>", "(I)V"⟩
def dkwX9_init_0 : List UInt8 := [42, 27, 183, 0, 3, 177]
abbrev dktX9_init_0 : List UInt8 := dkwX9_init_0 ++ []
theorem dksX9_init_0 : cX9_init.data.toList.drop 0 = dktX9_init_0 := by decide +kernel
theorem dX9_init_0 : decode cX9_init 0 = .ok (.aload_n 0, 1) := dk_42 (dk_at dksX9_init_0 0 rfl rfl)
theorem dX9_init_1 : decode cX9_init 1 = .ok (.iload_n 1, 1) := dk_27 (dk_at dksX9_init_0 1 rfl rfl)
theorem dX9_init_2 : decode cX9_init 2 = .ok (.invokespecial 3, 3) := dk_183 0 3 (dk_at dksX9_init_0 2 rfl rfl)
theorem dX9_init_5 : decode cX9_init 5 = .ok (.return_, 1) := dk_177 (dk_at dksX9_init_0 5 rfl rfl)
abbrev cX9_holds : ByteArray := prog_4_method_3_code
def yX9_holds : MethodName := ⟨RX9, "holds", "()I"⟩
def dkwX9_holds_0 : List UInt8 := [42, 183, 0, 9, 4, 100, 172]
abbrev dktX9_holds_0 : List UInt8 := dkwX9_holds_0 ++ []
theorem dksX9_holds_0 : cX9_holds.data.toList.drop 0 = dktX9_holds_0 := by decide +kernel
theorem dX9_holds_0 : decode cX9_holds 0 = .ok (.aload_n 0, 1) := dk_42 (dk_at dksX9_holds_0 0 rfl rfl)
theorem dX9_holds_1 : decode cX9_holds 1 = .ok (.invokespecial 9, 3) := dk_183 0 9 (dk_at dksX9_holds_0 1 rfl rfl)
theorem dX9_holds_4 : decode cX9_holds 4 = .ok (.iconst 1, 1) := dk_4 (dk_at dksX9_holds_0 4 rfl rfl)
theorem dX9_holds_5 : decode cX9_holds 5 = .ok (.isub, 1) := dk_100 (dk_at dksX9_holds_0 5 rfl rfl)
theorem dX9_holds_6 : decode cX9_holds 6 = .ok (.ireturn, 1) := dk_172 (dk_at dksX9_holds_0 6 rfl rfl)
abbrev cX9_needs : ByteArray := prog_4_method_4_code
def yX9_needs : MethodName := ⟨RX9, "needs", "(I)I"⟩
def dkwX9_needs_0 : List UInt8 := [42, 27, 183, 0, 13, 5, 100, 172]
abbrev dktX9_needs_0 : List UInt8 := dkwX9_needs_0 ++ []
theorem dksX9_needs_0 : cX9_needs.data.toList.drop 0 = dktX9_needs_0 := by decide +kernel
theorem dX9_needs_0 : decode cX9_needs 0 = .ok (.aload_n 0, 1) := dk_42 (dk_at dksX9_needs_0 0 rfl rfl)
theorem dX9_needs_1 : decode cX9_needs 1 = .ok (.iload_n 1, 1) := dk_27 (dk_at dksX9_needs_0 1 rfl rfl)
theorem dX9_needs_2 : decode cX9_needs 2 = .ok (.invokespecial 13, 3) := dk_183 0 13 (dk_at dksX9_needs_0 2 rfl rfl)
theorem dX9_needs_5 : decode cX9_needs 5 = .ok (.iconst 2, 1) := dk_5 (dk_at dksX9_needs_0 5 rfl rfl)
theorem dX9_needs_6 : decode cX9_needs 6 = .ok (.isub, 1) := dk_100 (dk_at dksX9_needs_0 6 rfl rfl)
theorem dX9_needs_7 : decode cX9_needs 7 = .ok (.ireturn, 1) := dk_172 (dk_at dksX9_needs_0 7 rfl rfl)
abbrev cX9_fright : ByteArray := prog_4_method_5_code
def yX9_fright : MethodName := ⟨RX9, "fright", "()I"⟩
def dkwX9_fright_0 : List UInt8 := [42, 183, 0, 17, 4, 100, 172]
abbrev dktX9_fright_0 : List UInt8 := dkwX9_fright_0 ++ []
theorem dksX9_fright_0 : cX9_fright.data.toList.drop 0 = dktX9_fright_0 := by decide +kernel
theorem dX9_fright_0 : decode cX9_fright 0 = .ok (.aload_n 0, 1) := dk_42 (dk_at dksX9_fright_0 0 rfl rfl)
theorem dX9_fright_1 : decode cX9_fright 1 = .ok (.invokespecial 17, 3) := dk_183 0 17 (dk_at dksX9_fright_0 1 rfl rfl)
theorem dX9_fright_4 : decode cX9_fright 4 = .ok (.iconst 1, 1) := dk_4 (dk_at dksX9_fright_0 4 rfl rfl)
theorem dX9_fright_5 : decode cX9_fright 5 = .ok (.isub, 1) := dk_100 (dk_at dksX9_fright_0 5 rfl rfl)
theorem dX9_fright_6 : decode cX9_fright 6 = .ok (.ireturn, 1) := dk_172 (dk_at dksX9_fright_0 6 rfl rfl)
abbrev cX9_bears : ByteArray := prog_4_method_6_code
def yX9_bears : MethodName := ⟨RX9, "bears", "()I"⟩
def dkwX9_bears_0 : List UInt8 := [42, 183, 0, 20, 42, 180, 0, 23, 96, 172]
abbrev dktX9_bears_0 : List UInt8 := dkwX9_bears_0 ++ []
theorem dksX9_bears_0 : cX9_bears.data.toList.drop 0 = dktX9_bears_0 := by decide +kernel
theorem dX9_bears_0 : decode cX9_bears 0 = .ok (.aload_n 0, 1) := dk_42 (dk_at dksX9_bears_0 0 rfl rfl)
theorem dX9_bears_1 : decode cX9_bears 1 = .ok (.invokespecial 20, 3) := dk_183 0 20 (dk_at dksX9_bears_0 1 rfl rfl)
theorem dX9_bears_4 : decode cX9_bears 4 = .ok (.aload_n 0, 1) := dk_42 (dk_at dksX9_bears_0 4 rfl rfl)
theorem dX9_bears_5 : decode cX9_bears 5 = .ok (.getfield 23, 3) := dk_180 0 23 (dk_at dksX9_bears_0 5 rfl rfl)
theorem dX9_bears_8 : decode cX9_bears 8 = .ok (.iadd, 1) := dk_96 (dk_at dksX9_bears_0 8 rfl rfl)
theorem dX9_bears_9 : decode cX9_bears 9 = .ok (.ireturn, 1) := dk_172 (dk_at dksX9_bears_0 9 rfl rfl)
abbrev cX9_kind : ByteArray := prog_4_method_2_code
def yX9_kind : MethodName := ⟨RX9, "kind", "()I"⟩
theorem dX9_kind_0 : decode cX9_kind 0 = .ok (.iconst 1, 1) := by decide +kernel
theorem dX9_kind_1 : decode cX9_kind 1 = .ok (.ireturn, 1) := by decide +kernel
abbrev cX9_cost : ByteArray := prog_4_method_7_code
def yX9_cost : MethodName := ⟨RX9, "cost", "()I"⟩
def dkwX9_cost_0 : List UInt8 := [42, 183, 0, 29, 42, 180, 0, 23, 96, 172]
abbrev dktX9_cost_0 : List UInt8 := dkwX9_cost_0 ++ []
theorem dksX9_cost_0 : cX9_cost.data.toList.drop 0 = dktX9_cost_0 := by decide +kernel
theorem dX9_cost_0 : decode cX9_cost 0 = .ok (.aload_n 0, 1) := dk_42 (dk_at dksX9_cost_0 0 rfl rfl)
theorem dX9_cost_1 : decode cX9_cost 1 = .ok (.invokespecial 29, 3) := dk_183 0 29 (dk_at dksX9_cost_0 1 rfl rfl)
theorem dX9_cost_4 : decode cX9_cost 4 = .ok (.aload_n 0, 1) := dk_42 (dk_at dksX9_cost_0 4 rfl rfl)
theorem dX9_cost_5 : decode cX9_cost 5 = .ok (.getfield 23, 3) := dk_180 0 23 (dk_at dksX9_cost_0 5 rfl rfl)
theorem dX9_cost_8 : decode cX9_cost 8 = .ok (.iadd, 1) := dk_96 (dk_at dksX9_cost_0 8 rfl rfl)
theorem dX9_cost_9 : decode cX9_cost 9 = .ok (.ireturn, 1) := dk_172 (dk_at dksX9_cost_0 9 rfl rfl)
abbrev cX9_failure : ByteArray := prog_4_method_8_code
def yX9_failure : MethodName := ⟨RX9, "failure", "()LHandUnderTheChin$Tossed;"⟩
def dkwX9_failure_1 : List UInt8 := [183, 0, 41, 176]
abbrev dktX9_failure_1 : List UInt8 := dkwX9_failure_1 ++ []
def dkwX9_failure_0 : List UInt8 := [42, 183, 0, 32, 76, 43, 199, 0, 7, 1, 167, 0, 17, 187, 0, 36, 89, 43, 180, 0, 38, 16, 100, 96]
abbrev dktX9_failure_0 : List UInt8 := dkwX9_failure_0 ++ dktX9_failure_1
theorem dksX9_failure_0 : cX9_failure.data.toList.drop 0 = dktX9_failure_0 := by decide +kernel
theorem dksX9_failure_1 : cX9_failure.data.toList.drop 24 = dktX9_failure_1 := dk_seg dksX9_failure_0 24 rfl rfl
theorem dX9_failure_0 : decode cX9_failure 0 = .ok (.aload_n 0, 1) := dk_42 (dk_at dksX9_failure_0 0 rfl rfl)
theorem dX9_failure_1 : decode cX9_failure 1 = .ok (.invokespecial 32, 3) := dk_183 0 32 (dk_at dksX9_failure_0 1 rfl rfl)
theorem dX9_failure_4 : decode cX9_failure 4 = .ok (.astore_n 1, 1) := dk_76 (dk_at dksX9_failure_0 4 rfl rfl)
theorem dX9_failure_5 : decode cX9_failure 5 = .ok (.aload_n 1, 1) := dk_43 (dk_at dksX9_failure_0 5 rfl rfl)
theorem dX9_failure_6 : decode cX9_failure 6 = .ok (.ifnonnull 7, 3) := dk_199 0 7 (dk_at dksX9_failure_0 6 rfl rfl)
theorem dX9_failure_9 : decode cX9_failure 9 = .ok (.aconst_null, 1) := dk_1 (dk_at dksX9_failure_0 9 rfl rfl)
theorem dX9_failure_10 : decode cX9_failure 10 = .ok (.goto 17, 3) := dk_167 0 17 (dk_at dksX9_failure_0 10 rfl rfl)
theorem dX9_failure_13 : decode cX9_failure 13 = .ok (.new 36, 3) := dk_187 0 36 (dk_at dksX9_failure_0 13 rfl rfl)
theorem dX9_failure_16 : decode cX9_failure 16 = .ok (.dup, 1) := dk_89 (dk_at dksX9_failure_0 16 rfl rfl)
theorem dX9_failure_17 : decode cX9_failure 17 = .ok (.aload_n 1, 1) := dk_43 (dk_at dksX9_failure_0 17 rfl rfl)
theorem dX9_failure_18 : decode cX9_failure 18 = .ok (.getfield 38, 3) := dk_180 0 38 (dk_at dksX9_failure_0 18 rfl rfl)
theorem dX9_failure_21 : decode cX9_failure 21 = .ok (.bipush 100, 2) := dk_16 100 (dk_at dksX9_failure_0 21 rfl rfl)
theorem dX9_failure_23 : decode cX9_failure 23 = .ok (.iadd, 1) := dk_96 (dk_at dksX9_failure_0 23 rfl rfl)
theorem dX9_failure_24 : decode cX9_failure 24 = .ok (.invokespecial 41, 3) := dk_183 0 41 (dk_at dksX9_failure_1 0 rfl rfl)
theorem dX9_failure_27 : decode cX9_failure 27 = .ok (.areturn, 1) := dk_176 (dk_at dksX9_failure_1 3 rfl rfl)
theorem q93 : (Jvm.Cond.initialized "HandUnderTheChin$Bold") ∈ lw_all := lw_g (lw_at lw_m1 15 rfl) rfl
theorem q343 : (Jvm.Cond.fieldLink "HandUnderTheChin$Bold" (23 : Nat) "HandUnderTheChin$Bold" "figure" "I") ∈ lw_all := lw_g (lw_at lw_m2 25 rfl) rfl
theorem q344 : (Jvm.Cond.sameField "HandUnderTheChin$Bold" "HandUnderTheChin$Child" "figure" "I") ∈ lw_all := lw_g (lw_at lw_m2 26 rfl) rfl
theorem q350 : (Jvm.Cond.instantiable "HandUnderTheChin$Bold" (1 : Nat)) ∈ lw_all := lw_g (lw_at lw_m2 32 rfl) rfl
theorem q352 : (Jvm.Cond.instanceMethod ({ cls := "HandUnderTheChin$Bold", name := "<init>", desc := "(I)V" } : Jvm.MethodName)) ∈ lw_all := lw_g (lw_at lw_m2 34 rfl) rfl
theorem q353 : (Jvm.Cond.code ({ cls := "HandUnderTheChin$Bold", name := "<init>", desc := "(I)V" } : Jvm.MethodName) prog_4_method_1_code (2 : Nat) (Option.none : Option Jvm.ClassFile.FieldType)) ∈ lw_all := lw_g (lw_at lw_m2 35 rfl) rfl
theorem q354 : (Jvm.Cond.methodLink "HandUnderTheChin$Bold" (3 : Nat) ({ cls := "HandUnderTheChin$Child", name := "<init>", desc := "(I)V" } : Jvm.MethodName)) ∈ lw_all := lw_g (lw_at lw_m2 36 rfl) rfl
theorem q355 : (Jvm.Cond.laysFinal "HandUnderTheChin$Bold" "HandUnderTheChin$Child" "figure" "I") ∈ lw_all := lw_g (lw_at lw_m2 37 rfl) rfl
theorem q356 : (Jvm.Cond.superclass "HandUnderTheChin$Bold" "HandUnderTheChin$Child") ∈ lw_all := lw_g (lw_at lw_m2 38 rfl) rfl
theorem q426 : (Jvm.Cond.selects "HandUnderTheChin$Bold" ({ cls := "HandUnderTheChin$Trusts", name := "holds", desc := "()I" } : Jvm.MethodName) ({ cls := "HandUnderTheChin$Bold", name := "holds", desc := "()I" } : Jvm.MethodName)) ∈ lw_all := lw_g (lw_at lw_m2 108 rfl) rfl
theorem q427 : (Jvm.Cond.instanceMethod ({ cls := "HandUnderTheChin$Bold", name := "holds", desc := "()I" } : Jvm.MethodName)) ∈ lw_all := lw_g (lw_at lw_m2 109 rfl) rfl
theorem q428 : (Jvm.Cond.code ({ cls := "HandUnderTheChin$Bold", name := "holds", desc := "()I" } : Jvm.MethodName) prog_4_method_3_code (1 : Nat) (Option.some Jvm.ClassFile.FieldType.int)) ∈ lw_all := lw_g (lw_at lw_m2 110 rfl) rfl
theorem q469 : (Jvm.Cond.selects "HandUnderTheChin$Bold" ({ cls := "HandUnderTheChin$Child", name := "needs", desc := "(I)I" } : Jvm.MethodName) ({ cls := "HandUnderTheChin$Bold", name := "needs", desc := "(I)I" } : Jvm.MethodName)) ∈ lw_all := lw_g (lw_at lw_m2 151 rfl) rfl
theorem q470 : (Jvm.Cond.instanceMethod ({ cls := "HandUnderTheChin$Bold", name := "needs", desc := "(I)I" } : Jvm.MethodName)) ∈ lw_all := lw_g (lw_at lw_m2 152 rfl) rfl
theorem q471 : (Jvm.Cond.code ({ cls := "HandUnderTheChin$Bold", name := "needs", desc := "(I)I" } : Jvm.MethodName) prog_4_method_4_code (2 : Nat) (Option.some Jvm.ClassFile.FieldType.int)) ∈ lw_all := lw_g (lw_at lw_m2 153 rfl) rfl
theorem q472 : (Jvm.Cond.methodLink "HandUnderTheChin$Bold" (13 : Nat) ({ cls := "HandUnderTheChin$Child", name := "needs", desc := "(I)I" } : Jvm.MethodName)) ∈ lw_all := lw_g (lw_at lw_m2 154 rfl) rfl
theorem q497 : (Jvm.Cond.unhidden "HandUnderTheChin$Bold" "passes" "()I") ∈ lw_tbl := lw_at lw_m2 179 rfl
theorem q524 : (Jvm.Cond.selects "HandUnderTheChin$Bold" ({ cls := "HandUnderTheChin$Fears", name := "fright", desc := "()I" } : Jvm.MethodName) ({ cls := "HandUnderTheChin$Bold", name := "fright", desc := "()I" } : Jvm.MethodName)) ∈ lw_all := lw_g (lw_at lw_m2 206 rfl) rfl
theorem q525 : (Jvm.Cond.instanceMethod ({ cls := "HandUnderTheChin$Bold", name := "fright", desc := "()I" } : Jvm.MethodName)) ∈ lw_all := lw_g (lw_at lw_m2 207 rfl) rfl
theorem q526 : (Jvm.Cond.code ({ cls := "HandUnderTheChin$Bold", name := "fright", desc := "()I" } : Jvm.MethodName) prog_4_method_5_code (1 : Nat) (Option.some Jvm.ClassFile.FieldType.int)) ∈ lw_all := lw_g (lw_at lw_m2 208 rfl) rfl
theorem q558 : (Jvm.Cond.selects "HandUnderTheChin$Bold" ({ cls := "HandUnderTheChin$Fears", name := "bears", desc := "()I" } : Jvm.MethodName) ({ cls := "HandUnderTheChin$Bold", name := "bears", desc := "()I" } : Jvm.MethodName)) ∈ lw_all := lw_g (lw_at lw_m3 0 rfl) rfl
theorem q559 : (Jvm.Cond.instanceMethod ({ cls := "HandUnderTheChin$Bold", name := "bears", desc := "()I" } : Jvm.MethodName)) ∈ lw_all := lw_g (lw_at lw_m3 1 rfl) rfl
theorem q560 : (Jvm.Cond.code ({ cls := "HandUnderTheChin$Bold", name := "bears", desc := "()I" } : Jvm.MethodName) prog_4_method_6_code (1 : Nat) (Option.some Jvm.ClassFile.FieldType.int)) ∈ lw_all := lw_g (lw_at lw_m3 2 rfl) rfl
theorem q600 : (Jvm.Cond.selects "HandUnderTheChin$Bold" ({ cls := "HandUnderTheChin$Child", name := "kind", desc := "()I" } : Jvm.MethodName) ({ cls := "HandUnderTheChin$Bold", name := "kind", desc := "()I" } : Jvm.MethodName)) ∈ lw_all := lw_g (lw_at lw_m3 42 rfl) rfl
theorem q601 : (Jvm.Cond.instanceMethod ({ cls := "HandUnderTheChin$Bold", name := "kind", desc := "()I" } : Jvm.MethodName)) ∈ lw_all := lw_g (lw_at lw_m3 43 rfl) rfl
theorem q602 : (Jvm.Cond.code ({ cls := "HandUnderTheChin$Bold", name := "kind", desc := "()I" } : Jvm.MethodName) prog_4_method_2_code (1 : Nat) (Option.some Jvm.ClassFile.FieldType.int)) ∈ lw_all := lw_g (lw_at lw_m3 44 rfl) rfl
theorem q1036 : (Jvm.Cond.selects "HandUnderTheChin$Bold" ({ cls := "HandUnderTheChin$Child", name := "cost", desc := "()I" } : Jvm.MethodName) ({ cls := "HandUnderTheChin$Bold", name := "cost", desc := "()I" } : Jvm.MethodName)) ∈ lw_all := lw_g (lw_at lw_m4 238 rfl) rfl
theorem q1037 : (Jvm.Cond.instanceMethod ({ cls := "HandUnderTheChin$Bold", name := "cost", desc := "()I" } : Jvm.MethodName)) ∈ lw_all := lw_g (lw_at lw_m4 239 rfl) rfl
theorem q1038 : (Jvm.Cond.code ({ cls := "HandUnderTheChin$Bold", name := "cost", desc := "()I" } : Jvm.MethodName) prog_4_method_7_code (1 : Nat) (Option.some Jvm.ClassFile.FieldType.int)) ∈ lw_all := lw_g (lw_at lw_m5 0 rfl) rfl
theorem q1039 : (Jvm.Cond.methodLink "HandUnderTheChin$Bold" (29 : Nat) ({ cls := "HandUnderTheChin$Child", name := "cost", desc := "()I" } : Jvm.MethodName)) ∈ lw_all := lw_g (lw_at lw_m5 1 rfl) rfl
theorem q1074 : (Jvm.Cond.selects "HandUnderTheChin$Bold" ({ cls := "HandUnderTheChin$Child", name := "failure", desc := "()LHandUnderTheChin$Tossed;" } : Jvm.MethodName) ({ cls := "HandUnderTheChin$Bold", name := "failure", desc := "()LHandUnderTheChin$Tossed;" } : Jvm.MethodName)) ∈ lw_all := lw_g (lw_at lw_m5 36 rfl) rfl
theorem q1075 : (Jvm.Cond.instanceMethod ({ cls := "HandUnderTheChin$Bold", name := "failure", desc := "()LHandUnderTheChin$Tossed;" } : Jvm.MethodName)) ∈ lw_all := lw_g (lw_at lw_m5 37 rfl) rfl
theorem q1076 : (Jvm.Cond.code ({ cls := "HandUnderTheChin$Bold", name := "failure", desc := "()LHandUnderTheChin$Tossed;" } : Jvm.MethodName) prog_4_method_8_code (2 : Nat) (Option.some (Jvm.ClassFile.FieldType.object "HandUnderTheChin$Tossed"))) ∈ lw_all := lw_g (lw_at lw_m5 38 rfl) rfl
theorem q1077 : (Jvm.Cond.methodLink "HandUnderTheChin$Bold" (32 : Nat) ({ cls := "HandUnderTheChin$Child", name := "failure", desc := "()LHandUnderTheChin$Tossed;" } : Jvm.MethodName)) ∈ lw_all := lw_g (lw_at lw_m5 39 rfl) rfl
theorem q1093 : (Jvm.Cond.fieldLink "HandUnderTheChin$Bold" (38 : Nat) "HandUnderTheChin$Tossed" "n" "I") ∈ lw_all := lw_g (lw_at lw_m5 55 rfl) rfl
theorem q1099 : (Jvm.Cond.classLink "HandUnderTheChin$Bold" (36 : Nat) "HandUnderTheChin$Tossed") ∈ lw_all := lw_g (lw_at lw_m5 61 rfl) rfl
theorem q1100 : (Jvm.Cond.methodLink "HandUnderTheChin$Bold" (41 : Nat) ({ cls := "HandUnderTheChin$Tossed", name := "<init>", desc := "(I)V" } : Jvm.MethodName)) ∈ lw_all := lw_g (lw_at lw_m5 62 rfl) rfl
theorem q1666 : (Jvm.Cond.sameMethod "HandUnderTheChin$Bold" "HandUnderTheChin$Bold" "needs" "(I)I") ∈ lw_all := lw_g (lw_at lw_m7 148 rfl) rfl
theorem q1669 : (Jvm.Cond.sameMethod "HandUnderTheChin$Bold" "HandUnderTheChin$Bold" "cost" "()I") ∈ lw_all := lw_g (lw_at lw_m7 151 rfl) rfl
theorem q1670 : (Jvm.Cond.sameMethod "HandUnderTheChin$Bold" "HandUnderTheChin$Bold" "failure" "()LHandUnderTheChin$Tossed;") ∈ lw_all := lw_g (lw_at lw_m7 152 rfl) rfl
theorem q1676 : (Jvm.Cond.castable "HandUnderTheChin$Bold" "HandUnderTheChin$Child") ∈ lw_tbl := lw_at lw_m7 158 rfl
theorem in_X9 : ∀ w ∈ wsX90, w ∈ lw_all := lw_in wsX90 [355] (by decide +kernel) (by decide +kernel)
/-! HandUnderTheChin$Shy -/
set_option maxRecDepth 100000
def RX10 : String := "HandUnderTheChin$Shy"
def TX10 : u_T := fun k => match k with
  | _ => ("HandUnderTheChin$Child", "figure", "I", true)
def tyX10 : Nat → FieldType := fun k => match k with
  | _ => .int
abbrev wsX100 : List Cond := u_ws RX10 TX10 1
theorem nmX10 : ∀ a, a < 1 → ∀ b, b < 1 → a ≠ b → (TX10 a).2.1 ≠ (TX10 b).2.1 := by decide +kernel
theorem tyX10_ok : ∀ k, k < 1 → parseFieldDescriptor (TX10 k).2.2.1 = some (tyX10 k) := by decide +kernel
abbrev cX10_init : ByteArray := prog_15_method_1_code
def yX10_init : MethodName := ⟨RX10, "<init>", "(I)V"⟩
def dkwX10_init_0 : List UInt8 := [42, 27, 183, 0, 3, 177]
abbrev dktX10_init_0 : List UInt8 := dkwX10_init_0 ++ []
theorem dksX10_init_0 : cX10_init.data.toList.drop 0 = dktX10_init_0 := by decide +kernel
theorem dX10_init_0 : decode cX10_init 0 = .ok (.aload_n 0, 1) := dk_42 (dk_at dksX10_init_0 0 rfl rfl)
theorem dX10_init_1 : decode cX10_init 1 = .ok (.iload_n 1, 1) := dk_27 (dk_at dksX10_init_0 1 rfl rfl)
theorem dX10_init_2 : decode cX10_init 2 = .ok (.invokespecial 3, 3) := dk_183 0 3 (dk_at dksX10_init_0 2 rfl rfl)
theorem dX10_init_5 : decode cX10_init 5 = .ok (.return_, 1) := dk_177 (dk_at dksX10_init_0 5 rfl rfl)
abbrev cX10_holds : ByteArray := prog_15_method_3_code
def yX10_holds : MethodName := ⟨RX10, "holds", "()I"⟩
def dkwX10_holds_0 : List UInt8 := [42, 183, 0, 9, 4, 96, 172]
abbrev dktX10_holds_0 : List UInt8 := dkwX10_holds_0 ++ []
theorem dksX10_holds_0 : cX10_holds.data.toList.drop 0 = dktX10_holds_0 := by decide +kernel
theorem dX10_holds_0 : decode cX10_holds 0 = .ok (.aload_n 0, 1) := dk_42 (dk_at dksX10_holds_0 0 rfl rfl)
theorem dX10_holds_1 : decode cX10_holds 1 = .ok (.invokespecial 9, 3) := dk_183 0 9 (dk_at dksX10_holds_0 1 rfl rfl)
theorem dX10_holds_4 : decode cX10_holds 4 = .ok (.iconst 1, 1) := dk_4 (dk_at dksX10_holds_0 4 rfl rfl)
theorem dX10_holds_5 : decode cX10_holds 5 = .ok (.iadd, 1) := dk_96 (dk_at dksX10_holds_0 5 rfl rfl)
theorem dX10_holds_6 : decode cX10_holds 6 = .ok (.ireturn, 1) := dk_172 (dk_at dksX10_holds_0 6 rfl rfl)
abbrev cX10_needs : ByteArray := prog_15_method_4_code
def yX10_needs : MethodName := ⟨RX10, "needs", "(I)I"⟩
def dkwX10_needs_0 : List UInt8 := [5, 42, 27, 183, 0, 13, 104, 172]
abbrev dktX10_needs_0 : List UInt8 := dkwX10_needs_0 ++ []
theorem dksX10_needs_0 : cX10_needs.data.toList.drop 0 = dktX10_needs_0 := by decide +kernel
theorem dX10_needs_0 : decode cX10_needs 0 = .ok (.iconst 2, 1) := dk_5 (dk_at dksX10_needs_0 0 rfl rfl)
theorem dX10_needs_1 : decode cX10_needs 1 = .ok (.aload_n 0, 1) := dk_42 (dk_at dksX10_needs_0 1 rfl rfl)
theorem dX10_needs_2 : decode cX10_needs 2 = .ok (.iload_n 1, 1) := dk_27 (dk_at dksX10_needs_0 2 rfl rfl)
theorem dX10_needs_3 : decode cX10_needs 3 = .ok (.invokespecial 13, 3) := dk_183 0 13 (dk_at dksX10_needs_0 3 rfl rfl)
theorem dX10_needs_6 : decode cX10_needs 6 = .ok (.imul, 1) := dk_104 (dk_at dksX10_needs_0 6 rfl rfl)
theorem dX10_needs_7 : decode cX10_needs 7 = .ok (.ireturn, 1) := dk_172 (dk_at dksX10_needs_0 7 rfl rfl)
abbrev cX10_passes : ByteArray := prog_15_method_7_code
def yX10_passes : MethodName := ⟨RX10, "passes", "()I"⟩
theorem dX10_passes_0 : decode cX10_passes 0 = .ok (.iconst 0, 1) := by decide +kernel
theorem dX10_passes_1 : decode cX10_passes 1 = .ok (.ireturn, 1) := by decide +kernel
abbrev cX10_fright : ByteArray := prog_15_method_5_code
def yX10_fright : MethodName := ⟨RX10, "fright", "()I"⟩
def dkwX10_fright_0 : List UInt8 := [42, 183, 0, 17, 42, 180, 0, 20, 5, 108, 96, 172]
abbrev dktX10_fright_0 : List UInt8 := dkwX10_fright_0 ++ []
theorem dksX10_fright_0 : cX10_fright.data.toList.drop 0 = dktX10_fright_0 := by decide +kernel
theorem dX10_fright_0 : decode cX10_fright 0 = .ok (.aload_n 0, 1) := dk_42 (dk_at dksX10_fright_0 0 rfl rfl)
theorem dX10_fright_1 : decode cX10_fright 1 = .ok (.invokespecial 17, 3) := dk_183 0 17 (dk_at dksX10_fright_0 1 rfl rfl)
theorem dX10_fright_4 : decode cX10_fright 4 = .ok (.aload_n 0, 1) := dk_42 (dk_at dksX10_fright_0 4 rfl rfl)
theorem dX10_fright_5 : decode cX10_fright 5 = .ok (.getfield 20, 3) := dk_180 0 20 (dk_at dksX10_fright_0 5 rfl rfl)
theorem dX10_fright_8 : decode cX10_fright 8 = .ok (.iconst 2, 1) := dk_5 (dk_at dksX10_fright_0 8 rfl rfl)
theorem dX10_fright_9 : decode cX10_fright 9 = .ok (.idiv, 1) := dk_108 (dk_at dksX10_fright_0 9 rfl rfl)
theorem dX10_fright_10 : decode cX10_fright 10 = .ok (.iadd, 1) := dk_96 (dk_at dksX10_fright_0 10 rfl rfl)
theorem dX10_fright_11 : decode cX10_fright 11 = .ok (.ireturn, 1) := dk_172 (dk_at dksX10_fright_0 11 rfl rfl)
abbrev cX10_bears : ByteArray := prog_15_method_6_code
def yX10_bears : MethodName := ⟨RX10, "bears", "()I"⟩
def dkwX10_bears_0 : List UInt8 := [42, 183, 0, 26, 4, 100, 172]
abbrev dktX10_bears_0 : List UInt8 := dkwX10_bears_0 ++ []
theorem dksX10_bears_0 : cX10_bears.data.toList.drop 0 = dktX10_bears_0 := by decide +kernel
theorem dX10_bears_0 : decode cX10_bears 0 = .ok (.aload_n 0, 1) := dk_42 (dk_at dksX10_bears_0 0 rfl rfl)
theorem dX10_bears_1 : decode cX10_bears 1 = .ok (.invokespecial 26, 3) := dk_183 0 26 (dk_at dksX10_bears_0 1 rfl rfl)
theorem dX10_bears_4 : decode cX10_bears 4 = .ok (.iconst 1, 1) := dk_4 (dk_at dksX10_bears_0 4 rfl rfl)
theorem dX10_bears_5 : decode cX10_bears 5 = .ok (.isub, 1) := dk_100 (dk_at dksX10_bears_0 5 rfl rfl)
theorem dX10_bears_6 : decode cX10_bears 6 = .ok (.ireturn, 1) := dk_172 (dk_at dksX10_bears_0 6 rfl rfl)
abbrev cX10_kind : ByteArray := prog_15_method_2_code
def yX10_kind : MethodName := ⟨RX10, "kind", "()I"⟩
theorem dX10_kind_0 : decode cX10_kind 0 = .ok (.iconst 2, 1) := by decide +kernel
theorem dX10_kind_1 : decode cX10_kind 1 = .ok (.ireturn, 1) := by decide +kernel
abbrev cX10_cost : ByteArray := prog_15_method_8_code
def yX10_cost : MethodName := ⟨RX10, "cost", "()I"⟩
def dkwX10_cost_0 : List UInt8 := [42, 183, 0, 29, 5, 100, 172]
abbrev dktX10_cost_0 : List UInt8 := dkwX10_cost_0 ++ []
theorem dksX10_cost_0 : cX10_cost.data.toList.drop 0 = dktX10_cost_0 := by decide +kernel
theorem dX10_cost_0 : decode cX10_cost 0 = .ok (.aload_n 0, 1) := dk_42 (dk_at dksX10_cost_0 0 rfl rfl)
theorem dX10_cost_1 : decode cX10_cost 1 = .ok (.invokespecial 29, 3) := dk_183 0 29 (dk_at dksX10_cost_0 1 rfl rfl)
theorem dX10_cost_4 : decode cX10_cost 4 = .ok (.iconst 2, 1) := dk_5 (dk_at dksX10_cost_0 4 rfl rfl)
theorem dX10_cost_5 : decode cX10_cost 5 = .ok (.isub, 1) := dk_100 (dk_at dksX10_cost_0 5 rfl rfl)
theorem dX10_cost_6 : decode cX10_cost 6 = .ok (.ireturn, 1) := dk_172 (dk_at dksX10_cost_0 6 rfl rfl)
abbrev cX10_failure : ByteArray := prog_15_method_9_code
def yX10_failure : MethodName := ⟨RX10, "failure", "()LHandUnderTheChin$Tossed;"⟩
theorem dX10_failure_0 : decode cX10_failure 0 = .ok (.aconst_null, 1) := by decide +kernel
theorem dX10_failure_1 : decode cX10_failure 1 = .ok (.areturn, 1) := by decide +kernel
theorem q94 : (Jvm.Cond.initialized "HandUnderTheChin$Shy") ∈ lw_all := lw_g (lw_at lw_m1 16 rfl) rfl
theorem q341 : (Jvm.Cond.fieldLink "HandUnderTheChin$Shy" (20 : Nat) "HandUnderTheChin$Shy" "figure" "I") ∈ lw_all := lw_g (lw_at lw_m2 23 rfl) rfl
theorem q342 : (Jvm.Cond.sameField "HandUnderTheChin$Shy" "HandUnderTheChin$Child" "figure" "I") ∈ lw_all := lw_g (lw_at lw_m2 24 rfl) rfl
theorem q358 : (Jvm.Cond.instantiable "HandUnderTheChin$Shy" (1 : Nat)) ∈ lw_all := lw_g (lw_at lw_m2 40 rfl) rfl
theorem q360 : (Jvm.Cond.instanceMethod ({ cls := "HandUnderTheChin$Shy", name := "<init>", desc := "(I)V" } : Jvm.MethodName)) ∈ lw_all := lw_g (lw_at lw_m2 42 rfl) rfl
theorem q361 : (Jvm.Cond.code ({ cls := "HandUnderTheChin$Shy", name := "<init>", desc := "(I)V" } : Jvm.MethodName) prog_15_method_1_code (2 : Nat) (Option.none : Option Jvm.ClassFile.FieldType)) ∈ lw_all := lw_g (lw_at lw_m2 43 rfl) rfl
theorem q362 : (Jvm.Cond.methodLink "HandUnderTheChin$Shy" (3 : Nat) ({ cls := "HandUnderTheChin$Child", name := "<init>", desc := "(I)V" } : Jvm.MethodName)) ∈ lw_all := lw_g (lw_at lw_m2 44 rfl) rfl
theorem q363 : (Jvm.Cond.laysFinal "HandUnderTheChin$Shy" "HandUnderTheChin$Child" "figure" "I") ∈ lw_all := lw_g (lw_at lw_m2 45 rfl) rfl
theorem q364 : (Jvm.Cond.superclass "HandUnderTheChin$Shy" "HandUnderTheChin$Child") ∈ lw_all := lw_g (lw_at lw_m2 46 rfl) rfl
theorem q436 : (Jvm.Cond.instanceMethod ({ cls := "HandUnderTheChin$Shy", name := "holds", desc := "()I" } : Jvm.MethodName)) ∈ lw_all := lw_g (lw_at lw_m2 118 rfl) rfl
theorem q437 : (Jvm.Cond.code ({ cls := "HandUnderTheChin$Shy", name := "holds", desc := "()I" } : Jvm.MethodName) prog_15_method_3_code (1 : Nat) (Option.some Jvm.ClassFile.FieldType.int)) ∈ lw_all := lw_g (lw_at lw_m2 119 rfl) rfl
theorem q441 : (Jvm.Cond.selects "HandUnderTheChin$Shy" ({ cls := "HandUnderTheChin$Trusts", name := "holds", desc := "()I" } : Jvm.MethodName) ({ cls := "HandUnderTheChin$Shy", name := "holds", desc := "()I" } : Jvm.MethodName)) ∈ lw_all := lw_g (lw_at lw_m2 123 rfl) rfl
theorem q478 : (Jvm.Cond.instanceMethod ({ cls := "HandUnderTheChin$Shy", name := "needs", desc := "(I)I" } : Jvm.MethodName)) ∈ lw_all := lw_g (lw_at lw_m2 160 rfl) rfl
theorem q479 : (Jvm.Cond.code ({ cls := "HandUnderTheChin$Shy", name := "needs", desc := "(I)I" } : Jvm.MethodName) prog_15_method_4_code (2 : Nat) (Option.some Jvm.ClassFile.FieldType.int)) ∈ lw_all := lw_g (lw_at lw_m2 161 rfl) rfl
theorem q480 : (Jvm.Cond.methodLink "HandUnderTheChin$Shy" (13 : Nat) ({ cls := "HandUnderTheChin$Child", name := "needs", desc := "(I)I" } : Jvm.MethodName)) ∈ lw_all := lw_g (lw_at lw_m2 162 rfl) rfl
theorem q487 : (Jvm.Cond.selects "HandUnderTheChin$Shy" ({ cls := "HandUnderTheChin$Child", name := "needs", desc := "(I)I" } : Jvm.MethodName) ({ cls := "HandUnderTheChin$Shy", name := "needs", desc := "(I)I" } : Jvm.MethodName)) ∈ lw_all := lw_g (lw_at lw_m2 169 rfl) rfl
theorem q500 : (Jvm.Cond.instanceMethod ({ cls := "HandUnderTheChin$Shy", name := "passes", desc := "()I" } : Jvm.MethodName)) ∈ lw_all := lw_g (lw_at lw_m2 182 rfl) rfl
theorem q501 : (Jvm.Cond.code ({ cls := "HandUnderTheChin$Shy", name := "passes", desc := "()I" } : Jvm.MethodName) prog_15_method_7_code (1 : Nat) (Option.some Jvm.ClassFile.FieldType.int)) ∈ lw_all := lw_g (lw_at lw_m2 183 rfl) rfl
theorem q511 : (Jvm.Cond.selects "HandUnderTheChin$Shy" ({ cls := "HandUnderTheChin$Passes", name := "passes", desc := "()I" } : Jvm.MethodName) ({ cls := "HandUnderTheChin$Shy", name := "passes", desc := "()I" } : Jvm.MethodName)) ∈ lw_all := lw_g (lw_at lw_m2 193 rfl) rfl
theorem q534 : (Jvm.Cond.instanceMethod ({ cls := "HandUnderTheChin$Shy", name := "fright", desc := "()I" } : Jvm.MethodName)) ∈ lw_all := lw_g (lw_at lw_m2 216 rfl) rfl
theorem q535 : (Jvm.Cond.code ({ cls := "HandUnderTheChin$Shy", name := "fright", desc := "()I" } : Jvm.MethodName) prog_15_method_5_code (1 : Nat) (Option.some Jvm.ClassFile.FieldType.int)) ∈ lw_all := lw_g (lw_at lw_m2 217 rfl) rfl
theorem q541 : (Jvm.Cond.selects "HandUnderTheChin$Shy" ({ cls := "HandUnderTheChin$Fears", name := "fright", desc := "()I" } : Jvm.MethodName) ({ cls := "HandUnderTheChin$Shy", name := "fright", desc := "()I" } : Jvm.MethodName)) ∈ lw_all := lw_g (lw_at lw_m2 223 rfl) rfl
theorem q565 : (Jvm.Cond.instanceMethod ({ cls := "HandUnderTheChin$Shy", name := "bears", desc := "()I" } : Jvm.MethodName)) ∈ lw_all := lw_g (lw_at lw_m3 7 rfl) rfl
theorem q566 : (Jvm.Cond.code ({ cls := "HandUnderTheChin$Shy", name := "bears", desc := "()I" } : Jvm.MethodName) prog_15_method_6_code (1 : Nat) (Option.some Jvm.ClassFile.FieldType.int)) ∈ lw_all := lw_g (lw_at lw_m3 8 rfl) rfl
theorem q572 : (Jvm.Cond.selects "HandUnderTheChin$Shy" ({ cls := "HandUnderTheChin$Fears", name := "bears", desc := "()I" } : Jvm.MethodName) ({ cls := "HandUnderTheChin$Shy", name := "bears", desc := "()I" } : Jvm.MethodName)) ∈ lw_all := lw_g (lw_at lw_m3 14 rfl) rfl
theorem q615 : (Jvm.Cond.selects "HandUnderTheChin$Shy" ({ cls := "HandUnderTheChin$Child", name := "kind", desc := "()I" } : Jvm.MethodName) ({ cls := "HandUnderTheChin$Shy", name := "kind", desc := "()I" } : Jvm.MethodName)) ∈ lw_all := lw_g (lw_at lw_m3 57 rfl) rfl
theorem q616 : (Jvm.Cond.instanceMethod ({ cls := "HandUnderTheChin$Shy", name := "kind", desc := "()I" } : Jvm.MethodName)) ∈ lw_all := lw_g (lw_at lw_m3 58 rfl) rfl
theorem q617 : (Jvm.Cond.code ({ cls := "HandUnderTheChin$Shy", name := "kind", desc := "()I" } : Jvm.MethodName) prog_15_method_2_code (1 : Nat) (Option.some Jvm.ClassFile.FieldType.int)) ∈ lw_all := lw_g (lw_at lw_m3 59 rfl) rfl
theorem q1045 : (Jvm.Cond.instanceMethod ({ cls := "HandUnderTheChin$Shy", name := "cost", desc := "()I" } : Jvm.MethodName)) ∈ lw_all := lw_g (lw_at lw_m5 7 rfl) rfl
theorem q1046 : (Jvm.Cond.code ({ cls := "HandUnderTheChin$Shy", name := "cost", desc := "()I" } : Jvm.MethodName) prog_15_method_8_code (1 : Nat) (Option.some Jvm.ClassFile.FieldType.int)) ∈ lw_all := lw_g (lw_at lw_m5 8 rfl) rfl
theorem q1047 : (Jvm.Cond.methodLink "HandUnderTheChin$Shy" (29 : Nat) ({ cls := "HandUnderTheChin$Child", name := "cost", desc := "()I" } : Jvm.MethodName)) ∈ lw_all := lw_g (lw_at lw_m5 9 rfl) rfl
theorem q1060 : (Jvm.Cond.selects "HandUnderTheChin$Shy" ({ cls := "HandUnderTheChin$Child", name := "cost", desc := "()I" } : Jvm.MethodName) ({ cls := "HandUnderTheChin$Shy", name := "cost", desc := "()I" } : Jvm.MethodName)) ∈ lw_all := lw_g (lw_at lw_m5 22 rfl) rfl
theorem q1102 : (Jvm.Cond.instanceMethod ({ cls := "HandUnderTheChin$Shy", name := "failure", desc := "()LHandUnderTheChin$Tossed;" } : Jvm.MethodName)) ∈ lw_all := lw_g (lw_at lw_m5 64 rfl) rfl
theorem q1103 : (Jvm.Cond.code ({ cls := "HandUnderTheChin$Shy", name := "failure", desc := "()LHandUnderTheChin$Tossed;" } : Jvm.MethodName) prog_15_method_9_code (1 : Nat) (Option.some (Jvm.ClassFile.FieldType.object "HandUnderTheChin$Tossed"))) ∈ lw_all := lw_g (lw_at lw_m5 65 rfl) rfl
theorem q1113 : (Jvm.Cond.selects "HandUnderTheChin$Shy" ({ cls := "HandUnderTheChin$Child", name := "failure", desc := "()LHandUnderTheChin$Tossed;" } : Jvm.MethodName) ({ cls := "HandUnderTheChin$Shy", name := "failure", desc := "()LHandUnderTheChin$Tossed;" } : Jvm.MethodName)) ∈ lw_all := lw_g (lw_at lw_m5 75 rfl) rfl
theorem q1664 : (Jvm.Cond.sameMethod "HandUnderTheChin$Shy" "HandUnderTheChin$Shy" "holds" "()I") ∈ lw_all := lw_g (lw_at lw_m7 146 rfl) rfl
theorem q1665 : (Jvm.Cond.sameMethod "HandUnderTheChin$Shy" "HandUnderTheChin$Shy" "needs" "(I)I") ∈ lw_all := lw_g (lw_at lw_m7 147 rfl) rfl
theorem q1667 : (Jvm.Cond.sameMethod "HandUnderTheChin$Shy" "HandUnderTheChin$Shy" "fright" "()I") ∈ lw_all := lw_g (lw_at lw_m7 149 rfl) rfl
theorem q1668 : (Jvm.Cond.sameMethod "HandUnderTheChin$Shy" "HandUnderTheChin$Shy" "cost" "()I") ∈ lw_all := lw_g (lw_at lw_m7 150 rfl) rfl
theorem q1681 : (Jvm.Cond.castable "HandUnderTheChin$Shy" "HandUnderTheChin$Child") ∈ lw_tbl := lw_at lw_m7 163 rfl
theorem in_X10 : ∀ w ∈ wsX100, w ∈ lw_all := lw_in wsX100 [363] (by decide +kernel) (by decide +kernel)
/-! HandUnderTheChin$Twin -/
set_option maxRecDepth 100000
def RX11 : String := "HandUnderTheChin$Twin"
def TX11 : u_T := fun k => match k with
  | _ => ("HandUnderTheChin$Child", "figure", "I", true)
def tyX11 : Nat → FieldType := fun k => match k with
  | _ => .int
abbrev wsX110 : List Cond := u_ws RX11 TX11 1
theorem nmX11 : ∀ a, a < 1 → ∀ b, b < 1 → a ≠ b → (TX11 a).2.1 ≠ (TX11 b).2.1 := by decide +kernel
theorem tyX11_ok : ∀ k, k < 1 → parseFieldDescriptor (TX11 k).2.2.1 = some (tyX11 k) := by decide +kernel
abbrev cX11_init : ByteArray := prog_19_method_1_code
def yX11_init : MethodName := ⟨RX11, "<init>", "(I)V"⟩
def dkwX11_init_0 : List UInt8 := [42, 27, 183, 0, 3, 177]
abbrev dktX11_init_0 : List UInt8 := dkwX11_init_0 ++ []
theorem dksX11_init_0 : cX11_init.data.toList.drop 0 = dktX11_init_0 := by decide +kernel
theorem dX11_init_0 : decode cX11_init 0 = .ok (.aload_n 0, 1) := dk_42 (dk_at dksX11_init_0 0 rfl rfl)
theorem dX11_init_1 : decode cX11_init 1 = .ok (.iload_n 1, 1) := dk_27 (dk_at dksX11_init_0 1 rfl rfl)
theorem dX11_init_2 : decode cX11_init 2 = .ok (.invokespecial 3, 3) := dk_183 0 3 (dk_at dksX11_init_0 2 rfl rfl)
theorem dX11_init_5 : decode cX11_init 5 = .ok (.return_, 1) := dk_177 (dk_at dksX11_init_0 5 rfl rfl)
abbrev cX11_holds : ByteArray := prog_19_method_3_code
def yX11_holds : MethodName := ⟨RX11, "holds", "()I"⟩
theorem dX11_holds_0 : decode cX11_holds 0 = .ok (.iconst 3, 1) := by decide +kernel
theorem dX11_holds_1 : decode cX11_holds 1 = .ok (.ireturn, 1) := by decide +kernel
abbrev cX11_needs : ByteArray := prog_19_method_4_code
def yX11_needs : MethodName := ⟨RX11, "needs", "(I)I"⟩
def dkwX11_needs_0 : List UInt8 := [42, 27, 183, 0, 9, 42, 180, 0, 13, 7, 108, 96, 172]
abbrev dktX11_needs_0 : List UInt8 := dkwX11_needs_0 ++ []
theorem dksX11_needs_0 : cX11_needs.data.toList.drop 0 = dktX11_needs_0 := by decide +kernel
theorem dX11_needs_0 : decode cX11_needs 0 = .ok (.aload_n 0, 1) := dk_42 (dk_at dksX11_needs_0 0 rfl rfl)
theorem dX11_needs_1 : decode cX11_needs 1 = .ok (.iload_n 1, 1) := dk_27 (dk_at dksX11_needs_0 1 rfl rfl)
theorem dX11_needs_2 : decode cX11_needs 2 = .ok (.invokespecial 9, 3) := dk_183 0 9 (dk_at dksX11_needs_0 2 rfl rfl)
theorem dX11_needs_5 : decode cX11_needs 5 = .ok (.aload_n 0, 1) := dk_42 (dk_at dksX11_needs_0 5 rfl rfl)
theorem dX11_needs_6 : decode cX11_needs 6 = .ok (.getfield 13, 3) := dk_180 0 13 (dk_at dksX11_needs_0 6 rfl rfl)
theorem dX11_needs_9 : decode cX11_needs 9 = .ok (.iconst 4, 1) := dk_7 (dk_at dksX11_needs_0 9 rfl rfl)
theorem dX11_needs_10 : decode cX11_needs 10 = .ok (.idiv, 1) := dk_108 (dk_at dksX11_needs_0 10 rfl rfl)
theorem dX11_needs_11 : decode cX11_needs 11 = .ok (.iadd, 1) := dk_96 (dk_at dksX11_needs_0 11 rfl rfl)
theorem dX11_needs_12 : decode cX11_needs 12 = .ok (.ireturn, 1) := dk_172 (dk_at dksX11_needs_0 12 rfl rfl)
abbrev cX11_kind : ByteArray := prog_19_method_2_code
def yX11_kind : MethodName := ⟨RX11, "kind", "()I"⟩
theorem dX11_kind_0 : decode cX11_kind 0 = .ok (.iconst 3, 1) := by decide +kernel
theorem dX11_kind_1 : decode cX11_kind 1 = .ok (.ireturn, 1) := by decide +kernel
abbrev cX11_cost : ByteArray := prog_19_method_5_code
def yX11_cost : MethodName := ⟨RX11, "cost", "()I"⟩
def dkwX11_cost_0 : List UInt8 := [5, 42, 183, 0, 19, 104, 172]
abbrev dktX11_cost_0 : List UInt8 := dkwX11_cost_0 ++ []
theorem dksX11_cost_0 : cX11_cost.data.toList.drop 0 = dktX11_cost_0 := by decide +kernel
theorem dX11_cost_0 : decode cX11_cost 0 = .ok (.iconst 2, 1) := dk_5 (dk_at dksX11_cost_0 0 rfl rfl)
theorem dX11_cost_1 : decode cX11_cost 1 = .ok (.aload_n 0, 1) := dk_42 (dk_at dksX11_cost_0 1 rfl rfl)
theorem dX11_cost_2 : decode cX11_cost 2 = .ok (.invokespecial 19, 3) := dk_183 0 19 (dk_at dksX11_cost_0 2 rfl rfl)
theorem dX11_cost_5 : decode cX11_cost 5 = .ok (.imul, 1) := dk_104 (dk_at dksX11_cost_0 5 rfl rfl)
theorem dX11_cost_6 : decode cX11_cost 6 = .ok (.ireturn, 1) := dk_172 (dk_at dksX11_cost_0 6 rfl rfl)
abbrev cX11_failure : ByteArray := prog_19_method_6_code
def yX11_failure : MethodName := ⟨RX11, "failure", "()LHandUnderTheChin$Tossed;"⟩
theorem dX11_failure_0 : decode cX11_failure 0 = .ok (.aconst_null, 1) := by decide +kernel
theorem dX11_failure_1 : decode cX11_failure 1 = .ok (.areturn, 1) := by decide +kernel
theorem q95 : (Jvm.Cond.initialized "HandUnderTheChin$Twin") ∈ lw_all := lw_g (lw_at lw_m1 17 rfl) rfl
theorem q339 : (Jvm.Cond.fieldLink "HandUnderTheChin$Twin" (13 : Nat) "HandUnderTheChin$Twin" "figure" "I") ∈ lw_all := lw_g (lw_at lw_m2 21 rfl) rfl
theorem q340 : (Jvm.Cond.sameField "HandUnderTheChin$Twin" "HandUnderTheChin$Child" "figure" "I") ∈ lw_all := lw_g (lw_at lw_m2 22 rfl) rfl
theorem q366 : (Jvm.Cond.instantiable "HandUnderTheChin$Twin" (1 : Nat)) ∈ lw_all := lw_g (lw_at lw_m2 48 rfl) rfl
theorem q368 : (Jvm.Cond.instanceMethod ({ cls := "HandUnderTheChin$Twin", name := "<init>", desc := "(I)V" } : Jvm.MethodName)) ∈ lw_all := lw_g (lw_at lw_m2 50 rfl) rfl
theorem q369 : (Jvm.Cond.code ({ cls := "HandUnderTheChin$Twin", name := "<init>", desc := "(I)V" } : Jvm.MethodName) prog_19_method_1_code (2 : Nat) (Option.none : Option Jvm.ClassFile.FieldType)) ∈ lw_all := lw_g (lw_at lw_m2 51 rfl) rfl
theorem q370 : (Jvm.Cond.methodLink "HandUnderTheChin$Twin" (3 : Nat) ({ cls := "HandUnderTheChin$Child", name := "<init>", desc := "(I)V" } : Jvm.MethodName)) ∈ lw_all := lw_g (lw_at lw_m2 52 rfl) rfl
theorem q371 : (Jvm.Cond.laysFinal "HandUnderTheChin$Twin" "HandUnderTheChin$Child" "figure" "I") ∈ lw_all := lw_g (lw_at lw_m2 53 rfl) rfl
theorem q372 : (Jvm.Cond.superclass "HandUnderTheChin$Twin" "HandUnderTheChin$Child") ∈ lw_all := lw_g (lw_at lw_m2 54 rfl) rfl
theorem q442 : (Jvm.Cond.selects "HandUnderTheChin$Twin" ({ cls := "HandUnderTheChin$Trusts", name := "holds", desc := "()I" } : Jvm.MethodName) ({ cls := "HandUnderTheChin$Twin", name := "holds", desc := "()I" } : Jvm.MethodName)) ∈ lw_all := lw_g (lw_at lw_m2 124 rfl) rfl
theorem q443 : (Jvm.Cond.instanceMethod ({ cls := "HandUnderTheChin$Twin", name := "holds", desc := "()I" } : Jvm.MethodName)) ∈ lw_all := lw_g (lw_at lw_m2 125 rfl) rfl
theorem q444 : (Jvm.Cond.code ({ cls := "HandUnderTheChin$Twin", name := "holds", desc := "()I" } : Jvm.MethodName) prog_19_method_3_code (1 : Nat) (Option.some Jvm.ClassFile.FieldType.int)) ∈ lw_all := lw_g (lw_at lw_m2 126 rfl) rfl
theorem q488 : (Jvm.Cond.selects "HandUnderTheChin$Twin" ({ cls := "HandUnderTheChin$Child", name := "needs", desc := "(I)I" } : Jvm.MethodName) ({ cls := "HandUnderTheChin$Twin", name := "needs", desc := "(I)I" } : Jvm.MethodName)) ∈ lw_all := lw_g (lw_at lw_m2 170 rfl) rfl
theorem q489 : (Jvm.Cond.instanceMethod ({ cls := "HandUnderTheChin$Twin", name := "needs", desc := "(I)I" } : Jvm.MethodName)) ∈ lw_all := lw_g (lw_at lw_m2 171 rfl) rfl
theorem q490 : (Jvm.Cond.code ({ cls := "HandUnderTheChin$Twin", name := "needs", desc := "(I)I" } : Jvm.MethodName) prog_19_method_4_code (2 : Nat) (Option.some Jvm.ClassFile.FieldType.int)) ∈ lw_all := lw_g (lw_at lw_m2 172 rfl) rfl
theorem q491 : (Jvm.Cond.methodLink "HandUnderTheChin$Twin" (9 : Nat) ({ cls := "HandUnderTheChin$Child", name := "needs", desc := "(I)I" } : Jvm.MethodName)) ∈ lw_all := lw_g (lw_at lw_m2 173 rfl) rfl
theorem q512 : (Jvm.Cond.unhidden "HandUnderTheChin$Twin" "passes" "()I") ∈ lw_tbl := lw_at lw_m2 194 rfl
theorem q542 : (Jvm.Cond.unhidden "HandUnderTheChin$Twin" "fright" "()I") ∈ lw_tbl := lw_at lw_m2 224 rfl
theorem q573 : (Jvm.Cond.unhidden "HandUnderTheChin$Twin" "bears" "()I") ∈ lw_tbl := lw_at lw_m3 15 rfl
theorem q618 : (Jvm.Cond.selects "HandUnderTheChin$Twin" ({ cls := "HandUnderTheChin$Child", name := "kind", desc := "()I" } : Jvm.MethodName) ({ cls := "HandUnderTheChin$Twin", name := "kind", desc := "()I" } : Jvm.MethodName)) ∈ lw_all := lw_g (lw_at lw_m3 60 rfl) rfl
theorem q619 : (Jvm.Cond.instanceMethod ({ cls := "HandUnderTheChin$Twin", name := "kind", desc := "()I" } : Jvm.MethodName)) ∈ lw_all := lw_g (lw_at lw_m3 61 rfl) rfl
theorem q620 : (Jvm.Cond.code ({ cls := "HandUnderTheChin$Twin", name := "kind", desc := "()I" } : Jvm.MethodName) prog_19_method_2_code (1 : Nat) (Option.some Jvm.ClassFile.FieldType.int)) ∈ lw_all := lw_g (lw_at lw_m3 62 rfl) rfl
theorem q1061 : (Jvm.Cond.selects "HandUnderTheChin$Twin" ({ cls := "HandUnderTheChin$Child", name := "cost", desc := "()I" } : Jvm.MethodName) ({ cls := "HandUnderTheChin$Twin", name := "cost", desc := "()I" } : Jvm.MethodName)) ∈ lw_all := lw_g (lw_at lw_m5 23 rfl) rfl
theorem q1062 : (Jvm.Cond.instanceMethod ({ cls := "HandUnderTheChin$Twin", name := "cost", desc := "()I" } : Jvm.MethodName)) ∈ lw_all := lw_g (lw_at lw_m5 24 rfl) rfl
theorem q1063 : (Jvm.Cond.code ({ cls := "HandUnderTheChin$Twin", name := "cost", desc := "()I" } : Jvm.MethodName) prog_19_method_5_code (1 : Nat) (Option.some Jvm.ClassFile.FieldType.int)) ∈ lw_all := lw_g (lw_at lw_m5 25 rfl) rfl
theorem q1064 : (Jvm.Cond.methodLink "HandUnderTheChin$Twin" (19 : Nat) ({ cls := "HandUnderTheChin$Child", name := "cost", desc := "()I" } : Jvm.MethodName)) ∈ lw_all := lw_g (lw_at lw_m5 26 rfl) rfl
theorem q1114 : (Jvm.Cond.selects "HandUnderTheChin$Twin" ({ cls := "HandUnderTheChin$Child", name := "failure", desc := "()LHandUnderTheChin$Tossed;" } : Jvm.MethodName) ({ cls := "HandUnderTheChin$Twin", name := "failure", desc := "()LHandUnderTheChin$Tossed;" } : Jvm.MethodName)) ∈ lw_all := lw_g (lw_at lw_m5 76 rfl) rfl
theorem q1115 : (Jvm.Cond.instanceMethod ({ cls := "HandUnderTheChin$Twin", name := "failure", desc := "()LHandUnderTheChin$Tossed;" } : Jvm.MethodName)) ∈ lw_all := lw_g (lw_at lw_m5 77 rfl) rfl
theorem q1116 : (Jvm.Cond.code ({ cls := "HandUnderTheChin$Twin", name := "failure", desc := "()LHandUnderTheChin$Tossed;" } : Jvm.MethodName) prog_19_method_6_code (1 : Nat) (Option.some (Jvm.ClassFile.FieldType.object "HandUnderTheChin$Tossed"))) ∈ lw_all := lw_g (lw_at lw_m5 78 rfl) rfl
theorem q1682 : (Jvm.Cond.castable "HandUnderTheChin$Twin" "HandUnderTheChin$Child") ∈ lw_tbl := lw_at lw_m7 164 rfl
theorem in_X11 : ∀ w ∈ wsX110, w ∈ lw_all := lw_in wsX110 [371] (by decide +kernel) (by decide +kernel)
/-! HandUnderTheChin$Pusher -/
set_option maxRecDepth 100000
def RX12 : String := "HandUnderTheChin$Pusher"
def TX12 : u_T := fun k => match k with
  | _ => ("HandUnderTheChin$Child", "figure", "I", true)
def tyX12 : Nat → FieldType := fun k => match k with
  | _ => .int
abbrev wsX120 : List Cond := u_ws RX12 TX12 1
theorem nmX12 : ∀ a, a < 1 → ∀ b, b < 1 → a ≠ b → (TX12 a).2.1 ≠ (TX12 b).2.1 := by decide +kernel
theorem tyX12_ok : ∀ k, k < 1 → parseFieldDescriptor (TX12 k).2.2.1 = some (tyX12 k) := by decide +kernel
abbrev cX12_init : ByteArray := prog_13_method_1_code
def yX12_init : MethodName := ⟨RX12, "<init>", "(I)V"⟩
def dkwX12_init_0 : List UInt8 := [42, 27, 183, 0, 3, 177]
abbrev dktX12_init_0 : List UInt8 := dkwX12_init_0 ++ []
theorem dksX12_init_0 : cX12_init.data.toList.drop 0 = dktX12_init_0 := by decide +kernel
theorem dX12_init_0 : decode cX12_init 0 = .ok (.aload_n 0, 1) := dk_42 (dk_at dksX12_init_0 0 rfl rfl)
theorem dX12_init_1 : decode cX12_init 1 = .ok (.iload_n 1, 1) := dk_27 (dk_at dksX12_init_0 1 rfl rfl)
theorem dX12_init_2 : decode cX12_init 2 = .ok (.invokespecial 3, 3) := dk_183 0 3 (dk_at dksX12_init_0 2 rfl rfl)
theorem dX12_init_5 : decode cX12_init 5 = .ok (.return_, 1) := dk_177 (dk_at dksX12_init_0 5 rfl rfl)
abbrev cX12_passes : ByteArray := prog_13_method_4_code
def yX12_passes : MethodName := ⟨RX12, "passes", "()I"⟩
def dkwX12_passes_0 : List UInt8 := [42, 183, 0, 9, 4, 96, 172]
abbrev dktX12_passes_0 : List UInt8 := dkwX12_passes_0 ++ []
theorem dksX12_passes_0 : cX12_passes.data.toList.drop 0 = dktX12_passes_0 := by decide +kernel
theorem dX12_passes_0 : decode cX12_passes 0 = .ok (.aload_n 0, 1) := dk_42 (dk_at dksX12_passes_0 0 rfl rfl)
theorem dX12_passes_1 : decode cX12_passes 1 = .ok (.invokespecial 9, 3) := dk_183 0 9 (dk_at dksX12_passes_0 1 rfl rfl)
theorem dX12_passes_4 : decode cX12_passes 4 = .ok (.iconst 1, 1) := dk_4 (dk_at dksX12_passes_0 4 rfl rfl)
theorem dX12_passes_5 : decode cX12_passes 5 = .ok (.iadd, 1) := dk_96 (dk_at dksX12_passes_0 5 rfl rfl)
theorem dX12_passes_6 : decode cX12_passes 6 = .ok (.ireturn, 1) := dk_172 (dk_at dksX12_passes_0 6 rfl rfl)
abbrev cX12_fright : ByteArray := prog_13_method_3_code
def yX12_fright : MethodName := ⟨RX12, "fright", "()I"⟩
theorem dX12_fright_0 : decode cX12_fright 0 = .ok (.iconst 0, 1) := by decide +kernel
theorem dX12_fright_1 : decode cX12_fright 1 = .ok (.ireturn, 1) := by decide +kernel
abbrev cX12_kind : ByteArray := prog_13_method_2_code
def yX12_kind : MethodName := ⟨RX12, "kind", "()I"⟩
theorem dX12_kind_0 : decode cX12_kind 0 = .ok (.iconst 4, 1) := by decide +kernel
theorem dX12_kind_1 : decode cX12_kind 1 = .ok (.ireturn, 1) := by decide +kernel
abbrev cX12_cost : ByteArray := prog_13_method_5_code
def yX12_cost : MethodName := ⟨RX12, "cost", "()I"⟩
def dkwX12_cost_0 : List UInt8 := [42, 183, 0, 13, 4, 100, 172]
abbrev dktX12_cost_0 : List UInt8 := dkwX12_cost_0 ++ []
theorem dksX12_cost_0 : cX12_cost.data.toList.drop 0 = dktX12_cost_0 := by decide +kernel
theorem dX12_cost_0 : decode cX12_cost 0 = .ok (.aload_n 0, 1) := dk_42 (dk_at dksX12_cost_0 0 rfl rfl)
theorem dX12_cost_1 : decode cX12_cost 1 = .ok (.invokespecial 13, 3) := dk_183 0 13 (dk_at dksX12_cost_0 1 rfl rfl)
theorem dX12_cost_4 : decode cX12_cost 4 = .ok (.iconst 1, 1) := dk_4 (dk_at dksX12_cost_0 4 rfl rfl)
theorem dX12_cost_5 : decode cX12_cost 5 = .ok (.isub, 1) := dk_100 (dk_at dksX12_cost_0 5 rfl rfl)
theorem dX12_cost_6 : decode cX12_cost 6 = .ok (.ireturn, 1) := dk_172 (dk_at dksX12_cost_0 6 rfl rfl)
theorem q96 : (Jvm.Cond.initialized "HandUnderTheChin$Pusher") ∈ lw_all := lw_g (lw_at lw_m1 18 rfl) rfl
theorem q374 : (Jvm.Cond.instantiable "HandUnderTheChin$Pusher" (1 : Nat)) ∈ lw_all := lw_g (lw_at lw_m2 56 rfl) rfl
theorem q376 : (Jvm.Cond.instanceMethod ({ cls := "HandUnderTheChin$Pusher", name := "<init>", desc := "(I)V" } : Jvm.MethodName)) ∈ lw_all := lw_g (lw_at lw_m2 58 rfl) rfl
theorem q377 : (Jvm.Cond.code ({ cls := "HandUnderTheChin$Pusher", name := "<init>", desc := "(I)V" } : Jvm.MethodName) prog_13_method_1_code (2 : Nat) (Option.none : Option Jvm.ClassFile.FieldType)) ∈ lw_all := lw_g (lw_at lw_m2 59 rfl) rfl
theorem q378 : (Jvm.Cond.methodLink "HandUnderTheChin$Pusher" (3 : Nat) ({ cls := "HandUnderTheChin$Bold", name := "<init>", desc := "(I)V" } : Jvm.MethodName)) ∈ lw_all := lw_g (lw_at lw_m2 60 rfl) rfl
theorem q379 : (Jvm.Cond.laysFinal "HandUnderTheChin$Pusher" "HandUnderTheChin$Child" "figure" "I") ∈ lw_all := lw_g (lw_at lw_m2 61 rfl) rfl
theorem q380 : (Jvm.Cond.superclass "HandUnderTheChin$Pusher" "HandUnderTheChin$Bold") ∈ lw_all := lw_g (lw_at lw_m2 62 rfl) rfl
theorem q440 : (Jvm.Cond.selects "HandUnderTheChin$Pusher" ({ cls := "HandUnderTheChin$Trusts", name := "holds", desc := "()I" } : Jvm.MethodName) ({ cls := "HandUnderTheChin$Bold", name := "holds", desc := "()I" } : Jvm.MethodName)) ∈ lw_all := lw_g (lw_at lw_m2 122 rfl) rfl
theorem q486 : (Jvm.Cond.selects "HandUnderTheChin$Pusher" ({ cls := "HandUnderTheChin$Child", name := "needs", desc := "(I)I" } : Jvm.MethodName) ({ cls := "HandUnderTheChin$Bold", name := "needs", desc := "(I)I" } : Jvm.MethodName)) ∈ lw_all := lw_g (lw_at lw_m2 168 rfl) rfl
theorem q508 : (Jvm.Cond.selects "HandUnderTheChin$Pusher" ({ cls := "HandUnderTheChin$Passes", name := "passes", desc := "()I" } : Jvm.MethodName) ({ cls := "HandUnderTheChin$Pusher", name := "passes", desc := "()I" } : Jvm.MethodName)) ∈ lw_all := lw_g (lw_at lw_m2 190 rfl) rfl
theorem q509 : (Jvm.Cond.instanceMethod ({ cls := "HandUnderTheChin$Pusher", name := "passes", desc := "()I" } : Jvm.MethodName)) ∈ lw_all := lw_g (lw_at lw_m2 191 rfl) rfl
theorem q510 : (Jvm.Cond.code ({ cls := "HandUnderTheChin$Pusher", name := "passes", desc := "()I" } : Jvm.MethodName) prog_13_method_4_code (1 : Nat) (Option.some Jvm.ClassFile.FieldType.int)) ∈ lw_all := lw_g (lw_at lw_m2 192 rfl) rfl
theorem q538 : (Jvm.Cond.selects "HandUnderTheChin$Pusher" ({ cls := "HandUnderTheChin$Fears", name := "fright", desc := "()I" } : Jvm.MethodName) ({ cls := "HandUnderTheChin$Pusher", name := "fright", desc := "()I" } : Jvm.MethodName)) ∈ lw_all := lw_g (lw_at lw_m2 220 rfl) rfl
theorem q539 : (Jvm.Cond.instanceMethod ({ cls := "HandUnderTheChin$Pusher", name := "fright", desc := "()I" } : Jvm.MethodName)) ∈ lw_all := lw_g (lw_at lw_m2 221 rfl) rfl
theorem q540 : (Jvm.Cond.code ({ cls := "HandUnderTheChin$Pusher", name := "fright", desc := "()I" } : Jvm.MethodName) prog_13_method_3_code (1 : Nat) (Option.some Jvm.ClassFile.FieldType.int)) ∈ lw_all := lw_g (lw_at lw_m2 222 rfl) rfl
theorem q571 : (Jvm.Cond.selects "HandUnderTheChin$Pusher" ({ cls := "HandUnderTheChin$Fears", name := "bears", desc := "()I" } : Jvm.MethodName) ({ cls := "HandUnderTheChin$Bold", name := "bears", desc := "()I" } : Jvm.MethodName)) ∈ lw_all := lw_g (lw_at lw_m3 13 rfl) rfl
theorem q612 : (Jvm.Cond.selects "HandUnderTheChin$Pusher" ({ cls := "HandUnderTheChin$Child", name := "kind", desc := "()I" } : Jvm.MethodName) ({ cls := "HandUnderTheChin$Pusher", name := "kind", desc := "()I" } : Jvm.MethodName)) ∈ lw_all := lw_g (lw_at lw_m3 54 rfl) rfl
theorem q613 : (Jvm.Cond.instanceMethod ({ cls := "HandUnderTheChin$Pusher", name := "kind", desc := "()I" } : Jvm.MethodName)) ∈ lw_all := lw_g (lw_at lw_m3 55 rfl) rfl
theorem q614 : (Jvm.Cond.code ({ cls := "HandUnderTheChin$Pusher", name := "kind", desc := "()I" } : Jvm.MethodName) prog_13_method_2_code (1 : Nat) (Option.some Jvm.ClassFile.FieldType.int)) ∈ lw_all := lw_g (lw_at lw_m3 56 rfl) rfl
theorem q1056 : (Jvm.Cond.selects "HandUnderTheChin$Pusher" ({ cls := "HandUnderTheChin$Child", name := "cost", desc := "()I" } : Jvm.MethodName) ({ cls := "HandUnderTheChin$Pusher", name := "cost", desc := "()I" } : Jvm.MethodName)) ∈ lw_all := lw_g (lw_at lw_m5 18 rfl) rfl
theorem q1057 : (Jvm.Cond.instanceMethod ({ cls := "HandUnderTheChin$Pusher", name := "cost", desc := "()I" } : Jvm.MethodName)) ∈ lw_all := lw_g (lw_at lw_m5 19 rfl) rfl
theorem q1058 : (Jvm.Cond.code ({ cls := "HandUnderTheChin$Pusher", name := "cost", desc := "()I" } : Jvm.MethodName) prog_13_method_5_code (1 : Nat) (Option.some Jvm.ClassFile.FieldType.int)) ∈ lw_all := lw_g (lw_at lw_m5 20 rfl) rfl
theorem q1059 : (Jvm.Cond.methodLink "HandUnderTheChin$Pusher" (13 : Nat) ({ cls := "HandUnderTheChin$Bold", name := "cost", desc := "()I" } : Jvm.MethodName)) ∈ lw_all := lw_g (lw_at lw_m5 21 rfl) rfl
theorem q1112 : (Jvm.Cond.selects "HandUnderTheChin$Pusher" ({ cls := "HandUnderTheChin$Child", name := "failure", desc := "()LHandUnderTheChin$Tossed;" } : Jvm.MethodName) ({ cls := "HandUnderTheChin$Bold", name := "failure", desc := "()LHandUnderTheChin$Tossed;" } : Jvm.MethodName)) ∈ lw_all := lw_g (lw_at lw_m5 74 rfl) rfl
theorem q1680 : (Jvm.Cond.castable "HandUnderTheChin$Pusher" "HandUnderTheChin$Child") ∈ lw_tbl := lw_at lw_m7 162 rfl
theorem in_X12 : ∀ w ∈ wsX120, w ∈ lw_all := lw_in wsX120 [379] (by decide +kernel) (by decide +kernel)
/-! HandUnderTheChin$Laugher -/
set_option maxRecDepth 100000
def RX13 : String := "HandUnderTheChin$Laugher"
def TX13 : u_T := fun k => match k with
  | _ => ("HandUnderTheChin$Child", "figure", "I", true)
def tyX13 : Nat → FieldType := fun k => match k with
  | _ => .int
abbrev wsX130 : List Cond := u_ws RX13 TX13 1
theorem nmX13 : ∀ a, a < 1 → ∀ b, b < 1 → a ≠ b → (TX13 a).2.1 ≠ (TX13 b).2.1 := by decide +kernel
theorem tyX13_ok : ∀ k, k < 1 → parseFieldDescriptor (TX13 k).2.2.1 = some (tyX13 k) := by decide +kernel
abbrev cX13_init : ByteArray := prog_11_method_1_code
def yX13_init : MethodName := ⟨RX13, "<init>", "(I)V"⟩
def dkwX13_init_0 : List UInt8 := [42, 27, 183, 0, 3, 177]
abbrev dktX13_init_0 : List UInt8 := dkwX13_init_0 ++ []
theorem dksX13_init_0 : cX13_init.data.toList.drop 0 = dktX13_init_0 := by decide +kernel
theorem dX13_init_0 : decode cX13_init 0 = .ok (.aload_n 0, 1) := dk_42 (dk_at dksX13_init_0 0 rfl rfl)
theorem dX13_init_1 : decode cX13_init 1 = .ok (.iload_n 1, 1) := dk_27 (dk_at dksX13_init_0 1 rfl rfl)
theorem dX13_init_2 : decode cX13_init 2 = .ok (.invokespecial 3, 3) := dk_183 0 3 (dk_at dksX13_init_0 2 rfl rfl)
theorem dX13_init_5 : decode cX13_init 5 = .ok (.return_, 1) := dk_177 (dk_at dksX13_init_0 5 rfl rfl)
abbrev cX13_passes : ByteArray := prog_11_method_3_code
def yX13_passes : MethodName := ⟨RX13, "passes", "()I"⟩
def dkwX13_passes_0 : List UInt8 := [42, 183, 0, 9, 5, 96, 172]
abbrev dktX13_passes_0 : List UInt8 := dkwX13_passes_0 ++ []
theorem dksX13_passes_0 : cX13_passes.data.toList.drop 0 = dktX13_passes_0 := by decide +kernel
theorem dX13_passes_0 : decode cX13_passes 0 = .ok (.aload_n 0, 1) := dk_42 (dk_at dksX13_passes_0 0 rfl rfl)
theorem dX13_passes_1 : decode cX13_passes 1 = .ok (.invokespecial 9, 3) := dk_183 0 9 (dk_at dksX13_passes_0 1 rfl rfl)
theorem dX13_passes_4 : decode cX13_passes 4 = .ok (.iconst 2, 1) := dk_5 (dk_at dksX13_passes_0 4 rfl rfl)
theorem dX13_passes_5 : decode cX13_passes 5 = .ok (.iadd, 1) := dk_96 (dk_at dksX13_passes_0 5 rfl rfl)
theorem dX13_passes_6 : decode cX13_passes 6 = .ok (.ireturn, 1) := dk_172 (dk_at dksX13_passes_0 6 rfl rfl)
abbrev cX13_kind : ByteArray := prog_11_method_2_code
def yX13_kind : MethodName := ⟨RX13, "kind", "()I"⟩
theorem dX13_kind_0 : decode cX13_kind 0 = .ok (.iconst 5, 1) := by decide +kernel
theorem dX13_kind_1 : decode cX13_kind 1 = .ok (.ireturn, 1) := by decide +kernel
abbrev cX13_cost : ByteArray := prog_11_method_4_code
def yX13_cost : MethodName := ⟨RX13, "cost", "()I"⟩
def dkwX13_cost_0 : List UInt8 := [42, 183, 0, 13, 7, 96, 172]
abbrev dktX13_cost_0 : List UInt8 := dkwX13_cost_0 ++ []
theorem dksX13_cost_0 : cX13_cost.data.toList.drop 0 = dktX13_cost_0 := by decide +kernel
theorem dX13_cost_0 : decode cX13_cost 0 = .ok (.aload_n 0, 1) := dk_42 (dk_at dksX13_cost_0 0 rfl rfl)
theorem dX13_cost_1 : decode cX13_cost 1 = .ok (.invokespecial 13, 3) := dk_183 0 13 (dk_at dksX13_cost_0 1 rfl rfl)
theorem dX13_cost_4 : decode cX13_cost 4 = .ok (.iconst 4, 1) := dk_7 (dk_at dksX13_cost_0 4 rfl rfl)
theorem dX13_cost_5 : decode cX13_cost 5 = .ok (.iadd, 1) := dk_96 (dk_at dksX13_cost_0 5 rfl rfl)
theorem dX13_cost_6 : decode cX13_cost 6 = .ok (.ireturn, 1) := dk_172 (dk_at dksX13_cost_0 6 rfl rfl)
theorem q97 : (Jvm.Cond.initialized "HandUnderTheChin$Laugher") ∈ lw_all := lw_g (lw_at lw_m1 19 rfl) rfl
theorem q382 : (Jvm.Cond.instantiable "HandUnderTheChin$Laugher" (1 : Nat)) ∈ lw_all := lw_g (lw_at lw_m2 64 rfl) rfl
theorem q384 : (Jvm.Cond.instanceMethod ({ cls := "HandUnderTheChin$Laugher", name := "<init>", desc := "(I)V" } : Jvm.MethodName)) ∈ lw_all := lw_g (lw_at lw_m2 66 rfl) rfl
theorem q385 : (Jvm.Cond.code ({ cls := "HandUnderTheChin$Laugher", name := "<init>", desc := "(I)V" } : Jvm.MethodName) prog_11_method_1_code (2 : Nat) (Option.none : Option Jvm.ClassFile.FieldType)) ∈ lw_all := lw_g (lw_at lw_m2 67 rfl) rfl
theorem q386 : (Jvm.Cond.methodLink "HandUnderTheChin$Laugher" (3 : Nat) ({ cls := "HandUnderTheChin$Bold", name := "<init>", desc := "(I)V" } : Jvm.MethodName)) ∈ lw_all := lw_g (lw_at lw_m2 68 rfl) rfl
theorem q387 : (Jvm.Cond.laysFinal "HandUnderTheChin$Laugher" "HandUnderTheChin$Child" "figure" "I") ∈ lw_all := lw_g (lw_at lw_m2 69 rfl) rfl
theorem q388 : (Jvm.Cond.superclass "HandUnderTheChin$Laugher" "HandUnderTheChin$Bold") ∈ lw_all := lw_g (lw_at lw_m2 70 rfl) rfl
theorem q439 : (Jvm.Cond.selects "HandUnderTheChin$Laugher" ({ cls := "HandUnderTheChin$Trusts", name := "holds", desc := "()I" } : Jvm.MethodName) ({ cls := "HandUnderTheChin$Bold", name := "holds", desc := "()I" } : Jvm.MethodName)) ∈ lw_all := lw_g (lw_at lw_m2 121 rfl) rfl
theorem q485 : (Jvm.Cond.selects "HandUnderTheChin$Laugher" ({ cls := "HandUnderTheChin$Child", name := "needs", desc := "(I)I" } : Jvm.MethodName) ({ cls := "HandUnderTheChin$Bold", name := "needs", desc := "(I)I" } : Jvm.MethodName)) ∈ lw_all := lw_g (lw_at lw_m2 167 rfl) rfl
theorem q503 : (Jvm.Cond.selects "HandUnderTheChin$Laugher" ({ cls := "HandUnderTheChin$Passes", name := "passes", desc := "()I" } : Jvm.MethodName) ({ cls := "HandUnderTheChin$Laugher", name := "passes", desc := "()I" } : Jvm.MethodName)) ∈ lw_all := lw_g (lw_at lw_m2 185 rfl) rfl
theorem q504 : (Jvm.Cond.instanceMethod ({ cls := "HandUnderTheChin$Laugher", name := "passes", desc := "()I" } : Jvm.MethodName)) ∈ lw_all := lw_g (lw_at lw_m2 186 rfl) rfl
theorem q505 : (Jvm.Cond.code ({ cls := "HandUnderTheChin$Laugher", name := "passes", desc := "()I" } : Jvm.MethodName) prog_11_method_3_code (1 : Nat) (Option.some Jvm.ClassFile.FieldType.int)) ∈ lw_all := lw_g (lw_at lw_m2 187 rfl) rfl
theorem q537 : (Jvm.Cond.selects "HandUnderTheChin$Laugher" ({ cls := "HandUnderTheChin$Fears", name := "fright", desc := "()I" } : Jvm.MethodName) ({ cls := "HandUnderTheChin$Bold", name := "fright", desc := "()I" } : Jvm.MethodName)) ∈ lw_all := lw_g (lw_at lw_m2 219 rfl) rfl
theorem q570 : (Jvm.Cond.selects "HandUnderTheChin$Laugher" ({ cls := "HandUnderTheChin$Fears", name := "bears", desc := "()I" } : Jvm.MethodName) ({ cls := "HandUnderTheChin$Bold", name := "bears", desc := "()I" } : Jvm.MethodName)) ∈ lw_all := lw_g (lw_at lw_m3 12 rfl) rfl
theorem q609 : (Jvm.Cond.selects "HandUnderTheChin$Laugher" ({ cls := "HandUnderTheChin$Child", name := "kind", desc := "()I" } : Jvm.MethodName) ({ cls := "HandUnderTheChin$Laugher", name := "kind", desc := "()I" } : Jvm.MethodName)) ∈ lw_all := lw_g (lw_at lw_m3 51 rfl) rfl
theorem q610 : (Jvm.Cond.instanceMethod ({ cls := "HandUnderTheChin$Laugher", name := "kind", desc := "()I" } : Jvm.MethodName)) ∈ lw_all := lw_g (lw_at lw_m3 52 rfl) rfl
theorem q611 : (Jvm.Cond.code ({ cls := "HandUnderTheChin$Laugher", name := "kind", desc := "()I" } : Jvm.MethodName) prog_11_method_2_code (1 : Nat) (Option.some Jvm.ClassFile.FieldType.int)) ∈ lw_all := lw_g (lw_at lw_m3 53 rfl) rfl
theorem q1052 : (Jvm.Cond.selects "HandUnderTheChin$Laugher" ({ cls := "HandUnderTheChin$Child", name := "cost", desc := "()I" } : Jvm.MethodName) ({ cls := "HandUnderTheChin$Laugher", name := "cost", desc := "()I" } : Jvm.MethodName)) ∈ lw_all := lw_g (lw_at lw_m5 14 rfl) rfl
theorem q1053 : (Jvm.Cond.instanceMethod ({ cls := "HandUnderTheChin$Laugher", name := "cost", desc := "()I" } : Jvm.MethodName)) ∈ lw_all := lw_g (lw_at lw_m5 15 rfl) rfl
theorem q1054 : (Jvm.Cond.code ({ cls := "HandUnderTheChin$Laugher", name := "cost", desc := "()I" } : Jvm.MethodName) prog_11_method_4_code (1 : Nat) (Option.some Jvm.ClassFile.FieldType.int)) ∈ lw_all := lw_g (lw_at lw_m5 16 rfl) rfl
theorem q1055 : (Jvm.Cond.methodLink "HandUnderTheChin$Laugher" (13 : Nat) ({ cls := "HandUnderTheChin$Bold", name := "cost", desc := "()I" } : Jvm.MethodName)) ∈ lw_all := lw_g (lw_at lw_m5 17 rfl) rfl
theorem q1111 : (Jvm.Cond.selects "HandUnderTheChin$Laugher" ({ cls := "HandUnderTheChin$Child", name := "failure", desc := "()LHandUnderTheChin$Tossed;" } : Jvm.MethodName) ({ cls := "HandUnderTheChin$Bold", name := "failure", desc := "()LHandUnderTheChin$Tossed;" } : Jvm.MethodName)) ∈ lw_all := lw_g (lw_at lw_m5 73 rfl) rfl
theorem q1679 : (Jvm.Cond.castable "HandUnderTheChin$Laugher" "HandUnderTheChin$Child") ∈ lw_tbl := lw_at lw_m7 161 rfl
theorem in_X13 : ∀ w ∈ wsX130, w ∈ lw_all := lw_in wsX130 [387] (by decide +kernel) (by decide +kernel)
/-! HandUnderTheChin$Clinger -/
set_option maxRecDepth 100000
def RX14 : String := "HandUnderTheChin$Clinger"
def TX14 : u_T := fun k => match k with
  | _ => ("HandUnderTheChin$Child", "figure", "I", true)
def tyX14 : Nat → FieldType := fun k => match k with
  | _ => .int
abbrev wsX140 : List Cond := u_ws RX14 TX14 1
theorem nmX14 : ∀ a, a < 1 → ∀ b, b < 1 → a ≠ b → (TX14 a).2.1 ≠ (TX14 b).2.1 := by decide +kernel
theorem tyX14_ok : ∀ k, k < 1 → parseFieldDescriptor (TX14 k).2.2.1 = some (tyX14 k) := by decide +kernel
abbrev cX14_init : ByteArray := prog_7_method_1_code
def yX14_init : MethodName := ⟨RX14, "<init>", "(I)V"⟩
def dkwX14_init_0 : List UInt8 := [42, 27, 183, 0, 3, 177]
abbrev dktX14_init_0 : List UInt8 := dkwX14_init_0 ++ []
theorem dksX14_init_0 : cX14_init.data.toList.drop 0 = dktX14_init_0 := by decide +kernel
theorem dX14_init_0 : decode cX14_init 0 = .ok (.aload_n 0, 1) := dk_42 (dk_at dksX14_init_0 0 rfl rfl)
theorem dX14_init_1 : decode cX14_init 1 = .ok (.iload_n 1, 1) := dk_27 (dk_at dksX14_init_0 1 rfl rfl)
theorem dX14_init_2 : decode cX14_init 2 = .ok (.invokespecial 3, 3) := dk_183 0 3 (dk_at dksX14_init_0 2 rfl rfl)
theorem dX14_init_5 : decode cX14_init 5 = .ok (.return_, 1) := dk_177 (dk_at dksX14_init_0 5 rfl rfl)
abbrev cX14_holds : ByteArray := prog_7_method_3_code
def yX14_holds : MethodName := ⟨RX14, "holds", "()I"⟩
def dkwX14_holds_0 : List UInt8 := [42, 183, 0, 9, 42, 180, 0, 13, 6, 108, 96, 172]
abbrev dktX14_holds_0 : List UInt8 := dkwX14_holds_0 ++ []
theorem dksX14_holds_0 : cX14_holds.data.toList.drop 0 = dktX14_holds_0 := by decide +kernel
theorem dX14_holds_0 : decode cX14_holds 0 = .ok (.aload_n 0, 1) := dk_42 (dk_at dksX14_holds_0 0 rfl rfl)
theorem dX14_holds_1 : decode cX14_holds 1 = .ok (.invokespecial 9, 3) := dk_183 0 9 (dk_at dksX14_holds_0 1 rfl rfl)
theorem dX14_holds_4 : decode cX14_holds 4 = .ok (.aload_n 0, 1) := dk_42 (dk_at dksX14_holds_0 4 rfl rfl)
theorem dX14_holds_5 : decode cX14_holds 5 = .ok (.getfield 13, 3) := dk_180 0 13 (dk_at dksX14_holds_0 5 rfl rfl)
theorem dX14_holds_8 : decode cX14_holds 8 = .ok (.iconst 3, 1) := dk_6 (dk_at dksX14_holds_0 8 rfl rfl)
theorem dX14_holds_9 : decode cX14_holds 9 = .ok (.idiv, 1) := dk_108 (dk_at dksX14_holds_0 9 rfl rfl)
theorem dX14_holds_10 : decode cX14_holds 10 = .ok (.iadd, 1) := dk_96 (dk_at dksX14_holds_0 10 rfl rfl)
theorem dX14_holds_11 : decode cX14_holds 11 = .ok (.ireturn, 1) := dk_172 (dk_at dksX14_holds_0 11 rfl rfl)
abbrev cX14_needs : ByteArray := prog_7_method_4_code
def yX14_needs : MethodName := ⟨RX14, "needs", "(I)I"⟩
def dkwX14_needs_0 : List UInt8 := [42, 27, 183, 0, 19, 4, 100, 172]
abbrev dktX14_needs_0 : List UInt8 := dkwX14_needs_0 ++ []
theorem dksX14_needs_0 : cX14_needs.data.toList.drop 0 = dktX14_needs_0 := by decide +kernel
theorem dX14_needs_0 : decode cX14_needs 0 = .ok (.aload_n 0, 1) := dk_42 (dk_at dksX14_needs_0 0 rfl rfl)
theorem dX14_needs_1 : decode cX14_needs 1 = .ok (.iload_n 1, 1) := dk_27 (dk_at dksX14_needs_0 1 rfl rfl)
theorem dX14_needs_2 : decode cX14_needs 2 = .ok (.invokespecial 19, 3) := dk_183 0 19 (dk_at dksX14_needs_0 2 rfl rfl)
theorem dX14_needs_5 : decode cX14_needs 5 = .ok (.iconst 1, 1) := dk_4 (dk_at dksX14_needs_0 5 rfl rfl)
theorem dX14_needs_6 : decode cX14_needs 6 = .ok (.isub, 1) := dk_100 (dk_at dksX14_needs_0 6 rfl rfl)
theorem dX14_needs_7 : decode cX14_needs 7 = .ok (.ireturn, 1) := dk_172 (dk_at dksX14_needs_0 7 rfl rfl)
abbrev cX14_fright : ByteArray := prog_7_method_5_code
def yX14_fright : MethodName := ⟨RX14, "fright", "()I"⟩
def dkwX14_fright_0 : List UInt8 := [5, 42, 183, 0, 23, 104, 172]
abbrev dktX14_fright_0 : List UInt8 := dkwX14_fright_0 ++ []
theorem dksX14_fright_0 : cX14_fright.data.toList.drop 0 = dktX14_fright_0 := by decide +kernel
theorem dX14_fright_0 : decode cX14_fright 0 = .ok (.iconst 2, 1) := dk_5 (dk_at dksX14_fright_0 0 rfl rfl)
theorem dX14_fright_1 : decode cX14_fright 1 = .ok (.aload_n 0, 1) := dk_42 (dk_at dksX14_fright_0 1 rfl rfl)
theorem dX14_fright_2 : decode cX14_fright 2 = .ok (.invokespecial 23, 3) := dk_183 0 23 (dk_at dksX14_fright_0 2 rfl rfl)
theorem dX14_fright_5 : decode cX14_fright 5 = .ok (.imul, 1) := dk_104 (dk_at dksX14_fright_0 5 rfl rfl)
theorem dX14_fright_6 : decode cX14_fright 6 = .ok (.ireturn, 1) := dk_172 (dk_at dksX14_fright_0 6 rfl rfl)
abbrev cX14_kind : ByteArray := prog_7_method_2_code
def yX14_kind : MethodName := ⟨RX14, "kind", "()I"⟩
theorem dX14_kind_0 : decode cX14_kind 0 = .ok (.bipush 6, 2) := by decide +kernel
theorem dX14_kind_2 : decode cX14_kind 2 = .ok (.ireturn, 1) := by decide +kernel
abbrev cX14_cost : ByteArray := prog_7_method_6_code
def yX14_cost : MethodName := ⟨RX14, "cost", "()I"⟩
def dkwX14_cost_0 : List UInt8 := [42, 183, 0, 26, 42, 180, 0, 13, 96, 172]
abbrev dktX14_cost_0 : List UInt8 := dkwX14_cost_0 ++ []
theorem dksX14_cost_0 : cX14_cost.data.toList.drop 0 = dktX14_cost_0 := by decide +kernel
theorem dX14_cost_0 : decode cX14_cost 0 = .ok (.aload_n 0, 1) := dk_42 (dk_at dksX14_cost_0 0 rfl rfl)
theorem dX14_cost_1 : decode cX14_cost 1 = .ok (.invokespecial 26, 3) := dk_183 0 26 (dk_at dksX14_cost_0 1 rfl rfl)
theorem dX14_cost_4 : decode cX14_cost 4 = .ok (.aload_n 0, 1) := dk_42 (dk_at dksX14_cost_0 4 rfl rfl)
theorem dX14_cost_5 : decode cX14_cost 5 = .ok (.getfield 13, 3) := dk_180 0 13 (dk_at dksX14_cost_0 5 rfl rfl)
theorem dX14_cost_8 : decode cX14_cost 8 = .ok (.iadd, 1) := dk_96 (dk_at dksX14_cost_0 8 rfl rfl)
theorem dX14_cost_9 : decode cX14_cost 9 = .ok (.ireturn, 1) := dk_172 (dk_at dksX14_cost_0 9 rfl rfl)
theorem q98 : (Jvm.Cond.initialized "HandUnderTheChin$Clinger") ∈ lw_all := lw_g (lw_at lw_m1 20 rfl) rfl
theorem q337 : (Jvm.Cond.fieldLink "HandUnderTheChin$Clinger" (13 : Nat) "HandUnderTheChin$Clinger" "figure" "I") ∈ lw_all := lw_g (lw_at lw_m2 19 rfl) rfl
theorem q338 : (Jvm.Cond.sameField "HandUnderTheChin$Clinger" "HandUnderTheChin$Child" "figure" "I") ∈ lw_all := lw_g (lw_at lw_m2 20 rfl) rfl
theorem q390 : (Jvm.Cond.instantiable "HandUnderTheChin$Clinger" (1 : Nat)) ∈ lw_all := lw_g (lw_at lw_m2 72 rfl) rfl
theorem q392 : (Jvm.Cond.instanceMethod ({ cls := "HandUnderTheChin$Clinger", name := "<init>", desc := "(I)V" } : Jvm.MethodName)) ∈ lw_all := lw_g (lw_at lw_m2 74 rfl) rfl
theorem q393 : (Jvm.Cond.code ({ cls := "HandUnderTheChin$Clinger", name := "<init>", desc := "(I)V" } : Jvm.MethodName) prog_7_method_1_code (2 : Nat) (Option.none : Option Jvm.ClassFile.FieldType)) ∈ lw_all := lw_g (lw_at lw_m2 75 rfl) rfl
theorem q394 : (Jvm.Cond.methodLink "HandUnderTheChin$Clinger" (3 : Nat) ({ cls := "HandUnderTheChin$Shy", name := "<init>", desc := "(I)V" } : Jvm.MethodName)) ∈ lw_all := lw_g (lw_at lw_m2 76 rfl) rfl
theorem q395 : (Jvm.Cond.laysFinal "HandUnderTheChin$Clinger" "HandUnderTheChin$Child" "figure" "I") ∈ lw_all := lw_g (lw_at lw_m2 77 rfl) rfl
theorem q396 : (Jvm.Cond.superclass "HandUnderTheChin$Clinger" "HandUnderTheChin$Shy") ∈ lw_all := lw_g (lw_at lw_m2 78 rfl) rfl
theorem q432 : (Jvm.Cond.selects "HandUnderTheChin$Clinger" ({ cls := "HandUnderTheChin$Trusts", name := "holds", desc := "()I" } : Jvm.MethodName) ({ cls := "HandUnderTheChin$Clinger", name := "holds", desc := "()I" } : Jvm.MethodName)) ∈ lw_all := lw_g (lw_at lw_m2 114 rfl) rfl
theorem q433 : (Jvm.Cond.instanceMethod ({ cls := "HandUnderTheChin$Clinger", name := "holds", desc := "()I" } : Jvm.MethodName)) ∈ lw_all := lw_g (lw_at lw_m2 115 rfl) rfl
theorem q434 : (Jvm.Cond.code ({ cls := "HandUnderTheChin$Clinger", name := "holds", desc := "()I" } : Jvm.MethodName) prog_7_method_3_code (1 : Nat) (Option.some Jvm.ClassFile.FieldType.int)) ∈ lw_all := lw_g (lw_at lw_m2 116 rfl) rfl
theorem q435 : (Jvm.Cond.methodLink "HandUnderTheChin$Clinger" (9 : Nat) ({ cls := "HandUnderTheChin$Shy", name := "holds", desc := "()I" } : Jvm.MethodName)) ∈ lw_all := lw_g (lw_at lw_m2 117 rfl) rfl
theorem q474 : (Jvm.Cond.selects "HandUnderTheChin$Clinger" ({ cls := "HandUnderTheChin$Child", name := "needs", desc := "(I)I" } : Jvm.MethodName) ({ cls := "HandUnderTheChin$Clinger", name := "needs", desc := "(I)I" } : Jvm.MethodName)) ∈ lw_all := lw_g (lw_at lw_m2 156 rfl) rfl
theorem q475 : (Jvm.Cond.instanceMethod ({ cls := "HandUnderTheChin$Clinger", name := "needs", desc := "(I)I" } : Jvm.MethodName)) ∈ lw_all := lw_g (lw_at lw_m2 157 rfl) rfl
theorem q476 : (Jvm.Cond.code ({ cls := "HandUnderTheChin$Clinger", name := "needs", desc := "(I)I" } : Jvm.MethodName) prog_7_method_4_code (2 : Nat) (Option.some Jvm.ClassFile.FieldType.int)) ∈ lw_all := lw_g (lw_at lw_m2 158 rfl) rfl
theorem q477 : (Jvm.Cond.methodLink "HandUnderTheChin$Clinger" (19 : Nat) ({ cls := "HandUnderTheChin$Shy", name := "needs", desc := "(I)I" } : Jvm.MethodName)) ∈ lw_all := lw_g (lw_at lw_m2 159 rfl) rfl
theorem q499 : (Jvm.Cond.selects "HandUnderTheChin$Clinger" ({ cls := "HandUnderTheChin$Passes", name := "passes", desc := "()I" } : Jvm.MethodName) ({ cls := "HandUnderTheChin$Shy", name := "passes", desc := "()I" } : Jvm.MethodName)) ∈ lw_all := lw_g (lw_at lw_m2 181 rfl) rfl
theorem q530 : (Jvm.Cond.selects "HandUnderTheChin$Clinger" ({ cls := "HandUnderTheChin$Fears", name := "fright", desc := "()I" } : Jvm.MethodName) ({ cls := "HandUnderTheChin$Clinger", name := "fright", desc := "()I" } : Jvm.MethodName)) ∈ lw_all := lw_g (lw_at lw_m2 212 rfl) rfl
theorem q531 : (Jvm.Cond.instanceMethod ({ cls := "HandUnderTheChin$Clinger", name := "fright", desc := "()I" } : Jvm.MethodName)) ∈ lw_all := lw_g (lw_at lw_m2 213 rfl) rfl
theorem q532 : (Jvm.Cond.code ({ cls := "HandUnderTheChin$Clinger", name := "fright", desc := "()I" } : Jvm.MethodName) prog_7_method_5_code (1 : Nat) (Option.some Jvm.ClassFile.FieldType.int)) ∈ lw_all := lw_g (lw_at lw_m2 214 rfl) rfl
theorem q533 : (Jvm.Cond.methodLink "HandUnderTheChin$Clinger" (23 : Nat) ({ cls := "HandUnderTheChin$Shy", name := "fright", desc := "()I" } : Jvm.MethodName)) ∈ lw_all := lw_g (lw_at lw_m2 215 rfl) rfl
theorem q564 : (Jvm.Cond.selects "HandUnderTheChin$Clinger" ({ cls := "HandUnderTheChin$Fears", name := "bears", desc := "()I" } : Jvm.MethodName) ({ cls := "HandUnderTheChin$Shy", name := "bears", desc := "()I" } : Jvm.MethodName)) ∈ lw_all := lw_g (lw_at lw_m3 6 rfl) rfl
theorem q603 : (Jvm.Cond.selects "HandUnderTheChin$Clinger" ({ cls := "HandUnderTheChin$Child", name := "kind", desc := "()I" } : Jvm.MethodName) ({ cls := "HandUnderTheChin$Clinger", name := "kind", desc := "()I" } : Jvm.MethodName)) ∈ lw_all := lw_g (lw_at lw_m3 45 rfl) rfl
theorem q604 : (Jvm.Cond.instanceMethod ({ cls := "HandUnderTheChin$Clinger", name := "kind", desc := "()I" } : Jvm.MethodName)) ∈ lw_all := lw_g (lw_at lw_m3 46 rfl) rfl
theorem q605 : (Jvm.Cond.code ({ cls := "HandUnderTheChin$Clinger", name := "kind", desc := "()I" } : Jvm.MethodName) prog_7_method_2_code (1 : Nat) (Option.some Jvm.ClassFile.FieldType.int)) ∈ lw_all := lw_g (lw_at lw_m3 47 rfl) rfl
theorem q1041 : (Jvm.Cond.selects "HandUnderTheChin$Clinger" ({ cls := "HandUnderTheChin$Child", name := "cost", desc := "()I" } : Jvm.MethodName) ({ cls := "HandUnderTheChin$Clinger", name := "cost", desc := "()I" } : Jvm.MethodName)) ∈ lw_all := lw_g (lw_at lw_m5 3 rfl) rfl
theorem q1042 : (Jvm.Cond.instanceMethod ({ cls := "HandUnderTheChin$Clinger", name := "cost", desc := "()I" } : Jvm.MethodName)) ∈ lw_all := lw_g (lw_at lw_m5 4 rfl) rfl
theorem q1043 : (Jvm.Cond.code ({ cls := "HandUnderTheChin$Clinger", name := "cost", desc := "()I" } : Jvm.MethodName) prog_7_method_6_code (1 : Nat) (Option.some Jvm.ClassFile.FieldType.int)) ∈ lw_all := lw_g (lw_at lw_m5 5 rfl) rfl
theorem q1044 : (Jvm.Cond.methodLink "HandUnderTheChin$Clinger" (26 : Nat) ({ cls := "HandUnderTheChin$Shy", name := "cost", desc := "()I" } : Jvm.MethodName)) ∈ lw_all := lw_g (lw_at lw_m5 6 rfl) rfl
theorem q1101 : (Jvm.Cond.selects "HandUnderTheChin$Clinger" ({ cls := "HandUnderTheChin$Child", name := "failure", desc := "()LHandUnderTheChin$Tossed;" } : Jvm.MethodName) ({ cls := "HandUnderTheChin$Shy", name := "failure", desc := "()LHandUnderTheChin$Tossed;" } : Jvm.MethodName)) ∈ lw_all := lw_g (lw_at lw_m5 63 rfl) rfl
theorem q1677 : (Jvm.Cond.castable "HandUnderTheChin$Clinger" "HandUnderTheChin$Child") ∈ lw_tbl := lw_at lw_m7 159 rfl
theorem in_X14 : ∀ w ∈ wsX140, w ∈ lw_all := lw_in wsX140 [395] (by decide +kernel) (by decide +kernel)
/-! HandUnderTheChin$Diver -/
set_option maxRecDepth 100000
def RX15 : String := "HandUnderTheChin$Diver"
def TX15 : u_T := fun k => match k with
  | _ => ("HandUnderTheChin$Child", "figure", "I", true)
def tyX15 : Nat → FieldType := fun k => match k with
  | _ => .int
abbrev wsX150 : List Cond := u_ws RX15 TX15 1
theorem nmX15 : ∀ a, a < 1 → ∀ b, b < 1 → a ≠ b → (TX15 a).2.1 ≠ (TX15 b).2.1 := by decide +kernel
theorem tyX15_ok : ∀ k, k < 1 → parseFieldDescriptor (TX15 k).2.2.1 = some (tyX15 k) := by decide +kernel
abbrev cX15_init : ByteArray := prog_8_method_1_code
def yX15_init : MethodName := ⟨RX15, "<init>", "(I)V"⟩
def dkwX15_init_0 : List UInt8 := [42, 27, 183, 0, 1, 177]
abbrev dktX15_init_0 : List UInt8 := dkwX15_init_0 ++ []
theorem dksX15_init_0 : cX15_init.data.toList.drop 0 = dktX15_init_0 := by decide +kernel
theorem dX15_init_0 : decode cX15_init 0 = .ok (.aload_n 0, 1) := dk_42 (dk_at dksX15_init_0 0 rfl rfl)
theorem dX15_init_1 : decode cX15_init 1 = .ok (.iload_n 1, 1) := dk_27 (dk_at dksX15_init_0 1 rfl rfl)
theorem dX15_init_2 : decode cX15_init 2 = .ok (.invokespecial 1, 3) := dk_183 0 1 (dk_at dksX15_init_0 2 rfl rfl)
theorem dX15_init_5 : decode cX15_init 5 = .ok (.return_, 1) := dk_177 (dk_at dksX15_init_0 5 rfl rfl)
abbrev cX15_needs : ByteArray := prog_8_method_3_code
def yX15_needs : MethodName := ⟨RX15, "needs", "(I)I"⟩
def dkwX15_needs_0 : List UInt8 := [42, 27, 183, 0, 7, 5, 108, 172]
abbrev dktX15_needs_0 : List UInt8 := dkwX15_needs_0 ++ []
theorem dksX15_needs_0 : cX15_needs.data.toList.drop 0 = dktX15_needs_0 := by decide +kernel
theorem dX15_needs_0 : decode cX15_needs 0 = .ok (.aload_n 0, 1) := dk_42 (dk_at dksX15_needs_0 0 rfl rfl)
theorem dX15_needs_1 : decode cX15_needs 1 = .ok (.iload_n 1, 1) := dk_27 (dk_at dksX15_needs_0 1 rfl rfl)
theorem dX15_needs_2 : decode cX15_needs 2 = .ok (.invokespecial 7, 3) := dk_183 0 7 (dk_at dksX15_needs_0 2 rfl rfl)
theorem dX15_needs_5 : decode cX15_needs 5 = .ok (.iconst 2, 1) := dk_5 (dk_at dksX15_needs_0 5 rfl rfl)
theorem dX15_needs_6 : decode cX15_needs 6 = .ok (.idiv, 1) := dk_108 (dk_at dksX15_needs_0 6 rfl rfl)
theorem dX15_needs_7 : decode cX15_needs 7 = .ok (.ireturn, 1) := dk_172 (dk_at dksX15_needs_0 7 rfl rfl)
abbrev cX15_bears : ByteArray := prog_8_method_4_code
def yX15_bears : MethodName := ⟨RX15, "bears", "()I"⟩
theorem dX15_bears_0 : decode cX15_bears 0 = .ok (.bipush 20, 2) := by decide +kernel
theorem dX15_bears_2 : decode cX15_bears 2 = .ok (.ireturn, 1) := by decide +kernel
abbrev cX15_kind : ByteArray := prog_8_method_2_code
def yX15_kind : MethodName := ⟨RX15, "kind", "()I"⟩
theorem dX15_kind_0 : decode cX15_kind 0 = .ok (.bipush 7, 2) := by decide +kernel
theorem dX15_kind_2 : decode cX15_kind 2 = .ok (.ireturn, 1) := by decide +kernel
abbrev cX15_cost : ByteArray := prog_8_method_5_code
def yX15_cost : MethodName := ⟨RX15, "cost", "()I"⟩
def dkwX15_cost_0 : List UInt8 := [42, 183, 0, 11, 5, 108, 172]
abbrev dktX15_cost_0 : List UInt8 := dkwX15_cost_0 ++ []
theorem dksX15_cost_0 : cX15_cost.data.toList.drop 0 = dktX15_cost_0 := by decide +kernel
theorem dX15_cost_0 : decode cX15_cost 0 = .ok (.aload_n 0, 1) := dk_42 (dk_at dksX15_cost_0 0 rfl rfl)
theorem dX15_cost_1 : decode cX15_cost 1 = .ok (.invokespecial 11, 3) := dk_183 0 11 (dk_at dksX15_cost_0 1 rfl rfl)
theorem dX15_cost_4 : decode cX15_cost 4 = .ok (.iconst 2, 1) := dk_5 (dk_at dksX15_cost_0 4 rfl rfl)
theorem dX15_cost_5 : decode cX15_cost 5 = .ok (.idiv, 1) := dk_108 (dk_at dksX15_cost_0 5 rfl rfl)
theorem dX15_cost_6 : decode cX15_cost 6 = .ok (.ireturn, 1) := dk_172 (dk_at dksX15_cost_0 6 rfl rfl)
abbrev cX15_failure : ByteArray := prog_8_method_6_code
def yX15_failure : MethodName := ⟨RX15, "failure", "()LHandUnderTheChin$Tossed;"⟩
def dkwX15_failure_1 : List UInt8 := [183, 0, 24, 176]
abbrev dktX15_failure_1 : List UInt8 := dkwX15_failure_1 ++ []
def dkwX15_failure_0 : List UInt8 := [42, 183, 0, 15, 199, 0, 7, 1, 167, 0, 18, 187, 0, 19, 89, 17, 0, 200, 42, 182, 0, 21, 96]
abbrev dktX15_failure_0 : List UInt8 := dkwX15_failure_0 ++ dktX15_failure_1
theorem dksX15_failure_0 : cX15_failure.data.toList.drop 0 = dktX15_failure_0 := by decide +kernel
theorem dksX15_failure_1 : cX15_failure.data.toList.drop 23 = dktX15_failure_1 := dk_seg dksX15_failure_0 23 rfl rfl
theorem dX15_failure_0 : decode cX15_failure 0 = .ok (.aload_n 0, 1) := dk_42 (dk_at dksX15_failure_0 0 rfl rfl)
theorem dX15_failure_1 : decode cX15_failure 1 = .ok (.invokespecial 15, 3) := dk_183 0 15 (dk_at dksX15_failure_0 1 rfl rfl)
theorem dX15_failure_4 : decode cX15_failure 4 = .ok (.ifnonnull 7, 3) := dk_199 0 7 (dk_at dksX15_failure_0 4 rfl rfl)
theorem dX15_failure_7 : decode cX15_failure 7 = .ok (.aconst_null, 1) := dk_1 (dk_at dksX15_failure_0 7 rfl rfl)
theorem dX15_failure_8 : decode cX15_failure 8 = .ok (.goto 18, 3) := dk_167 0 18 (dk_at dksX15_failure_0 8 rfl rfl)
theorem dX15_failure_11 : decode cX15_failure 11 = .ok (.new 19, 3) := dk_187 0 19 (dk_at dksX15_failure_0 11 rfl rfl)
theorem dX15_failure_14 : decode cX15_failure 14 = .ok (.dup, 1) := dk_89 (dk_at dksX15_failure_0 14 rfl rfl)
theorem dX15_failure_15 : decode cX15_failure 15 = .ok (.sipush 200, 3) := dk_17 0 200 (dk_at dksX15_failure_0 15 rfl rfl)
theorem dX15_failure_18 : decode cX15_failure 18 = .ok (.aload_n 0, 1) := dk_42 (dk_at dksX15_failure_0 18 rfl rfl)
theorem dX15_failure_19 : decode cX15_failure 19 = .ok (.invokevirtual 21, 3) := dk_182 0 21 (dk_at dksX15_failure_0 19 rfl rfl)
theorem dX15_failure_22 : decode cX15_failure 22 = .ok (.iadd, 1) := dk_96 (dk_at dksX15_failure_0 22 rfl rfl)
theorem dX15_failure_23 : decode cX15_failure 23 = .ok (.invokespecial 24, 3) := dk_183 0 24 (dk_at dksX15_failure_1 0 rfl rfl)
theorem dX15_failure_26 : decode cX15_failure 26 = .ok (.areturn, 1) := dk_176 (dk_at dksX15_failure_1 3 rfl rfl)
theorem q99 : (Jvm.Cond.initialized "HandUnderTheChin$Diver") ∈ lw_all := lw_g (lw_at lw_m1 21 rfl) rfl
theorem q398 : (Jvm.Cond.instantiable "HandUnderTheChin$Diver" (1 : Nat)) ∈ lw_all := lw_g (lw_at lw_m2 80 rfl) rfl
theorem q400 : (Jvm.Cond.instanceMethod ({ cls := "HandUnderTheChin$Diver", name := "<init>", desc := "(I)V" } : Jvm.MethodName)) ∈ lw_all := lw_g (lw_at lw_m2 82 rfl) rfl
theorem q401 : (Jvm.Cond.code ({ cls := "HandUnderTheChin$Diver", name := "<init>", desc := "(I)V" } : Jvm.MethodName) prog_8_method_1_code (2 : Nat) (Option.none : Option Jvm.ClassFile.FieldType)) ∈ lw_all := lw_g (lw_at lw_m2 83 rfl) rfl
theorem q402 : (Jvm.Cond.methodLink "HandUnderTheChin$Diver" (1 : Nat) ({ cls := "HandUnderTheChin$Bold", name := "<init>", desc := "(I)V" } : Jvm.MethodName)) ∈ lw_all := lw_g (lw_at lw_m2 84 rfl) rfl
theorem q403 : (Jvm.Cond.laysFinal "HandUnderTheChin$Diver" "HandUnderTheChin$Child" "figure" "I") ∈ lw_all := lw_g (lw_at lw_m2 85 rfl) rfl
theorem q404 : (Jvm.Cond.superclass "HandUnderTheChin$Diver" "HandUnderTheChin$Bold") ∈ lw_all := lw_g (lw_at lw_m2 86 rfl) rfl
theorem q438 : (Jvm.Cond.selects "HandUnderTheChin$Diver" ({ cls := "HandUnderTheChin$Trusts", name := "holds", desc := "()I" } : Jvm.MethodName) ({ cls := "HandUnderTheChin$Bold", name := "holds", desc := "()I" } : Jvm.MethodName)) ∈ lw_all := lw_g (lw_at lw_m2 120 rfl) rfl
theorem q481 : (Jvm.Cond.selects "HandUnderTheChin$Diver" ({ cls := "HandUnderTheChin$Child", name := "needs", desc := "(I)I" } : Jvm.MethodName) ({ cls := "HandUnderTheChin$Diver", name := "needs", desc := "(I)I" } : Jvm.MethodName)) ∈ lw_all := lw_g (lw_at lw_m2 163 rfl) rfl
theorem q482 : (Jvm.Cond.instanceMethod ({ cls := "HandUnderTheChin$Diver", name := "needs", desc := "(I)I" } : Jvm.MethodName)) ∈ lw_all := lw_g (lw_at lw_m2 164 rfl) rfl
theorem q483 : (Jvm.Cond.code ({ cls := "HandUnderTheChin$Diver", name := "needs", desc := "(I)I" } : Jvm.MethodName) prog_8_method_3_code (2 : Nat) (Option.some Jvm.ClassFile.FieldType.int)) ∈ lw_all := lw_g (lw_at lw_m2 165 rfl) rfl
theorem q484 : (Jvm.Cond.methodLink "HandUnderTheChin$Diver" (7 : Nat) ({ cls := "HandUnderTheChin$Bold", name := "needs", desc := "(I)I" } : Jvm.MethodName)) ∈ lw_all := lw_g (lw_at lw_m2 166 rfl) rfl
theorem q502 : (Jvm.Cond.unhidden "HandUnderTheChin$Diver" "passes" "()I") ∈ lw_tbl := lw_at lw_m2 184 rfl
theorem q536 : (Jvm.Cond.selects "HandUnderTheChin$Diver" ({ cls := "HandUnderTheChin$Fears", name := "fright", desc := "()I" } : Jvm.MethodName) ({ cls := "HandUnderTheChin$Bold", name := "fright", desc := "()I" } : Jvm.MethodName)) ∈ lw_all := lw_g (lw_at lw_m2 218 rfl) rfl
theorem q567 : (Jvm.Cond.selects "HandUnderTheChin$Diver" ({ cls := "HandUnderTheChin$Fears", name := "bears", desc := "()I" } : Jvm.MethodName) ({ cls := "HandUnderTheChin$Diver", name := "bears", desc := "()I" } : Jvm.MethodName)) ∈ lw_all := lw_g (lw_at lw_m3 9 rfl) rfl
theorem q568 : (Jvm.Cond.instanceMethod ({ cls := "HandUnderTheChin$Diver", name := "bears", desc := "()I" } : Jvm.MethodName)) ∈ lw_all := lw_g (lw_at lw_m3 10 rfl) rfl
theorem q569 : (Jvm.Cond.code ({ cls := "HandUnderTheChin$Diver", name := "bears", desc := "()I" } : Jvm.MethodName) prog_8_method_4_code (1 : Nat) (Option.some Jvm.ClassFile.FieldType.int)) ∈ lw_all := lw_g (lw_at lw_m3 11 rfl) rfl
theorem q606 : (Jvm.Cond.selects "HandUnderTheChin$Diver" ({ cls := "HandUnderTheChin$Child", name := "kind", desc := "()I" } : Jvm.MethodName) ({ cls := "HandUnderTheChin$Diver", name := "kind", desc := "()I" } : Jvm.MethodName)) ∈ lw_all := lw_g (lw_at lw_m3 48 rfl) rfl
theorem q607 : (Jvm.Cond.instanceMethod ({ cls := "HandUnderTheChin$Diver", name := "kind", desc := "()I" } : Jvm.MethodName)) ∈ lw_all := lw_g (lw_at lw_m3 49 rfl) rfl
theorem q608 : (Jvm.Cond.code ({ cls := "HandUnderTheChin$Diver", name := "kind", desc := "()I" } : Jvm.MethodName) prog_8_method_2_code (1 : Nat) (Option.some Jvm.ClassFile.FieldType.int)) ∈ lw_all := lw_g (lw_at lw_m3 50 rfl) rfl
theorem q1048 : (Jvm.Cond.selects "HandUnderTheChin$Diver" ({ cls := "HandUnderTheChin$Child", name := "cost", desc := "()I" } : Jvm.MethodName) ({ cls := "HandUnderTheChin$Diver", name := "cost", desc := "()I" } : Jvm.MethodName)) ∈ lw_all := lw_g (lw_at lw_m5 10 rfl) rfl
theorem q1049 : (Jvm.Cond.instanceMethod ({ cls := "HandUnderTheChin$Diver", name := "cost", desc := "()I" } : Jvm.MethodName)) ∈ lw_all := lw_g (lw_at lw_m5 11 rfl) rfl
theorem q1050 : (Jvm.Cond.code ({ cls := "HandUnderTheChin$Diver", name := "cost", desc := "()I" } : Jvm.MethodName) prog_8_method_5_code (1 : Nat) (Option.some Jvm.ClassFile.FieldType.int)) ∈ lw_all := lw_g (lw_at lw_m5 12 rfl) rfl
theorem q1051 : (Jvm.Cond.methodLink "HandUnderTheChin$Diver" (11 : Nat) ({ cls := "HandUnderTheChin$Bold", name := "cost", desc := "()I" } : Jvm.MethodName)) ∈ lw_all := lw_g (lw_at lw_m5 13 rfl) rfl
theorem q1104 : (Jvm.Cond.selects "HandUnderTheChin$Diver" ({ cls := "HandUnderTheChin$Child", name := "failure", desc := "()LHandUnderTheChin$Tossed;" } : Jvm.MethodName) ({ cls := "HandUnderTheChin$Diver", name := "failure", desc := "()LHandUnderTheChin$Tossed;" } : Jvm.MethodName)) ∈ lw_all := lw_g (lw_at lw_m5 66 rfl) rfl
theorem q1105 : (Jvm.Cond.instanceMethod ({ cls := "HandUnderTheChin$Diver", name := "failure", desc := "()LHandUnderTheChin$Tossed;" } : Jvm.MethodName)) ∈ lw_all := lw_g (lw_at lw_m5 67 rfl) rfl
theorem q1106 : (Jvm.Cond.code ({ cls := "HandUnderTheChin$Diver", name := "failure", desc := "()LHandUnderTheChin$Tossed;" } : Jvm.MethodName) prog_8_method_6_code (1 : Nat) (Option.some (Jvm.ClassFile.FieldType.object "HandUnderTheChin$Tossed"))) ∈ lw_all := lw_g (lw_at lw_m5 68 rfl) rfl
theorem q1107 : (Jvm.Cond.methodLink "HandUnderTheChin$Diver" (15 : Nat) ({ cls := "HandUnderTheChin$Bold", name := "failure", desc := "()LHandUnderTheChin$Tossed;" } : Jvm.MethodName)) ∈ lw_all := lw_g (lw_at lw_m5 69 rfl) rfl
theorem q1108 : (Jvm.Cond.classLink "HandUnderTheChin$Diver" (19 : Nat) "HandUnderTheChin$Tossed") ∈ lw_all := lw_g (lw_at lw_m5 70 rfl) rfl
theorem q1109 : (Jvm.Cond.methodLink "HandUnderTheChin$Diver" (21 : Nat) ({ cls := "HandUnderTheChin$Diver", name := "cost", desc := "()I" } : Jvm.MethodName)) ∈ lw_all := lw_g (lw_at lw_m5 71 rfl) rfl
theorem q1110 : (Jvm.Cond.methodLink "HandUnderTheChin$Diver" (24 : Nat) ({ cls := "HandUnderTheChin$Tossed", name := "<init>", desc := "(I)V" } : Jvm.MethodName)) ∈ lw_all := lw_g (lw_at lw_m5 72 rfl) rfl
theorem q1671 : (Jvm.Cond.selects "HandUnderTheChin$Diver" ({ cls := "HandUnderTheChin$Diver", name := "cost", desc := "()I" } : Jvm.MethodName) ({ cls := "HandUnderTheChin$Diver", name := "cost", desc := "()I" } : Jvm.MethodName)) ∈ lw_all := lw_g (lw_at lw_m7 153 rfl) rfl
theorem q1678 : (Jvm.Cond.castable "HandUnderTheChin$Diver" "HandUnderTheChin$Child") ∈ lw_tbl := lw_at lw_m7 160 rfl
theorem in_X15 : ∀ w ∈ wsX150, w ∈ lw_all := lw_in wsX150 [403] (by decide +kernel) (by decide +kernel)
/-! HandUnderTheChin$Tossed -/
set_option maxRecDepth 100000
def RX16 : String := "HandUnderTheChin$Tossed"
def TX16 : u_T := fun k => match k with
  | 0 => ("java/lang/Throwable", "cause", "Ljava/lang/Throwable;", false)
  | 1 => ("java/lang/Throwable", "stackTrace", "[Ljava/lang/StackTraceElement;", false)
  | 2 => ("java/lang/Throwable", "suppressedExceptions", "Ljava/util/List;", false)
  | 3 => ("java/lang/Throwable", "detailMessage", "Ljava/lang/String;", false)
  | 4 => ("java/lang/Throwable", "backtrace", "Ljava/lang/Object;", false)
  | 5 => ("java/lang/Throwable", "depth", "I", false)
  | _ => ("HandUnderTheChin$Tossed", "n", "I", true)
def tyX16 : Nat → FieldType := fun k => match k with
  | 0 => .object "java/lang/Throwable"
  | 1 => .array (.object "java/lang/StackTraceElement")
  | 2 => .object "java/util/List"
  | 3 => .object "java/lang/String"
  | 4 => .object "java/lang/Object"
  | 5 => .int
  | _ => .int
abbrev wsX160 : List Cond := u_ws RX16 TX16 7
theorem nmX16 : ∀ a, a < 7 → ∀ b, b < 7 → a ≠ b → (TX16 a).2.1 ≠ (TX16 b).2.1 := by decide +kernel
theorem tyX16_ok : ∀ k, k < 7 → parseFieldDescriptor (TX16 k).2.2.1 = some (tyX16 k) := by decide +kernel
abbrev cX16_init : ByteArray := prog_17_method_1_code
def yX16_init : MethodName := ⟨RX16, "<init>", "(I)V"⟩
def dkwX16_init_0 : List UInt8 := [42, 183, 0, 1, 42, 27, 181, 0, 7, 177]
abbrev dktX16_init_0 : List UInt8 := dkwX16_init_0 ++ []
theorem dksX16_init_0 : cX16_init.data.toList.drop 0 = dktX16_init_0 := by decide +kernel
theorem dX16_init_0 : decode cX16_init 0 = .ok (.aload_n 0, 1) := dk_42 (dk_at dksX16_init_0 0 rfl rfl)
theorem dX16_init_1 : decode cX16_init 1 = .ok (.invokespecial 1, 3) := dk_183 0 1 (dk_at dksX16_init_0 1 rfl rfl)
theorem dX16_init_4 : decode cX16_init 4 = .ok (.aload_n 0, 1) := dk_42 (dk_at dksX16_init_0 4 rfl rfl)
theorem dX16_init_5 : decode cX16_init 5 = .ok (.iload_n 1, 1) := dk_27 (dk_at dksX16_init_0 5 rfl rfl)
theorem dX16_init_6 : decode cX16_init 6 = .ok (.putfield 7, 3) := dk_181 0 7 (dk_at dksX16_init_0 6 rfl rfl)
theorem dX16_init_9 : decode cX16_init 9 = .ok (.return_, 1) := dk_177 (dk_at dksX16_init_0 9 rfl rfl)
theorem q108 : (Jvm.Cond.initialized "HandUnderTheChin$Tossed") ∈ lw_all := lw_g (lw_at lw_m1 30 rfl) rfl
theorem q137 : (Jvm.Cond.selects "HandUnderTheChin$Tossed" ({ cls := "java/lang/Throwable", name := "fillInStackTrace", desc := "()Ljava/lang/Throwable;" } : Jvm.MethodName) ({ cls := "java/lang/Throwable", name := "fillInStackTrace", desc := "()Ljava/lang/Throwable;" } : Jvm.MethodName)) ∈ lw_all := lw_g (lw_at lw_m1 59 rfl) rfl
theorem q1080 : (Jvm.Cond.instantiable "HandUnderTheChin$Tossed" (7 : Nat)) ∈ lw_all := lw_g (lw_at lw_m5 42 rfl) rfl
theorem q1081 : (Jvm.Cond.castable "HandUnderTheChin$Tossed" "HandUnderTheChin$Tossed") ∈ lw_tbl := lw_at lw_m5 43 rfl
theorem q1082 : (Jvm.Cond.selects "HandUnderTheChin$Tossed" ({ cls := "java/lang/Throwable", name := "fillInStackTrace", desc := "(I)Ljava/lang/Throwable;" } : Jvm.MethodName) ({ cls := "java/lang/Throwable", name := "fillInStackTrace", desc := "(I)Ljava/lang/Throwable;" } : Jvm.MethodName)) ∈ lw_all := lw_g (lw_at lw_m5 44 rfl) rfl
theorem q1083 : (Jvm.Cond.lays "HandUnderTheChin$Tossed" "java/lang/Throwable" "cause" "Ljava/lang/Throwable;") ∈ lw_all := lw_g (lw_at lw_m5 45 rfl) rfl
theorem q1084 : (Jvm.Cond.lays "HandUnderTheChin$Tossed" "java/lang/Throwable" "stackTrace" "[Ljava/lang/StackTraceElement;") ∈ lw_all := lw_g (lw_at lw_m5 46 rfl) rfl
theorem q1085 : (Jvm.Cond.lays "HandUnderTheChin$Tossed" "java/lang/Throwable" "suppressedExceptions" "Ljava/util/List;") ∈ lw_all := lw_g (lw_at lw_m5 47 rfl) rfl
theorem q1086 : (Jvm.Cond.lays "HandUnderTheChin$Tossed" "java/lang/Throwable" "detailMessage" "Ljava/lang/String;") ∈ lw_all := lw_g (lw_at lw_m5 48 rfl) rfl
theorem q1087 : (Jvm.Cond.lays "HandUnderTheChin$Tossed" "java/lang/Throwable" "backtrace" "Ljava/lang/Object;") ∈ lw_all := lw_g (lw_at lw_m5 49 rfl) rfl
theorem q1089 : (Jvm.Cond.instanceMethod ({ cls := "HandUnderTheChin$Tossed", name := "<init>", desc := "(I)V" } : Jvm.MethodName)) ∈ lw_all := lw_g (lw_at lw_m5 51 rfl) rfl
theorem q1090 : (Jvm.Cond.code ({ cls := "HandUnderTheChin$Tossed", name := "<init>", desc := "(I)V" } : Jvm.MethodName) prog_17_method_1_code (2 : Nat) (Option.none : Option Jvm.ClassFile.FieldType)) ∈ lw_all := lw_g (lw_at lw_m5 52 rfl) rfl
theorem q1091 : (Jvm.Cond.methodLink "HandUnderTheChin$Tossed" (1 : Nat) ({ cls := "java/lang/RuntimeException", name := "<init>", desc := "()V" } : Jvm.MethodName)) ∈ lw_all := lw_g (lw_at lw_m5 53 rfl) rfl
theorem q1092 : (Jvm.Cond.fieldLink "HandUnderTheChin$Tossed" (7 : Nat) "HandUnderTheChin$Tossed" "n" "I") ∈ lw_all := lw_g (lw_at lw_m5 54 rfl) rfl
theorem q1095 : (Jvm.Cond.laysFinal "HandUnderTheChin$Tossed" "HandUnderTheChin$Tossed" "n" "I") ∈ lw_all := lw_g (lw_at lw_m5 57 rfl) rfl
theorem q1096 : (Jvm.Cond.soleField "HandUnderTheChin$Tossed" "n") ∈ lw_all := lw_g (lw_at lw_m5 58 rfl) rfl
theorem q1097 : (Jvm.Cond.lays "HandUnderTheChin$Tossed" "java/lang/Throwable" "depth" "I") ∈ lw_all := lw_g (lw_at lw_m5 59 rfl) rfl
theorem q1098 : (Jvm.Cond.superclass "HandUnderTheChin$Tossed" "java/lang/RuntimeException") ∈ lw_all := lw_g (lw_at lw_m5 60 rfl) rfl
theorem in_X16 : ∀ w ∈ wsX160, w ∈ lw_all := lw_in wsX160 [1083, 1084, 1085, 1086, 1087, 1097, 1095] (by decide +kernel) (by decide +kernel)
/-! HandUnderTheChin$Trusts -/
set_option maxRecDepth 100000
def RX17 : String := "HandUnderTheChin$Trusts"
abbrev cX17_holds : ByteArray := prog_18_method_1_code
def yX17_holds : MethodName := ⟨RX17, "holds", "()I"⟩
theorem dX17_holds_0 : decode cX17_holds 0 = .ok (.iconst 2, 1) := by decide +kernel
theorem dX17_holds_1 : decode cX17_holds 1 = .ok (.ireturn, 1) := by decide +kernel
theorem q425 : (Jvm.Cond.declares ({ cls := "HandUnderTheChin$Trusts", name := "holds", desc := "()I" } : Jvm.MethodName)) ∈ lw_tbl := lw_at lw_m2 107 rfl
theorem q429 : (Jvm.Cond.instanceMethod ({ cls := "HandUnderTheChin$Trusts", name := "holds", desc := "()I" } : Jvm.MethodName)) ∈ lw_all := lw_g (lw_at lw_m2 111 rfl) rfl
theorem q430 : (Jvm.Cond.code ({ cls := "HandUnderTheChin$Trusts", name := "holds", desc := "()I" } : Jvm.MethodName) prog_18_method_1_code (1 : Nat) (Option.some Jvm.ClassFile.FieldType.int)) ∈ lw_all := lw_g (lw_at lw_m2 112 rfl) rfl
theorem q445 : (Jvm.Cond.publicMethod ({ cls := "HandUnderTheChin$Trusts", name := "holds", desc := "()I" } : Jvm.MethodName)) ∈ lw_tbl := lw_at lw_m2 127 rfl
theorem q1672 : (Jvm.Cond.initialized "HandUnderTheChin$Trusts") ∈ lw_all := lw_g (lw_at lw_m7 154 rfl) rfl
/-! HandUnderTheChin$Passes -/
set_option maxRecDepth 100000
def RX18 : String := "HandUnderTheChin$Passes"
abbrev cX18_passes : ByteArray := prog_12_method_1_code
def yX18_passes : MethodName := ⟨RX18, "passes", "()I"⟩
theorem dX18_passes_0 : decode cX18_passes 0 = .ok (.iconst 1, 1) := by decide +kernel
theorem dX18_passes_1 : decode cX18_passes 1 = .ok (.ireturn, 1) := by decide +kernel
theorem q496 : (Jvm.Cond.declares ({ cls := "HandUnderTheChin$Passes", name := "passes", desc := "()I" } : Jvm.MethodName)) ∈ lw_tbl := lw_at lw_m2 178 rfl
theorem q506 : (Jvm.Cond.instanceMethod ({ cls := "HandUnderTheChin$Passes", name := "passes", desc := "()I" } : Jvm.MethodName)) ∈ lw_all := lw_g (lw_at lw_m2 188 rfl) rfl
theorem q507 : (Jvm.Cond.code ({ cls := "HandUnderTheChin$Passes", name := "passes", desc := "()I" } : Jvm.MethodName) prog_12_method_1_code (1 : Nat) (Option.some Jvm.ClassFile.FieldType.int)) ∈ lw_all := lw_g (lw_at lw_m2 189 rfl) rfl
theorem q513 : (Jvm.Cond.publicMethod ({ cls := "HandUnderTheChin$Passes", name := "passes", desc := "()I" } : Jvm.MethodName)) ∈ lw_tbl := lw_at lw_m2 195 rfl
theorem q1673 : (Jvm.Cond.initialized "HandUnderTheChin$Passes") ∈ lw_all := lw_g (lw_at lw_m7 155 rfl) rfl
/-! HandUnderTheChin$Fears -/
set_option maxRecDepth 100000
def RX19 : String := "HandUnderTheChin$Fears"
abbrev cX19_fright : ByteArray := prog_10_method_1_code
def yX19_fright : MethodName := ⟨RX19, "fright", "()I"⟩
theorem dX19_fright_0 : decode cX19_fright 0 = .ok (.iconst 3, 1) := by decide +kernel
theorem dX19_fright_1 : decode cX19_fright 1 = .ok (.ireturn, 1) := by decide +kernel
abbrev cX19_bears : ByteArray := prog_10_method_2_code
def yX19_bears : MethodName := ⟨RX19, "bears", "()I"⟩
theorem dX19_bears_0 : decode cX19_bears 0 = .ok (.iconst 5, 1) := by decide +kernel
theorem dX19_bears_1 : decode cX19_bears 1 = .ok (.ireturn, 1) := by decide +kernel
theorem q523 : (Jvm.Cond.declares ({ cls := "HandUnderTheChin$Fears", name := "fright", desc := "()I" } : Jvm.MethodName)) ∈ lw_tbl := lw_at lw_m2 205 rfl
theorem q527 : (Jvm.Cond.instanceMethod ({ cls := "HandUnderTheChin$Fears", name := "fright", desc := "()I" } : Jvm.MethodName)) ∈ lw_all := lw_g (lw_at lw_m2 209 rfl) rfl
theorem q528 : (Jvm.Cond.code ({ cls := "HandUnderTheChin$Fears", name := "fright", desc := "()I" } : Jvm.MethodName) prog_10_method_1_code (1 : Nat) (Option.some Jvm.ClassFile.FieldType.int)) ∈ lw_all := lw_g (lw_at lw_m2 210 rfl) rfl
theorem q543 : (Jvm.Cond.publicMethod ({ cls := "HandUnderTheChin$Fears", name := "fright", desc := "()I" } : Jvm.MethodName)) ∈ lw_tbl := lw_at lw_m2 225 rfl
theorem q557 : (Jvm.Cond.declares ({ cls := "HandUnderTheChin$Fears", name := "bears", desc := "()I" } : Jvm.MethodName)) ∈ lw_tbl := lw_at lw_m2 239 rfl
theorem q561 : (Jvm.Cond.instanceMethod ({ cls := "HandUnderTheChin$Fears", name := "bears", desc := "()I" } : Jvm.MethodName)) ∈ lw_all := lw_g (lw_at lw_m3 3 rfl) rfl
theorem q562 : (Jvm.Cond.code ({ cls := "HandUnderTheChin$Fears", name := "bears", desc := "()I" } : Jvm.MethodName) prog_10_method_2_code (1 : Nat) (Option.some Jvm.ClassFile.FieldType.int)) ∈ lw_all := lw_g (lw_at lw_m3 4 rfl) rfl
theorem q574 : (Jvm.Cond.publicMethod ({ cls := "HandUnderTheChin$Fears", name := "bears", desc := "()I" } : Jvm.MethodName)) ∈ lw_tbl := lw_at lw_m3 16 rfl
theorem q1674 : (Jvm.Cond.initialized "HandUnderTheChin$Fears") ∈ lw_all := lw_g (lw_at lw_m7 156 rfl) rfl
/-! the law's own entry -/
set_option maxRecDepth 100000
abbrev cL_law : ByteArray := code
def dkwL_law_59 : List UInt8 := [4, 96, 46, 182, 0, 185, 159, 0, 5, 3, 172, 132, 4, 6, 167, 250, 18, 4, 172]
abbrev dktL_law_59 : List UInt8 := dkwL_law_59 ++ []
def dkwL_law_58 : List UInt8 := [96, 46, 182, 0, 181, 159, 0, 30, 3, 172, 43, 42, 21, 4, 4, 96, 46, 182, 0, 182, 44, 42, 21, 4]
abbrev dktL_law_58 : List UInt8 := dkwL_law_58 ++ dktL_law_59
def dkwL_law_57 : List UInt8 := [46, 182, 0, 177, 159, 0, 55, 3, 172, 43, 42, 21, 4, 4, 96, 46, 182, 0, 178, 44, 42, 21, 4, 4]
abbrev dktL_law_57 : List UInt8 := dkwL_law_57 ++ dktL_law_58
def dkwL_law_56 : List UInt8 := [46, 42, 21, 4, 5, 96, 46, 42, 21, 4, 6, 96, 46, 42, 21, 4, 7, 96, 46, 42, 21, 4, 8, 96]
abbrev dktL_law_56 : List UInt8 := dkwL_law_56 ++ dktL_law_57
def dkwL_law_55 : List UInt8 := [6, 96, 46, 42, 21, 4, 7, 96, 46, 42, 21, 4, 8, 96, 46, 182, 0, 173, 44, 42, 21, 4, 4, 96]
abbrev dktL_law_55 : List UInt8 := dkwL_law_55 ++ dktL_law_56
def dkwL_law_54 : List UInt8 := [153, 0, 5, 3, 172, 167, 0, 126, 43, 42, 21, 4, 4, 96, 46, 42, 21, 4, 5, 96, 46, 42, 21, 4]
abbrev dktL_law_54 : List UInt8 := dkwL_law_54 ++ dktL_law_55
def dkwL_law_53 : List UInt8 := [44, 182, 0, 170, 21, 5, 159, 0, 5, 3, 172, 21, 5, 154, 0, 14, 45, 3, 47, 22, 6, 148]
abbrev dktL_law_53 : List UInt8 := dkwL_law_53 ++ dktL_law_54
def dkwL_law_52 : List UInt8 := [45, 184, 0, 164, 54, 5, 44, 42, 21, 4, 4, 96, 46, 42, 21, 4, 5, 96, 46, 182, 0, 169, 55, 6]
abbrev dktL_law_52 : List UInt8 := dkwL_law_52 ++ dktL_law_53
def dkwL_law_51 : List UInt8 := [6, 96, 46, 182, 0, 163, 159, 0, 195, 3, 172, 43, 42, 21, 4, 4, 96, 46, 42, 21, 4, 5, 96, 46]
abbrev dktL_law_51 : List UInt8 := dkwL_law_51 ++ dktL_law_52
def dkwL_law_50 : List UInt8 := [21, 4, 6, 96, 46, 182, 0, 160, 44, 42, 21, 4, 4, 96, 46, 42, 21, 4, 5, 96, 46, 42, 21, 4]
abbrev dktL_law_50 : List UInt8 := dkwL_law_50 ++ dktL_law_51
def dkwL_law_49 : List UInt8 := [46, 182, 0, 159, 159, 0, 244, 3, 172, 43, 42, 21, 4, 4, 96, 46, 42, 21, 4, 5, 96, 46, 42]
abbrev dktL_law_49 : List UInt8 := dkwL_law_49 ++ dktL_law_50
def dkwL_law_48 : List UInt8 := [6, 96, 46, 182, 0, 156, 44, 42, 21, 4, 4, 96, 46, 42, 21, 4, 5, 96, 46, 42, 21, 4, 6, 96]
abbrev dktL_law_48 : List UInt8 := dkwL_law_48 ++ dktL_law_49
def dkwL_law_47 : List UInt8 := [182, 0, 155, 159, 1, 37, 3, 172, 43, 42, 21, 4, 4, 96, 46, 42, 21, 4, 5, 96, 46, 42, 21, 4]
abbrev dktL_law_47 : List UInt8 := dkwL_law_47 ++ dktL_law_48
def dkwL_law_46 : List UInt8 := [21, 4, 4, 96, 46, 42, 21, 4, 5, 96, 46, 42, 21, 4, 6, 96, 46, 42, 21, 4, 7, 96, 46]
abbrev dktL_law_46 : List UInt8 := dkwL_law_46 ++ dktL_law_47
def dkwL_law_45 : List UInt8 := [46, 42, 21, 4, 5, 96, 46, 42, 21, 4, 6, 96, 46, 42, 21, 4, 7, 96, 46, 182, 0, 152, 44, 42]
abbrev dktL_law_45 : List UInt8 := dkwL_law_45 ++ dktL_law_46
def dkwL_law_44 : List UInt8 := [182, 0, 148, 44, 42, 21, 4, 4, 96, 46, 182, 0, 151, 159, 1, 98, 3, 172, 43, 42, 21, 4, 4, 96]
abbrev dktL_law_44 : List UInt8 := dkwL_law_44 ++ dktL_law_45
def dkwL_law_43 : List UInt8 := [3, 172, 43, 182, 0, 144, 44, 182, 0, 147, 159, 1, 123, 3, 172, 43, 42, 21, 4, 4, 96, 46]
abbrev dktL_law_43 : List UInt8 := dkwL_law_43 ++ dktL_law_44
def dkwL_law_42 : List UInt8 := [21, 4, 6, 96, 46, 182, 0, 139, 159, 1, 149, 3, 172, 43, 182, 0, 140, 44, 182, 0, 143, 159, 1, 136]
abbrev dktL_law_42 : List UInt8 := dkwL_law_42 ++ dktL_law_43
def dkwL_law_41 : List UInt8 := [42, 21, 4, 6, 96, 46, 182, 0, 136, 44, 42, 21, 4, 4, 96, 46, 42, 21, 4, 5, 96, 46, 42]
abbrev dktL_law_41 : List UInt8 := dkwL_law_41 ++ dktL_law_42
def dkwL_law_40 : List UInt8 := [5, 96, 46, 182, 0, 135, 159, 1, 198, 3, 172, 43, 42, 21, 4, 4, 96, 46, 42, 21, 4, 5, 96, 46]
abbrev dktL_law_40 : List UInt8 := dkwL_law_40 ++ dktL_law_41
def dkwL_law_39 : List UInt8 := [21, 4, 4, 96, 46, 42, 21, 4, 5, 96, 46, 182, 0, 132, 44, 42, 21, 4, 4, 96, 46, 42, 21, 4]
abbrev dktL_law_39 : List UInt8 := dkwL_law_39 ++ dktL_law_40
def dkwL_law_38 : List UInt8 := [4, 96, 46, 182, 0, 128, 44, 42, 21, 4, 4, 96, 46, 182, 0, 131, 159, 1, 235, 3, 172, 43, 42]
abbrev dktL_law_38 : List UInt8 := dkwL_law_38 ++ dktL_law_39
def dkwL_law_37 : List UInt8 := [46, 182, 0, 123, 44, 42, 21, 4, 4, 96, 46, 182, 0, 127, 148, 153, 2, 4, 3, 172, 43, 42, 21, 4]
abbrev dktL_law_37 : List UInt8 := dkwL_law_37 ++ dktL_law_38
def dkwL_law_36 : List UInt8 := [159, 2, 43, 3, 172, 43, 182, 0, 119, 44, 182, 0, 122, 159, 2, 30, 3, 172, 43, 42, 21, 4, 4, 96]
abbrev dktL_law_36 : List UInt8 := dkwL_law_36 ++ dktL_law_37
def dkwL_law_35 : List UInt8 := [21, 4, 5, 96, 46, 182, 0, 115, 44, 42, 21, 4, 4, 96, 46, 42, 21, 4, 5, 96, 46, 182, 0, 118]
abbrev dktL_law_35 : List UInt8 := dkwL_law_35 ++ dktL_law_36
def dkwL_law_34 : List UInt8 := [3, 172, 43, 182, 0, 111, 44, 182, 0, 114, 159, 2, 80, 3, 172, 43, 42, 21, 4, 4, 96, 46, 42]
abbrev dktL_law_34 : List UInt8 := dkwL_law_34 ++ dktL_law_35
def dkwL_law_33 : List UInt8 := [96, 46, 182, 0, 107, 44, 42, 21, 4, 4, 96, 46, 42, 21, 4, 5, 96, 46, 182, 0, 110, 159, 2, 93]
abbrev dktL_law_33 : List UInt8 := dkwL_law_33 ++ dktL_law_34
def dkwL_law_32 : List UInt8 := [21, 4, 5, 96, 46, 182, 0, 106, 159, 2, 130, 3, 172, 43, 42, 21, 4, 4, 96, 46, 42, 21, 4, 5]
abbrev dktL_law_32 : List UInt8 := dkwL_law_32 ++ dktL_law_33
def dkwL_law_31 : List UInt8 := [42, 21, 4, 4, 96, 46, 42, 21, 4, 5, 96, 46, 182, 0, 103, 44, 42, 21, 4, 4, 96, 46, 42]
abbrev dktL_law_31 : List UInt8 := dkwL_law_31 ++ dktL_law_32
def dkwL_law_30 : List UInt8 := [5, 96, 46, 42, 21, 4, 6, 96, 46, 42, 21, 4, 7, 96, 46, 182, 0, 102, 159, 2, 167, 3, 172, 43]
abbrev dktL_law_30 : List UInt8 := dkwL_law_30 ++ dktL_law_31
def dkwL_law_29 : List UInt8 := [21, 4, 6, 96, 46, 42, 21, 4, 7, 96, 46, 182, 0, 98, 44, 42, 21, 4, 4, 96, 46, 42, 21, 4]
abbrev dktL_law_29 : List UInt8 := dkwL_law_29 ++ dktL_law_30
def dkwL_law_28 : List UInt8 := [46, 182, 0, 97, 148, 153, 2, 228, 3, 172, 43, 42, 21, 4, 4, 96, 46, 42, 21, 4, 5, 96, 46, 42]
abbrev dktL_law_28 : List UInt8 := dkwL_law_28 ++ dktL_law_29
def dkwL_law_27 : List UInt8 := [46, 42, 21, 4, 5, 96, 46, 42, 21, 4, 6, 96, 46, 42, 21, 4, 7, 96, 46, 42, 21, 4, 8, 96]
abbrev dktL_law_27 : List UInt8 := dkwL_law_27 ++ dktL_law_28
def dkwL_law_26 : List UInt8 := [6, 96, 46, 42, 21, 4, 7, 96, 46, 42, 21, 4, 8, 96, 46, 182, 0, 93, 44, 42, 21, 4, 4, 96]
abbrev dktL_law_26 : List UInt8 := dkwL_law_26 ++ dktL_law_27
def dkwL_law_25 : List UInt8 := [182, 0, 92, 159, 3, 46, 3, 172, 43, 42, 21, 4, 4, 96, 46, 42, 21, 4, 5, 96, 46, 42, 21, 4]
abbrev dktL_law_25 : List UInt8 := dkwL_law_25 ++ dktL_law_26
def dkwL_law_24 : List UInt8 := [182, 0, 89, 44, 42, 21, 4, 4, 96, 46, 42, 21, 4, 5, 96, 46, 42, 21, 4, 6, 96, 46]
abbrev dktL_law_24 : List UInt8 := dkwL_law_24 ++ dktL_law_25
def dkwL_law_23 : List UInt8 := [159, 3, 95, 3, 172, 43, 42, 21, 4, 4, 96, 46, 42, 21, 4, 5, 96, 46, 42, 21, 4, 6, 96, 46]
abbrev dktL_law_23 : List UInt8 := dkwL_law_23 ++ dktL_law_24
def dkwL_law_22 : List UInt8 := [3, 172, 43, 42, 21, 4, 4, 96, 46, 182, 0, 85, 44, 42, 21, 4, 4, 96, 46, 182, 0, 88]
abbrev dktL_law_22 : List UInt8 := dkwL_law_22 ++ dktL_law_23
def dkwL_law_21 : List UInt8 := [21, 4, 4, 96, 46, 182, 0, 80, 159, 3, 133, 3, 172, 43, 182, 0, 81, 44, 182, 0, 84, 159, 3, 120]
abbrev dktL_law_21 : List UInt8 := dkwL_law_21 ++ dktL_law_22
def dkwL_law_20 : List UInt8 := [182, 0, 73, 44, 182, 0, 76, 159, 3, 158, 3, 172, 43, 42, 21, 4, 4, 96, 46, 182, 0, 77, 44, 42]
abbrev dktL_law_20 : List UInt8 := dkwL_law_20 ++ dktL_law_21
def dkwL_law_19 : List UInt8 := [44, 42, 21, 4, 4, 96, 46, 42, 21, 4, 5, 96, 46, 182, 0, 72, 159, 3, 171, 3, 172, 43]
abbrev dktL_law_19 : List UInt8 := dkwL_law_19 ++ dktL_law_20
def dkwL_law_18 : List UInt8 := [182, 0, 68, 159, 3, 208, 3, 172, 43, 42, 21, 4, 4, 96, 46, 42, 21, 4, 5, 96, 46, 182, 0, 69]
abbrev dktL_law_18 : List UInt8 := dkwL_law_18 ++ dktL_law_19
def dkwL_law_17 : List UInt8 := [46, 42, 21, 4, 5, 96, 46, 182, 0, 65, 44, 42, 21, 4, 4, 96, 46, 42, 21, 4, 5, 96, 46]
abbrev dktL_law_17 : List UInt8 := dkwL_law_17 ++ dktL_law_18
def dkwL_law_16 : List UInt8 := [182, 0, 61, 44, 42, 21, 4, 4, 96, 46, 182, 0, 64, 159, 3, 245, 3, 172, 43, 42, 21, 4, 4, 96]
abbrev dktL_law_16 : List UInt8 := dkwL_law_16 ++ dktL_law_17
def dkwL_law_15 : List UInt8 := [46, 42, 21, 4, 5, 96, 46, 182, 0, 60, 159, 4, 14, 3, 172, 43, 42, 21, 4, 4, 96, 46]
abbrev dktL_law_15 : List UInt8 := dkwL_law_15 ++ dktL_law_16
def dkwL_law_14 : List UInt8 := [3, 172, 43, 42, 21, 4, 4, 96, 46, 42, 21, 4, 5, 96, 46, 182, 0, 57, 44, 42, 21, 4, 4, 96]
abbrev dktL_law_14 : List UInt8 := dkwL_law_14 ++ dktL_law_15
def dkwL_law_13 : List UInt8 := [21, 4, 4, 96, 46, 182, 0, 51, 159, 4, 64, 3, 172, 43, 182, 0, 52, 44, 182, 0, 56, 159, 4, 51]
abbrev dktL_law_13 : List UInt8 := dkwL_law_13 ++ dktL_law_14
def dkwL_law_12 : List UInt8 := [5, 96, 46, 182, 0, 47, 159, 4, 89, 3, 172, 43, 42, 21, 4, 4, 96, 46, 182, 0, 48, 44, 42]
abbrev dktL_law_12 : List UInt8 := dkwL_law_12 ++ dktL_law_13
def dkwL_law_11 : List UInt8 := [21, 4, 4, 96, 46, 42, 21, 4, 5, 96, 46, 182, 0, 44, 44, 42, 21, 4, 4, 96, 46, 42, 21, 4]
abbrev dktL_law_11 : List UInt8 := dkwL_law_11 ++ dktL_law_12
def dkwL_law_10 : List UInt8 := [44, 42, 21, 4, 4, 96, 46, 42, 21, 4, 5, 96, 46, 182, 0, 43, 159, 4, 126, 3, 172, 43, 42]
abbrev dktL_law_10 : List UInt8 := dkwL_law_10 ++ dktL_law_11
def dkwL_law_9 : List UInt8 := [182, 0, 39, 159, 4, 163, 3, 172, 43, 42, 21, 4, 4, 96, 46, 42, 21, 4, 5, 96, 46, 182, 0, 40]
abbrev dktL_law_9 : List UInt8 := dkwL_law_9 ++ dktL_law_10
def dkwL_law_8 : List UInt8 := [182, 0, 35, 44, 42, 21, 4, 4, 96, 46, 42, 21, 4, 5, 96, 46, 42, 21, 4, 6, 96, 46]
abbrev dktL_law_8 : List UInt8 := dkwL_law_8 ++ dktL_law_9
def dkwL_law_7 : List UInt8 := [159, 4, 212, 3, 172, 43, 42, 21, 4, 4, 96, 46, 42, 21, 4, 5, 96, 46, 42, 21, 4, 6, 96, 46]
abbrev dktL_law_7 : List UInt8 := dkwL_law_7 ++ dktL_law_8
def dkwL_law_6 : List UInt8 := [5, 96, 46, 182, 0, 31, 44, 42, 21, 4, 4, 96, 46, 42, 21, 4, 5, 96, 46, 182, 0, 34]
abbrev dktL_law_6 : List UInt8 := dkwL_law_6 ++ dktL_law_7
def dkwL_law_5 : List UInt8 := [42, 21, 4, 5, 96, 46, 182, 0, 30, 159, 4, 249, 3, 172, 43, 42, 21, 4, 4, 96, 46, 42, 21, 4]
abbrev dktL_law_5 : List UInt8 := dkwL_law_5 ++ dktL_law_6
def dkwL_law_4 : List UInt8 := [172, 43, 42, 21, 4, 4, 96, 46, 42, 21, 4, 5, 96, 46, 182, 0, 26, 44, 42, 21, 4, 4, 96, 46]
abbrev dktL_law_4 : List UInt8 := dkwL_law_4 ++ dktL_law_5
def dkwL_law_3 : List UInt8 := [43, 42, 21, 4, 4, 96, 46, 182, 0, 21, 44, 42, 21, 4, 4, 96, 46, 182, 0, 25, 159, 5, 30, 3]
abbrev dktL_law_3 : List UInt8 := dkwL_law_3 ++ dktL_law_4
def dkwL_law_2 : List UInt8 := [170, 0, 0, 0, 0, 0, 5, 218, 0, 0, 0, 0, 0, 0, 0, 37, 0, 0, 0, 168, 0, 0, 0, 193, 0, 0, 0, 230, 0, 0, 1, 11, 0, 0, 1, 60, 0, 0, 1, 97, 0, 0, 1, 134, 0, 0, 1, 159, 0, 0, 1, 172, 0, 0, 1, 209, 0, 0, 1, 234, 0, 0, 2, 15, 0, 0, 2, 52, 0, 0, 2, 65, 0, 0, 2, 90, 0, 0, 2, 103, 0, 0, 2, 128, 0, 0, 2, 177, 0, 0, 2, 251, 0, 0, 3, 56, 0, 0, 3, 93, 0, 0, 3, 130, 0, 0, 3, 143, 0, 0, 3, 180, 0, 0, 3, 193, 0, 0, 3, 219, 0, 0, 3, 244, 0, 0, 4, 25, 0, 0, 4, 74, 0, 0, 4, 87, 0, 0, 4, 100, 0, 0, 4, 125, 0, 0, 4, 186, 0, 0, 4, 235, 0, 0, 5, 28, 0, 0, 5, 95, 0, 0, 5, 168, 0, 0, 5, 193]
abbrev dktL_law_2 : List UInt8 := dkwL_law_2 ++ dktL_law_3
def dkwL_law_1 : List UInt8 := [21, 4, 42, 190, 16, 6, 100, 163, 5, 234, 42, 21, 4, 46, 16, 63, 126]
abbrev dktL_law_1 : List UInt8 := dkwL_law_1 ++ dktL_law_2
def dkwL_law_0 : List UInt8 := [187, 0, 8, 89, 183, 0, 17, 76, 187, 0, 18, 89, 183, 0, 20, 77, 4, 188, 11, 78, 3, 54, 4]
abbrev dktL_law_0 : List UInt8 := dkwL_law_0 ++ dktL_law_1
theorem dksL_law_0 : cL_law.data.toList.drop 0 = dktL_law_0 := by decide +kernel
theorem dksL_law_1 : cL_law.data.toList.drop 23 = dktL_law_1 := dk_seg dksL_law_0 23 rfl rfl
theorem dksL_law_2 : cL_law.data.toList.drop 40 = dktL_law_2 := dk_seg dksL_law_1 17 rfl rfl
theorem dksL_law_3 : cL_law.data.toList.drop 208 = dktL_law_3 := dk_seg dksL_law_2 168 rfl rfl
theorem dksL_law_4 : cL_law.data.toList.drop 232 = dktL_law_4 := dk_seg dksL_law_3 24 rfl rfl
theorem dksL_law_5 : cL_law.data.toList.drop 256 = dktL_law_5 := dk_seg dksL_law_4 24 rfl rfl
theorem dksL_law_6 : cL_law.data.toList.drop 280 = dktL_law_6 := dk_seg dksL_law_5 24 rfl rfl
theorem dksL_law_7 : cL_law.data.toList.drop 302 = dktL_law_7 := dk_seg dksL_law_6 22 rfl rfl
theorem dksL_law_8 : cL_law.data.toList.drop 326 = dktL_law_8 := dk_seg dksL_law_7 24 rfl rfl
theorem dksL_law_9 : cL_law.data.toList.drop 348 = dktL_law_9 := dk_seg dksL_law_8 22 rfl rfl
theorem dksL_law_10 : cL_law.data.toList.drop 372 = dktL_law_10 := dk_seg dksL_law_9 24 rfl rfl
theorem dksL_law_11 : cL_law.data.toList.drop 395 = dktL_law_11 := dk_seg dksL_law_10 23 rfl rfl
theorem dksL_law_12 : cL_law.data.toList.drop 419 = dktL_law_12 := dk_seg dksL_law_11 24 rfl rfl
theorem dksL_law_13 : cL_law.data.toList.drop 442 = dktL_law_13 := dk_seg dksL_law_12 23 rfl rfl
theorem dksL_law_14 : cL_law.data.toList.drop 466 = dktL_law_14 := dk_seg dksL_law_13 24 rfl rfl
theorem dksL_law_15 : cL_law.data.toList.drop 490 = dktL_law_15 := dk_seg dksL_law_14 24 rfl rfl
theorem dksL_law_16 : cL_law.data.toList.drop 512 = dktL_law_16 := dk_seg dksL_law_15 22 rfl rfl
theorem dksL_law_17 : cL_law.data.toList.drop 536 = dktL_law_17 := dk_seg dksL_law_16 24 rfl rfl
theorem dksL_law_18 : cL_law.data.toList.drop 559 = dktL_law_18 := dk_seg dksL_law_17 23 rfl rfl
theorem dksL_law_19 : cL_law.data.toList.drop 583 = dktL_law_19 := dk_seg dksL_law_18 24 rfl rfl
theorem dksL_law_20 : cL_law.data.toList.drop 605 = dktL_law_20 := dk_seg dksL_law_19 22 rfl rfl
theorem dksL_law_21 : cL_law.data.toList.drop 629 = dktL_law_21 := dk_seg dksL_law_20 24 rfl rfl
theorem dksL_law_22 : cL_law.data.toList.drop 653 = dktL_law_22 := dk_seg dksL_law_21 24 rfl rfl
theorem dksL_law_23 : cL_law.data.toList.drop 675 = dktL_law_23 := dk_seg dksL_law_22 22 rfl rfl
theorem dksL_law_24 : cL_law.data.toList.drop 699 = dktL_law_24 := dk_seg dksL_law_23 24 rfl rfl
theorem dksL_law_25 : cL_law.data.toList.drop 721 = dktL_law_25 := dk_seg dksL_law_24 22 rfl rfl
theorem dksL_law_26 : cL_law.data.toList.drop 745 = dktL_law_26 := dk_seg dksL_law_25 24 rfl rfl
theorem dksL_law_27 : cL_law.data.toList.drop 769 = dktL_law_27 := dk_seg dksL_law_26 24 rfl rfl
theorem dksL_law_28 : cL_law.data.toList.drop 793 = dktL_law_28 := dk_seg dksL_law_27 24 rfl rfl
theorem dksL_law_29 : cL_law.data.toList.drop 817 = dktL_law_29 := dk_seg dksL_law_28 24 rfl rfl
theorem dksL_law_30 : cL_law.data.toList.drop 841 = dktL_law_30 := dk_seg dksL_law_29 24 rfl rfl
theorem dksL_law_31 : cL_law.data.toList.drop 865 = dktL_law_31 := dk_seg dksL_law_30 24 rfl rfl
theorem dksL_law_32 : cL_law.data.toList.drop 888 = dktL_law_32 := dk_seg dksL_law_31 23 rfl rfl
theorem dksL_law_33 : cL_law.data.toList.drop 912 = dktL_law_33 := dk_seg dksL_law_32 24 rfl rfl
theorem dksL_law_34 : cL_law.data.toList.drop 936 = dktL_law_34 := dk_seg dksL_law_33 24 rfl rfl
theorem dksL_law_35 : cL_law.data.toList.drop 959 = dktL_law_35 := dk_seg dksL_law_34 23 rfl rfl
theorem dksL_law_36 : cL_law.data.toList.drop 983 = dktL_law_36 := dk_seg dksL_law_35 24 rfl rfl
theorem dksL_law_37 : cL_law.data.toList.drop 1007 = dktL_law_37 := dk_seg dksL_law_36 24 rfl rfl
theorem dksL_law_38 : cL_law.data.toList.drop 1031 = dktL_law_38 := dk_seg dksL_law_37 24 rfl rfl
theorem dksL_law_39 : cL_law.data.toList.drop 1054 = dktL_law_39 := dk_seg dksL_law_38 23 rfl rfl
theorem dksL_law_40 : cL_law.data.toList.drop 1078 = dktL_law_40 := dk_seg dksL_law_39 24 rfl rfl
theorem dksL_law_41 : cL_law.data.toList.drop 1102 = dktL_law_41 := dk_seg dksL_law_40 24 rfl rfl
theorem dksL_law_42 : cL_law.data.toList.drop 1125 = dktL_law_42 := dk_seg dksL_law_41 23 rfl rfl
theorem dksL_law_43 : cL_law.data.toList.drop 1149 = dktL_law_43 := dk_seg dksL_law_42 24 rfl rfl
theorem dksL_law_44 : cL_law.data.toList.drop 1171 = dktL_law_44 := dk_seg dksL_law_43 22 rfl rfl
theorem dksL_law_45 : cL_law.data.toList.drop 1195 = dktL_law_45 := dk_seg dksL_law_44 24 rfl rfl
theorem dksL_law_46 : cL_law.data.toList.drop 1219 = dktL_law_46 := dk_seg dksL_law_45 24 rfl rfl
theorem dksL_law_47 : cL_law.data.toList.drop 1242 = dktL_law_47 := dk_seg dksL_law_46 23 rfl rfl
theorem dksL_law_48 : cL_law.data.toList.drop 1266 = dktL_law_48 := dk_seg dksL_law_47 24 rfl rfl
theorem dksL_law_49 : cL_law.data.toList.drop 1290 = dktL_law_49 := dk_seg dksL_law_48 24 rfl rfl
theorem dksL_law_50 : cL_law.data.toList.drop 1313 = dktL_law_50 := dk_seg dksL_law_49 23 rfl rfl
theorem dksL_law_51 : cL_law.data.toList.drop 1337 = dktL_law_51 := dk_seg dksL_law_50 24 rfl rfl
theorem dksL_law_52 : cL_law.data.toList.drop 1361 = dktL_law_52 := dk_seg dksL_law_51 24 rfl rfl
theorem dksL_law_53 : cL_law.data.toList.drop 1385 = dktL_law_53 := dk_seg dksL_law_52 24 rfl rfl
theorem dksL_law_54 : cL_law.data.toList.drop 1407 = dktL_law_54 := dk_seg dksL_law_53 22 rfl rfl
theorem dksL_law_55 : cL_law.data.toList.drop 1431 = dktL_law_55 := dk_seg dksL_law_54 24 rfl rfl
theorem dksL_law_56 : cL_law.data.toList.drop 1455 = dktL_law_56 := dk_seg dksL_law_55 24 rfl rfl
theorem dksL_law_57 : cL_law.data.toList.drop 1479 = dktL_law_57 := dk_seg dksL_law_56 24 rfl rfl
theorem dksL_law_58 : cL_law.data.toList.drop 1503 = dktL_law_58 := dk_seg dksL_law_57 24 rfl rfl
theorem dksL_law_59 : cL_law.data.toList.drop 1527 = dktL_law_59 := dk_seg dksL_law_58 24 rfl rfl
theorem dL_law_0 : decode cL_law 0 = .ok (.new 8, 3) := dk_187 0 8 (dk_at dksL_law_0 0 rfl rfl)
theorem dL_law_3 : decode cL_law 3 = .ok (.dup, 1) := dk_89 (dk_at dksL_law_0 3 rfl rfl)
theorem dL_law_4 : decode cL_law 4 = .ok (.invokespecial 17, 3) := dk_183 0 17 (dk_at dksL_law_0 4 rfl rfl)
theorem dL_law_7 : decode cL_law 7 = .ok (.astore_n 1, 1) := dk_76 (dk_at dksL_law_0 7 rfl rfl)
theorem dL_law_8 : decode cL_law 8 = .ok (.new 18, 3) := dk_187 0 18 (dk_at dksL_law_0 8 rfl rfl)
theorem dL_law_11 : decode cL_law 11 = .ok (.dup, 1) := dk_89 (dk_at dksL_law_0 11 rfl rfl)
theorem dL_law_12 : decode cL_law 12 = .ok (.invokespecial 20, 3) := dk_183 0 20 (dk_at dksL_law_0 12 rfl rfl)
theorem dL_law_15 : decode cL_law 15 = .ok (.astore_n 2, 1) := dk_77 (dk_at dksL_law_0 15 rfl rfl)
theorem dL_law_16 : decode cL_law 16 = .ok (.iconst 1, 1) := dk_4 (dk_at dksL_law_0 16 rfl rfl)
theorem dL_law_17 : decode cL_law 17 = .ok (.newarray .long, 2) := dk_188_11 (dk_at dksL_law_0 17 rfl rfl)
theorem dL_law_19 : decode cL_law 19 = .ok (.astore_n 3, 1) := dk_78 (dk_at dksL_law_0 19 rfl rfl)
theorem dL_law_20 : decode cL_law 20 = .ok (.iconst 0, 1) := dk_3 (dk_at dksL_law_0 20 rfl rfl)
theorem dL_law_21 : decode cL_law 21 = .ok (.istore 4, 2) := dk_54 4 (dk_at dksL_law_0 21 rfl rfl)
theorem dL_law_23 : decode cL_law 23 = .ok (.iload 4, 2) := dk_21 4 (dk_at dksL_law_1 0 rfl rfl)
theorem dL_law_25 : decode cL_law 25 = .ok (.aload_n 0, 1) := dk_42 (dk_at dksL_law_1 2 rfl rfl)
theorem dL_law_26 : decode cL_law 26 = .ok (.arraylength, 1) := dk_190 (dk_at dksL_law_1 3 rfl rfl)
theorem dL_law_27 : decode cL_law 27 = .ok (.bipush 6, 2) := dk_16 6 (dk_at dksL_law_1 4 rfl rfl)
theorem dL_law_29 : decode cL_law 29 = .ok (.isub, 1) := dk_100 (dk_at dksL_law_1 6 rfl rfl)
theorem dL_law_30 : decode cL_law 30 = .ok (.if_icmp .gt 1514, 3) := dk_163 5 234 (dk_at dksL_law_1 7 rfl rfl)
theorem dL_law_33 : decode cL_law 33 = .ok (.aload_n 0, 1) := dk_42 (dk_at dksL_law_1 10 rfl rfl)
theorem dL_law_34 : decode cL_law 34 = .ok (.iload 4, 2) := dk_21 4 (dk_at dksL_law_1 11 rfl rfl)
theorem dL_law_36 : decode cL_law 36 = .ok (.iaload, 1) := dk_46 (dk_at dksL_law_1 13 rfl rfl)
theorem dL_law_37 : decode cL_law 37 = .ok (.bipush 63, 2) := dk_16 63 (dk_at dksL_law_1 14 rfl rfl)
theorem dL_law_39 : decode cL_law 39 = .ok (.iand, 1) := dk_126 (dk_at dksL_law_1 16 rfl rfl)
theorem dL_law_40 : decode cL_law 40 = .ok (.tableswitch 1498 0 37 #[168, 193, 230, 267, 316, 353, 390, 415, 428, 465, 490, 527, 564, 577, 602, 615, 640, 689, 763, 824, 861, 898, 911, 948, 961, 987, 1012, 1049, 1098, 1111, 1124, 1149, 1210, 1259, 1308, 1375, 1448, 1473], 168) := by decide +kernel
theorem dL_law_208 : decode cL_law 208 = .ok (.aload_n 1, 1) := dk_43 (dk_at dksL_law_3 0 rfl rfl)
theorem dL_law_209 : decode cL_law 209 = .ok (.aload_n 0, 1) := dk_42 (dk_at dksL_law_3 1 rfl rfl)
theorem dL_law_210 : decode cL_law 210 = .ok (.iload 4, 2) := dk_21 4 (dk_at dksL_law_3 2 rfl rfl)
theorem dL_law_212 : decode cL_law 212 = .ok (.iconst 1, 1) := dk_4 (dk_at dksL_law_3 4 rfl rfl)
theorem dL_law_213 : decode cL_law 213 = .ok (.iadd, 1) := dk_96 (dk_at dksL_law_3 5 rfl rfl)
theorem dL_law_214 : decode cL_law 214 = .ok (.iaload, 1) := dk_46 (dk_at dksL_law_3 6 rfl rfl)
theorem dL_law_215 : decode cL_law 215 = .ok (.invokevirtual 21, 3) := dk_182 0 21 (dk_at dksL_law_3 7 rfl rfl)
theorem dL_law_218 : decode cL_law 218 = .ok (.aload_n 2, 1) := dk_44 (dk_at dksL_law_3 10 rfl rfl)
theorem dL_law_219 : decode cL_law 219 = .ok (.aload_n 0, 1) := dk_42 (dk_at dksL_law_3 11 rfl rfl)
theorem dL_law_220 : decode cL_law 220 = .ok (.iload 4, 2) := dk_21 4 (dk_at dksL_law_3 12 rfl rfl)
theorem dL_law_222 : decode cL_law 222 = .ok (.iconst 1, 1) := dk_4 (dk_at dksL_law_3 14 rfl rfl)
theorem dL_law_223 : decode cL_law 223 = .ok (.iadd, 1) := dk_96 (dk_at dksL_law_3 15 rfl rfl)
theorem dL_law_224 : decode cL_law 224 = .ok (.iaload, 1) := dk_46 (dk_at dksL_law_3 16 rfl rfl)
theorem dL_law_225 : decode cL_law 225 = .ok (.invokevirtual 25, 3) := dk_182 0 25 (dk_at dksL_law_3 17 rfl rfl)
theorem dL_law_228 : decode cL_law 228 = .ok (.if_icmp .eq 1310, 3) := dk_159 5 30 (dk_at dksL_law_3 20 rfl rfl)
theorem dL_law_231 : decode cL_law 231 = .ok (.iconst 0, 1) := dk_3 (dk_at dksL_law_3 23 rfl rfl)
theorem dL_law_232 : decode cL_law 232 = .ok (.ireturn, 1) := dk_172 (dk_at dksL_law_4 0 rfl rfl)
theorem dL_law_233 : decode cL_law 233 = .ok (.aload_n 1, 1) := dk_43 (dk_at dksL_law_4 1 rfl rfl)
theorem dL_law_234 : decode cL_law 234 = .ok (.aload_n 0, 1) := dk_42 (dk_at dksL_law_4 2 rfl rfl)
theorem dL_law_235 : decode cL_law 235 = .ok (.iload 4, 2) := dk_21 4 (dk_at dksL_law_4 3 rfl rfl)
theorem dL_law_237 : decode cL_law 237 = .ok (.iconst 1, 1) := dk_4 (dk_at dksL_law_4 5 rfl rfl)
theorem dL_law_238 : decode cL_law 238 = .ok (.iadd, 1) := dk_96 (dk_at dksL_law_4 6 rfl rfl)
theorem dL_law_239 : decode cL_law 239 = .ok (.iaload, 1) := dk_46 (dk_at dksL_law_4 7 rfl rfl)
theorem dL_law_240 : decode cL_law 240 = .ok (.aload_n 0, 1) := dk_42 (dk_at dksL_law_4 8 rfl rfl)
theorem dL_law_241 : decode cL_law 241 = .ok (.iload 4, 2) := dk_21 4 (dk_at dksL_law_4 9 rfl rfl)
theorem dL_law_243 : decode cL_law 243 = .ok (.iconst 2, 1) := dk_5 (dk_at dksL_law_4 11 rfl rfl)
theorem dL_law_244 : decode cL_law 244 = .ok (.iadd, 1) := dk_96 (dk_at dksL_law_4 12 rfl rfl)
theorem dL_law_245 : decode cL_law 245 = .ok (.iaload, 1) := dk_46 (dk_at dksL_law_4 13 rfl rfl)
theorem dL_law_246 : decode cL_law 246 = .ok (.invokevirtual 26, 3) := dk_182 0 26 (dk_at dksL_law_4 14 rfl rfl)
theorem dL_law_249 : decode cL_law 249 = .ok (.aload_n 2, 1) := dk_44 (dk_at dksL_law_4 17 rfl rfl)
theorem dL_law_250 : decode cL_law 250 = .ok (.aload_n 0, 1) := dk_42 (dk_at dksL_law_4 18 rfl rfl)
theorem dL_law_251 : decode cL_law 251 = .ok (.iload 4, 2) := dk_21 4 (dk_at dksL_law_4 19 rfl rfl)
theorem dL_law_253 : decode cL_law 253 = .ok (.iconst 1, 1) := dk_4 (dk_at dksL_law_4 21 rfl rfl)
theorem dL_law_254 : decode cL_law 254 = .ok (.iadd, 1) := dk_96 (dk_at dksL_law_4 22 rfl rfl)
theorem dL_law_255 : decode cL_law 255 = .ok (.iaload, 1) := dk_46 (dk_at dksL_law_4 23 rfl rfl)
theorem dL_law_256 : decode cL_law 256 = .ok (.aload_n 0, 1) := dk_42 (dk_at dksL_law_5 0 rfl rfl)
theorem dL_law_257 : decode cL_law 257 = .ok (.iload 4, 2) := dk_21 4 (dk_at dksL_law_5 1 rfl rfl)
theorem dL_law_259 : decode cL_law 259 = .ok (.iconst 2, 1) := dk_5 (dk_at dksL_law_5 3 rfl rfl)
theorem dL_law_260 : decode cL_law 260 = .ok (.iadd, 1) := dk_96 (dk_at dksL_law_5 4 rfl rfl)
theorem dL_law_261 : decode cL_law 261 = .ok (.iaload, 1) := dk_46 (dk_at dksL_law_5 5 rfl rfl)
theorem dL_law_262 : decode cL_law 262 = .ok (.invokevirtual 30, 3) := dk_182 0 30 (dk_at dksL_law_5 6 rfl rfl)
theorem dL_law_265 : decode cL_law 265 = .ok (.if_icmp .eq 1273, 3) := dk_159 4 249 (dk_at dksL_law_5 9 rfl rfl)
theorem dL_law_268 : decode cL_law 268 = .ok (.iconst 0, 1) := dk_3 (dk_at dksL_law_5 12 rfl rfl)
theorem dL_law_269 : decode cL_law 269 = .ok (.ireturn, 1) := dk_172 (dk_at dksL_law_5 13 rfl rfl)
theorem dL_law_270 : decode cL_law 270 = .ok (.aload_n 1, 1) := dk_43 (dk_at dksL_law_5 14 rfl rfl)
theorem dL_law_271 : decode cL_law 271 = .ok (.aload_n 0, 1) := dk_42 (dk_at dksL_law_5 15 rfl rfl)
theorem dL_law_272 : decode cL_law 272 = .ok (.iload 4, 2) := dk_21 4 (dk_at dksL_law_5 16 rfl rfl)
theorem dL_law_274 : decode cL_law 274 = .ok (.iconst 1, 1) := dk_4 (dk_at dksL_law_5 18 rfl rfl)
theorem dL_law_275 : decode cL_law 275 = .ok (.iadd, 1) := dk_96 (dk_at dksL_law_5 19 rfl rfl)
theorem dL_law_276 : decode cL_law 276 = .ok (.iaload, 1) := dk_46 (dk_at dksL_law_5 20 rfl rfl)
theorem dL_law_277 : decode cL_law 277 = .ok (.aload_n 0, 1) := dk_42 (dk_at dksL_law_5 21 rfl rfl)
theorem dL_law_278 : decode cL_law 278 = .ok (.iload 4, 2) := dk_21 4 (dk_at dksL_law_5 22 rfl rfl)
theorem dL_law_280 : decode cL_law 280 = .ok (.iconst 2, 1) := dk_5 (dk_at dksL_law_6 0 rfl rfl)
theorem dL_law_281 : decode cL_law 281 = .ok (.iadd, 1) := dk_96 (dk_at dksL_law_6 1 rfl rfl)
theorem dL_law_282 : decode cL_law 282 = .ok (.iaload, 1) := dk_46 (dk_at dksL_law_6 2 rfl rfl)
theorem dL_law_283 : decode cL_law 283 = .ok (.invokevirtual 31, 3) := dk_182 0 31 (dk_at dksL_law_6 3 rfl rfl)
theorem dL_law_286 : decode cL_law 286 = .ok (.aload_n 2, 1) := dk_44 (dk_at dksL_law_6 6 rfl rfl)
theorem dL_law_287 : decode cL_law 287 = .ok (.aload_n 0, 1) := dk_42 (dk_at dksL_law_6 7 rfl rfl)
theorem dL_law_288 : decode cL_law 288 = .ok (.iload 4, 2) := dk_21 4 (dk_at dksL_law_6 8 rfl rfl)
theorem dL_law_290 : decode cL_law 290 = .ok (.iconst 1, 1) := dk_4 (dk_at dksL_law_6 10 rfl rfl)
theorem dL_law_291 : decode cL_law 291 = .ok (.iadd, 1) := dk_96 (dk_at dksL_law_6 11 rfl rfl)
theorem dL_law_292 : decode cL_law 292 = .ok (.iaload, 1) := dk_46 (dk_at dksL_law_6 12 rfl rfl)
theorem dL_law_293 : decode cL_law 293 = .ok (.aload_n 0, 1) := dk_42 (dk_at dksL_law_6 13 rfl rfl)
theorem dL_law_294 : decode cL_law 294 = .ok (.iload 4, 2) := dk_21 4 (dk_at dksL_law_6 14 rfl rfl)
theorem dL_law_296 : decode cL_law 296 = .ok (.iconst 2, 1) := dk_5 (dk_at dksL_law_6 16 rfl rfl)
theorem dL_law_297 : decode cL_law 297 = .ok (.iadd, 1) := dk_96 (dk_at dksL_law_6 17 rfl rfl)
theorem dL_law_298 : decode cL_law 298 = .ok (.iaload, 1) := dk_46 (dk_at dksL_law_6 18 rfl rfl)
theorem dL_law_299 : decode cL_law 299 = .ok (.invokevirtual 34, 3) := dk_182 0 34 (dk_at dksL_law_6 19 rfl rfl)
theorem dL_law_302 : decode cL_law 302 = .ok (.if_icmp .eq 1236, 3) := dk_159 4 212 (dk_at dksL_law_7 0 rfl rfl)
theorem dL_law_305 : decode cL_law 305 = .ok (.iconst 0, 1) := dk_3 (dk_at dksL_law_7 3 rfl rfl)
theorem dL_law_306 : decode cL_law 306 = .ok (.ireturn, 1) := dk_172 (dk_at dksL_law_7 4 rfl rfl)
theorem dL_law_307 : decode cL_law 307 = .ok (.aload_n 1, 1) := dk_43 (dk_at dksL_law_7 5 rfl rfl)
theorem dL_law_308 : decode cL_law 308 = .ok (.aload_n 0, 1) := dk_42 (dk_at dksL_law_7 6 rfl rfl)
theorem dL_law_309 : decode cL_law 309 = .ok (.iload 4, 2) := dk_21 4 (dk_at dksL_law_7 7 rfl rfl)
theorem dL_law_311 : decode cL_law 311 = .ok (.iconst 1, 1) := dk_4 (dk_at dksL_law_7 9 rfl rfl)
theorem dL_law_312 : decode cL_law 312 = .ok (.iadd, 1) := dk_96 (dk_at dksL_law_7 10 rfl rfl)
theorem dL_law_313 : decode cL_law 313 = .ok (.iaload, 1) := dk_46 (dk_at dksL_law_7 11 rfl rfl)
theorem dL_law_314 : decode cL_law 314 = .ok (.aload_n 0, 1) := dk_42 (dk_at dksL_law_7 12 rfl rfl)
theorem dL_law_315 : decode cL_law 315 = .ok (.iload 4, 2) := dk_21 4 (dk_at dksL_law_7 13 rfl rfl)
theorem dL_law_317 : decode cL_law 317 = .ok (.iconst 2, 1) := dk_5 (dk_at dksL_law_7 15 rfl rfl)
theorem dL_law_318 : decode cL_law 318 = .ok (.iadd, 1) := dk_96 (dk_at dksL_law_7 16 rfl rfl)
theorem dL_law_319 : decode cL_law 319 = .ok (.iaload, 1) := dk_46 (dk_at dksL_law_7 17 rfl rfl)
theorem dL_law_320 : decode cL_law 320 = .ok (.aload_n 0, 1) := dk_42 (dk_at dksL_law_7 18 rfl rfl)
theorem dL_law_321 : decode cL_law 321 = .ok (.iload 4, 2) := dk_21 4 (dk_at dksL_law_7 19 rfl rfl)
theorem dL_law_323 : decode cL_law 323 = .ok (.iconst 3, 1) := dk_6 (dk_at dksL_law_7 21 rfl rfl)
theorem dL_law_324 : decode cL_law 324 = .ok (.iadd, 1) := dk_96 (dk_at dksL_law_7 22 rfl rfl)
theorem dL_law_325 : decode cL_law 325 = .ok (.iaload, 1) := dk_46 (dk_at dksL_law_7 23 rfl rfl)
theorem dL_law_326 : decode cL_law 326 = .ok (.invokevirtual 35, 3) := dk_182 0 35 (dk_at dksL_law_8 0 rfl rfl)
theorem dL_law_329 : decode cL_law 329 = .ok (.aload_n 2, 1) := dk_44 (dk_at dksL_law_8 3 rfl rfl)
theorem dL_law_330 : decode cL_law 330 = .ok (.aload_n 0, 1) := dk_42 (dk_at dksL_law_8 4 rfl rfl)
theorem dL_law_331 : decode cL_law 331 = .ok (.iload 4, 2) := dk_21 4 (dk_at dksL_law_8 5 rfl rfl)
theorem dL_law_333 : decode cL_law 333 = .ok (.iconst 1, 1) := dk_4 (dk_at dksL_law_8 7 rfl rfl)
theorem dL_law_334 : decode cL_law 334 = .ok (.iadd, 1) := dk_96 (dk_at dksL_law_8 8 rfl rfl)
theorem dL_law_335 : decode cL_law 335 = .ok (.iaload, 1) := dk_46 (dk_at dksL_law_8 9 rfl rfl)
theorem dL_law_336 : decode cL_law 336 = .ok (.aload_n 0, 1) := dk_42 (dk_at dksL_law_8 10 rfl rfl)
theorem dL_law_337 : decode cL_law 337 = .ok (.iload 4, 2) := dk_21 4 (dk_at dksL_law_8 11 rfl rfl)
theorem dL_law_339 : decode cL_law 339 = .ok (.iconst 2, 1) := dk_5 (dk_at dksL_law_8 13 rfl rfl)
theorem dL_law_340 : decode cL_law 340 = .ok (.iadd, 1) := dk_96 (dk_at dksL_law_8 14 rfl rfl)
theorem dL_law_341 : decode cL_law 341 = .ok (.iaload, 1) := dk_46 (dk_at dksL_law_8 15 rfl rfl)
theorem dL_law_342 : decode cL_law 342 = .ok (.aload_n 0, 1) := dk_42 (dk_at dksL_law_8 16 rfl rfl)
theorem dL_law_343 : decode cL_law 343 = .ok (.iload 4, 2) := dk_21 4 (dk_at dksL_law_8 17 rfl rfl)
theorem dL_law_345 : decode cL_law 345 = .ok (.iconst 3, 1) := dk_6 (dk_at dksL_law_8 19 rfl rfl)
theorem dL_law_346 : decode cL_law 346 = .ok (.iadd, 1) := dk_96 (dk_at dksL_law_8 20 rfl rfl)
theorem dL_law_347 : decode cL_law 347 = .ok (.iaload, 1) := dk_46 (dk_at dksL_law_8 21 rfl rfl)
theorem dL_law_348 : decode cL_law 348 = .ok (.invokevirtual 39, 3) := dk_182 0 39 (dk_at dksL_law_9 0 rfl rfl)
theorem dL_law_351 : decode cL_law 351 = .ok (.if_icmp .eq 1187, 3) := dk_159 4 163 (dk_at dksL_law_9 3 rfl rfl)
theorem dL_law_354 : decode cL_law 354 = .ok (.iconst 0, 1) := dk_3 (dk_at dksL_law_9 6 rfl rfl)
theorem dL_law_355 : decode cL_law 355 = .ok (.ireturn, 1) := dk_172 (dk_at dksL_law_9 7 rfl rfl)
theorem dL_law_356 : decode cL_law 356 = .ok (.aload_n 1, 1) := dk_43 (dk_at dksL_law_9 8 rfl rfl)
theorem dL_law_357 : decode cL_law 357 = .ok (.aload_n 0, 1) := dk_42 (dk_at dksL_law_9 9 rfl rfl)
theorem dL_law_358 : decode cL_law 358 = .ok (.iload 4, 2) := dk_21 4 (dk_at dksL_law_9 10 rfl rfl)
theorem dL_law_360 : decode cL_law 360 = .ok (.iconst 1, 1) := dk_4 (dk_at dksL_law_9 12 rfl rfl)
theorem dL_law_361 : decode cL_law 361 = .ok (.iadd, 1) := dk_96 (dk_at dksL_law_9 13 rfl rfl)
theorem dL_law_362 : decode cL_law 362 = .ok (.iaload, 1) := dk_46 (dk_at dksL_law_9 14 rfl rfl)
theorem dL_law_363 : decode cL_law 363 = .ok (.aload_n 0, 1) := dk_42 (dk_at dksL_law_9 15 rfl rfl)
theorem dL_law_364 : decode cL_law 364 = .ok (.iload 4, 2) := dk_21 4 (dk_at dksL_law_9 16 rfl rfl)
theorem dL_law_366 : decode cL_law 366 = .ok (.iconst 2, 1) := dk_5 (dk_at dksL_law_9 18 rfl rfl)
theorem dL_law_367 : decode cL_law 367 = .ok (.iadd, 1) := dk_96 (dk_at dksL_law_9 19 rfl rfl)
theorem dL_law_368 : decode cL_law 368 = .ok (.iaload, 1) := dk_46 (dk_at dksL_law_9 20 rfl rfl)
theorem dL_law_369 : decode cL_law 369 = .ok (.invokevirtual 40, 3) := dk_182 0 40 (dk_at dksL_law_9 21 rfl rfl)
theorem dL_law_372 : decode cL_law 372 = .ok (.aload_n 2, 1) := dk_44 (dk_at dksL_law_10 0 rfl rfl)
theorem dL_law_373 : decode cL_law 373 = .ok (.aload_n 0, 1) := dk_42 (dk_at dksL_law_10 1 rfl rfl)
theorem dL_law_374 : decode cL_law 374 = .ok (.iload 4, 2) := dk_21 4 (dk_at dksL_law_10 2 rfl rfl)
theorem dL_law_376 : decode cL_law 376 = .ok (.iconst 1, 1) := dk_4 (dk_at dksL_law_10 4 rfl rfl)
theorem dL_law_377 : decode cL_law 377 = .ok (.iadd, 1) := dk_96 (dk_at dksL_law_10 5 rfl rfl)
theorem dL_law_378 : decode cL_law 378 = .ok (.iaload, 1) := dk_46 (dk_at dksL_law_10 6 rfl rfl)
theorem dL_law_379 : decode cL_law 379 = .ok (.aload_n 0, 1) := dk_42 (dk_at dksL_law_10 7 rfl rfl)
theorem dL_law_380 : decode cL_law 380 = .ok (.iload 4, 2) := dk_21 4 (dk_at dksL_law_10 8 rfl rfl)
theorem dL_law_382 : decode cL_law 382 = .ok (.iconst 2, 1) := dk_5 (dk_at dksL_law_10 10 rfl rfl)
theorem dL_law_383 : decode cL_law 383 = .ok (.iadd, 1) := dk_96 (dk_at dksL_law_10 11 rfl rfl)
theorem dL_law_384 : decode cL_law 384 = .ok (.iaload, 1) := dk_46 (dk_at dksL_law_10 12 rfl rfl)
theorem dL_law_385 : decode cL_law 385 = .ok (.invokevirtual 43, 3) := dk_182 0 43 (dk_at dksL_law_10 13 rfl rfl)
theorem dL_law_388 : decode cL_law 388 = .ok (.if_icmp .eq 1150, 3) := dk_159 4 126 (dk_at dksL_law_10 16 rfl rfl)
theorem dL_law_391 : decode cL_law 391 = .ok (.iconst 0, 1) := dk_3 (dk_at dksL_law_10 19 rfl rfl)
theorem dL_law_392 : decode cL_law 392 = .ok (.ireturn, 1) := dk_172 (dk_at dksL_law_10 20 rfl rfl)
theorem dL_law_393 : decode cL_law 393 = .ok (.aload_n 1, 1) := dk_43 (dk_at dksL_law_10 21 rfl rfl)
theorem dL_law_394 : decode cL_law 394 = .ok (.aload_n 0, 1) := dk_42 (dk_at dksL_law_10 22 rfl rfl)
theorem dL_law_395 : decode cL_law 395 = .ok (.iload 4, 2) := dk_21 4 (dk_at dksL_law_11 0 rfl rfl)
theorem dL_law_397 : decode cL_law 397 = .ok (.iconst 1, 1) := dk_4 (dk_at dksL_law_11 2 rfl rfl)
theorem dL_law_398 : decode cL_law 398 = .ok (.iadd, 1) := dk_96 (dk_at dksL_law_11 3 rfl rfl)
theorem dL_law_399 : decode cL_law 399 = .ok (.iaload, 1) := dk_46 (dk_at dksL_law_11 4 rfl rfl)
theorem dL_law_400 : decode cL_law 400 = .ok (.aload_n 0, 1) := dk_42 (dk_at dksL_law_11 5 rfl rfl)
theorem dL_law_401 : decode cL_law 401 = .ok (.iload 4, 2) := dk_21 4 (dk_at dksL_law_11 6 rfl rfl)
theorem dL_law_403 : decode cL_law 403 = .ok (.iconst 2, 1) := dk_5 (dk_at dksL_law_11 8 rfl rfl)
theorem dL_law_404 : decode cL_law 404 = .ok (.iadd, 1) := dk_96 (dk_at dksL_law_11 9 rfl rfl)
theorem dL_law_405 : decode cL_law 405 = .ok (.iaload, 1) := dk_46 (dk_at dksL_law_11 10 rfl rfl)
theorem dL_law_406 : decode cL_law 406 = .ok (.invokevirtual 44, 3) := dk_182 0 44 (dk_at dksL_law_11 11 rfl rfl)
theorem dL_law_409 : decode cL_law 409 = .ok (.aload_n 2, 1) := dk_44 (dk_at dksL_law_11 14 rfl rfl)
theorem dL_law_410 : decode cL_law 410 = .ok (.aload_n 0, 1) := dk_42 (dk_at dksL_law_11 15 rfl rfl)
theorem dL_law_411 : decode cL_law 411 = .ok (.iload 4, 2) := dk_21 4 (dk_at dksL_law_11 16 rfl rfl)
theorem dL_law_413 : decode cL_law 413 = .ok (.iconst 1, 1) := dk_4 (dk_at dksL_law_11 18 rfl rfl)
theorem dL_law_414 : decode cL_law 414 = .ok (.iadd, 1) := dk_96 (dk_at dksL_law_11 19 rfl rfl)
theorem dL_law_415 : decode cL_law 415 = .ok (.iaload, 1) := dk_46 (dk_at dksL_law_11 20 rfl rfl)
theorem dL_law_416 : decode cL_law 416 = .ok (.aload_n 0, 1) := dk_42 (dk_at dksL_law_11 21 rfl rfl)
theorem dL_law_417 : decode cL_law 417 = .ok (.iload 4, 2) := dk_21 4 (dk_at dksL_law_11 22 rfl rfl)
theorem dL_law_419 : decode cL_law 419 = .ok (.iconst 2, 1) := dk_5 (dk_at dksL_law_12 0 rfl rfl)
theorem dL_law_420 : decode cL_law 420 = .ok (.iadd, 1) := dk_96 (dk_at dksL_law_12 1 rfl rfl)
theorem dL_law_421 : decode cL_law 421 = .ok (.iaload, 1) := dk_46 (dk_at dksL_law_12 2 rfl rfl)
theorem dL_law_422 : decode cL_law 422 = .ok (.invokevirtual 47, 3) := dk_182 0 47 (dk_at dksL_law_12 3 rfl rfl)
theorem dL_law_425 : decode cL_law 425 = .ok (.if_icmp .eq 1113, 3) := dk_159 4 89 (dk_at dksL_law_12 6 rfl rfl)
theorem dL_law_428 : decode cL_law 428 = .ok (.iconst 0, 1) := dk_3 (dk_at dksL_law_12 9 rfl rfl)
theorem dL_law_429 : decode cL_law 429 = .ok (.ireturn, 1) := dk_172 (dk_at dksL_law_12 10 rfl rfl)
theorem dL_law_430 : decode cL_law 430 = .ok (.aload_n 1, 1) := dk_43 (dk_at dksL_law_12 11 rfl rfl)
theorem dL_law_431 : decode cL_law 431 = .ok (.aload_n 0, 1) := dk_42 (dk_at dksL_law_12 12 rfl rfl)
theorem dL_law_432 : decode cL_law 432 = .ok (.iload 4, 2) := dk_21 4 (dk_at dksL_law_12 13 rfl rfl)
theorem dL_law_434 : decode cL_law 434 = .ok (.iconst 1, 1) := dk_4 (dk_at dksL_law_12 15 rfl rfl)
theorem dL_law_435 : decode cL_law 435 = .ok (.iadd, 1) := dk_96 (dk_at dksL_law_12 16 rfl rfl)
theorem dL_law_436 : decode cL_law 436 = .ok (.iaload, 1) := dk_46 (dk_at dksL_law_12 17 rfl rfl)
theorem dL_law_437 : decode cL_law 437 = .ok (.invokevirtual 48, 3) := dk_182 0 48 (dk_at dksL_law_12 18 rfl rfl)
theorem dL_law_440 : decode cL_law 440 = .ok (.aload_n 2, 1) := dk_44 (dk_at dksL_law_12 21 rfl rfl)
theorem dL_law_441 : decode cL_law 441 = .ok (.aload_n 0, 1) := dk_42 (dk_at dksL_law_12 22 rfl rfl)
theorem dL_law_442 : decode cL_law 442 = .ok (.iload 4, 2) := dk_21 4 (dk_at dksL_law_13 0 rfl rfl)
theorem dL_law_444 : decode cL_law 444 = .ok (.iconst 1, 1) := dk_4 (dk_at dksL_law_13 2 rfl rfl)
theorem dL_law_445 : decode cL_law 445 = .ok (.iadd, 1) := dk_96 (dk_at dksL_law_13 3 rfl rfl)
theorem dL_law_446 : decode cL_law 446 = .ok (.iaload, 1) := dk_46 (dk_at dksL_law_13 4 rfl rfl)
theorem dL_law_447 : decode cL_law 447 = .ok (.invokevirtual 51, 3) := dk_182 0 51 (dk_at dksL_law_13 5 rfl rfl)
theorem dL_law_450 : decode cL_law 450 = .ok (.if_icmp .eq 1088, 3) := dk_159 4 64 (dk_at dksL_law_13 8 rfl rfl)
theorem dL_law_453 : decode cL_law 453 = .ok (.iconst 0, 1) := dk_3 (dk_at dksL_law_13 11 rfl rfl)
theorem dL_law_454 : decode cL_law 454 = .ok (.ireturn, 1) := dk_172 (dk_at dksL_law_13 12 rfl rfl)
theorem dL_law_455 : decode cL_law 455 = .ok (.aload_n 1, 1) := dk_43 (dk_at dksL_law_13 13 rfl rfl)
theorem dL_law_456 : decode cL_law 456 = .ok (.invokevirtual 52, 3) := dk_182 0 52 (dk_at dksL_law_13 14 rfl rfl)
theorem dL_law_459 : decode cL_law 459 = .ok (.aload_n 2, 1) := dk_44 (dk_at dksL_law_13 17 rfl rfl)
theorem dL_law_460 : decode cL_law 460 = .ok (.invokevirtual 56, 3) := dk_182 0 56 (dk_at dksL_law_13 18 rfl rfl)
theorem dL_law_463 : decode cL_law 463 = .ok (.if_icmp .eq 1075, 3) := dk_159 4 51 (dk_at dksL_law_13 21 rfl rfl)
theorem dL_law_466 : decode cL_law 466 = .ok (.iconst 0, 1) := dk_3 (dk_at dksL_law_14 0 rfl rfl)
theorem dL_law_467 : decode cL_law 467 = .ok (.ireturn, 1) := dk_172 (dk_at dksL_law_14 1 rfl rfl)
theorem dL_law_468 : decode cL_law 468 = .ok (.aload_n 1, 1) := dk_43 (dk_at dksL_law_14 2 rfl rfl)
theorem dL_law_469 : decode cL_law 469 = .ok (.aload_n 0, 1) := dk_42 (dk_at dksL_law_14 3 rfl rfl)
theorem dL_law_470 : decode cL_law 470 = .ok (.iload 4, 2) := dk_21 4 (dk_at dksL_law_14 4 rfl rfl)
theorem dL_law_472 : decode cL_law 472 = .ok (.iconst 1, 1) := dk_4 (dk_at dksL_law_14 6 rfl rfl)
theorem dL_law_473 : decode cL_law 473 = .ok (.iadd, 1) := dk_96 (dk_at dksL_law_14 7 rfl rfl)
theorem dL_law_474 : decode cL_law 474 = .ok (.iaload, 1) := dk_46 (dk_at dksL_law_14 8 rfl rfl)
theorem dL_law_475 : decode cL_law 475 = .ok (.aload_n 0, 1) := dk_42 (dk_at dksL_law_14 9 rfl rfl)
theorem dL_law_476 : decode cL_law 476 = .ok (.iload 4, 2) := dk_21 4 (dk_at dksL_law_14 10 rfl rfl)
theorem dL_law_478 : decode cL_law 478 = .ok (.iconst 2, 1) := dk_5 (dk_at dksL_law_14 12 rfl rfl)
theorem dL_law_479 : decode cL_law 479 = .ok (.iadd, 1) := dk_96 (dk_at dksL_law_14 13 rfl rfl)
theorem dL_law_480 : decode cL_law 480 = .ok (.iaload, 1) := dk_46 (dk_at dksL_law_14 14 rfl rfl)
theorem dL_law_481 : decode cL_law 481 = .ok (.invokevirtual 57, 3) := dk_182 0 57 (dk_at dksL_law_14 15 rfl rfl)
theorem dL_law_484 : decode cL_law 484 = .ok (.aload_n 2, 1) := dk_44 (dk_at dksL_law_14 18 rfl rfl)
theorem dL_law_485 : decode cL_law 485 = .ok (.aload_n 0, 1) := dk_42 (dk_at dksL_law_14 19 rfl rfl)
theorem dL_law_486 : decode cL_law 486 = .ok (.iload 4, 2) := dk_21 4 (dk_at dksL_law_14 20 rfl rfl)
theorem dL_law_488 : decode cL_law 488 = .ok (.iconst 1, 1) := dk_4 (dk_at dksL_law_14 22 rfl rfl)
theorem dL_law_489 : decode cL_law 489 = .ok (.iadd, 1) := dk_96 (dk_at dksL_law_14 23 rfl rfl)
theorem dL_law_490 : decode cL_law 490 = .ok (.iaload, 1) := dk_46 (dk_at dksL_law_15 0 rfl rfl)
theorem dL_law_491 : decode cL_law 491 = .ok (.aload_n 0, 1) := dk_42 (dk_at dksL_law_15 1 rfl rfl)
theorem dL_law_492 : decode cL_law 492 = .ok (.iload 4, 2) := dk_21 4 (dk_at dksL_law_15 2 rfl rfl)
theorem dL_law_494 : decode cL_law 494 = .ok (.iconst 2, 1) := dk_5 (dk_at dksL_law_15 4 rfl rfl)
theorem dL_law_495 : decode cL_law 495 = .ok (.iadd, 1) := dk_96 (dk_at dksL_law_15 5 rfl rfl)
theorem dL_law_496 : decode cL_law 496 = .ok (.iaload, 1) := dk_46 (dk_at dksL_law_15 6 rfl rfl)
theorem dL_law_497 : decode cL_law 497 = .ok (.invokevirtual 60, 3) := dk_182 0 60 (dk_at dksL_law_15 7 rfl rfl)
theorem dL_law_500 : decode cL_law 500 = .ok (.if_icmp .eq 1038, 3) := dk_159 4 14 (dk_at dksL_law_15 10 rfl rfl)
theorem dL_law_503 : decode cL_law 503 = .ok (.iconst 0, 1) := dk_3 (dk_at dksL_law_15 13 rfl rfl)
theorem dL_law_504 : decode cL_law 504 = .ok (.ireturn, 1) := dk_172 (dk_at dksL_law_15 14 rfl rfl)
theorem dL_law_505 : decode cL_law 505 = .ok (.aload_n 1, 1) := dk_43 (dk_at dksL_law_15 15 rfl rfl)
theorem dL_law_506 : decode cL_law 506 = .ok (.aload_n 0, 1) := dk_42 (dk_at dksL_law_15 16 rfl rfl)
theorem dL_law_507 : decode cL_law 507 = .ok (.iload 4, 2) := dk_21 4 (dk_at dksL_law_15 17 rfl rfl)
theorem dL_law_509 : decode cL_law 509 = .ok (.iconst 1, 1) := dk_4 (dk_at dksL_law_15 19 rfl rfl)
theorem dL_law_510 : decode cL_law 510 = .ok (.iadd, 1) := dk_96 (dk_at dksL_law_15 20 rfl rfl)
theorem dL_law_511 : decode cL_law 511 = .ok (.iaload, 1) := dk_46 (dk_at dksL_law_15 21 rfl rfl)
theorem dL_law_512 : decode cL_law 512 = .ok (.invokevirtual 61, 3) := dk_182 0 61 (dk_at dksL_law_16 0 rfl rfl)
theorem dL_law_515 : decode cL_law 515 = .ok (.aload_n 2, 1) := dk_44 (dk_at dksL_law_16 3 rfl rfl)
theorem dL_law_516 : decode cL_law 516 = .ok (.aload_n 0, 1) := dk_42 (dk_at dksL_law_16 4 rfl rfl)
theorem dL_law_517 : decode cL_law 517 = .ok (.iload 4, 2) := dk_21 4 (dk_at dksL_law_16 5 rfl rfl)
theorem dL_law_519 : decode cL_law 519 = .ok (.iconst 1, 1) := dk_4 (dk_at dksL_law_16 7 rfl rfl)
theorem dL_law_520 : decode cL_law 520 = .ok (.iadd, 1) := dk_96 (dk_at dksL_law_16 8 rfl rfl)
theorem dL_law_521 : decode cL_law 521 = .ok (.iaload, 1) := dk_46 (dk_at dksL_law_16 9 rfl rfl)
theorem dL_law_522 : decode cL_law 522 = .ok (.invokevirtual 64, 3) := dk_182 0 64 (dk_at dksL_law_16 10 rfl rfl)
theorem dL_law_525 : decode cL_law 525 = .ok (.if_icmp .eq 1013, 3) := dk_159 3 245 (dk_at dksL_law_16 13 rfl rfl)
theorem dL_law_528 : decode cL_law 528 = .ok (.iconst 0, 1) := dk_3 (dk_at dksL_law_16 16 rfl rfl)
theorem dL_law_529 : decode cL_law 529 = .ok (.ireturn, 1) := dk_172 (dk_at dksL_law_16 17 rfl rfl)
theorem dL_law_530 : decode cL_law 530 = .ok (.aload_n 1, 1) := dk_43 (dk_at dksL_law_16 18 rfl rfl)
theorem dL_law_531 : decode cL_law 531 = .ok (.aload_n 0, 1) := dk_42 (dk_at dksL_law_16 19 rfl rfl)
theorem dL_law_532 : decode cL_law 532 = .ok (.iload 4, 2) := dk_21 4 (dk_at dksL_law_16 20 rfl rfl)
theorem dL_law_534 : decode cL_law 534 = .ok (.iconst 1, 1) := dk_4 (dk_at dksL_law_16 22 rfl rfl)
theorem dL_law_535 : decode cL_law 535 = .ok (.iadd, 1) := dk_96 (dk_at dksL_law_16 23 rfl rfl)
theorem dL_law_536 : decode cL_law 536 = .ok (.iaload, 1) := dk_46 (dk_at dksL_law_17 0 rfl rfl)
theorem dL_law_537 : decode cL_law 537 = .ok (.aload_n 0, 1) := dk_42 (dk_at dksL_law_17 1 rfl rfl)
theorem dL_law_538 : decode cL_law 538 = .ok (.iload 4, 2) := dk_21 4 (dk_at dksL_law_17 2 rfl rfl)
theorem dL_law_540 : decode cL_law 540 = .ok (.iconst 2, 1) := dk_5 (dk_at dksL_law_17 4 rfl rfl)
theorem dL_law_541 : decode cL_law 541 = .ok (.iadd, 1) := dk_96 (dk_at dksL_law_17 5 rfl rfl)
theorem dL_law_542 : decode cL_law 542 = .ok (.iaload, 1) := dk_46 (dk_at dksL_law_17 6 rfl rfl)
theorem dL_law_543 : decode cL_law 543 = .ok (.invokevirtual 65, 3) := dk_182 0 65 (dk_at dksL_law_17 7 rfl rfl)
theorem dL_law_546 : decode cL_law 546 = .ok (.aload_n 2, 1) := dk_44 (dk_at dksL_law_17 10 rfl rfl)
theorem dL_law_547 : decode cL_law 547 = .ok (.aload_n 0, 1) := dk_42 (dk_at dksL_law_17 11 rfl rfl)
theorem dL_law_548 : decode cL_law 548 = .ok (.iload 4, 2) := dk_21 4 (dk_at dksL_law_17 12 rfl rfl)
theorem dL_law_550 : decode cL_law 550 = .ok (.iconst 1, 1) := dk_4 (dk_at dksL_law_17 14 rfl rfl)
theorem dL_law_551 : decode cL_law 551 = .ok (.iadd, 1) := dk_96 (dk_at dksL_law_17 15 rfl rfl)
theorem dL_law_552 : decode cL_law 552 = .ok (.iaload, 1) := dk_46 (dk_at dksL_law_17 16 rfl rfl)
theorem dL_law_553 : decode cL_law 553 = .ok (.aload_n 0, 1) := dk_42 (dk_at dksL_law_17 17 rfl rfl)
theorem dL_law_554 : decode cL_law 554 = .ok (.iload 4, 2) := dk_21 4 (dk_at dksL_law_17 18 rfl rfl)
theorem dL_law_556 : decode cL_law 556 = .ok (.iconst 2, 1) := dk_5 (dk_at dksL_law_17 20 rfl rfl)
theorem dL_law_557 : decode cL_law 557 = .ok (.iadd, 1) := dk_96 (dk_at dksL_law_17 21 rfl rfl)
theorem dL_law_558 : decode cL_law 558 = .ok (.iaload, 1) := dk_46 (dk_at dksL_law_17 22 rfl rfl)
theorem dL_law_559 : decode cL_law 559 = .ok (.invokevirtual 68, 3) := dk_182 0 68 (dk_at dksL_law_18 0 rfl rfl)
theorem dL_law_562 : decode cL_law 562 = .ok (.if_icmp .eq 976, 3) := dk_159 3 208 (dk_at dksL_law_18 3 rfl rfl)
theorem dL_law_565 : decode cL_law 565 = .ok (.iconst 0, 1) := dk_3 (dk_at dksL_law_18 6 rfl rfl)
theorem dL_law_566 : decode cL_law 566 = .ok (.ireturn, 1) := dk_172 (dk_at dksL_law_18 7 rfl rfl)
theorem dL_law_567 : decode cL_law 567 = .ok (.aload_n 1, 1) := dk_43 (dk_at dksL_law_18 8 rfl rfl)
theorem dL_law_568 : decode cL_law 568 = .ok (.aload_n 0, 1) := dk_42 (dk_at dksL_law_18 9 rfl rfl)
theorem dL_law_569 : decode cL_law 569 = .ok (.iload 4, 2) := dk_21 4 (dk_at dksL_law_18 10 rfl rfl)
theorem dL_law_571 : decode cL_law 571 = .ok (.iconst 1, 1) := dk_4 (dk_at dksL_law_18 12 rfl rfl)
theorem dL_law_572 : decode cL_law 572 = .ok (.iadd, 1) := dk_96 (dk_at dksL_law_18 13 rfl rfl)
theorem dL_law_573 : decode cL_law 573 = .ok (.iaload, 1) := dk_46 (dk_at dksL_law_18 14 rfl rfl)
theorem dL_law_574 : decode cL_law 574 = .ok (.aload_n 0, 1) := dk_42 (dk_at dksL_law_18 15 rfl rfl)
theorem dL_law_575 : decode cL_law 575 = .ok (.iload 4, 2) := dk_21 4 (dk_at dksL_law_18 16 rfl rfl)
theorem dL_law_577 : decode cL_law 577 = .ok (.iconst 2, 1) := dk_5 (dk_at dksL_law_18 18 rfl rfl)
theorem dL_law_578 : decode cL_law 578 = .ok (.iadd, 1) := dk_96 (dk_at dksL_law_18 19 rfl rfl)
theorem dL_law_579 : decode cL_law 579 = .ok (.iaload, 1) := dk_46 (dk_at dksL_law_18 20 rfl rfl)
theorem dL_law_580 : decode cL_law 580 = .ok (.invokevirtual 69, 3) := dk_182 0 69 (dk_at dksL_law_18 21 rfl rfl)
theorem dL_law_583 : decode cL_law 583 = .ok (.aload_n 2, 1) := dk_44 (dk_at dksL_law_19 0 rfl rfl)
theorem dL_law_584 : decode cL_law 584 = .ok (.aload_n 0, 1) := dk_42 (dk_at dksL_law_19 1 rfl rfl)
theorem dL_law_585 : decode cL_law 585 = .ok (.iload 4, 2) := dk_21 4 (dk_at dksL_law_19 2 rfl rfl)
theorem dL_law_587 : decode cL_law 587 = .ok (.iconst 1, 1) := dk_4 (dk_at dksL_law_19 4 rfl rfl)
theorem dL_law_588 : decode cL_law 588 = .ok (.iadd, 1) := dk_96 (dk_at dksL_law_19 5 rfl rfl)
theorem dL_law_589 : decode cL_law 589 = .ok (.iaload, 1) := dk_46 (dk_at dksL_law_19 6 rfl rfl)
theorem dL_law_590 : decode cL_law 590 = .ok (.aload_n 0, 1) := dk_42 (dk_at dksL_law_19 7 rfl rfl)
theorem dL_law_591 : decode cL_law 591 = .ok (.iload 4, 2) := dk_21 4 (dk_at dksL_law_19 8 rfl rfl)
theorem dL_law_593 : decode cL_law 593 = .ok (.iconst 2, 1) := dk_5 (dk_at dksL_law_19 10 rfl rfl)
theorem dL_law_594 : decode cL_law 594 = .ok (.iadd, 1) := dk_96 (dk_at dksL_law_19 11 rfl rfl)
theorem dL_law_595 : decode cL_law 595 = .ok (.iaload, 1) := dk_46 (dk_at dksL_law_19 12 rfl rfl)
theorem dL_law_596 : decode cL_law 596 = .ok (.invokevirtual 72, 3) := dk_182 0 72 (dk_at dksL_law_19 13 rfl rfl)
theorem dL_law_599 : decode cL_law 599 = .ok (.if_icmp .eq 939, 3) := dk_159 3 171 (dk_at dksL_law_19 16 rfl rfl)
theorem dL_law_602 : decode cL_law 602 = .ok (.iconst 0, 1) := dk_3 (dk_at dksL_law_19 19 rfl rfl)
theorem dL_law_603 : decode cL_law 603 = .ok (.ireturn, 1) := dk_172 (dk_at dksL_law_19 20 rfl rfl)
theorem dL_law_604 : decode cL_law 604 = .ok (.aload_n 1, 1) := dk_43 (dk_at dksL_law_19 21 rfl rfl)
theorem dL_law_605 : decode cL_law 605 = .ok (.invokevirtual 73, 3) := dk_182 0 73 (dk_at dksL_law_20 0 rfl rfl)
theorem dL_law_608 : decode cL_law 608 = .ok (.aload_n 2, 1) := dk_44 (dk_at dksL_law_20 3 rfl rfl)
theorem dL_law_609 : decode cL_law 609 = .ok (.invokevirtual 76, 3) := dk_182 0 76 (dk_at dksL_law_20 4 rfl rfl)
theorem dL_law_612 : decode cL_law 612 = .ok (.if_icmp .eq 926, 3) := dk_159 3 158 (dk_at dksL_law_20 7 rfl rfl)
theorem dL_law_615 : decode cL_law 615 = .ok (.iconst 0, 1) := dk_3 (dk_at dksL_law_20 10 rfl rfl)
theorem dL_law_616 : decode cL_law 616 = .ok (.ireturn, 1) := dk_172 (dk_at dksL_law_20 11 rfl rfl)
theorem dL_law_617 : decode cL_law 617 = .ok (.aload_n 1, 1) := dk_43 (dk_at dksL_law_20 12 rfl rfl)
theorem dL_law_618 : decode cL_law 618 = .ok (.aload_n 0, 1) := dk_42 (dk_at dksL_law_20 13 rfl rfl)
theorem dL_law_619 : decode cL_law 619 = .ok (.iload 4, 2) := dk_21 4 (dk_at dksL_law_20 14 rfl rfl)
theorem dL_law_621 : decode cL_law 621 = .ok (.iconst 1, 1) := dk_4 (dk_at dksL_law_20 16 rfl rfl)
theorem dL_law_622 : decode cL_law 622 = .ok (.iadd, 1) := dk_96 (dk_at dksL_law_20 17 rfl rfl)
theorem dL_law_623 : decode cL_law 623 = .ok (.iaload, 1) := dk_46 (dk_at dksL_law_20 18 rfl rfl)
theorem dL_law_624 : decode cL_law 624 = .ok (.invokevirtual 77, 3) := dk_182 0 77 (dk_at dksL_law_20 19 rfl rfl)
theorem dL_law_627 : decode cL_law 627 = .ok (.aload_n 2, 1) := dk_44 (dk_at dksL_law_20 22 rfl rfl)
theorem dL_law_628 : decode cL_law 628 = .ok (.aload_n 0, 1) := dk_42 (dk_at dksL_law_20 23 rfl rfl)
theorem dL_law_629 : decode cL_law 629 = .ok (.iload 4, 2) := dk_21 4 (dk_at dksL_law_21 0 rfl rfl)
theorem dL_law_631 : decode cL_law 631 = .ok (.iconst 1, 1) := dk_4 (dk_at dksL_law_21 2 rfl rfl)
theorem dL_law_632 : decode cL_law 632 = .ok (.iadd, 1) := dk_96 (dk_at dksL_law_21 3 rfl rfl)
theorem dL_law_633 : decode cL_law 633 = .ok (.iaload, 1) := dk_46 (dk_at dksL_law_21 4 rfl rfl)
theorem dL_law_634 : decode cL_law 634 = .ok (.invokevirtual 80, 3) := dk_182 0 80 (dk_at dksL_law_21 5 rfl rfl)
theorem dL_law_637 : decode cL_law 637 = .ok (.if_icmp .eq 901, 3) := dk_159 3 133 (dk_at dksL_law_21 8 rfl rfl)
theorem dL_law_640 : decode cL_law 640 = .ok (.iconst 0, 1) := dk_3 (dk_at dksL_law_21 11 rfl rfl)
theorem dL_law_641 : decode cL_law 641 = .ok (.ireturn, 1) := dk_172 (dk_at dksL_law_21 12 rfl rfl)
theorem dL_law_642 : decode cL_law 642 = .ok (.aload_n 1, 1) := dk_43 (dk_at dksL_law_21 13 rfl rfl)
theorem dL_law_643 : decode cL_law 643 = .ok (.invokevirtual 81, 3) := dk_182 0 81 (dk_at dksL_law_21 14 rfl rfl)
theorem dL_law_646 : decode cL_law 646 = .ok (.aload_n 2, 1) := dk_44 (dk_at dksL_law_21 17 rfl rfl)
theorem dL_law_647 : decode cL_law 647 = .ok (.invokevirtual 84, 3) := dk_182 0 84 (dk_at dksL_law_21 18 rfl rfl)
theorem dL_law_650 : decode cL_law 650 = .ok (.if_icmp .eq 888, 3) := dk_159 3 120 (dk_at dksL_law_21 21 rfl rfl)
theorem dL_law_653 : decode cL_law 653 = .ok (.iconst 0, 1) := dk_3 (dk_at dksL_law_22 0 rfl rfl)
theorem dL_law_654 : decode cL_law 654 = .ok (.ireturn, 1) := dk_172 (dk_at dksL_law_22 1 rfl rfl)
theorem dL_law_655 : decode cL_law 655 = .ok (.aload_n 1, 1) := dk_43 (dk_at dksL_law_22 2 rfl rfl)
theorem dL_law_656 : decode cL_law 656 = .ok (.aload_n 0, 1) := dk_42 (dk_at dksL_law_22 3 rfl rfl)
theorem dL_law_657 : decode cL_law 657 = .ok (.iload 4, 2) := dk_21 4 (dk_at dksL_law_22 4 rfl rfl)
theorem dL_law_659 : decode cL_law 659 = .ok (.iconst 1, 1) := dk_4 (dk_at dksL_law_22 6 rfl rfl)
theorem dL_law_660 : decode cL_law 660 = .ok (.iadd, 1) := dk_96 (dk_at dksL_law_22 7 rfl rfl)
theorem dL_law_661 : decode cL_law 661 = .ok (.iaload, 1) := dk_46 (dk_at dksL_law_22 8 rfl rfl)
theorem dL_law_662 : decode cL_law 662 = .ok (.invokevirtual 85, 3) := dk_182 0 85 (dk_at dksL_law_22 9 rfl rfl)
theorem dL_law_665 : decode cL_law 665 = .ok (.aload_n 2, 1) := dk_44 (dk_at dksL_law_22 12 rfl rfl)
theorem dL_law_666 : decode cL_law 666 = .ok (.aload_n 0, 1) := dk_42 (dk_at dksL_law_22 13 rfl rfl)
theorem dL_law_667 : decode cL_law 667 = .ok (.iload 4, 2) := dk_21 4 (dk_at dksL_law_22 14 rfl rfl)
theorem dL_law_669 : decode cL_law 669 = .ok (.iconst 1, 1) := dk_4 (dk_at dksL_law_22 16 rfl rfl)
theorem dL_law_670 : decode cL_law 670 = .ok (.iadd, 1) := dk_96 (dk_at dksL_law_22 17 rfl rfl)
theorem dL_law_671 : decode cL_law 671 = .ok (.iaload, 1) := dk_46 (dk_at dksL_law_22 18 rfl rfl)
theorem dL_law_672 : decode cL_law 672 = .ok (.invokevirtual 88, 3) := dk_182 0 88 (dk_at dksL_law_22 19 rfl rfl)
theorem dL_law_675 : decode cL_law 675 = .ok (.if_icmp .eq 863, 3) := dk_159 3 95 (dk_at dksL_law_23 0 rfl rfl)
theorem dL_law_678 : decode cL_law 678 = .ok (.iconst 0, 1) := dk_3 (dk_at dksL_law_23 3 rfl rfl)
theorem dL_law_679 : decode cL_law 679 = .ok (.ireturn, 1) := dk_172 (dk_at dksL_law_23 4 rfl rfl)
theorem dL_law_680 : decode cL_law 680 = .ok (.aload_n 1, 1) := dk_43 (dk_at dksL_law_23 5 rfl rfl)
theorem dL_law_681 : decode cL_law 681 = .ok (.aload_n 0, 1) := dk_42 (dk_at dksL_law_23 6 rfl rfl)
theorem dL_law_682 : decode cL_law 682 = .ok (.iload 4, 2) := dk_21 4 (dk_at dksL_law_23 7 rfl rfl)
theorem dL_law_684 : decode cL_law 684 = .ok (.iconst 1, 1) := dk_4 (dk_at dksL_law_23 9 rfl rfl)
theorem dL_law_685 : decode cL_law 685 = .ok (.iadd, 1) := dk_96 (dk_at dksL_law_23 10 rfl rfl)
theorem dL_law_686 : decode cL_law 686 = .ok (.iaload, 1) := dk_46 (dk_at dksL_law_23 11 rfl rfl)
theorem dL_law_687 : decode cL_law 687 = .ok (.aload_n 0, 1) := dk_42 (dk_at dksL_law_23 12 rfl rfl)
theorem dL_law_688 : decode cL_law 688 = .ok (.iload 4, 2) := dk_21 4 (dk_at dksL_law_23 13 rfl rfl)
theorem dL_law_690 : decode cL_law 690 = .ok (.iconst 2, 1) := dk_5 (dk_at dksL_law_23 15 rfl rfl)
theorem dL_law_691 : decode cL_law 691 = .ok (.iadd, 1) := dk_96 (dk_at dksL_law_23 16 rfl rfl)
theorem dL_law_692 : decode cL_law 692 = .ok (.iaload, 1) := dk_46 (dk_at dksL_law_23 17 rfl rfl)
theorem dL_law_693 : decode cL_law 693 = .ok (.aload_n 0, 1) := dk_42 (dk_at dksL_law_23 18 rfl rfl)
theorem dL_law_694 : decode cL_law 694 = .ok (.iload 4, 2) := dk_21 4 (dk_at dksL_law_23 19 rfl rfl)
theorem dL_law_696 : decode cL_law 696 = .ok (.iconst 3, 1) := dk_6 (dk_at dksL_law_23 21 rfl rfl)
theorem dL_law_697 : decode cL_law 697 = .ok (.iadd, 1) := dk_96 (dk_at dksL_law_23 22 rfl rfl)
theorem dL_law_698 : decode cL_law 698 = .ok (.iaload, 1) := dk_46 (dk_at dksL_law_23 23 rfl rfl)
theorem dL_law_699 : decode cL_law 699 = .ok (.invokevirtual 89, 3) := dk_182 0 89 (dk_at dksL_law_24 0 rfl rfl)
theorem dL_law_702 : decode cL_law 702 = .ok (.aload_n 2, 1) := dk_44 (dk_at dksL_law_24 3 rfl rfl)
theorem dL_law_703 : decode cL_law 703 = .ok (.aload_n 0, 1) := dk_42 (dk_at dksL_law_24 4 rfl rfl)
theorem dL_law_704 : decode cL_law 704 = .ok (.iload 4, 2) := dk_21 4 (dk_at dksL_law_24 5 rfl rfl)
theorem dL_law_706 : decode cL_law 706 = .ok (.iconst 1, 1) := dk_4 (dk_at dksL_law_24 7 rfl rfl)
theorem dL_law_707 : decode cL_law 707 = .ok (.iadd, 1) := dk_96 (dk_at dksL_law_24 8 rfl rfl)
theorem dL_law_708 : decode cL_law 708 = .ok (.iaload, 1) := dk_46 (dk_at dksL_law_24 9 rfl rfl)
theorem dL_law_709 : decode cL_law 709 = .ok (.aload_n 0, 1) := dk_42 (dk_at dksL_law_24 10 rfl rfl)
theorem dL_law_710 : decode cL_law 710 = .ok (.iload 4, 2) := dk_21 4 (dk_at dksL_law_24 11 rfl rfl)
theorem dL_law_712 : decode cL_law 712 = .ok (.iconst 2, 1) := dk_5 (dk_at dksL_law_24 13 rfl rfl)
theorem dL_law_713 : decode cL_law 713 = .ok (.iadd, 1) := dk_96 (dk_at dksL_law_24 14 rfl rfl)
theorem dL_law_714 : decode cL_law 714 = .ok (.iaload, 1) := dk_46 (dk_at dksL_law_24 15 rfl rfl)
theorem dL_law_715 : decode cL_law 715 = .ok (.aload_n 0, 1) := dk_42 (dk_at dksL_law_24 16 rfl rfl)
theorem dL_law_716 : decode cL_law 716 = .ok (.iload 4, 2) := dk_21 4 (dk_at dksL_law_24 17 rfl rfl)
theorem dL_law_718 : decode cL_law 718 = .ok (.iconst 3, 1) := dk_6 (dk_at dksL_law_24 19 rfl rfl)
theorem dL_law_719 : decode cL_law 719 = .ok (.iadd, 1) := dk_96 (dk_at dksL_law_24 20 rfl rfl)
theorem dL_law_720 : decode cL_law 720 = .ok (.iaload, 1) := dk_46 (dk_at dksL_law_24 21 rfl rfl)
theorem dL_law_721 : decode cL_law 721 = .ok (.invokevirtual 92, 3) := dk_182 0 92 (dk_at dksL_law_25 0 rfl rfl)
theorem dL_law_724 : decode cL_law 724 = .ok (.if_icmp .eq 814, 3) := dk_159 3 46 (dk_at dksL_law_25 3 rfl rfl)
theorem dL_law_727 : decode cL_law 727 = .ok (.iconst 0, 1) := dk_3 (dk_at dksL_law_25 6 rfl rfl)
theorem dL_law_728 : decode cL_law 728 = .ok (.ireturn, 1) := dk_172 (dk_at dksL_law_25 7 rfl rfl)
theorem dL_law_729 : decode cL_law 729 = .ok (.aload_n 1, 1) := dk_43 (dk_at dksL_law_25 8 rfl rfl)
theorem dL_law_730 : decode cL_law 730 = .ok (.aload_n 0, 1) := dk_42 (dk_at dksL_law_25 9 rfl rfl)
theorem dL_law_731 : decode cL_law 731 = .ok (.iload 4, 2) := dk_21 4 (dk_at dksL_law_25 10 rfl rfl)
theorem dL_law_733 : decode cL_law 733 = .ok (.iconst 1, 1) := dk_4 (dk_at dksL_law_25 12 rfl rfl)
theorem dL_law_734 : decode cL_law 734 = .ok (.iadd, 1) := dk_96 (dk_at dksL_law_25 13 rfl rfl)
theorem dL_law_735 : decode cL_law 735 = .ok (.iaload, 1) := dk_46 (dk_at dksL_law_25 14 rfl rfl)
theorem dL_law_736 : decode cL_law 736 = .ok (.aload_n 0, 1) := dk_42 (dk_at dksL_law_25 15 rfl rfl)
theorem dL_law_737 : decode cL_law 737 = .ok (.iload 4, 2) := dk_21 4 (dk_at dksL_law_25 16 rfl rfl)
theorem dL_law_739 : decode cL_law 739 = .ok (.iconst 2, 1) := dk_5 (dk_at dksL_law_25 18 rfl rfl)
theorem dL_law_740 : decode cL_law 740 = .ok (.iadd, 1) := dk_96 (dk_at dksL_law_25 19 rfl rfl)
theorem dL_law_741 : decode cL_law 741 = .ok (.iaload, 1) := dk_46 (dk_at dksL_law_25 20 rfl rfl)
theorem dL_law_742 : decode cL_law 742 = .ok (.aload_n 0, 1) := dk_42 (dk_at dksL_law_25 21 rfl rfl)
theorem dL_law_743 : decode cL_law 743 = .ok (.iload 4, 2) := dk_21 4 (dk_at dksL_law_25 22 rfl rfl)
theorem dL_law_745 : decode cL_law 745 = .ok (.iconst 3, 1) := dk_6 (dk_at dksL_law_26 0 rfl rfl)
theorem dL_law_746 : decode cL_law 746 = .ok (.iadd, 1) := dk_96 (dk_at dksL_law_26 1 rfl rfl)
theorem dL_law_747 : decode cL_law 747 = .ok (.iaload, 1) := dk_46 (dk_at dksL_law_26 2 rfl rfl)
theorem dL_law_748 : decode cL_law 748 = .ok (.aload_n 0, 1) := dk_42 (dk_at dksL_law_26 3 rfl rfl)
theorem dL_law_749 : decode cL_law 749 = .ok (.iload 4, 2) := dk_21 4 (dk_at dksL_law_26 4 rfl rfl)
theorem dL_law_751 : decode cL_law 751 = .ok (.iconst 4, 1) := dk_7 (dk_at dksL_law_26 6 rfl rfl)
theorem dL_law_752 : decode cL_law 752 = .ok (.iadd, 1) := dk_96 (dk_at dksL_law_26 7 rfl rfl)
theorem dL_law_753 : decode cL_law 753 = .ok (.iaload, 1) := dk_46 (dk_at dksL_law_26 8 rfl rfl)
theorem dL_law_754 : decode cL_law 754 = .ok (.aload_n 0, 1) := dk_42 (dk_at dksL_law_26 9 rfl rfl)
theorem dL_law_755 : decode cL_law 755 = .ok (.iload 4, 2) := dk_21 4 (dk_at dksL_law_26 10 rfl rfl)
theorem dL_law_757 : decode cL_law 757 = .ok (.iconst 5, 1) := dk_8 (dk_at dksL_law_26 12 rfl rfl)
theorem dL_law_758 : decode cL_law 758 = .ok (.iadd, 1) := dk_96 (dk_at dksL_law_26 13 rfl rfl)
theorem dL_law_759 : decode cL_law 759 = .ok (.iaload, 1) := dk_46 (dk_at dksL_law_26 14 rfl rfl)
theorem dL_law_760 : decode cL_law 760 = .ok (.invokevirtual 93, 3) := dk_182 0 93 (dk_at dksL_law_26 15 rfl rfl)
theorem dL_law_763 : decode cL_law 763 = .ok (.aload_n 2, 1) := dk_44 (dk_at dksL_law_26 18 rfl rfl)
theorem dL_law_764 : decode cL_law 764 = .ok (.aload_n 0, 1) := dk_42 (dk_at dksL_law_26 19 rfl rfl)
theorem dL_law_765 : decode cL_law 765 = .ok (.iload 4, 2) := dk_21 4 (dk_at dksL_law_26 20 rfl rfl)
theorem dL_law_767 : decode cL_law 767 = .ok (.iconst 1, 1) := dk_4 (dk_at dksL_law_26 22 rfl rfl)
theorem dL_law_768 : decode cL_law 768 = .ok (.iadd, 1) := dk_96 (dk_at dksL_law_26 23 rfl rfl)
theorem dL_law_769 : decode cL_law 769 = .ok (.iaload, 1) := dk_46 (dk_at dksL_law_27 0 rfl rfl)
theorem dL_law_770 : decode cL_law 770 = .ok (.aload_n 0, 1) := dk_42 (dk_at dksL_law_27 1 rfl rfl)
theorem dL_law_771 : decode cL_law 771 = .ok (.iload 4, 2) := dk_21 4 (dk_at dksL_law_27 2 rfl rfl)
theorem dL_law_773 : decode cL_law 773 = .ok (.iconst 2, 1) := dk_5 (dk_at dksL_law_27 4 rfl rfl)
theorem dL_law_774 : decode cL_law 774 = .ok (.iadd, 1) := dk_96 (dk_at dksL_law_27 5 rfl rfl)
theorem dL_law_775 : decode cL_law 775 = .ok (.iaload, 1) := dk_46 (dk_at dksL_law_27 6 rfl rfl)
theorem dL_law_776 : decode cL_law 776 = .ok (.aload_n 0, 1) := dk_42 (dk_at dksL_law_27 7 rfl rfl)
theorem dL_law_777 : decode cL_law 777 = .ok (.iload 4, 2) := dk_21 4 (dk_at dksL_law_27 8 rfl rfl)
theorem dL_law_779 : decode cL_law 779 = .ok (.iconst 3, 1) := dk_6 (dk_at dksL_law_27 10 rfl rfl)
theorem dL_law_780 : decode cL_law 780 = .ok (.iadd, 1) := dk_96 (dk_at dksL_law_27 11 rfl rfl)
theorem dL_law_781 : decode cL_law 781 = .ok (.iaload, 1) := dk_46 (dk_at dksL_law_27 12 rfl rfl)
theorem dL_law_782 : decode cL_law 782 = .ok (.aload_n 0, 1) := dk_42 (dk_at dksL_law_27 13 rfl rfl)
theorem dL_law_783 : decode cL_law 783 = .ok (.iload 4, 2) := dk_21 4 (dk_at dksL_law_27 14 rfl rfl)
theorem dL_law_785 : decode cL_law 785 = .ok (.iconst 4, 1) := dk_7 (dk_at dksL_law_27 16 rfl rfl)
theorem dL_law_786 : decode cL_law 786 = .ok (.iadd, 1) := dk_96 (dk_at dksL_law_27 17 rfl rfl)
theorem dL_law_787 : decode cL_law 787 = .ok (.iaload, 1) := dk_46 (dk_at dksL_law_27 18 rfl rfl)
theorem dL_law_788 : decode cL_law 788 = .ok (.aload_n 0, 1) := dk_42 (dk_at dksL_law_27 19 rfl rfl)
theorem dL_law_789 : decode cL_law 789 = .ok (.iload 4, 2) := dk_21 4 (dk_at dksL_law_27 20 rfl rfl)
theorem dL_law_791 : decode cL_law 791 = .ok (.iconst 5, 1) := dk_8 (dk_at dksL_law_27 22 rfl rfl)
theorem dL_law_792 : decode cL_law 792 = .ok (.iadd, 1) := dk_96 (dk_at dksL_law_27 23 rfl rfl)
theorem dL_law_793 : decode cL_law 793 = .ok (.iaload, 1) := dk_46 (dk_at dksL_law_28 0 rfl rfl)
theorem dL_law_794 : decode cL_law 794 = .ok (.invokevirtual 97, 3) := dk_182 0 97 (dk_at dksL_law_28 1 rfl rfl)
theorem dL_law_797 : decode cL_law 797 = .ok (.lcmp, 1) := dk_148 (dk_at dksL_law_28 4 rfl rfl)
theorem dL_law_798 : decode cL_law 798 = .ok (.ifCond .eq 740, 3) := dk_153 2 228 (dk_at dksL_law_28 5 rfl rfl)
theorem dL_law_801 : decode cL_law 801 = .ok (.iconst 0, 1) := dk_3 (dk_at dksL_law_28 8 rfl rfl)
theorem dL_law_802 : decode cL_law 802 = .ok (.ireturn, 1) := dk_172 (dk_at dksL_law_28 9 rfl rfl)
theorem dL_law_803 : decode cL_law 803 = .ok (.aload_n 1, 1) := dk_43 (dk_at dksL_law_28 10 rfl rfl)
theorem dL_law_804 : decode cL_law 804 = .ok (.aload_n 0, 1) := dk_42 (dk_at dksL_law_28 11 rfl rfl)
theorem dL_law_805 : decode cL_law 805 = .ok (.iload 4, 2) := dk_21 4 (dk_at dksL_law_28 12 rfl rfl)
theorem dL_law_807 : decode cL_law 807 = .ok (.iconst 1, 1) := dk_4 (dk_at dksL_law_28 14 rfl rfl)
theorem dL_law_808 : decode cL_law 808 = .ok (.iadd, 1) := dk_96 (dk_at dksL_law_28 15 rfl rfl)
theorem dL_law_809 : decode cL_law 809 = .ok (.iaload, 1) := dk_46 (dk_at dksL_law_28 16 rfl rfl)
theorem dL_law_810 : decode cL_law 810 = .ok (.aload_n 0, 1) := dk_42 (dk_at dksL_law_28 17 rfl rfl)
theorem dL_law_811 : decode cL_law 811 = .ok (.iload 4, 2) := dk_21 4 (dk_at dksL_law_28 18 rfl rfl)
theorem dL_law_813 : decode cL_law 813 = .ok (.iconst 2, 1) := dk_5 (dk_at dksL_law_28 20 rfl rfl)
theorem dL_law_814 : decode cL_law 814 = .ok (.iadd, 1) := dk_96 (dk_at dksL_law_28 21 rfl rfl)
theorem dL_law_815 : decode cL_law 815 = .ok (.iaload, 1) := dk_46 (dk_at dksL_law_28 22 rfl rfl)
theorem dL_law_816 : decode cL_law 816 = .ok (.aload_n 0, 1) := dk_42 (dk_at dksL_law_28 23 rfl rfl)
theorem dL_law_817 : decode cL_law 817 = .ok (.iload 4, 2) := dk_21 4 (dk_at dksL_law_29 0 rfl rfl)
theorem dL_law_819 : decode cL_law 819 = .ok (.iconst 3, 1) := dk_6 (dk_at dksL_law_29 2 rfl rfl)
theorem dL_law_820 : decode cL_law 820 = .ok (.iadd, 1) := dk_96 (dk_at dksL_law_29 3 rfl rfl)
theorem dL_law_821 : decode cL_law 821 = .ok (.iaload, 1) := dk_46 (dk_at dksL_law_29 4 rfl rfl)
theorem dL_law_822 : decode cL_law 822 = .ok (.aload_n 0, 1) := dk_42 (dk_at dksL_law_29 5 rfl rfl)
theorem dL_law_823 : decode cL_law 823 = .ok (.iload 4, 2) := dk_21 4 (dk_at dksL_law_29 6 rfl rfl)
theorem dL_law_825 : decode cL_law 825 = .ok (.iconst 4, 1) := dk_7 (dk_at dksL_law_29 8 rfl rfl)
theorem dL_law_826 : decode cL_law 826 = .ok (.iadd, 1) := dk_96 (dk_at dksL_law_29 9 rfl rfl)
theorem dL_law_827 : decode cL_law 827 = .ok (.iaload, 1) := dk_46 (dk_at dksL_law_29 10 rfl rfl)
theorem dL_law_828 : decode cL_law 828 = .ok (.invokevirtual 98, 3) := dk_182 0 98 (dk_at dksL_law_29 11 rfl rfl)
theorem dL_law_831 : decode cL_law 831 = .ok (.aload_n 2, 1) := dk_44 (dk_at dksL_law_29 14 rfl rfl)
theorem dL_law_832 : decode cL_law 832 = .ok (.aload_n 0, 1) := dk_42 (dk_at dksL_law_29 15 rfl rfl)
theorem dL_law_833 : decode cL_law 833 = .ok (.iload 4, 2) := dk_21 4 (dk_at dksL_law_29 16 rfl rfl)
theorem dL_law_835 : decode cL_law 835 = .ok (.iconst 1, 1) := dk_4 (dk_at dksL_law_29 18 rfl rfl)
theorem dL_law_836 : decode cL_law 836 = .ok (.iadd, 1) := dk_96 (dk_at dksL_law_29 19 rfl rfl)
theorem dL_law_837 : decode cL_law 837 = .ok (.iaload, 1) := dk_46 (dk_at dksL_law_29 20 rfl rfl)
theorem dL_law_838 : decode cL_law 838 = .ok (.aload_n 0, 1) := dk_42 (dk_at dksL_law_29 21 rfl rfl)
theorem dL_law_839 : decode cL_law 839 = .ok (.iload 4, 2) := dk_21 4 (dk_at dksL_law_29 22 rfl rfl)
theorem dL_law_841 : decode cL_law 841 = .ok (.iconst 2, 1) := dk_5 (dk_at dksL_law_30 0 rfl rfl)
theorem dL_law_842 : decode cL_law 842 = .ok (.iadd, 1) := dk_96 (dk_at dksL_law_30 1 rfl rfl)
theorem dL_law_843 : decode cL_law 843 = .ok (.iaload, 1) := dk_46 (dk_at dksL_law_30 2 rfl rfl)
theorem dL_law_844 : decode cL_law 844 = .ok (.aload_n 0, 1) := dk_42 (dk_at dksL_law_30 3 rfl rfl)
theorem dL_law_845 : decode cL_law 845 = .ok (.iload 4, 2) := dk_21 4 (dk_at dksL_law_30 4 rfl rfl)
theorem dL_law_847 : decode cL_law 847 = .ok (.iconst 3, 1) := dk_6 (dk_at dksL_law_30 6 rfl rfl)
theorem dL_law_848 : decode cL_law 848 = .ok (.iadd, 1) := dk_96 (dk_at dksL_law_30 7 rfl rfl)
theorem dL_law_849 : decode cL_law 849 = .ok (.iaload, 1) := dk_46 (dk_at dksL_law_30 8 rfl rfl)
theorem dL_law_850 : decode cL_law 850 = .ok (.aload_n 0, 1) := dk_42 (dk_at dksL_law_30 9 rfl rfl)
theorem dL_law_851 : decode cL_law 851 = .ok (.iload 4, 2) := dk_21 4 (dk_at dksL_law_30 10 rfl rfl)
theorem dL_law_853 : decode cL_law 853 = .ok (.iconst 4, 1) := dk_7 (dk_at dksL_law_30 12 rfl rfl)
theorem dL_law_854 : decode cL_law 854 = .ok (.iadd, 1) := dk_96 (dk_at dksL_law_30 13 rfl rfl)
theorem dL_law_855 : decode cL_law 855 = .ok (.iaload, 1) := dk_46 (dk_at dksL_law_30 14 rfl rfl)
theorem dL_law_856 : decode cL_law 856 = .ok (.invokevirtual 102, 3) := dk_182 0 102 (dk_at dksL_law_30 15 rfl rfl)
theorem dL_law_859 : decode cL_law 859 = .ok (.if_icmp .eq 679, 3) := dk_159 2 167 (dk_at dksL_law_30 18 rfl rfl)
theorem dL_law_862 : decode cL_law 862 = .ok (.iconst 0, 1) := dk_3 (dk_at dksL_law_30 21 rfl rfl)
theorem dL_law_863 : decode cL_law 863 = .ok (.ireturn, 1) := dk_172 (dk_at dksL_law_30 22 rfl rfl)
theorem dL_law_864 : decode cL_law 864 = .ok (.aload_n 1, 1) := dk_43 (dk_at dksL_law_30 23 rfl rfl)
theorem dL_law_865 : decode cL_law 865 = .ok (.aload_n 0, 1) := dk_42 (dk_at dksL_law_31 0 rfl rfl)
theorem dL_law_866 : decode cL_law 866 = .ok (.iload 4, 2) := dk_21 4 (dk_at dksL_law_31 1 rfl rfl)
theorem dL_law_868 : decode cL_law 868 = .ok (.iconst 1, 1) := dk_4 (dk_at dksL_law_31 3 rfl rfl)
theorem dL_law_869 : decode cL_law 869 = .ok (.iadd, 1) := dk_96 (dk_at dksL_law_31 4 rfl rfl)
theorem dL_law_870 : decode cL_law 870 = .ok (.iaload, 1) := dk_46 (dk_at dksL_law_31 5 rfl rfl)
theorem dL_law_871 : decode cL_law 871 = .ok (.aload_n 0, 1) := dk_42 (dk_at dksL_law_31 6 rfl rfl)
theorem dL_law_872 : decode cL_law 872 = .ok (.iload 4, 2) := dk_21 4 (dk_at dksL_law_31 7 rfl rfl)
theorem dL_law_874 : decode cL_law 874 = .ok (.iconst 2, 1) := dk_5 (dk_at dksL_law_31 9 rfl rfl)
theorem dL_law_875 : decode cL_law 875 = .ok (.iadd, 1) := dk_96 (dk_at dksL_law_31 10 rfl rfl)
theorem dL_law_876 : decode cL_law 876 = .ok (.iaload, 1) := dk_46 (dk_at dksL_law_31 11 rfl rfl)
theorem dL_law_877 : decode cL_law 877 = .ok (.invokevirtual 103, 3) := dk_182 0 103 (dk_at dksL_law_31 12 rfl rfl)
theorem dL_law_880 : decode cL_law 880 = .ok (.aload_n 2, 1) := dk_44 (dk_at dksL_law_31 15 rfl rfl)
theorem dL_law_881 : decode cL_law 881 = .ok (.aload_n 0, 1) := dk_42 (dk_at dksL_law_31 16 rfl rfl)
theorem dL_law_882 : decode cL_law 882 = .ok (.iload 4, 2) := dk_21 4 (dk_at dksL_law_31 17 rfl rfl)
theorem dL_law_884 : decode cL_law 884 = .ok (.iconst 1, 1) := dk_4 (dk_at dksL_law_31 19 rfl rfl)
theorem dL_law_885 : decode cL_law 885 = .ok (.iadd, 1) := dk_96 (dk_at dksL_law_31 20 rfl rfl)
theorem dL_law_886 : decode cL_law 886 = .ok (.iaload, 1) := dk_46 (dk_at dksL_law_31 21 rfl rfl)
theorem dL_law_887 : decode cL_law 887 = .ok (.aload_n 0, 1) := dk_42 (dk_at dksL_law_31 22 rfl rfl)
theorem dL_law_888 : decode cL_law 888 = .ok (.iload 4, 2) := dk_21 4 (dk_at dksL_law_32 0 rfl rfl)
theorem dL_law_890 : decode cL_law 890 = .ok (.iconst 2, 1) := dk_5 (dk_at dksL_law_32 2 rfl rfl)
theorem dL_law_891 : decode cL_law 891 = .ok (.iadd, 1) := dk_96 (dk_at dksL_law_32 3 rfl rfl)
theorem dL_law_892 : decode cL_law 892 = .ok (.iaload, 1) := dk_46 (dk_at dksL_law_32 4 rfl rfl)
theorem dL_law_893 : decode cL_law 893 = .ok (.invokevirtual 106, 3) := dk_182 0 106 (dk_at dksL_law_32 5 rfl rfl)
theorem dL_law_896 : decode cL_law 896 = .ok (.if_icmp .eq 642, 3) := dk_159 2 130 (dk_at dksL_law_32 8 rfl rfl)
theorem dL_law_899 : decode cL_law 899 = .ok (.iconst 0, 1) := dk_3 (dk_at dksL_law_32 11 rfl rfl)
theorem dL_law_900 : decode cL_law 900 = .ok (.ireturn, 1) := dk_172 (dk_at dksL_law_32 12 rfl rfl)
theorem dL_law_901 : decode cL_law 901 = .ok (.aload_n 1, 1) := dk_43 (dk_at dksL_law_32 13 rfl rfl)
theorem dL_law_902 : decode cL_law 902 = .ok (.aload_n 0, 1) := dk_42 (dk_at dksL_law_32 14 rfl rfl)
theorem dL_law_903 : decode cL_law 903 = .ok (.iload 4, 2) := dk_21 4 (dk_at dksL_law_32 15 rfl rfl)
theorem dL_law_905 : decode cL_law 905 = .ok (.iconst 1, 1) := dk_4 (dk_at dksL_law_32 17 rfl rfl)
theorem dL_law_906 : decode cL_law 906 = .ok (.iadd, 1) := dk_96 (dk_at dksL_law_32 18 rfl rfl)
theorem dL_law_907 : decode cL_law 907 = .ok (.iaload, 1) := dk_46 (dk_at dksL_law_32 19 rfl rfl)
theorem dL_law_908 : decode cL_law 908 = .ok (.aload_n 0, 1) := dk_42 (dk_at dksL_law_32 20 rfl rfl)
theorem dL_law_909 : decode cL_law 909 = .ok (.iload 4, 2) := dk_21 4 (dk_at dksL_law_32 21 rfl rfl)
theorem dL_law_911 : decode cL_law 911 = .ok (.iconst 2, 1) := dk_5 (dk_at dksL_law_32 23 rfl rfl)
theorem dL_law_912 : decode cL_law 912 = .ok (.iadd, 1) := dk_96 (dk_at dksL_law_33 0 rfl rfl)
theorem dL_law_913 : decode cL_law 913 = .ok (.iaload, 1) := dk_46 (dk_at dksL_law_33 1 rfl rfl)
theorem dL_law_914 : decode cL_law 914 = .ok (.invokevirtual 107, 3) := dk_182 0 107 (dk_at dksL_law_33 2 rfl rfl)
theorem dL_law_917 : decode cL_law 917 = .ok (.aload_n 2, 1) := dk_44 (dk_at dksL_law_33 5 rfl rfl)
theorem dL_law_918 : decode cL_law 918 = .ok (.aload_n 0, 1) := dk_42 (dk_at dksL_law_33 6 rfl rfl)
theorem dL_law_919 : decode cL_law 919 = .ok (.iload 4, 2) := dk_21 4 (dk_at dksL_law_33 7 rfl rfl)
theorem dL_law_921 : decode cL_law 921 = .ok (.iconst 1, 1) := dk_4 (dk_at dksL_law_33 9 rfl rfl)
theorem dL_law_922 : decode cL_law 922 = .ok (.iadd, 1) := dk_96 (dk_at dksL_law_33 10 rfl rfl)
theorem dL_law_923 : decode cL_law 923 = .ok (.iaload, 1) := dk_46 (dk_at dksL_law_33 11 rfl rfl)
theorem dL_law_924 : decode cL_law 924 = .ok (.aload_n 0, 1) := dk_42 (dk_at dksL_law_33 12 rfl rfl)
theorem dL_law_925 : decode cL_law 925 = .ok (.iload 4, 2) := dk_21 4 (dk_at dksL_law_33 13 rfl rfl)
theorem dL_law_927 : decode cL_law 927 = .ok (.iconst 2, 1) := dk_5 (dk_at dksL_law_33 15 rfl rfl)
theorem dL_law_928 : decode cL_law 928 = .ok (.iadd, 1) := dk_96 (dk_at dksL_law_33 16 rfl rfl)
theorem dL_law_929 : decode cL_law 929 = .ok (.iaload, 1) := dk_46 (dk_at dksL_law_33 17 rfl rfl)
theorem dL_law_930 : decode cL_law 930 = .ok (.invokevirtual 110, 3) := dk_182 0 110 (dk_at dksL_law_33 18 rfl rfl)
theorem dL_law_933 : decode cL_law 933 = .ok (.if_icmp .eq 605, 3) := dk_159 2 93 (dk_at dksL_law_33 21 rfl rfl)
theorem dL_law_936 : decode cL_law 936 = .ok (.iconst 0, 1) := dk_3 (dk_at dksL_law_34 0 rfl rfl)
theorem dL_law_937 : decode cL_law 937 = .ok (.ireturn, 1) := dk_172 (dk_at dksL_law_34 1 rfl rfl)
theorem dL_law_938 : decode cL_law 938 = .ok (.aload_n 1, 1) := dk_43 (dk_at dksL_law_34 2 rfl rfl)
theorem dL_law_939 : decode cL_law 939 = .ok (.invokevirtual 111, 3) := dk_182 0 111 (dk_at dksL_law_34 3 rfl rfl)
theorem dL_law_942 : decode cL_law 942 = .ok (.aload_n 2, 1) := dk_44 (dk_at dksL_law_34 6 rfl rfl)
theorem dL_law_943 : decode cL_law 943 = .ok (.invokevirtual 114, 3) := dk_182 0 114 (dk_at dksL_law_34 7 rfl rfl)
theorem dL_law_946 : decode cL_law 946 = .ok (.if_icmp .eq 592, 3) := dk_159 2 80 (dk_at dksL_law_34 10 rfl rfl)
theorem dL_law_949 : decode cL_law 949 = .ok (.iconst 0, 1) := dk_3 (dk_at dksL_law_34 13 rfl rfl)
theorem dL_law_950 : decode cL_law 950 = .ok (.ireturn, 1) := dk_172 (dk_at dksL_law_34 14 rfl rfl)
theorem dL_law_951 : decode cL_law 951 = .ok (.aload_n 1, 1) := dk_43 (dk_at dksL_law_34 15 rfl rfl)
theorem dL_law_952 : decode cL_law 952 = .ok (.aload_n 0, 1) := dk_42 (dk_at dksL_law_34 16 rfl rfl)
theorem dL_law_953 : decode cL_law 953 = .ok (.iload 4, 2) := dk_21 4 (dk_at dksL_law_34 17 rfl rfl)
theorem dL_law_955 : decode cL_law 955 = .ok (.iconst 1, 1) := dk_4 (dk_at dksL_law_34 19 rfl rfl)
theorem dL_law_956 : decode cL_law 956 = .ok (.iadd, 1) := dk_96 (dk_at dksL_law_34 20 rfl rfl)
theorem dL_law_957 : decode cL_law 957 = .ok (.iaload, 1) := dk_46 (dk_at dksL_law_34 21 rfl rfl)
theorem dL_law_958 : decode cL_law 958 = .ok (.aload_n 0, 1) := dk_42 (dk_at dksL_law_34 22 rfl rfl)
theorem dL_law_959 : decode cL_law 959 = .ok (.iload 4, 2) := dk_21 4 (dk_at dksL_law_35 0 rfl rfl)
theorem dL_law_961 : decode cL_law 961 = .ok (.iconst 2, 1) := dk_5 (dk_at dksL_law_35 2 rfl rfl)
theorem dL_law_962 : decode cL_law 962 = .ok (.iadd, 1) := dk_96 (dk_at dksL_law_35 3 rfl rfl)
theorem dL_law_963 : decode cL_law 963 = .ok (.iaload, 1) := dk_46 (dk_at dksL_law_35 4 rfl rfl)
theorem dL_law_964 : decode cL_law 964 = .ok (.invokevirtual 115, 3) := dk_182 0 115 (dk_at dksL_law_35 5 rfl rfl)
theorem dL_law_967 : decode cL_law 967 = .ok (.aload_n 2, 1) := dk_44 (dk_at dksL_law_35 8 rfl rfl)
theorem dL_law_968 : decode cL_law 968 = .ok (.aload_n 0, 1) := dk_42 (dk_at dksL_law_35 9 rfl rfl)
theorem dL_law_969 : decode cL_law 969 = .ok (.iload 4, 2) := dk_21 4 (dk_at dksL_law_35 10 rfl rfl)
theorem dL_law_971 : decode cL_law 971 = .ok (.iconst 1, 1) := dk_4 (dk_at dksL_law_35 12 rfl rfl)
theorem dL_law_972 : decode cL_law 972 = .ok (.iadd, 1) := dk_96 (dk_at dksL_law_35 13 rfl rfl)
theorem dL_law_973 : decode cL_law 973 = .ok (.iaload, 1) := dk_46 (dk_at dksL_law_35 14 rfl rfl)
theorem dL_law_974 : decode cL_law 974 = .ok (.aload_n 0, 1) := dk_42 (dk_at dksL_law_35 15 rfl rfl)
theorem dL_law_975 : decode cL_law 975 = .ok (.iload 4, 2) := dk_21 4 (dk_at dksL_law_35 16 rfl rfl)
theorem dL_law_977 : decode cL_law 977 = .ok (.iconst 2, 1) := dk_5 (dk_at dksL_law_35 18 rfl rfl)
theorem dL_law_978 : decode cL_law 978 = .ok (.iadd, 1) := dk_96 (dk_at dksL_law_35 19 rfl rfl)
theorem dL_law_979 : decode cL_law 979 = .ok (.iaload, 1) := dk_46 (dk_at dksL_law_35 20 rfl rfl)
theorem dL_law_980 : decode cL_law 980 = .ok (.invokevirtual 118, 3) := dk_182 0 118 (dk_at dksL_law_35 21 rfl rfl)
theorem dL_law_983 : decode cL_law 983 = .ok (.if_icmp .eq 555, 3) := dk_159 2 43 (dk_at dksL_law_36 0 rfl rfl)
theorem dL_law_986 : decode cL_law 986 = .ok (.iconst 0, 1) := dk_3 (dk_at dksL_law_36 3 rfl rfl)
theorem dL_law_987 : decode cL_law 987 = .ok (.ireturn, 1) := dk_172 (dk_at dksL_law_36 4 rfl rfl)
theorem dL_law_988 : decode cL_law 988 = .ok (.aload_n 1, 1) := dk_43 (dk_at dksL_law_36 5 rfl rfl)
theorem dL_law_989 : decode cL_law 989 = .ok (.invokevirtual 119, 3) := dk_182 0 119 (dk_at dksL_law_36 6 rfl rfl)
theorem dL_law_992 : decode cL_law 992 = .ok (.aload_n 2, 1) := dk_44 (dk_at dksL_law_36 9 rfl rfl)
theorem dL_law_993 : decode cL_law 993 = .ok (.invokevirtual 122, 3) := dk_182 0 122 (dk_at dksL_law_36 10 rfl rfl)
theorem dL_law_996 : decode cL_law 996 = .ok (.if_icmp .eq 542, 3) := dk_159 2 30 (dk_at dksL_law_36 13 rfl rfl)
theorem dL_law_999 : decode cL_law 999 = .ok (.iconst 0, 1) := dk_3 (dk_at dksL_law_36 16 rfl rfl)
theorem dL_law_1000 : decode cL_law 1000 = .ok (.ireturn, 1) := dk_172 (dk_at dksL_law_36 17 rfl rfl)
theorem dL_law_1001 : decode cL_law 1001 = .ok (.aload_n 1, 1) := dk_43 (dk_at dksL_law_36 18 rfl rfl)
theorem dL_law_1002 : decode cL_law 1002 = .ok (.aload_n 0, 1) := dk_42 (dk_at dksL_law_36 19 rfl rfl)
theorem dL_law_1003 : decode cL_law 1003 = .ok (.iload 4, 2) := dk_21 4 (dk_at dksL_law_36 20 rfl rfl)
theorem dL_law_1005 : decode cL_law 1005 = .ok (.iconst 1, 1) := dk_4 (dk_at dksL_law_36 22 rfl rfl)
theorem dL_law_1006 : decode cL_law 1006 = .ok (.iadd, 1) := dk_96 (dk_at dksL_law_36 23 rfl rfl)
theorem dL_law_1007 : decode cL_law 1007 = .ok (.iaload, 1) := dk_46 (dk_at dksL_law_37 0 rfl rfl)
theorem dL_law_1008 : decode cL_law 1008 = .ok (.invokevirtual 123, 3) := dk_182 0 123 (dk_at dksL_law_37 1 rfl rfl)
theorem dL_law_1011 : decode cL_law 1011 = .ok (.aload_n 2, 1) := dk_44 (dk_at dksL_law_37 4 rfl rfl)
theorem dL_law_1012 : decode cL_law 1012 = .ok (.aload_n 0, 1) := dk_42 (dk_at dksL_law_37 5 rfl rfl)
theorem dL_law_1013 : decode cL_law 1013 = .ok (.iload 4, 2) := dk_21 4 (dk_at dksL_law_37 6 rfl rfl)
theorem dL_law_1015 : decode cL_law 1015 = .ok (.iconst 1, 1) := dk_4 (dk_at dksL_law_37 8 rfl rfl)
theorem dL_law_1016 : decode cL_law 1016 = .ok (.iadd, 1) := dk_96 (dk_at dksL_law_37 9 rfl rfl)
theorem dL_law_1017 : decode cL_law 1017 = .ok (.iaload, 1) := dk_46 (dk_at dksL_law_37 10 rfl rfl)
theorem dL_law_1018 : decode cL_law 1018 = .ok (.invokevirtual 127, 3) := dk_182 0 127 (dk_at dksL_law_37 11 rfl rfl)
theorem dL_law_1021 : decode cL_law 1021 = .ok (.lcmp, 1) := dk_148 (dk_at dksL_law_37 14 rfl rfl)
theorem dL_law_1022 : decode cL_law 1022 = .ok (.ifCond .eq 516, 3) := dk_153 2 4 (dk_at dksL_law_37 15 rfl rfl)
theorem dL_law_1025 : decode cL_law 1025 = .ok (.iconst 0, 1) := dk_3 (dk_at dksL_law_37 18 rfl rfl)
theorem dL_law_1026 : decode cL_law 1026 = .ok (.ireturn, 1) := dk_172 (dk_at dksL_law_37 19 rfl rfl)
theorem dL_law_1027 : decode cL_law 1027 = .ok (.aload_n 1, 1) := dk_43 (dk_at dksL_law_37 20 rfl rfl)
theorem dL_law_1028 : decode cL_law 1028 = .ok (.aload_n 0, 1) := dk_42 (dk_at dksL_law_37 21 rfl rfl)
theorem dL_law_1029 : decode cL_law 1029 = .ok (.iload 4, 2) := dk_21 4 (dk_at dksL_law_37 22 rfl rfl)
theorem dL_law_1031 : decode cL_law 1031 = .ok (.iconst 1, 1) := dk_4 (dk_at dksL_law_38 0 rfl rfl)
theorem dL_law_1032 : decode cL_law 1032 = .ok (.iadd, 1) := dk_96 (dk_at dksL_law_38 1 rfl rfl)
theorem dL_law_1033 : decode cL_law 1033 = .ok (.iaload, 1) := dk_46 (dk_at dksL_law_38 2 rfl rfl)
theorem dL_law_1034 : decode cL_law 1034 = .ok (.invokevirtual 128, 3) := dk_182 0 128 (dk_at dksL_law_38 3 rfl rfl)
theorem dL_law_1037 : decode cL_law 1037 = .ok (.aload_n 2, 1) := dk_44 (dk_at dksL_law_38 6 rfl rfl)
theorem dL_law_1038 : decode cL_law 1038 = .ok (.aload_n 0, 1) := dk_42 (dk_at dksL_law_38 7 rfl rfl)
theorem dL_law_1039 : decode cL_law 1039 = .ok (.iload 4, 2) := dk_21 4 (dk_at dksL_law_38 8 rfl rfl)
theorem dL_law_1041 : decode cL_law 1041 = .ok (.iconst 1, 1) := dk_4 (dk_at dksL_law_38 10 rfl rfl)
theorem dL_law_1042 : decode cL_law 1042 = .ok (.iadd, 1) := dk_96 (dk_at dksL_law_38 11 rfl rfl)
theorem dL_law_1043 : decode cL_law 1043 = .ok (.iaload, 1) := dk_46 (dk_at dksL_law_38 12 rfl rfl)
theorem dL_law_1044 : decode cL_law 1044 = .ok (.invokevirtual 131, 3) := dk_182 0 131 (dk_at dksL_law_38 13 rfl rfl)
theorem dL_law_1047 : decode cL_law 1047 = .ok (.if_icmp .eq 491, 3) := dk_159 1 235 (dk_at dksL_law_38 16 rfl rfl)
theorem dL_law_1050 : decode cL_law 1050 = .ok (.iconst 0, 1) := dk_3 (dk_at dksL_law_38 19 rfl rfl)
theorem dL_law_1051 : decode cL_law 1051 = .ok (.ireturn, 1) := dk_172 (dk_at dksL_law_38 20 rfl rfl)
theorem dL_law_1052 : decode cL_law 1052 = .ok (.aload_n 1, 1) := dk_43 (dk_at dksL_law_38 21 rfl rfl)
theorem dL_law_1053 : decode cL_law 1053 = .ok (.aload_n 0, 1) := dk_42 (dk_at dksL_law_38 22 rfl rfl)
theorem dL_law_1054 : decode cL_law 1054 = .ok (.iload 4, 2) := dk_21 4 (dk_at dksL_law_39 0 rfl rfl)
theorem dL_law_1056 : decode cL_law 1056 = .ok (.iconst 1, 1) := dk_4 (dk_at dksL_law_39 2 rfl rfl)
theorem dL_law_1057 : decode cL_law 1057 = .ok (.iadd, 1) := dk_96 (dk_at dksL_law_39 3 rfl rfl)
theorem dL_law_1058 : decode cL_law 1058 = .ok (.iaload, 1) := dk_46 (dk_at dksL_law_39 4 rfl rfl)
theorem dL_law_1059 : decode cL_law 1059 = .ok (.aload_n 0, 1) := dk_42 (dk_at dksL_law_39 5 rfl rfl)
theorem dL_law_1060 : decode cL_law 1060 = .ok (.iload 4, 2) := dk_21 4 (dk_at dksL_law_39 6 rfl rfl)
theorem dL_law_1062 : decode cL_law 1062 = .ok (.iconst 2, 1) := dk_5 (dk_at dksL_law_39 8 rfl rfl)
theorem dL_law_1063 : decode cL_law 1063 = .ok (.iadd, 1) := dk_96 (dk_at dksL_law_39 9 rfl rfl)
theorem dL_law_1064 : decode cL_law 1064 = .ok (.iaload, 1) := dk_46 (dk_at dksL_law_39 10 rfl rfl)
theorem dL_law_1065 : decode cL_law 1065 = .ok (.invokevirtual 132, 3) := dk_182 0 132 (dk_at dksL_law_39 11 rfl rfl)
theorem dL_law_1068 : decode cL_law 1068 = .ok (.aload_n 2, 1) := dk_44 (dk_at dksL_law_39 14 rfl rfl)
theorem dL_law_1069 : decode cL_law 1069 = .ok (.aload_n 0, 1) := dk_42 (dk_at dksL_law_39 15 rfl rfl)
theorem dL_law_1070 : decode cL_law 1070 = .ok (.iload 4, 2) := dk_21 4 (dk_at dksL_law_39 16 rfl rfl)
theorem dL_law_1072 : decode cL_law 1072 = .ok (.iconst 1, 1) := dk_4 (dk_at dksL_law_39 18 rfl rfl)
theorem dL_law_1073 : decode cL_law 1073 = .ok (.iadd, 1) := dk_96 (dk_at dksL_law_39 19 rfl rfl)
theorem dL_law_1074 : decode cL_law 1074 = .ok (.iaload, 1) := dk_46 (dk_at dksL_law_39 20 rfl rfl)
theorem dL_law_1075 : decode cL_law 1075 = .ok (.aload_n 0, 1) := dk_42 (dk_at dksL_law_39 21 rfl rfl)
theorem dL_law_1076 : decode cL_law 1076 = .ok (.iload 4, 2) := dk_21 4 (dk_at dksL_law_39 22 rfl rfl)
theorem dL_law_1078 : decode cL_law 1078 = .ok (.iconst 2, 1) := dk_5 (dk_at dksL_law_40 0 rfl rfl)
theorem dL_law_1079 : decode cL_law 1079 = .ok (.iadd, 1) := dk_96 (dk_at dksL_law_40 1 rfl rfl)
theorem dL_law_1080 : decode cL_law 1080 = .ok (.iaload, 1) := dk_46 (dk_at dksL_law_40 2 rfl rfl)
theorem dL_law_1081 : decode cL_law 1081 = .ok (.invokevirtual 135, 3) := dk_182 0 135 (dk_at dksL_law_40 3 rfl rfl)
theorem dL_law_1084 : decode cL_law 1084 = .ok (.if_icmp .eq 454, 3) := dk_159 1 198 (dk_at dksL_law_40 6 rfl rfl)
theorem dL_law_1087 : decode cL_law 1087 = .ok (.iconst 0, 1) := dk_3 (dk_at dksL_law_40 9 rfl rfl)
theorem dL_law_1088 : decode cL_law 1088 = .ok (.ireturn, 1) := dk_172 (dk_at dksL_law_40 10 rfl rfl)
theorem dL_law_1089 : decode cL_law 1089 = .ok (.aload_n 1, 1) := dk_43 (dk_at dksL_law_40 11 rfl rfl)
theorem dL_law_1090 : decode cL_law 1090 = .ok (.aload_n 0, 1) := dk_42 (dk_at dksL_law_40 12 rfl rfl)
theorem dL_law_1091 : decode cL_law 1091 = .ok (.iload 4, 2) := dk_21 4 (dk_at dksL_law_40 13 rfl rfl)
theorem dL_law_1093 : decode cL_law 1093 = .ok (.iconst 1, 1) := dk_4 (dk_at dksL_law_40 15 rfl rfl)
theorem dL_law_1094 : decode cL_law 1094 = .ok (.iadd, 1) := dk_96 (dk_at dksL_law_40 16 rfl rfl)
theorem dL_law_1095 : decode cL_law 1095 = .ok (.iaload, 1) := dk_46 (dk_at dksL_law_40 17 rfl rfl)
theorem dL_law_1096 : decode cL_law 1096 = .ok (.aload_n 0, 1) := dk_42 (dk_at dksL_law_40 18 rfl rfl)
theorem dL_law_1097 : decode cL_law 1097 = .ok (.iload 4, 2) := dk_21 4 (dk_at dksL_law_40 19 rfl rfl)
theorem dL_law_1099 : decode cL_law 1099 = .ok (.iconst 2, 1) := dk_5 (dk_at dksL_law_40 21 rfl rfl)
theorem dL_law_1100 : decode cL_law 1100 = .ok (.iadd, 1) := dk_96 (dk_at dksL_law_40 22 rfl rfl)
theorem dL_law_1101 : decode cL_law 1101 = .ok (.iaload, 1) := dk_46 (dk_at dksL_law_40 23 rfl rfl)
theorem dL_law_1102 : decode cL_law 1102 = .ok (.aload_n 0, 1) := dk_42 (dk_at dksL_law_41 0 rfl rfl)
theorem dL_law_1103 : decode cL_law 1103 = .ok (.iload 4, 2) := dk_21 4 (dk_at dksL_law_41 1 rfl rfl)
theorem dL_law_1105 : decode cL_law 1105 = .ok (.iconst 3, 1) := dk_6 (dk_at dksL_law_41 3 rfl rfl)
theorem dL_law_1106 : decode cL_law 1106 = .ok (.iadd, 1) := dk_96 (dk_at dksL_law_41 4 rfl rfl)
theorem dL_law_1107 : decode cL_law 1107 = .ok (.iaload, 1) := dk_46 (dk_at dksL_law_41 5 rfl rfl)
theorem dL_law_1108 : decode cL_law 1108 = .ok (.invokevirtual 136, 3) := dk_182 0 136 (dk_at dksL_law_41 6 rfl rfl)
theorem dL_law_1111 : decode cL_law 1111 = .ok (.aload_n 2, 1) := dk_44 (dk_at dksL_law_41 9 rfl rfl)
theorem dL_law_1112 : decode cL_law 1112 = .ok (.aload_n 0, 1) := dk_42 (dk_at dksL_law_41 10 rfl rfl)
theorem dL_law_1113 : decode cL_law 1113 = .ok (.iload 4, 2) := dk_21 4 (dk_at dksL_law_41 11 rfl rfl)
theorem dL_law_1115 : decode cL_law 1115 = .ok (.iconst 1, 1) := dk_4 (dk_at dksL_law_41 13 rfl rfl)
theorem dL_law_1116 : decode cL_law 1116 = .ok (.iadd, 1) := dk_96 (dk_at dksL_law_41 14 rfl rfl)
theorem dL_law_1117 : decode cL_law 1117 = .ok (.iaload, 1) := dk_46 (dk_at dksL_law_41 15 rfl rfl)
theorem dL_law_1118 : decode cL_law 1118 = .ok (.aload_n 0, 1) := dk_42 (dk_at dksL_law_41 16 rfl rfl)
theorem dL_law_1119 : decode cL_law 1119 = .ok (.iload 4, 2) := dk_21 4 (dk_at dksL_law_41 17 rfl rfl)
theorem dL_law_1121 : decode cL_law 1121 = .ok (.iconst 2, 1) := dk_5 (dk_at dksL_law_41 19 rfl rfl)
theorem dL_law_1122 : decode cL_law 1122 = .ok (.iadd, 1) := dk_96 (dk_at dksL_law_41 20 rfl rfl)
theorem dL_law_1123 : decode cL_law 1123 = .ok (.iaload, 1) := dk_46 (dk_at dksL_law_41 21 rfl rfl)
theorem dL_law_1124 : decode cL_law 1124 = .ok (.aload_n 0, 1) := dk_42 (dk_at dksL_law_41 22 rfl rfl)
theorem dL_law_1125 : decode cL_law 1125 = .ok (.iload 4, 2) := dk_21 4 (dk_at dksL_law_42 0 rfl rfl)
theorem dL_law_1127 : decode cL_law 1127 = .ok (.iconst 3, 1) := dk_6 (dk_at dksL_law_42 2 rfl rfl)
theorem dL_law_1128 : decode cL_law 1128 = .ok (.iadd, 1) := dk_96 (dk_at dksL_law_42 3 rfl rfl)
theorem dL_law_1129 : decode cL_law 1129 = .ok (.iaload, 1) := dk_46 (dk_at dksL_law_42 4 rfl rfl)
theorem dL_law_1130 : decode cL_law 1130 = .ok (.invokevirtual 139, 3) := dk_182 0 139 (dk_at dksL_law_42 5 rfl rfl)
theorem dL_law_1133 : decode cL_law 1133 = .ok (.if_icmp .eq 405, 3) := dk_159 1 149 (dk_at dksL_law_42 8 rfl rfl)
theorem dL_law_1136 : decode cL_law 1136 = .ok (.iconst 0, 1) := dk_3 (dk_at dksL_law_42 11 rfl rfl)
theorem dL_law_1137 : decode cL_law 1137 = .ok (.ireturn, 1) := dk_172 (dk_at dksL_law_42 12 rfl rfl)
theorem dL_law_1138 : decode cL_law 1138 = .ok (.aload_n 1, 1) := dk_43 (dk_at dksL_law_42 13 rfl rfl)
theorem dL_law_1139 : decode cL_law 1139 = .ok (.invokevirtual 140, 3) := dk_182 0 140 (dk_at dksL_law_42 14 rfl rfl)
theorem dL_law_1142 : decode cL_law 1142 = .ok (.aload_n 2, 1) := dk_44 (dk_at dksL_law_42 17 rfl rfl)
theorem dL_law_1143 : decode cL_law 1143 = .ok (.invokevirtual 143, 3) := dk_182 0 143 (dk_at dksL_law_42 18 rfl rfl)
theorem dL_law_1146 : decode cL_law 1146 = .ok (.if_icmp .eq 392, 3) := dk_159 1 136 (dk_at dksL_law_42 21 rfl rfl)
theorem dL_law_1149 : decode cL_law 1149 = .ok (.iconst 0, 1) := dk_3 (dk_at dksL_law_43 0 rfl rfl)
theorem dL_law_1150 : decode cL_law 1150 = .ok (.ireturn, 1) := dk_172 (dk_at dksL_law_43 1 rfl rfl)
theorem dL_law_1151 : decode cL_law 1151 = .ok (.aload_n 1, 1) := dk_43 (dk_at dksL_law_43 2 rfl rfl)
theorem dL_law_1152 : decode cL_law 1152 = .ok (.invokevirtual 144, 3) := dk_182 0 144 (dk_at dksL_law_43 3 rfl rfl)
theorem dL_law_1155 : decode cL_law 1155 = .ok (.aload_n 2, 1) := dk_44 (dk_at dksL_law_43 6 rfl rfl)
theorem dL_law_1156 : decode cL_law 1156 = .ok (.invokevirtual 147, 3) := dk_182 0 147 (dk_at dksL_law_43 7 rfl rfl)
theorem dL_law_1159 : decode cL_law 1159 = .ok (.if_icmp .eq 379, 3) := dk_159 1 123 (dk_at dksL_law_43 10 rfl rfl)
theorem dL_law_1162 : decode cL_law 1162 = .ok (.iconst 0, 1) := dk_3 (dk_at dksL_law_43 13 rfl rfl)
theorem dL_law_1163 : decode cL_law 1163 = .ok (.ireturn, 1) := dk_172 (dk_at dksL_law_43 14 rfl rfl)
theorem dL_law_1164 : decode cL_law 1164 = .ok (.aload_n 1, 1) := dk_43 (dk_at dksL_law_43 15 rfl rfl)
theorem dL_law_1165 : decode cL_law 1165 = .ok (.aload_n 0, 1) := dk_42 (dk_at dksL_law_43 16 rfl rfl)
theorem dL_law_1166 : decode cL_law 1166 = .ok (.iload 4, 2) := dk_21 4 (dk_at dksL_law_43 17 rfl rfl)
theorem dL_law_1168 : decode cL_law 1168 = .ok (.iconst 1, 1) := dk_4 (dk_at dksL_law_43 19 rfl rfl)
theorem dL_law_1169 : decode cL_law 1169 = .ok (.iadd, 1) := dk_96 (dk_at dksL_law_43 20 rfl rfl)
theorem dL_law_1170 : decode cL_law 1170 = .ok (.iaload, 1) := dk_46 (dk_at dksL_law_43 21 rfl rfl)
theorem dL_law_1171 : decode cL_law 1171 = .ok (.invokevirtual 148, 3) := dk_182 0 148 (dk_at dksL_law_44 0 rfl rfl)
theorem dL_law_1174 : decode cL_law 1174 = .ok (.aload_n 2, 1) := dk_44 (dk_at dksL_law_44 3 rfl rfl)
theorem dL_law_1175 : decode cL_law 1175 = .ok (.aload_n 0, 1) := dk_42 (dk_at dksL_law_44 4 rfl rfl)
theorem dL_law_1176 : decode cL_law 1176 = .ok (.iload 4, 2) := dk_21 4 (dk_at dksL_law_44 5 rfl rfl)
theorem dL_law_1178 : decode cL_law 1178 = .ok (.iconst 1, 1) := dk_4 (dk_at dksL_law_44 7 rfl rfl)
theorem dL_law_1179 : decode cL_law 1179 = .ok (.iadd, 1) := dk_96 (dk_at dksL_law_44 8 rfl rfl)
theorem dL_law_1180 : decode cL_law 1180 = .ok (.iaload, 1) := dk_46 (dk_at dksL_law_44 9 rfl rfl)
theorem dL_law_1181 : decode cL_law 1181 = .ok (.invokevirtual 151, 3) := dk_182 0 151 (dk_at dksL_law_44 10 rfl rfl)
theorem dL_law_1184 : decode cL_law 1184 = .ok (.if_icmp .eq 354, 3) := dk_159 1 98 (dk_at dksL_law_44 13 rfl rfl)
theorem dL_law_1187 : decode cL_law 1187 = .ok (.iconst 0, 1) := dk_3 (dk_at dksL_law_44 16 rfl rfl)
theorem dL_law_1188 : decode cL_law 1188 = .ok (.ireturn, 1) := dk_172 (dk_at dksL_law_44 17 rfl rfl)
theorem dL_law_1189 : decode cL_law 1189 = .ok (.aload_n 1, 1) := dk_43 (dk_at dksL_law_44 18 rfl rfl)
theorem dL_law_1190 : decode cL_law 1190 = .ok (.aload_n 0, 1) := dk_42 (dk_at dksL_law_44 19 rfl rfl)
theorem dL_law_1191 : decode cL_law 1191 = .ok (.iload 4, 2) := dk_21 4 (dk_at dksL_law_44 20 rfl rfl)
theorem dL_law_1193 : decode cL_law 1193 = .ok (.iconst 1, 1) := dk_4 (dk_at dksL_law_44 22 rfl rfl)
theorem dL_law_1194 : decode cL_law 1194 = .ok (.iadd, 1) := dk_96 (dk_at dksL_law_44 23 rfl rfl)
theorem dL_law_1195 : decode cL_law 1195 = .ok (.iaload, 1) := dk_46 (dk_at dksL_law_45 0 rfl rfl)
theorem dL_law_1196 : decode cL_law 1196 = .ok (.aload_n 0, 1) := dk_42 (dk_at dksL_law_45 1 rfl rfl)
theorem dL_law_1197 : decode cL_law 1197 = .ok (.iload 4, 2) := dk_21 4 (dk_at dksL_law_45 2 rfl rfl)
theorem dL_law_1199 : decode cL_law 1199 = .ok (.iconst 2, 1) := dk_5 (dk_at dksL_law_45 4 rfl rfl)
theorem dL_law_1200 : decode cL_law 1200 = .ok (.iadd, 1) := dk_96 (dk_at dksL_law_45 5 rfl rfl)
theorem dL_law_1201 : decode cL_law 1201 = .ok (.iaload, 1) := dk_46 (dk_at dksL_law_45 6 rfl rfl)
theorem dL_law_1202 : decode cL_law 1202 = .ok (.aload_n 0, 1) := dk_42 (dk_at dksL_law_45 7 rfl rfl)
theorem dL_law_1203 : decode cL_law 1203 = .ok (.iload 4, 2) := dk_21 4 (dk_at dksL_law_45 8 rfl rfl)
theorem dL_law_1205 : decode cL_law 1205 = .ok (.iconst 3, 1) := dk_6 (dk_at dksL_law_45 10 rfl rfl)
theorem dL_law_1206 : decode cL_law 1206 = .ok (.iadd, 1) := dk_96 (dk_at dksL_law_45 11 rfl rfl)
theorem dL_law_1207 : decode cL_law 1207 = .ok (.iaload, 1) := dk_46 (dk_at dksL_law_45 12 rfl rfl)
theorem dL_law_1208 : decode cL_law 1208 = .ok (.aload_n 0, 1) := dk_42 (dk_at dksL_law_45 13 rfl rfl)
theorem dL_law_1209 : decode cL_law 1209 = .ok (.iload 4, 2) := dk_21 4 (dk_at dksL_law_45 14 rfl rfl)
theorem dL_law_1211 : decode cL_law 1211 = .ok (.iconst 4, 1) := dk_7 (dk_at dksL_law_45 16 rfl rfl)
theorem dL_law_1212 : decode cL_law 1212 = .ok (.iadd, 1) := dk_96 (dk_at dksL_law_45 17 rfl rfl)
theorem dL_law_1213 : decode cL_law 1213 = .ok (.iaload, 1) := dk_46 (dk_at dksL_law_45 18 rfl rfl)
theorem dL_law_1214 : decode cL_law 1214 = .ok (.invokevirtual 152, 3) := dk_182 0 152 (dk_at dksL_law_45 19 rfl rfl)
theorem dL_law_1217 : decode cL_law 1217 = .ok (.aload_n 2, 1) := dk_44 (dk_at dksL_law_45 22 rfl rfl)
theorem dL_law_1218 : decode cL_law 1218 = .ok (.aload_n 0, 1) := dk_42 (dk_at dksL_law_45 23 rfl rfl)
theorem dL_law_1219 : decode cL_law 1219 = .ok (.iload 4, 2) := dk_21 4 (dk_at dksL_law_46 0 rfl rfl)
theorem dL_law_1221 : decode cL_law 1221 = .ok (.iconst 1, 1) := dk_4 (dk_at dksL_law_46 2 rfl rfl)
theorem dL_law_1222 : decode cL_law 1222 = .ok (.iadd, 1) := dk_96 (dk_at dksL_law_46 3 rfl rfl)
theorem dL_law_1223 : decode cL_law 1223 = .ok (.iaload, 1) := dk_46 (dk_at dksL_law_46 4 rfl rfl)
theorem dL_law_1224 : decode cL_law 1224 = .ok (.aload_n 0, 1) := dk_42 (dk_at dksL_law_46 5 rfl rfl)
theorem dL_law_1225 : decode cL_law 1225 = .ok (.iload 4, 2) := dk_21 4 (dk_at dksL_law_46 6 rfl rfl)
theorem dL_law_1227 : decode cL_law 1227 = .ok (.iconst 2, 1) := dk_5 (dk_at dksL_law_46 8 rfl rfl)
theorem dL_law_1228 : decode cL_law 1228 = .ok (.iadd, 1) := dk_96 (dk_at dksL_law_46 9 rfl rfl)
theorem dL_law_1229 : decode cL_law 1229 = .ok (.iaload, 1) := dk_46 (dk_at dksL_law_46 10 rfl rfl)
theorem dL_law_1230 : decode cL_law 1230 = .ok (.aload_n 0, 1) := dk_42 (dk_at dksL_law_46 11 rfl rfl)
theorem dL_law_1231 : decode cL_law 1231 = .ok (.iload 4, 2) := dk_21 4 (dk_at dksL_law_46 12 rfl rfl)
theorem dL_law_1233 : decode cL_law 1233 = .ok (.iconst 3, 1) := dk_6 (dk_at dksL_law_46 14 rfl rfl)
theorem dL_law_1234 : decode cL_law 1234 = .ok (.iadd, 1) := dk_96 (dk_at dksL_law_46 15 rfl rfl)
theorem dL_law_1235 : decode cL_law 1235 = .ok (.iaload, 1) := dk_46 (dk_at dksL_law_46 16 rfl rfl)
theorem dL_law_1236 : decode cL_law 1236 = .ok (.aload_n 0, 1) := dk_42 (dk_at dksL_law_46 17 rfl rfl)
theorem dL_law_1237 : decode cL_law 1237 = .ok (.iload 4, 2) := dk_21 4 (dk_at dksL_law_46 18 rfl rfl)
theorem dL_law_1239 : decode cL_law 1239 = .ok (.iconst 4, 1) := dk_7 (dk_at dksL_law_46 20 rfl rfl)
theorem dL_law_1240 : decode cL_law 1240 = .ok (.iadd, 1) := dk_96 (dk_at dksL_law_46 21 rfl rfl)
theorem dL_law_1241 : decode cL_law 1241 = .ok (.iaload, 1) := dk_46 (dk_at dksL_law_46 22 rfl rfl)
theorem dL_law_1242 : decode cL_law 1242 = .ok (.invokevirtual 155, 3) := dk_182 0 155 (dk_at dksL_law_47 0 rfl rfl)
theorem dL_law_1245 : decode cL_law 1245 = .ok (.if_icmp .eq 293, 3) := dk_159 1 37 (dk_at dksL_law_47 3 rfl rfl)
theorem dL_law_1248 : decode cL_law 1248 = .ok (.iconst 0, 1) := dk_3 (dk_at dksL_law_47 6 rfl rfl)
theorem dL_law_1249 : decode cL_law 1249 = .ok (.ireturn, 1) := dk_172 (dk_at dksL_law_47 7 rfl rfl)
theorem dL_law_1250 : decode cL_law 1250 = .ok (.aload_n 1, 1) := dk_43 (dk_at dksL_law_47 8 rfl rfl)
theorem dL_law_1251 : decode cL_law 1251 = .ok (.aload_n 0, 1) := dk_42 (dk_at dksL_law_47 9 rfl rfl)
theorem dL_law_1252 : decode cL_law 1252 = .ok (.iload 4, 2) := dk_21 4 (dk_at dksL_law_47 10 rfl rfl)
theorem dL_law_1254 : decode cL_law 1254 = .ok (.iconst 1, 1) := dk_4 (dk_at dksL_law_47 12 rfl rfl)
theorem dL_law_1255 : decode cL_law 1255 = .ok (.iadd, 1) := dk_96 (dk_at dksL_law_47 13 rfl rfl)
theorem dL_law_1256 : decode cL_law 1256 = .ok (.iaload, 1) := dk_46 (dk_at dksL_law_47 14 rfl rfl)
theorem dL_law_1257 : decode cL_law 1257 = .ok (.aload_n 0, 1) := dk_42 (dk_at dksL_law_47 15 rfl rfl)
theorem dL_law_1258 : decode cL_law 1258 = .ok (.iload 4, 2) := dk_21 4 (dk_at dksL_law_47 16 rfl rfl)
theorem dL_law_1260 : decode cL_law 1260 = .ok (.iconst 2, 1) := dk_5 (dk_at dksL_law_47 18 rfl rfl)
theorem dL_law_1261 : decode cL_law 1261 = .ok (.iadd, 1) := dk_96 (dk_at dksL_law_47 19 rfl rfl)
theorem dL_law_1262 : decode cL_law 1262 = .ok (.iaload, 1) := dk_46 (dk_at dksL_law_47 20 rfl rfl)
theorem dL_law_1263 : decode cL_law 1263 = .ok (.aload_n 0, 1) := dk_42 (dk_at dksL_law_47 21 rfl rfl)
theorem dL_law_1264 : decode cL_law 1264 = .ok (.iload 4, 2) := dk_21 4 (dk_at dksL_law_47 22 rfl rfl)
theorem dL_law_1266 : decode cL_law 1266 = .ok (.iconst 3, 1) := dk_6 (dk_at dksL_law_48 0 rfl rfl)
theorem dL_law_1267 : decode cL_law 1267 = .ok (.iadd, 1) := dk_96 (dk_at dksL_law_48 1 rfl rfl)
theorem dL_law_1268 : decode cL_law 1268 = .ok (.iaload, 1) := dk_46 (dk_at dksL_law_48 2 rfl rfl)
theorem dL_law_1269 : decode cL_law 1269 = .ok (.invokevirtual 156, 3) := dk_182 0 156 (dk_at dksL_law_48 3 rfl rfl)
theorem dL_law_1272 : decode cL_law 1272 = .ok (.aload_n 2, 1) := dk_44 (dk_at dksL_law_48 6 rfl rfl)
theorem dL_law_1273 : decode cL_law 1273 = .ok (.aload_n 0, 1) := dk_42 (dk_at dksL_law_48 7 rfl rfl)
theorem dL_law_1274 : decode cL_law 1274 = .ok (.iload 4, 2) := dk_21 4 (dk_at dksL_law_48 8 rfl rfl)
theorem dL_law_1276 : decode cL_law 1276 = .ok (.iconst 1, 1) := dk_4 (dk_at dksL_law_48 10 rfl rfl)
theorem dL_law_1277 : decode cL_law 1277 = .ok (.iadd, 1) := dk_96 (dk_at dksL_law_48 11 rfl rfl)
theorem dL_law_1278 : decode cL_law 1278 = .ok (.iaload, 1) := dk_46 (dk_at dksL_law_48 12 rfl rfl)
theorem dL_law_1279 : decode cL_law 1279 = .ok (.aload_n 0, 1) := dk_42 (dk_at dksL_law_48 13 rfl rfl)
theorem dL_law_1280 : decode cL_law 1280 = .ok (.iload 4, 2) := dk_21 4 (dk_at dksL_law_48 14 rfl rfl)
theorem dL_law_1282 : decode cL_law 1282 = .ok (.iconst 2, 1) := dk_5 (dk_at dksL_law_48 16 rfl rfl)
theorem dL_law_1283 : decode cL_law 1283 = .ok (.iadd, 1) := dk_96 (dk_at dksL_law_48 17 rfl rfl)
theorem dL_law_1284 : decode cL_law 1284 = .ok (.iaload, 1) := dk_46 (dk_at dksL_law_48 18 rfl rfl)
theorem dL_law_1285 : decode cL_law 1285 = .ok (.aload_n 0, 1) := dk_42 (dk_at dksL_law_48 19 rfl rfl)
theorem dL_law_1286 : decode cL_law 1286 = .ok (.iload 4, 2) := dk_21 4 (dk_at dksL_law_48 20 rfl rfl)
theorem dL_law_1288 : decode cL_law 1288 = .ok (.iconst 3, 1) := dk_6 (dk_at dksL_law_48 22 rfl rfl)
theorem dL_law_1289 : decode cL_law 1289 = .ok (.iadd, 1) := dk_96 (dk_at dksL_law_48 23 rfl rfl)
theorem dL_law_1290 : decode cL_law 1290 = .ok (.iaload, 1) := dk_46 (dk_at dksL_law_49 0 rfl rfl)
theorem dL_law_1291 : decode cL_law 1291 = .ok (.invokevirtual 159, 3) := dk_182 0 159 (dk_at dksL_law_49 1 rfl rfl)
theorem dL_law_1294 : decode cL_law 1294 = .ok (.if_icmp .eq 244, 3) := dk_159 0 244 (dk_at dksL_law_49 4 rfl rfl)
theorem dL_law_1297 : decode cL_law 1297 = .ok (.iconst 0, 1) := dk_3 (dk_at dksL_law_49 7 rfl rfl)
theorem dL_law_1298 : decode cL_law 1298 = .ok (.ireturn, 1) := dk_172 (dk_at dksL_law_49 8 rfl rfl)
theorem dL_law_1299 : decode cL_law 1299 = .ok (.aload_n 1, 1) := dk_43 (dk_at dksL_law_49 9 rfl rfl)
theorem dL_law_1300 : decode cL_law 1300 = .ok (.aload_n 0, 1) := dk_42 (dk_at dksL_law_49 10 rfl rfl)
theorem dL_law_1301 : decode cL_law 1301 = .ok (.iload 4, 2) := dk_21 4 (dk_at dksL_law_49 11 rfl rfl)
theorem dL_law_1303 : decode cL_law 1303 = .ok (.iconst 1, 1) := dk_4 (dk_at dksL_law_49 13 rfl rfl)
theorem dL_law_1304 : decode cL_law 1304 = .ok (.iadd, 1) := dk_96 (dk_at dksL_law_49 14 rfl rfl)
theorem dL_law_1305 : decode cL_law 1305 = .ok (.iaload, 1) := dk_46 (dk_at dksL_law_49 15 rfl rfl)
theorem dL_law_1306 : decode cL_law 1306 = .ok (.aload_n 0, 1) := dk_42 (dk_at dksL_law_49 16 rfl rfl)
theorem dL_law_1307 : decode cL_law 1307 = .ok (.iload 4, 2) := dk_21 4 (dk_at dksL_law_49 17 rfl rfl)
theorem dL_law_1309 : decode cL_law 1309 = .ok (.iconst 2, 1) := dk_5 (dk_at dksL_law_49 19 rfl rfl)
theorem dL_law_1310 : decode cL_law 1310 = .ok (.iadd, 1) := dk_96 (dk_at dksL_law_49 20 rfl rfl)
theorem dL_law_1311 : decode cL_law 1311 = .ok (.iaload, 1) := dk_46 (dk_at dksL_law_49 21 rfl rfl)
theorem dL_law_1312 : decode cL_law 1312 = .ok (.aload_n 0, 1) := dk_42 (dk_at dksL_law_49 22 rfl rfl)
theorem dL_law_1313 : decode cL_law 1313 = .ok (.iload 4, 2) := dk_21 4 (dk_at dksL_law_50 0 rfl rfl)
theorem dL_law_1315 : decode cL_law 1315 = .ok (.iconst 3, 1) := dk_6 (dk_at dksL_law_50 2 rfl rfl)
theorem dL_law_1316 : decode cL_law 1316 = .ok (.iadd, 1) := dk_96 (dk_at dksL_law_50 3 rfl rfl)
theorem dL_law_1317 : decode cL_law 1317 = .ok (.iaload, 1) := dk_46 (dk_at dksL_law_50 4 rfl rfl)
theorem dL_law_1318 : decode cL_law 1318 = .ok (.invokevirtual 160, 3) := dk_182 0 160 (dk_at dksL_law_50 5 rfl rfl)
theorem dL_law_1321 : decode cL_law 1321 = .ok (.aload_n 2, 1) := dk_44 (dk_at dksL_law_50 8 rfl rfl)
theorem dL_law_1322 : decode cL_law 1322 = .ok (.aload_n 0, 1) := dk_42 (dk_at dksL_law_50 9 rfl rfl)
theorem dL_law_1323 : decode cL_law 1323 = .ok (.iload 4, 2) := dk_21 4 (dk_at dksL_law_50 10 rfl rfl)
theorem dL_law_1325 : decode cL_law 1325 = .ok (.iconst 1, 1) := dk_4 (dk_at dksL_law_50 12 rfl rfl)
theorem dL_law_1326 : decode cL_law 1326 = .ok (.iadd, 1) := dk_96 (dk_at dksL_law_50 13 rfl rfl)
theorem dL_law_1327 : decode cL_law 1327 = .ok (.iaload, 1) := dk_46 (dk_at dksL_law_50 14 rfl rfl)
theorem dL_law_1328 : decode cL_law 1328 = .ok (.aload_n 0, 1) := dk_42 (dk_at dksL_law_50 15 rfl rfl)
theorem dL_law_1329 : decode cL_law 1329 = .ok (.iload 4, 2) := dk_21 4 (dk_at dksL_law_50 16 rfl rfl)
theorem dL_law_1331 : decode cL_law 1331 = .ok (.iconst 2, 1) := dk_5 (dk_at dksL_law_50 18 rfl rfl)
theorem dL_law_1332 : decode cL_law 1332 = .ok (.iadd, 1) := dk_96 (dk_at dksL_law_50 19 rfl rfl)
theorem dL_law_1333 : decode cL_law 1333 = .ok (.iaload, 1) := dk_46 (dk_at dksL_law_50 20 rfl rfl)
theorem dL_law_1334 : decode cL_law 1334 = .ok (.aload_n 0, 1) := dk_42 (dk_at dksL_law_50 21 rfl rfl)
theorem dL_law_1335 : decode cL_law 1335 = .ok (.iload 4, 2) := dk_21 4 (dk_at dksL_law_50 22 rfl rfl)
theorem dL_law_1337 : decode cL_law 1337 = .ok (.iconst 3, 1) := dk_6 (dk_at dksL_law_51 0 rfl rfl)
theorem dL_law_1338 : decode cL_law 1338 = .ok (.iadd, 1) := dk_96 (dk_at dksL_law_51 1 rfl rfl)
theorem dL_law_1339 : decode cL_law 1339 = .ok (.iaload, 1) := dk_46 (dk_at dksL_law_51 2 rfl rfl)
theorem dL_law_1340 : decode cL_law 1340 = .ok (.invokevirtual 163, 3) := dk_182 0 163 (dk_at dksL_law_51 3 rfl rfl)
theorem dL_law_1343 : decode cL_law 1343 = .ok (.if_icmp .eq 195, 3) := dk_159 0 195 (dk_at dksL_law_51 6 rfl rfl)
theorem dL_law_1346 : decode cL_law 1346 = .ok (.iconst 0, 1) := dk_3 (dk_at dksL_law_51 9 rfl rfl)
theorem dL_law_1347 : decode cL_law 1347 = .ok (.ireturn, 1) := dk_172 (dk_at dksL_law_51 10 rfl rfl)
theorem dL_law_1348 : decode cL_law 1348 = .ok (.aload_n 1, 1) := dk_43 (dk_at dksL_law_51 11 rfl rfl)
theorem dL_law_1349 : decode cL_law 1349 = .ok (.aload_n 0, 1) := dk_42 (dk_at dksL_law_51 12 rfl rfl)
theorem dL_law_1350 : decode cL_law 1350 = .ok (.iload 4, 2) := dk_21 4 (dk_at dksL_law_51 13 rfl rfl)
theorem dL_law_1352 : decode cL_law 1352 = .ok (.iconst 1, 1) := dk_4 (dk_at dksL_law_51 15 rfl rfl)
theorem dL_law_1353 : decode cL_law 1353 = .ok (.iadd, 1) := dk_96 (dk_at dksL_law_51 16 rfl rfl)
theorem dL_law_1354 : decode cL_law 1354 = .ok (.iaload, 1) := dk_46 (dk_at dksL_law_51 17 rfl rfl)
theorem dL_law_1355 : decode cL_law 1355 = .ok (.aload_n 0, 1) := dk_42 (dk_at dksL_law_51 18 rfl rfl)
theorem dL_law_1356 : decode cL_law 1356 = .ok (.iload 4, 2) := dk_21 4 (dk_at dksL_law_51 19 rfl rfl)
theorem dL_law_1358 : decode cL_law 1358 = .ok (.iconst 2, 1) := dk_5 (dk_at dksL_law_51 21 rfl rfl)
theorem dL_law_1359 : decode cL_law 1359 = .ok (.iadd, 1) := dk_96 (dk_at dksL_law_51 22 rfl rfl)
theorem dL_law_1360 : decode cL_law 1360 = .ok (.iaload, 1) := dk_46 (dk_at dksL_law_51 23 rfl rfl)
theorem dL_law_1361 : decode cL_law 1361 = .ok (.aload_n 3, 1) := dk_45 (dk_at dksL_law_52 0 rfl rfl)
theorem dL_law_1362 : decode cL_law 1362 = .ok (.invokestatic 164, 3) := dk_184 0 164 (dk_at dksL_law_52 1 rfl rfl)
theorem dL_law_1365 : decode cL_law 1365 = .ok (.istore 5, 2) := dk_54 5 (dk_at dksL_law_52 4 rfl rfl)
theorem dL_law_1367 : decode cL_law 1367 = .ok (.aload_n 2, 1) := dk_44 (dk_at dksL_law_52 6 rfl rfl)
theorem dL_law_1368 : decode cL_law 1368 = .ok (.aload_n 0, 1) := dk_42 (dk_at dksL_law_52 7 rfl rfl)
theorem dL_law_1369 : decode cL_law 1369 = .ok (.iload 4, 2) := dk_21 4 (dk_at dksL_law_52 8 rfl rfl)
theorem dL_law_1371 : decode cL_law 1371 = .ok (.iconst 1, 1) := dk_4 (dk_at dksL_law_52 10 rfl rfl)
theorem dL_law_1372 : decode cL_law 1372 = .ok (.iadd, 1) := dk_96 (dk_at dksL_law_52 11 rfl rfl)
theorem dL_law_1373 : decode cL_law 1373 = .ok (.iaload, 1) := dk_46 (dk_at dksL_law_52 12 rfl rfl)
theorem dL_law_1374 : decode cL_law 1374 = .ok (.aload_n 0, 1) := dk_42 (dk_at dksL_law_52 13 rfl rfl)
theorem dL_law_1375 : decode cL_law 1375 = .ok (.iload 4, 2) := dk_21 4 (dk_at dksL_law_52 14 rfl rfl)
theorem dL_law_1377 : decode cL_law 1377 = .ok (.iconst 2, 1) := dk_5 (dk_at dksL_law_52 16 rfl rfl)
theorem dL_law_1378 : decode cL_law 1378 = .ok (.iadd, 1) := dk_96 (dk_at dksL_law_52 17 rfl rfl)
theorem dL_law_1379 : decode cL_law 1379 = .ok (.iaload, 1) := dk_46 (dk_at dksL_law_52 18 rfl rfl)
theorem dL_law_1380 : decode cL_law 1380 = .ok (.invokevirtual 169, 3) := dk_182 0 169 (dk_at dksL_law_52 19 rfl rfl)
theorem dL_law_1383 : decode cL_law 1383 = .ok (.lstore 6, 2) := dk_55 6 (dk_at dksL_law_52 22 rfl rfl)
theorem dL_law_1385 : decode cL_law 1385 = .ok (.aload_n 2, 1) := dk_44 (dk_at dksL_law_53 0 rfl rfl)
theorem dL_law_1386 : decode cL_law 1386 = .ok (.invokevirtual 170, 3) := dk_182 0 170 (dk_at dksL_law_53 1 rfl rfl)
theorem dL_law_1389 : decode cL_law 1389 = .ok (.iload 5, 2) := dk_21 5 (dk_at dksL_law_53 4 rfl rfl)
theorem dL_law_1391 : decode cL_law 1391 = .ok (.if_icmp .eq 5, 3) := dk_159 0 5 (dk_at dksL_law_53 6 rfl rfl)
theorem dL_law_1394 : decode cL_law 1394 = .ok (.iconst 0, 1) := dk_3 (dk_at dksL_law_53 9 rfl rfl)
theorem dL_law_1395 : decode cL_law 1395 = .ok (.ireturn, 1) := dk_172 (dk_at dksL_law_53 10 rfl rfl)
theorem dL_law_1396 : decode cL_law 1396 = .ok (.iload 5, 2) := dk_21 5 (dk_at dksL_law_53 11 rfl rfl)
theorem dL_law_1398 : decode cL_law 1398 = .ok (.ifCond .ne 14, 3) := dk_154 0 14 (dk_at dksL_law_53 13 rfl rfl)
theorem dL_law_1401 : decode cL_law 1401 = .ok (.aload_n 3, 1) := dk_45 (dk_at dksL_law_53 16 rfl rfl)
theorem dL_law_1402 : decode cL_law 1402 = .ok (.iconst 0, 1) := dk_3 (dk_at dksL_law_53 17 rfl rfl)
theorem dL_law_1403 : decode cL_law 1403 = .ok (.laload, 1) := dk_47 (dk_at dksL_law_53 18 rfl rfl)
theorem dL_law_1404 : decode cL_law 1404 = .ok (.lload 6, 2) := dk_22 6 (dk_at dksL_law_53 19 rfl rfl)
theorem dL_law_1406 : decode cL_law 1406 = .ok (.lcmp, 1) := dk_148 (dk_at dksL_law_53 21 rfl rfl)
theorem dL_law_1407 : decode cL_law 1407 = .ok (.ifCond .eq 5, 3) := dk_153 0 5 (dk_at dksL_law_54 0 rfl rfl)
theorem dL_law_1410 : decode cL_law 1410 = .ok (.iconst 0, 1) := dk_3 (dk_at dksL_law_54 3 rfl rfl)
theorem dL_law_1411 : decode cL_law 1411 = .ok (.ireturn, 1) := dk_172 (dk_at dksL_law_54 4 rfl rfl)
theorem dL_law_1412 : decode cL_law 1412 = .ok (.goto 126, 3) := dk_167 0 126 (dk_at dksL_law_54 5 rfl rfl)
theorem dL_law_1415 : decode cL_law 1415 = .ok (.aload_n 1, 1) := dk_43 (dk_at dksL_law_54 8 rfl rfl)
theorem dL_law_1416 : decode cL_law 1416 = .ok (.aload_n 0, 1) := dk_42 (dk_at dksL_law_54 9 rfl rfl)
theorem dL_law_1417 : decode cL_law 1417 = .ok (.iload 4, 2) := dk_21 4 (dk_at dksL_law_54 10 rfl rfl)
theorem dL_law_1419 : decode cL_law 1419 = .ok (.iconst 1, 1) := dk_4 (dk_at dksL_law_54 12 rfl rfl)
theorem dL_law_1420 : decode cL_law 1420 = .ok (.iadd, 1) := dk_96 (dk_at dksL_law_54 13 rfl rfl)
theorem dL_law_1421 : decode cL_law 1421 = .ok (.iaload, 1) := dk_46 (dk_at dksL_law_54 14 rfl rfl)
theorem dL_law_1422 : decode cL_law 1422 = .ok (.aload_n 0, 1) := dk_42 (dk_at dksL_law_54 15 rfl rfl)
theorem dL_law_1423 : decode cL_law 1423 = .ok (.iload 4, 2) := dk_21 4 (dk_at dksL_law_54 16 rfl rfl)
theorem dL_law_1425 : decode cL_law 1425 = .ok (.iconst 2, 1) := dk_5 (dk_at dksL_law_54 18 rfl rfl)
theorem dL_law_1426 : decode cL_law 1426 = .ok (.iadd, 1) := dk_96 (dk_at dksL_law_54 19 rfl rfl)
theorem dL_law_1427 : decode cL_law 1427 = .ok (.iaload, 1) := dk_46 (dk_at dksL_law_54 20 rfl rfl)
theorem dL_law_1428 : decode cL_law 1428 = .ok (.aload_n 0, 1) := dk_42 (dk_at dksL_law_54 21 rfl rfl)
theorem dL_law_1429 : decode cL_law 1429 = .ok (.iload 4, 2) := dk_21 4 (dk_at dksL_law_54 22 rfl rfl)
theorem dL_law_1431 : decode cL_law 1431 = .ok (.iconst 3, 1) := dk_6 (dk_at dksL_law_55 0 rfl rfl)
theorem dL_law_1432 : decode cL_law 1432 = .ok (.iadd, 1) := dk_96 (dk_at dksL_law_55 1 rfl rfl)
theorem dL_law_1433 : decode cL_law 1433 = .ok (.iaload, 1) := dk_46 (dk_at dksL_law_55 2 rfl rfl)
theorem dL_law_1434 : decode cL_law 1434 = .ok (.aload_n 0, 1) := dk_42 (dk_at dksL_law_55 3 rfl rfl)
theorem dL_law_1435 : decode cL_law 1435 = .ok (.iload 4, 2) := dk_21 4 (dk_at dksL_law_55 4 rfl rfl)
theorem dL_law_1437 : decode cL_law 1437 = .ok (.iconst 4, 1) := dk_7 (dk_at dksL_law_55 6 rfl rfl)
theorem dL_law_1438 : decode cL_law 1438 = .ok (.iadd, 1) := dk_96 (dk_at dksL_law_55 7 rfl rfl)
theorem dL_law_1439 : decode cL_law 1439 = .ok (.iaload, 1) := dk_46 (dk_at dksL_law_55 8 rfl rfl)
theorem dL_law_1440 : decode cL_law 1440 = .ok (.aload_n 0, 1) := dk_42 (dk_at dksL_law_55 9 rfl rfl)
theorem dL_law_1441 : decode cL_law 1441 = .ok (.iload 4, 2) := dk_21 4 (dk_at dksL_law_55 10 rfl rfl)
theorem dL_law_1443 : decode cL_law 1443 = .ok (.iconst 5, 1) := dk_8 (dk_at dksL_law_55 12 rfl rfl)
theorem dL_law_1444 : decode cL_law 1444 = .ok (.iadd, 1) := dk_96 (dk_at dksL_law_55 13 rfl rfl)
theorem dL_law_1445 : decode cL_law 1445 = .ok (.iaload, 1) := dk_46 (dk_at dksL_law_55 14 rfl rfl)
theorem dL_law_1446 : decode cL_law 1446 = .ok (.invokevirtual 173, 3) := dk_182 0 173 (dk_at dksL_law_55 15 rfl rfl)
theorem dL_law_1449 : decode cL_law 1449 = .ok (.aload_n 2, 1) := dk_44 (dk_at dksL_law_55 18 rfl rfl)
theorem dL_law_1450 : decode cL_law 1450 = .ok (.aload_n 0, 1) := dk_42 (dk_at dksL_law_55 19 rfl rfl)
theorem dL_law_1451 : decode cL_law 1451 = .ok (.iload 4, 2) := dk_21 4 (dk_at dksL_law_55 20 rfl rfl)
theorem dL_law_1453 : decode cL_law 1453 = .ok (.iconst 1, 1) := dk_4 (dk_at dksL_law_55 22 rfl rfl)
theorem dL_law_1454 : decode cL_law 1454 = .ok (.iadd, 1) := dk_96 (dk_at dksL_law_55 23 rfl rfl)
theorem dL_law_1455 : decode cL_law 1455 = .ok (.iaload, 1) := dk_46 (dk_at dksL_law_56 0 rfl rfl)
theorem dL_law_1456 : decode cL_law 1456 = .ok (.aload_n 0, 1) := dk_42 (dk_at dksL_law_56 1 rfl rfl)
theorem dL_law_1457 : decode cL_law 1457 = .ok (.iload 4, 2) := dk_21 4 (dk_at dksL_law_56 2 rfl rfl)
theorem dL_law_1459 : decode cL_law 1459 = .ok (.iconst 2, 1) := dk_5 (dk_at dksL_law_56 4 rfl rfl)
theorem dL_law_1460 : decode cL_law 1460 = .ok (.iadd, 1) := dk_96 (dk_at dksL_law_56 5 rfl rfl)
theorem dL_law_1461 : decode cL_law 1461 = .ok (.iaload, 1) := dk_46 (dk_at dksL_law_56 6 rfl rfl)
theorem dL_law_1462 : decode cL_law 1462 = .ok (.aload_n 0, 1) := dk_42 (dk_at dksL_law_56 7 rfl rfl)
theorem dL_law_1463 : decode cL_law 1463 = .ok (.iload 4, 2) := dk_21 4 (dk_at dksL_law_56 8 rfl rfl)
theorem dL_law_1465 : decode cL_law 1465 = .ok (.iconst 3, 1) := dk_6 (dk_at dksL_law_56 10 rfl rfl)
theorem dL_law_1466 : decode cL_law 1466 = .ok (.iadd, 1) := dk_96 (dk_at dksL_law_56 11 rfl rfl)
theorem dL_law_1467 : decode cL_law 1467 = .ok (.iaload, 1) := dk_46 (dk_at dksL_law_56 12 rfl rfl)
theorem dL_law_1468 : decode cL_law 1468 = .ok (.aload_n 0, 1) := dk_42 (dk_at dksL_law_56 13 rfl rfl)
theorem dL_law_1469 : decode cL_law 1469 = .ok (.iload 4, 2) := dk_21 4 (dk_at dksL_law_56 14 rfl rfl)
theorem dL_law_1471 : decode cL_law 1471 = .ok (.iconst 4, 1) := dk_7 (dk_at dksL_law_56 16 rfl rfl)
theorem dL_law_1472 : decode cL_law 1472 = .ok (.iadd, 1) := dk_96 (dk_at dksL_law_56 17 rfl rfl)
theorem dL_law_1473 : decode cL_law 1473 = .ok (.iaload, 1) := dk_46 (dk_at dksL_law_56 18 rfl rfl)
theorem dL_law_1474 : decode cL_law 1474 = .ok (.aload_n 0, 1) := dk_42 (dk_at dksL_law_56 19 rfl rfl)
theorem dL_law_1475 : decode cL_law 1475 = .ok (.iload 4, 2) := dk_21 4 (dk_at dksL_law_56 20 rfl rfl)
theorem dL_law_1477 : decode cL_law 1477 = .ok (.iconst 5, 1) := dk_8 (dk_at dksL_law_56 22 rfl rfl)
theorem dL_law_1478 : decode cL_law 1478 = .ok (.iadd, 1) := dk_96 (dk_at dksL_law_56 23 rfl rfl)
theorem dL_law_1479 : decode cL_law 1479 = .ok (.iaload, 1) := dk_46 (dk_at dksL_law_57 0 rfl rfl)
theorem dL_law_1480 : decode cL_law 1480 = .ok (.invokevirtual 177, 3) := dk_182 0 177 (dk_at dksL_law_57 1 rfl rfl)
theorem dL_law_1483 : decode cL_law 1483 = .ok (.if_icmp .eq 55, 3) := dk_159 0 55 (dk_at dksL_law_57 4 rfl rfl)
theorem dL_law_1486 : decode cL_law 1486 = .ok (.iconst 0, 1) := dk_3 (dk_at dksL_law_57 7 rfl rfl)
theorem dL_law_1487 : decode cL_law 1487 = .ok (.ireturn, 1) := dk_172 (dk_at dksL_law_57 8 rfl rfl)
theorem dL_law_1488 : decode cL_law 1488 = .ok (.aload_n 1, 1) := dk_43 (dk_at dksL_law_57 9 rfl rfl)
theorem dL_law_1489 : decode cL_law 1489 = .ok (.aload_n 0, 1) := dk_42 (dk_at dksL_law_57 10 rfl rfl)
theorem dL_law_1490 : decode cL_law 1490 = .ok (.iload 4, 2) := dk_21 4 (dk_at dksL_law_57 11 rfl rfl)
theorem dL_law_1492 : decode cL_law 1492 = .ok (.iconst 1, 1) := dk_4 (dk_at dksL_law_57 13 rfl rfl)
theorem dL_law_1493 : decode cL_law 1493 = .ok (.iadd, 1) := dk_96 (dk_at dksL_law_57 14 rfl rfl)
theorem dL_law_1494 : decode cL_law 1494 = .ok (.iaload, 1) := dk_46 (dk_at dksL_law_57 15 rfl rfl)
theorem dL_law_1495 : decode cL_law 1495 = .ok (.invokevirtual 178, 3) := dk_182 0 178 (dk_at dksL_law_57 16 rfl rfl)
theorem dL_law_1498 : decode cL_law 1498 = .ok (.aload_n 2, 1) := dk_44 (dk_at dksL_law_57 19 rfl rfl)
theorem dL_law_1499 : decode cL_law 1499 = .ok (.aload_n 0, 1) := dk_42 (dk_at dksL_law_57 20 rfl rfl)
theorem dL_law_1500 : decode cL_law 1500 = .ok (.iload 4, 2) := dk_21 4 (dk_at dksL_law_57 21 rfl rfl)
theorem dL_law_1502 : decode cL_law 1502 = .ok (.iconst 1, 1) := dk_4 (dk_at dksL_law_57 23 rfl rfl)
theorem dL_law_1503 : decode cL_law 1503 = .ok (.iadd, 1) := dk_96 (dk_at dksL_law_58 0 rfl rfl)
theorem dL_law_1504 : decode cL_law 1504 = .ok (.iaload, 1) := dk_46 (dk_at dksL_law_58 1 rfl rfl)
theorem dL_law_1505 : decode cL_law 1505 = .ok (.invokevirtual 181, 3) := dk_182 0 181 (dk_at dksL_law_58 2 rfl rfl)
theorem dL_law_1508 : decode cL_law 1508 = .ok (.if_icmp .eq 30, 3) := dk_159 0 30 (dk_at dksL_law_58 5 rfl rfl)
theorem dL_law_1511 : decode cL_law 1511 = .ok (.iconst 0, 1) := dk_3 (dk_at dksL_law_58 8 rfl rfl)
theorem dL_law_1512 : decode cL_law 1512 = .ok (.ireturn, 1) := dk_172 (dk_at dksL_law_58 9 rfl rfl)
theorem dL_law_1513 : decode cL_law 1513 = .ok (.aload_n 1, 1) := dk_43 (dk_at dksL_law_58 10 rfl rfl)
theorem dL_law_1514 : decode cL_law 1514 = .ok (.aload_n 0, 1) := dk_42 (dk_at dksL_law_58 11 rfl rfl)
theorem dL_law_1515 : decode cL_law 1515 = .ok (.iload 4, 2) := dk_21 4 (dk_at dksL_law_58 12 rfl rfl)
theorem dL_law_1517 : decode cL_law 1517 = .ok (.iconst 1, 1) := dk_4 (dk_at dksL_law_58 14 rfl rfl)
theorem dL_law_1518 : decode cL_law 1518 = .ok (.iadd, 1) := dk_96 (dk_at dksL_law_58 15 rfl rfl)
theorem dL_law_1519 : decode cL_law 1519 = .ok (.iaload, 1) := dk_46 (dk_at dksL_law_58 16 rfl rfl)
theorem dL_law_1520 : decode cL_law 1520 = .ok (.invokevirtual 182, 3) := dk_182 0 182 (dk_at dksL_law_58 17 rfl rfl)
theorem dL_law_1523 : decode cL_law 1523 = .ok (.aload_n 2, 1) := dk_44 (dk_at dksL_law_58 20 rfl rfl)
theorem dL_law_1524 : decode cL_law 1524 = .ok (.aload_n 0, 1) := dk_42 (dk_at dksL_law_58 21 rfl rfl)
theorem dL_law_1525 : decode cL_law 1525 = .ok (.iload 4, 2) := dk_21 4 (dk_at dksL_law_58 22 rfl rfl)
theorem dL_law_1527 : decode cL_law 1527 = .ok (.iconst 1, 1) := dk_4 (dk_at dksL_law_59 0 rfl rfl)
theorem dL_law_1528 : decode cL_law 1528 = .ok (.iadd, 1) := dk_96 (dk_at dksL_law_59 1 rfl rfl)
theorem dL_law_1529 : decode cL_law 1529 = .ok (.iaload, 1) := dk_46 (dk_at dksL_law_59 2 rfl rfl)
theorem dL_law_1530 : decode cL_law 1530 = .ok (.invokevirtual 185, 3) := dk_182 0 185 (dk_at dksL_law_59 3 rfl rfl)
theorem dL_law_1533 : decode cL_law 1533 = .ok (.if_icmp .eq 5, 3) := dk_159 0 5 (dk_at dksL_law_59 6 rfl rfl)
theorem dL_law_1536 : decode cL_law 1536 = .ok (.iconst 0, 1) := dk_3 (dk_at dksL_law_59 9 rfl rfl)
theorem dL_law_1537 : decode cL_law 1537 = .ok (.ireturn, 1) := dk_172 (dk_at dksL_law_59 10 rfl rfl)
theorem dL_law_1538 : decode cL_law 1538 = .ok (.iinc 4 6, 3) := dk_132 4 6 (dk_at dksL_law_59 11 rfl rfl)
theorem dL_law_1541 : decode cL_law 1541 = .ok (.goto (-1518), 3) := dk_167 250 18 (dk_at dksL_law_59 14 rfl rfl)
theorem dL_law_1544 : decode cL_law 1544 = .ok (.iconst 1, 1) := dk_4 (dk_at dksL_law_59 17 rfl rfl)
theorem dL_law_1545 : decode cL_law 1545 = .ok (.ireturn, 1) := dk_172 (dk_at dksL_law_59 18 rfl rfl)
