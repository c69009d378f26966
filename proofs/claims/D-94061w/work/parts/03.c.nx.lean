/-! TwoHalvesLaw -/
set_option maxRecDepth 100000
def RX0 : String := "TwoHalvesLaw"
abbrev cX0_way : ByteArray := method_3_code
def yX0_way : MethodName := ⟨RX0, "way", "(LTwoHalves;II[J)I"⟩
def dkwX0_way_0 : List UInt8 := [45, 3, 42, 27, 28, 182, 0, 7, 133, 80, 167, 0, 7, 58, 4, 4, 172, 3, 172]
abbrev dktX0_way_0 : List UInt8 := dkwX0_way_0 ++ []
theorem dksX0_way_0 : cX0_way.data.toList.drop 0 = dktX0_way_0 := by decide +kernel
theorem dX0_way_0 : decode cX0_way 0 = .ok (.aload_n 3, 1) := dk_45 (dk_at dksX0_way_0 0 rfl rfl)
theorem dX0_way_1 : decode cX0_way 1 = .ok (.iconst 0, 1) := dk_3 (dk_at dksX0_way_0 1 rfl rfl)
theorem dX0_way_2 : decode cX0_way 2 = .ok (.aload_n 0, 1) := dk_42 (dk_at dksX0_way_0 2 rfl rfl)
theorem dX0_way_3 : decode cX0_way 3 = .ok (.iload_n 1, 1) := dk_27 (dk_at dksX0_way_0 3 rfl rfl)
theorem dX0_way_4 : decode cX0_way 4 = .ok (.iload_n 2, 1) := dk_28 (dk_at dksX0_way_0 4 rfl rfl)
theorem dX0_way_5 : decode cX0_way 5 = .ok (.invokevirtual 7, 3) := dk_182 0 7 (dk_at dksX0_way_0 5 rfl rfl)
theorem dX0_way_8 : decode cX0_way 8 = .ok (.i2l, 1) := dk_133 (dk_at dksX0_way_0 8 rfl rfl)
theorem dX0_way_9 : decode cX0_way 9 = .ok (.lastore, 1) := dk_80 (dk_at dksX0_way_0 9 rfl rfl)
theorem dX0_way_10 : decode cX0_way 10 = .ok (.goto 7, 3) := dk_167 0 7 (dk_at dksX0_way_0 10 rfl rfl)
theorem dX0_way_13 : decode cX0_way 13 = .ok (.astore 4, 2) := dk_58 4 (dk_at dksX0_way_0 13 rfl rfl)
theorem dX0_way_15 : decode cX0_way 15 = .ok (.iconst 1, 1) := dk_4 (dk_at dksX0_way_0 15 rfl rfl)
theorem dX0_way_16 : decode cX0_way 16 = .ok (.ireturn, 1) := dk_172 (dk_at dksX0_way_0 16 rfl rfl)
theorem dX0_way_17 : decode cX0_way 17 = .ok (.iconst 0, 1) := dk_3 (dk_at dksX0_way_0 17 rfl rfl)
theorem dX0_way_18 : decode cX0_way 18 = .ok (.ireturn, 1) := dk_172 (dk_at dksX0_way_0 18 rfl rfl)
abbrev cX0_thing : ByteArray := method_4_code
def yX0_thing : MethodName := ⟨RX0, "thing", "(LTwoHalves;II[J)I"⟩
def dkwX0_thing_0 : List UInt8 := [45, 3, 42, 27, 28, 182, 0, 15, 133, 80, 167, 0, 7, 58, 4, 4, 172, 3, 172]
abbrev dktX0_thing_0 : List UInt8 := dkwX0_thing_0 ++ []
theorem dksX0_thing_0 : cX0_thing.data.toList.drop 0 = dktX0_thing_0 := by decide +kernel
theorem dX0_thing_0 : decode cX0_thing 0 = .ok (.aload_n 3, 1) := dk_45 (dk_at dksX0_thing_0 0 rfl rfl)
theorem dX0_thing_1 : decode cX0_thing 1 = .ok (.iconst 0, 1) := dk_3 (dk_at dksX0_thing_0 1 rfl rfl)
theorem dX0_thing_2 : decode cX0_thing 2 = .ok (.aload_n 0, 1) := dk_42 (dk_at dksX0_thing_0 2 rfl rfl)
theorem dX0_thing_3 : decode cX0_thing 3 = .ok (.iload_n 1, 1) := dk_27 (dk_at dksX0_thing_0 3 rfl rfl)
theorem dX0_thing_4 : decode cX0_thing 4 = .ok (.iload_n 2, 1) := dk_28 (dk_at dksX0_thing_0 4 rfl rfl)
theorem dX0_thing_5 : decode cX0_thing 5 = .ok (.invokevirtual 15, 3) := dk_182 0 15 (dk_at dksX0_thing_0 5 rfl rfl)
theorem dX0_thing_8 : decode cX0_thing 8 = .ok (.i2l, 1) := dk_133 (dk_at dksX0_thing_0 8 rfl rfl)
theorem dX0_thing_9 : decode cX0_thing 9 = .ok (.lastore, 1) := dk_80 (dk_at dksX0_thing_0 9 rfl rfl)
theorem dX0_thing_10 : decode cX0_thing 10 = .ok (.goto 7, 3) := dk_167 0 7 (dk_at dksX0_thing_0 10 rfl rfl)
theorem dX0_thing_13 : decode cX0_thing 13 = .ok (.astore 4, 2) := dk_58 4 (dk_at dksX0_thing_0 13 rfl rfl)
theorem dX0_thing_15 : decode cX0_thing 15 = .ok (.iconst 1, 1) := dk_4 (dk_at dksX0_thing_0 15 rfl rfl)
theorem dX0_thing_16 : decode cX0_thing 16 = .ok (.ireturn, 1) := dk_172 (dk_at dksX0_thing_0 16 rfl rfl)
theorem dX0_thing_17 : decode cX0_thing 17 = .ok (.iconst 0, 1) := dk_3 (dk_at dksX0_thing_0 17 rfl rfl)
theorem dX0_thing_18 : decode cX0_thing 18 = .ok (.ireturn, 1) := dk_172 (dk_at dksX0_thing_0 18 rfl rfl)
abbrev cX0_odds : ByteArray := method_5_code
def yX0_odds : MethodName := ⟨RX0, "odds", "(LTwoHalves;IIIIII[J)I"⟩
def dkwX0_odds_1 : List UInt8 := [3, 172]
abbrev dktX0_odds_1 : List UInt8 := dkwX0_odds_1 ++ []
def dkwX0_odds_0 : List UInt8 := [25, 7, 3, 42, 27, 28, 29, 21, 4, 21, 5, 21, 6, 182, 0, 18, 80, 167, 0, 7, 58, 8, 4, 172]
abbrev dktX0_odds_0 : List UInt8 := dkwX0_odds_0 ++ dktX0_odds_1
theorem dksX0_odds_0 : cX0_odds.data.toList.drop 0 = dktX0_odds_0 := by decide +kernel
theorem dksX0_odds_1 : cX0_odds.data.toList.drop 24 = dktX0_odds_1 := dk_seg dksX0_odds_0 24 rfl rfl
theorem dX0_odds_0 : decode cX0_odds 0 = .ok (.aload 7, 2) := dk_25 7 (dk_at dksX0_odds_0 0 rfl rfl)
theorem dX0_odds_2 : decode cX0_odds 2 = .ok (.iconst 0, 1) := dk_3 (dk_at dksX0_odds_0 2 rfl rfl)
theorem dX0_odds_3 : decode cX0_odds 3 = .ok (.aload_n 0, 1) := dk_42 (dk_at dksX0_odds_0 3 rfl rfl)
theorem dX0_odds_4 : decode cX0_odds 4 = .ok (.iload_n 1, 1) := dk_27 (dk_at dksX0_odds_0 4 rfl rfl)
theorem dX0_odds_5 : decode cX0_odds 5 = .ok (.iload_n 2, 1) := dk_28 (dk_at dksX0_odds_0 5 rfl rfl)
theorem dX0_odds_6 : decode cX0_odds 6 = .ok (.iload_n 3, 1) := dk_29 (dk_at dksX0_odds_0 6 rfl rfl)
theorem dX0_odds_7 : decode cX0_odds 7 = .ok (.iload 4, 2) := dk_21 4 (dk_at dksX0_odds_0 7 rfl rfl)
theorem dX0_odds_9 : decode cX0_odds 9 = .ok (.iload 5, 2) := dk_21 5 (dk_at dksX0_odds_0 9 rfl rfl)
theorem dX0_odds_11 : decode cX0_odds 11 = .ok (.iload 6, 2) := dk_21 6 (dk_at dksX0_odds_0 11 rfl rfl)
theorem dX0_odds_13 : decode cX0_odds 13 = .ok (.invokevirtual 18, 3) := dk_182 0 18 (dk_at dksX0_odds_0 13 rfl rfl)
theorem dX0_odds_16 : decode cX0_odds 16 = .ok (.lastore, 1) := dk_80 (dk_at dksX0_odds_0 16 rfl rfl)
theorem dX0_odds_17 : decode cX0_odds 17 = .ok (.goto 7, 3) := dk_167 0 7 (dk_at dksX0_odds_0 17 rfl rfl)
theorem dX0_odds_20 : decode cX0_odds 20 = .ok (.astore 8, 2) := dk_58 8 (dk_at dksX0_odds_0 20 rfl rfl)
theorem dX0_odds_22 : decode cX0_odds 22 = .ok (.iconst 1, 1) := dk_4 (dk_at dksX0_odds_0 22 rfl rfl)
theorem dX0_odds_23 : decode cX0_odds 23 = .ok (.ireturn, 1) := dk_172 (dk_at dksX0_odds_0 23 rfl rfl)
theorem dX0_odds_24 : decode cX0_odds 24 = .ok (.iconst 0, 1) := dk_3 (dk_at dksX0_odds_1 0 rfl rfl)
theorem dX0_odds_25 : decode cX0_odds 25 = .ok (.ireturn, 1) := dk_172 (dk_at dksX0_odds_1 1 rfl rfl)
theorem q108 : (Jvm.Cond.initialized "TwoHalvesLaw") ∈ lw_all := lw_g (lw_at lw_m1 0 rfl) rfl
theorem q143 : (Jvm.Cond.classLink "TwoHalvesLaw" (8 : Nat) "TwoHalves") ∈ lw_all := lw_g (lw_at lw_m1 35 rfl) rfl
theorem q145 : (Jvm.Cond.methodLink "TwoHalvesLaw" (22 : Nat) ({ cls := "TwoHalves", name := "<init>", desc := "()V" } : Jvm.MethodName)) ∈ lw_all := lw_g (lw_at lw_m1 37 rfl) rfl
theorem q623 : (Jvm.Cond.methodLink "TwoHalvesLaw" (26 : Nat) ({ cls := "TwoHalves", name := "feed", desc := "(IIIII)I" } : Jvm.MethodName)) ∈ lw_all := lw_g (lw_at lw_m3 35 rfl) rfl
theorem q631 : (Jvm.Cond.methodLink "TwoHalvesLaw" (31 : Nat) ({ cls := "TwoHalves", name := "end", desc := "(I)Z" } : Jvm.MethodName)) ∈ lw_all := lw_g (lw_at lw_m3 43 rfl) rfl
theorem q635 : (Jvm.Cond.methodLink "TwoHalvesLaw" (36 : Nat) ({ cls := "TwoHalves", name := "head", desc := "()I" } : Jvm.MethodName)) ∈ lw_all := lw_g (lw_at lw_m3 47 rfl) rfl
theorem q903 : (Jvm.Cond.methodLink "TwoHalvesLaw" (41 : Nat) ({ cls := "TwoHalves", name := "fault", desc := "()I" } : Jvm.MethodName)) ∈ lw_all := lw_g (lw_at lw_m4 75 rfl) rfl
theorem q907 : (Jvm.Cond.methodLink "TwoHalvesLaw" (45 : Nat) ({ cls := "TwoHalves", name := "world", desc := "(I)Z" } : Jvm.MethodName)) ∈ lw_all := lw_g (lw_at lw_m4 79 rfl) rfl
theorem q915 : (Jvm.Cond.methodLink "TwoHalvesLaw" (49 : Nat) ({ cls := "TwoHalves", name := "years", desc := "(I)Z" } : Jvm.MethodName)) ∈ lw_all := lw_g (lw_at lw_m4 87 rfl) rfl
theorem q920 : (Jvm.Cond.methodLink "TwoHalvesLaw" (65 : Nat) ({ cls := "TwoHalves", name := "knows", desc := "(IIIIII)I" } : Jvm.MethodName)) ∈ lw_all := lw_g (lw_at lw_m4 92 rfl) rfl
theorem q993 : (Jvm.Cond.methodLink "TwoHalvesLaw" (70 : Nat) ({ cls := "TwoHalves", name := "answer", desc := "(IIIII)I" } : Jvm.MethodName)) ∈ lw_all := lw_g (lw_at lw_m4 165 rfl) rfl
theorem q1037 : (Jvm.Cond.methodLink "TwoHalvesLaw" (74 : Nat) ({ cls := "TwoHalves", name := "why", desc := "(IIIII)I" } : Jvm.MethodName)) ∈ lw_all := lw_g (lw_at lw_m4 209 rfl) rfl
theorem q1046 : (Jvm.Cond.methodLink "TwoHalvesLaw" (78 : Nat) ({ cls := "TwoHalves", name := "filled", desc := "(I)I" } : Jvm.MethodName)) ∈ lw_all := lw_g (lw_at lw_m4 218 rfl) rfl
theorem q1050 : (Jvm.Cond.methodLink "TwoHalvesLaw" (83 : Nat) ({ cls := "TwoHalves", name := "fight", desc := "(IIII)I" } : Jvm.MethodName)) ∈ lw_all := lw_g (lw_at lw_m4 222 rfl) rfl
theorem q1055 : (Jvm.Cond.methodLink "TwoHalvesLaw" (88 : Nat) ({ cls := "TwoHalves", name := "helped", desc := "(IIIII)I" } : Jvm.MethodName)) ∈ lw_all := lw_g (lw_at lw_m4 227 rfl) rfl
theorem q1059 : (Jvm.Cond.methodLink "TwoHalvesLaw" (92 : Nat) ({ cls := "TwoHalves", name := "foretell", desc := "(IIII)I" } : Jvm.MethodName)) ∈ lw_all := lw_g (lw_at lw_m4 231 rfl) rfl
theorem q1067 : (Jvm.Cond.methodLink "TwoHalvesLaw" (100 : Nat) ({ cls := "TwoHalves", name := "all", desc := "()J" } : Jvm.MethodName)) ∈ lw_all := lw_g (lw_at lw_m4 239 rfl) rfl
theorem q1072 : (Jvm.Cond.methodLink "TwoHalvesLaw" (105 : Nat) ({ cls := "TwoHalves", name := "row", desc := "(IIIIII)I" } : Jvm.MethodName)) ∈ lw_all := lw_g (lw_at lw_m5 4 rfl) rfl
theorem q1076 : (Jvm.Cond.methodLink "TwoHalvesLaw" (109 : Nat) ({ cls := "TwoHalves", name := "worlds", desc := "(I)I" } : Jvm.MethodName)) ∈ lw_all := lw_g (lw_at lw_m5 8 rfl) rfl
theorem q1094 : (Jvm.Cond.methodLink "TwoHalvesLaw" (113 : Nat) ({ cls := "TwoHalves", name := "worldAt", desc := "(I)I" } : Jvm.MethodName)) ∈ lw_all := lw_g (lw_at lw_m5 26 rfl) rfl
theorem q1098 : (Jvm.Cond.methodLink "TwoHalvesLaw" (117 : Nat) ({ cls := "TwoHalves", name := "sure", desc := "(II)I" } : Jvm.MethodName)) ∈ lw_all := lw_g (lw_at lw_m5 30 rfl) rfl
theorem q1110 : (Jvm.Cond.methodLink "TwoHalvesLaw" (121 : Nat) ({ cls := "TwoHalves", name := "probe", desc := "(IIIII)I" } : Jvm.MethodName)) ∈ lw_all := lw_g (lw_at lw_m5 42 rfl) rfl
theorem q1114 : (Jvm.Cond.methodLink "TwoHalvesLaw" (125 : Nat) ({ cls := "TwoHalves", name := "parts", desc := "(II)I" } : Jvm.MethodName)) ∈ lw_all := lw_g (lw_at lw_m5 46 rfl) rfl
theorem q1123 : (Jvm.Cond.methodLink "TwoHalvesLaw" (129 : Nat) ({ cls := "TwoHalves", name := "best", desc := "(I)I" } : Jvm.MethodName)) ∈ lw_all := lw_g (lw_at lw_m5 55 rfl) rfl
theorem q1127 : (Jvm.Cond.methodLink "TwoHalvesLaw" (133 : Nat) ({ cls := "TwoHalves", name := "fewest", desc := "(I)I" } : Jvm.MethodName)) ∈ lw_all := lw_g (lw_at lw_m5 59 rfl) rfl
theorem q1149 : (Jvm.Cond.methodLink "TwoHalvesLaw" (137 : Nat) ({ cls := "TwoHalves", name := "shutting", desc := "(I)I" } : Jvm.MethodName)) ∈ lw_all := lw_g (lw_at lw_m5 81 rfl) rfl
theorem q1157 : (Jvm.Cond.methodLink "TwoHalvesLaw" (141 : Nat) ({ cls := "TwoHalves", name := "sentence", desc := "()I" } : Jvm.MethodName)) ∈ lw_all := lw_g (lw_at lw_m5 89 rfl) rfl
theorem q1284 : (Jvm.Cond.methodLink "TwoHalvesLaw" (145 : Nat) ({ cls := "TwoHalves", name := "whom", desc := "()I" } : Jvm.MethodName)) ∈ lw_all := lw_g (lw_at lw_m5 216 rfl) rfl
theorem q1310 : (Jvm.Cond.methodLink "TwoHalvesLaw" (149 : Nat) ({ cls := "TwoHalves", name := "image", desc := "(I)Z" } : Jvm.MethodName)) ∈ lw_all := lw_g (lw_at lw_m6 2 rfl) rfl
theorem q1319 : (Jvm.Cond.methodLink "TwoHalvesLaw" (153 : Nat) ({ cls := "TwoHalves", name := "restore", desc := "(I)Z" } : Jvm.MethodName)) ∈ lw_all := lw_g (lw_at lw_m6 11 rfl) rfl
theorem q1323 : (Jvm.Cond.methodLink "TwoHalvesLaw" (157 : Nat) ({ cls := "TwoHalves", name := "count", desc := "(I)I" } : Jvm.MethodName)) ∈ lw_all := lw_g (lw_at lw_m6 15 rfl) rfl
theorem q1327 : (Jvm.Cond.methodLink "TwoHalvesLaw" (53 : Nat) ({ cls := "TwoHalvesLaw", name := "way", desc := "(LTwoHalves;II[J)I" } : Jvm.MethodName)) ∈ lw_all := lw_g (lw_at lw_m6 19 rfl) rfl
theorem q1328 : (Jvm.Cond.static ({ cls := "TwoHalvesLaw", name := "way", desc := "(LTwoHalves;II[J)I" } : Jvm.MethodName)) ∈ lw_all := lw_g (lw_at lw_m6 20 rfl) rfl
theorem q1329 : (Jvm.Cond.codeWith ({ cls := "TwoHalvesLaw", name := "way", desc := "(LTwoHalves;II[J)I" } : Jvm.MethodName) method_3_code (5 : Nat) (Option.some Jvm.ClassFile.FieldType.int) [((0 : Nat), (10 : Nat), (13 : Nat), (13 : Nat))]) ∈ lw_all := lw_g (lw_at lw_m6 21 rfl) rfl
theorem q1330 : (Jvm.Cond.classLink "TwoHalvesLaw" (13 : Nat) "java/util/NoSuchElementException") ∈ lw_all := lw_g (lw_at lw_m6 22 rfl) rfl
theorem q1331 : (Jvm.Cond.methodLink "TwoHalvesLaw" (7 : Nat) ({ cls := "TwoHalves", name := "way", desc := "(II)I" } : Jvm.MethodName)) ∈ lw_all := lw_g (lw_at lw_m6 23 rfl) rfl
theorem q1361 : (Jvm.Cond.methodLink "TwoHalvesLaw" (62 : Nat) ({ cls := "TwoHalvesLaw", name := "thing", desc := "(LTwoHalves;II[J)I" } : Jvm.MethodName)) ∈ lw_all := lw_g (lw_at lw_m6 53 rfl) rfl
theorem q1362 : (Jvm.Cond.static ({ cls := "TwoHalvesLaw", name := "thing", desc := "(LTwoHalves;II[J)I" } : Jvm.MethodName)) ∈ lw_all := lw_g (lw_at lw_m6 54 rfl) rfl
theorem q1363 : (Jvm.Cond.codeWith ({ cls := "TwoHalvesLaw", name := "thing", desc := "(LTwoHalves;II[J)I" } : Jvm.MethodName) method_4_code (5 : Nat) (Option.some Jvm.ClassFile.FieldType.int) [((0 : Nat), (10 : Nat), (13 : Nat), (13 : Nat))]) ∈ lw_all := lw_g (lw_at lw_m6 55 rfl) rfl
theorem q1364 : (Jvm.Cond.methodLink "TwoHalvesLaw" (15 : Nat) ({ cls := "TwoHalves", name := "thing", desc := "(II)I" } : Jvm.MethodName)) ∈ lw_all := lw_g (lw_at lw_m6 56 rfl) rfl
theorem q1368 : (Jvm.Cond.methodLink "TwoHalvesLaw" (96 : Nat) ({ cls := "TwoHalvesLaw", name := "odds", desc := "(LTwoHalves;IIIIII[J)I" } : Jvm.MethodName)) ∈ lw_all := lw_g (lw_at lw_m6 60 rfl) rfl
theorem q1369 : (Jvm.Cond.static ({ cls := "TwoHalvesLaw", name := "odds", desc := "(LTwoHalves;IIIIII[J)I" } : Jvm.MethodName)) ∈ lw_all := lw_g (lw_at lw_m6 61 rfl) rfl
theorem q1370 : (Jvm.Cond.codeWith ({ cls := "TwoHalvesLaw", name := "odds", desc := "(LTwoHalves;IIIIII[J)I" } : Jvm.MethodName) method_5_code (9 : Nat) (Option.some Jvm.ClassFile.FieldType.int) [((0 : Nat), (17 : Nat), (20 : Nat), (13 : Nat))]) ∈ lw_all := lw_g (lw_at lw_m6 62 rfl) rfl
theorem q1371 : (Jvm.Cond.methodLink "TwoHalvesLaw" (18 : Nat) ({ cls := "TwoHalves", name := "odds", desc := "(IIIIII)J" } : Jvm.MethodName)) ∈ lw_all := lw_g (lw_at lw_m6 63 rfl) rfl
theorem q1379 : (Jvm.Cond.classLink "TwoHalvesLaw" (23 : Nat) "TwoHalvesModel") ∈ lw_all := lw_g (lw_at lw_m6 71 rfl) rfl
theorem q1381 : (Jvm.Cond.methodLink "TwoHalvesLaw" (25 : Nat) ({ cls := "TwoHalvesModel", name := "<init>", desc := "()V" } : Jvm.MethodName)) ∈ lw_all := lw_g (lw_at lw_m6 73 rfl) rfl
theorem q1514 : (Jvm.Cond.methodLink "TwoHalvesLaw" (59 : Nat) ({ cls := "TwoHalvesModel", name := "thrown", desc := "()I" } : Jvm.MethodName)) ∈ lw_all := lw_g (lw_at lw_m6 206 rfl) rfl
theorem q1518 : (Jvm.Cond.methodLink "TwoHalvesLaw" (30 : Nat) ({ cls := "TwoHalvesModel", name := "feed", desc := "(IIIII)I" } : Jvm.MethodName)) ∈ lw_all := lw_g (lw_at lw_m6 210 rfl) rfl
theorem q1526 : (Jvm.Cond.methodLink "TwoHalvesLaw" (35 : Nat) ({ cls := "TwoHalvesModel", name := "end", desc := "(I)Z" } : Jvm.MethodName)) ∈ lw_all := lw_g (lw_at lw_m6 218 rfl) rfl
theorem q1530 : (Jvm.Cond.methodLink "TwoHalvesLaw" (40 : Nat) ({ cls := "TwoHalvesModel", name := "head", desc := "()I" } : Jvm.MethodName)) ∈ lw_all := lw_g (lw_at lw_m6 222 rfl) rfl
theorem q1664 : (Jvm.Cond.methodLink "TwoHalvesLaw" (44 : Nat) ({ cls := "TwoHalvesModel", name := "fault", desc := "()I" } : Jvm.MethodName)) ∈ lw_all := lw_g (lw_at lw_m7 116 rfl) rfl
theorem q1668 : (Jvm.Cond.methodLink "TwoHalvesLaw" (48 : Nat) ({ cls := "TwoHalvesModel", name := "world", desc := "(I)Z" } : Jvm.MethodName)) ∈ lw_all := lw_g (lw_at lw_m7 120 rfl) rfl
theorem q1684 : (Jvm.Cond.methodLink "TwoHalvesLaw" (52 : Nat) ({ cls := "TwoHalvesModel", name := "years", desc := "(I)Z" } : Jvm.MethodName)) ∈ lw_all := lw_g (lw_at lw_m7 136 rfl) rfl
theorem q1688 : (Jvm.Cond.methodLink "TwoHalvesLaw" (58 : Nat) ({ cls := "TwoHalvesModel", name := "way", desc := "(II)I" } : Jvm.MethodName)) ∈ lw_all := lw_g (lw_at lw_m7 140 rfl) rfl
theorem q1696 : (Jvm.Cond.methodLink "TwoHalvesLaw" (64 : Nat) ({ cls := "TwoHalvesModel", name := "thing", desc := "(II)I" } : Jvm.MethodName)) ∈ lw_all := lw_g (lw_at lw_m7 148 rfl) rfl
theorem q1708 : (Jvm.Cond.methodLink "TwoHalvesLaw" (69 : Nat) ({ cls := "TwoHalvesModel", name := "knows", desc := "(IIIIII)I" } : Jvm.MethodName)) ∈ lw_all := lw_g (lw_at lw_m7 160 rfl) rfl
theorem q1736 : (Jvm.Cond.methodLink "TwoHalvesLaw" (73 : Nat) ({ cls := "TwoHalvesModel", name := "answer", desc := "(IIIII)I" } : Jvm.MethodName)) ∈ lw_all := lw_g (lw_at lw_m7 188 rfl) rfl
theorem q1780 : (Jvm.Cond.methodLink "TwoHalvesLaw" (77 : Nat) ({ cls := "TwoHalvesModel", name := "why", desc := "(IIIII)I" } : Jvm.MethodName)) ∈ lw_all := lw_g (lw_at lw_m7 232 rfl) rfl
theorem q1784 : (Jvm.Cond.methodLink "TwoHalvesLaw" (82 : Nat) ({ cls := "TwoHalvesModel", name := "filled", desc := "(I)I" } : Jvm.MethodName)) ∈ lw_all := lw_g (lw_at lw_m7 236 rfl) rfl
theorem q1788 : (Jvm.Cond.methodLink "TwoHalvesLaw" (87 : Nat) ({ cls := "TwoHalvesModel", name := "fight", desc := "(IIII)I" } : Jvm.MethodName)) ∈ lw_all := lw_g (lw_at lw_m8 0 rfl) rfl
theorem q1792 : (Jvm.Cond.methodLink "TwoHalvesLaw" (91 : Nat) ({ cls := "TwoHalvesModel", name := "helped", desc := "(IIIII)I" } : Jvm.MethodName)) ∈ lw_all := lw_g (lw_at lw_m8 4 rfl) rfl
theorem q1800 : (Jvm.Cond.methodLink "TwoHalvesLaw" (95 : Nat) ({ cls := "TwoHalvesModel", name := "foretell", desc := "(IIII)I" } : Jvm.MethodName)) ∈ lw_all := lw_g (lw_at lw_m8 12 rfl) rfl
theorem q1808 : (Jvm.Cond.methodLink "TwoHalvesLaw" (99 : Nat) ({ cls := "TwoHalvesModel", name := "odds", desc := "(IIIIII)J" } : Jvm.MethodName)) ∈ lw_all := lw_g (lw_at lw_m8 20 rfl) rfl
theorem q1812 : (Jvm.Cond.methodLink "TwoHalvesLaw" (104 : Nat) ({ cls := "TwoHalvesModel", name := "all", desc := "()J" } : Jvm.MethodName)) ∈ lw_all := lw_g (lw_at lw_m8 24 rfl) rfl
theorem q1817 : (Jvm.Cond.methodLink "TwoHalvesLaw" (108 : Nat) ({ cls := "TwoHalvesModel", name := "row", desc := "(IIIIII)I" } : Jvm.MethodName)) ∈ lw_all := lw_g (lw_at lw_m8 29 rfl) rfl
theorem q1825 : (Jvm.Cond.methodLink "TwoHalvesLaw" (112 : Nat) ({ cls := "TwoHalvesModel", name := "worlds", desc := "(I)I" } : Jvm.MethodName)) ∈ lw_all := lw_g (lw_at lw_m8 37 rfl) rfl
theorem q1841 : (Jvm.Cond.methodLink "TwoHalvesLaw" (116 : Nat) ({ cls := "TwoHalvesModel", name := "worldAt", desc := "(I)I" } : Jvm.MethodName)) ∈ lw_all := lw_g (lw_at lw_m8 53 rfl) rfl
theorem q1845 : (Jvm.Cond.methodLink "TwoHalvesLaw" (120 : Nat) ({ cls := "TwoHalvesModel", name := "sure", desc := "(II)I" } : Jvm.MethodName)) ∈ lw_all := lw_g (lw_at lw_m8 57 rfl) rfl
theorem q1853 : (Jvm.Cond.methodLink "TwoHalvesLaw" (124 : Nat) ({ cls := "TwoHalvesModel", name := "probe", desc := "(IIIII)I" } : Jvm.MethodName)) ∈ lw_all := lw_g (lw_at lw_m8 65 rfl) rfl
theorem q1857 : (Jvm.Cond.methodLink "TwoHalvesLaw" (128 : Nat) ({ cls := "TwoHalvesModel", name := "parts", desc := "(II)I" } : Jvm.MethodName)) ∈ lw_all := lw_g (lw_at lw_m8 69 rfl) rfl
theorem q1869 : (Jvm.Cond.methodLink "TwoHalvesLaw" (132 : Nat) ({ cls := "TwoHalvesModel", name := "best", desc := "(I)I" } : Jvm.MethodName)) ∈ lw_all := lw_g (lw_at lw_m8 81 rfl) rfl
theorem q1873 : (Jvm.Cond.methodLink "TwoHalvesLaw" (136 : Nat) ({ cls := "TwoHalvesModel", name := "fewest", desc := "(I)I" } : Jvm.MethodName)) ∈ lw_all := lw_g (lw_at lw_m8 85 rfl) rfl
theorem q1880 : (Jvm.Cond.methodLink "TwoHalvesLaw" (140 : Nat) ({ cls := "TwoHalvesModel", name := "shutting", desc := "(I)I" } : Jvm.MethodName)) ∈ lw_all := lw_g (lw_at lw_m8 92 rfl) rfl
theorem q1884 : (Jvm.Cond.methodLink "TwoHalvesLaw" (144 : Nat) ({ cls := "TwoHalvesModel", name := "sentence", desc := "()I" } : Jvm.MethodName)) ∈ lw_all := lw_g (lw_at lw_m8 96 rfl) rfl
theorem q1931 : (Jvm.Cond.methodLink "TwoHalvesLaw" (148 : Nat) ({ cls := "TwoHalvesModel", name := "whom", desc := "()I" } : Jvm.MethodName)) ∈ lw_all := lw_g (lw_at lw_m8 143 rfl) rfl
theorem q1943 : (Jvm.Cond.methodLink "TwoHalvesLaw" (152 : Nat) ({ cls := "TwoHalvesModel", name := "image", desc := "(I)Z" } : Jvm.MethodName)) ∈ lw_all := lw_g (lw_at lw_m8 155 rfl) rfl
theorem q1947 : (Jvm.Cond.methodLink "TwoHalvesLaw" (156 : Nat) ({ cls := "TwoHalvesModel", name := "restore", desc := "(I)Z" } : Jvm.MethodName)) ∈ lw_all := lw_g (lw_at lw_m8 159 rfl) rfl
theorem q1951 : (Jvm.Cond.methodLink "TwoHalvesLaw" (160 : Nat) ({ cls := "TwoHalvesModel", name := "count", desc := "(I)I" } : Jvm.MethodName)) ∈ lw_all := lw_g (lw_at lw_m8 163 rfl) rfl
/-! TwoHalves$Fault -/
set_option maxRecDepth 100000
def RX2 : String := "TwoHalves$Fault"
def TX2 : u_T := fun k => match k with
  | 0 => ("java/lang/Throwable", "cause", "Ljava/lang/Throwable;", false)
  | 1 => ("java/lang/Throwable", "stackTrace", "[Ljava/lang/StackTraceElement;", false)
  | 2 => ("java/lang/Throwable", "suppressedExceptions", "Ljava/util/List;", false)
  | 3 => ("java/lang/Throwable", "detailMessage", "Ljava/lang/String;", false)
  | 4 => ("java/lang/Throwable", "backtrace", "Ljava/lang/Object;", false)
  | 5 => ("java/lang/Throwable", "depth", "I", false)
  | 6 => ("TwoHalves$Fault", "kind", "I", false)
  | _ => ("TwoHalves$Fault", "place", "I", false)
def tyX2 : Nat → FieldType := fun k => match k with
  | 0 => .object "java/lang/Throwable"
  | 1 => .array (.object "java/lang/StackTraceElement")
  | 2 => .object "java/util/List"
  | 3 => .object "java/lang/String"
  | 4 => .object "java/lang/Object"
  | 5 => .int
  | 6 => .int
  | _ => .int
abbrev wsX20 : List Cond := u_ws RX2 TX2 8
theorem nmX2 : ∀ a, a < 8 → ∀ b, b < 8 → a ≠ b → (TX2 a).2.1 ≠ (TX2 b).2.1 := by decide +kernel
theorem tyX2_ok : ∀ k, k < 8 → parseFieldDescriptor (TX2 k).2.2.1 = some (tyX2 k) := by decide +kernel
abbrev cX2_init : ByteArray := prog_8_method_1_code
def yX2_init : MethodName := ⟨RX2, "<init>", "()V"⟩
def dkwX2_init_0 : List UInt8 := [42, 1, 1, 3, 3, 183, 0, 1, 177]
abbrev dktX2_init_0 : List UInt8 := dkwX2_init_0 ++ []
theorem dksX2_init_0 : cX2_init.data.toList.drop 0 = dktX2_init_0 := by decide +kernel
theorem dX2_init_0 : decode cX2_init 0 = .ok (.aload_n 0, 1) := dk_42 (dk_at dksX2_init_0 0 rfl rfl)
theorem dX2_init_1 : decode cX2_init 1 = .ok (.aconst_null, 1) := dk_1 (dk_at dksX2_init_0 1 rfl rfl)
theorem dX2_init_2 : decode cX2_init 2 = .ok (.aconst_null, 1) := dk_1 (dk_at dksX2_init_0 2 rfl rfl)
theorem dX2_init_3 : decode cX2_init 3 = .ok (.iconst 0, 1) := dk_3 (dk_at dksX2_init_0 3 rfl rfl)
theorem dX2_init_4 : decode cX2_init 4 = .ok (.iconst 0, 1) := dk_3 (dk_at dksX2_init_0 4 rfl rfl)
theorem dX2_init_5 : decode cX2_init 5 = .ok (.invokespecial 1, 3) := dk_183 0 1 (dk_at dksX2_init_0 5 rfl rfl)
theorem dX2_init_8 : decode cX2_init 8 = .ok (.return_, 1) := dk_177 (dk_at dksX2_init_0 8 rfl rfl)
theorem q112 : (Jvm.Cond.initialized "TwoHalves$Fault") ∈ lw_all := lw_g (lw_at lw_m1 4 rfl) rfl
theorem q152 : (Jvm.Cond.instantiable "TwoHalves$Fault" (8 : Nat)) ∈ lw_all := lw_g (lw_at lw_m1 44 rfl) rfl
theorem q153 : (Jvm.Cond.castable "TwoHalves$Fault" "TwoHalves$Fault") ∈ lw_tbl := lw_at lw_m1 45 rfl
theorem q158 : (Jvm.Cond.selects "TwoHalves$Fault" ({ cls := "java/lang/Throwable", name := "fillInStackTrace", desc := "(I)Ljava/lang/Throwable;" } : Jvm.MethodName) ({ cls := "java/lang/Throwable", name := "fillInStackTrace", desc := "(I)Ljava/lang/Throwable;" } : Jvm.MethodName)) ∈ lw_all := lw_g (lw_at lw_m1 50 rfl) rfl
theorem q159 : (Jvm.Cond.selects "TwoHalves$Fault" ({ cls := "java/lang/Throwable", name := "fillInStackTrace", desc := "()Ljava/lang/Throwable;" } : Jvm.MethodName) ({ cls := "java/lang/Throwable", name := "fillInStackTrace", desc := "()Ljava/lang/Throwable;" } : Jvm.MethodName)) ∈ lw_all := lw_g (lw_at lw_m1 51 rfl) rfl
theorem q160 : (Jvm.Cond.lays "TwoHalves$Fault" "java/lang/Throwable" "cause" "Ljava/lang/Throwable;") ∈ lw_all := lw_g (lw_at lw_m1 52 rfl) rfl
theorem q162 : (Jvm.Cond.lays "TwoHalves$Fault" "java/lang/Throwable" "stackTrace" "[Ljava/lang/StackTraceElement;") ∈ lw_all := lw_g (lw_at lw_m1 54 rfl) rfl
theorem q164 : (Jvm.Cond.lays "TwoHalves$Fault" "java/lang/Throwable" "suppressedExceptions" "Ljava/util/List;") ∈ lw_all := lw_g (lw_at lw_m1 56 rfl) rfl
theorem q166 : (Jvm.Cond.lays "TwoHalves$Fault" "java/lang/Throwable" "detailMessage" "Ljava/lang/String;") ∈ lw_all := lw_g (lw_at lw_m1 58 rfl) rfl
theorem q168 : (Jvm.Cond.lays "TwoHalves$Fault" "java/lang/Throwable" "backtrace" "Ljava/lang/Object;") ∈ lw_all := lw_g (lw_at lw_m1 60 rfl) rfl
theorem q190 : (Jvm.Cond.instanceMethod ({ cls := "TwoHalves$Fault", name := "<init>", desc := "()V" } : Jvm.MethodName)) ∈ lw_all := lw_g (lw_at lw_m1 82 rfl) rfl
theorem q191 : (Jvm.Cond.code ({ cls := "TwoHalves$Fault", name := "<init>", desc := "()V" } : Jvm.MethodName) prog_8_method_1_code (1 : Nat) (Option.none : Option Jvm.ClassFile.FieldType)) ∈ lw_all := lw_g (lw_at lw_m1 83 rfl) rfl
theorem q192 : (Jvm.Cond.methodLink "TwoHalves$Fault" (1 : Nat) ({ cls := "java/lang/Exception", name := "<init>", desc := "(Ljava/lang/String;Ljava/lang/Throwable;ZZ)V" } : Jvm.MethodName)) ∈ lw_all := lw_g (lw_at lw_m1 84 rfl) rfl
theorem q207 : (Jvm.Cond.lays "TwoHalves$Fault" "TwoHalves$Fault" "kind" "I") ∈ lw_all := lw_g (lw_at lw_m1 99 rfl) rfl
theorem q208 : (Jvm.Cond.soleField "TwoHalves$Fault" "kind") ∈ lw_all := lw_g (lw_at lw_m1 100 rfl) rfl
theorem q209 : (Jvm.Cond.lays "TwoHalves$Fault" "TwoHalves$Fault" "place" "I") ∈ lw_all := lw_g (lw_at lw_m1 101 rfl) rfl
theorem q210 : (Jvm.Cond.soleField "TwoHalves$Fault" "place") ∈ lw_all := lw_g (lw_at lw_m1 102 rfl) rfl
theorem q215 : (Jvm.Cond.lays "TwoHalves$Fault" "java/lang/Throwable" "depth" "I") ∈ lw_all := lw_g (lw_at lw_m1 107 rfl) rfl
theorem q218 : (Jvm.Cond.superclass "TwoHalves$Fault" "java/lang/Exception") ∈ lw_all := lw_g (lw_at lw_m1 110 rfl) rfl
theorem q1971 : (Jvm.Cond.castable "TwoHalves$Fault" "java/lang/Object") ∈ lw_tbl := lw_at lw_m8 183 rfl
theorem in_X2 : ∀ w ∈ wsX20, w ∈ lw_all := lw_in wsX20 [160, 162, 164, 166, 168, 215, 207, 209] (by decide +kernel) (by decide +kernel)
/-! TwoHalves$Reader -/
set_option maxRecDepth 100000
def RX3 : String := "TwoHalves$Reader"
abbrev cX3_init : ByteArray := prog_17_method_1_code
def yX3_init : MethodName := ⟨RX3, "<init>", "(LTwoHalves;I)V"⟩
def dkwX3_init_0 : List UInt8 := [42, 43, 181, 0, 3, 42, 183, 0, 9, 42, 28, 181, 0, 15, 177]
abbrev dktX3_init_0 : List UInt8 := dkwX3_init_0 ++ []
theorem dksX3_init_0 : cX3_init.data.toList.drop 0 = dktX3_init_0 := by decide +kernel
theorem dX3_init_0 : decode cX3_init 0 = .ok (.aload_n 0, 1) := dk_42 (dk_at dksX3_init_0 0 rfl rfl)
theorem dX3_init_1 : decode cX3_init 1 = .ok (.aload_n 1, 1) := dk_43 (dk_at dksX3_init_0 1 rfl rfl)
theorem dX3_init_2 : decode cX3_init 2 = .ok (.putfield 3, 3) := dk_181 0 3 (dk_at dksX3_init_0 2 rfl rfl)
theorem dX3_init_5 : decode cX3_init 5 = .ok (.aload_n 0, 1) := dk_42 (dk_at dksX3_init_0 5 rfl rfl)
theorem dX3_init_6 : decode cX3_init 6 = .ok (.invokespecial 9, 3) := dk_183 0 9 (dk_at dksX3_init_0 6 rfl rfl)
theorem dX3_init_9 : decode cX3_init 9 = .ok (.aload_n 0, 1) := dk_42 (dk_at dksX3_init_0 9 rfl rfl)
theorem dX3_init_10 : decode cX3_init 10 = .ok (.iload_n 2, 1) := dk_28 (dk_at dksX3_init_0 10 rfl rfl)
theorem dX3_init_11 : decode cX3_init 11 = .ok (.putfield 15, 3) := dk_181 0 15 (dk_at dksX3_init_0 11 rfl rfl)
theorem dX3_init_14 : decode cX3_init 14 = .ok (.return_, 1) := dk_177 (dk_at dksX3_init_0 14 rfl rfl)
abbrev cX3_next : ByteArray := prog_17_method_5_code
def yX3_next : MethodName := ⟨RX3, "next", "()V"⟩
def dkwX3_next_7 : List UInt8 := [42, 27, 181, 0, 54, 42, 89, 180, 0, 19, 4, 96, 181, 0, 19, 177]
abbrev dktX3_next_7 : List UInt8 := dkwX3_next_7 ++ []
def dkwX3_next_6 : List UInt8 := [16, 41, 159, 0, 14, 27, 16, 60, 16, 62, 184, 0, 29, 153, 0, 7, 6, 167, 0, 4, 7, 181, 0, 40]
abbrev dktX3_next_6 : List UInt8 := dkwX3_next_6 ++ dktX3_next_7
def dkwX3_next_5 : List UInt8 := [182, 0, 43, 182, 0, 50, 167, 0, 56, 42, 27, 16, 59, 159, 0, 26, 27, 16, 40, 159, 0, 20, 27]
abbrev dktX3_next_5 : List UInt8 := dkwX3_next_5 ++ dktX3_next_6
def dkwX3_next_4 : List UInt8 := [167, 0, 84, 42, 27, 182, 0, 43, 154, 0, 11, 42, 27, 182, 0, 47, 153, 0, 15, 42, 42, 27]
abbrev dktX3_next_4 : List UInt8 := dkwX3_next_4 ++ dktX3_next_5
def dkwX3_next_3 : List UInt8 := [181, 0, 37, 42, 7, 181, 0, 40, 177, 42, 182, 0, 33, 60, 27, 156, 0, 11, 42, 3, 181, 0, 40]
abbrev dktX3_next_3 : List UInt8 := dkwX3_next_3 ++ dktX3_next_4
def dkwX3_next_2 : List UInt8 := [180, 0, 15, 164, 0, 28, 42, 180, 0, 19, 42, 180, 0, 15, 161, 0, 17, 42, 42, 180, 0, 15]
abbrev dktX3_next_2 : List UInt8 := dkwX3_next_2 ++ dktX3_next_3
def dkwX3_next_1 : List UInt8 := [96, 181, 0, 19, 167, 255, 228, 42, 42, 180, 0, 19, 181, 0, 37, 42, 180, 0, 3, 180, 0, 22, 42]
abbrev dktX3_next_1 : List UInt8 := dkwX3_next_1 ++ dktX3_next_2
def dkwX3_next_0 : List UInt8 := [42, 182, 0, 33, 16, 32, 159, 0, 12, 42, 182, 0, 33, 16, 10, 160, 0, 16, 42, 89, 180, 0, 19, 4]
abbrev dktX3_next_0 : List UInt8 := dkwX3_next_0 ++ dktX3_next_1
theorem dksX3_next_0 : cX3_next.data.toList.drop 0 = dktX3_next_0 := by decide +kernel
theorem dksX3_next_1 : cX3_next.data.toList.drop 24 = dktX3_next_1 := dk_seg dksX3_next_0 24 rfl rfl
theorem dksX3_next_2 : cX3_next.data.toList.drop 47 = dktX3_next_2 := dk_seg dksX3_next_1 23 rfl rfl
theorem dksX3_next_3 : cX3_next.data.toList.drop 69 = dktX3_next_3 := dk_seg dksX3_next_2 22 rfl rfl
theorem dksX3_next_4 : cX3_next.data.toList.drop 92 = dktX3_next_4 := dk_seg dksX3_next_3 23 rfl rfl
theorem dksX3_next_5 : cX3_next.data.toList.drop 114 = dktX3_next_5 := dk_seg dksX3_next_4 22 rfl rfl
theorem dksX3_next_6 : cX3_next.data.toList.drop 137 = dktX3_next_6 := dk_seg dksX3_next_5 23 rfl rfl
theorem dksX3_next_7 : cX3_next.data.toList.drop 161 = dktX3_next_7 := dk_seg dksX3_next_6 24 rfl rfl
theorem dX3_next_0 : decode cX3_next 0 = .ok (.aload_n 0, 1) := dk_42 (dk_at dksX3_next_0 0 rfl rfl)
theorem dX3_next_1 : decode cX3_next 1 = .ok (.invokevirtual 33, 3) := dk_182 0 33 (dk_at dksX3_next_0 1 rfl rfl)
theorem dX3_next_4 : decode cX3_next 4 = .ok (.bipush 32, 2) := dk_16 32 (dk_at dksX3_next_0 4 rfl rfl)
theorem dX3_next_6 : decode cX3_next 6 = .ok (.if_icmp .eq 12, 3) := dk_159 0 12 (dk_at dksX3_next_0 6 rfl rfl)
theorem dX3_next_9 : decode cX3_next 9 = .ok (.aload_n 0, 1) := dk_42 (dk_at dksX3_next_0 9 rfl rfl)
theorem dX3_next_10 : decode cX3_next 10 = .ok (.invokevirtual 33, 3) := dk_182 0 33 (dk_at dksX3_next_0 10 rfl rfl)
theorem dX3_next_13 : decode cX3_next 13 = .ok (.bipush 10, 2) := dk_16 10 (dk_at dksX3_next_0 13 rfl rfl)
theorem dX3_next_15 : decode cX3_next 15 = .ok (.if_icmp .ne 16, 3) := dk_160 0 16 (dk_at dksX3_next_0 15 rfl rfl)
theorem dX3_next_18 : decode cX3_next 18 = .ok (.aload_n 0, 1) := dk_42 (dk_at dksX3_next_0 18 rfl rfl)
theorem dX3_next_19 : decode cX3_next 19 = .ok (.dup, 1) := dk_89 (dk_at dksX3_next_0 19 rfl rfl)
theorem dX3_next_20 : decode cX3_next 20 = .ok (.getfield 19, 3) := dk_180 0 19 (dk_at dksX3_next_0 20 rfl rfl)
theorem dX3_next_23 : decode cX3_next 23 = .ok (.iconst 1, 1) := dk_4 (dk_at dksX3_next_0 23 rfl rfl)
theorem dX3_next_24 : decode cX3_next 24 = .ok (.iadd, 1) := dk_96 (dk_at dksX3_next_1 0 rfl rfl)
theorem dX3_next_25 : decode cX3_next 25 = .ok (.putfield 19, 3) := dk_181 0 19 (dk_at dksX3_next_1 1 rfl rfl)
theorem dX3_next_28 : decode cX3_next 28 = .ok (.goto (-28), 3) := dk_167 255 228 (dk_at dksX3_next_1 4 rfl rfl)
theorem dX3_next_31 : decode cX3_next 31 = .ok (.aload_n 0, 1) := dk_42 (dk_at dksX3_next_1 7 rfl rfl)
theorem dX3_next_32 : decode cX3_next 32 = .ok (.aload_n 0, 1) := dk_42 (dk_at dksX3_next_1 8 rfl rfl)
theorem dX3_next_33 : decode cX3_next 33 = .ok (.getfield 19, 3) := dk_180 0 19 (dk_at dksX3_next_1 9 rfl rfl)
theorem dX3_next_36 : decode cX3_next 36 = .ok (.putfield 37, 3) := dk_181 0 37 (dk_at dksX3_next_1 12 rfl rfl)
theorem dX3_next_39 : decode cX3_next 39 = .ok (.aload_n 0, 1) := dk_42 (dk_at dksX3_next_1 15 rfl rfl)
theorem dX3_next_40 : decode cX3_next 40 = .ok (.getfield 3, 3) := dk_180 0 3 (dk_at dksX3_next_1 16 rfl rfl)
theorem dX3_next_43 : decode cX3_next 43 = .ok (.getfield 22, 3) := dk_180 0 22 (dk_at dksX3_next_1 19 rfl rfl)
theorem dX3_next_46 : decode cX3_next 46 = .ok (.aload_n 0, 1) := dk_42 (dk_at dksX3_next_1 22 rfl rfl)
theorem dX3_next_47 : decode cX3_next 47 = .ok (.getfield 15, 3) := dk_180 0 15 (dk_at dksX3_next_2 0 rfl rfl)
theorem dX3_next_50 : decode cX3_next 50 = .ok (.if_icmp .le 28, 3) := dk_164 0 28 (dk_at dksX3_next_2 3 rfl rfl)
theorem dX3_next_53 : decode cX3_next 53 = .ok (.aload_n 0, 1) := dk_42 (dk_at dksX3_next_2 6 rfl rfl)
theorem dX3_next_54 : decode cX3_next 54 = .ok (.getfield 19, 3) := dk_180 0 19 (dk_at dksX3_next_2 7 rfl rfl)
theorem dX3_next_57 : decode cX3_next 57 = .ok (.aload_n 0, 1) := dk_42 (dk_at dksX3_next_2 10 rfl rfl)
theorem dX3_next_58 : decode cX3_next 58 = .ok (.getfield 15, 3) := dk_180 0 15 (dk_at dksX3_next_2 11 rfl rfl)
theorem dX3_next_61 : decode cX3_next 61 = .ok (.if_icmp .lt 17, 3) := dk_161 0 17 (dk_at dksX3_next_2 14 rfl rfl)
theorem dX3_next_64 : decode cX3_next 64 = .ok (.aload_n 0, 1) := dk_42 (dk_at dksX3_next_2 17 rfl rfl)
theorem dX3_next_65 : decode cX3_next 65 = .ok (.aload_n 0, 1) := dk_42 (dk_at dksX3_next_2 18 rfl rfl)
theorem dX3_next_66 : decode cX3_next 66 = .ok (.getfield 15, 3) := dk_180 0 15 (dk_at dksX3_next_2 19 rfl rfl)
theorem dX3_next_69 : decode cX3_next 69 = .ok (.putfield 37, 3) := dk_181 0 37 (dk_at dksX3_next_3 0 rfl rfl)
theorem dX3_next_72 : decode cX3_next 72 = .ok (.aload_n 0, 1) := dk_42 (dk_at dksX3_next_3 3 rfl rfl)
theorem dX3_next_73 : decode cX3_next 73 = .ok (.iconst 4, 1) := dk_7 (dk_at dksX3_next_3 4 rfl rfl)
theorem dX3_next_74 : decode cX3_next 74 = .ok (.putfield 40, 3) := dk_181 0 40 (dk_at dksX3_next_3 5 rfl rfl)
theorem dX3_next_77 : decode cX3_next 77 = .ok (.return_, 1) := dk_177 (dk_at dksX3_next_3 8 rfl rfl)
theorem dX3_next_78 : decode cX3_next 78 = .ok (.aload_n 0, 1) := dk_42 (dk_at dksX3_next_3 9 rfl rfl)
theorem dX3_next_79 : decode cX3_next 79 = .ok (.invokevirtual 33, 3) := dk_182 0 33 (dk_at dksX3_next_3 10 rfl rfl)
theorem dX3_next_82 : decode cX3_next 82 = .ok (.istore_n 1, 1) := dk_60 (dk_at dksX3_next_3 13 rfl rfl)
theorem dX3_next_83 : decode cX3_next 83 = .ok (.iload_n 1, 1) := dk_27 (dk_at dksX3_next_3 14 rfl rfl)
theorem dX3_next_84 : decode cX3_next 84 = .ok (.ifCond .ge 11, 3) := dk_156 0 11 (dk_at dksX3_next_3 15 rfl rfl)
theorem dX3_next_87 : decode cX3_next 87 = .ok (.aload_n 0, 1) := dk_42 (dk_at dksX3_next_3 18 rfl rfl)
theorem dX3_next_88 : decode cX3_next 88 = .ok (.iconst 0, 1) := dk_3 (dk_at dksX3_next_3 19 rfl rfl)
theorem dX3_next_89 : decode cX3_next 89 = .ok (.putfield 40, 3) := dk_181 0 40 (dk_at dksX3_next_3 20 rfl rfl)
theorem dX3_next_92 : decode cX3_next 92 = .ok (.goto 84, 3) := dk_167 0 84 (dk_at dksX3_next_4 0 rfl rfl)
theorem dX3_next_95 : decode cX3_next 95 = .ok (.aload_n 0, 1) := dk_42 (dk_at dksX3_next_4 3 rfl rfl)
theorem dX3_next_96 : decode cX3_next 96 = .ok (.iload_n 1, 1) := dk_27 (dk_at dksX3_next_4 4 rfl rfl)
theorem dX3_next_97 : decode cX3_next 97 = .ok (.invokevirtual 43, 3) := dk_182 0 43 (dk_at dksX3_next_4 5 rfl rfl)
theorem dX3_next_100 : decode cX3_next 100 = .ok (.ifCond .ne 11, 3) := dk_154 0 11 (dk_at dksX3_next_4 8 rfl rfl)
theorem dX3_next_103 : decode cX3_next 103 = .ok (.aload_n 0, 1) := dk_42 (dk_at dksX3_next_4 11 rfl rfl)
theorem dX3_next_104 : decode cX3_next 104 = .ok (.iload_n 1, 1) := dk_27 (dk_at dksX3_next_4 12 rfl rfl)
theorem dX3_next_105 : decode cX3_next 105 = .ok (.invokevirtual 47, 3) := dk_182 0 47 (dk_at dksX3_next_4 13 rfl rfl)
theorem dX3_next_108 : decode cX3_next 108 = .ok (.ifCond .eq 15, 3) := dk_153 0 15 (dk_at dksX3_next_4 16 rfl rfl)
theorem dX3_next_111 : decode cX3_next 111 = .ok (.aload_n 0, 1) := dk_42 (dk_at dksX3_next_4 19 rfl rfl)
theorem dX3_next_112 : decode cX3_next 112 = .ok (.aload_n 0, 1) := dk_42 (dk_at dksX3_next_4 20 rfl rfl)
theorem dX3_next_113 : decode cX3_next 113 = .ok (.iload_n 1, 1) := dk_27 (dk_at dksX3_next_4 21 rfl rfl)
theorem dX3_next_114 : decode cX3_next 114 = .ok (.invokevirtual 43, 3) := dk_182 0 43 (dk_at dksX3_next_5 0 rfl rfl)
theorem dX3_next_117 : decode cX3_next 117 = .ok (.invokevirtual 50, 3) := dk_182 0 50 (dk_at dksX3_next_5 3 rfl rfl)
theorem dX3_next_120 : decode cX3_next 120 = .ok (.goto 56, 3) := dk_167 0 56 (dk_at dksX3_next_5 6 rfl rfl)
theorem dX3_next_123 : decode cX3_next 123 = .ok (.aload_n 0, 1) := dk_42 (dk_at dksX3_next_5 9 rfl rfl)
theorem dX3_next_124 : decode cX3_next 124 = .ok (.iload_n 1, 1) := dk_27 (dk_at dksX3_next_5 10 rfl rfl)
theorem dX3_next_125 : decode cX3_next 125 = .ok (.bipush 59, 2) := dk_16 59 (dk_at dksX3_next_5 11 rfl rfl)
theorem dX3_next_127 : decode cX3_next 127 = .ok (.if_icmp .eq 26, 3) := dk_159 0 26 (dk_at dksX3_next_5 13 rfl rfl)
theorem dX3_next_130 : decode cX3_next 130 = .ok (.iload_n 1, 1) := dk_27 (dk_at dksX3_next_5 16 rfl rfl)
theorem dX3_next_131 : decode cX3_next 131 = .ok (.bipush 40, 2) := dk_16 40 (dk_at dksX3_next_5 17 rfl rfl)
theorem dX3_next_133 : decode cX3_next 133 = .ok (.if_icmp .eq 20, 3) := dk_159 0 20 (dk_at dksX3_next_5 19 rfl rfl)
theorem dX3_next_136 : decode cX3_next 136 = .ok (.iload_n 1, 1) := dk_27 (dk_at dksX3_next_5 22 rfl rfl)
theorem dX3_next_137 : decode cX3_next 137 = .ok (.bipush 41, 2) := dk_16 41 (dk_at dksX3_next_6 0 rfl rfl)
theorem dX3_next_139 : decode cX3_next 139 = .ok (.if_icmp .eq 14, 3) := dk_159 0 14 (dk_at dksX3_next_6 2 rfl rfl)
theorem dX3_next_142 : decode cX3_next 142 = .ok (.iload_n 1, 1) := dk_27 (dk_at dksX3_next_6 5 rfl rfl)
theorem dX3_next_143 : decode cX3_next 143 = .ok (.bipush 60, 2) := dk_16 60 (dk_at dksX3_next_6 6 rfl rfl)
theorem dX3_next_145 : decode cX3_next 145 = .ok (.bipush 62, 2) := dk_16 62 (dk_at dksX3_next_6 8 rfl rfl)
theorem dX3_next_147 : decode cX3_next 147 = .ok (.invokestatic 29, 3) := dk_184 0 29 (dk_at dksX3_next_6 10 rfl rfl)
theorem dX3_next_150 : decode cX3_next 150 = .ok (.ifCond .eq 7, 3) := dk_153 0 7 (dk_at dksX3_next_6 13 rfl rfl)
theorem dX3_next_153 : decode cX3_next 153 = .ok (.iconst 3, 1) := dk_6 (dk_at dksX3_next_6 16 rfl rfl)
theorem dX3_next_154 : decode cX3_next 154 = .ok (.goto 4, 3) := dk_167 0 4 (dk_at dksX3_next_6 17 rfl rfl)
theorem dX3_next_157 : decode cX3_next 157 = .ok (.iconst 4, 1) := dk_7 (dk_at dksX3_next_6 20 rfl rfl)
theorem dX3_next_158 : decode cX3_next 158 = .ok (.putfield 40, 3) := dk_181 0 40 (dk_at dksX3_next_6 21 rfl rfl)
theorem dX3_next_161 : decode cX3_next 161 = .ok (.aload_n 0, 1) := dk_42 (dk_at dksX3_next_7 0 rfl rfl)
theorem dX3_next_162 : decode cX3_next 162 = .ok (.iload_n 1, 1) := dk_27 (dk_at dksX3_next_7 1 rfl rfl)
theorem dX3_next_163 : decode cX3_next 163 = .ok (.putfield 54, 3) := dk_181 0 54 (dk_at dksX3_next_7 2 rfl rfl)
theorem dX3_next_166 : decode cX3_next 166 = .ok (.aload_n 0, 1) := dk_42 (dk_at dksX3_next_7 5 rfl rfl)
theorem dX3_next_167 : decode cX3_next 167 = .ok (.dup, 1) := dk_89 (dk_at dksX3_next_7 6 rfl rfl)
theorem dX3_next_168 : decode cX3_next 168 = .ok (.getfield 19, 3) := dk_180 0 19 (dk_at dksX3_next_7 7 rfl rfl)
theorem dX3_next_171 : decode cX3_next 171 = .ok (.iconst 1, 1) := dk_4 (dk_at dksX3_next_7 10 rfl rfl)
theorem dX3_next_172 : decode cX3_next 172 = .ok (.iadd, 1) := dk_96 (dk_at dksX3_next_7 11 rfl rfl)
theorem dX3_next_173 : decode cX3_next 173 = .ok (.putfield 19, 3) := dk_181 0 19 (dk_at dksX3_next_7 12 rfl rfl)
theorem dX3_next_176 : decode cX3_next 176 = .ok (.return_, 1) := dk_177 (dk_at dksX3_next_7 15 rfl rfl)
abbrev cX3_peek : ByteArray := prog_17_method_2_code
def yX3_peek : MethodName := ⟨RX3, "peek", "()I"⟩
def dkwX3_peek_1 : List UInt8 := [180, 0, 19, 51, 17, 0, 255, 126, 167, 0, 4, 2, 172]
abbrev dktX3_peek_1 : List UInt8 := dkwX3_peek_1 ++ []
def dkwX3_peek_0 : List UInt8 := [42, 180, 0, 19, 42, 180, 0, 3, 180, 0, 22, 162, 0, 22, 42, 180, 0, 3, 180, 0, 25, 42]
abbrev dktX3_peek_0 : List UInt8 := dkwX3_peek_0 ++ dktX3_peek_1
theorem dksX3_peek_0 : cX3_peek.data.toList.drop 0 = dktX3_peek_0 := by decide +kernel
theorem dksX3_peek_1 : cX3_peek.data.toList.drop 22 = dktX3_peek_1 := dk_seg dksX3_peek_0 22 rfl rfl
theorem dX3_peek_0 : decode cX3_peek 0 = .ok (.aload_n 0, 1) := dk_42 (dk_at dksX3_peek_0 0 rfl rfl)
theorem dX3_peek_1 : decode cX3_peek 1 = .ok (.getfield 19, 3) := dk_180 0 19 (dk_at dksX3_peek_0 1 rfl rfl)
theorem dX3_peek_4 : decode cX3_peek 4 = .ok (.aload_n 0, 1) := dk_42 (dk_at dksX3_peek_0 4 rfl rfl)
theorem dX3_peek_5 : decode cX3_peek 5 = .ok (.getfield 3, 3) := dk_180 0 3 (dk_at dksX3_peek_0 5 rfl rfl)
theorem dX3_peek_8 : decode cX3_peek 8 = .ok (.getfield 22, 3) := dk_180 0 22 (dk_at dksX3_peek_0 8 rfl rfl)
theorem dX3_peek_11 : decode cX3_peek 11 = .ok (.if_icmp .ge 22, 3) := dk_162 0 22 (dk_at dksX3_peek_0 11 rfl rfl)
theorem dX3_peek_14 : decode cX3_peek 14 = .ok (.aload_n 0, 1) := dk_42 (dk_at dksX3_peek_0 14 rfl rfl)
theorem dX3_peek_15 : decode cX3_peek 15 = .ok (.getfield 3, 3) := dk_180 0 3 (dk_at dksX3_peek_0 15 rfl rfl)
theorem dX3_peek_18 : decode cX3_peek 18 = .ok (.getfield 25, 3) := dk_180 0 25 (dk_at dksX3_peek_0 18 rfl rfl)
theorem dX3_peek_21 : decode cX3_peek 21 = .ok (.aload_n 0, 1) := dk_42 (dk_at dksX3_peek_0 21 rfl rfl)
theorem dX3_peek_22 : decode cX3_peek 22 = .ok (.getfield 19, 3) := dk_180 0 19 (dk_at dksX3_peek_1 0 rfl rfl)
theorem dX3_peek_25 : decode cX3_peek 25 = .ok (.baload, 1) := dk_51 (dk_at dksX3_peek_1 3 rfl rfl)
theorem dX3_peek_26 : decode cX3_peek 26 = .ok (.sipush 255, 3) := dk_17 0 255 (dk_at dksX3_peek_1 4 rfl rfl)
theorem dX3_peek_29 : decode cX3_peek 29 = .ok (.iand, 1) := dk_126 (dk_at dksX3_peek_1 7 rfl rfl)
theorem dX3_peek_30 : decode cX3_peek 30 = .ok (.goto 4, 3) := dk_167 0 4 (dk_at dksX3_peek_1 8 rfl rfl)
theorem dX3_peek_33 : decode cX3_peek 33 = .ok (.iconst (-1), 1) := dk_2 (dk_at dksX3_peek_1 11 rfl rfl)
theorem dX3_peek_34 : decode cX3_peek 34 = .ok (.ireturn, 1) := dk_172 (dk_at dksX3_peek_1 12 rfl rfl)
abbrev cX3_isLetter : ByteArray := prog_17_method_3_code
def yX3_isLetter : MethodName := ⟨RX3, "isLetter", "(I)Z"⟩
def dkwX3_isLetter_0 : List UInt8 := [27, 16, 97, 16, 122, 184, 0, 29, 172]
abbrev dktX3_isLetter_0 : List UInt8 := dkwX3_isLetter_0 ++ []
theorem dksX3_isLetter_0 : cX3_isLetter.data.toList.drop 0 = dktX3_isLetter_0 := by decide +kernel
theorem dX3_isLetter_0 : decode cX3_isLetter 0 = .ok (.iload_n 1, 1) := dk_27 (dk_at dksX3_isLetter_0 0 rfl rfl)
theorem dX3_isLetter_1 : decode cX3_isLetter 1 = .ok (.bipush 97, 2) := dk_16 97 (dk_at dksX3_isLetter_0 1 rfl rfl)
theorem dX3_isLetter_3 : decode cX3_isLetter 3 = .ok (.bipush 122, 2) := dk_16 122 (dk_at dksX3_isLetter_0 3 rfl rfl)
theorem dX3_isLetter_5 : decode cX3_isLetter 5 = .ok (.invokestatic 29, 3) := dk_184 0 29 (dk_at dksX3_isLetter_0 5 rfl rfl)
theorem dX3_isLetter_8 : decode cX3_isLetter 8 = .ok (.ireturn, 1) := dk_172 (dk_at dksX3_isLetter_0 8 rfl rfl)
abbrev cX3_isDigit : ByteArray := prog_17_method_4_code
def yX3_isDigit : MethodName := ⟨RX3, "isDigit", "(I)Z"⟩
def dkwX3_isDigit_0 : List UInt8 := [27, 16, 48, 16, 57, 184, 0, 29, 172]
abbrev dktX3_isDigit_0 : List UInt8 := dkwX3_isDigit_0 ++ []
theorem dksX3_isDigit_0 : cX3_isDigit.data.toList.drop 0 = dktX3_isDigit_0 := by decide +kernel
theorem dX3_isDigit_0 : decode cX3_isDigit 0 = .ok (.iload_n 1, 1) := dk_27 (dk_at dksX3_isDigit_0 0 rfl rfl)
theorem dX3_isDigit_1 : decode cX3_isDigit 1 = .ok (.bipush 48, 2) := dk_16 48 (dk_at dksX3_isDigit_0 1 rfl rfl)
theorem dX3_isDigit_3 : decode cX3_isDigit 3 = .ok (.bipush 57, 2) := dk_16 57 (dk_at dksX3_isDigit_0 3 rfl rfl)
theorem dX3_isDigit_5 : decode cX3_isDigit 5 = .ok (.invokestatic 29, 3) := dk_184 0 29 (dk_at dksX3_isDigit_0 5 rfl rfl)
theorem dX3_isDigit_8 : decode cX3_isDigit 8 = .ok (.ireturn, 1) := dk_172 (dk_at dksX3_isDigit_0 8 rfl rfl)
abbrev cX3_run : ByteArray := prog_17_method_6_code
def yX3_run : MethodName := ⟨RX3, "run", "(Z)V"⟩
def dkwX3_run_7 : List UInt8 := [164, 0, 7, 7, 167, 0, 12, 27, 153, 0, 7, 4, 167, 0, 4, 5, 181, 0, 40, 177]
abbrev dktX3_run_7 : List UInt8 := dkwX3_run_7 ++ []
def dkwX3_run_6 : List UInt8 := [181, 0, 61, 42, 28, 153, 0, 20, 42, 180, 0, 61, 27, 153, 0, 8, 16, 6, 167, 0, 4, 5]
abbrev dktX3_run_6 : List UInt8 := dkwX3_run_6 ++ dktX3_run_7
def dkwX3_run_5 : List UInt8 := [42, 89, 180, 0, 19, 4, 96, 181, 0, 19, 167, 255, 139, 42, 42, 180, 0, 19, 42, 180, 0, 37, 100]
abbrev dktX3_run_5 : List UInt8 := dkwX3_run_5 ++ dktX3_run_6
def dkwX3_run_4 : List UInt8 := [100, 5, 162, 0, 22, 42, 16, 10, 42, 180, 0, 54, 104, 42, 182, 0, 33, 96, 16, 48, 100, 181, 0, 54]
abbrev dktX3_run_4 : List UInt8 := dkwX3_run_4 ++ dktX3_run_5
def dkwX3_run_3 : List UInt8 := [42, 180, 0, 57, 16, 8, 121, 42, 182, 0, 33, 133, 129, 181, 0, 57, 42, 180, 0, 19, 42, 180, 0, 37]
abbrev dktX3_run_3 : List UInt8 := dkwX3_run_3 ++ dktX3_run_4
def dkwX3_run_2 : List UInt8 := [160, 0, 7, 4, 167, 0, 4, 3, 61, 42, 180, 0, 19, 42, 180, 0, 37, 100, 16, 6, 162, 0, 20, 42]
abbrev dktX3_run_2 : List UInt8 := dkwX3_run_2 ++ dktX3_run_3
def dkwX3_run_1 : List UInt8 := [42, 182, 0, 33, 182, 0, 47, 153, 0, 101, 28, 153, 0, 19, 42, 42, 182, 0, 33, 182, 0, 43, 27]
abbrev dktX3_run_1 : List UInt8 := dkwX3_run_1 ++ dktX3_run_2
def dkwX3_run_0 : List UInt8 := [4, 61, 42, 3, 181, 0, 54, 42, 9, 181, 0, 57, 42, 42, 182, 0, 33, 182, 0, 43, 154, 0, 14, 42]
abbrev dktX3_run_0 : List UInt8 := dkwX3_run_0 ++ dktX3_run_1
theorem dksX3_run_0 : cX3_run.data.toList.drop 0 = dktX3_run_0 := by decide +kernel
theorem dksX3_run_1 : cX3_run.data.toList.drop 24 = dktX3_run_1 := dk_seg dksX3_run_0 24 rfl rfl
theorem dksX3_run_2 : cX3_run.data.toList.drop 47 = dktX3_run_2 := dk_seg dksX3_run_1 23 rfl rfl
theorem dksX3_run_3 : cX3_run.data.toList.drop 71 = dktX3_run_3 := dk_seg dksX3_run_2 24 rfl rfl
theorem dksX3_run_4 : cX3_run.data.toList.drop 95 = dktX3_run_4 := dk_seg dksX3_run_3 24 rfl rfl
theorem dksX3_run_5 : cX3_run.data.toList.drop 119 = dktX3_run_5 := dk_seg dksX3_run_4 24 rfl rfl
theorem dksX3_run_6 : cX3_run.data.toList.drop 142 = dktX3_run_6 := dk_seg dksX3_run_5 23 rfl rfl
theorem dksX3_run_7 : cX3_run.data.toList.drop 164 = dktX3_run_7 := dk_seg dksX3_run_6 22 rfl rfl
theorem dX3_run_0 : decode cX3_run 0 = .ok (.iconst 1, 1) := dk_4 (dk_at dksX3_run_0 0 rfl rfl)
theorem dX3_run_1 : decode cX3_run 1 = .ok (.istore_n 2, 1) := dk_61 (dk_at dksX3_run_0 1 rfl rfl)
theorem dX3_run_2 : decode cX3_run 2 = .ok (.aload_n 0, 1) := dk_42 (dk_at dksX3_run_0 2 rfl rfl)
theorem dX3_run_3 : decode cX3_run 3 = .ok (.iconst 0, 1) := dk_3 (dk_at dksX3_run_0 3 rfl rfl)
theorem dX3_run_4 : decode cX3_run 4 = .ok (.putfield 54, 3) := dk_181 0 54 (dk_at dksX3_run_0 4 rfl rfl)
theorem dX3_run_7 : decode cX3_run 7 = .ok (.aload_n 0, 1) := dk_42 (dk_at dksX3_run_0 7 rfl rfl)
theorem dX3_run_8 : decode cX3_run 8 = .ok (.lconst 0, 1) := dk_9 (dk_at dksX3_run_0 8 rfl rfl)
theorem dX3_run_9 : decode cX3_run 9 = .ok (.putfield 57, 3) := dk_181 0 57 (dk_at dksX3_run_0 9 rfl rfl)
theorem dX3_run_12 : decode cX3_run 12 = .ok (.aload_n 0, 1) := dk_42 (dk_at dksX3_run_0 12 rfl rfl)
theorem dX3_run_13 : decode cX3_run 13 = .ok (.aload_n 0, 1) := dk_42 (dk_at dksX3_run_0 13 rfl rfl)
theorem dX3_run_14 : decode cX3_run 14 = .ok (.invokevirtual 33, 3) := dk_182 0 33 (dk_at dksX3_run_0 14 rfl rfl)
theorem dX3_run_17 : decode cX3_run 17 = .ok (.invokevirtual 43, 3) := dk_182 0 43 (dk_at dksX3_run_0 17 rfl rfl)
theorem dX3_run_20 : decode cX3_run 20 = .ok (.ifCond .ne 14, 3) := dk_154 0 14 (dk_at dksX3_run_0 20 rfl rfl)
theorem dX3_run_23 : decode cX3_run 23 = .ok (.aload_n 0, 1) := dk_42 (dk_at dksX3_run_0 23 rfl rfl)
theorem dX3_run_24 : decode cX3_run 24 = .ok (.aload_n 0, 1) := dk_42 (dk_at dksX3_run_1 0 rfl rfl)
theorem dX3_run_25 : decode cX3_run 25 = .ok (.invokevirtual 33, 3) := dk_182 0 33 (dk_at dksX3_run_1 1 rfl rfl)
theorem dX3_run_28 : decode cX3_run 28 = .ok (.invokevirtual 47, 3) := dk_182 0 47 (dk_at dksX3_run_1 4 rfl rfl)
theorem dX3_run_31 : decode cX3_run 31 = .ok (.ifCond .eq 101, 3) := dk_153 0 101 (dk_at dksX3_run_1 7 rfl rfl)
theorem dX3_run_34 : decode cX3_run 34 = .ok (.iload_n 2, 1) := dk_28 (dk_at dksX3_run_1 10 rfl rfl)
theorem dX3_run_35 : decode cX3_run 35 = .ok (.ifCond .eq 19, 3) := dk_153 0 19 (dk_at dksX3_run_1 11 rfl rfl)
theorem dX3_run_38 : decode cX3_run 38 = .ok (.aload_n 0, 1) := dk_42 (dk_at dksX3_run_1 14 rfl rfl)
theorem dX3_run_39 : decode cX3_run 39 = .ok (.aload_n 0, 1) := dk_42 (dk_at dksX3_run_1 15 rfl rfl)
theorem dX3_run_40 : decode cX3_run 40 = .ok (.invokevirtual 33, 3) := dk_182 0 33 (dk_at dksX3_run_1 16 rfl rfl)
theorem dX3_run_43 : decode cX3_run 43 = .ok (.invokevirtual 43, 3) := dk_182 0 43 (dk_at dksX3_run_1 19 rfl rfl)
theorem dX3_run_46 : decode cX3_run 46 = .ok (.iload_n 1, 1) := dk_27 (dk_at dksX3_run_1 22 rfl rfl)
theorem dX3_run_47 : decode cX3_run 47 = .ok (.if_icmp .ne 7, 3) := dk_160 0 7 (dk_at dksX3_run_2 0 rfl rfl)
theorem dX3_run_50 : decode cX3_run 50 = .ok (.iconst 1, 1) := dk_4 (dk_at dksX3_run_2 3 rfl rfl)
theorem dX3_run_51 : decode cX3_run 51 = .ok (.goto 4, 3) := dk_167 0 4 (dk_at dksX3_run_2 4 rfl rfl)
theorem dX3_run_54 : decode cX3_run 54 = .ok (.iconst 0, 1) := dk_3 (dk_at dksX3_run_2 7 rfl rfl)
theorem dX3_run_55 : decode cX3_run 55 = .ok (.istore_n 2, 1) := dk_61 (dk_at dksX3_run_2 8 rfl rfl)
theorem dX3_run_56 : decode cX3_run 56 = .ok (.aload_n 0, 1) := dk_42 (dk_at dksX3_run_2 9 rfl rfl)
theorem dX3_run_57 : decode cX3_run 57 = .ok (.getfield 19, 3) := dk_180 0 19 (dk_at dksX3_run_2 10 rfl rfl)
theorem dX3_run_60 : decode cX3_run 60 = .ok (.aload_n 0, 1) := dk_42 (dk_at dksX3_run_2 13 rfl rfl)
theorem dX3_run_61 : decode cX3_run 61 = .ok (.getfield 37, 3) := dk_180 0 37 (dk_at dksX3_run_2 14 rfl rfl)
theorem dX3_run_64 : decode cX3_run 64 = .ok (.isub, 1) := dk_100 (dk_at dksX3_run_2 17 rfl rfl)
theorem dX3_run_65 : decode cX3_run 65 = .ok (.bipush 6, 2) := dk_16 6 (dk_at dksX3_run_2 18 rfl rfl)
theorem dX3_run_67 : decode cX3_run 67 = .ok (.if_icmp .ge 20, 3) := dk_162 0 20 (dk_at dksX3_run_2 20 rfl rfl)
theorem dX3_run_70 : decode cX3_run 70 = .ok (.aload_n 0, 1) := dk_42 (dk_at dksX3_run_2 23 rfl rfl)
theorem dX3_run_71 : decode cX3_run 71 = .ok (.aload_n 0, 1) := dk_42 (dk_at dksX3_run_3 0 rfl rfl)
theorem dX3_run_72 : decode cX3_run 72 = .ok (.getfield 57, 3) := dk_180 0 57 (dk_at dksX3_run_3 1 rfl rfl)
theorem dX3_run_75 : decode cX3_run 75 = .ok (.bipush 8, 2) := dk_16 8 (dk_at dksX3_run_3 4 rfl rfl)
theorem dX3_run_77 : decode cX3_run 77 = .ok (.lshl, 1) := dk_121 (dk_at dksX3_run_3 6 rfl rfl)
theorem dX3_run_78 : decode cX3_run 78 = .ok (.aload_n 0, 1) := dk_42 (dk_at dksX3_run_3 7 rfl rfl)
theorem dX3_run_79 : decode cX3_run 79 = .ok (.invokevirtual 33, 3) := dk_182 0 33 (dk_at dksX3_run_3 8 rfl rfl)
theorem dX3_run_82 : decode cX3_run 82 = .ok (.i2l, 1) := dk_133 (dk_at dksX3_run_3 11 rfl rfl)
theorem dX3_run_83 : decode cX3_run 83 = .ok (.lor, 1) := dk_129 (dk_at dksX3_run_3 12 rfl rfl)
theorem dX3_run_84 : decode cX3_run 84 = .ok (.putfield 57, 3) := dk_181 0 57 (dk_at dksX3_run_3 13 rfl rfl)
theorem dX3_run_87 : decode cX3_run 87 = .ok (.aload_n 0, 1) := dk_42 (dk_at dksX3_run_3 16 rfl rfl)
theorem dX3_run_88 : decode cX3_run 88 = .ok (.getfield 19, 3) := dk_180 0 19 (dk_at dksX3_run_3 17 rfl rfl)
theorem dX3_run_91 : decode cX3_run 91 = .ok (.aload_n 0, 1) := dk_42 (dk_at dksX3_run_3 20 rfl rfl)
theorem dX3_run_92 : decode cX3_run 92 = .ok (.getfield 37, 3) := dk_180 0 37 (dk_at dksX3_run_3 21 rfl rfl)
theorem dX3_run_95 : decode cX3_run 95 = .ok (.isub, 1) := dk_100 (dk_at dksX3_run_4 0 rfl rfl)
theorem dX3_run_96 : decode cX3_run 96 = .ok (.iconst 2, 1) := dk_5 (dk_at dksX3_run_4 1 rfl rfl)
theorem dX3_run_97 : decode cX3_run 97 = .ok (.if_icmp .ge 22, 3) := dk_162 0 22 (dk_at dksX3_run_4 2 rfl rfl)
theorem dX3_run_100 : decode cX3_run 100 = .ok (.aload_n 0, 1) := dk_42 (dk_at dksX3_run_4 5 rfl rfl)
theorem dX3_run_101 : decode cX3_run 101 = .ok (.bipush 10, 2) := dk_16 10 (dk_at dksX3_run_4 6 rfl rfl)
theorem dX3_run_103 : decode cX3_run 103 = .ok (.aload_n 0, 1) := dk_42 (dk_at dksX3_run_4 8 rfl rfl)
theorem dX3_run_104 : decode cX3_run 104 = .ok (.getfield 54, 3) := dk_180 0 54 (dk_at dksX3_run_4 9 rfl rfl)
theorem dX3_run_107 : decode cX3_run 107 = .ok (.imul, 1) := dk_104 (dk_at dksX3_run_4 12 rfl rfl)
theorem dX3_run_108 : decode cX3_run 108 = .ok (.aload_n 0, 1) := dk_42 (dk_at dksX3_run_4 13 rfl rfl)
theorem dX3_run_109 : decode cX3_run 109 = .ok (.invokevirtual 33, 3) := dk_182 0 33 (dk_at dksX3_run_4 14 rfl rfl)
theorem dX3_run_112 : decode cX3_run 112 = .ok (.iadd, 1) := dk_96 (dk_at dksX3_run_4 17 rfl rfl)
theorem dX3_run_113 : decode cX3_run 113 = .ok (.bipush 48, 2) := dk_16 48 (dk_at dksX3_run_4 18 rfl rfl)
theorem dX3_run_115 : decode cX3_run 115 = .ok (.isub, 1) := dk_100 (dk_at dksX3_run_4 20 rfl rfl)
theorem dX3_run_116 : decode cX3_run 116 = .ok (.putfield 54, 3) := dk_181 0 54 (dk_at dksX3_run_4 21 rfl rfl)
theorem dX3_run_119 : decode cX3_run 119 = .ok (.aload_n 0, 1) := dk_42 (dk_at dksX3_run_5 0 rfl rfl)
theorem dX3_run_120 : decode cX3_run 120 = .ok (.dup, 1) := dk_89 (dk_at dksX3_run_5 1 rfl rfl)
theorem dX3_run_121 : decode cX3_run 121 = .ok (.getfield 19, 3) := dk_180 0 19 (dk_at dksX3_run_5 2 rfl rfl)
theorem dX3_run_124 : decode cX3_run 124 = .ok (.iconst 1, 1) := dk_4 (dk_at dksX3_run_5 5 rfl rfl)
theorem dX3_run_125 : decode cX3_run 125 = .ok (.iadd, 1) := dk_96 (dk_at dksX3_run_5 6 rfl rfl)
theorem dX3_run_126 : decode cX3_run 126 = .ok (.putfield 19, 3) := dk_181 0 19 (dk_at dksX3_run_5 7 rfl rfl)
theorem dX3_run_129 : decode cX3_run 129 = .ok (.goto (-117), 3) := dk_167 255 139 (dk_at dksX3_run_5 10 rfl rfl)
theorem dX3_run_132 : decode cX3_run 132 = .ok (.aload_n 0, 1) := dk_42 (dk_at dksX3_run_5 13 rfl rfl)
theorem dX3_run_133 : decode cX3_run 133 = .ok (.aload_n 0, 1) := dk_42 (dk_at dksX3_run_5 14 rfl rfl)
theorem dX3_run_134 : decode cX3_run 134 = .ok (.getfield 19, 3) := dk_180 0 19 (dk_at dksX3_run_5 15 rfl rfl)
theorem dX3_run_137 : decode cX3_run 137 = .ok (.aload_n 0, 1) := dk_42 (dk_at dksX3_run_5 18 rfl rfl)
theorem dX3_run_138 : decode cX3_run 138 = .ok (.getfield 37, 3) := dk_180 0 37 (dk_at dksX3_run_5 19 rfl rfl)
theorem dX3_run_141 : decode cX3_run 141 = .ok (.isub, 1) := dk_100 (dk_at dksX3_run_5 22 rfl rfl)
theorem dX3_run_142 : decode cX3_run 142 = .ok (.putfield 61, 3) := dk_181 0 61 (dk_at dksX3_run_6 0 rfl rfl)
theorem dX3_run_145 : decode cX3_run 145 = .ok (.aload_n 0, 1) := dk_42 (dk_at dksX3_run_6 3 rfl rfl)
theorem dX3_run_146 : decode cX3_run 146 = .ok (.iload_n 2, 1) := dk_28 (dk_at dksX3_run_6 4 rfl rfl)
theorem dX3_run_147 : decode cX3_run 147 = .ok (.ifCond .eq 20, 3) := dk_153 0 20 (dk_at dksX3_run_6 5 rfl rfl)
theorem dX3_run_150 : decode cX3_run 150 = .ok (.aload_n 0, 1) := dk_42 (dk_at dksX3_run_6 8 rfl rfl)
theorem dX3_run_151 : decode cX3_run 151 = .ok (.getfield 61, 3) := dk_180 0 61 (dk_at dksX3_run_6 9 rfl rfl)
theorem dX3_run_154 : decode cX3_run 154 = .ok (.iload_n 1, 1) := dk_27 (dk_at dksX3_run_6 12 rfl rfl)
theorem dX3_run_155 : decode cX3_run 155 = .ok (.ifCond .eq 8, 3) := dk_153 0 8 (dk_at dksX3_run_6 13 rfl rfl)
theorem dX3_run_158 : decode cX3_run 158 = .ok (.bipush 6, 2) := dk_16 6 (dk_at dksX3_run_6 16 rfl rfl)
theorem dX3_run_160 : decode cX3_run 160 = .ok (.goto 4, 3) := dk_167 0 4 (dk_at dksX3_run_6 18 rfl rfl)
theorem dX3_run_163 : decode cX3_run 163 = .ok (.iconst 2, 1) := dk_5 (dk_at dksX3_run_6 21 rfl rfl)
theorem dX3_run_164 : decode cX3_run 164 = .ok (.if_icmp .le 7, 3) := dk_164 0 7 (dk_at dksX3_run_7 0 rfl rfl)
theorem dX3_run_167 : decode cX3_run 167 = .ok (.iconst 4, 1) := dk_7 (dk_at dksX3_run_7 3 rfl rfl)
theorem dX3_run_168 : decode cX3_run 168 = .ok (.goto 12, 3) := dk_167 0 12 (dk_at dksX3_run_7 4 rfl rfl)
theorem dX3_run_171 : decode cX3_run 171 = .ok (.iload_n 1, 1) := dk_27 (dk_at dksX3_run_7 7 rfl rfl)
theorem dX3_run_172 : decode cX3_run 172 = .ok (.ifCond .eq 7, 3) := dk_153 0 7 (dk_at dksX3_run_7 8 rfl rfl)
theorem dX3_run_175 : decode cX3_run 175 = .ok (.iconst 1, 1) := dk_4 (dk_at dksX3_run_7 11 rfl rfl)
theorem dX3_run_176 : decode cX3_run 176 = .ok (.goto 4, 3) := dk_167 0 4 (dk_at dksX3_run_7 12 rfl rfl)
theorem dX3_run_179 : decode cX3_run 179 = .ok (.iconst 2, 1) := dk_5 (dk_at dksX3_run_7 15 rfl rfl)
theorem dX3_run_180 : decode cX3_run 180 = .ok (.putfield 40, 3) := dk_181 0 40 (dk_at dksX3_run_7 16 rfl rfl)
theorem dX3_run_183 : decode cX3_run 183 = .ok (.return_, 1) := dk_177 (dk_at dksX3_run_7 19 rfl rfl)
abbrev cX3_find : ByteArray := prog_17_method_9_code
def yX3_find : MethodName := ⟨RX3, "find", "([Ljava/lang/String;)I"⟩
def dkwX3_find_1 : List UInt8 := [167, 255, 235, 2, 172]
abbrev dktX3_find_1 : List UInt8 := dkwX3_find_1 ++ []
def dkwX3_find_0 : List UInt8 := [3, 61, 28, 43, 190, 162, 0, 21, 42, 43, 28, 50, 182, 0, 73, 153, 0, 5, 28, 172, 132, 2, 1]
abbrev dktX3_find_0 : List UInt8 := dkwX3_find_0 ++ dktX3_find_1
theorem dksX3_find_0 : cX3_find.data.toList.drop 0 = dktX3_find_0 := by decide +kernel
theorem dksX3_find_1 : cX3_find.data.toList.drop 23 = dktX3_find_1 := dk_seg dksX3_find_0 23 rfl rfl
theorem dX3_find_0 : decode cX3_find 0 = .ok (.iconst 0, 1) := dk_3 (dk_at dksX3_find_0 0 rfl rfl)
theorem dX3_find_1 : decode cX3_find 1 = .ok (.istore_n 2, 1) := dk_61 (dk_at dksX3_find_0 1 rfl rfl)
theorem dX3_find_2 : decode cX3_find 2 = .ok (.iload_n 2, 1) := dk_28 (dk_at dksX3_find_0 2 rfl rfl)
theorem dX3_find_3 : decode cX3_find 3 = .ok (.aload_n 1, 1) := dk_43 (dk_at dksX3_find_0 3 rfl rfl)
theorem dX3_find_4 : decode cX3_find 4 = .ok (.arraylength, 1) := dk_190 (dk_at dksX3_find_0 4 rfl rfl)
theorem dX3_find_5 : decode cX3_find 5 = .ok (.if_icmp .ge 21, 3) := dk_162 0 21 (dk_at dksX3_find_0 5 rfl rfl)
theorem dX3_find_8 : decode cX3_find 8 = .ok (.aload_n 0, 1) := dk_42 (dk_at dksX3_find_0 8 rfl rfl)
theorem dX3_find_9 : decode cX3_find 9 = .ok (.aload_n 1, 1) := dk_43 (dk_at dksX3_find_0 9 rfl rfl)
theorem dX3_find_10 : decode cX3_find 10 = .ok (.iload_n 2, 1) := dk_28 (dk_at dksX3_find_0 10 rfl rfl)
theorem dX3_find_11 : decode cX3_find 11 = .ok (.aaload, 1) := dk_50 (dk_at dksX3_find_0 11 rfl rfl)
theorem dX3_find_12 : decode cX3_find 12 = .ok (.invokevirtual 73, 3) := dk_182 0 73 (dk_at dksX3_find_0 12 rfl rfl)
theorem dX3_find_15 : decode cX3_find 15 = .ok (.ifCond .eq 5, 3) := dk_153 0 5 (dk_at dksX3_find_0 15 rfl rfl)
theorem dX3_find_18 : decode cX3_find 18 = .ok (.iload_n 2, 1) := dk_28 (dk_at dksX3_find_0 18 rfl rfl)
theorem dX3_find_19 : decode cX3_find 19 = .ok (.ireturn, 1) := dk_172 (dk_at dksX3_find_0 19 rfl rfl)
theorem dX3_find_20 : decode cX3_find 20 = .ok (.iinc 2 1, 3) := dk_132 2 1 (dk_at dksX3_find_0 20 rfl rfl)
theorem dX3_find_23 : decode cX3_find 23 = .ok (.goto (-21), 3) := dk_167 255 235 (dk_at dksX3_find_1 0 rfl rfl)
theorem dX3_find_26 : decode cX3_find 26 = .ok (.iconst (-1), 1) := dk_2 (dk_at dksX3_find_1 3 rfl rfl)
theorem dX3_find_27 : decode cX3_find 27 = .ok (.ireturn, 1) := dk_172 (dk_at dksX3_find_1 4 rfl rfl)
abbrev cX3_is : ByteArray := prog_17_method_7_code
def yX3_is : MethodName := ⟨RX3, "is", "(Ljava/lang/String;)Z"⟩
def dkwX3_is_2 : List UInt8 := [182, 0, 69, 159, 0, 5, 3, 172, 132, 2, 1, 167, 255, 221, 4, 172]
abbrev dktX3_is_2 : List UInt8 := dkwX3_is_2 ++ []
def dkwX3_is_1 : List UInt8 := [42, 180, 0, 61, 162, 0, 33, 42, 180, 0, 3, 180, 0, 25, 42, 180, 0, 37, 28, 96, 51, 43, 28]
abbrev dktX3_is_1 : List UInt8 := dkwX3_is_1 ++ dktX3_is_2
def dkwX3_is_0 : List UInt8 := [42, 180, 0, 40, 4, 160, 0, 14, 42, 180, 0, 61, 43, 182, 0, 64, 159, 0, 5, 3, 172, 3, 61, 28]
abbrev dktX3_is_0 : List UInt8 := dkwX3_is_0 ++ dktX3_is_1
theorem dksX3_is_0 : cX3_is.data.toList.drop 0 = dktX3_is_0 := by decide +kernel
theorem dksX3_is_1 : cX3_is.data.toList.drop 24 = dktX3_is_1 := dk_seg dksX3_is_0 24 rfl rfl
theorem dksX3_is_2 : cX3_is.data.toList.drop 47 = dktX3_is_2 := dk_seg dksX3_is_1 23 rfl rfl
theorem dX3_is_0 : decode cX3_is 0 = .ok (.aload_n 0, 1) := dk_42 (dk_at dksX3_is_0 0 rfl rfl)
theorem dX3_is_1 : decode cX3_is 1 = .ok (.getfield 40, 3) := dk_180 0 40 (dk_at dksX3_is_0 1 rfl rfl)
theorem dX3_is_4 : decode cX3_is 4 = .ok (.iconst 1, 1) := dk_4 (dk_at dksX3_is_0 4 rfl rfl)
theorem dX3_is_5 : decode cX3_is 5 = .ok (.if_icmp .ne 14, 3) := dk_160 0 14 (dk_at dksX3_is_0 5 rfl rfl)
theorem dX3_is_8 : decode cX3_is 8 = .ok (.aload_n 0, 1) := dk_42 (dk_at dksX3_is_0 8 rfl rfl)
theorem dX3_is_9 : decode cX3_is 9 = .ok (.getfield 61, 3) := dk_180 0 61 (dk_at dksX3_is_0 9 rfl rfl)
theorem dX3_is_12 : decode cX3_is 12 = .ok (.aload_n 1, 1) := dk_43 (dk_at dksX3_is_0 12 rfl rfl)
theorem dX3_is_13 : decode cX3_is 13 = .ok (.invokevirtual 64, 3) := dk_182 0 64 (dk_at dksX3_is_0 13 rfl rfl)
theorem dX3_is_16 : decode cX3_is 16 = .ok (.if_icmp .eq 5, 3) := dk_159 0 5 (dk_at dksX3_is_0 16 rfl rfl)
theorem dX3_is_19 : decode cX3_is 19 = .ok (.iconst 0, 1) := dk_3 (dk_at dksX3_is_0 19 rfl rfl)
theorem dX3_is_20 : decode cX3_is 20 = .ok (.ireturn, 1) := dk_172 (dk_at dksX3_is_0 20 rfl rfl)
theorem dX3_is_21 : decode cX3_is 21 = .ok (.iconst 0, 1) := dk_3 (dk_at dksX3_is_0 21 rfl rfl)
theorem dX3_is_22 : decode cX3_is 22 = .ok (.istore_n 2, 1) := dk_61 (dk_at dksX3_is_0 22 rfl rfl)
theorem dX3_is_23 : decode cX3_is 23 = .ok (.iload_n 2, 1) := dk_28 (dk_at dksX3_is_0 23 rfl rfl)
theorem dX3_is_24 : decode cX3_is 24 = .ok (.aload_n 0, 1) := dk_42 (dk_at dksX3_is_1 0 rfl rfl)
theorem dX3_is_25 : decode cX3_is 25 = .ok (.getfield 61, 3) := dk_180 0 61 (dk_at dksX3_is_1 1 rfl rfl)
theorem dX3_is_28 : decode cX3_is 28 = .ok (.if_icmp .ge 33, 3) := dk_162 0 33 (dk_at dksX3_is_1 4 rfl rfl)
theorem dX3_is_31 : decode cX3_is 31 = .ok (.aload_n 0, 1) := dk_42 (dk_at dksX3_is_1 7 rfl rfl)
theorem dX3_is_32 : decode cX3_is 32 = .ok (.getfield 3, 3) := dk_180 0 3 (dk_at dksX3_is_1 8 rfl rfl)
theorem dX3_is_35 : decode cX3_is 35 = .ok (.getfield 25, 3) := dk_180 0 25 (dk_at dksX3_is_1 11 rfl rfl)
theorem dX3_is_38 : decode cX3_is 38 = .ok (.aload_n 0, 1) := dk_42 (dk_at dksX3_is_1 14 rfl rfl)
theorem dX3_is_39 : decode cX3_is 39 = .ok (.getfield 37, 3) := dk_180 0 37 (dk_at dksX3_is_1 15 rfl rfl)
theorem dX3_is_42 : decode cX3_is 42 = .ok (.iload_n 2, 1) := dk_28 (dk_at dksX3_is_1 18 rfl rfl)
theorem dX3_is_43 : decode cX3_is 43 = .ok (.iadd, 1) := dk_96 (dk_at dksX3_is_1 19 rfl rfl)
theorem dX3_is_44 : decode cX3_is 44 = .ok (.baload, 1) := dk_51 (dk_at dksX3_is_1 20 rfl rfl)
theorem dX3_is_45 : decode cX3_is 45 = .ok (.aload_n 1, 1) := dk_43 (dk_at dksX3_is_1 21 rfl rfl)
theorem dX3_is_46 : decode cX3_is 46 = .ok (.iload_n 2, 1) := dk_28 (dk_at dksX3_is_1 22 rfl rfl)
theorem dX3_is_47 : decode cX3_is 47 = .ok (.invokevirtual 69, 3) := dk_182 0 69 (dk_at dksX3_is_2 0 rfl rfl)
theorem dX3_is_50 : decode cX3_is 50 = .ok (.if_icmp .eq 5, 3) := dk_159 0 5 (dk_at dksX3_is_2 3 rfl rfl)
theorem dX3_is_53 : decode cX3_is 53 = .ok (.iconst 0, 1) := dk_3 (dk_at dksX3_is_2 6 rfl rfl)
theorem dX3_is_54 : decode cX3_is 54 = .ok (.ireturn, 1) := dk_172 (dk_at dksX3_is_2 7 rfl rfl)
theorem dX3_is_55 : decode cX3_is 55 = .ok (.iinc 2 1, 3) := dk_132 2 1 (dk_at dksX3_is_2 8 rfl rfl)
theorem dX3_is_58 : decode cX3_is 58 = .ok (.goto (-35), 3) := dk_167 255 221 (dk_at dksX3_is_2 11 rfl rfl)
theorem dX3_is_61 : decode cX3_is 61 = .ok (.iconst 1, 1) := dk_4 (dk_at dksX3_is_2 14 rfl rfl)
theorem dX3_is_62 : decode cX3_is 62 = .ok (.ireturn, 1) := dk_172 (dk_at dksX3_is_2 15 rfl rfl)
abbrev cX3_must : ByteArray := prog_17_method_11_code
def yX3_must : MethodName := ⟨RX3, "must", "(ZI)V"⟩
def dkwX3_must_0 : List UInt8 := [27, 154, 0, 9, 42, 28, 182, 0, 89, 191, 177]
abbrev dktX3_must_0 : List UInt8 := dkwX3_must_0 ++ []
theorem dksX3_must_0 : cX3_must.data.toList.drop 0 = dktX3_must_0 := by decide +kernel
theorem dX3_must_0 : decode cX3_must 0 = .ok (.iload_n 1, 1) := dk_27 (dk_at dksX3_must_0 0 rfl rfl)
theorem dX3_must_1 : decode cX3_must 1 = .ok (.ifCond .ne 9, 3) := dk_154 0 9 (dk_at dksX3_must_0 1 rfl rfl)
theorem dX3_must_4 : decode cX3_must 4 = .ok (.aload_n 0, 1) := dk_42 (dk_at dksX3_must_0 4 rfl rfl)
theorem dX3_must_5 : decode cX3_must 5 = .ok (.iload_n 2, 1) := dk_28 (dk_at dksX3_must_0 5 rfl rfl)
theorem dX3_must_6 : decode cX3_must 6 = .ok (.invokevirtual 89, 3) := dk_182 0 89 (dk_at dksX3_must_0 6 rfl rfl)
theorem dX3_must_9 : decode cX3_must 9 = .ok (.athrow, 1) := dk_191 (dk_at dksX3_must_0 9 rfl rfl)
theorem dX3_must_10 : decode cX3_must 10 = .ok (.return_, 1) := dk_177 (dk_at dksX3_must_0 10 rfl rfl)
abbrev cX3_wrong : ByteArray := prog_17_method_10_code
def yX3_wrong : MethodName := ⟨RX3, "wrong", "(I)LTwoHalves$Fault;"⟩
def dkwX3_wrong_1 : List UInt8 := [181, 0, 86, 42, 180, 0, 3, 180, 0, 77, 176]
abbrev dktX3_wrong_1 : List UInt8 := dkwX3_wrong_1 ++ []
def dkwX3_wrong_0 : List UInt8 := [42, 180, 0, 3, 180, 0, 77, 27, 181, 0, 81, 42, 180, 0, 3, 180, 0, 77, 42, 180, 0, 37]
abbrev dktX3_wrong_0 : List UInt8 := dkwX3_wrong_0 ++ dktX3_wrong_1
theorem dksX3_wrong_0 : cX3_wrong.data.toList.drop 0 = dktX3_wrong_0 := by decide +kernel
theorem dksX3_wrong_1 : cX3_wrong.data.toList.drop 22 = dktX3_wrong_1 := dk_seg dksX3_wrong_0 22 rfl rfl
theorem dX3_wrong_0 : decode cX3_wrong 0 = .ok (.aload_n 0, 1) := dk_42 (dk_at dksX3_wrong_0 0 rfl rfl)
theorem dX3_wrong_1 : decode cX3_wrong 1 = .ok (.getfield 3, 3) := dk_180 0 3 (dk_at dksX3_wrong_0 1 rfl rfl)
theorem dX3_wrong_4 : decode cX3_wrong 4 = .ok (.getfield 77, 3) := dk_180 0 77 (dk_at dksX3_wrong_0 4 rfl rfl)
theorem dX3_wrong_7 : decode cX3_wrong 7 = .ok (.iload_n 1, 1) := dk_27 (dk_at dksX3_wrong_0 7 rfl rfl)
theorem dX3_wrong_8 : decode cX3_wrong 8 = .ok (.putfield 81, 3) := dk_181 0 81 (dk_at dksX3_wrong_0 8 rfl rfl)
theorem dX3_wrong_11 : decode cX3_wrong 11 = .ok (.aload_n 0, 1) := dk_42 (dk_at dksX3_wrong_0 11 rfl rfl)
theorem dX3_wrong_12 : decode cX3_wrong 12 = .ok (.getfield 3, 3) := dk_180 0 3 (dk_at dksX3_wrong_0 12 rfl rfl)
theorem dX3_wrong_15 : decode cX3_wrong 15 = .ok (.getfield 77, 3) := dk_180 0 77 (dk_at dksX3_wrong_0 15 rfl rfl)
theorem dX3_wrong_18 : decode cX3_wrong 18 = .ok (.aload_n 0, 1) := dk_42 (dk_at dksX3_wrong_0 18 rfl rfl)
theorem dX3_wrong_19 : decode cX3_wrong 19 = .ok (.getfield 37, 3) := dk_180 0 37 (dk_at dksX3_wrong_0 19 rfl rfl)
theorem dX3_wrong_22 : decode cX3_wrong 22 = .ok (.putfield 86, 3) := dk_181 0 86 (dk_at dksX3_wrong_1 0 rfl rfl)
theorem dX3_wrong_25 : decode cX3_wrong 25 = .ok (.aload_n 0, 1) := dk_42 (dk_at dksX3_wrong_1 3 rfl rfl)
theorem dX3_wrong_26 : decode cX3_wrong 26 = .ok (.getfield 3, 3) := dk_180 0 3 (dk_at dksX3_wrong_1 4 rfl rfl)
theorem dX3_wrong_29 : decode cX3_wrong 29 = .ok (.getfield 77, 3) := dk_180 0 77 (dk_at dksX3_wrong_1 7 rfl rfl)
theorem dX3_wrong_32 : decode cX3_wrong 32 = .ok (.areturn, 1) := dk_176 (dk_at dksX3_wrong_1 10 rfl rfl)
abbrev cX3_isName : ByteArray := prog_17_method_14_code
def yX3_isName : MethodName := ⟨RX3, "isName", "()Z"⟩
def dkwX3_isName_4 : List UInt8 := [2, 160, 0, 7, 4, 167, 0, 4, 3, 172]
abbrev dktX3_isName_4 : List UInt8 := dkwX3_isName_4 ++ []
def dkwX3_isName_3 : List UInt8 := [180, 0, 3, 180, 0, 119, 182, 0, 106, 2, 160, 0, 22, 42, 42, 180, 0, 3, 180, 0, 122, 182, 0, 106]
abbrev dktX3_isName_3 : List UInt8 := dkwX3_isName_3 ++ dktX3_isName_4
def dkwX3_isName_2 : List UInt8 := [182, 0, 106, 2, 160, 0, 52, 42, 42, 180, 0, 3, 180, 0, 116, 182, 0, 106, 2, 160, 0, 37, 42, 42]
abbrev dktX3_isName_2 : List UInt8 := dkwX3_isName_2 ++ dktX3_isName_3
def dkwX3_isName_1 : List UInt8 := [42, 180, 0, 3, 180, 0, 110, 182, 0, 106, 2, 160, 0, 67, 42, 42, 180, 0, 3, 180, 0, 113]
abbrev dktX3_isName_1 : List UInt8 := dkwX3_isName_1 ++ dktX3_isName_2
def dkwX3_isName_0 : List UInt8 := [42, 180, 0, 40, 4, 160, 0, 97, 42, 42, 180, 0, 3, 180, 0, 102, 182, 0, 106, 2, 160, 0, 82, 42]
abbrev dktX3_isName_0 : List UInt8 := dkwX3_isName_0 ++ dktX3_isName_1
theorem dksX3_isName_0 : cX3_isName.data.toList.drop 0 = dktX3_isName_0 := by decide +kernel
theorem dksX3_isName_1 : cX3_isName.data.toList.drop 24 = dktX3_isName_1 := dk_seg dksX3_isName_0 24 rfl rfl
theorem dksX3_isName_2 : cX3_isName.data.toList.drop 46 = dktX3_isName_2 := dk_seg dksX3_isName_1 22 rfl rfl
theorem dksX3_isName_3 : cX3_isName.data.toList.drop 70 = dktX3_isName_3 := dk_seg dksX3_isName_2 24 rfl rfl
theorem dksX3_isName_4 : cX3_isName.data.toList.drop 94 = dktX3_isName_4 := dk_seg dksX3_isName_3 24 rfl rfl
theorem dX3_isName_0 : decode cX3_isName 0 = .ok (.aload_n 0, 1) := dk_42 (dk_at dksX3_isName_0 0 rfl rfl)
theorem dX3_isName_1 : decode cX3_isName 1 = .ok (.getfield 40, 3) := dk_180 0 40 (dk_at dksX3_isName_0 1 rfl rfl)
theorem dX3_isName_4 : decode cX3_isName 4 = .ok (.iconst 1, 1) := dk_4 (dk_at dksX3_isName_0 4 rfl rfl)
theorem dX3_isName_5 : decode cX3_isName 5 = .ok (.if_icmp .ne 97, 3) := dk_160 0 97 (dk_at dksX3_isName_0 5 rfl rfl)
theorem dX3_isName_8 : decode cX3_isName 8 = .ok (.aload_n 0, 1) := dk_42 (dk_at dksX3_isName_0 8 rfl rfl)
theorem dX3_isName_9 : decode cX3_isName 9 = .ok (.aload_n 0, 1) := dk_42 (dk_at dksX3_isName_0 9 rfl rfl)
theorem dX3_isName_10 : decode cX3_isName 10 = .ok (.getfield 3, 3) := dk_180 0 3 (dk_at dksX3_isName_0 10 rfl rfl)
theorem dX3_isName_13 : decode cX3_isName 13 = .ok (.getfield 102, 3) := dk_180 0 102 (dk_at dksX3_isName_0 13 rfl rfl)
theorem dX3_isName_16 : decode cX3_isName 16 = .ok (.invokevirtual 106, 3) := dk_182 0 106 (dk_at dksX3_isName_0 16 rfl rfl)
theorem dX3_isName_19 : decode cX3_isName 19 = .ok (.iconst (-1), 1) := dk_2 (dk_at dksX3_isName_0 19 rfl rfl)
theorem dX3_isName_20 : decode cX3_isName 20 = .ok (.if_icmp .ne 82, 3) := dk_160 0 82 (dk_at dksX3_isName_0 20 rfl rfl)
theorem dX3_isName_23 : decode cX3_isName 23 = .ok (.aload_n 0, 1) := dk_42 (dk_at dksX3_isName_0 23 rfl rfl)
theorem dX3_isName_24 : decode cX3_isName 24 = .ok (.aload_n 0, 1) := dk_42 (dk_at dksX3_isName_1 0 rfl rfl)
theorem dX3_isName_25 : decode cX3_isName 25 = .ok (.getfield 3, 3) := dk_180 0 3 (dk_at dksX3_isName_1 1 rfl rfl)
theorem dX3_isName_28 : decode cX3_isName 28 = .ok (.getfield 110, 3) := dk_180 0 110 (dk_at dksX3_isName_1 4 rfl rfl)
theorem dX3_isName_31 : decode cX3_isName 31 = .ok (.invokevirtual 106, 3) := dk_182 0 106 (dk_at dksX3_isName_1 7 rfl rfl)
theorem dX3_isName_34 : decode cX3_isName 34 = .ok (.iconst (-1), 1) := dk_2 (dk_at dksX3_isName_1 10 rfl rfl)
theorem dX3_isName_35 : decode cX3_isName 35 = .ok (.if_icmp .ne 67, 3) := dk_160 0 67 (dk_at dksX3_isName_1 11 rfl rfl)
theorem dX3_isName_38 : decode cX3_isName 38 = .ok (.aload_n 0, 1) := dk_42 (dk_at dksX3_isName_1 14 rfl rfl)
theorem dX3_isName_39 : decode cX3_isName 39 = .ok (.aload_n 0, 1) := dk_42 (dk_at dksX3_isName_1 15 rfl rfl)
theorem dX3_isName_40 : decode cX3_isName 40 = .ok (.getfield 3, 3) := dk_180 0 3 (dk_at dksX3_isName_1 16 rfl rfl)
theorem dX3_isName_43 : decode cX3_isName 43 = .ok (.getfield 113, 3) := dk_180 0 113 (dk_at dksX3_isName_1 19 rfl rfl)
theorem dX3_isName_46 : decode cX3_isName 46 = .ok (.invokevirtual 106, 3) := dk_182 0 106 (dk_at dksX3_isName_2 0 rfl rfl)
theorem dX3_isName_49 : decode cX3_isName 49 = .ok (.iconst (-1), 1) := dk_2 (dk_at dksX3_isName_2 3 rfl rfl)
theorem dX3_isName_50 : decode cX3_isName 50 = .ok (.if_icmp .ne 52, 3) := dk_160 0 52 (dk_at dksX3_isName_2 4 rfl rfl)
theorem dX3_isName_53 : decode cX3_isName 53 = .ok (.aload_n 0, 1) := dk_42 (dk_at dksX3_isName_2 7 rfl rfl)
theorem dX3_isName_54 : decode cX3_isName 54 = .ok (.aload_n 0, 1) := dk_42 (dk_at dksX3_isName_2 8 rfl rfl)
theorem dX3_isName_55 : decode cX3_isName 55 = .ok (.getfield 3, 3) := dk_180 0 3 (dk_at dksX3_isName_2 9 rfl rfl)
theorem dX3_isName_58 : decode cX3_isName 58 = .ok (.getfield 116, 3) := dk_180 0 116 (dk_at dksX3_isName_2 12 rfl rfl)
theorem dX3_isName_61 : decode cX3_isName 61 = .ok (.invokevirtual 106, 3) := dk_182 0 106 (dk_at dksX3_isName_2 15 rfl rfl)
theorem dX3_isName_64 : decode cX3_isName 64 = .ok (.iconst (-1), 1) := dk_2 (dk_at dksX3_isName_2 18 rfl rfl)
theorem dX3_isName_65 : decode cX3_isName 65 = .ok (.if_icmp .ne 37, 3) := dk_160 0 37 (dk_at dksX3_isName_2 19 rfl rfl)
theorem dX3_isName_68 : decode cX3_isName 68 = .ok (.aload_n 0, 1) := dk_42 (dk_at dksX3_isName_2 22 rfl rfl)
theorem dX3_isName_69 : decode cX3_isName 69 = .ok (.aload_n 0, 1) := dk_42 (dk_at dksX3_isName_2 23 rfl rfl)
theorem dX3_isName_70 : decode cX3_isName 70 = .ok (.getfield 3, 3) := dk_180 0 3 (dk_at dksX3_isName_3 0 rfl rfl)
theorem dX3_isName_73 : decode cX3_isName 73 = .ok (.getfield 119, 3) := dk_180 0 119 (dk_at dksX3_isName_3 3 rfl rfl)
theorem dX3_isName_76 : decode cX3_isName 76 = .ok (.invokevirtual 106, 3) := dk_182 0 106 (dk_at dksX3_isName_3 6 rfl rfl)
theorem dX3_isName_79 : decode cX3_isName 79 = .ok (.iconst (-1), 1) := dk_2 (dk_at dksX3_isName_3 9 rfl rfl)
theorem dX3_isName_80 : decode cX3_isName 80 = .ok (.if_icmp .ne 22, 3) := dk_160 0 22 (dk_at dksX3_isName_3 10 rfl rfl)
theorem dX3_isName_83 : decode cX3_isName 83 = .ok (.aload_n 0, 1) := dk_42 (dk_at dksX3_isName_3 13 rfl rfl)
theorem dX3_isName_84 : decode cX3_isName 84 = .ok (.aload_n 0, 1) := dk_42 (dk_at dksX3_isName_3 14 rfl rfl)
theorem dX3_isName_85 : decode cX3_isName 85 = .ok (.getfield 3, 3) := dk_180 0 3 (dk_at dksX3_isName_3 15 rfl rfl)
theorem dX3_isName_88 : decode cX3_isName 88 = .ok (.getfield 122, 3) := dk_180 0 122 (dk_at dksX3_isName_3 18 rfl rfl)
theorem dX3_isName_91 : decode cX3_isName 91 = .ok (.invokevirtual 106, 3) := dk_182 0 106 (dk_at dksX3_isName_3 21 rfl rfl)
theorem dX3_isName_94 : decode cX3_isName 94 = .ok (.iconst (-1), 1) := dk_2 (dk_at dksX3_isName_4 0 rfl rfl)
theorem dX3_isName_95 : decode cX3_isName 95 = .ok (.if_icmp .ne 7, 3) := dk_160 0 7 (dk_at dksX3_isName_4 1 rfl rfl)
theorem dX3_isName_98 : decode cX3_isName 98 = .ok (.iconst 1, 1) := dk_4 (dk_at dksX3_isName_4 4 rfl rfl)
theorem dX3_isName_99 : decode cX3_isName 99 = .ok (.goto 4, 3) := dk_167 0 4 (dk_at dksX3_isName_4 5 rfl rfl)
theorem dX3_isName_102 : decode cX3_isName 102 = .ok (.iconst 0, 1) := dk_3 (dk_at dksX3_isName_4 8 rfl rfl)
theorem dX3_isName_103 : decode cX3_isName 103 = .ok (.ireturn, 1) := dk_172 (dk_at dksX3_isName_4 9 rfl rfl)
abbrev cX3_of : ByteArray := prog_17_method_15_code
def yX3_of : MethodName := ⟨RX3, "of", "([LTwoHalves$Named;I)I"⟩
def dkwX3_of_1 : List UInt8 := [132, 3, 1, 167, 255, 232, 2, 172]
abbrev dktX3_of_1 : List UInt8 := dkwX3_of_1 ++ []
def dkwX3_of_0 : List UInt8 := [3, 62, 29, 28, 162, 0, 25, 43, 29, 50, 180, 0, 125, 42, 180, 0, 57, 148, 154, 0, 5, 29, 172]
abbrev dktX3_of_0 : List UInt8 := dkwX3_of_0 ++ dktX3_of_1
theorem dksX3_of_0 : cX3_of.data.toList.drop 0 = dktX3_of_0 := by decide +kernel
theorem dksX3_of_1 : cX3_of.data.toList.drop 23 = dktX3_of_1 := dk_seg dksX3_of_0 23 rfl rfl
theorem dX3_of_0 : decode cX3_of 0 = .ok (.iconst 0, 1) := dk_3 (dk_at dksX3_of_0 0 rfl rfl)
theorem dX3_of_1 : decode cX3_of 1 = .ok (.istore_n 3, 1) := dk_62 (dk_at dksX3_of_0 1 rfl rfl)
theorem dX3_of_2 : decode cX3_of 2 = .ok (.iload_n 3, 1) := dk_29 (dk_at dksX3_of_0 2 rfl rfl)
theorem dX3_of_3 : decode cX3_of 3 = .ok (.iload_n 2, 1) := dk_28 (dk_at dksX3_of_0 3 rfl rfl)
theorem dX3_of_4 : decode cX3_of 4 = .ok (.if_icmp .ge 25, 3) := dk_162 0 25 (dk_at dksX3_of_0 4 rfl rfl)
theorem dX3_of_7 : decode cX3_of 7 = .ok (.aload_n 1, 1) := dk_43 (dk_at dksX3_of_0 7 rfl rfl)
theorem dX3_of_8 : decode cX3_of 8 = .ok (.iload_n 3, 1) := dk_29 (dk_at dksX3_of_0 8 rfl rfl)
theorem dX3_of_9 : decode cX3_of 9 = .ok (.aaload, 1) := dk_50 (dk_at dksX3_of_0 9 rfl rfl)
theorem dX3_of_10 : decode cX3_of 10 = .ok (.getfield 125, 3) := dk_180 0 125 (dk_at dksX3_of_0 10 rfl rfl)
theorem dX3_of_13 : decode cX3_of 13 = .ok (.aload_n 0, 1) := dk_42 (dk_at dksX3_of_0 13 rfl rfl)
theorem dX3_of_14 : decode cX3_of 14 = .ok (.getfield 57, 3) := dk_180 0 57 (dk_at dksX3_of_0 14 rfl rfl)
theorem dX3_of_17 : decode cX3_of 17 = .ok (.lcmp, 1) := dk_148 (dk_at dksX3_of_0 17 rfl rfl)
theorem dX3_of_18 : decode cX3_of 18 = .ok (.ifCond .ne 5, 3) := dk_154 0 5 (dk_at dksX3_of_0 18 rfl rfl)
theorem dX3_of_21 : decode cX3_of 21 = .ok (.iload_n 3, 1) := dk_29 (dk_at dksX3_of_0 21 rfl rfl)
theorem dX3_of_22 : decode cX3_of 22 = .ok (.ireturn, 1) := dk_172 (dk_at dksX3_of_0 22 rfl rfl)
theorem dX3_of_23 : decode cX3_of 23 = .ok (.iinc 3 1, 3) := dk_132 3 1 (dk_at dksX3_of_1 0 rfl rfl)
theorem dX3_of_26 : decode cX3_of 26 = .ok (.goto (-24), 3) := dk_167 255 232 (dk_at dksX3_of_1 3 rfl rfl)
theorem dX3_of_29 : decode cX3_of 29 = .ok (.iconst (-1), 1) := dk_2 (dk_at dksX3_of_1 6 rfl rfl)
theorem dX3_of_30 : decode cX3_of 30 = .ok (.ireturn, 1) := dk_172 (dk_at dksX3_of_1 7 rfl rfl)
abbrev cX3_number : ByteArray := prog_17_method_13_code
def yX3_number : MethodName := ⟨RX3, "number", "(II)I"⟩
def dkwX3_number_1 : List UInt8 := [28, 184, 0, 29, 5, 182, 0, 95, 42, 180, 0, 54, 62, 42, 182, 0, 99, 29, 172]
abbrev dktX3_number_1 : List UInt8 := dkwX3_number_1 ++ []
def dkwX3_number_0 : List UInt8 := [42, 42, 180, 0, 40, 5, 160, 0, 7, 4, 167, 0, 4, 3, 4, 182, 0, 95, 42, 42, 180, 0, 54, 27]
abbrev dktX3_number_0 : List UInt8 := dkwX3_number_0 ++ dktX3_number_1
theorem dksX3_number_0 : cX3_number.data.toList.drop 0 = dktX3_number_0 := by decide +kernel
theorem dksX3_number_1 : cX3_number.data.toList.drop 24 = dktX3_number_1 := dk_seg dksX3_number_0 24 rfl rfl
theorem dX3_number_0 : decode cX3_number 0 = .ok (.aload_n 0, 1) := dk_42 (dk_at dksX3_number_0 0 rfl rfl)
theorem dX3_number_1 : decode cX3_number 1 = .ok (.aload_n 0, 1) := dk_42 (dk_at dksX3_number_0 1 rfl rfl)
theorem dX3_number_2 : decode cX3_number 2 = .ok (.getfield 40, 3) := dk_180 0 40 (dk_at dksX3_number_0 2 rfl rfl)
theorem dX3_number_5 : decode cX3_number 5 = .ok (.iconst 2, 1) := dk_5 (dk_at dksX3_number_0 5 rfl rfl)
theorem dX3_number_6 : decode cX3_number 6 = .ok (.if_icmp .ne 7, 3) := dk_160 0 7 (dk_at dksX3_number_0 6 rfl rfl)
theorem dX3_number_9 : decode cX3_number 9 = .ok (.iconst 1, 1) := dk_4 (dk_at dksX3_number_0 9 rfl rfl)
theorem dX3_number_10 : decode cX3_number 10 = .ok (.goto 4, 3) := dk_167 0 4 (dk_at dksX3_number_0 10 rfl rfl)
theorem dX3_number_13 : decode cX3_number 13 = .ok (.iconst 0, 1) := dk_3 (dk_at dksX3_number_0 13 rfl rfl)
theorem dX3_number_14 : decode cX3_number 14 = .ok (.iconst 1, 1) := dk_4 (dk_at dksX3_number_0 14 rfl rfl)
theorem dX3_number_15 : decode cX3_number 15 = .ok (.invokevirtual 95, 3) := dk_182 0 95 (dk_at dksX3_number_0 15 rfl rfl)
theorem dX3_number_18 : decode cX3_number 18 = .ok (.aload_n 0, 1) := dk_42 (dk_at dksX3_number_0 18 rfl rfl)
theorem dX3_number_19 : decode cX3_number 19 = .ok (.aload_n 0, 1) := dk_42 (dk_at dksX3_number_0 19 rfl rfl)
theorem dX3_number_20 : decode cX3_number 20 = .ok (.getfield 54, 3) := dk_180 0 54 (dk_at dksX3_number_0 20 rfl rfl)
theorem dX3_number_23 : decode cX3_number 23 = .ok (.iload_n 1, 1) := dk_27 (dk_at dksX3_number_0 23 rfl rfl)
theorem dX3_number_24 : decode cX3_number 24 = .ok (.iload_n 2, 1) := dk_28 (dk_at dksX3_number_1 0 rfl rfl)
theorem dX3_number_25 : decode cX3_number 25 = .ok (.invokestatic 29, 3) := dk_184 0 29 (dk_at dksX3_number_1 1 rfl rfl)
theorem dX3_number_28 : decode cX3_number 28 = .ok (.iconst 2, 1) := dk_5 (dk_at dksX3_number_1 4 rfl rfl)
theorem dX3_number_29 : decode cX3_number 29 = .ok (.invokevirtual 95, 3) := dk_182 0 95 (dk_at dksX3_number_1 5 rfl rfl)
theorem dX3_number_32 : decode cX3_number 32 = .ok (.aload_n 0, 1) := dk_42 (dk_at dksX3_number_1 8 rfl rfl)
theorem dX3_number_33 : decode cX3_number 33 = .ok (.getfield 54, 3) := dk_180 0 54 (dk_at dksX3_number_1 9 rfl rfl)
theorem dX3_number_36 : decode cX3_number 36 = .ok (.istore_n 3, 1) := dk_62 (dk_at dksX3_number_1 12 rfl rfl)
theorem dX3_number_37 : decode cX3_number 37 = .ok (.aload_n 0, 1) := dk_42 (dk_at dksX3_number_1 13 rfl rfl)
theorem dX3_number_38 : decode cX3_number 38 = .ok (.invokevirtual 99, 3) := dk_182 0 99 (dk_at dksX3_number_1 14 rfl rfl)
theorem dX3_number_41 : decode cX3_number 41 = .ok (.iload_n 3, 1) := dk_29 (dk_at dksX3_number_1 17 rfl rfl)
theorem dX3_number_42 : decode cX3_number 42 = .ok (.ireturn, 1) := dk_172 (dk_at dksX3_number_1 18 rfl rfl)
abbrev cX3_sign : ByteArray := prog_17_method_12_code
def yX3_sign : MethodName := ⟨RX3, "sign", "(I)V"⟩
def dkwX3_sign_0 : List UInt8 := [42, 42, 27, 182, 0, 93, 4, 182, 0, 95, 42, 182, 0, 99, 177]
abbrev dktX3_sign_0 : List UInt8 := dkwX3_sign_0 ++ []
theorem dksX3_sign_0 : cX3_sign.data.toList.drop 0 = dktX3_sign_0 := by decide +kernel
theorem dX3_sign_0 : decode cX3_sign 0 = .ok (.aload_n 0, 1) := dk_42 (dk_at dksX3_sign_0 0 rfl rfl)
theorem dX3_sign_1 : decode cX3_sign 1 = .ok (.aload_n 0, 1) := dk_42 (dk_at dksX3_sign_0 1 rfl rfl)
theorem dX3_sign_2 : decode cX3_sign 2 = .ok (.iload_n 1, 1) := dk_27 (dk_at dksX3_sign_0 2 rfl rfl)
theorem dX3_sign_3 : decode cX3_sign 3 = .ok (.invokevirtual 93, 3) := dk_182 0 93 (dk_at dksX3_sign_0 3 rfl rfl)
theorem dX3_sign_6 : decode cX3_sign 6 = .ok (.iconst 1, 1) := dk_4 (dk_at dksX3_sign_0 6 rfl rfl)
theorem dX3_sign_7 : decode cX3_sign 7 = .ok (.invokevirtual 95, 3) := dk_182 0 95 (dk_at dksX3_sign_0 7 rfl rfl)
theorem dX3_sign_10 : decode cX3_sign 10 = .ok (.aload_n 0, 1) := dk_42 (dk_at dksX3_sign_0 10 rfl rfl)
theorem dX3_sign_11 : decode cX3_sign 11 = .ok (.invokevirtual 99, 3) := dk_182 0 99 (dk_at dksX3_sign_0 11 rfl rfl)
theorem dX3_sign_14 : decode cX3_sign 14 = .ok (.return_, 1) := dk_177 (dk_at dksX3_sign_0 14 rfl rfl)
abbrev cX3_is_2 : ByteArray := prog_17_method_8_code
def yX3_is_2 : MethodName := ⟨RX3, "is", "(I)Z"⟩
def dkwX3_is_2_0 : List UInt8 := [42, 180, 0, 40, 6, 160, 0, 15, 42, 180, 0, 54, 27, 160, 0, 7, 4, 167, 0, 4, 3, 172]
abbrev dktX3_is_2_0 : List UInt8 := dkwX3_is_2_0 ++ []
theorem dksX3_is_2_0 : cX3_is_2.data.toList.drop 0 = dktX3_is_2_0 := by decide +kernel
theorem dX3_is_2_0 : decode cX3_is_2 0 = .ok (.aload_n 0, 1) := dk_42 (dk_at dksX3_is_2_0 0 rfl rfl)
theorem dX3_is_2_1 : decode cX3_is_2 1 = .ok (.getfield 40, 3) := dk_180 0 40 (dk_at dksX3_is_2_0 1 rfl rfl)
theorem dX3_is_2_4 : decode cX3_is_2 4 = .ok (.iconst 3, 1) := dk_6 (dk_at dksX3_is_2_0 4 rfl rfl)
theorem dX3_is_2_5 : decode cX3_is_2 5 = .ok (.if_icmp .ne 15, 3) := dk_160 0 15 (dk_at dksX3_is_2_0 5 rfl rfl)
theorem dX3_is_2_8 : decode cX3_is_2 8 = .ok (.aload_n 0, 1) := dk_42 (dk_at dksX3_is_2_0 8 rfl rfl)
theorem dX3_is_2_9 : decode cX3_is_2 9 = .ok (.getfield 54, 3) := dk_180 0 54 (dk_at dksX3_is_2_0 9 rfl rfl)
theorem dX3_is_2_12 : decode cX3_is_2 12 = .ok (.iload_n 1, 1) := dk_27 (dk_at dksX3_is_2_0 12 rfl rfl)
theorem dX3_is_2_13 : decode cX3_is_2 13 = .ok (.if_icmp .ne 7, 3) := dk_160 0 7 (dk_at dksX3_is_2_0 13 rfl rfl)
theorem dX3_is_2_16 : decode cX3_is_2 16 = .ok (.iconst 1, 1) := dk_4 (dk_at dksX3_is_2_0 16 rfl rfl)
theorem dX3_is_2_17 : decode cX3_is_2 17 = .ok (.goto 4, 3) := dk_167 0 4 (dk_at dksX3_is_2_0 17 rfl rfl)
theorem dX3_is_2_20 : decode cX3_is_2 20 = .ok (.iconst 0, 1) := dk_3 (dk_at dksX3_is_2_0 20 rfl rfl)
theorem dX3_is_2_21 : decode cX3_is_2 21 = .ok (.ireturn, 1) := dk_172 (dk_at dksX3_is_2_0 21 rfl rfl)
theorem q113 : (Jvm.Cond.initialized "TwoHalves$Reader") ∈ lw_all := lw_g (lw_at lw_m1 5 rfl) rfl
theorem q199 : (Jvm.Cond.fieldLink "TwoHalves$Reader" (81 : Nat) "TwoHalves$Fault" "kind" "I") ∈ lw_all := lw_g (lw_at lw_m1 91 rfl) rfl
theorem q201 : (Jvm.Cond.fieldLink "TwoHalves$Reader" (86 : Nat) "TwoHalves$Fault" "place" "I") ∈ lw_all := lw_g (lw_at lw_m1 93 rfl) rfl
theorem q254 : (Jvm.Cond.instanceMethod ({ cls := "TwoHalves$Reader", name := "<init>", desc := "(LTwoHalves;I)V" } : Jvm.MethodName)) ∈ lw_all := lw_g (lw_at lw_m1 146 rfl) rfl
theorem q255 : (Jvm.Cond.code ({ cls := "TwoHalves$Reader", name := "<init>", desc := "(LTwoHalves;I)V" } : Jvm.MethodName) prog_17_method_1_code (3 : Nat) (Option.none : Option Jvm.ClassFile.FieldType)) ∈ lw_all := lw_g (lw_at lw_m1 147 rfl) rfl
theorem q256 : (Jvm.Cond.methodLink "TwoHalves$Reader" (9 : Nat) ({ cls := "java/lang/Object", name := "<init>", desc := "()V" } : Jvm.MethodName)) ∈ lw_all := lw_g (lw_at lw_m1 148 rfl) rfl
theorem q259 : (Jvm.Cond.fieldLink "TwoHalves$Reader" (15 : Nat) "TwoHalves$Reader" "most" "I") ∈ lw_all := lw_g (lw_at lw_m1 151 rfl) rfl
theorem q260 : (Jvm.Cond.fieldLink "TwoHalves$Reader" (19 : Nat) "TwoHalves$Reader" "p" "I") ∈ lw_all := lw_g (lw_at lw_m1 152 rfl) rfl
theorem q265 : (Jvm.Cond.fieldLink "TwoHalves$Reader" (37 : Nat) "TwoHalves$Reader" "at" "I") ∈ lw_all := lw_g (lw_at lw_m1 157 rfl) rfl
theorem q270 : (Jvm.Cond.fieldLink "TwoHalves$Reader" (40 : Nat) "TwoHalves$Reader" "token" "I") ∈ lw_all := lw_g (lw_at lw_m1 162 rfl) rfl
theorem q271 : (Jvm.Cond.fieldLink "TwoHalves$Reader" (54 : Nat) "TwoHalves$Reader" "value" "I") ∈ lw_all := lw_g (lw_at lw_m1 163 rfl) rfl
theorem q274 : (Jvm.Cond.fieldLink "TwoHalves$Reader" (61 : Nat) "TwoHalves$Reader" "many" "I") ∈ lw_all := lw_g (lw_at lw_m1 166 rfl) rfl
theorem q277 : (Jvm.Cond.fieldLink "TwoHalves$Reader" (57 : Nat) "TwoHalves$Reader" "name" "J") ∈ lw_all := lw_g (lw_at lw_m1 169 rfl) rfl
theorem q278 : (Jvm.Cond.fieldLink "TwoHalves$Reader" (3 : Nat) "TwoHalves$Reader" "this$0" "LTwoHalves;") ∈ lw_all := lw_g (lw_at lw_m1 170 rfl) rfl
theorem q284 : (Jvm.Cond.soleField "TwoHalves$Reader" "most") ∈ lw_all := lw_g (lw_at lw_m1 176 rfl) rfl
theorem q286 : (Jvm.Cond.soleField "TwoHalves$Reader" "p") ∈ lw_all := lw_g (lw_at lw_m1 178 rfl) rfl
theorem q288 : (Jvm.Cond.soleField "TwoHalves$Reader" "at") ∈ lw_all := lw_g (lw_at lw_m1 180 rfl) rfl
theorem q290 : (Jvm.Cond.soleField "TwoHalves$Reader" "token") ∈ lw_all := lw_g (lw_at lw_m1 182 rfl) rfl
theorem q292 : (Jvm.Cond.soleField "TwoHalves$Reader" "value") ∈ lw_all := lw_g (lw_at lw_m1 184 rfl) rfl
theorem q294 : (Jvm.Cond.soleField "TwoHalves$Reader" "many") ∈ lw_all := lw_g (lw_at lw_m1 186 rfl) rfl
theorem q296 : (Jvm.Cond.soleField "TwoHalves$Reader" "name") ∈ lw_all := lw_g (lw_at lw_m1 188 rfl) rfl
theorem q298 : (Jvm.Cond.soleField "TwoHalves$Reader" "this$0") ∈ lw_all := lw_g (lw_at lw_m1 190 rfl) rfl
theorem q503 : (Jvm.Cond.fieldLinkNest "TwoHalves$Reader" (25 : Nat) "TwoHalves" "tape" "[B" "TwoHalves") ∈ lw_tbl := lw_at lw_m2 155 rfl
theorem q505 : (Jvm.Cond.fieldLinkNest "TwoHalves$Reader" (22 : Nat) "TwoHalves" "size" "I" "TwoHalves") ∈ lw_tbl := lw_at lw_m2 157 rfl
theorem q508 : (Jvm.Cond.fieldLinkNest "TwoHalves$Reader" (77 : Nat) "TwoHalves" "broken" "LTwoHalves$Fault;" "TwoHalves") ∈ lw_tbl := lw_at lw_m2 160 rfl
theorem q511 : (Jvm.Cond.fieldLinkNest "TwoHalves$Reader" (102 : Nat) "TwoHalves" "lines" "[Ljava/lang/String;" "TwoHalves") ∈ lw_tbl := lw_at lw_m2 163 rfl
theorem q514 : (Jvm.Cond.fieldLinkNest "TwoHalves$Reader" (110 : Nat) "TwoHalves" "kinds" "[Ljava/lang/String;" "TwoHalves") ∈ lw_tbl := lw_at lw_m2 166 rfl
theorem q517 : (Jvm.Cond.fieldLinkNest "TwoHalves$Reader" (113 : Nat) "TwoHalves" "halves" "[Ljava/lang/String;" "TwoHalves") ∈ lw_tbl := lw_at lw_m2 169 rfl
theorem q520 : (Jvm.Cond.fieldLinkNest "TwoHalves$Reader" (116 : Nat) "TwoHalves" "flags" "[Ljava/lang/String;" "TwoHalves") ∈ lw_tbl := lw_at lw_m2 172 rfl
theorem q523 : (Jvm.Cond.fieldLinkNest "TwoHalves$Reader" (119 : Nat) "TwoHalves" "states" "[Ljava/lang/String;" "TwoHalves") ∈ lw_tbl := lw_at lw_m2 175 rfl
theorem q525 : (Jvm.Cond.fieldLinkNest "TwoHalves$Reader" (122 : Nat) "TwoHalves" "others" "[Ljava/lang/String;" "TwoHalves") ∈ lw_tbl := lw_at lw_m2 177 rfl
theorem q651 : (Jvm.Cond.declares ({ cls := "TwoHalves$Reader", name := "next", desc := "()V" } : Jvm.MethodName)) ∈ lw_tbl := lw_at lw_m3 63 rfl
theorem q653 : (Jvm.Cond.instanceMethod ({ cls := "TwoHalves$Reader", name := "next", desc := "()V" } : Jvm.MethodName)) ∈ lw_all := lw_g (lw_at lw_m3 65 rfl) rfl
theorem q654 : (Jvm.Cond.code ({ cls := "TwoHalves$Reader", name := "next", desc := "()V" } : Jvm.MethodName) prog_17_method_5_code (2 : Nat) (Option.none : Option Jvm.ClassFile.FieldType)) ∈ lw_all := lw_g (lw_at lw_m3 66 rfl) rfl
theorem q655 : (Jvm.Cond.methodLink "TwoHalves$Reader" (33 : Nat) ({ cls := "TwoHalves$Reader", name := "peek", desc := "()I" } : Jvm.MethodName)) ∈ lw_all := lw_g (lw_at lw_m3 67 rfl) rfl
theorem q656 : (Jvm.Cond.privateMethod ({ cls := "TwoHalves$Reader", name := "peek", desc := "()I" } : Jvm.MethodName)) ∈ lw_tbl := lw_at lw_m3 68 rfl
theorem q657 : (Jvm.Cond.instanceMethod ({ cls := "TwoHalves$Reader", name := "peek", desc := "()I" } : Jvm.MethodName)) ∈ lw_all := lw_g (lw_at lw_m3 69 rfl) rfl
theorem q658 : (Jvm.Cond.code ({ cls := "TwoHalves$Reader", name := "peek", desc := "()I" } : Jvm.MethodName) prog_17_method_2_code (1 : Nat) (Option.some Jvm.ClassFile.FieldType.int)) ∈ lw_all := lw_g (lw_at lw_m3 70 rfl) rfl
theorem q659 : (Jvm.Cond.methodLink "TwoHalves$Reader" (43 : Nat) ({ cls := "TwoHalves$Reader", name := "isLetter", desc := "(I)Z" } : Jvm.MethodName)) ∈ lw_all := lw_g (lw_at lw_m3 71 rfl) rfl
theorem q660 : (Jvm.Cond.privateMethod ({ cls := "TwoHalves$Reader", name := "isLetter", desc := "(I)Z" } : Jvm.MethodName)) ∈ lw_tbl := lw_at lw_m3 72 rfl
theorem q661 : (Jvm.Cond.instanceMethod ({ cls := "TwoHalves$Reader", name := "isLetter", desc := "(I)Z" } : Jvm.MethodName)) ∈ lw_all := lw_g (lw_at lw_m3 73 rfl) rfl
theorem q662 : (Jvm.Cond.code ({ cls := "TwoHalves$Reader", name := "isLetter", desc := "(I)Z" } : Jvm.MethodName) prog_17_method_3_code (2 : Nat) (Option.some Jvm.ClassFile.FieldType.boolean)) ∈ lw_all := lw_g (lw_at lw_m3 74 rfl) rfl
theorem q663 : (Jvm.Cond.methodLinkNest "TwoHalves$Reader" (29 : Nat) ({ cls := "TwoHalves", name := "isIn", desc := "(III)Z" } : Jvm.MethodName) "TwoHalves") ∈ lw_tbl := lw_at lw_m3 75 rfl
theorem q666 : (Jvm.Cond.methodLink "TwoHalves$Reader" (47 : Nat) ({ cls := "TwoHalves$Reader", name := "isDigit", desc := "(I)Z" } : Jvm.MethodName)) ∈ lw_all := lw_g (lw_at lw_m3 78 rfl) rfl
theorem q667 : (Jvm.Cond.privateMethod ({ cls := "TwoHalves$Reader", name := "isDigit", desc := "(I)Z" } : Jvm.MethodName)) ∈ lw_tbl := lw_at lw_m3 79 rfl
theorem q668 : (Jvm.Cond.instanceMethod ({ cls := "TwoHalves$Reader", name := "isDigit", desc := "(I)Z" } : Jvm.MethodName)) ∈ lw_all := lw_g (lw_at lw_m3 80 rfl) rfl
theorem q669 : (Jvm.Cond.code ({ cls := "TwoHalves$Reader", name := "isDigit", desc := "(I)Z" } : Jvm.MethodName) prog_17_method_4_code (2 : Nat) (Option.some Jvm.ClassFile.FieldType.boolean)) ∈ lw_all := lw_g (lw_at lw_m3 81 rfl) rfl
theorem q670 : (Jvm.Cond.methodLink "TwoHalves$Reader" (50 : Nat) ({ cls := "TwoHalves$Reader", name := "run", desc := "(Z)V" } : Jvm.MethodName)) ∈ lw_all := lw_g (lw_at lw_m3 82 rfl) rfl
theorem q671 : (Jvm.Cond.privateMethod ({ cls := "TwoHalves$Reader", name := "run", desc := "(Z)V" } : Jvm.MethodName)) ∈ lw_tbl := lw_at lw_m3 83 rfl
theorem q672 : (Jvm.Cond.instanceMethod ({ cls := "TwoHalves$Reader", name := "run", desc := "(Z)V" } : Jvm.MethodName)) ∈ lw_all := lw_g (lw_at lw_m3 84 rfl) rfl
theorem q673 : (Jvm.Cond.code ({ cls := "TwoHalves$Reader", name := "run", desc := "(Z)V" } : Jvm.MethodName) prog_17_method_6_code (3 : Nat) (Option.none : Option Jvm.ClassFile.FieldType)) ∈ lw_all := lw_g (lw_at lw_m3 85 rfl) rfl
theorem q676 : (Jvm.Cond.declares ({ cls := "TwoHalves$Reader", name := "find", desc := "([Ljava/lang/String;)I" } : Jvm.MethodName)) ∈ lw_tbl := lw_at lw_m3 88 rfl
theorem q678 : (Jvm.Cond.instanceMethod ({ cls := "TwoHalves$Reader", name := "find", desc := "([Ljava/lang/String;)I" } : Jvm.MethodName)) ∈ lw_all := lw_g (lw_at lw_m3 90 rfl) rfl
theorem q679 : (Jvm.Cond.code ({ cls := "TwoHalves$Reader", name := "find", desc := "([Ljava/lang/String;)I" } : Jvm.MethodName) prog_17_method_9_code (3 : Nat) (Option.some Jvm.ClassFile.FieldType.int)) ∈ lw_all := lw_g (lw_at lw_m3 91 rfl) rfl
theorem q680 : (Jvm.Cond.methodLink "TwoHalves$Reader" (73 : Nat) ({ cls := "TwoHalves$Reader", name := "is", desc := "(Ljava/lang/String;)Z" } : Jvm.MethodName)) ∈ lw_all := lw_g (lw_at lw_m3 92 rfl) rfl
theorem q681 : (Jvm.Cond.instanceMethod ({ cls := "TwoHalves$Reader", name := "is", desc := "(Ljava/lang/String;)Z" } : Jvm.MethodName)) ∈ lw_all := lw_g (lw_at lw_m3 93 rfl) rfl
theorem q682 : (Jvm.Cond.sameMethod "TwoHalves$Reader" "TwoHalves$Reader" "is" "(Ljava/lang/String;)Z") ∈ lw_all := lw_g (lw_at lw_m3 94 rfl) rfl
theorem q685 : (Jvm.Cond.code ({ cls := "TwoHalves$Reader", name := "is", desc := "(Ljava/lang/String;)Z" } : Jvm.MethodName) prog_17_method_7_code (3 : Nat) (Option.some Jvm.ClassFile.FieldType.boolean)) ∈ lw_all := lw_g (lw_at lw_m3 97 rfl) rfl
theorem q686 : (Jvm.Cond.methodLink "TwoHalves$Reader" (64 : Nat) ({ cls := "java/lang/String", name := "length", desc := "()I" } : Jvm.MethodName)) ∈ lw_all := lw_g (lw_at lw_m3 98 rfl) rfl
theorem q696 : (Jvm.Cond.methodLink "TwoHalves$Reader" (69 : Nat) ({ cls := "java/lang/String", name := "charAt", desc := "(I)C" } : Jvm.MethodName)) ∈ lw_all := lw_g (lw_at lw_m3 108 rfl) rfl
theorem q736 : (Jvm.Cond.declares ({ cls := "TwoHalves$Reader", name := "must", desc := "(ZI)V" } : Jvm.MethodName)) ∈ lw_tbl := lw_at lw_m3 148 rfl
theorem q738 : (Jvm.Cond.instanceMethod ({ cls := "TwoHalves$Reader", name := "must", desc := "(ZI)V" } : Jvm.MethodName)) ∈ lw_all := lw_g (lw_at lw_m3 150 rfl) rfl
theorem q739 : (Jvm.Cond.code ({ cls := "TwoHalves$Reader", name := "must", desc := "(ZI)V" } : Jvm.MethodName) prog_17_method_11_code (3 : Nat) (Option.none : Option Jvm.ClassFile.FieldType)) ∈ lw_all := lw_g (lw_at lw_m3 151 rfl) rfl
theorem q740 : (Jvm.Cond.methodLink "TwoHalves$Reader" (89 : Nat) ({ cls := "TwoHalves$Reader", name := "wrong", desc := "(I)LTwoHalves$Fault;" } : Jvm.MethodName)) ∈ lw_all := lw_g (lw_at lw_m3 152 rfl) rfl
theorem q741 : (Jvm.Cond.instanceMethod ({ cls := "TwoHalves$Reader", name := "wrong", desc := "(I)LTwoHalves$Fault;" } : Jvm.MethodName)) ∈ lw_all := lw_g (lw_at lw_m3 153 rfl) rfl
theorem q742 : (Jvm.Cond.sameMethod "TwoHalves$Reader" "TwoHalves$Reader" "wrong" "(I)LTwoHalves$Fault;") ∈ lw_all := lw_g (lw_at lw_m3 154 rfl) rfl
theorem q745 : (Jvm.Cond.code ({ cls := "TwoHalves$Reader", name := "wrong", desc := "(I)LTwoHalves$Fault;" } : Jvm.MethodName) prog_17_method_10_code (2 : Nat) (Option.some (Jvm.ClassFile.FieldType.object "TwoHalves$Fault"))) ∈ lw_all := lw_g (lw_at lw_m3 157 rfl) rfl
theorem q756 : (Jvm.Cond.declares ({ cls := "TwoHalves$Reader", name := "isName", desc := "()Z" } : Jvm.MethodName)) ∈ lw_tbl := lw_at lw_m3 168 rfl
theorem q758 : (Jvm.Cond.instanceMethod ({ cls := "TwoHalves$Reader", name := "isName", desc := "()Z" } : Jvm.MethodName)) ∈ lw_all := lw_g (lw_at lw_m3 170 rfl) rfl
theorem q759 : (Jvm.Cond.code ({ cls := "TwoHalves$Reader", name := "isName", desc := "()Z" } : Jvm.MethodName) prog_17_method_14_code (1 : Nat) (Option.some Jvm.ClassFile.FieldType.boolean)) ∈ lw_all := lw_g (lw_at lw_m3 171 rfl) rfl
theorem q760 : (Jvm.Cond.methodLink "TwoHalves$Reader" (106 : Nat) ({ cls := "TwoHalves$Reader", name := "find", desc := "([Ljava/lang/String;)I" } : Jvm.MethodName)) ∈ lw_all := lw_g (lw_at lw_m3 172 rfl) rfl
theorem q763 : (Jvm.Cond.declares ({ cls := "TwoHalves$Reader", name := "of", desc := "([LTwoHalves$Named;I)I" } : Jvm.MethodName)) ∈ lw_tbl := lw_at lw_m3 175 rfl
theorem q765 : (Jvm.Cond.instanceMethod ({ cls := "TwoHalves$Reader", name := "of", desc := "([LTwoHalves$Named;I)I" } : Jvm.MethodName)) ∈ lw_all := lw_g (lw_at lw_m3 177 rfl) rfl
theorem q766 : (Jvm.Cond.code ({ cls := "TwoHalves$Reader", name := "of", desc := "([LTwoHalves$Named;I)I" } : Jvm.MethodName) prog_17_method_15_code (4 : Nat) (Option.some Jvm.ClassFile.FieldType.int)) ∈ lw_all := lw_g (lw_at lw_m3 178 rfl) rfl
theorem q788 : (Jvm.Cond.fieldLink "TwoHalves$Reader" (125 : Nat) "TwoHalves$Named" "name" "J") ∈ lw_all := lw_g (lw_at lw_m3 200 rfl) rfl
theorem q870 : (Jvm.Cond.declares ({ cls := "TwoHalves$Reader", name := "is", desc := "(Ljava/lang/String;)Z" } : Jvm.MethodName)) ∈ lw_tbl := lw_at lw_m4 42 rfl
theorem q874 : (Jvm.Cond.declares ({ cls := "TwoHalves$Reader", name := "number", desc := "(II)I" } : Jvm.MethodName)) ∈ lw_tbl := lw_at lw_m4 46 rfl
theorem q876 : (Jvm.Cond.instanceMethod ({ cls := "TwoHalves$Reader", name := "number", desc := "(II)I" } : Jvm.MethodName)) ∈ lw_all := lw_g (lw_at lw_m4 48 rfl) rfl
theorem q877 : (Jvm.Cond.code ({ cls := "TwoHalves$Reader", name := "number", desc := "(II)I" } : Jvm.MethodName) prog_17_method_13_code (4 : Nat) (Option.some Jvm.ClassFile.FieldType.int)) ∈ lw_all := lw_g (lw_at lw_m4 49 rfl) rfl
theorem q878 : (Jvm.Cond.methodLink "TwoHalves$Reader" (95 : Nat) ({ cls := "TwoHalves$Reader", name := "must", desc := "(ZI)V" } : Jvm.MethodName)) ∈ lw_all := lw_g (lw_at lw_m4 50 rfl) rfl
theorem q879 : (Jvm.Cond.methodLink "TwoHalves$Reader" (99 : Nat) ({ cls := "TwoHalves$Reader", name := "next", desc := "()V" } : Jvm.MethodName)) ∈ lw_all := lw_g (lw_at lw_m4 51 rfl) rfl
theorem q889 : (Jvm.Cond.declares ({ cls := "TwoHalves$Reader", name := "sign", desc := "(I)V" } : Jvm.MethodName)) ∈ lw_tbl := lw_at lw_m4 61 rfl
theorem q891 : (Jvm.Cond.instanceMethod ({ cls := "TwoHalves$Reader", name := "sign", desc := "(I)V" } : Jvm.MethodName)) ∈ lw_all := lw_g (lw_at lw_m4 63 rfl) rfl
theorem q892 : (Jvm.Cond.code ({ cls := "TwoHalves$Reader", name := "sign", desc := "(I)V" } : Jvm.MethodName) prog_17_method_12_code (2 : Nat) (Option.none : Option Jvm.ClassFile.FieldType)) ∈ lw_all := lw_g (lw_at lw_m4 64 rfl) rfl
theorem q893 : (Jvm.Cond.methodLink "TwoHalves$Reader" (93 : Nat) ({ cls := "TwoHalves$Reader", name := "is", desc := "(I)Z" } : Jvm.MethodName)) ∈ lw_all := lw_g (lw_at lw_m4 65 rfl) rfl
theorem q894 : (Jvm.Cond.instanceMethod ({ cls := "TwoHalves$Reader", name := "is", desc := "(I)Z" } : Jvm.MethodName)) ∈ lw_all := lw_g (lw_at lw_m4 66 rfl) rfl
theorem q895 : (Jvm.Cond.sameMethod "TwoHalves$Reader" "TwoHalves$Reader" "is" "(I)Z") ∈ lw_all := lw_g (lw_at lw_m4 67 rfl) rfl
theorem q898 : (Jvm.Cond.code ({ cls := "TwoHalves$Reader", name := "is", desc := "(I)Z" } : Jvm.MethodName) prog_17_method_8_code (2 : Nat) (Option.some Jvm.ClassFile.FieldType.boolean)) ∈ lw_all := lw_g (lw_at lw_m4 70 rfl) rfl
theorem q1186 : (Jvm.Cond.declares ({ cls := "TwoHalves$Reader", name := "is", desc := "(I)Z" } : Jvm.MethodName)) ∈ lw_tbl := lw_at lw_m5 118 rfl
theorem q1956 : (Jvm.Cond.sameMethod "TwoHalves$Reader" "TwoHalves$Reader" "peek" "()I") ∈ lw_all := lw_g (lw_at lw_m8 168 rfl) rfl
theorem q1957 : (Jvm.Cond.sameMethod "TwoHalves$Reader" "TwoHalves$Reader" "isLetter" "(I)Z") ∈ lw_all := lw_g (lw_at lw_m8 169 rfl) rfl
theorem q1958 : (Jvm.Cond.sameMethod "TwoHalves$Reader" "TwoHalves$Reader" "isDigit" "(I)Z") ∈ lw_all := lw_g (lw_at lw_m8 170 rfl) rfl
theorem q1959 : (Jvm.Cond.sameMethod "TwoHalves$Reader" "TwoHalves$Reader" "run" "(Z)V") ∈ lw_all := lw_g (lw_at lw_m8 171 rfl) rfl
theorem q1960 : (Jvm.Cond.sameMethod "TwoHalves$Reader" "TwoHalves$Reader" "find" "([Ljava/lang/String;)I") ∈ lw_all := lw_g (lw_at lw_m8 172 rfl) rfl
theorem q1963 : (Jvm.Cond.sameMethod "TwoHalves$Reader" "TwoHalves$Reader" "must" "(ZI)V") ∈ lw_all := lw_g (lw_at lw_m8 175 rfl) rfl
theorem q1966 : (Jvm.Cond.sameMethod "TwoHalves$Reader" "TwoHalves$Reader" "next" "()V") ∈ lw_all := lw_g (lw_at lw_m8 178 rfl) rfl
/-! TwoHalves$HeadReader -/
set_option maxRecDepth 100000
def RX4 : String := "TwoHalves$HeadReader"
def TX4 : u_T := fun k => match k with
  | 0 => ("TwoHalves$Reader", "most", "I", true)
  | 1 => ("TwoHalves$Reader", "p", "I", false)
  | 2 => ("TwoHalves$Reader", "at", "I", false)
  | 3 => ("TwoHalves$Reader", "token", "I", false)
  | 4 => ("TwoHalves$Reader", "value", "I", false)
  | 5 => ("TwoHalves$Reader", "many", "I", false)
  | 6 => ("TwoHalves$Reader", "name", "J", false)
  | 7 => ("TwoHalves$Reader", "this$0", "LTwoHalves;", true)
  | 8 => ("TwoHalves$HeadReader", "h", "LTwoHalves$Head;", false)
  | _ => ("TwoHalves$HeadReader", "this$0", "LTwoHalves;", true)
def tyX4 : Nat → FieldType := fun k => match k with
  | 0 => .int
  | 1 => .int
  | 2 => .int
  | 3 => .int
  | 4 => .int
  | 5 => .int
  | 6 => .long
  | 7 => .object "TwoHalves"
  | 8 => .object "TwoHalves$Head"
  | _ => .object "TwoHalves"
abbrev wsX40 : List Cond := u_ws RX4 TX4 10
-- two fields of one name: no nmX4
theorem tyX4_ok : ∀ k, k < 10 → parseFieldDescriptor (TX4 k).2.2.1 = some (tyX4 k) := by decide +kernel
abbrev cX4_init : ByteArray := prog_11_method_1_code
def yX4_init : MethodName := ⟨RX4, "<init>", "(LTwoHalves;)V"⟩
def dkwX4_init_0 : List UInt8 := [42, 43, 181, 0, 3, 42, 43, 17, 3, 132, 183, 0, 9, 177]
abbrev dktX4_init_0 : List UInt8 := dkwX4_init_0 ++ []
theorem dksX4_init_0 : cX4_init.data.toList.drop 0 = dktX4_init_0 := by decide +kernel
theorem dX4_init_0 : decode cX4_init 0 = .ok (.aload_n 0, 1) := dk_42 (dk_at dksX4_init_0 0 rfl rfl)
theorem dX4_init_1 : decode cX4_init 1 = .ok (.aload_n 1, 1) := dk_43 (dk_at dksX4_init_0 1 rfl rfl)
theorem dX4_init_2 : decode cX4_init 2 = .ok (.putfield 3, 3) := dk_181 0 3 (dk_at dksX4_init_0 2 rfl rfl)
theorem dX4_init_5 : decode cX4_init 5 = .ok (.aload_n 0, 1) := dk_42 (dk_at dksX4_init_0 5 rfl rfl)
theorem dX4_init_6 : decode cX4_init 6 = .ok (.aload_n 1, 1) := dk_43 (dk_at dksX4_init_0 6 rfl rfl)
theorem dX4_init_7 : decode cX4_init 7 = .ok (.sipush 900, 3) := dk_17 3 132 (dk_at dksX4_init_0 7 rfl rfl)
theorem dX4_init_10 : decode cX4_init 10 = .ok (.invokespecial 9, 3) := dk_183 0 9 (dk_at dksX4_init_0 10 rfl rfl)
theorem dX4_init_13 : decode cX4_init 13 = .ok (.return_, 1) := dk_177 (dk_at dksX4_init_0 13 rfl rfl)
abbrev cX4_read : ByteArray := prog_11_method_2_code
def yX4_read : MethodName := ⟨RX4, "read", "(LTwoHalves$Head;)I"⟩
def dkwX4_read_8 : List UInt8 := [182, 0, 62, 42, 16, 59, 182, 0, 65, 132, 2, 1, 167, 255, 82, 28, 172]
abbrev dktX4_read_8 : List UInt8 := dkwX4_read_8 ++ []
def dkwX4_read_7 : List UInt8 := [42, 182, 0, 53, 167, 0, 21, 42, 182, 0, 56, 167, 0, 14, 42, 182, 0, 59, 167, 0, 7, 42]
abbrev dktX4_read_7 : List UInt8 := dkwX4_read_7 ++ dktX4_read_8
def dkwX4_read_6 : List UInt8 := [170, 0, 0, 0, 46, 0, 0, 0, 0, 0, 0, 0, 2, 0, 0, 0, 25, 0, 0, 0, 32, 0, 0, 0, 39]
abbrev dktX4_read_6 : List UInt8 := dkwX4_read_6 ++ dktX4_read_7
def dkwX4_read_5 : List UInt8 := [4, 167, 0, 4, 3, 7, 182, 0, 38, 42, 182, 0, 23, 29]
abbrev dktX4_read_5 : List UInt8 := dkwX4_read_5 ++ dktX4_read_6
def dkwX4_read_4 : List UInt8 := [167, 0, 29, 3, 167, 0, 25, 29, 5, 159, 0, 15, 42, 180, 0, 15, 180, 0, 50, 16, 12, 162, 0, 7]
abbrev dktX4_read_4 : List UInt8 := dkwX4_read_4 ++ dktX4_read_5
def dkwX4_read_3 : List UInt8 := [3, 167, 0, 50, 29, 4, 160, 0, 23, 42, 180, 0, 15, 180, 0, 47, 16, 24, 162, 0, 7, 4]
abbrev dktX4_read_3 : List UInt8 := dkwX4_read_3 ++ dktX4_read_4
def dkwX4_read_2 : List UInt8 := [182, 0, 38, 42, 29, 154, 0, 23, 42, 180, 0, 15, 180, 0, 42, 16, 16, 162, 0, 7, 4, 167, 0, 54]
abbrev dktX4_read_2 : List UInt8 := dkwX4_read_2 ++ dktX4_read_3
def dkwX4_read_1 : List UInt8 := [42, 180, 0, 3, 180, 0, 30, 182, 0, 34, 62, 42, 29, 2, 159, 0, 7, 4, 167, 0, 4, 3, 4]
abbrev dktX4_read_1 : List UInt8 := dkwX4_read_1 ++ dktX4_read_2
def dkwX4_read_0 : List UInt8 := [42, 43, 181, 0, 15, 42, 3, 181, 0, 19, 3, 61, 42, 182, 0, 23, 42, 180, 0, 27, 153, 0, 173, 42]
abbrev dktX4_read_0 : List UInt8 := dkwX4_read_0 ++ dktX4_read_1
theorem dksX4_read_0 : cX4_read.data.toList.drop 0 = dktX4_read_0 := by decide +kernel
theorem dksX4_read_1 : cX4_read.data.toList.drop 24 = dktX4_read_1 := dk_seg dksX4_read_0 24 rfl rfl
theorem dksX4_read_2 : cX4_read.data.toList.drop 47 = dktX4_read_2 := dk_seg dksX4_read_1 23 rfl rfl
theorem dksX4_read_3 : cX4_read.data.toList.drop 71 = dktX4_read_3 := dk_seg dksX4_read_2 24 rfl rfl
theorem dksX4_read_4 : cX4_read.data.toList.drop 93 = dktX4_read_4 := dk_seg dksX4_read_3 22 rfl rfl
theorem dksX4_read_5 : cX4_read.data.toList.drop 117 = dktX4_read_5 := dk_seg dksX4_read_4 24 rfl rfl
theorem dksX4_read_6 : cX4_read.data.toList.drop 131 = dktX4_read_6 := dk_seg dksX4_read_5 14 rfl rfl
theorem dksX4_read_7 : cX4_read.data.toList.drop 156 = dktX4_read_7 := dk_seg dksX4_read_6 25 rfl rfl
theorem dksX4_read_8 : cX4_read.data.toList.drop 178 = dktX4_read_8 := dk_seg dksX4_read_7 22 rfl rfl
theorem dX4_read_0 : decode cX4_read 0 = .ok (.aload_n 0, 1) := dk_42 (dk_at dksX4_read_0 0 rfl rfl)
theorem dX4_read_1 : decode cX4_read 1 = .ok (.aload_n 1, 1) := dk_43 (dk_at dksX4_read_0 1 rfl rfl)
theorem dX4_read_2 : decode cX4_read 2 = .ok (.putfield 15, 3) := dk_181 0 15 (dk_at dksX4_read_0 2 rfl rfl)
theorem dX4_read_5 : decode cX4_read 5 = .ok (.aload_n 0, 1) := dk_42 (dk_at dksX4_read_0 5 rfl rfl)
theorem dX4_read_6 : decode cX4_read 6 = .ok (.iconst 0, 1) := dk_3 (dk_at dksX4_read_0 6 rfl rfl)
theorem dX4_read_7 : decode cX4_read 7 = .ok (.putfield 19, 3) := dk_181 0 19 (dk_at dksX4_read_0 7 rfl rfl)
theorem dX4_read_10 : decode cX4_read 10 = .ok (.iconst 0, 1) := dk_3 (dk_at dksX4_read_0 10 rfl rfl)
theorem dX4_read_11 : decode cX4_read 11 = .ok (.istore_n 2, 1) := dk_61 (dk_at dksX4_read_0 11 rfl rfl)
theorem dX4_read_12 : decode cX4_read 12 = .ok (.aload_n 0, 1) := dk_42 (dk_at dksX4_read_0 12 rfl rfl)
theorem dX4_read_13 : decode cX4_read 13 = .ok (.invokevirtual 23, 3) := dk_182 0 23 (dk_at dksX4_read_0 13 rfl rfl)
theorem dX4_read_16 : decode cX4_read 16 = .ok (.aload_n 0, 1) := dk_42 (dk_at dksX4_read_0 16 rfl rfl)
theorem dX4_read_17 : decode cX4_read 17 = .ok (.getfield 27, 3) := dk_180 0 27 (dk_at dksX4_read_0 17 rfl rfl)
theorem dX4_read_20 : decode cX4_read 20 = .ok (.ifCond .eq 173, 3) := dk_153 0 173 (dk_at dksX4_read_0 20 rfl rfl)
theorem dX4_read_23 : decode cX4_read 23 = .ok (.aload_n 0, 1) := dk_42 (dk_at dksX4_read_0 23 rfl rfl)
theorem dX4_read_24 : decode cX4_read 24 = .ok (.aload_n 0, 1) := dk_42 (dk_at dksX4_read_1 0 rfl rfl)
theorem dX4_read_25 : decode cX4_read 25 = .ok (.getfield 3, 3) := dk_180 0 3 (dk_at dksX4_read_1 1 rfl rfl)
theorem dX4_read_28 : decode cX4_read 28 = .ok (.getfield 30, 3) := dk_180 0 30 (dk_at dksX4_read_1 4 rfl rfl)
theorem dX4_read_31 : decode cX4_read 31 = .ok (.invokevirtual 34, 3) := dk_182 0 34 (dk_at dksX4_read_1 7 rfl rfl)
theorem dX4_read_34 : decode cX4_read 34 = .ok (.istore_n 3, 1) := dk_62 (dk_at dksX4_read_1 10 rfl rfl)
theorem dX4_read_35 : decode cX4_read 35 = .ok (.aload_n 0, 1) := dk_42 (dk_at dksX4_read_1 11 rfl rfl)
theorem dX4_read_36 : decode cX4_read 36 = .ok (.iload_n 3, 1) := dk_29 (dk_at dksX4_read_1 12 rfl rfl)
theorem dX4_read_37 : decode cX4_read 37 = .ok (.iconst (-1), 1) := dk_2 (dk_at dksX4_read_1 13 rfl rfl)
theorem dX4_read_38 : decode cX4_read 38 = .ok (.if_icmp .eq 7, 3) := dk_159 0 7 (dk_at dksX4_read_1 14 rfl rfl)
theorem dX4_read_41 : decode cX4_read 41 = .ok (.iconst 1, 1) := dk_4 (dk_at dksX4_read_1 17 rfl rfl)
theorem dX4_read_42 : decode cX4_read 42 = .ok (.goto 4, 3) := dk_167 0 4 (dk_at dksX4_read_1 18 rfl rfl)
theorem dX4_read_45 : decode cX4_read 45 = .ok (.iconst 0, 1) := dk_3 (dk_at dksX4_read_1 21 rfl rfl)
theorem dX4_read_46 : decode cX4_read 46 = .ok (.iconst 1, 1) := dk_4 (dk_at dksX4_read_1 22 rfl rfl)
theorem dX4_read_47 : decode cX4_read 47 = .ok (.invokevirtual 38, 3) := dk_182 0 38 (dk_at dksX4_read_2 0 rfl rfl)
theorem dX4_read_50 : decode cX4_read 50 = .ok (.aload_n 0, 1) := dk_42 (dk_at dksX4_read_2 3 rfl rfl)
theorem dX4_read_51 : decode cX4_read 51 = .ok (.iload_n 3, 1) := dk_29 (dk_at dksX4_read_2 4 rfl rfl)
theorem dX4_read_52 : decode cX4_read 52 = .ok (.ifCond .ne 23, 3) := dk_154 0 23 (dk_at dksX4_read_2 5 rfl rfl)
theorem dX4_read_55 : decode cX4_read 55 = .ok (.aload_n 0, 1) := dk_42 (dk_at dksX4_read_2 8 rfl rfl)
theorem dX4_read_56 : decode cX4_read 56 = .ok (.getfield 15, 3) := dk_180 0 15 (dk_at dksX4_read_2 9 rfl rfl)
theorem dX4_read_59 : decode cX4_read 59 = .ok (.getfield 42, 3) := dk_180 0 42 (dk_at dksX4_read_2 12 rfl rfl)
theorem dX4_read_62 : decode cX4_read 62 = .ok (.bipush 16, 2) := dk_16 16 (dk_at dksX4_read_2 15 rfl rfl)
theorem dX4_read_64 : decode cX4_read 64 = .ok (.if_icmp .ge 7, 3) := dk_162 0 7 (dk_at dksX4_read_2 17 rfl rfl)
theorem dX4_read_67 : decode cX4_read 67 = .ok (.iconst 1, 1) := dk_4 (dk_at dksX4_read_2 20 rfl rfl)
theorem dX4_read_68 : decode cX4_read 68 = .ok (.goto 54, 3) := dk_167 0 54 (dk_at dksX4_read_2 21 rfl rfl)
theorem dX4_read_71 : decode cX4_read 71 = .ok (.iconst 0, 1) := dk_3 (dk_at dksX4_read_3 0 rfl rfl)
theorem dX4_read_72 : decode cX4_read 72 = .ok (.goto 50, 3) := dk_167 0 50 (dk_at dksX4_read_3 1 rfl rfl)
theorem dX4_read_75 : decode cX4_read 75 = .ok (.iload_n 3, 1) := dk_29 (dk_at dksX4_read_3 4 rfl rfl)
theorem dX4_read_76 : decode cX4_read 76 = .ok (.iconst 1, 1) := dk_4 (dk_at dksX4_read_3 5 rfl rfl)
theorem dX4_read_77 : decode cX4_read 77 = .ok (.if_icmp .ne 23, 3) := dk_160 0 23 (dk_at dksX4_read_3 6 rfl rfl)
theorem dX4_read_80 : decode cX4_read 80 = .ok (.aload_n 0, 1) := dk_42 (dk_at dksX4_read_3 9 rfl rfl)
theorem dX4_read_81 : decode cX4_read 81 = .ok (.getfield 15, 3) := dk_180 0 15 (dk_at dksX4_read_3 10 rfl rfl)
theorem dX4_read_84 : decode cX4_read 84 = .ok (.getfield 47, 3) := dk_180 0 47 (dk_at dksX4_read_3 13 rfl rfl)
theorem dX4_read_87 : decode cX4_read 87 = .ok (.bipush 24, 2) := dk_16 24 (dk_at dksX4_read_3 16 rfl rfl)
theorem dX4_read_89 : decode cX4_read 89 = .ok (.if_icmp .ge 7, 3) := dk_162 0 7 (dk_at dksX4_read_3 18 rfl rfl)
theorem dX4_read_92 : decode cX4_read 92 = .ok (.iconst 1, 1) := dk_4 (dk_at dksX4_read_3 21 rfl rfl)
theorem dX4_read_93 : decode cX4_read 93 = .ok (.goto 29, 3) := dk_167 0 29 (dk_at dksX4_read_4 0 rfl rfl)
theorem dX4_read_96 : decode cX4_read 96 = .ok (.iconst 0, 1) := dk_3 (dk_at dksX4_read_4 3 rfl rfl)
theorem dX4_read_97 : decode cX4_read 97 = .ok (.goto 25, 3) := dk_167 0 25 (dk_at dksX4_read_4 4 rfl rfl)
theorem dX4_read_100 : decode cX4_read 100 = .ok (.iload_n 3, 1) := dk_29 (dk_at dksX4_read_4 7 rfl rfl)
theorem dX4_read_101 : decode cX4_read 101 = .ok (.iconst 2, 1) := dk_5 (dk_at dksX4_read_4 8 rfl rfl)
theorem dX4_read_102 : decode cX4_read 102 = .ok (.if_icmp .eq 15, 3) := dk_159 0 15 (dk_at dksX4_read_4 9 rfl rfl)
theorem dX4_read_105 : decode cX4_read 105 = .ok (.aload_n 0, 1) := dk_42 (dk_at dksX4_read_4 12 rfl rfl)
theorem dX4_read_106 : decode cX4_read 106 = .ok (.getfield 15, 3) := dk_180 0 15 (dk_at dksX4_read_4 13 rfl rfl)
theorem dX4_read_109 : decode cX4_read 109 = .ok (.getfield 50, 3) := dk_180 0 50 (dk_at dksX4_read_4 16 rfl rfl)
theorem dX4_read_112 : decode cX4_read 112 = .ok (.bipush 12, 2) := dk_16 12 (dk_at dksX4_read_4 19 rfl rfl)
theorem dX4_read_114 : decode cX4_read 114 = .ok (.if_icmp .ge 7, 3) := dk_162 0 7 (dk_at dksX4_read_4 21 rfl rfl)
theorem dX4_read_117 : decode cX4_read 117 = .ok (.iconst 1, 1) := dk_4 (dk_at dksX4_read_5 0 rfl rfl)
theorem dX4_read_118 : decode cX4_read 118 = .ok (.goto 4, 3) := dk_167 0 4 (dk_at dksX4_read_5 1 rfl rfl)
theorem dX4_read_121 : decode cX4_read 121 = .ok (.iconst 0, 1) := dk_3 (dk_at dksX4_read_5 4 rfl rfl)
theorem dX4_read_122 : decode cX4_read 122 = .ok (.iconst 4, 1) := dk_7 (dk_at dksX4_read_5 5 rfl rfl)
theorem dX4_read_123 : decode cX4_read 123 = .ok (.invokevirtual 38, 3) := dk_182 0 38 (dk_at dksX4_read_5 6 rfl rfl)
theorem dX4_read_126 : decode cX4_read 126 = .ok (.aload_n 0, 1) := dk_42 (dk_at dksX4_read_5 9 rfl rfl)
theorem dX4_read_127 : decode cX4_read 127 = .ok (.invokevirtual 23, 3) := dk_182 0 23 (dk_at dksX4_read_5 10 rfl rfl)
theorem dX4_read_130 : decode cX4_read 130 = .ok (.iload_n 3, 1) := dk_29 (dk_at dksX4_read_5 13 rfl rfl)
theorem dX4_read_131 : decode cX4_read 131 = .ok (.tableswitch 46 0 2 #[25, 32, 39], 25) := by decide +kernel
theorem dX4_read_156 : decode cX4_read 156 = .ok (.aload_n 0, 1) := dk_42 (dk_at dksX4_read_7 0 rfl rfl)
theorem dX4_read_157 : decode cX4_read 157 = .ok (.invokevirtual 53, 3) := dk_182 0 53 (dk_at dksX4_read_7 1 rfl rfl)
theorem dX4_read_160 : decode cX4_read 160 = .ok (.goto 21, 3) := dk_167 0 21 (dk_at dksX4_read_7 4 rfl rfl)
theorem dX4_read_163 : decode cX4_read 163 = .ok (.aload_n 0, 1) := dk_42 (dk_at dksX4_read_7 7 rfl rfl)
theorem dX4_read_164 : decode cX4_read 164 = .ok (.invokevirtual 56, 3) := dk_182 0 56 (dk_at dksX4_read_7 8 rfl rfl)
theorem dX4_read_167 : decode cX4_read 167 = .ok (.goto 14, 3) := dk_167 0 14 (dk_at dksX4_read_7 11 rfl rfl)
theorem dX4_read_170 : decode cX4_read 170 = .ok (.aload_n 0, 1) := dk_42 (dk_at dksX4_read_7 14 rfl rfl)
theorem dX4_read_171 : decode cX4_read 171 = .ok (.invokevirtual 59, 3) := dk_182 0 59 (dk_at dksX4_read_7 15 rfl rfl)
theorem dX4_read_174 : decode cX4_read 174 = .ok (.goto 7, 3) := dk_167 0 7 (dk_at dksX4_read_7 18 rfl rfl)
theorem dX4_read_177 : decode cX4_read 177 = .ok (.aload_n 0, 1) := dk_42 (dk_at dksX4_read_7 21 rfl rfl)
theorem dX4_read_178 : decode cX4_read 178 = .ok (.invokevirtual 62, 3) := dk_182 0 62 (dk_at dksX4_read_8 0 rfl rfl)
theorem dX4_read_181 : decode cX4_read 181 = .ok (.aload_n 0, 1) := dk_42 (dk_at dksX4_read_8 3 rfl rfl)
theorem dX4_read_182 : decode cX4_read 182 = .ok (.bipush 59, 2) := dk_16 59 (dk_at dksX4_read_8 4 rfl rfl)
theorem dX4_read_184 : decode cX4_read 184 = .ok (.invokevirtual 65, 3) := dk_182 0 65 (dk_at dksX4_read_8 6 rfl rfl)
theorem dX4_read_187 : decode cX4_read 187 = .ok (.iinc 2 1, 3) := dk_132 2 1 (dk_at dksX4_read_8 9 rfl rfl)
theorem dX4_read_190 : decode cX4_read 190 = .ok (.goto (-174), 3) := dk_167 255 82 (dk_at dksX4_read_8 12 rfl rfl)
theorem dX4_read_193 : decode cX4_read 193 = .ok (.iload_n 2, 1) := dk_28 (dk_at dksX4_read_8 15 rfl rfl)
theorem dX4_read_194 : decode cX4_read 194 = .ok (.ireturn, 1) := dk_172 (dk_at dksX4_read_8 16 rfl rfl)
abbrev cX4_thing : ByteArray := prog_11_method_6_code
def yX4_thing : MethodName := ⟨RX4, "thing", "()V"⟩
def dkwX4_thing_2 : List UInt8 := [96, 181, 0, 42, 177]
abbrev dktX4_thing_2 : List UInt8 := dkwX4_thing_2 ++ []
def dkwX4_thing_1 : List UInt8 := [42, 42, 180, 0, 3, 180, 0, 95, 182, 0, 98, 183, 0, 101, 83, 42, 180, 0, 15, 89, 180, 0, 42, 4]
abbrev dktX4_thing_1 : List UInt8 := dkwX4_thing_1 ++ dktX4_thing_2
def dkwX4_thing_0 : List UInt8 := [42, 182, 0, 89, 64, 42, 180, 0, 15, 180, 0, 73, 42, 180, 0, 15, 180, 0, 42, 187, 0, 93, 89, 31]
abbrev dktX4_thing_0 : List UInt8 := dkwX4_thing_0 ++ dktX4_thing_1
theorem dksX4_thing_0 : cX4_thing.data.toList.drop 0 = dktX4_thing_0 := by decide +kernel
theorem dksX4_thing_1 : cX4_thing.data.toList.drop 24 = dktX4_thing_1 := dk_seg dksX4_thing_0 24 rfl rfl
theorem dksX4_thing_2 : cX4_thing.data.toList.drop 48 = dktX4_thing_2 := dk_seg dksX4_thing_1 24 rfl rfl
theorem dX4_thing_0 : decode cX4_thing 0 = .ok (.aload_n 0, 1) := dk_42 (dk_at dksX4_thing_0 0 rfl rfl)
theorem dX4_thing_1 : decode cX4_thing 1 = .ok (.invokevirtual 89, 3) := dk_182 0 89 (dk_at dksX4_thing_0 1 rfl rfl)
theorem dX4_thing_4 : decode cX4_thing 4 = .ok (.lstore_n 1, 1) := dk_64 (dk_at dksX4_thing_0 4 rfl rfl)
theorem dX4_thing_5 : decode cX4_thing 5 = .ok (.aload_n 0, 1) := dk_42 (dk_at dksX4_thing_0 5 rfl rfl)
theorem dX4_thing_6 : decode cX4_thing 6 = .ok (.getfield 15, 3) := dk_180 0 15 (dk_at dksX4_thing_0 6 rfl rfl)
theorem dX4_thing_9 : decode cX4_thing 9 = .ok (.getfield 73, 3) := dk_180 0 73 (dk_at dksX4_thing_0 9 rfl rfl)
theorem dX4_thing_12 : decode cX4_thing 12 = .ok (.aload_n 0, 1) := dk_42 (dk_at dksX4_thing_0 12 rfl rfl)
theorem dX4_thing_13 : decode cX4_thing 13 = .ok (.getfield 15, 3) := dk_180 0 15 (dk_at dksX4_thing_0 13 rfl rfl)
theorem dX4_thing_16 : decode cX4_thing 16 = .ok (.getfield 42, 3) := dk_180 0 42 (dk_at dksX4_thing_0 16 rfl rfl)
theorem dX4_thing_19 : decode cX4_thing 19 = .ok (.new 93, 3) := dk_187 0 93 (dk_at dksX4_thing_0 19 rfl rfl)
theorem dX4_thing_22 : decode cX4_thing 22 = .ok (.dup, 1) := dk_89 (dk_at dksX4_thing_0 22 rfl rfl)
theorem dX4_thing_23 : decode cX4_thing 23 = .ok (.lload_n 1, 1) := dk_31 (dk_at dksX4_thing_0 23 rfl rfl)
theorem dX4_thing_24 : decode cX4_thing 24 = .ok (.aload_n 0, 1) := dk_42 (dk_at dksX4_thing_1 0 rfl rfl)
theorem dX4_thing_25 : decode cX4_thing 25 = .ok (.aload_n 0, 1) := dk_42 (dk_at dksX4_thing_1 1 rfl rfl)
theorem dX4_thing_26 : decode cX4_thing 26 = .ok (.getfield 3, 3) := dk_180 0 3 (dk_at dksX4_thing_1 2 rfl rfl)
theorem dX4_thing_29 : decode cX4_thing 29 = .ok (.getfield 95, 3) := dk_180 0 95 (dk_at dksX4_thing_1 5 rfl rfl)
theorem dX4_thing_32 : decode cX4_thing 32 = .ok (.invokevirtual 98, 3) := dk_182 0 98 (dk_at dksX4_thing_1 8 rfl rfl)
theorem dX4_thing_35 : decode cX4_thing 35 = .ok (.invokespecial 101, 3) := dk_183 0 101 (dk_at dksX4_thing_1 11 rfl rfl)
theorem dX4_thing_38 : decode cX4_thing 38 = .ok (.aastore, 1) := dk_83 (dk_at dksX4_thing_1 14 rfl rfl)
theorem dX4_thing_39 : decode cX4_thing 39 = .ok (.aload_n 0, 1) := dk_42 (dk_at dksX4_thing_1 15 rfl rfl)
theorem dX4_thing_40 : decode cX4_thing 40 = .ok (.getfield 15, 3) := dk_180 0 15 (dk_at dksX4_thing_1 16 rfl rfl)
theorem dX4_thing_43 : decode cX4_thing 43 = .ok (.dup, 1) := dk_89 (dk_at dksX4_thing_1 19 rfl rfl)
theorem dX4_thing_44 : decode cX4_thing 44 = .ok (.getfield 42, 3) := dk_180 0 42 (dk_at dksX4_thing_1 20 rfl rfl)
theorem dX4_thing_47 : decode cX4_thing 47 = .ok (.iconst 1, 1) := dk_4 (dk_at dksX4_thing_1 23 rfl rfl)
theorem dX4_thing_48 : decode cX4_thing 48 = .ok (.iadd, 1) := dk_96 (dk_at dksX4_thing_2 0 rfl rfl)
theorem dX4_thing_49 : decode cX4_thing 49 = .ok (.putfield 42, 3) := dk_181 0 42 (dk_at dksX4_thing_2 1 rfl rfl)
theorem dX4_thing_52 : decode cX4_thing 52 = .ok (.return_, 1) := dk_177 (dk_at dksX4_thing_2 4 rfl rfl)
abbrev cX4_fresh : ByteArray := prog_11_method_3_code
def yX4_fresh : MethodName := ⟨RX4, "fresh", "()J"⟩
def dkwX4_fresh_3 : List UInt8 := [42, 182, 0, 23, 31, 173]
abbrev dktX4_fresh_3 : List UInt8 := dkwX4_fresh_3 ++ []
def dkwX4_fresh_2 : List UInt8 := [180, 0, 50, 182, 0, 77, 2, 160, 0, 7, 4, 167, 0, 4, 3, 6, 182, 0, 38, 42, 180, 0, 85, 64]
abbrev dktX4_fresh_2 : List UInt8 := dkwX4_fresh_2 ++ dktX4_fresh_3
def dkwX4_fresh_1 : List UInt8 := [180, 0, 42, 182, 0, 77, 2, 160, 0, 29, 42, 42, 180, 0, 15, 180, 0, 81, 42, 180, 0, 15]
abbrev dktX4_fresh_1 : List UInt8 := dkwX4_fresh_1 ++ dktX4_fresh_2
def dkwX4_fresh_0 : List UInt8 := [42, 42, 182, 0, 69, 4, 182, 0, 38, 42, 42, 42, 180, 0, 15, 180, 0, 73, 42, 180, 0, 15]
abbrev dktX4_fresh_0 : List UInt8 := dkwX4_fresh_0 ++ dktX4_fresh_1
theorem dksX4_fresh_0 : cX4_fresh.data.toList.drop 0 = dktX4_fresh_0 := by decide +kernel
theorem dksX4_fresh_1 : cX4_fresh.data.toList.drop 22 = dktX4_fresh_1 := dk_seg dksX4_fresh_0 22 rfl rfl
theorem dksX4_fresh_2 : cX4_fresh.data.toList.drop 44 = dktX4_fresh_2 := dk_seg dksX4_fresh_1 22 rfl rfl
theorem dksX4_fresh_3 : cX4_fresh.data.toList.drop 68 = dktX4_fresh_3 := dk_seg dksX4_fresh_2 24 rfl rfl
theorem dX4_fresh_0 : decode cX4_fresh 0 = .ok (.aload_n 0, 1) := dk_42 (dk_at dksX4_fresh_0 0 rfl rfl)
theorem dX4_fresh_1 : decode cX4_fresh 1 = .ok (.aload_n 0, 1) := dk_42 (dk_at dksX4_fresh_0 1 rfl rfl)
theorem dX4_fresh_2 : decode cX4_fresh 2 = .ok (.invokevirtual 69, 3) := dk_182 0 69 (dk_at dksX4_fresh_0 2 rfl rfl)
theorem dX4_fresh_5 : decode cX4_fresh 5 = .ok (.iconst 1, 1) := dk_4 (dk_at dksX4_fresh_0 5 rfl rfl)
theorem dX4_fresh_6 : decode cX4_fresh 6 = .ok (.invokevirtual 38, 3) := dk_182 0 38 (dk_at dksX4_fresh_0 6 rfl rfl)
theorem dX4_fresh_9 : decode cX4_fresh 9 = .ok (.aload_n 0, 1) := dk_42 (dk_at dksX4_fresh_0 9 rfl rfl)
theorem dX4_fresh_10 : decode cX4_fresh 10 = .ok (.aload_n 0, 1) := dk_42 (dk_at dksX4_fresh_0 10 rfl rfl)
theorem dX4_fresh_11 : decode cX4_fresh 11 = .ok (.aload_n 0, 1) := dk_42 (dk_at dksX4_fresh_0 11 rfl rfl)
theorem dX4_fresh_12 : decode cX4_fresh 12 = .ok (.getfield 15, 3) := dk_180 0 15 (dk_at dksX4_fresh_0 12 rfl rfl)
theorem dX4_fresh_15 : decode cX4_fresh 15 = .ok (.getfield 73, 3) := dk_180 0 73 (dk_at dksX4_fresh_0 15 rfl rfl)
theorem dX4_fresh_18 : decode cX4_fresh 18 = .ok (.aload_n 0, 1) := dk_42 (dk_at dksX4_fresh_0 18 rfl rfl)
theorem dX4_fresh_19 : decode cX4_fresh 19 = .ok (.getfield 15, 3) := dk_180 0 15 (dk_at dksX4_fresh_0 19 rfl rfl)
theorem dX4_fresh_22 : decode cX4_fresh 22 = .ok (.getfield 42, 3) := dk_180 0 42 (dk_at dksX4_fresh_1 0 rfl rfl)
theorem dX4_fresh_25 : decode cX4_fresh 25 = .ok (.invokevirtual 77, 3) := dk_182 0 77 (dk_at dksX4_fresh_1 3 rfl rfl)
theorem dX4_fresh_28 : decode cX4_fresh 28 = .ok (.iconst (-1), 1) := dk_2 (dk_at dksX4_fresh_1 6 rfl rfl)
theorem dX4_fresh_29 : decode cX4_fresh 29 = .ok (.if_icmp .ne 29, 3) := dk_160 0 29 (dk_at dksX4_fresh_1 7 rfl rfl)
theorem dX4_fresh_32 : decode cX4_fresh 32 = .ok (.aload_n 0, 1) := dk_42 (dk_at dksX4_fresh_1 10 rfl rfl)
theorem dX4_fresh_33 : decode cX4_fresh 33 = .ok (.aload_n 0, 1) := dk_42 (dk_at dksX4_fresh_1 11 rfl rfl)
theorem dX4_fresh_34 : decode cX4_fresh 34 = .ok (.getfield 15, 3) := dk_180 0 15 (dk_at dksX4_fresh_1 12 rfl rfl)
theorem dX4_fresh_37 : decode cX4_fresh 37 = .ok (.getfield 81, 3) := dk_180 0 81 (dk_at dksX4_fresh_1 15 rfl rfl)
theorem dX4_fresh_40 : decode cX4_fresh 40 = .ok (.aload_n 0, 1) := dk_42 (dk_at dksX4_fresh_1 18 rfl rfl)
theorem dX4_fresh_41 : decode cX4_fresh 41 = .ok (.getfield 15, 3) := dk_180 0 15 (dk_at dksX4_fresh_1 19 rfl rfl)
theorem dX4_fresh_44 : decode cX4_fresh 44 = .ok (.getfield 50, 3) := dk_180 0 50 (dk_at dksX4_fresh_2 0 rfl rfl)
theorem dX4_fresh_47 : decode cX4_fresh 47 = .ok (.invokevirtual 77, 3) := dk_182 0 77 (dk_at dksX4_fresh_2 3 rfl rfl)
theorem dX4_fresh_50 : decode cX4_fresh 50 = .ok (.iconst (-1), 1) := dk_2 (dk_at dksX4_fresh_2 6 rfl rfl)
theorem dX4_fresh_51 : decode cX4_fresh 51 = .ok (.if_icmp .ne 7, 3) := dk_160 0 7 (dk_at dksX4_fresh_2 7 rfl rfl)
theorem dX4_fresh_54 : decode cX4_fresh 54 = .ok (.iconst 1, 1) := dk_4 (dk_at dksX4_fresh_2 10 rfl rfl)
theorem dX4_fresh_55 : decode cX4_fresh 55 = .ok (.goto 4, 3) := dk_167 0 4 (dk_at dksX4_fresh_2 11 rfl rfl)
theorem dX4_fresh_58 : decode cX4_fresh 58 = .ok (.iconst 0, 1) := dk_3 (dk_at dksX4_fresh_2 14 rfl rfl)
theorem dX4_fresh_59 : decode cX4_fresh 59 = .ok (.iconst 3, 1) := dk_6 (dk_at dksX4_fresh_2 15 rfl rfl)
theorem dX4_fresh_60 : decode cX4_fresh 60 = .ok (.invokevirtual 38, 3) := dk_182 0 38 (dk_at dksX4_fresh_2 16 rfl rfl)
theorem dX4_fresh_63 : decode cX4_fresh 63 = .ok (.aload_n 0, 1) := dk_42 (dk_at dksX4_fresh_2 19 rfl rfl)
theorem dX4_fresh_64 : decode cX4_fresh 64 = .ok (.getfield 85, 3) := dk_180 0 85 (dk_at dksX4_fresh_2 20 rfl rfl)
theorem dX4_fresh_67 : decode cX4_fresh 67 = .ok (.lstore_n 1, 1) := dk_64 (dk_at dksX4_fresh_2 23 rfl rfl)
theorem dX4_fresh_68 : decode cX4_fresh 68 = .ok (.aload_n 0, 1) := dk_42 (dk_at dksX4_fresh_3 0 rfl rfl)
theorem dX4_fresh_69 : decode cX4_fresh 69 = .ok (.invokevirtual 23, 3) := dk_182 0 23 (dk_at dksX4_fresh_3 1 rfl rfl)
theorem dX4_fresh_72 : decode cX4_fresh 72 = .ok (.lload_n 1, 1) := dk_31 (dk_at dksX4_fresh_3 4 rfl rfl)
theorem dX4_fresh_73 : decode cX4_fresh 73 = .ok (.lreturn, 1) := dk_173 (dk_at dksX4_fresh_3 5 rfl rfl)
abbrev cX4_word : ByteArray := prog_11_method_5_code
def yX4_word : MethodName := ⟨RX4, "word", "([Ljava/lang/String;)I"⟩
def dkwX4_word_1 : List UInt8 := [182, 0, 23, 28, 172]
abbrev dktX4_word_1 : List UInt8 := dkwX4_word_1 ++ []
def dkwX4_word_0 : List UInt8 := [42, 43, 182, 0, 34, 61, 42, 28, 2, 159, 0, 7, 4, 167, 0, 4, 3, 4, 182, 0, 38, 42]
abbrev dktX4_word_0 : List UInt8 := dkwX4_word_0 ++ dktX4_word_1
theorem dksX4_word_0 : cX4_word.data.toList.drop 0 = dktX4_word_0 := by decide +kernel
theorem dksX4_word_1 : cX4_word.data.toList.drop 22 = dktX4_word_1 := dk_seg dksX4_word_0 22 rfl rfl
theorem dX4_word_0 : decode cX4_word 0 = .ok (.aload_n 0, 1) := dk_42 (dk_at dksX4_word_0 0 rfl rfl)
theorem dX4_word_1 : decode cX4_word 1 = .ok (.aload_n 1, 1) := dk_43 (dk_at dksX4_word_0 1 rfl rfl)
theorem dX4_word_2 : decode cX4_word 2 = .ok (.invokevirtual 34, 3) := dk_182 0 34 (dk_at dksX4_word_0 2 rfl rfl)
theorem dX4_word_5 : decode cX4_word 5 = .ok (.istore_n 2, 1) := dk_61 (dk_at dksX4_word_0 5 rfl rfl)
theorem dX4_word_6 : decode cX4_word 6 = .ok (.aload_n 0, 1) := dk_42 (dk_at dksX4_word_0 6 rfl rfl)
theorem dX4_word_7 : decode cX4_word 7 = .ok (.iload_n 2, 1) := dk_28 (dk_at dksX4_word_0 7 rfl rfl)
theorem dX4_word_8 : decode cX4_word 8 = .ok (.iconst (-1), 1) := dk_2 (dk_at dksX4_word_0 8 rfl rfl)
theorem dX4_word_9 : decode cX4_word 9 = .ok (.if_icmp .eq 7, 3) := dk_159 0 7 (dk_at dksX4_word_0 9 rfl rfl)
theorem dX4_word_12 : decode cX4_word 12 = .ok (.iconst 1, 1) := dk_4 (dk_at dksX4_word_0 12 rfl rfl)
theorem dX4_word_13 : decode cX4_word 13 = .ok (.goto 4, 3) := dk_167 0 4 (dk_at dksX4_word_0 13 rfl rfl)
theorem dX4_word_16 : decode cX4_word 16 = .ok (.iconst 0, 1) := dk_3 (dk_at dksX4_word_0 16 rfl rfl)
theorem dX4_word_17 : decode cX4_word 17 = .ok (.iconst 1, 1) := dk_4 (dk_at dksX4_word_0 17 rfl rfl)
theorem dX4_word_18 : decode cX4_word 18 = .ok (.invokevirtual 38, 3) := dk_182 0 38 (dk_at dksX4_word_0 18 rfl rfl)
theorem dX4_word_21 : decode cX4_word 21 = .ok (.aload_n 0, 1) := dk_42 (dk_at dksX4_word_0 21 rfl rfl)
theorem dX4_word_22 : decode cX4_word 22 = .ok (.invokevirtual 23, 3) := dk_182 0 23 (dk_at dksX4_word_1 0 rfl rfl)
theorem dX4_word_25 : decode cX4_word 25 = .ok (.iload_n 2, 1) := dk_28 (dk_at dksX4_word_1 3 rfl rfl)
theorem dX4_word_26 : decode cX4_word 26 = .ok (.ireturn, 1) := dk_172 (dk_at dksX4_word_1 4 rfl rfl)
abbrev cX4_suits : ByteArray := prog_11_method_7_code
def yX4_suits : MethodName := ⟨RX4, "suits", "()V"⟩
def dkwX4_suits_2 : List UInt8 := [180, 0, 107, 4, 28, 120, 128, 181, 0, 107, 42, 180, 0, 15, 89, 180, 0, 47, 4, 96, 181, 0, 47, 177]
abbrev dktX4_suits_2 : List UInt8 := dkwX4_suits_2 ++ []
def dkwX4_suits_1 : List UInt8 := [180, 0, 73, 42, 180, 0, 15, 180, 0, 42, 182, 0, 104, 61, 42, 180, 0, 15, 180, 0, 73, 27, 50, 89]
abbrev dktX4_suits_1 : List UInt8 := dkwX4_suits_1 ++ dktX4_suits_2
def dkwX4_suits_0 : List UInt8 := [42, 42, 180, 0, 15, 180, 0, 73, 42, 180, 0, 15, 180, 0, 42, 182, 0, 104, 60, 42, 42, 180, 0, 15]
abbrev dktX4_suits_0 : List UInt8 := dkwX4_suits_0 ++ dktX4_suits_1
theorem dksX4_suits_0 : cX4_suits.data.toList.drop 0 = dktX4_suits_0 := by decide +kernel
theorem dksX4_suits_1 : cX4_suits.data.toList.drop 24 = dktX4_suits_1 := dk_seg dksX4_suits_0 24 rfl rfl
theorem dksX4_suits_2 : cX4_suits.data.toList.drop 48 = dktX4_suits_2 := dk_seg dksX4_suits_1 24 rfl rfl
theorem dX4_suits_0 : decode cX4_suits 0 = .ok (.aload_n 0, 1) := dk_42 (dk_at dksX4_suits_0 0 rfl rfl)
theorem dX4_suits_1 : decode cX4_suits 1 = .ok (.aload_n 0, 1) := dk_42 (dk_at dksX4_suits_0 1 rfl rfl)
theorem dX4_suits_2 : decode cX4_suits 2 = .ok (.getfield 15, 3) := dk_180 0 15 (dk_at dksX4_suits_0 2 rfl rfl)
theorem dX4_suits_5 : decode cX4_suits 5 = .ok (.getfield 73, 3) := dk_180 0 73 (dk_at dksX4_suits_0 5 rfl rfl)
theorem dX4_suits_8 : decode cX4_suits 8 = .ok (.aload_n 0, 1) := dk_42 (dk_at dksX4_suits_0 8 rfl rfl)
theorem dX4_suits_9 : decode cX4_suits 9 = .ok (.getfield 15, 3) := dk_180 0 15 (dk_at dksX4_suits_0 9 rfl rfl)
theorem dX4_suits_12 : decode cX4_suits 12 = .ok (.getfield 42, 3) := dk_180 0 42 (dk_at dksX4_suits_0 12 rfl rfl)
theorem dX4_suits_15 : decode cX4_suits 15 = .ok (.invokevirtual 104, 3) := dk_182 0 104 (dk_at dksX4_suits_0 15 rfl rfl)
theorem dX4_suits_18 : decode cX4_suits 18 = .ok (.istore_n 1, 1) := dk_60 (dk_at dksX4_suits_0 18 rfl rfl)
theorem dX4_suits_19 : decode cX4_suits 19 = .ok (.aload_n 0, 1) := dk_42 (dk_at dksX4_suits_0 19 rfl rfl)
theorem dX4_suits_20 : decode cX4_suits 20 = .ok (.aload_n 0, 1) := dk_42 (dk_at dksX4_suits_0 20 rfl rfl)
theorem dX4_suits_21 : decode cX4_suits 21 = .ok (.getfield 15, 3) := dk_180 0 15 (dk_at dksX4_suits_0 21 rfl rfl)
theorem dX4_suits_24 : decode cX4_suits 24 = .ok (.getfield 73, 3) := dk_180 0 73 (dk_at dksX4_suits_1 0 rfl rfl)
theorem dX4_suits_27 : decode cX4_suits 27 = .ok (.aload_n 0, 1) := dk_42 (dk_at dksX4_suits_1 3 rfl rfl)
theorem dX4_suits_28 : decode cX4_suits 28 = .ok (.getfield 15, 3) := dk_180 0 15 (dk_at dksX4_suits_1 4 rfl rfl)
theorem dX4_suits_31 : decode cX4_suits 31 = .ok (.getfield 42, 3) := dk_180 0 42 (dk_at dksX4_suits_1 7 rfl rfl)
theorem dX4_suits_34 : decode cX4_suits 34 = .ok (.invokevirtual 104, 3) := dk_182 0 104 (dk_at dksX4_suits_1 10 rfl rfl)
theorem dX4_suits_37 : decode cX4_suits 37 = .ok (.istore_n 2, 1) := dk_61 (dk_at dksX4_suits_1 13 rfl rfl)
theorem dX4_suits_38 : decode cX4_suits 38 = .ok (.aload_n 0, 1) := dk_42 (dk_at dksX4_suits_1 14 rfl rfl)
theorem dX4_suits_39 : decode cX4_suits 39 = .ok (.getfield 15, 3) := dk_180 0 15 (dk_at dksX4_suits_1 15 rfl rfl)
theorem dX4_suits_42 : decode cX4_suits 42 = .ok (.getfield 73, 3) := dk_180 0 73 (dk_at dksX4_suits_1 18 rfl rfl)
theorem dX4_suits_45 : decode cX4_suits 45 = .ok (.iload_n 1, 1) := dk_27 (dk_at dksX4_suits_1 21 rfl rfl)
theorem dX4_suits_46 : decode cX4_suits 46 = .ok (.aaload, 1) := dk_50 (dk_at dksX4_suits_1 22 rfl rfl)
theorem dX4_suits_47 : decode cX4_suits 47 = .ok (.dup, 1) := dk_89 (dk_at dksX4_suits_1 23 rfl rfl)
theorem dX4_suits_48 : decode cX4_suits 48 = .ok (.getfield 107, 3) := dk_180 0 107 (dk_at dksX4_suits_2 0 rfl rfl)
theorem dX4_suits_51 : decode cX4_suits 51 = .ok (.iconst 1, 1) := dk_4 (dk_at dksX4_suits_2 3 rfl rfl)
theorem dX4_suits_52 : decode cX4_suits 52 = .ok (.iload_n 2, 1) := dk_28 (dk_at dksX4_suits_2 4 rfl rfl)
theorem dX4_suits_53 : decode cX4_suits 53 = .ok (.ishl, 1) := dk_120 (dk_at dksX4_suits_2 5 rfl rfl)
theorem dX4_suits_54 : decode cX4_suits 54 = .ok (.ior, 1) := dk_128 (dk_at dksX4_suits_2 6 rfl rfl)
theorem dX4_suits_55 : decode cX4_suits 55 = .ok (.putfield 107, 3) := dk_181 0 107 (dk_at dksX4_suits_2 7 rfl rfl)
theorem dX4_suits_58 : decode cX4_suits 58 = .ok (.aload_n 0, 1) := dk_42 (dk_at dksX4_suits_2 10 rfl rfl)
theorem dX4_suits_59 : decode cX4_suits 59 = .ok (.getfield 15, 3) := dk_180 0 15 (dk_at dksX4_suits_2 11 rfl rfl)
theorem dX4_suits_62 : decode cX4_suits 62 = .ok (.dup, 1) := dk_89 (dk_at dksX4_suits_2 14 rfl rfl)
theorem dX4_suits_63 : decode cX4_suits 63 = .ok (.getfield 47, 3) := dk_180 0 47 (dk_at dksX4_suits_2 15 rfl rfl)
theorem dX4_suits_66 : decode cX4_suits 66 = .ok (.iconst 1, 1) := dk_4 (dk_at dksX4_suits_2 18 rfl rfl)
theorem dX4_suits_67 : decode cX4_suits 67 = .ok (.iadd, 1) := dk_96 (dk_at dksX4_suits_2 19 rfl rfl)
theorem dX4_suits_68 : decode cX4_suits 68 = .ok (.putfield 47, 3) := dk_181 0 47 (dk_at dksX4_suits_2 20 rfl rfl)
theorem dX4_suits_71 : decode cX4_suits 71 = .ok (.return_, 1) := dk_177 (dk_at dksX4_suits_2 23 rfl rfl)
abbrev cX4_known : ByteArray := prog_11_method_4_code
def yX4_known : MethodName := ⟨RX4, "known", "([LTwoHalves$Named;I)I"⟩
def dkwX4_known_1 : List UInt8 := [167, 0, 4, 3, 6, 182, 0, 38, 42, 182, 0, 23, 29, 172]
abbrev dktX4_known_1 : List UInt8 := dkwX4_known_1 ++ []
def dkwX4_known_0 : List UInt8 := [42, 42, 182, 0, 69, 4, 182, 0, 38, 42, 43, 28, 182, 0, 77, 62, 42, 29, 2, 159, 0, 7, 4]
abbrev dktX4_known_0 : List UInt8 := dkwX4_known_0 ++ dktX4_known_1
theorem dksX4_known_0 : cX4_known.data.toList.drop 0 = dktX4_known_0 := by decide +kernel
theorem dksX4_known_1 : cX4_known.data.toList.drop 23 = dktX4_known_1 := dk_seg dksX4_known_0 23 rfl rfl
theorem dX4_known_0 : decode cX4_known 0 = .ok (.aload_n 0, 1) := dk_42 (dk_at dksX4_known_0 0 rfl rfl)
theorem dX4_known_1 : decode cX4_known 1 = .ok (.aload_n 0, 1) := dk_42 (dk_at dksX4_known_0 1 rfl rfl)
theorem dX4_known_2 : decode cX4_known 2 = .ok (.invokevirtual 69, 3) := dk_182 0 69 (dk_at dksX4_known_0 2 rfl rfl)
theorem dX4_known_5 : decode cX4_known 5 = .ok (.iconst 1, 1) := dk_4 (dk_at dksX4_known_0 5 rfl rfl)
theorem dX4_known_6 : decode cX4_known 6 = .ok (.invokevirtual 38, 3) := dk_182 0 38 (dk_at dksX4_known_0 6 rfl rfl)
theorem dX4_known_9 : decode cX4_known 9 = .ok (.aload_n 0, 1) := dk_42 (dk_at dksX4_known_0 9 rfl rfl)
theorem dX4_known_10 : decode cX4_known 10 = .ok (.aload_n 1, 1) := dk_43 (dk_at dksX4_known_0 10 rfl rfl)
theorem dX4_known_11 : decode cX4_known 11 = .ok (.iload_n 2, 1) := dk_28 (dk_at dksX4_known_0 11 rfl rfl)
theorem dX4_known_12 : decode cX4_known 12 = .ok (.invokevirtual 77, 3) := dk_182 0 77 (dk_at dksX4_known_0 12 rfl rfl)
theorem dX4_known_15 : decode cX4_known 15 = .ok (.istore_n 3, 1) := dk_62 (dk_at dksX4_known_0 15 rfl rfl)
theorem dX4_known_16 : decode cX4_known 16 = .ok (.aload_n 0, 1) := dk_42 (dk_at dksX4_known_0 16 rfl rfl)
theorem dX4_known_17 : decode cX4_known 17 = .ok (.iload_n 3, 1) := dk_29 (dk_at dksX4_known_0 17 rfl rfl)
theorem dX4_known_18 : decode cX4_known 18 = .ok (.iconst (-1), 1) := dk_2 (dk_at dksX4_known_0 18 rfl rfl)
theorem dX4_known_19 : decode cX4_known 19 = .ok (.if_icmp .eq 7, 3) := dk_159 0 7 (dk_at dksX4_known_0 19 rfl rfl)
theorem dX4_known_22 : decode cX4_known 22 = .ok (.iconst 1, 1) := dk_4 (dk_at dksX4_known_0 22 rfl rfl)
theorem dX4_known_23 : decode cX4_known 23 = .ok (.goto 4, 3) := dk_167 0 4 (dk_at dksX4_known_1 0 rfl rfl)
theorem dX4_known_26 : decode cX4_known 26 = .ok (.iconst 0, 1) := dk_3 (dk_at dksX4_known_1 3 rfl rfl)
theorem dX4_known_27 : decode cX4_known 27 = .ok (.iconst 3, 1) := dk_6 (dk_at dksX4_known_1 4 rfl rfl)
theorem dX4_known_28 : decode cX4_known 28 = .ok (.invokevirtual 38, 3) := dk_182 0 38 (dk_at dksX4_known_1 5 rfl rfl)
theorem dX4_known_31 : decode cX4_known 31 = .ok (.aload_n 0, 1) := dk_42 (dk_at dksX4_known_1 8 rfl rfl)
theorem dX4_known_32 : decode cX4_known 32 = .ok (.invokevirtual 23, 3) := dk_182 0 23 (dk_at dksX4_known_1 9 rfl rfl)
theorem dX4_known_35 : decode cX4_known 35 = .ok (.iload_n 3, 1) := dk_29 (dk_at dksX4_known_1 12 rfl rfl)
theorem dX4_known_36 : decode cX4_known 36 = .ok (.ireturn, 1) := dk_172 (dk_at dksX4_known_1 13 rfl rfl)
abbrev cX4_says : ByteArray := prog_11_method_9_code
def yX4_says : MethodName := ⟨RX4, "says", "()V"⟩
def dkwX4_says_1 : List UInt8 := [180, 0, 15, 180, 0, 112, 27, 46, 184, 0, 115, 182, 0, 121, 79, 177]
abbrev dktX4_says_1 : List UInt8 := dkwX4_says_1 ++ []
def dkwX4_says_0 : List UInt8 := [42, 42, 180, 0, 3, 180, 0, 109, 182, 0, 98, 60, 42, 180, 0, 15, 180, 0, 112, 27, 42, 3, 42]
abbrev dktX4_says_0 : List UInt8 := dkwX4_says_0 ++ dktX4_says_1
theorem dksX4_says_0 : cX4_says.data.toList.drop 0 = dktX4_says_0 := by decide +kernel
theorem dksX4_says_1 : cX4_says.data.toList.drop 23 = dktX4_says_1 := dk_seg dksX4_says_0 23 rfl rfl
theorem dX4_says_0 : decode cX4_says 0 = .ok (.aload_n 0, 1) := dk_42 (dk_at dksX4_says_0 0 rfl rfl)
theorem dX4_says_1 : decode cX4_says 1 = .ok (.aload_n 0, 1) := dk_42 (dk_at dksX4_says_0 1 rfl rfl)
theorem dX4_says_2 : decode cX4_says 2 = .ok (.getfield 3, 3) := dk_180 0 3 (dk_at dksX4_says_0 2 rfl rfl)
theorem dX4_says_5 : decode cX4_says 5 = .ok (.getfield 109, 3) := dk_180 0 109 (dk_at dksX4_says_0 5 rfl rfl)
theorem dX4_says_8 : decode cX4_says 8 = .ok (.invokevirtual 98, 3) := dk_182 0 98 (dk_at dksX4_says_0 8 rfl rfl)
theorem dX4_says_11 : decode cX4_says 11 = .ok (.istore_n 1, 1) := dk_60 (dk_at dksX4_says_0 11 rfl rfl)
theorem dX4_says_12 : decode cX4_says 12 = .ok (.aload_n 0, 1) := dk_42 (dk_at dksX4_says_0 12 rfl rfl)
theorem dX4_says_13 : decode cX4_says 13 = .ok (.getfield 15, 3) := dk_180 0 15 (dk_at dksX4_says_0 13 rfl rfl)
theorem dX4_says_16 : decode cX4_says 16 = .ok (.getfield 112, 3) := dk_180 0 112 (dk_at dksX4_says_0 16 rfl rfl)
theorem dX4_says_19 : decode cX4_says 19 = .ok (.iload_n 1, 1) := dk_27 (dk_at dksX4_says_0 19 rfl rfl)
theorem dX4_says_20 : decode cX4_says 20 = .ok (.aload_n 0, 1) := dk_42 (dk_at dksX4_says_0 20 rfl rfl)
theorem dX4_says_21 : decode cX4_says 21 = .ok (.iconst 0, 1) := dk_3 (dk_at dksX4_says_0 21 rfl rfl)
theorem dX4_says_22 : decode cX4_says 22 = .ok (.aload_n 0, 1) := dk_42 (dk_at dksX4_says_0 22 rfl rfl)
theorem dX4_says_23 : decode cX4_says 23 = .ok (.getfield 15, 3) := dk_180 0 15 (dk_at dksX4_says_1 0 rfl rfl)
theorem dX4_says_26 : decode cX4_says 26 = .ok (.getfield 112, 3) := dk_180 0 112 (dk_at dksX4_says_1 3 rfl rfl)
theorem dX4_says_29 : decode cX4_says 29 = .ok (.iload_n 1, 1) := dk_27 (dk_at dksX4_says_1 6 rfl rfl)
theorem dX4_says_30 : decode cX4_says 30 = .ok (.iaload, 1) := dk_46 (dk_at dksX4_says_1 7 rfl rfl)
theorem dX4_says_31 : decode cX4_says 31 = .ok (.invokestatic 115, 3) := dk_184 0 115 (dk_at dksX4_says_1 8 rfl rfl)
theorem dX4_says_34 : decode cX4_says 34 = .ok (.invokevirtual 121, 3) := dk_182 0 121 (dk_at dksX4_says_1 11 rfl rfl)
theorem dX4_says_37 : decode cX4_says 37 = .ok (.iastore, 1) := dk_79 (dk_at dksX4_says_1 14 rfl rfl)
theorem dX4_says_38 : decode cX4_says 38 = .ok (.return_, 1) := dk_177 (dk_at dksX4_says_1 15 rfl rfl)
abbrev cX4_kinds : ByteArray := prog_11_method_8_code
def yX4_kinds : MethodName := ⟨RX4, "kinds", "(I)I"⟩
def dkwX4_kinds_3 : List UInt8 := [182, 0, 38, 28, 4, 29, 120, 128, 61, 42, 182, 0, 23, 167, 255, 201, 28, 172]
abbrev dktX4_kinds_3 : List UInt8 := dkwX4_kinds_3 ++ []
def dkwX4_kinds_2 : List UInt8 := [180, 0, 95, 182, 0, 34, 62, 42, 28, 29, 122, 4, 126, 154, 0, 7, 4, 167, 0, 4, 3, 6]
abbrev dktX4_kinds_2 : List UInt8 := dkwX4_kinds_2 ++ dktX4_kinds_3
def dkwX4_kinds_1 : List UInt8 := [182, 0, 38, 42, 42, 180, 0, 3, 180, 0, 95, 182, 0, 34, 2, 159, 0, 46, 42, 42, 180, 0, 3]
abbrev dktX4_kinds_1 : List UInt8 := dkwX4_kinds_1 ++ dktX4_kinds_2
def dkwX4_kinds_0 : List UInt8 := [27, 61, 42, 42, 42, 180, 0, 3, 180, 0, 95, 182, 0, 34, 2, 159, 0, 7, 4, 167, 0, 4, 3, 4]
abbrev dktX4_kinds_0 : List UInt8 := dkwX4_kinds_0 ++ dktX4_kinds_1
theorem dksX4_kinds_0 : cX4_kinds.data.toList.drop 0 = dktX4_kinds_0 := by decide +kernel
theorem dksX4_kinds_1 : cX4_kinds.data.toList.drop 24 = dktX4_kinds_1 := dk_seg dksX4_kinds_0 24 rfl rfl
theorem dksX4_kinds_2 : cX4_kinds.data.toList.drop 47 = dktX4_kinds_2 := dk_seg dksX4_kinds_1 23 rfl rfl
theorem dksX4_kinds_3 : cX4_kinds.data.toList.drop 69 = dktX4_kinds_3 := dk_seg dksX4_kinds_2 22 rfl rfl
theorem dX4_kinds_0 : decode cX4_kinds 0 = .ok (.iload_n 1, 1) := dk_27 (dk_at dksX4_kinds_0 0 rfl rfl)
theorem dX4_kinds_1 : decode cX4_kinds 1 = .ok (.istore_n 2, 1) := dk_61 (dk_at dksX4_kinds_0 1 rfl rfl)
theorem dX4_kinds_2 : decode cX4_kinds 2 = .ok (.aload_n 0, 1) := dk_42 (dk_at dksX4_kinds_0 2 rfl rfl)
theorem dX4_kinds_3 : decode cX4_kinds 3 = .ok (.aload_n 0, 1) := dk_42 (dk_at dksX4_kinds_0 3 rfl rfl)
theorem dX4_kinds_4 : decode cX4_kinds 4 = .ok (.aload_n 0, 1) := dk_42 (dk_at dksX4_kinds_0 4 rfl rfl)
theorem dX4_kinds_5 : decode cX4_kinds 5 = .ok (.getfield 3, 3) := dk_180 0 3 (dk_at dksX4_kinds_0 5 rfl rfl)
theorem dX4_kinds_8 : decode cX4_kinds 8 = .ok (.getfield 95, 3) := dk_180 0 95 (dk_at dksX4_kinds_0 8 rfl rfl)
theorem dX4_kinds_11 : decode cX4_kinds 11 = .ok (.invokevirtual 34, 3) := dk_182 0 34 (dk_at dksX4_kinds_0 11 rfl rfl)
theorem dX4_kinds_14 : decode cX4_kinds 14 = .ok (.iconst (-1), 1) := dk_2 (dk_at dksX4_kinds_0 14 rfl rfl)
theorem dX4_kinds_15 : decode cX4_kinds 15 = .ok (.if_icmp .eq 7, 3) := dk_159 0 7 (dk_at dksX4_kinds_0 15 rfl rfl)
theorem dX4_kinds_18 : decode cX4_kinds 18 = .ok (.iconst 1, 1) := dk_4 (dk_at dksX4_kinds_0 18 rfl rfl)
theorem dX4_kinds_19 : decode cX4_kinds 19 = .ok (.goto 4, 3) := dk_167 0 4 (dk_at dksX4_kinds_0 19 rfl rfl)
theorem dX4_kinds_22 : decode cX4_kinds 22 = .ok (.iconst 0, 1) := dk_3 (dk_at dksX4_kinds_0 22 rfl rfl)
theorem dX4_kinds_23 : decode cX4_kinds 23 = .ok (.iconst 1, 1) := dk_4 (dk_at dksX4_kinds_0 23 rfl rfl)
theorem dX4_kinds_24 : decode cX4_kinds 24 = .ok (.invokevirtual 38, 3) := dk_182 0 38 (dk_at dksX4_kinds_1 0 rfl rfl)
theorem dX4_kinds_27 : decode cX4_kinds 27 = .ok (.aload_n 0, 1) := dk_42 (dk_at dksX4_kinds_1 3 rfl rfl)
theorem dX4_kinds_28 : decode cX4_kinds 28 = .ok (.aload_n 0, 1) := dk_42 (dk_at dksX4_kinds_1 4 rfl rfl)
theorem dX4_kinds_29 : decode cX4_kinds 29 = .ok (.getfield 3, 3) := dk_180 0 3 (dk_at dksX4_kinds_1 5 rfl rfl)
theorem dX4_kinds_32 : decode cX4_kinds 32 = .ok (.getfield 95, 3) := dk_180 0 95 (dk_at dksX4_kinds_1 8 rfl rfl)
theorem dX4_kinds_35 : decode cX4_kinds 35 = .ok (.invokevirtual 34, 3) := dk_182 0 34 (dk_at dksX4_kinds_1 11 rfl rfl)
theorem dX4_kinds_38 : decode cX4_kinds 38 = .ok (.iconst (-1), 1) := dk_2 (dk_at dksX4_kinds_1 14 rfl rfl)
theorem dX4_kinds_39 : decode cX4_kinds 39 = .ok (.if_icmp .eq 46, 3) := dk_159 0 46 (dk_at dksX4_kinds_1 15 rfl rfl)
theorem dX4_kinds_42 : decode cX4_kinds 42 = .ok (.aload_n 0, 1) := dk_42 (dk_at dksX4_kinds_1 18 rfl rfl)
theorem dX4_kinds_43 : decode cX4_kinds 43 = .ok (.aload_n 0, 1) := dk_42 (dk_at dksX4_kinds_1 19 rfl rfl)
theorem dX4_kinds_44 : decode cX4_kinds 44 = .ok (.getfield 3, 3) := dk_180 0 3 (dk_at dksX4_kinds_1 20 rfl rfl)
theorem dX4_kinds_47 : decode cX4_kinds 47 = .ok (.getfield 95, 3) := dk_180 0 95 (dk_at dksX4_kinds_2 0 rfl rfl)
theorem dX4_kinds_50 : decode cX4_kinds 50 = .ok (.invokevirtual 34, 3) := dk_182 0 34 (dk_at dksX4_kinds_2 3 rfl rfl)
theorem dX4_kinds_53 : decode cX4_kinds 53 = .ok (.istore_n 3, 1) := dk_62 (dk_at dksX4_kinds_2 6 rfl rfl)
theorem dX4_kinds_54 : decode cX4_kinds 54 = .ok (.aload_n 0, 1) := dk_42 (dk_at dksX4_kinds_2 7 rfl rfl)
theorem dX4_kinds_55 : decode cX4_kinds 55 = .ok (.iload_n 2, 1) := dk_28 (dk_at dksX4_kinds_2 8 rfl rfl)
theorem dX4_kinds_56 : decode cX4_kinds 56 = .ok (.iload_n 3, 1) := dk_29 (dk_at dksX4_kinds_2 9 rfl rfl)
theorem dX4_kinds_57 : decode cX4_kinds 57 = .ok (.ishr, 1) := dk_122 (dk_at dksX4_kinds_2 10 rfl rfl)
theorem dX4_kinds_58 : decode cX4_kinds 58 = .ok (.iconst 1, 1) := dk_4 (dk_at dksX4_kinds_2 11 rfl rfl)
theorem dX4_kinds_59 : decode cX4_kinds 59 = .ok (.iand, 1) := dk_126 (dk_at dksX4_kinds_2 12 rfl rfl)
theorem dX4_kinds_60 : decode cX4_kinds 60 = .ok (.ifCond .ne 7, 3) := dk_154 0 7 (dk_at dksX4_kinds_2 13 rfl rfl)
theorem dX4_kinds_63 : decode cX4_kinds 63 = .ok (.iconst 1, 1) := dk_4 (dk_at dksX4_kinds_2 16 rfl rfl)
theorem dX4_kinds_64 : decode cX4_kinds 64 = .ok (.goto 4, 3) := dk_167 0 4 (dk_at dksX4_kinds_2 17 rfl rfl)
theorem dX4_kinds_67 : decode cX4_kinds 67 = .ok (.iconst 0, 1) := dk_3 (dk_at dksX4_kinds_2 20 rfl rfl)
theorem dX4_kinds_68 : decode cX4_kinds 68 = .ok (.iconst 3, 1) := dk_6 (dk_at dksX4_kinds_2 21 rfl rfl)
theorem dX4_kinds_69 : decode cX4_kinds 69 = .ok (.invokevirtual 38, 3) := dk_182 0 38 (dk_at dksX4_kinds_3 0 rfl rfl)
theorem dX4_kinds_72 : decode cX4_kinds 72 = .ok (.iload_n 2, 1) := dk_28 (dk_at dksX4_kinds_3 3 rfl rfl)
theorem dX4_kinds_73 : decode cX4_kinds 73 = .ok (.iconst 1, 1) := dk_4 (dk_at dksX4_kinds_3 4 rfl rfl)
theorem dX4_kinds_74 : decode cX4_kinds 74 = .ok (.iload_n 3, 1) := dk_29 (dk_at dksX4_kinds_3 5 rfl rfl)
theorem dX4_kinds_75 : decode cX4_kinds 75 = .ok (.ishl, 1) := dk_120 (dk_at dksX4_kinds_3 6 rfl rfl)
theorem dX4_kinds_76 : decode cX4_kinds 76 = .ok (.ior, 1) := dk_128 (dk_at dksX4_kinds_3 7 rfl rfl)
theorem dX4_kinds_77 : decode cX4_kinds 77 = .ok (.istore_n 2, 1) := dk_61 (dk_at dksX4_kinds_3 8 rfl rfl)
theorem dX4_kinds_78 : decode cX4_kinds 78 = .ok (.aload_n 0, 1) := dk_42 (dk_at dksX4_kinds_3 9 rfl rfl)
theorem dX4_kinds_79 : decode cX4_kinds 79 = .ok (.invokevirtual 23, 3) := dk_182 0 23 (dk_at dksX4_kinds_3 10 rfl rfl)
theorem dX4_kinds_82 : decode cX4_kinds 82 = .ok (.goto (-55), 3) := dk_167 255 201 (dk_at dksX4_kinds_3 13 rfl rfl)
theorem dX4_kinds_85 : decode cX4_kinds 85 = .ok (.iload_n 2, 1) := dk_28 (dk_at dksX4_kinds_3 16 rfl rfl)
theorem dX4_kinds_86 : decode cX4_kinds 86 = .ok (.ireturn, 1) := dk_172 (dk_at dksX4_kinds_3 17 rfl rfl)
abbrev cX4_way : ByteArray := prog_11_method_10_code
def yX4_way : MethodName := ⟨RX4, "way", "()V"⟩
def dkwX4_way_9 : List UInt8 := [181, 0, 50, 177]
abbrev dktX4_way_9 : List UInt8 := dkwX4_way_9 ++ []
def dkwX4_way_8 : List UInt8 := [180, 0, 81, 42, 180, 0, 15, 180, 0, 50, 43, 83, 42, 180, 0, 15, 89, 180, 0, 50, 4, 96]
abbrev dktX4_way_8 : List UInt8 := dkwX4_way_8 ++ dktX4_way_9
def dkwX4_way_7 : List UInt8 := [4, 28, 120, 128, 181, 0, 155, 42, 182, 0, 23, 167, 255, 179, 42, 43, 182, 0, 157, 42, 180, 0, 15]
abbrev dktX4_way_7 : List UInt8 := dkwX4_way_7 ++ dktX4_way_8
def dkwX4_way_6 : List UInt8 := [180, 0, 155, 28, 122, 4, 126, 154, 0, 7, 4, 167, 0, 4, 3, 6, 182, 0, 38, 43, 89, 180, 0, 155]
abbrev dktX4_way_6 : List UInt8 := dkwX4_way_6 ++ dktX4_way_7
def dkwX4_way_5 : List UInt8 := [180, 0, 152, 182, 0, 34, 61, 42, 28, 2, 159, 0, 7, 4, 167, 0, 4, 3, 4, 182, 0, 38, 42, 43]
abbrev dktX4_way_5 : List UInt8 := dkwX4_way_5 ++ dktX4_way_6
def dkwX4_way_4 : List UInt8 := [182, 0, 135, 181, 0, 148, 42, 18, 150, 182, 0, 131, 153, 0, 74, 42, 182, 0, 23, 42, 42, 180, 0, 3]
abbrev dktX4_way_4 : List UInt8 := dkwX4_way_4 ++ dktX4_way_5
def dkwX4_way_3 : List UInt8 := [42, 182, 0, 23, 42, 18, 146, 182, 0, 131, 153, 0, 18, 42, 182, 0, 23, 43, 42, 3, 16, 40]
abbrev dktX4_way_3 : List UInt8 := dkwX4_way_3 ++ dktX4_way_4
def dkwX4_way_2 : List UInt8 := [42, 3, 16, 20, 182, 0, 135, 181, 0, 138, 42, 18, 141, 182, 0, 131, 153, 0, 12, 43, 4, 181, 0, 143]
abbrev dktX4_way_2 : List UInt8 := dkwX4_way_2 ++ dktX4_way_3
def dkwX4_way_1 : List UInt8 := [42, 3, 182, 0, 121, 181, 0, 127, 42, 42, 18, 129, 182, 0, 131, 4, 182, 0, 38, 42, 182, 0, 23, 43]
abbrev dktX4_way_1 : List UInt8 := dkwX4_way_1 ++ dktX4_way_2
def dkwX4_way_0 : List UInt8 := [187, 0, 124, 89, 42, 182, 0, 89, 42, 42, 180, 0, 3, 180, 0, 109, 182, 0, 98, 183, 0, 126, 76, 43]
abbrev dktX4_way_0 : List UInt8 := dkwX4_way_0 ++ dktX4_way_1
theorem dksX4_way_0 : cX4_way.data.toList.drop 0 = dktX4_way_0 := by decide +kernel
theorem dksX4_way_1 : cX4_way.data.toList.drop 24 = dktX4_way_1 := dk_seg dksX4_way_0 24 rfl rfl
theorem dksX4_way_2 : cX4_way.data.toList.drop 48 = dktX4_way_2 := dk_seg dksX4_way_1 24 rfl rfl
theorem dksX4_way_3 : cX4_way.data.toList.drop 72 = dktX4_way_3 := dk_seg dksX4_way_2 24 rfl rfl
theorem dksX4_way_4 : cX4_way.data.toList.drop 94 = dktX4_way_4 := dk_seg dksX4_way_3 22 rfl rfl
theorem dksX4_way_5 : cX4_way.data.toList.drop 118 = dktX4_way_5 := dk_seg dksX4_way_4 24 rfl rfl
theorem dksX4_way_6 : cX4_way.data.toList.drop 142 = dktX4_way_6 := dk_seg dksX4_way_5 24 rfl rfl
theorem dksX4_way_7 : cX4_way.data.toList.drop 166 = dktX4_way_7 := dk_seg dksX4_way_6 24 rfl rfl
theorem dksX4_way_8 : cX4_way.data.toList.drop 189 = dktX4_way_8 := dk_seg dksX4_way_7 23 rfl rfl
theorem dksX4_way_9 : cX4_way.data.toList.drop 211 = dktX4_way_9 := dk_seg dksX4_way_8 22 rfl rfl
theorem dX4_way_0 : decode cX4_way 0 = .ok (.new 124, 3) := dk_187 0 124 (dk_at dksX4_way_0 0 rfl rfl)
theorem dX4_way_3 : decode cX4_way 3 = .ok (.dup, 1) := dk_89 (dk_at dksX4_way_0 3 rfl rfl)
theorem dX4_way_4 : decode cX4_way 4 = .ok (.aload_n 0, 1) := dk_42 (dk_at dksX4_way_0 4 rfl rfl)
theorem dX4_way_5 : decode cX4_way 5 = .ok (.invokevirtual 89, 3) := dk_182 0 89 (dk_at dksX4_way_0 5 rfl rfl)
theorem dX4_way_8 : decode cX4_way 8 = .ok (.aload_n 0, 1) := dk_42 (dk_at dksX4_way_0 8 rfl rfl)
theorem dX4_way_9 : decode cX4_way 9 = .ok (.aload_n 0, 1) := dk_42 (dk_at dksX4_way_0 9 rfl rfl)
theorem dX4_way_10 : decode cX4_way 10 = .ok (.getfield 3, 3) := dk_180 0 3 (dk_at dksX4_way_0 10 rfl rfl)
theorem dX4_way_13 : decode cX4_way 13 = .ok (.getfield 109, 3) := dk_180 0 109 (dk_at dksX4_way_0 13 rfl rfl)
theorem dX4_way_16 : decode cX4_way 16 = .ok (.invokevirtual 98, 3) := dk_182 0 98 (dk_at dksX4_way_0 16 rfl rfl)
theorem dX4_way_19 : decode cX4_way 19 = .ok (.invokespecial 126, 3) := dk_183 0 126 (dk_at dksX4_way_0 19 rfl rfl)
theorem dX4_way_22 : decode cX4_way 22 = .ok (.astore_n 1, 1) := dk_76 (dk_at dksX4_way_0 22 rfl rfl)
theorem dX4_way_23 : decode cX4_way 23 = .ok (.aload_n 1, 1) := dk_43 (dk_at dksX4_way_0 23 rfl rfl)
theorem dX4_way_24 : decode cX4_way 24 = .ok (.aload_n 0, 1) := dk_42 (dk_at dksX4_way_1 0 rfl rfl)
theorem dX4_way_25 : decode cX4_way 25 = .ok (.iconst 0, 1) := dk_3 (dk_at dksX4_way_1 1 rfl rfl)
theorem dX4_way_26 : decode cX4_way 26 = .ok (.invokevirtual 121, 3) := dk_182 0 121 (dk_at dksX4_way_1 2 rfl rfl)
theorem dX4_way_29 : decode cX4_way 29 = .ok (.putfield 127, 3) := dk_181 0 127 (dk_at dksX4_way_1 5 rfl rfl)
theorem dX4_way_32 : decode cX4_way 32 = .ok (.aload_n 0, 1) := dk_42 (dk_at dksX4_way_1 8 rfl rfl)
theorem dX4_way_33 : decode cX4_way 33 = .ok (.aload_n 0, 1) := dk_42 (dk_at dksX4_way_1 9 rfl rfl)
theorem dX4_way_34 : decode cX4_way 34 = .ok (.ldc 129, 2) := dk_18 129 (dk_at dksX4_way_1 10 rfl rfl)
theorem dX4_way_36 : decode cX4_way 36 = .ok (.invokevirtual 131, 3) := dk_182 0 131 (dk_at dksX4_way_1 12 rfl rfl)
theorem dX4_way_39 : decode cX4_way 39 = .ok (.iconst 1, 1) := dk_4 (dk_at dksX4_way_1 15 rfl rfl)
theorem dX4_way_40 : decode cX4_way 40 = .ok (.invokevirtual 38, 3) := dk_182 0 38 (dk_at dksX4_way_1 16 rfl rfl)
theorem dX4_way_43 : decode cX4_way 43 = .ok (.aload_n 0, 1) := dk_42 (dk_at dksX4_way_1 19 rfl rfl)
theorem dX4_way_44 : decode cX4_way 44 = .ok (.invokevirtual 23, 3) := dk_182 0 23 (dk_at dksX4_way_1 20 rfl rfl)
theorem dX4_way_47 : decode cX4_way 47 = .ok (.aload_n 1, 1) := dk_43 (dk_at dksX4_way_1 23 rfl rfl)
theorem dX4_way_48 : decode cX4_way 48 = .ok (.aload_n 0, 1) := dk_42 (dk_at dksX4_way_2 0 rfl rfl)
theorem dX4_way_49 : decode cX4_way 49 = .ok (.iconst 0, 1) := dk_3 (dk_at dksX4_way_2 1 rfl rfl)
theorem dX4_way_50 : decode cX4_way 50 = .ok (.bipush 20, 2) := dk_16 20 (dk_at dksX4_way_2 2 rfl rfl)
theorem dX4_way_52 : decode cX4_way 52 = .ok (.invokevirtual 135, 3) := dk_182 0 135 (dk_at dksX4_way_2 4 rfl rfl)
theorem dX4_way_55 : decode cX4_way 55 = .ok (.putfield 138, 3) := dk_181 0 138 (dk_at dksX4_way_2 7 rfl rfl)
theorem dX4_way_58 : decode cX4_way 58 = .ok (.aload_n 0, 1) := dk_42 (dk_at dksX4_way_2 10 rfl rfl)
theorem dX4_way_59 : decode cX4_way 59 = .ok (.ldc 141, 2) := dk_18 141 (dk_at dksX4_way_2 11 rfl rfl)
theorem dX4_way_61 : decode cX4_way 61 = .ok (.invokevirtual 131, 3) := dk_182 0 131 (dk_at dksX4_way_2 13 rfl rfl)
theorem dX4_way_64 : decode cX4_way 64 = .ok (.ifCond .eq 12, 3) := dk_153 0 12 (dk_at dksX4_way_2 16 rfl rfl)
theorem dX4_way_67 : decode cX4_way 67 = .ok (.aload_n 1, 1) := dk_43 (dk_at dksX4_way_2 19 rfl rfl)
theorem dX4_way_68 : decode cX4_way 68 = .ok (.iconst 1, 1) := dk_4 (dk_at dksX4_way_2 20 rfl rfl)
theorem dX4_way_69 : decode cX4_way 69 = .ok (.putfield 143, 3) := dk_181 0 143 (dk_at dksX4_way_2 21 rfl rfl)
theorem dX4_way_72 : decode cX4_way 72 = .ok (.aload_n 0, 1) := dk_42 (dk_at dksX4_way_3 0 rfl rfl)
theorem dX4_way_73 : decode cX4_way 73 = .ok (.invokevirtual 23, 3) := dk_182 0 23 (dk_at dksX4_way_3 1 rfl rfl)
theorem dX4_way_76 : decode cX4_way 76 = .ok (.aload_n 0, 1) := dk_42 (dk_at dksX4_way_3 4 rfl rfl)
theorem dX4_way_77 : decode cX4_way 77 = .ok (.ldc 146, 2) := dk_18 146 (dk_at dksX4_way_3 5 rfl rfl)
theorem dX4_way_79 : decode cX4_way 79 = .ok (.invokevirtual 131, 3) := dk_182 0 131 (dk_at dksX4_way_3 7 rfl rfl)
theorem dX4_way_82 : decode cX4_way 82 = .ok (.ifCond .eq 18, 3) := dk_153 0 18 (dk_at dksX4_way_3 10 rfl rfl)
theorem dX4_way_85 : decode cX4_way 85 = .ok (.aload_n 0, 1) := dk_42 (dk_at dksX4_way_3 13 rfl rfl)
theorem dX4_way_86 : decode cX4_way 86 = .ok (.invokevirtual 23, 3) := dk_182 0 23 (dk_at dksX4_way_3 14 rfl rfl)
theorem dX4_way_89 : decode cX4_way 89 = .ok (.aload_n 1, 1) := dk_43 (dk_at dksX4_way_3 17 rfl rfl)
theorem dX4_way_90 : decode cX4_way 90 = .ok (.aload_n 0, 1) := dk_42 (dk_at dksX4_way_3 18 rfl rfl)
theorem dX4_way_91 : decode cX4_way 91 = .ok (.iconst 0, 1) := dk_3 (dk_at dksX4_way_3 19 rfl rfl)
theorem dX4_way_92 : decode cX4_way 92 = .ok (.bipush 40, 2) := dk_16 40 (dk_at dksX4_way_3 20 rfl rfl)
theorem dX4_way_94 : decode cX4_way 94 = .ok (.invokevirtual 135, 3) := dk_182 0 135 (dk_at dksX4_way_4 0 rfl rfl)
theorem dX4_way_97 : decode cX4_way 97 = .ok (.putfield 148, 3) := dk_181 0 148 (dk_at dksX4_way_4 3 rfl rfl)
theorem dX4_way_100 : decode cX4_way 100 = .ok (.aload_n 0, 1) := dk_42 (dk_at dksX4_way_4 6 rfl rfl)
theorem dX4_way_101 : decode cX4_way 101 = .ok (.ldc 150, 2) := dk_18 150 (dk_at dksX4_way_4 7 rfl rfl)
theorem dX4_way_103 : decode cX4_way 103 = .ok (.invokevirtual 131, 3) := dk_182 0 131 (dk_at dksX4_way_4 9 rfl rfl)
theorem dX4_way_106 : decode cX4_way 106 = .ok (.ifCond .eq 74, 3) := dk_153 0 74 (dk_at dksX4_way_4 12 rfl rfl)
theorem dX4_way_109 : decode cX4_way 109 = .ok (.aload_n 0, 1) := dk_42 (dk_at dksX4_way_4 15 rfl rfl)
theorem dX4_way_110 : decode cX4_way 110 = .ok (.invokevirtual 23, 3) := dk_182 0 23 (dk_at dksX4_way_4 16 rfl rfl)
theorem dX4_way_113 : decode cX4_way 113 = .ok (.aload_n 0, 1) := dk_42 (dk_at dksX4_way_4 19 rfl rfl)
theorem dX4_way_114 : decode cX4_way 114 = .ok (.aload_n 0, 1) := dk_42 (dk_at dksX4_way_4 20 rfl rfl)
theorem dX4_way_115 : decode cX4_way 115 = .ok (.getfield 3, 3) := dk_180 0 3 (dk_at dksX4_way_4 21 rfl rfl)
theorem dX4_way_118 : decode cX4_way 118 = .ok (.getfield 152, 3) := dk_180 0 152 (dk_at dksX4_way_5 0 rfl rfl)
theorem dX4_way_121 : decode cX4_way 121 = .ok (.invokevirtual 34, 3) := dk_182 0 34 (dk_at dksX4_way_5 3 rfl rfl)
theorem dX4_way_124 : decode cX4_way 124 = .ok (.istore_n 2, 1) := dk_61 (dk_at dksX4_way_5 6 rfl rfl)
theorem dX4_way_125 : decode cX4_way 125 = .ok (.aload_n 0, 1) := dk_42 (dk_at dksX4_way_5 7 rfl rfl)
theorem dX4_way_126 : decode cX4_way 126 = .ok (.iload_n 2, 1) := dk_28 (dk_at dksX4_way_5 8 rfl rfl)
theorem dX4_way_127 : decode cX4_way 127 = .ok (.iconst (-1), 1) := dk_2 (dk_at dksX4_way_5 9 rfl rfl)
theorem dX4_way_128 : decode cX4_way 128 = .ok (.if_icmp .eq 7, 3) := dk_159 0 7 (dk_at dksX4_way_5 10 rfl rfl)
theorem dX4_way_131 : decode cX4_way 131 = .ok (.iconst 1, 1) := dk_4 (dk_at dksX4_way_5 13 rfl rfl)
theorem dX4_way_132 : decode cX4_way 132 = .ok (.goto 4, 3) := dk_167 0 4 (dk_at dksX4_way_5 14 rfl rfl)
theorem dX4_way_135 : decode cX4_way 135 = .ok (.iconst 0, 1) := dk_3 (dk_at dksX4_way_5 17 rfl rfl)
theorem dX4_way_136 : decode cX4_way 136 = .ok (.iconst 1, 1) := dk_4 (dk_at dksX4_way_5 18 rfl rfl)
theorem dX4_way_137 : decode cX4_way 137 = .ok (.invokevirtual 38, 3) := dk_182 0 38 (dk_at dksX4_way_5 19 rfl rfl)
theorem dX4_way_140 : decode cX4_way 140 = .ok (.aload_n 0, 1) := dk_42 (dk_at dksX4_way_5 22 rfl rfl)
theorem dX4_way_141 : decode cX4_way 141 = .ok (.aload_n 1, 1) := dk_43 (dk_at dksX4_way_5 23 rfl rfl)
theorem dX4_way_142 : decode cX4_way 142 = .ok (.getfield 155, 3) := dk_180 0 155 (dk_at dksX4_way_6 0 rfl rfl)
theorem dX4_way_145 : decode cX4_way 145 = .ok (.iload_n 2, 1) := dk_28 (dk_at dksX4_way_6 3 rfl rfl)
theorem dX4_way_146 : decode cX4_way 146 = .ok (.ishr, 1) := dk_122 (dk_at dksX4_way_6 4 rfl rfl)
theorem dX4_way_147 : decode cX4_way 147 = .ok (.iconst 1, 1) := dk_4 (dk_at dksX4_way_6 5 rfl rfl)
theorem dX4_way_148 : decode cX4_way 148 = .ok (.iand, 1) := dk_126 (dk_at dksX4_way_6 6 rfl rfl)
theorem dX4_way_149 : decode cX4_way 149 = .ok (.ifCond .ne 7, 3) := dk_154 0 7 (dk_at dksX4_way_6 7 rfl rfl)
theorem dX4_way_152 : decode cX4_way 152 = .ok (.iconst 1, 1) := dk_4 (dk_at dksX4_way_6 10 rfl rfl)
theorem dX4_way_153 : decode cX4_way 153 = .ok (.goto 4, 3) := dk_167 0 4 (dk_at dksX4_way_6 11 rfl rfl)
theorem dX4_way_156 : decode cX4_way 156 = .ok (.iconst 0, 1) := dk_3 (dk_at dksX4_way_6 14 rfl rfl)
theorem dX4_way_157 : decode cX4_way 157 = .ok (.iconst 3, 1) := dk_6 (dk_at dksX4_way_6 15 rfl rfl)
theorem dX4_way_158 : decode cX4_way 158 = .ok (.invokevirtual 38, 3) := dk_182 0 38 (dk_at dksX4_way_6 16 rfl rfl)
theorem dX4_way_161 : decode cX4_way 161 = .ok (.aload_n 1, 1) := dk_43 (dk_at dksX4_way_6 19 rfl rfl)
theorem dX4_way_162 : decode cX4_way 162 = .ok (.dup, 1) := dk_89 (dk_at dksX4_way_6 20 rfl rfl)
theorem dX4_way_163 : decode cX4_way 163 = .ok (.getfield 155, 3) := dk_180 0 155 (dk_at dksX4_way_6 21 rfl rfl)
theorem dX4_way_166 : decode cX4_way 166 = .ok (.iconst 1, 1) := dk_4 (dk_at dksX4_way_7 0 rfl rfl)
theorem dX4_way_167 : decode cX4_way 167 = .ok (.iload_n 2, 1) := dk_28 (dk_at dksX4_way_7 1 rfl rfl)
theorem dX4_way_168 : decode cX4_way 168 = .ok (.ishl, 1) := dk_120 (dk_at dksX4_way_7 2 rfl rfl)
theorem dX4_way_169 : decode cX4_way 169 = .ok (.ior, 1) := dk_128 (dk_at dksX4_way_7 3 rfl rfl)
theorem dX4_way_170 : decode cX4_way 170 = .ok (.putfield 155, 3) := dk_181 0 155 (dk_at dksX4_way_7 4 rfl rfl)
theorem dX4_way_173 : decode cX4_way 173 = .ok (.aload_n 0, 1) := dk_42 (dk_at dksX4_way_7 7 rfl rfl)
theorem dX4_way_174 : decode cX4_way 174 = .ok (.invokevirtual 23, 3) := dk_182 0 23 (dk_at dksX4_way_7 8 rfl rfl)
theorem dX4_way_177 : decode cX4_way 177 = .ok (.goto (-77), 3) := dk_167 255 179 (dk_at dksX4_way_7 11 rfl rfl)
theorem dX4_way_180 : decode cX4_way 180 = .ok (.aload_n 0, 1) := dk_42 (dk_at dksX4_way_7 14 rfl rfl)
theorem dX4_way_181 : decode cX4_way 181 = .ok (.aload_n 1, 1) := dk_43 (dk_at dksX4_way_7 15 rfl rfl)
theorem dX4_way_182 : decode cX4_way 182 = .ok (.invokevirtual 157, 3) := dk_182 0 157 (dk_at dksX4_way_7 16 rfl rfl)
theorem dX4_way_185 : decode cX4_way 185 = .ok (.aload_n 0, 1) := dk_42 (dk_at dksX4_way_7 19 rfl rfl)
theorem dX4_way_186 : decode cX4_way 186 = .ok (.getfield 15, 3) := dk_180 0 15 (dk_at dksX4_way_7 20 rfl rfl)
theorem dX4_way_189 : decode cX4_way 189 = .ok (.getfield 81, 3) := dk_180 0 81 (dk_at dksX4_way_8 0 rfl rfl)
theorem dX4_way_192 : decode cX4_way 192 = .ok (.aload_n 0, 1) := dk_42 (dk_at dksX4_way_8 3 rfl rfl)
theorem dX4_way_193 : decode cX4_way 193 = .ok (.getfield 15, 3) := dk_180 0 15 (dk_at dksX4_way_8 4 rfl rfl)
theorem dX4_way_196 : decode cX4_way 196 = .ok (.getfield 50, 3) := dk_180 0 50 (dk_at dksX4_way_8 7 rfl rfl)
theorem dX4_way_199 : decode cX4_way 199 = .ok (.aload_n 1, 1) := dk_43 (dk_at dksX4_way_8 10 rfl rfl)
theorem dX4_way_200 : decode cX4_way 200 = .ok (.aastore, 1) := dk_83 (dk_at dksX4_way_8 11 rfl rfl)
theorem dX4_way_201 : decode cX4_way 201 = .ok (.aload_n 0, 1) := dk_42 (dk_at dksX4_way_8 12 rfl rfl)
theorem dX4_way_202 : decode cX4_way 202 = .ok (.getfield 15, 3) := dk_180 0 15 (dk_at dksX4_way_8 13 rfl rfl)
theorem dX4_way_205 : decode cX4_way 205 = .ok (.dup, 1) := dk_89 (dk_at dksX4_way_8 16 rfl rfl)
theorem dX4_way_206 : decode cX4_way 206 = .ok (.getfield 50, 3) := dk_180 0 50 (dk_at dksX4_way_8 17 rfl rfl)
theorem dX4_way_209 : decode cX4_way 209 = .ok (.iconst 1, 1) := dk_4 (dk_at dksX4_way_8 20 rfl rfl)
theorem dX4_way_210 : decode cX4_way 210 = .ok (.iadd, 1) := dk_96 (dk_at dksX4_way_8 21 rfl rfl)
theorem dX4_way_211 : decode cX4_way 211 = .ok (.putfield 50, 3) := dk_181 0 50 (dk_at dksX4_way_9 0 rfl rfl)
theorem dX4_way_214 : decode cX4_way 214 = .ok (.return_, 1) := dk_177 (dk_at dksX4_way_9 3 rfl rfl)
abbrev cX4_state : ByteArray := prog_11_method_11_code
def yX4_state : MethodName := ⟨RX4, "state", "(LTwoHalves$Way;)V"⟩
def dkwX4_state_6 : List UInt8 := [96, 181, 0, 169, 43, 180, 0, 164, 6, 160, 0, 14, 43, 42, 4, 16, 19, 182, 0, 135, 181, 0, 172, 177]
abbrev dktX4_state_6 : List UInt8 := dkwX4_state_6 ++ []
def dkwX4_state_5 : List UInt8 := [181, 0, 166, 42, 180, 0, 15, 89, 180, 0, 169, 43, 180, 0, 164, 6, 160, 0, 7, 4, 167, 0, 4, 3]
abbrev dktX4_state_5 : List UInt8 := dkwX4_state_5 ++ dktX4_state_6
def dkwX4_state_4 : List UInt8 := [42, 180, 0, 15, 89, 180, 0, 166, 43, 180, 0, 164, 5, 160, 0, 7, 4, 167, 0, 4, 3, 96]
abbrev dktX4_state_4 : List UInt8 := dkwX4_state_4 ++ dktX4_state_5
def dkwX4_state_3 : List UInt8 := [42, 180, 0, 15, 180, 0, 169, 8, 162, 0, 7, 4, 167, 0, 4, 3, 7, 182, 0, 38, 42, 182, 0, 23]
abbrev dktX4_state_3 : List UInt8 := dkwX4_state_3 ++ dktX4_state_4
def dkwX4_state_2 : List UInt8 := [180, 0, 166, 16, 8, 162, 0, 7, 4, 167, 0, 31, 3, 167, 0, 27, 43, 180, 0, 164, 6, 160, 0, 14]
abbrev dktX4_state_2 : List UInt8 := dkwX4_state_2 ++ dktX4_state_3
def dkwX4_state_1 : List UInt8 := [4, 167, 0, 4, 3, 4, 182, 0, 38, 42, 43, 180, 0, 164, 5, 160, 0, 23, 42, 180, 0, 15]
abbrev dktX4_state_1 : List UInt8 := dkwX4_state_1 ++ dktX4_state_2
def dkwX4_state_0 : List UInt8 := [43, 42, 42, 180, 0, 3, 180, 0, 161, 182, 0, 34, 181, 0, 164, 42, 43, 180, 0, 164, 2, 159, 0, 7]
abbrev dktX4_state_0 : List UInt8 := dkwX4_state_0 ++ dktX4_state_1
theorem dksX4_state_0 : cX4_state.data.toList.drop 0 = dktX4_state_0 := by decide +kernel
theorem dksX4_state_1 : cX4_state.data.toList.drop 24 = dktX4_state_1 := dk_seg dksX4_state_0 24 rfl rfl
theorem dksX4_state_2 : cX4_state.data.toList.drop 46 = dktX4_state_2 := dk_seg dksX4_state_1 22 rfl rfl
theorem dksX4_state_3 : cX4_state.data.toList.drop 70 = dktX4_state_3 := dk_seg dksX4_state_2 24 rfl rfl
theorem dksX4_state_4 : cX4_state.data.toList.drop 94 = dktX4_state_4 := dk_seg dksX4_state_3 24 rfl rfl
theorem dksX4_state_5 : cX4_state.data.toList.drop 116 = dktX4_state_5 := dk_seg dksX4_state_4 22 rfl rfl
theorem dksX4_state_6 : cX4_state.data.toList.drop 140 = dktX4_state_6 := dk_seg dksX4_state_5 24 rfl rfl
theorem dX4_state_0 : decode cX4_state 0 = .ok (.aload_n 1, 1) := dk_43 (dk_at dksX4_state_0 0 rfl rfl)
theorem dX4_state_1 : decode cX4_state 1 = .ok (.aload_n 0, 1) := dk_42 (dk_at dksX4_state_0 1 rfl rfl)
theorem dX4_state_2 : decode cX4_state 2 = .ok (.aload_n 0, 1) := dk_42 (dk_at dksX4_state_0 2 rfl rfl)
theorem dX4_state_3 : decode cX4_state 3 = .ok (.getfield 3, 3) := dk_180 0 3 (dk_at dksX4_state_0 3 rfl rfl)
theorem dX4_state_6 : decode cX4_state 6 = .ok (.getfield 161, 3) := dk_180 0 161 (dk_at dksX4_state_0 6 rfl rfl)
theorem dX4_state_9 : decode cX4_state 9 = .ok (.invokevirtual 34, 3) := dk_182 0 34 (dk_at dksX4_state_0 9 rfl rfl)
theorem dX4_state_12 : decode cX4_state 12 = .ok (.putfield 164, 3) := dk_181 0 164 (dk_at dksX4_state_0 12 rfl rfl)
theorem dX4_state_15 : decode cX4_state 15 = .ok (.aload_n 0, 1) := dk_42 (dk_at dksX4_state_0 15 rfl rfl)
theorem dX4_state_16 : decode cX4_state 16 = .ok (.aload_n 1, 1) := dk_43 (dk_at dksX4_state_0 16 rfl rfl)
theorem dX4_state_17 : decode cX4_state 17 = .ok (.getfield 164, 3) := dk_180 0 164 (dk_at dksX4_state_0 17 rfl rfl)
theorem dX4_state_20 : decode cX4_state 20 = .ok (.iconst (-1), 1) := dk_2 (dk_at dksX4_state_0 20 rfl rfl)
theorem dX4_state_21 : decode cX4_state 21 = .ok (.if_icmp .eq 7, 3) := dk_159 0 7 (dk_at dksX4_state_0 21 rfl rfl)
theorem dX4_state_24 : decode cX4_state 24 = .ok (.iconst 1, 1) := dk_4 (dk_at dksX4_state_1 0 rfl rfl)
theorem dX4_state_25 : decode cX4_state 25 = .ok (.goto 4, 3) := dk_167 0 4 (dk_at dksX4_state_1 1 rfl rfl)
theorem dX4_state_28 : decode cX4_state 28 = .ok (.iconst 0, 1) := dk_3 (dk_at dksX4_state_1 4 rfl rfl)
theorem dX4_state_29 : decode cX4_state 29 = .ok (.iconst 1, 1) := dk_4 (dk_at dksX4_state_1 5 rfl rfl)
theorem dX4_state_30 : decode cX4_state 30 = .ok (.invokevirtual 38, 3) := dk_182 0 38 (dk_at dksX4_state_1 6 rfl rfl)
theorem dX4_state_33 : decode cX4_state 33 = .ok (.aload_n 0, 1) := dk_42 (dk_at dksX4_state_1 9 rfl rfl)
theorem dX4_state_34 : decode cX4_state 34 = .ok (.aload_n 1, 1) := dk_43 (dk_at dksX4_state_1 10 rfl rfl)
theorem dX4_state_35 : decode cX4_state 35 = .ok (.getfield 164, 3) := dk_180 0 164 (dk_at dksX4_state_1 11 rfl rfl)
theorem dX4_state_38 : decode cX4_state 38 = .ok (.iconst 2, 1) := dk_5 (dk_at dksX4_state_1 14 rfl rfl)
theorem dX4_state_39 : decode cX4_state 39 = .ok (.if_icmp .ne 23, 3) := dk_160 0 23 (dk_at dksX4_state_1 15 rfl rfl)
theorem dX4_state_42 : decode cX4_state 42 = .ok (.aload_n 0, 1) := dk_42 (dk_at dksX4_state_1 18 rfl rfl)
theorem dX4_state_43 : decode cX4_state 43 = .ok (.getfield 15, 3) := dk_180 0 15 (dk_at dksX4_state_1 19 rfl rfl)
theorem dX4_state_46 : decode cX4_state 46 = .ok (.getfield 166, 3) := dk_180 0 166 (dk_at dksX4_state_2 0 rfl rfl)
theorem dX4_state_49 : decode cX4_state 49 = .ok (.bipush 8, 2) := dk_16 8 (dk_at dksX4_state_2 3 rfl rfl)
theorem dX4_state_51 : decode cX4_state 51 = .ok (.if_icmp .ge 7, 3) := dk_162 0 7 (dk_at dksX4_state_2 5 rfl rfl)
theorem dX4_state_54 : decode cX4_state 54 = .ok (.iconst 1, 1) := dk_4 (dk_at dksX4_state_2 8 rfl rfl)
theorem dX4_state_55 : decode cX4_state 55 = .ok (.goto 31, 3) := dk_167 0 31 (dk_at dksX4_state_2 9 rfl rfl)
theorem dX4_state_58 : decode cX4_state 58 = .ok (.iconst 0, 1) := dk_3 (dk_at dksX4_state_2 12 rfl rfl)
theorem dX4_state_59 : decode cX4_state 59 = .ok (.goto 27, 3) := dk_167 0 27 (dk_at dksX4_state_2 13 rfl rfl)
theorem dX4_state_62 : decode cX4_state 62 = .ok (.aload_n 1, 1) := dk_43 (dk_at dksX4_state_2 16 rfl rfl)
theorem dX4_state_63 : decode cX4_state 63 = .ok (.getfield 164, 3) := dk_180 0 164 (dk_at dksX4_state_2 17 rfl rfl)
theorem dX4_state_66 : decode cX4_state 66 = .ok (.iconst 3, 1) := dk_6 (dk_at dksX4_state_2 20 rfl rfl)
theorem dX4_state_67 : decode cX4_state 67 = .ok (.if_icmp .ne 14, 3) := dk_160 0 14 (dk_at dksX4_state_2 21 rfl rfl)
theorem dX4_state_70 : decode cX4_state 70 = .ok (.aload_n 0, 1) := dk_42 (dk_at dksX4_state_3 0 rfl rfl)
theorem dX4_state_71 : decode cX4_state 71 = .ok (.getfield 15, 3) := dk_180 0 15 (dk_at dksX4_state_3 1 rfl rfl)
theorem dX4_state_74 : decode cX4_state 74 = .ok (.getfield 169, 3) := dk_180 0 169 (dk_at dksX4_state_3 4 rfl rfl)
theorem dX4_state_77 : decode cX4_state 77 = .ok (.iconst 5, 1) := dk_8 (dk_at dksX4_state_3 7 rfl rfl)
theorem dX4_state_78 : decode cX4_state 78 = .ok (.if_icmp .ge 7, 3) := dk_162 0 7 (dk_at dksX4_state_3 8 rfl rfl)
theorem dX4_state_81 : decode cX4_state 81 = .ok (.iconst 1, 1) := dk_4 (dk_at dksX4_state_3 11 rfl rfl)
theorem dX4_state_82 : decode cX4_state 82 = .ok (.goto 4, 3) := dk_167 0 4 (dk_at dksX4_state_3 12 rfl rfl)
theorem dX4_state_85 : decode cX4_state 85 = .ok (.iconst 0, 1) := dk_3 (dk_at dksX4_state_3 15 rfl rfl)
theorem dX4_state_86 : decode cX4_state 86 = .ok (.iconst 4, 1) := dk_7 (dk_at dksX4_state_3 16 rfl rfl)
theorem dX4_state_87 : decode cX4_state 87 = .ok (.invokevirtual 38, 3) := dk_182 0 38 (dk_at dksX4_state_3 17 rfl rfl)
theorem dX4_state_90 : decode cX4_state 90 = .ok (.aload_n 0, 1) := dk_42 (dk_at dksX4_state_3 20 rfl rfl)
theorem dX4_state_91 : decode cX4_state 91 = .ok (.invokevirtual 23, 3) := dk_182 0 23 (dk_at dksX4_state_3 21 rfl rfl)
theorem dX4_state_94 : decode cX4_state 94 = .ok (.aload_n 0, 1) := dk_42 (dk_at dksX4_state_4 0 rfl rfl)
theorem dX4_state_95 : decode cX4_state 95 = .ok (.getfield 15, 3) := dk_180 0 15 (dk_at dksX4_state_4 1 rfl rfl)
theorem dX4_state_98 : decode cX4_state 98 = .ok (.dup, 1) := dk_89 (dk_at dksX4_state_4 4 rfl rfl)
theorem dX4_state_99 : decode cX4_state 99 = .ok (.getfield 166, 3) := dk_180 0 166 (dk_at dksX4_state_4 5 rfl rfl)
theorem dX4_state_102 : decode cX4_state 102 = .ok (.aload_n 1, 1) := dk_43 (dk_at dksX4_state_4 8 rfl rfl)
theorem dX4_state_103 : decode cX4_state 103 = .ok (.getfield 164, 3) := dk_180 0 164 (dk_at dksX4_state_4 9 rfl rfl)
theorem dX4_state_106 : decode cX4_state 106 = .ok (.iconst 2, 1) := dk_5 (dk_at dksX4_state_4 12 rfl rfl)
theorem dX4_state_107 : decode cX4_state 107 = .ok (.if_icmp .ne 7, 3) := dk_160 0 7 (dk_at dksX4_state_4 13 rfl rfl)
theorem dX4_state_110 : decode cX4_state 110 = .ok (.iconst 1, 1) := dk_4 (dk_at dksX4_state_4 16 rfl rfl)
theorem dX4_state_111 : decode cX4_state 111 = .ok (.goto 4, 3) := dk_167 0 4 (dk_at dksX4_state_4 17 rfl rfl)
theorem dX4_state_114 : decode cX4_state 114 = .ok (.iconst 0, 1) := dk_3 (dk_at dksX4_state_4 20 rfl rfl)
theorem dX4_state_115 : decode cX4_state 115 = .ok (.iadd, 1) := dk_96 (dk_at dksX4_state_4 21 rfl rfl)
theorem dX4_state_116 : decode cX4_state 116 = .ok (.putfield 166, 3) := dk_181 0 166 (dk_at dksX4_state_5 0 rfl rfl)
theorem dX4_state_119 : decode cX4_state 119 = .ok (.aload_n 0, 1) := dk_42 (dk_at dksX4_state_5 3 rfl rfl)
theorem dX4_state_120 : decode cX4_state 120 = .ok (.getfield 15, 3) := dk_180 0 15 (dk_at dksX4_state_5 4 rfl rfl)
theorem dX4_state_123 : decode cX4_state 123 = .ok (.dup, 1) := dk_89 (dk_at dksX4_state_5 7 rfl rfl)
theorem dX4_state_124 : decode cX4_state 124 = .ok (.getfield 169, 3) := dk_180 0 169 (dk_at dksX4_state_5 8 rfl rfl)
theorem dX4_state_127 : decode cX4_state 127 = .ok (.aload_n 1, 1) := dk_43 (dk_at dksX4_state_5 11 rfl rfl)
theorem dX4_state_128 : decode cX4_state 128 = .ok (.getfield 164, 3) := dk_180 0 164 (dk_at dksX4_state_5 12 rfl rfl)
theorem dX4_state_131 : decode cX4_state 131 = .ok (.iconst 3, 1) := dk_6 (dk_at dksX4_state_5 15 rfl rfl)
theorem dX4_state_132 : decode cX4_state 132 = .ok (.if_icmp .ne 7, 3) := dk_160 0 7 (dk_at dksX4_state_5 16 rfl rfl)
theorem dX4_state_135 : decode cX4_state 135 = .ok (.iconst 1, 1) := dk_4 (dk_at dksX4_state_5 19 rfl rfl)
theorem dX4_state_136 : decode cX4_state 136 = .ok (.goto 4, 3) := dk_167 0 4 (dk_at dksX4_state_5 20 rfl rfl)
theorem dX4_state_139 : decode cX4_state 139 = .ok (.iconst 0, 1) := dk_3 (dk_at dksX4_state_5 23 rfl rfl)
theorem dX4_state_140 : decode cX4_state 140 = .ok (.iadd, 1) := dk_96 (dk_at dksX4_state_6 0 rfl rfl)
theorem dX4_state_141 : decode cX4_state 141 = .ok (.putfield 169, 3) := dk_181 0 169 (dk_at dksX4_state_6 1 rfl rfl)
theorem dX4_state_144 : decode cX4_state 144 = .ok (.aload_n 1, 1) := dk_43 (dk_at dksX4_state_6 4 rfl rfl)
theorem dX4_state_145 : decode cX4_state 145 = .ok (.getfield 164, 3) := dk_180 0 164 (dk_at dksX4_state_6 5 rfl rfl)
theorem dX4_state_148 : decode cX4_state 148 = .ok (.iconst 3, 1) := dk_6 (dk_at dksX4_state_6 8 rfl rfl)
theorem dX4_state_149 : decode cX4_state 149 = .ok (.if_icmp .ne 14, 3) := dk_160 0 14 (dk_at dksX4_state_6 9 rfl rfl)
theorem dX4_state_152 : decode cX4_state 152 = .ok (.aload_n 1, 1) := dk_43 (dk_at dksX4_state_6 12 rfl rfl)
theorem dX4_state_153 : decode cX4_state 153 = .ok (.aload_n 0, 1) := dk_42 (dk_at dksX4_state_6 13 rfl rfl)
theorem dX4_state_154 : decode cX4_state 154 = .ok (.iconst 1, 1) := dk_4 (dk_at dksX4_state_6 14 rfl rfl)
theorem dX4_state_155 : decode cX4_state 155 = .ok (.bipush 19, 2) := dk_16 19 (dk_at dksX4_state_6 15 rfl rfl)
theorem dX4_state_157 : decode cX4_state 157 = .ok (.invokevirtual 135, 3) := dk_182 0 135 (dk_at dksX4_state_6 17 rfl rfl)
theorem dX4_state_160 : decode cX4_state 160 = .ok (.putfield 172, 3) := dk_181 0 172 (dk_at dksX4_state_6 20 rfl rfl)
theorem dX4_state_163 : decode cX4_state 163 = .ok (.return_, 1) := dk_177 (dk_at dksX4_state_6 23 rfl rfl)
theorem q114 : (Jvm.Cond.initialized "TwoHalves$HeadReader") ∈ lw_all := lw_g (lw_at lw_m1 6 rfl) rfl
theorem q249 : (Jvm.Cond.instantiable "TwoHalves$HeadReader" (10 : Nat)) ∈ lw_all := lw_g (lw_at lw_m1 141 rfl) rfl
theorem q251 : (Jvm.Cond.instanceMethod ({ cls := "TwoHalves$HeadReader", name := "<init>", desc := "(LTwoHalves;)V" } : Jvm.MethodName)) ∈ lw_all := lw_g (lw_at lw_m1 143 rfl) rfl
theorem q252 : (Jvm.Cond.code ({ cls := "TwoHalves$HeadReader", name := "<init>", desc := "(LTwoHalves;)V" } : Jvm.MethodName) prog_11_method_1_code (2 : Nat) (Option.none : Option Jvm.ClassFile.FieldType)) ∈ lw_all := lw_g (lw_at lw_m1 144 rfl) rfl
theorem q253 : (Jvm.Cond.methodLink "TwoHalves$HeadReader" (9 : Nat) ({ cls := "TwoHalves$Reader", name := "<init>", desc := "(LTwoHalves;I)V" } : Jvm.MethodName)) ∈ lw_all := lw_g (lw_at lw_m1 145 rfl) rfl
theorem q257 : (Jvm.Cond.fieldLink "TwoHalves$HeadReader" (15 : Nat) "TwoHalves$HeadReader" "h" "LTwoHalves$Head;") ∈ lw_all := lw_g (lw_at lw_m1 149 rfl) rfl
theorem q258 : (Jvm.Cond.fieldLink "TwoHalves$HeadReader" (3 : Nat) "TwoHalves$HeadReader" "this$0" "LTwoHalves;") ∈ lw_all := lw_g (lw_at lw_m1 150 rfl) rfl
theorem q263 : (Jvm.Cond.fieldLink "TwoHalves$HeadReader" (19 : Nat) "TwoHalves$HeadReader" "p" "I") ∈ lw_all := lw_g (lw_at lw_m1 155 rfl) rfl
theorem q264 : (Jvm.Cond.sameField "TwoHalves$HeadReader" "TwoHalves$Reader" "p" "I") ∈ lw_all := lw_g (lw_at lw_m1 156 rfl) rfl
theorem q266 : (Jvm.Cond.fieldLink "TwoHalves$HeadReader" (27 : Nat) "TwoHalves$HeadReader" "token" "I") ∈ lw_all := lw_g (lw_at lw_m1 158 rfl) rfl
theorem q267 : (Jvm.Cond.sameField "TwoHalves$HeadReader" "TwoHalves$Reader" "token" "I") ∈ lw_all := lw_g (lw_at lw_m1 159 rfl) rfl
theorem q275 : (Jvm.Cond.fieldLink "TwoHalves$HeadReader" (85 : Nat) "TwoHalves$HeadReader" "name" "J") ∈ lw_all := lw_g (lw_at lw_m1 167 rfl) rfl
theorem q276 : (Jvm.Cond.sameField "TwoHalves$HeadReader" "TwoHalves$Reader" "name" "J") ∈ lw_all := lw_g (lw_at lw_m1 168 rfl) rfl
theorem q279 : (Jvm.Cond.lays "TwoHalves$HeadReader" "TwoHalves$HeadReader" "h" "LTwoHalves$Head;") ∈ lw_all := lw_g (lw_at lw_m1 171 rfl) rfl
theorem q280 : (Jvm.Cond.soleField "TwoHalves$HeadReader" "h") ∈ lw_all := lw_g (lw_at lw_m1 172 rfl) rfl
theorem q281 : (Jvm.Cond.laysFinal "TwoHalves$HeadReader" "TwoHalves$HeadReader" "this$0" "LTwoHalves;") ∈ lw_all := lw_g (lw_at lw_m1 173 rfl) rfl
theorem q282 : (Jvm.Cond.soleField "TwoHalves$HeadReader" "this$0") ∈ lw_all := lw_g (lw_at lw_m1 174 rfl) rfl
theorem q283 : (Jvm.Cond.laysFinal "TwoHalves$HeadReader" "TwoHalves$Reader" "most" "I") ∈ lw_all := lw_g (lw_at lw_m1 175 rfl) rfl
theorem q285 : (Jvm.Cond.lays "TwoHalves$HeadReader" "TwoHalves$Reader" "p" "I") ∈ lw_all := lw_g (lw_at lw_m1 177 rfl) rfl
theorem q287 : (Jvm.Cond.lays "TwoHalves$HeadReader" "TwoHalves$Reader" "at" "I") ∈ lw_all := lw_g (lw_at lw_m1 179 rfl) rfl
theorem q289 : (Jvm.Cond.lays "TwoHalves$HeadReader" "TwoHalves$Reader" "token" "I") ∈ lw_all := lw_g (lw_at lw_m1 181 rfl) rfl
theorem q291 : (Jvm.Cond.lays "TwoHalves$HeadReader" "TwoHalves$Reader" "value" "I") ∈ lw_all := lw_g (lw_at lw_m1 183 rfl) rfl
theorem q293 : (Jvm.Cond.lays "TwoHalves$HeadReader" "TwoHalves$Reader" "many" "I") ∈ lw_all := lw_g (lw_at lw_m1 185 rfl) rfl
theorem q295 : (Jvm.Cond.lays "TwoHalves$HeadReader" "TwoHalves$Reader" "name" "J") ∈ lw_all := lw_g (lw_at lw_m1 187 rfl) rfl
theorem q297 : (Jvm.Cond.laysFinal "TwoHalves$HeadReader" "TwoHalves$Reader" "this$0" "LTwoHalves;") ∈ lw_all := lw_g (lw_at lw_m1 189 rfl) rfl
theorem q299 : (Jvm.Cond.superclass "TwoHalves$HeadReader" "TwoHalves$Reader") ∈ lw_all := lw_g (lw_at lw_m1 191 rfl) rfl
theorem q317 : (Jvm.Cond.fieldLinkNest "TwoHalves$HeadReader" (73 : Nat) "TwoHalves$Head" "things" "[LTwoHalves$Thing;" "TwoHalves") ∈ lw_tbl := lw_at lw_m1 209 rfl
theorem q321 : (Jvm.Cond.fieldLinkNest "TwoHalves$HeadReader" (81 : Nat) "TwoHalves$Head" "ways" "[LTwoHalves$Way;" "TwoHalves") ∈ lw_tbl := lw_at lw_m1 213 rfl
theorem q326 : (Jvm.Cond.fieldLinkNest "TwoHalves$HeadReader" (112 : Nat) "TwoHalves$Head" "says" "[I" "TwoHalves") ∈ lw_tbl := lw_at lw_m1 218 rfl
theorem q328 : (Jvm.Cond.fieldLinkNest "TwoHalves$HeadReader" (42 : Nat) "TwoHalves$Head" "thingMany" "I" "TwoHalves") ∈ lw_tbl := lw_at lw_m1 220 rfl
theorem q331 : (Jvm.Cond.fieldLinkNest "TwoHalves$HeadReader" (50 : Nat) "TwoHalves$Head" "wayMany" "I" "TwoHalves") ∈ lw_tbl := lw_at lw_m1 223 rfl
theorem q336 : (Jvm.Cond.fieldLinkNest "TwoHalves$HeadReader" (47 : Nat) "TwoHalves$Head" "suitMany" "I" "TwoHalves") ∈ lw_tbl := lw_at lw_m1 228 rfl
theorem q338 : (Jvm.Cond.fieldLinkNest "TwoHalves$HeadReader" (166 : Nat) "TwoHalves$Head" "maybes" "I" "TwoHalves") ∈ lw_tbl := lw_at lw_m1 230 rfl
theorem q339 : (Jvm.Cond.fieldLinkNest "TwoHalves$HeadReader" (169 : Nat) "TwoHalves$Head" "weaks" "I" "TwoHalves") ∈ lw_tbl := lw_at lw_m1 231 rfl
theorem q510 : (Jvm.Cond.fieldLinkNest "TwoHalves$HeadReader" (30 : Nat) "TwoHalves" "lines" "[Ljava/lang/String;" "TwoHalves") ∈ lw_tbl := lw_at lw_m2 162 rfl
theorem q513 : (Jvm.Cond.fieldLinkNest "TwoHalves$HeadReader" (95 : Nat) "TwoHalves" "kinds" "[Ljava/lang/String;" "TwoHalves") ∈ lw_tbl := lw_at lw_m2 165 rfl
theorem q516 : (Jvm.Cond.fieldLinkNest "TwoHalves$HeadReader" (109 : Nat) "TwoHalves" "halves" "[Ljava/lang/String;" "TwoHalves") ∈ lw_tbl := lw_at lw_m2 168 rfl
theorem q519 : (Jvm.Cond.fieldLinkNest "TwoHalves$HeadReader" (152 : Nat) "TwoHalves" "flags" "[Ljava/lang/String;" "TwoHalves") ∈ lw_tbl := lw_at lw_m2 171 rfl
theorem q522 : (Jvm.Cond.fieldLinkNest "TwoHalves$HeadReader" (161 : Nat) "TwoHalves" "states" "[Ljava/lang/String;" "TwoHalves") ∈ lw_tbl := lw_at lw_m2 174 rfl
theorem q646 : (Jvm.Cond.instanceMethod ({ cls := "TwoHalves$HeadReader", name := "read", desc := "(LTwoHalves$Head;)I" } : Jvm.MethodName)) ∈ lw_all := lw_g (lw_at lw_m3 58 rfl) rfl
theorem q647 : (Jvm.Cond.selects "TwoHalves$HeadReader" ({ cls := "TwoHalves$HeadReader", name := "read", desc := "(LTwoHalves$Head;)I" } : Jvm.MethodName) ({ cls := "TwoHalves$HeadReader", name := "read", desc := "(LTwoHalves$Head;)I" } : Jvm.MethodName)) ∈ lw_all := lw_g (lw_at lw_m3 59 rfl) rfl
theorem q648 : (Jvm.Cond.code ({ cls := "TwoHalves$HeadReader", name := "read", desc := "(LTwoHalves$Head;)I" } : Jvm.MethodName) prog_11_method_2_code (4 : Nat) (Option.some Jvm.ClassFile.FieldType.int)) ∈ lw_all := lw_g (lw_at lw_m3 60 rfl) rfl
theorem q649 : (Jvm.Cond.methodLink "TwoHalves$HeadReader" (23 : Nat) ({ cls := "TwoHalves$HeadReader", name := "next", desc := "()V" } : Jvm.MethodName)) ∈ lw_all := lw_g (lw_at lw_m3 61 rfl) rfl
theorem q650 : (Jvm.Cond.sameMethod "TwoHalves$HeadReader" "TwoHalves$Reader" "next" "()V") ∈ lw_all := lw_g (lw_at lw_m3 62 rfl) rfl
theorem q652 : (Jvm.Cond.selects "TwoHalves$HeadReader" ({ cls := "TwoHalves$HeadReader", name := "next", desc := "()V" } : Jvm.MethodName) ({ cls := "TwoHalves$Reader", name := "next", desc := "()V" } : Jvm.MethodName)) ∈ lw_all := lw_g (lw_at lw_m3 64 rfl) rfl
theorem q674 : (Jvm.Cond.methodLink "TwoHalves$HeadReader" (34 : Nat) ({ cls := "TwoHalves$HeadReader", name := "find", desc := "([Ljava/lang/String;)I" } : Jvm.MethodName)) ∈ lw_all := lw_g (lw_at lw_m3 86 rfl) rfl
theorem q675 : (Jvm.Cond.sameMethod "TwoHalves$HeadReader" "TwoHalves$Reader" "find" "([Ljava/lang/String;)I") ∈ lw_all := lw_g (lw_at lw_m3 87 rfl) rfl
theorem q677 : (Jvm.Cond.selects "TwoHalves$HeadReader" ({ cls := "TwoHalves$HeadReader", name := "find", desc := "([Ljava/lang/String;)I" } : Jvm.MethodName) ({ cls := "TwoHalves$Reader", name := "find", desc := "([Ljava/lang/String;)I" } : Jvm.MethodName)) ∈ lw_all := lw_g (lw_at lw_m3 89 rfl) rfl
theorem q683 : (Jvm.Cond.selects "TwoHalves$HeadReader" ({ cls := "TwoHalves$Reader", name := "is", desc := "(Ljava/lang/String;)Z" } : Jvm.MethodName) ({ cls := "TwoHalves$Reader", name := "is", desc := "(Ljava/lang/String;)Z" } : Jvm.MethodName)) ∈ lw_all := lw_g (lw_at lw_m3 95 rfl) rfl
theorem q734 : (Jvm.Cond.methodLink "TwoHalves$HeadReader" (38 : Nat) ({ cls := "TwoHalves$HeadReader", name := "must", desc := "(ZI)V" } : Jvm.MethodName)) ∈ lw_all := lw_g (lw_at lw_m3 146 rfl) rfl
theorem q735 : (Jvm.Cond.sameMethod "TwoHalves$HeadReader" "TwoHalves$Reader" "must" "(ZI)V") ∈ lw_all := lw_g (lw_at lw_m3 147 rfl) rfl
theorem q737 : (Jvm.Cond.selects "TwoHalves$HeadReader" ({ cls := "TwoHalves$HeadReader", name := "must", desc := "(ZI)V" } : Jvm.MethodName) ({ cls := "TwoHalves$Reader", name := "must", desc := "(ZI)V" } : Jvm.MethodName)) ∈ lw_all := lw_g (lw_at lw_m3 149 rfl) rfl
theorem q743 : (Jvm.Cond.selects "TwoHalves$HeadReader" ({ cls := "TwoHalves$Reader", name := "wrong", desc := "(I)LTwoHalves$Fault;" } : Jvm.MethodName) ({ cls := "TwoHalves$Reader", name := "wrong", desc := "(I)LTwoHalves$Fault;" } : Jvm.MethodName)) ∈ lw_all := lw_g (lw_at lw_m3 155 rfl) rfl
theorem q746 : (Jvm.Cond.methodLink "TwoHalves$HeadReader" (53 : Nat) ({ cls := "TwoHalves$HeadReader", name := "thing", desc := "()V" } : Jvm.MethodName)) ∈ lw_all := lw_g (lw_at lw_m3 158 rfl) rfl
theorem q747 : (Jvm.Cond.privateMethod ({ cls := "TwoHalves$HeadReader", name := "thing", desc := "()V" } : Jvm.MethodName)) ∈ lw_tbl := lw_at lw_m3 159 rfl
theorem q748 : (Jvm.Cond.instanceMethod ({ cls := "TwoHalves$HeadReader", name := "thing", desc := "()V" } : Jvm.MethodName)) ∈ lw_all := lw_g (lw_at lw_m3 160 rfl) rfl
theorem q749 : (Jvm.Cond.code ({ cls := "TwoHalves$HeadReader", name := "thing", desc := "()V" } : Jvm.MethodName) prog_11_method_6_code (3 : Nat) (Option.none : Option Jvm.ClassFile.FieldType)) ∈ lw_all := lw_g (lw_at lw_m3 161 rfl) rfl
theorem q750 : (Jvm.Cond.methodLink "TwoHalves$HeadReader" (89 : Nat) ({ cls := "TwoHalves$HeadReader", name := "fresh", desc := "()J" } : Jvm.MethodName)) ∈ lw_all := lw_g (lw_at lw_m3 162 rfl) rfl
theorem q751 : (Jvm.Cond.privateMethod ({ cls := "TwoHalves$HeadReader", name := "fresh", desc := "()J" } : Jvm.MethodName)) ∈ lw_tbl := lw_at lw_m3 163 rfl
theorem q752 : (Jvm.Cond.instanceMethod ({ cls := "TwoHalves$HeadReader", name := "fresh", desc := "()J" } : Jvm.MethodName)) ∈ lw_all := lw_g (lw_at lw_m3 164 rfl) rfl
theorem q753 : (Jvm.Cond.code ({ cls := "TwoHalves$HeadReader", name := "fresh", desc := "()J" } : Jvm.MethodName) prog_11_method_3_code (3 : Nat) (Option.some Jvm.ClassFile.FieldType.long)) ∈ lw_all := lw_g (lw_at lw_m3 165 rfl) rfl
theorem q754 : (Jvm.Cond.methodLink "TwoHalves$HeadReader" (69 : Nat) ({ cls := "TwoHalves$HeadReader", name := "isName", desc := "()Z" } : Jvm.MethodName)) ∈ lw_all := lw_g (lw_at lw_m3 166 rfl) rfl
theorem q755 : (Jvm.Cond.sameMethod "TwoHalves$HeadReader" "TwoHalves$Reader" "isName" "()Z") ∈ lw_all := lw_g (lw_at lw_m3 167 rfl) rfl
theorem q757 : (Jvm.Cond.selects "TwoHalves$HeadReader" ({ cls := "TwoHalves$HeadReader", name := "isName", desc := "()Z" } : Jvm.MethodName) ({ cls := "TwoHalves$Reader", name := "isName", desc := "()Z" } : Jvm.MethodName)) ∈ lw_all := lw_g (lw_at lw_m3 169 rfl) rfl
theorem q761 : (Jvm.Cond.methodLink "TwoHalves$HeadReader" (77 : Nat) ({ cls := "TwoHalves$HeadReader", name := "of", desc := "([LTwoHalves$Named;I)I" } : Jvm.MethodName)) ∈ lw_all := lw_g (lw_at lw_m3 173 rfl) rfl
theorem q762 : (Jvm.Cond.sameMethod "TwoHalves$HeadReader" "TwoHalves$Reader" "of" "([LTwoHalves$Named;I)I") ∈ lw_all := lw_g (lw_at lw_m3 174 rfl) rfl
theorem q764 : (Jvm.Cond.selects "TwoHalves$HeadReader" ({ cls := "TwoHalves$HeadReader", name := "of", desc := "([LTwoHalves$Named;I)I" } : Jvm.MethodName) ({ cls := "TwoHalves$Reader", name := "of", desc := "([LTwoHalves$Named;I)I" } : Jvm.MethodName)) ∈ lw_all := lw_g (lw_at lw_m3 176 rfl) rfl
theorem q767 : (Jvm.Cond.classLink "TwoHalves$HeadReader" (93 : Nat) "TwoHalves$Thing") ∈ lw_all := lw_g (lw_at lw_m3 179 rfl) rfl
theorem q769 : (Jvm.Cond.methodLink "TwoHalves$HeadReader" (98 : Nat) ({ cls := "TwoHalves$HeadReader", name := "word", desc := "([Ljava/lang/String;)I" } : Jvm.MethodName)) ∈ lw_all := lw_g (lw_at lw_m3 181 rfl) rfl
theorem q770 : (Jvm.Cond.privateMethod ({ cls := "TwoHalves$HeadReader", name := "word", desc := "([Ljava/lang/String;)I" } : Jvm.MethodName)) ∈ lw_tbl := lw_at lw_m3 182 rfl
theorem q771 : (Jvm.Cond.instanceMethod ({ cls := "TwoHalves$HeadReader", name := "word", desc := "([Ljava/lang/String;)I" } : Jvm.MethodName)) ∈ lw_all := lw_g (lw_at lw_m3 183 rfl) rfl
theorem q772 : (Jvm.Cond.code ({ cls := "TwoHalves$HeadReader", name := "word", desc := "([Ljava/lang/String;)I" } : Jvm.MethodName) prog_11_method_5_code (3 : Nat) (Option.some Jvm.ClassFile.FieldType.int)) ∈ lw_all := lw_g (lw_at lw_m3 184 rfl) rfl
theorem q773 : (Jvm.Cond.methodLink "TwoHalves$HeadReader" (101 : Nat) ({ cls := "TwoHalves$Thing", name := "<init>", desc := "(JI)V" } : Jvm.MethodName)) ∈ lw_all := lw_g (lw_at lw_m3 185 rfl) rfl
theorem q785 : (Jvm.Cond.fieldLinkNest "TwoHalves$HeadReader" (107 : Nat) "TwoHalves$Thing" "suits" "I" "TwoHalves") ∈ lw_tbl := lw_at lw_m3 197 rfl
theorem q796 : (Jvm.Cond.methodLink "TwoHalves$HeadReader" (56 : Nat) ({ cls := "TwoHalves$HeadReader", name := "suits", desc := "()V" } : Jvm.MethodName)) ∈ lw_all := lw_g (lw_at lw_m3 208 rfl) rfl
theorem q797 : (Jvm.Cond.privateMethod ({ cls := "TwoHalves$HeadReader", name := "suits", desc := "()V" } : Jvm.MethodName)) ∈ lw_tbl := lw_at lw_m3 209 rfl
theorem q798 : (Jvm.Cond.instanceMethod ({ cls := "TwoHalves$HeadReader", name := "suits", desc := "()V" } : Jvm.MethodName)) ∈ lw_all := lw_g (lw_at lw_m3 210 rfl) rfl
theorem q799 : (Jvm.Cond.code ({ cls := "TwoHalves$HeadReader", name := "suits", desc := "()V" } : Jvm.MethodName) prog_11_method_7_code (3 : Nat) (Option.none : Option Jvm.ClassFile.FieldType)) ∈ lw_all := lw_g (lw_at lw_m3 211 rfl) rfl
theorem q800 : (Jvm.Cond.methodLink "TwoHalves$HeadReader" (104 : Nat) ({ cls := "TwoHalves$HeadReader", name := "known", desc := "([LTwoHalves$Named;I)I" } : Jvm.MethodName)) ∈ lw_all := lw_g (lw_at lw_m3 212 rfl) rfl
theorem q801 : (Jvm.Cond.privateMethod ({ cls := "TwoHalves$HeadReader", name := "known", desc := "([LTwoHalves$Named;I)I" } : Jvm.MethodName)) ∈ lw_tbl := lw_at lw_m3 213 rfl
theorem q802 : (Jvm.Cond.instanceMethod ({ cls := "TwoHalves$HeadReader", name := "known", desc := "([LTwoHalves$Named;I)I" } : Jvm.MethodName)) ∈ lw_all := lw_g (lw_at lw_m3 214 rfl) rfl
theorem q803 : (Jvm.Cond.code ({ cls := "TwoHalves$HeadReader", name := "known", desc := "([LTwoHalves$Named;I)I" } : Jvm.MethodName) prog_11_method_4_code (4 : Nat) (Option.some Jvm.ClassFile.FieldType.int)) ∈ lw_all := lw_g (lw_at lw_m3 215 rfl) rfl
theorem q804 : (Jvm.Cond.methodLink "TwoHalves$HeadReader" (59 : Nat) ({ cls := "TwoHalves$HeadReader", name := "says", desc := "()V" } : Jvm.MethodName)) ∈ lw_all := lw_g (lw_at lw_m3 216 rfl) rfl
theorem q805 : (Jvm.Cond.privateMethod ({ cls := "TwoHalves$HeadReader", name := "says", desc := "()V" } : Jvm.MethodName)) ∈ lw_tbl := lw_at lw_m3 217 rfl
theorem q806 : (Jvm.Cond.instanceMethod ({ cls := "TwoHalves$HeadReader", name := "says", desc := "()V" } : Jvm.MethodName)) ∈ lw_all := lw_g (lw_at lw_m3 218 rfl) rfl
theorem q807 : (Jvm.Cond.code ({ cls := "TwoHalves$HeadReader", name := "says", desc := "()V" } : Jvm.MethodName) prog_11_method_9_code (2 : Nat) (Option.none : Option Jvm.ClassFile.FieldType)) ∈ lw_all := lw_g (lw_at lw_m3 219 rfl) rfl
theorem q808 : (Jvm.Cond.methodLink "TwoHalves$HeadReader" (115 : Nat) ({ cls := "java/lang/Math", name := "max", desc := "(II)I" } : Jvm.MethodName)) ∈ lw_all := lw_g (lw_at lw_m3 220 rfl) rfl
theorem q811 : (Jvm.Cond.methodLink "TwoHalves$HeadReader" (121 : Nat) ({ cls := "TwoHalves$HeadReader", name := "kinds", desc := "(I)I" } : Jvm.MethodName)) ∈ lw_all := lw_g (lw_at lw_m3 223 rfl) rfl
theorem q812 : (Jvm.Cond.privateMethod ({ cls := "TwoHalves$HeadReader", name := "kinds", desc := "(I)I" } : Jvm.MethodName)) ∈ lw_tbl := lw_at lw_m3 224 rfl
theorem q813 : (Jvm.Cond.instanceMethod ({ cls := "TwoHalves$HeadReader", name := "kinds", desc := "(I)I" } : Jvm.MethodName)) ∈ lw_all := lw_g (lw_at lw_m3 225 rfl) rfl
theorem q814 : (Jvm.Cond.code ({ cls := "TwoHalves$HeadReader", name := "kinds", desc := "(I)I" } : Jvm.MethodName) prog_11_method_8_code (4 : Nat) (Option.some Jvm.ClassFile.FieldType.int)) ∈ lw_all := lw_g (lw_at lw_m3 226 rfl) rfl
theorem q815 : (Jvm.Cond.methodLink "TwoHalves$HeadReader" (62 : Nat) ({ cls := "TwoHalves$HeadReader", name := "way", desc := "()V" } : Jvm.MethodName)) ∈ lw_all := lw_g (lw_at lw_m3 227 rfl) rfl
theorem q816 : (Jvm.Cond.privateMethod ({ cls := "TwoHalves$HeadReader", name := "way", desc := "()V" } : Jvm.MethodName)) ∈ lw_tbl := lw_at lw_m3 228 rfl
theorem q817 : (Jvm.Cond.instanceMethod ({ cls := "TwoHalves$HeadReader", name := "way", desc := "()V" } : Jvm.MethodName)) ∈ lw_all := lw_g (lw_at lw_m3 229 rfl) rfl
theorem q818 : (Jvm.Cond.code ({ cls := "TwoHalves$HeadReader", name := "way", desc := "()V" } : Jvm.MethodName) prog_11_method_10_code (3 : Nat) (Option.none : Option Jvm.ClassFile.FieldType)) ∈ lw_all := lw_g (lw_at lw_m3 230 rfl) rfl
theorem q819 : (Jvm.Cond.classLink "TwoHalves$HeadReader" (124 : Nat) "TwoHalves$Way") ∈ lw_all := lw_g (lw_at lw_m3 231 rfl) rfl
theorem q821 : (Jvm.Cond.methodLink "TwoHalves$HeadReader" (126 : Nat) ({ cls := "TwoHalves$Way", name := "<init>", desc := "(JI)V" } : Jvm.MethodName)) ∈ lw_all := lw_g (lw_at lw_m3 233 rfl) rfl
theorem q829 : (Jvm.Cond.fieldLinkNest "TwoHalves$HeadReader" (127 : Nat) "TwoHalves$Way" "kinds" "I" "TwoHalves") ∈ lw_tbl := lw_at lw_m4 1 rfl
theorem q832 : (Jvm.Cond.fieldLinkNest "TwoHalves$HeadReader" (138 : Nat) "TwoHalves$Way" "ticks" "I" "TwoHalves") ∈ lw_tbl := lw_at lw_m4 4 rfl
theorem q835 : (Jvm.Cond.fieldLinkNest "TwoHalves$HeadReader" (148 : Nat) "TwoHalves$Way" "after" "I" "TwoHalves") ∈ lw_tbl := lw_at lw_m4 7 rfl
theorem q838 : (Jvm.Cond.fieldLinkNest "TwoHalves$HeadReader" (155 : Nat) "TwoHalves$Way" "flags" "I" "TwoHalves") ∈ lw_tbl := lw_at lw_m4 10 rfl
theorem q842 : (Jvm.Cond.fieldLinkNest "TwoHalves$HeadReader" (164 : Nat) "TwoHalves$Way" "state" "I" "TwoHalves") ∈ lw_tbl := lw_at lw_m4 14 rfl
theorem q844 : (Jvm.Cond.fieldLinkNest "TwoHalves$HeadReader" (172 : Nat) "TwoHalves$Way" "luck" "I" "TwoHalves") ∈ lw_tbl := lw_at lw_m4 16 rfl
theorem q847 : (Jvm.Cond.fieldLinkNest "TwoHalves$HeadReader" (143 : Nat) "TwoHalves$Way" "outer" "Z" "TwoHalves") ∈ lw_tbl := lw_at lw_m4 19 rfl
theorem q867 : (Jvm.Cond.stringRef "TwoHalves$HeadReader" (129 : Nat) "in") ∈ lw_tbl := lw_at lw_m4 39 rfl
theorem q868 : (Jvm.Cond.methodLink "TwoHalves$HeadReader" (131 : Nat) ({ cls := "TwoHalves$HeadReader", name := "is", desc := "(Ljava/lang/String;)Z" } : Jvm.MethodName)) ∈ lw_all := lw_g (lw_at lw_m4 40 rfl) rfl
theorem q869 : (Jvm.Cond.sameMethod "TwoHalves$HeadReader" "TwoHalves$Reader" "is" "(Ljava/lang/String;)Z") ∈ lw_all := lw_g (lw_at lw_m4 41 rfl) rfl
theorem q871 : (Jvm.Cond.selects "TwoHalves$HeadReader" ({ cls := "TwoHalves$HeadReader", name := "is", desc := "(Ljava/lang/String;)Z" } : Jvm.MethodName) ({ cls := "TwoHalves$Reader", name := "is", desc := "(Ljava/lang/String;)Z" } : Jvm.MethodName)) ∈ lw_all := lw_g (lw_at lw_m4 43 rfl) rfl
theorem q872 : (Jvm.Cond.methodLink "TwoHalves$HeadReader" (135 : Nat) ({ cls := "TwoHalves$HeadReader", name := "number", desc := "(II)I" } : Jvm.MethodName)) ∈ lw_all := lw_g (lw_at lw_m4 44 rfl) rfl
theorem q873 : (Jvm.Cond.sameMethod "TwoHalves$HeadReader" "TwoHalves$Reader" "number" "(II)I") ∈ lw_all := lw_g (lw_at lw_m4 45 rfl) rfl
theorem q875 : (Jvm.Cond.selects "TwoHalves$HeadReader" ({ cls := "TwoHalves$HeadReader", name := "number", desc := "(II)I" } : Jvm.MethodName) ({ cls := "TwoHalves$Reader", name := "number", desc := "(II)I" } : Jvm.MethodName)) ∈ lw_all := lw_g (lw_at lw_m4 47 rfl) rfl
theorem q880 : (Jvm.Cond.stringRef "TwoHalves$HeadReader" (141 : Nat) "outer") ∈ lw_tbl := lw_at lw_m4 52 rfl
theorem q881 : (Jvm.Cond.stringRef "TwoHalves$HeadReader" (146 : Nat) "after") ∈ lw_tbl := lw_at lw_m4 53 rfl
theorem q882 : (Jvm.Cond.stringRef "TwoHalves$HeadReader" (150 : Nat) "shut") ∈ lw_tbl := lw_at lw_m4 54 rfl
theorem q883 : (Jvm.Cond.methodLink "TwoHalves$HeadReader" (157 : Nat) ({ cls := "TwoHalves$HeadReader", name := "state", desc := "(LTwoHalves$Way;)V" } : Jvm.MethodName)) ∈ lw_all := lw_g (lw_at lw_m4 55 rfl) rfl
theorem q884 : (Jvm.Cond.privateMethod ({ cls := "TwoHalves$HeadReader", name := "state", desc := "(LTwoHalves$Way;)V" } : Jvm.MethodName)) ∈ lw_tbl := lw_at lw_m4 56 rfl
theorem q885 : (Jvm.Cond.instanceMethod ({ cls := "TwoHalves$HeadReader", name := "state", desc := "(LTwoHalves$Way;)V" } : Jvm.MethodName)) ∈ lw_all := lw_g (lw_at lw_m4 57 rfl) rfl
theorem q886 : (Jvm.Cond.code ({ cls := "TwoHalves$HeadReader", name := "state", desc := "(LTwoHalves$Way;)V" } : Jvm.MethodName) prog_11_method_11_code (2 : Nat) (Option.none : Option Jvm.ClassFile.FieldType)) ∈ lw_all := lw_g (lw_at lw_m4 58 rfl) rfl
theorem q887 : (Jvm.Cond.methodLink "TwoHalves$HeadReader" (65 : Nat) ({ cls := "TwoHalves$HeadReader", name := "sign", desc := "(I)V" } : Jvm.MethodName)) ∈ lw_all := lw_g (lw_at lw_m4 59 rfl) rfl
theorem q888 : (Jvm.Cond.sameMethod "TwoHalves$HeadReader" "TwoHalves$Reader" "sign" "(I)V") ∈ lw_all := lw_g (lw_at lw_m4 60 rfl) rfl
theorem q890 : (Jvm.Cond.selects "TwoHalves$HeadReader" ({ cls := "TwoHalves$HeadReader", name := "sign", desc := "(I)V" } : Jvm.MethodName) ({ cls := "TwoHalves$Reader", name := "sign", desc := "(I)V" } : Jvm.MethodName)) ∈ lw_all := lw_g (lw_at lw_m4 62 rfl) rfl
theorem q896 : (Jvm.Cond.selects "TwoHalves$HeadReader" ({ cls := "TwoHalves$Reader", name := "is", desc := "(I)Z" } : Jvm.MethodName) ({ cls := "TwoHalves$Reader", name := "is", desc := "(I)Z" } : Jvm.MethodName)) ∈ lw_all := lw_g (lw_at lw_m4 68 rfl) rfl
theorem q1961 : (Jvm.Cond.selects "TwoHalves$HeadReader" ({ cls := "TwoHalves$Reader", name := "find", desc := "([Ljava/lang/String;)I" } : Jvm.MethodName) ({ cls := "TwoHalves$Reader", name := "find", desc := "([Ljava/lang/String;)I" } : Jvm.MethodName)) ∈ lw_all := lw_g (lw_at lw_m8 173 rfl) rfl
theorem q1964 : (Jvm.Cond.selects "TwoHalves$HeadReader" ({ cls := "TwoHalves$Reader", name := "must", desc := "(ZI)V" } : Jvm.MethodName) ({ cls := "TwoHalves$Reader", name := "must", desc := "(ZI)V" } : Jvm.MethodName)) ∈ lw_all := lw_g (lw_at lw_m8 176 rfl) rfl
theorem q1967 : (Jvm.Cond.selects "TwoHalves$HeadReader" ({ cls := "TwoHalves$Reader", name := "next", desc := "()V" } : Jvm.MethodName) ({ cls := "TwoHalves$Reader", name := "next", desc := "()V" } : Jvm.MethodName)) ∈ lw_all := lw_g (lw_at lw_m8 179 rfl) rfl
theorem q1972 : (Jvm.Cond.castable "TwoHalves$HeadReader" "java/lang/Object") ∈ lw_tbl := lw_at lw_m8 184 rfl
theorem in_X4 : ∀ w ∈ wsX40, w ∈ lw_all := lw_in wsX40 [283, 285, 287, 289, 291, 293, 295, 297, 279, 281] (by decide +kernel) (by decide +kernel)
/-! TwoHalves$State -/
set_option maxRecDepth 100000
def RX5 : String := "TwoHalves$State"
def TX5 : u_T := fun k => match k with
  | 0 => ("TwoHalves$State", "head", "LTwoHalves$Head;", false)
  | 1 => ("TwoHalves$State", "world", "I", false)
  | 2 => ("TwoHalves$State", "years", "I", false)
  | 3 => ("TwoHalves$State", "probeMany", "I", false)
  | 4 => ("TwoHalves$State", "books", "[LTwoHalves$Book;", true)
  | 5 => ("TwoHalves$State", "probes", "[LTwoHalves$Showing;", true)
  | _ => ("TwoHalves$State", "sentence", "LTwoHalves$Cond;", false)
def tyX5 : Nat → FieldType := fun k => match k with
  | 0 => .object "TwoHalves$Head"
  | 1 => .int
  | 2 => .int
  | 3 => .int
  | 4 => .array (.object "TwoHalves$Book")
  | 5 => .array (.object "TwoHalves$Showing")
  | _ => .object "TwoHalves$Cond"
abbrev wsX50 : List Cond := u_ws RX5 TX5 7
theorem nmX5 : ∀ a, a < 7 → ∀ b, b < 7 → a ≠ b → (TX5 a).2.1 ≠ (TX5 b).2.1 := by decide +kernel
theorem tyX5_ok : ∀ k, k < 7 → parseFieldDescriptor (TX5 k).2.2.1 = some (tyX5 k) := by decide +kernel
abbrev cX5_init : ByteArray := prog_20_method_1_code
def yX5_init : MethodName := ⟨RX5, "<init>", "()V"⟩
def dkwX5_init_2 : List UInt8 := [187, 0, 18, 89, 183, 0, 30, 83, 132, 1, 1, 167, 255, 234, 177]
abbrev dktX5_init_2 : List UInt8 := dkwX5_init_2 ++ []
def dkwX5_init_1 : List UInt8 := [42, 16, 16, 189, 0, 24, 181, 0, 26, 3, 60, 27, 16, 6, 162, 0, 22, 42, 180, 0, 20, 27]
abbrev dktX5_init_1 : List UInt8 := dkwX5_init_1 ++ dktX5_init_2
def dkwX5_init_0 : List UInt8 := [42, 183, 0, 3, 42, 187, 0, 9, 89, 183, 0, 11, 181, 0, 12, 42, 16, 6, 189, 0, 18, 181, 0, 20]
abbrev dktX5_init_0 : List UInt8 := dkwX5_init_0 ++ dktX5_init_1
theorem dksX5_init_0 : cX5_init.data.toList.drop 0 = dktX5_init_0 := by decide +kernel
theorem dksX5_init_1 : cX5_init.data.toList.drop 24 = dktX5_init_1 := dk_seg dksX5_init_0 24 rfl rfl
theorem dksX5_init_2 : cX5_init.data.toList.drop 46 = dktX5_init_2 := dk_seg dksX5_init_1 22 rfl rfl
theorem dX5_init_0 : decode cX5_init 0 = .ok (.aload_n 0, 1) := dk_42 (dk_at dksX5_init_0 0 rfl rfl)
theorem dX5_init_1 : decode cX5_init 1 = .ok (.invokespecial 3, 3) := dk_183 0 3 (dk_at dksX5_init_0 1 rfl rfl)
theorem dX5_init_4 : decode cX5_init 4 = .ok (.aload_n 0, 1) := dk_42 (dk_at dksX5_init_0 4 rfl rfl)
theorem dX5_init_5 : decode cX5_init 5 = .ok (.new 9, 3) := dk_187 0 9 (dk_at dksX5_init_0 5 rfl rfl)
theorem dX5_init_8 : decode cX5_init 8 = .ok (.dup, 1) := dk_89 (dk_at dksX5_init_0 8 rfl rfl)
theorem dX5_init_9 : decode cX5_init 9 = .ok (.invokespecial 11, 3) := dk_183 0 11 (dk_at dksX5_init_0 9 rfl rfl)
theorem dX5_init_12 : decode cX5_init 12 = .ok (.putfield 12, 3) := dk_181 0 12 (dk_at dksX5_init_0 12 rfl rfl)
theorem dX5_init_15 : decode cX5_init 15 = .ok (.aload_n 0, 1) := dk_42 (dk_at dksX5_init_0 15 rfl rfl)
theorem dX5_init_16 : decode cX5_init 16 = .ok (.bipush 6, 2) := dk_16 6 (dk_at dksX5_init_0 16 rfl rfl)
theorem dX5_init_18 : decode cX5_init 18 = .ok (.anewarray 18, 3) := dk_189 0 18 (dk_at dksX5_init_0 18 rfl rfl)
theorem dX5_init_21 : decode cX5_init 21 = .ok (.putfield 20, 3) := dk_181 0 20 (dk_at dksX5_init_0 21 rfl rfl)
theorem dX5_init_24 : decode cX5_init 24 = .ok (.aload_n 0, 1) := dk_42 (dk_at dksX5_init_1 0 rfl rfl)
theorem dX5_init_25 : decode cX5_init 25 = .ok (.bipush 16, 2) := dk_16 16 (dk_at dksX5_init_1 1 rfl rfl)
theorem dX5_init_27 : decode cX5_init 27 = .ok (.anewarray 24, 3) := dk_189 0 24 (dk_at dksX5_init_1 3 rfl rfl)
theorem dX5_init_30 : decode cX5_init 30 = .ok (.putfield 26, 3) := dk_181 0 26 (dk_at dksX5_init_1 6 rfl rfl)
theorem dX5_init_33 : decode cX5_init 33 = .ok (.iconst 0, 1) := dk_3 (dk_at dksX5_init_1 9 rfl rfl)
theorem dX5_init_34 : decode cX5_init 34 = .ok (.istore_n 1, 1) := dk_60 (dk_at dksX5_init_1 10 rfl rfl)
theorem dX5_init_35 : decode cX5_init 35 = .ok (.iload_n 1, 1) := dk_27 (dk_at dksX5_init_1 11 rfl rfl)
theorem dX5_init_36 : decode cX5_init 36 = .ok (.bipush 6, 2) := dk_16 6 (dk_at dksX5_init_1 12 rfl rfl)
theorem dX5_init_38 : decode cX5_init 38 = .ok (.if_icmp .ge 22, 3) := dk_162 0 22 (dk_at dksX5_init_1 14 rfl rfl)
theorem dX5_init_41 : decode cX5_init 41 = .ok (.aload_n 0, 1) := dk_42 (dk_at dksX5_init_1 17 rfl rfl)
theorem dX5_init_42 : decode cX5_init 42 = .ok (.getfield 20, 3) := dk_180 0 20 (dk_at dksX5_init_1 18 rfl rfl)
theorem dX5_init_45 : decode cX5_init 45 = .ok (.iload_n 1, 1) := dk_27 (dk_at dksX5_init_1 21 rfl rfl)
theorem dX5_init_46 : decode cX5_init 46 = .ok (.new 18, 3) := dk_187 0 18 (dk_at dksX5_init_2 0 rfl rfl)
theorem dX5_init_49 : decode cX5_init 49 = .ok (.dup, 1) := dk_89 (dk_at dksX5_init_2 3 rfl rfl)
theorem dX5_init_50 : decode cX5_init 50 = .ok (.invokespecial 30, 3) := dk_183 0 30 (dk_at dksX5_init_2 4 rfl rfl)
theorem dX5_init_53 : decode cX5_init 53 = .ok (.aastore, 1) := dk_83 (dk_at dksX5_init_2 7 rfl rfl)
theorem dX5_init_54 : decode cX5_init 54 = .ok (.iinc 1 1, 3) := dk_132 1 1 (dk_at dksX5_init_2 8 rfl rfl)
theorem dX5_init_57 : decode cX5_init 57 = .ok (.goto (-22), 3) := dk_167 255 234 (dk_at dksX5_init_2 11 rfl rfl)
theorem dX5_init_60 : decode cX5_init 60 = .ok (.return_, 1) := dk_177 (dk_at dksX5_init_2 14 rfl rfl)
abbrev cX5_empty : ByteArray := prog_20_method_3_code
def yX5_empty : MethodName := ⟨RX5, "empty", "()V"⟩
def dkwX5_empty_1 : List UInt8 := [62, 29, 28, 162, 0, 20, 43, 29, 50, 58, 4, 25, 4, 3, 181, 0, 51, 132, 3, 1, 167, 255, 237, 177]
abbrev dktX5_empty_1 : List UInt8 := dkwX5_empty_1 ++ []
def dkwX5_empty_0 : List UInt8 := [42, 3, 181, 0, 31, 42, 3, 181, 0, 38, 42, 1, 181, 0, 41, 42, 180, 0, 20, 76, 43, 190, 61, 3]
abbrev dktX5_empty_0 : List UInt8 := dkwX5_empty_0 ++ dktX5_empty_1
theorem dksX5_empty_0 : cX5_empty.data.toList.drop 0 = dktX5_empty_0 := by decide +kernel
theorem dksX5_empty_1 : cX5_empty.data.toList.drop 24 = dktX5_empty_1 := dk_seg dksX5_empty_0 24 rfl rfl
theorem dX5_empty_0 : decode cX5_empty 0 = .ok (.aload_n 0, 1) := dk_42 (dk_at dksX5_empty_0 0 rfl rfl)
theorem dX5_empty_1 : decode cX5_empty 1 = .ok (.iconst 0, 1) := dk_3 (dk_at dksX5_empty_0 1 rfl rfl)
theorem dX5_empty_2 : decode cX5_empty 2 = .ok (.putfield 31, 3) := dk_181 0 31 (dk_at dksX5_empty_0 2 rfl rfl)
theorem dX5_empty_5 : decode cX5_empty 5 = .ok (.aload_n 0, 1) := dk_42 (dk_at dksX5_empty_0 5 rfl rfl)
theorem dX5_empty_6 : decode cX5_empty 6 = .ok (.iconst 0, 1) := dk_3 (dk_at dksX5_empty_0 6 rfl rfl)
theorem dX5_empty_7 : decode cX5_empty 7 = .ok (.putfield 38, 3) := dk_181 0 38 (dk_at dksX5_empty_0 7 rfl rfl)
theorem dX5_empty_10 : decode cX5_empty 10 = .ok (.aload_n 0, 1) := dk_42 (dk_at dksX5_empty_0 10 rfl rfl)
theorem dX5_empty_11 : decode cX5_empty 11 = .ok (.aconst_null, 1) := dk_1 (dk_at dksX5_empty_0 11 rfl rfl)
theorem dX5_empty_12 : decode cX5_empty 12 = .ok (.putfield 41, 3) := dk_181 0 41 (dk_at dksX5_empty_0 12 rfl rfl)
theorem dX5_empty_15 : decode cX5_empty 15 = .ok (.aload_n 0, 1) := dk_42 (dk_at dksX5_empty_0 15 rfl rfl)
theorem dX5_empty_16 : decode cX5_empty 16 = .ok (.getfield 20, 3) := dk_180 0 20 (dk_at dksX5_empty_0 16 rfl rfl)
theorem dX5_empty_19 : decode cX5_empty 19 = .ok (.astore_n 1, 1) := dk_76 (dk_at dksX5_empty_0 19 rfl rfl)
theorem dX5_empty_20 : decode cX5_empty 20 = .ok (.aload_n 1, 1) := dk_43 (dk_at dksX5_empty_0 20 rfl rfl)
theorem dX5_empty_21 : decode cX5_empty 21 = .ok (.arraylength, 1) := dk_190 (dk_at dksX5_empty_0 21 rfl rfl)
theorem dX5_empty_22 : decode cX5_empty 22 = .ok (.istore_n 2, 1) := dk_61 (dk_at dksX5_empty_0 22 rfl rfl)
theorem dX5_empty_23 : decode cX5_empty 23 = .ok (.iconst 0, 1) := dk_3 (dk_at dksX5_empty_0 23 rfl rfl)
theorem dX5_empty_24 : decode cX5_empty 24 = .ok (.istore_n 3, 1) := dk_62 (dk_at dksX5_empty_1 0 rfl rfl)
theorem dX5_empty_25 : decode cX5_empty 25 = .ok (.iload_n 3, 1) := dk_29 (dk_at dksX5_empty_1 1 rfl rfl)
theorem dX5_empty_26 : decode cX5_empty 26 = .ok (.iload_n 2, 1) := dk_28 (dk_at dksX5_empty_1 2 rfl rfl)
theorem dX5_empty_27 : decode cX5_empty 27 = .ok (.if_icmp .ge 20, 3) := dk_162 0 20 (dk_at dksX5_empty_1 3 rfl rfl)
theorem dX5_empty_30 : decode cX5_empty 30 = .ok (.aload_n 1, 1) := dk_43 (dk_at dksX5_empty_1 6 rfl rfl)
theorem dX5_empty_31 : decode cX5_empty 31 = .ok (.iload_n 3, 1) := dk_29 (dk_at dksX5_empty_1 7 rfl rfl)
theorem dX5_empty_32 : decode cX5_empty 32 = .ok (.aaload, 1) := dk_50 (dk_at dksX5_empty_1 8 rfl rfl)
theorem dX5_empty_33 : decode cX5_empty 33 = .ok (.astore 4, 2) := dk_58 4 (dk_at dksX5_empty_1 9 rfl rfl)
theorem dX5_empty_35 : decode cX5_empty 35 = .ok (.aload 4, 2) := dk_25 4 (dk_at dksX5_empty_1 11 rfl rfl)
theorem dX5_empty_37 : decode cX5_empty 37 = .ok (.iconst 0, 1) := dk_3 (dk_at dksX5_empty_1 13 rfl rfl)
theorem dX5_empty_38 : decode cX5_empty 38 = .ok (.putfield 51, 3) := dk_181 0 51 (dk_at dksX5_empty_1 14 rfl rfl)
theorem dX5_empty_41 : decode cX5_empty 41 = .ok (.iinc 3 1, 3) := dk_132 3 1 (dk_at dksX5_empty_1 17 rfl rfl)
theorem dX5_empty_44 : decode cX5_empty 44 = .ok (.goto (-19), 3) := dk_167 255 237 (dk_at dksX5_empty_1 20 rfl rfl)
theorem dX5_empty_47 : decode cX5_empty 47 = .ok (.return_, 1) := dk_177 (dk_at dksX5_empty_1 23 rfl rfl)
abbrev cX5_be : ByteArray := prog_20_method_2_code
def yX5_be : MethodName := ⟨RX5, "be", "(LTwoHalves$State;)V"⟩
def dkwX5_be_4 : List UInt8 := [180, 0, 20, 28, 50, 180, 0, 54, 3, 16, 40, 184, 0, 45, 132, 2, 1, 167, 255, 204, 177]
abbrev dktX5_be_4 : List UInt8 := dkwX5_be_4 ++ []
def dkwX5_be_3 : List UInt8 := [180, 0, 20, 28, 50, 180, 0, 51, 181, 0, 51, 43, 180, 0, 20, 28, 50, 180, 0, 54, 3, 42]
abbrev dktX5_be_3 : List UInt8 := dkwX5_be_3 ++ dktX5_be_4
def dkwX5_be_2 : List UInt8 := [180, 0, 26, 3, 16, 16, 184, 0, 45, 3, 61, 28, 16, 6, 162, 0, 52, 42, 180, 0, 20, 28, 50, 43]
abbrev dktX5_be_2 : List UInt8 := dkwX5_be_2 ++ dktX5_be_3
def dkwX5_be_1 : List UInt8 := [42, 43, 180, 0, 38, 181, 0, 38, 42, 43, 180, 0, 41, 181, 0, 41, 43, 180, 0, 26, 3, 42]
abbrev dktX5_be_1 : List UInt8 := dkwX5_be_1 ++ dktX5_be_2
def dkwX5_be_0 : List UInt8 := [42, 43, 180, 0, 12, 181, 0, 12, 42, 43, 180, 0, 31, 181, 0, 31, 42, 43, 180, 0, 35, 181, 0, 35]
abbrev dktX5_be_0 : List UInt8 := dkwX5_be_0 ++ dktX5_be_1
theorem dksX5_be_0 : cX5_be.data.toList.drop 0 = dktX5_be_0 := by decide +kernel
theorem dksX5_be_1 : cX5_be.data.toList.drop 24 = dktX5_be_1 := dk_seg dksX5_be_0 24 rfl rfl
theorem dksX5_be_2 : cX5_be.data.toList.drop 46 = dktX5_be_2 := dk_seg dksX5_be_1 22 rfl rfl
theorem dksX5_be_3 : cX5_be.data.toList.drop 70 = dktX5_be_3 := dk_seg dksX5_be_2 24 rfl rfl
theorem dksX5_be_4 : cX5_be.data.toList.drop 92 = dktX5_be_4 := dk_seg dksX5_be_3 22 rfl rfl
theorem dX5_be_0 : decode cX5_be 0 = .ok (.aload_n 0, 1) := dk_42 (dk_at dksX5_be_0 0 rfl rfl)
theorem dX5_be_1 : decode cX5_be 1 = .ok (.aload_n 1, 1) := dk_43 (dk_at dksX5_be_0 1 rfl rfl)
theorem dX5_be_2 : decode cX5_be 2 = .ok (.getfield 12, 3) := dk_180 0 12 (dk_at dksX5_be_0 2 rfl rfl)
theorem dX5_be_5 : decode cX5_be 5 = .ok (.putfield 12, 3) := dk_181 0 12 (dk_at dksX5_be_0 5 rfl rfl)
theorem dX5_be_8 : decode cX5_be 8 = .ok (.aload_n 0, 1) := dk_42 (dk_at dksX5_be_0 8 rfl rfl)
theorem dX5_be_9 : decode cX5_be 9 = .ok (.aload_n 1, 1) := dk_43 (dk_at dksX5_be_0 9 rfl rfl)
theorem dX5_be_10 : decode cX5_be 10 = .ok (.getfield 31, 3) := dk_180 0 31 (dk_at dksX5_be_0 10 rfl rfl)
theorem dX5_be_13 : decode cX5_be 13 = .ok (.putfield 31, 3) := dk_181 0 31 (dk_at dksX5_be_0 13 rfl rfl)
theorem dX5_be_16 : decode cX5_be 16 = .ok (.aload_n 0, 1) := dk_42 (dk_at dksX5_be_0 16 rfl rfl)
theorem dX5_be_17 : decode cX5_be 17 = .ok (.aload_n 1, 1) := dk_43 (dk_at dksX5_be_0 17 rfl rfl)
theorem dX5_be_18 : decode cX5_be 18 = .ok (.getfield 35, 3) := dk_180 0 35 (dk_at dksX5_be_0 18 rfl rfl)
theorem dX5_be_21 : decode cX5_be 21 = .ok (.putfield 35, 3) := dk_181 0 35 (dk_at dksX5_be_0 21 rfl rfl)
theorem dX5_be_24 : decode cX5_be 24 = .ok (.aload_n 0, 1) := dk_42 (dk_at dksX5_be_1 0 rfl rfl)
theorem dX5_be_25 : decode cX5_be 25 = .ok (.aload_n 1, 1) := dk_43 (dk_at dksX5_be_1 1 rfl rfl)
theorem dX5_be_26 : decode cX5_be 26 = .ok (.getfield 38, 3) := dk_180 0 38 (dk_at dksX5_be_1 2 rfl rfl)
theorem dX5_be_29 : decode cX5_be 29 = .ok (.putfield 38, 3) := dk_181 0 38 (dk_at dksX5_be_1 5 rfl rfl)
theorem dX5_be_32 : decode cX5_be 32 = .ok (.aload_n 0, 1) := dk_42 (dk_at dksX5_be_1 8 rfl rfl)
theorem dX5_be_33 : decode cX5_be 33 = .ok (.aload_n 1, 1) := dk_43 (dk_at dksX5_be_1 9 rfl rfl)
theorem dX5_be_34 : decode cX5_be 34 = .ok (.getfield 41, 3) := dk_180 0 41 (dk_at dksX5_be_1 10 rfl rfl)
theorem dX5_be_37 : decode cX5_be 37 = .ok (.putfield 41, 3) := dk_181 0 41 (dk_at dksX5_be_1 13 rfl rfl)
theorem dX5_be_40 : decode cX5_be 40 = .ok (.aload_n 1, 1) := dk_43 (dk_at dksX5_be_1 16 rfl rfl)
theorem dX5_be_41 : decode cX5_be 41 = .ok (.getfield 26, 3) := dk_180 0 26 (dk_at dksX5_be_1 17 rfl rfl)
theorem dX5_be_44 : decode cX5_be 44 = .ok (.iconst 0, 1) := dk_3 (dk_at dksX5_be_1 20 rfl rfl)
theorem dX5_be_45 : decode cX5_be 45 = .ok (.aload_n 0, 1) := dk_42 (dk_at dksX5_be_1 21 rfl rfl)
theorem dX5_be_46 : decode cX5_be 46 = .ok (.getfield 26, 3) := dk_180 0 26 (dk_at dksX5_be_2 0 rfl rfl)
theorem dX5_be_49 : decode cX5_be 49 = .ok (.iconst 0, 1) := dk_3 (dk_at dksX5_be_2 3 rfl rfl)
theorem dX5_be_50 : decode cX5_be 50 = .ok (.bipush 16, 2) := dk_16 16 (dk_at dksX5_be_2 4 rfl rfl)
theorem dX5_be_52 : decode cX5_be 52 = .ok (.invokestatic 45, 3) := dk_184 0 45 (dk_at dksX5_be_2 6 rfl rfl)
theorem dX5_be_55 : decode cX5_be 55 = .ok (.iconst 0, 1) := dk_3 (dk_at dksX5_be_2 9 rfl rfl)
theorem dX5_be_56 : decode cX5_be 56 = .ok (.istore_n 2, 1) := dk_61 (dk_at dksX5_be_2 10 rfl rfl)
theorem dX5_be_57 : decode cX5_be 57 = .ok (.iload_n 2, 1) := dk_28 (dk_at dksX5_be_2 11 rfl rfl)
theorem dX5_be_58 : decode cX5_be 58 = .ok (.bipush 6, 2) := dk_16 6 (dk_at dksX5_be_2 12 rfl rfl)
theorem dX5_be_60 : decode cX5_be 60 = .ok (.if_icmp .ge 52, 3) := dk_162 0 52 (dk_at dksX5_be_2 14 rfl rfl)
theorem dX5_be_63 : decode cX5_be 63 = .ok (.aload_n 0, 1) := dk_42 (dk_at dksX5_be_2 17 rfl rfl)
theorem dX5_be_64 : decode cX5_be 64 = .ok (.getfield 20, 3) := dk_180 0 20 (dk_at dksX5_be_2 18 rfl rfl)
theorem dX5_be_67 : decode cX5_be 67 = .ok (.iload_n 2, 1) := dk_28 (dk_at dksX5_be_2 21 rfl rfl)
theorem dX5_be_68 : decode cX5_be 68 = .ok (.aaload, 1) := dk_50 (dk_at dksX5_be_2 22 rfl rfl)
theorem dX5_be_69 : decode cX5_be 69 = .ok (.aload_n 1, 1) := dk_43 (dk_at dksX5_be_2 23 rfl rfl)
theorem dX5_be_70 : decode cX5_be 70 = .ok (.getfield 20, 3) := dk_180 0 20 (dk_at dksX5_be_3 0 rfl rfl)
theorem dX5_be_73 : decode cX5_be 73 = .ok (.iload_n 2, 1) := dk_28 (dk_at dksX5_be_3 3 rfl rfl)
theorem dX5_be_74 : decode cX5_be 74 = .ok (.aaload, 1) := dk_50 (dk_at dksX5_be_3 4 rfl rfl)
theorem dX5_be_75 : decode cX5_be 75 = .ok (.getfield 51, 3) := dk_180 0 51 (dk_at dksX5_be_3 5 rfl rfl)
theorem dX5_be_78 : decode cX5_be 78 = .ok (.putfield 51, 3) := dk_181 0 51 (dk_at dksX5_be_3 8 rfl rfl)
theorem dX5_be_81 : decode cX5_be 81 = .ok (.aload_n 1, 1) := dk_43 (dk_at dksX5_be_3 11 rfl rfl)
theorem dX5_be_82 : decode cX5_be 82 = .ok (.getfield 20, 3) := dk_180 0 20 (dk_at dksX5_be_3 12 rfl rfl)
theorem dX5_be_85 : decode cX5_be 85 = .ok (.iload_n 2, 1) := dk_28 (dk_at dksX5_be_3 15 rfl rfl)
theorem dX5_be_86 : decode cX5_be 86 = .ok (.aaload, 1) := dk_50 (dk_at dksX5_be_3 16 rfl rfl)
theorem dX5_be_87 : decode cX5_be 87 = .ok (.getfield 54, 3) := dk_180 0 54 (dk_at dksX5_be_3 17 rfl rfl)
theorem dX5_be_90 : decode cX5_be 90 = .ok (.iconst 0, 1) := dk_3 (dk_at dksX5_be_3 20 rfl rfl)
theorem dX5_be_91 : decode cX5_be 91 = .ok (.aload_n 0, 1) := dk_42 (dk_at dksX5_be_3 21 rfl rfl)
theorem dX5_be_92 : decode cX5_be 92 = .ok (.getfield 20, 3) := dk_180 0 20 (dk_at dksX5_be_4 0 rfl rfl)
theorem dX5_be_95 : decode cX5_be 95 = .ok (.iload_n 2, 1) := dk_28 (dk_at dksX5_be_4 3 rfl rfl)
theorem dX5_be_96 : decode cX5_be 96 = .ok (.aaload, 1) := dk_50 (dk_at dksX5_be_4 4 rfl rfl)
theorem dX5_be_97 : decode cX5_be 97 = .ok (.getfield 54, 3) := dk_180 0 54 (dk_at dksX5_be_4 5 rfl rfl)
theorem dX5_be_100 : decode cX5_be 100 = .ok (.iconst 0, 1) := dk_3 (dk_at dksX5_be_4 8 rfl rfl)
theorem dX5_be_101 : decode cX5_be 101 = .ok (.bipush 40, 2) := dk_16 40 (dk_at dksX5_be_4 9 rfl rfl)
theorem dX5_be_103 : decode cX5_be 103 = .ok (.invokestatic 45, 3) := dk_184 0 45 (dk_at dksX5_be_4 11 rfl rfl)
theorem dX5_be_106 : decode cX5_be 106 = .ok (.iinc 2 1, 3) := dk_132 2 1 (dk_at dksX5_be_4 14 rfl rfl)
theorem dX5_be_109 : decode cX5_be 109 = .ok (.goto (-52), 3) := dk_167 255 204 (dk_at dksX5_be_4 17 rfl rfl)
theorem dX5_be_112 : decode cX5_be 112 = .ok (.return_, 1) := dk_177 (dk_at dksX5_be_4 20 rfl rfl)
theorem q115 : (Jvm.Cond.initialized "TwoHalves$State") ∈ lw_all := lw_g (lw_at lw_m1 7 rfl) rfl
theorem q301 : (Jvm.Cond.instantiable "TwoHalves$State" (7 : Nat)) ∈ lw_all := lw_g (lw_at lw_m1 193 rfl) rfl
theorem q303 : (Jvm.Cond.instanceMethod ({ cls := "TwoHalves$State", name := "<init>", desc := "()V" } : Jvm.MethodName)) ∈ lw_all := lw_g (lw_at lw_m1 195 rfl) rfl
theorem q304 : (Jvm.Cond.code ({ cls := "TwoHalves$State", name := "<init>", desc := "()V" } : Jvm.MethodName) prog_20_method_1_code (2 : Nat) (Option.none : Option Jvm.ClassFile.FieldType)) ∈ lw_all := lw_g (lw_at lw_m1 196 rfl) rfl
theorem q305 : (Jvm.Cond.methodLink "TwoHalves$State" (3 : Nat) ({ cls := "java/lang/Object", name := "<init>", desc := "()V" } : Jvm.MethodName)) ∈ lw_all := lw_g (lw_at lw_m1 197 rfl) rfl
theorem q306 : (Jvm.Cond.classLink "TwoHalves$State" (9 : Nat) "TwoHalves$Head") ∈ lw_all := lw_g (lw_at lw_m1 198 rfl) rfl
theorem q308 : (Jvm.Cond.methodLinkNest "TwoHalves$State" (11 : Nat) ({ cls := "TwoHalves$Head", name := "<init>", desc := "()V" } : Jvm.MethodName) "TwoHalves") ∈ lw_tbl := lw_at lw_m1 200 rfl
theorem q359 : (Jvm.Cond.classLink "TwoHalves$State" (18 : Nat) "TwoHalves$Book") ∈ lw_all := lw_g (lw_at lw_m2 11 rfl) rfl
theorem q361 : (Jvm.Cond.classLink "TwoHalves$State" (24 : Nat) "TwoHalves$Showing") ∈ lw_all := lw_g (lw_at lw_m2 13 rfl) rfl
theorem q364 : (Jvm.Cond.methodLinkNest "TwoHalves$State" (30 : Nat) ({ cls := "TwoHalves$Book", name := "<init>", desc := "()V" } : Jvm.MethodName) "TwoHalves") ∈ lw_tbl := lw_at lw_m2 16 rfl
theorem q371 : (Jvm.Cond.fieldLinkNest "TwoHalves$State" (54 : Nat) "TwoHalves$Book" "rows" "[LTwoHalves$Showing;" "TwoHalves") ∈ lw_tbl := lw_at lw_m2 23 rfl
theorem q374 : (Jvm.Cond.fieldLinkNest "TwoHalves$State" (51 : Nat) "TwoHalves$Book" "many" "I" "TwoHalves") ∈ lw_tbl := lw_at lw_m2 26 rfl
theorem q381 : (Jvm.Cond.fieldLink "TwoHalves$State" (12 : Nat) "TwoHalves$State" "head" "LTwoHalves$Head;") ∈ lw_all := lw_g (lw_at lw_m2 33 rfl) rfl
theorem q386 : (Jvm.Cond.fieldLink "TwoHalves$State" (31 : Nat) "TwoHalves$State" "world" "I") ∈ lw_all := lw_g (lw_at lw_m2 38 rfl) rfl
theorem q388 : (Jvm.Cond.fieldLink "TwoHalves$State" (35 : Nat) "TwoHalves$State" "years" "I") ∈ lw_all := lw_g (lw_at lw_m2 40 rfl) rfl
theorem q390 : (Jvm.Cond.fieldLink "TwoHalves$State" (38 : Nat) "TwoHalves$State" "probeMany" "I") ∈ lw_all := lw_g (lw_at lw_m2 42 rfl) rfl
theorem q392 : (Jvm.Cond.fieldLink "TwoHalves$State" (20 : Nat) "TwoHalves$State" "books" "[LTwoHalves$Book;") ∈ lw_all := lw_g (lw_at lw_m2 44 rfl) rfl
theorem q395 : (Jvm.Cond.fieldLink "TwoHalves$State" (26 : Nat) "TwoHalves$State" "probes" "[LTwoHalves$Showing;") ∈ lw_all := lw_g (lw_at lw_m2 47 rfl) rfl
theorem q397 : (Jvm.Cond.fieldLink "TwoHalves$State" (41 : Nat) "TwoHalves$State" "sentence" "LTwoHalves$Cond;") ∈ lw_all := lw_g (lw_at lw_m2 49 rfl) rfl
theorem q399 : (Jvm.Cond.lays "TwoHalves$State" "TwoHalves$State" "head" "LTwoHalves$Head;") ∈ lw_all := lw_g (lw_at lw_m2 51 rfl) rfl
theorem q400 : (Jvm.Cond.soleField "TwoHalves$State" "head") ∈ lw_all := lw_g (lw_at lw_m2 52 rfl) rfl
theorem q401 : (Jvm.Cond.lays "TwoHalves$State" "TwoHalves$State" "world" "I") ∈ lw_all := lw_g (lw_at lw_m2 53 rfl) rfl
theorem q402 : (Jvm.Cond.soleField "TwoHalves$State" "world") ∈ lw_all := lw_g (lw_at lw_m2 54 rfl) rfl
theorem q403 : (Jvm.Cond.lays "TwoHalves$State" "TwoHalves$State" "years" "I") ∈ lw_all := lw_g (lw_at lw_m2 55 rfl) rfl
theorem q404 : (Jvm.Cond.soleField "TwoHalves$State" "years") ∈ lw_all := lw_g (lw_at lw_m2 56 rfl) rfl
theorem q405 : (Jvm.Cond.lays "TwoHalves$State" "TwoHalves$State" "probeMany" "I") ∈ lw_all := lw_g (lw_at lw_m2 57 rfl) rfl
theorem q406 : (Jvm.Cond.soleField "TwoHalves$State" "probeMany") ∈ lw_all := lw_g (lw_at lw_m2 58 rfl) rfl
theorem q407 : (Jvm.Cond.laysFinal "TwoHalves$State" "TwoHalves$State" "books" "[LTwoHalves$Book;") ∈ lw_all := lw_g (lw_at lw_m2 59 rfl) rfl
theorem q408 : (Jvm.Cond.soleField "TwoHalves$State" "books") ∈ lw_all := lw_g (lw_at lw_m2 60 rfl) rfl
theorem q409 : (Jvm.Cond.laysFinal "TwoHalves$State" "TwoHalves$State" "probes" "[LTwoHalves$Showing;") ∈ lw_all := lw_g (lw_at lw_m2 61 rfl) rfl
theorem q410 : (Jvm.Cond.soleField "TwoHalves$State" "probes") ∈ lw_all := lw_g (lw_at lw_m2 62 rfl) rfl
theorem q411 : (Jvm.Cond.lays "TwoHalves$State" "TwoHalves$State" "sentence" "LTwoHalves$Cond;") ∈ lw_all := lw_g (lw_at lw_m2 63 rfl) rfl
theorem q412 : (Jvm.Cond.soleField "TwoHalves$State" "sentence") ∈ lw_all := lw_g (lw_at lw_m2 64 rfl) rfl
theorem q413 : (Jvm.Cond.superclass "TwoHalves$State" "java/lang/Object") ∈ lw_all := lw_g (lw_at lw_m2 65 rfl) rfl
theorem q900 : (Jvm.Cond.instanceMethod ({ cls := "TwoHalves$State", name := "empty", desc := "()V" } : Jvm.MethodName)) ∈ lw_all := lw_g (lw_at lw_m4 72 rfl) rfl
theorem q901 : (Jvm.Cond.selects "TwoHalves$State" ({ cls := "TwoHalves$State", name := "empty", desc := "()V" } : Jvm.MethodName) ({ cls := "TwoHalves$State", name := "empty", desc := "()V" } : Jvm.MethodName)) ∈ lw_all := lw_g (lw_at lw_m4 73 rfl) rfl
theorem q902 : (Jvm.Cond.code ({ cls := "TwoHalves$State", name := "empty", desc := "()V" } : Jvm.MethodName) prog_20_method_3_code (5 : Nat) (Option.none : Option Jvm.ClassFile.FieldType)) ∈ lw_all := lw_g (lw_at lw_m4 74 rfl) rfl
theorem q1315 : (Jvm.Cond.instanceMethod ({ cls := "TwoHalves$State", name := "be", desc := "(LTwoHalves$State;)V" } : Jvm.MethodName)) ∈ lw_all := lw_g (lw_at lw_m6 7 rfl) rfl
theorem q1316 : (Jvm.Cond.selects "TwoHalves$State" ({ cls := "TwoHalves$State", name := "be", desc := "(LTwoHalves$State;)V" } : Jvm.MethodName) ({ cls := "TwoHalves$State", name := "be", desc := "(LTwoHalves$State;)V" } : Jvm.MethodName)) ∈ lw_all := lw_g (lw_at lw_m6 8 rfl) rfl
theorem q1317 : (Jvm.Cond.code ({ cls := "TwoHalves$State", name := "be", desc := "(LTwoHalves$State;)V" } : Jvm.MethodName) prog_20_method_2_code (3 : Nat) (Option.none : Option Jvm.ClassFile.FieldType)) ∈ lw_all := lw_g (lw_at lw_m6 9 rfl) rfl
theorem q1318 : (Jvm.Cond.methodLink "TwoHalves$State" (45 : Nat) ({ cls := "java/lang/System", name := "arraycopy", desc := "(Ljava/lang/Object;ILjava/lang/Object;II)V" } : Jvm.MethodName)) ∈ lw_all := lw_g (lw_at lw_m6 10 rfl) rfl
theorem q1973 : (Jvm.Cond.castable "TwoHalves$State" "java/lang/Object") ∈ lw_tbl := lw_at lw_m8 185 rfl
theorem in_X5 : ∀ w ∈ wsX50, w ∈ lw_all := lw_in wsX50 [399, 401, 403, 405, 407, 409, 411] (by decide +kernel) (by decide +kernel)
/-! TwoHalves$Head -/
set_option maxRecDepth 100000
def RX6 : String := "TwoHalves$Head"
def TX6 : u_T := fun k => match k with
  | 0 => ("TwoHalves$Head", "things", "[LTwoHalves$Thing;", true)
  | 1 => ("TwoHalves$Head", "ways", "[LTwoHalves$Way;", true)
  | 2 => ("TwoHalves$Head", "says", "[I", true)
  | 3 => ("TwoHalves$Head", "thingMany", "I", false)
  | 4 => ("TwoHalves$Head", "wayMany", "I", false)
  | 5 => ("TwoHalves$Head", "suitMany", "I", false)
  | 6 => ("TwoHalves$Head", "maybes", "I", false)
  | _ => ("TwoHalves$Head", "weaks", "I", false)
def tyX6 : Nat → FieldType := fun k => match k with
  | 0 => .array (.object "TwoHalves$Thing")
  | 1 => .array (.object "TwoHalves$Way")
  | 2 => .array .int
  | 3 => .int
  | 4 => .int
  | 5 => .int
  | 6 => .int
  | _ => .int
abbrev wsX60 : List Cond := u_ws RX6 TX6 8
theorem nmX6 : ∀ a, a < 8 → ∀ b, b < 8 → a ≠ b → (TX6 a).2.1 ≠ (TX6 b).2.1 := by decide +kernel
theorem tyX6_ok : ∀ k, k < 8 → parseFieldDescriptor (TX6 k).2.2.1 = some (tyX6 k) := by decide +kernel
abbrev cX6_init : ByteArray := prog_10_method_1_code
def yX6_init : MethodName := ⟨RX6, "<init>", "()V"⟩
def dkwX6_init_1 : List UInt8 := [188, 10, 89, 3, 2, 79, 89, 4, 2, 79, 181, 0, 23, 177]
abbrev dktX6_init_1 : List UInt8 := dkwX6_init_1 ++ []
def dkwX6_init_0 : List UInt8 := [42, 183, 0, 3, 42, 16, 16, 189, 0, 9, 181, 0, 11, 42, 16, 12, 189, 0, 17, 181, 0, 19, 42, 5]
abbrev dktX6_init_0 : List UInt8 := dkwX6_init_0 ++ dktX6_init_1
theorem dksX6_init_0 : cX6_init.data.toList.drop 0 = dktX6_init_0 := by decide +kernel
theorem dksX6_init_1 : cX6_init.data.toList.drop 24 = dktX6_init_1 := dk_seg dksX6_init_0 24 rfl rfl
theorem dX6_init_0 : decode cX6_init 0 = .ok (.aload_n 0, 1) := dk_42 (dk_at dksX6_init_0 0 rfl rfl)
theorem dX6_init_1 : decode cX6_init 1 = .ok (.invokespecial 3, 3) := dk_183 0 3 (dk_at dksX6_init_0 1 rfl rfl)
theorem dX6_init_4 : decode cX6_init 4 = .ok (.aload_n 0, 1) := dk_42 (dk_at dksX6_init_0 4 rfl rfl)
theorem dX6_init_5 : decode cX6_init 5 = .ok (.bipush 16, 2) := dk_16 16 (dk_at dksX6_init_0 5 rfl rfl)
theorem dX6_init_7 : decode cX6_init 7 = .ok (.anewarray 9, 3) := dk_189 0 9 (dk_at dksX6_init_0 7 rfl rfl)
theorem dX6_init_10 : decode cX6_init 10 = .ok (.putfield 11, 3) := dk_181 0 11 (dk_at dksX6_init_0 10 rfl rfl)
theorem dX6_init_13 : decode cX6_init 13 = .ok (.aload_n 0, 1) := dk_42 (dk_at dksX6_init_0 13 rfl rfl)
theorem dX6_init_14 : decode cX6_init 14 = .ok (.bipush 12, 2) := dk_16 12 (dk_at dksX6_init_0 14 rfl rfl)
theorem dX6_init_16 : decode cX6_init 16 = .ok (.anewarray 17, 3) := dk_189 0 17 (dk_at dksX6_init_0 16 rfl rfl)
theorem dX6_init_19 : decode cX6_init 19 = .ok (.putfield 19, 3) := dk_181 0 19 (dk_at dksX6_init_0 19 rfl rfl)
theorem dX6_init_22 : decode cX6_init 22 = .ok (.aload_n 0, 1) := dk_42 (dk_at dksX6_init_0 22 rfl rfl)
theorem dX6_init_23 : decode cX6_init 23 = .ok (.iconst 2, 1) := dk_5 (dk_at dksX6_init_0 23 rfl rfl)
theorem dX6_init_24 : decode cX6_init 24 = .ok (.newarray .int, 2) := dk_188_10 (dk_at dksX6_init_1 0 rfl rfl)
theorem dX6_init_26 : decode cX6_init 26 = .ok (.dup, 1) := dk_89 (dk_at dksX6_init_1 2 rfl rfl)
theorem dX6_init_27 : decode cX6_init 27 = .ok (.iconst 0, 1) := dk_3 (dk_at dksX6_init_1 3 rfl rfl)
theorem dX6_init_28 : decode cX6_init 28 = .ok (.iconst (-1), 1) := dk_2 (dk_at dksX6_init_1 4 rfl rfl)
theorem dX6_init_29 : decode cX6_init 29 = .ok (.iastore, 1) := dk_79 (dk_at dksX6_init_1 5 rfl rfl)
theorem dX6_init_30 : decode cX6_init 30 = .ok (.dup, 1) := dk_89 (dk_at dksX6_init_1 6 rfl rfl)
theorem dX6_init_31 : decode cX6_init 31 = .ok (.iconst 1, 1) := dk_4 (dk_at dksX6_init_1 7 rfl rfl)
theorem dX6_init_32 : decode cX6_init 32 = .ok (.iconst (-1), 1) := dk_2 (dk_at dksX6_init_1 8 rfl rfl)
theorem dX6_init_33 : decode cX6_init 33 = .ok (.iastore, 1) := dk_79 (dk_at dksX6_init_1 9 rfl rfl)
theorem dX6_init_34 : decode cX6_init 34 = .ok (.putfield 23, 3) := dk_181 0 23 (dk_at dksX6_init_1 10 rfl rfl)
theorem dX6_init_37 : decode cX6_init 37 = .ok (.return_, 1) := dk_177 (dk_at dksX6_init_1 13 rfl rfl)
abbrev cX6_of : ByteArray := prog_10_method_3_code
def yX6_of : MethodName := ⟨RX6, "of", "(I)I"⟩
def dkwX6_of_1 : List UInt8 := [160, 0, 9, 4, 29, 120, 167, 0, 4, 3, 128, 61, 132, 3, 1, 167, 255, 222, 28, 172]
abbrev dktX6_of_1 : List UInt8 := dkwX6_of_1 ++ []
def dkwX6_of_0 : List UInt8 := [3, 61, 3, 62, 29, 42, 180, 0, 31, 162, 0, 32, 28, 42, 180, 0, 19, 29, 50, 180, 0, 34, 27]
abbrev dktX6_of_0 : List UInt8 := dkwX6_of_0 ++ dktX6_of_1
theorem dksX6_of_0 : cX6_of.data.toList.drop 0 = dktX6_of_0 := by decide +kernel
theorem dksX6_of_1 : cX6_of.data.toList.drop 23 = dktX6_of_1 := dk_seg dksX6_of_0 23 rfl rfl
theorem dX6_of_0 : decode cX6_of 0 = .ok (.iconst 0, 1) := dk_3 (dk_at dksX6_of_0 0 rfl rfl)
theorem dX6_of_1 : decode cX6_of 1 = .ok (.istore_n 2, 1) := dk_61 (dk_at dksX6_of_0 1 rfl rfl)
theorem dX6_of_2 : decode cX6_of 2 = .ok (.iconst 0, 1) := dk_3 (dk_at dksX6_of_0 2 rfl rfl)
theorem dX6_of_3 : decode cX6_of 3 = .ok (.istore_n 3, 1) := dk_62 (dk_at dksX6_of_0 3 rfl rfl)
theorem dX6_of_4 : decode cX6_of 4 = .ok (.iload_n 3, 1) := dk_29 (dk_at dksX6_of_0 4 rfl rfl)
theorem dX6_of_5 : decode cX6_of 5 = .ok (.aload_n 0, 1) := dk_42 (dk_at dksX6_of_0 5 rfl rfl)
theorem dX6_of_6 : decode cX6_of 6 = .ok (.getfield 31, 3) := dk_180 0 31 (dk_at dksX6_of_0 6 rfl rfl)
theorem dX6_of_9 : decode cX6_of 9 = .ok (.if_icmp .ge 32, 3) := dk_162 0 32 (dk_at dksX6_of_0 9 rfl rfl)
theorem dX6_of_12 : decode cX6_of 12 = .ok (.iload_n 2, 1) := dk_28 (dk_at dksX6_of_0 12 rfl rfl)
theorem dX6_of_13 : decode cX6_of 13 = .ok (.aload_n 0, 1) := dk_42 (dk_at dksX6_of_0 13 rfl rfl)
theorem dX6_of_14 : decode cX6_of 14 = .ok (.getfield 19, 3) := dk_180 0 19 (dk_at dksX6_of_0 14 rfl rfl)
theorem dX6_of_17 : decode cX6_of 17 = .ok (.iload_n 3, 1) := dk_29 (dk_at dksX6_of_0 17 rfl rfl)
theorem dX6_of_18 : decode cX6_of 18 = .ok (.aaload, 1) := dk_50 (dk_at dksX6_of_0 18 rfl rfl)
theorem dX6_of_19 : decode cX6_of 19 = .ok (.getfield 34, 3) := dk_180 0 34 (dk_at dksX6_of_0 19 rfl rfl)
theorem dX6_of_22 : decode cX6_of 22 = .ok (.iload_n 1, 1) := dk_27 (dk_at dksX6_of_0 22 rfl rfl)
theorem dX6_of_23 : decode cX6_of 23 = .ok (.if_icmp .ne 9, 3) := dk_160 0 9 (dk_at dksX6_of_1 0 rfl rfl)
theorem dX6_of_26 : decode cX6_of 26 = .ok (.iconst 1, 1) := dk_4 (dk_at dksX6_of_1 3 rfl rfl)
theorem dX6_of_27 : decode cX6_of 27 = .ok (.iload_n 3, 1) := dk_29 (dk_at dksX6_of_1 4 rfl rfl)
theorem dX6_of_28 : decode cX6_of 28 = .ok (.ishl, 1) := dk_120 (dk_at dksX6_of_1 5 rfl rfl)
theorem dX6_of_29 : decode cX6_of 29 = .ok (.goto 4, 3) := dk_167 0 4 (dk_at dksX6_of_1 6 rfl rfl)
theorem dX6_of_32 : decode cX6_of 32 = .ok (.iconst 0, 1) := dk_3 (dk_at dksX6_of_1 9 rfl rfl)
theorem dX6_of_33 : decode cX6_of 33 = .ok (.ior, 1) := dk_128 (dk_at dksX6_of_1 10 rfl rfl)
theorem dX6_of_34 : decode cX6_of 34 = .ok (.istore_n 2, 1) := dk_61 (dk_at dksX6_of_1 11 rfl rfl)
theorem dX6_of_35 : decode cX6_of 35 = .ok (.iinc 3 1, 3) := dk_132 3 1 (dk_at dksX6_of_1 12 rfl rfl)
theorem dX6_of_38 : decode cX6_of 38 = .ok (.goto (-34), 3) := dk_167 255 222 (dk_at dksX6_of_1 15 rfl rfl)
theorem dX6_of_41 : decode cX6_of 41 = .ok (.iload_n 2, 1) := dk_28 (dk_at dksX6_of_1 18 rfl rfl)
theorem dX6_of_42 : decode cX6_of 42 = .ok (.ireturn, 1) := dk_172 (dk_at dksX6_of_1 19 rfl rfl)
abbrev cX6_canSay : ByteArray := prog_10_method_2_code
def yX6_canSay : MethodName := ⟨RX6, "canSay", "(II)Z"⟩
def dkwX6_canSay_2 : List UInt8 := [167, 0, 4, 3, 172]
abbrev dktX6_canSay_2 : List UInt8 := dkwX6_canSay_2 ++ []
def dkwX6_canSay_1 : List UInt8 := [180, 0, 23, 27, 46, 42, 180, 0, 11, 28, 50, 180, 0, 27, 122, 4, 126, 4, 160, 0, 7, 4]
abbrev dktX6_canSay_1 : List UInt8 := dkwX6_canSay_1 ++ dktX6_canSay_2
def dkwX6_canSay_0 : List UInt8 := [42, 180, 0, 23, 27, 46, 2, 160, 0, 15, 27, 154, 0, 7, 4, 167, 0, 34, 3, 167, 0, 30, 42]
abbrev dktX6_canSay_0 : List UInt8 := dkwX6_canSay_0 ++ dktX6_canSay_1
theorem dksX6_canSay_0 : cX6_canSay.data.toList.drop 0 = dktX6_canSay_0 := by decide +kernel
theorem dksX6_canSay_1 : cX6_canSay.data.toList.drop 23 = dktX6_canSay_1 := dk_seg dksX6_canSay_0 23 rfl rfl
theorem dksX6_canSay_2 : cX6_canSay.data.toList.drop 45 = dktX6_canSay_2 := dk_seg dksX6_canSay_1 22 rfl rfl
theorem dX6_canSay_0 : decode cX6_canSay 0 = .ok (.aload_n 0, 1) := dk_42 (dk_at dksX6_canSay_0 0 rfl rfl)
theorem dX6_canSay_1 : decode cX6_canSay 1 = .ok (.getfield 23, 3) := dk_180 0 23 (dk_at dksX6_canSay_0 1 rfl rfl)
theorem dX6_canSay_4 : decode cX6_canSay 4 = .ok (.iload_n 1, 1) := dk_27 (dk_at dksX6_canSay_0 4 rfl rfl)
theorem dX6_canSay_5 : decode cX6_canSay 5 = .ok (.iaload, 1) := dk_46 (dk_at dksX6_canSay_0 5 rfl rfl)
theorem dX6_canSay_6 : decode cX6_canSay 6 = .ok (.iconst (-1), 1) := dk_2 (dk_at dksX6_canSay_0 6 rfl rfl)
theorem dX6_canSay_7 : decode cX6_canSay 7 = .ok (.if_icmp .ne 15, 3) := dk_160 0 15 (dk_at dksX6_canSay_0 7 rfl rfl)
theorem dX6_canSay_10 : decode cX6_canSay 10 = .ok (.iload_n 1, 1) := dk_27 (dk_at dksX6_canSay_0 10 rfl rfl)
theorem dX6_canSay_11 : decode cX6_canSay 11 = .ok (.ifCond .ne 7, 3) := dk_154 0 7 (dk_at dksX6_canSay_0 11 rfl rfl)
theorem dX6_canSay_14 : decode cX6_canSay 14 = .ok (.iconst 1, 1) := dk_4 (dk_at dksX6_canSay_0 14 rfl rfl)
theorem dX6_canSay_15 : decode cX6_canSay 15 = .ok (.goto 34, 3) := dk_167 0 34 (dk_at dksX6_canSay_0 15 rfl rfl)
theorem dX6_canSay_18 : decode cX6_canSay 18 = .ok (.iconst 0, 1) := dk_3 (dk_at dksX6_canSay_0 18 rfl rfl)
theorem dX6_canSay_19 : decode cX6_canSay 19 = .ok (.goto 30, 3) := dk_167 0 30 (dk_at dksX6_canSay_0 19 rfl rfl)
theorem dX6_canSay_22 : decode cX6_canSay 22 = .ok (.aload_n 0, 1) := dk_42 (dk_at dksX6_canSay_0 22 rfl rfl)
theorem dX6_canSay_23 : decode cX6_canSay 23 = .ok (.getfield 23, 3) := dk_180 0 23 (dk_at dksX6_canSay_1 0 rfl rfl)
theorem dX6_canSay_26 : decode cX6_canSay 26 = .ok (.iload_n 1, 1) := dk_27 (dk_at dksX6_canSay_1 3 rfl rfl)
theorem dX6_canSay_27 : decode cX6_canSay 27 = .ok (.iaload, 1) := dk_46 (dk_at dksX6_canSay_1 4 rfl rfl)
theorem dX6_canSay_28 : decode cX6_canSay 28 = .ok (.aload_n 0, 1) := dk_42 (dk_at dksX6_canSay_1 5 rfl rfl)
theorem dX6_canSay_29 : decode cX6_canSay 29 = .ok (.getfield 11, 3) := dk_180 0 11 (dk_at dksX6_canSay_1 6 rfl rfl)
theorem dX6_canSay_32 : decode cX6_canSay 32 = .ok (.iload_n 2, 1) := dk_28 (dk_at dksX6_canSay_1 9 rfl rfl)
theorem dX6_canSay_33 : decode cX6_canSay 33 = .ok (.aaload, 1) := dk_50 (dk_at dksX6_canSay_1 10 rfl rfl)
theorem dX6_canSay_34 : decode cX6_canSay 34 = .ok (.getfield 27, 3) := dk_180 0 27 (dk_at dksX6_canSay_1 11 rfl rfl)
theorem dX6_canSay_37 : decode cX6_canSay 37 = .ok (.ishr, 1) := dk_122 (dk_at dksX6_canSay_1 14 rfl rfl)
theorem dX6_canSay_38 : decode cX6_canSay 38 = .ok (.iconst 1, 1) := dk_4 (dk_at dksX6_canSay_1 15 rfl rfl)
theorem dX6_canSay_39 : decode cX6_canSay 39 = .ok (.iand, 1) := dk_126 (dk_at dksX6_canSay_1 16 rfl rfl)
theorem dX6_canSay_40 : decode cX6_canSay 40 = .ok (.iconst 1, 1) := dk_4 (dk_at dksX6_canSay_1 17 rfl rfl)
theorem dX6_canSay_41 : decode cX6_canSay 41 = .ok (.if_icmp .ne 7, 3) := dk_160 0 7 (dk_at dksX6_canSay_1 18 rfl rfl)
theorem dX6_canSay_44 : decode cX6_canSay 44 = .ok (.iconst 1, 1) := dk_4 (dk_at dksX6_canSay_1 21 rfl rfl)
theorem dX6_canSay_45 : decode cX6_canSay 45 = .ok (.goto 4, 3) := dk_167 0 4 (dk_at dksX6_canSay_2 0 rfl rfl)
theorem dX6_canSay_48 : decode cX6_canSay 48 = .ok (.iconst 0, 1) := dk_3 (dk_at dksX6_canSay_2 3 rfl rfl)
theorem dX6_canSay_49 : decode cX6_canSay 49 = .ok (.ireturn, 1) := dk_172 (dk_at dksX6_canSay_2 4 rfl rfl)
theorem q116 : (Jvm.Cond.initialized "TwoHalves$Head") ∈ lw_all := lw_g (lw_at lw_m1 8 rfl) rfl
theorem q307 : (Jvm.Cond.instantiable "TwoHalves$Head" (8 : Nat)) ∈ lw_all := lw_g (lw_at lw_m1 199 rfl) rfl
theorem q309 : (Jvm.Cond.instanceMethod ({ cls := "TwoHalves$Head", name := "<init>", desc := "()V" } : Jvm.MethodName)) ∈ lw_all := lw_g (lw_at lw_m1 201 rfl) rfl
theorem q310 : (Jvm.Cond.code ({ cls := "TwoHalves$Head", name := "<init>", desc := "()V" } : Jvm.MethodName) prog_10_method_1_code (1 : Nat) (Option.none : Option Jvm.ClassFile.FieldType)) ∈ lw_all := lw_g (lw_at lw_m1 202 rfl) rfl
theorem q311 : (Jvm.Cond.methodLink "TwoHalves$Head" (3 : Nat) ({ cls := "java/lang/Object", name := "<init>", desc := "()V" } : Jvm.MethodName)) ∈ lw_all := lw_g (lw_at lw_m1 203 rfl) rfl
theorem q312 : (Jvm.Cond.classLink "TwoHalves$Head" (9 : Nat) "TwoHalves$Thing") ∈ lw_all := lw_g (lw_at lw_m1 204 rfl) rfl
theorem q314 : (Jvm.Cond.classLink "TwoHalves$Head" (17 : Nat) "TwoHalves$Way") ∈ lw_all := lw_g (lw_at lw_m1 206 rfl) rfl
theorem q316 : (Jvm.Cond.fieldLink "TwoHalves$Head" (11 : Nat) "TwoHalves$Head" "things" "[LTwoHalves$Thing;") ∈ lw_all := lw_g (lw_at lw_m1 208 rfl) rfl
theorem q320 : (Jvm.Cond.fieldLink "TwoHalves$Head" (19 : Nat) "TwoHalves$Head" "ways" "[LTwoHalves$Way;") ∈ lw_all := lw_g (lw_at lw_m1 212 rfl) rfl
theorem q325 : (Jvm.Cond.fieldLink "TwoHalves$Head" (23 : Nat) "TwoHalves$Head" "says" "[I") ∈ lw_all := lw_g (lw_at lw_m1 217 rfl) rfl
theorem q332 : (Jvm.Cond.fieldLink "TwoHalves$Head" (31 : Nat) "TwoHalves$Head" "wayMany" "I") ∈ lw_all := lw_g (lw_at lw_m1 224 rfl) rfl
theorem q341 : (Jvm.Cond.laysFinal "TwoHalves$Head" "TwoHalves$Head" "things" "[LTwoHalves$Thing;") ∈ lw_all := lw_g (lw_at lw_m1 233 rfl) rfl
theorem q342 : (Jvm.Cond.soleField "TwoHalves$Head" "things") ∈ lw_all := lw_g (lw_at lw_m1 234 rfl) rfl
theorem q343 : (Jvm.Cond.laysFinal "TwoHalves$Head" "TwoHalves$Head" "ways" "[LTwoHalves$Way;") ∈ lw_all := lw_g (lw_at lw_m1 235 rfl) rfl
theorem q344 : (Jvm.Cond.soleField "TwoHalves$Head" "ways") ∈ lw_all := lw_g (lw_at lw_m1 236 rfl) rfl
theorem q345 : (Jvm.Cond.laysFinal "TwoHalves$Head" "TwoHalves$Head" "says" "[I") ∈ lw_all := lw_g (lw_at lw_m1 237 rfl) rfl
theorem q346 : (Jvm.Cond.soleField "TwoHalves$Head" "says") ∈ lw_all := lw_g (lw_at lw_m1 238 rfl) rfl
theorem q347 : (Jvm.Cond.lays "TwoHalves$Head" "TwoHalves$Head" "thingMany" "I") ∈ lw_all := lw_g (lw_at lw_m1 239 rfl) rfl
theorem q348 : (Jvm.Cond.soleField "TwoHalves$Head" "thingMany") ∈ lw_all := lw_g (lw_at lw_m2 0 rfl) rfl
theorem q349 : (Jvm.Cond.lays "TwoHalves$Head" "TwoHalves$Head" "wayMany" "I") ∈ lw_all := lw_g (lw_at lw_m2 1 rfl) rfl
theorem q350 : (Jvm.Cond.soleField "TwoHalves$Head" "wayMany") ∈ lw_all := lw_g (lw_at lw_m2 2 rfl) rfl
theorem q351 : (Jvm.Cond.lays "TwoHalves$Head" "TwoHalves$Head" "suitMany" "I") ∈ lw_all := lw_g (lw_at lw_m2 3 rfl) rfl
theorem q352 : (Jvm.Cond.soleField "TwoHalves$Head" "suitMany") ∈ lw_all := lw_g (lw_at lw_m2 4 rfl) rfl
theorem q353 : (Jvm.Cond.lays "TwoHalves$Head" "TwoHalves$Head" "maybes" "I") ∈ lw_all := lw_g (lw_at lw_m2 5 rfl) rfl
theorem q354 : (Jvm.Cond.soleField "TwoHalves$Head" "maybes") ∈ lw_all := lw_g (lw_at lw_m2 6 rfl) rfl
theorem q355 : (Jvm.Cond.lays "TwoHalves$Head" "TwoHalves$Head" "weaks" "I") ∈ lw_all := lw_g (lw_at lw_m2 7 rfl) rfl
theorem q356 : (Jvm.Cond.soleField "TwoHalves$Head" "weaks") ∈ lw_all := lw_g (lw_at lw_m2 8 rfl) rfl
theorem q357 : (Jvm.Cond.superclass "TwoHalves$Head" "java/lang/Object") ∈ lw_all := lw_g (lw_at lw_m2 9 rfl) rfl
theorem q781 : (Jvm.Cond.fieldLinkNest "TwoHalves$Head" (27 : Nat) "TwoHalves$Thing" "kind" "I" "TwoHalves") ∈ lw_tbl := lw_at lw_m3 193 rfl
theorem q841 : (Jvm.Cond.fieldLinkNest "TwoHalves$Head" (34 : Nat) "TwoHalves$Way" "state" "I" "TwoHalves") ∈ lw_tbl := lw_at lw_m4 13 rfl
theorem q912 : (Jvm.Cond.instanceMethod ({ cls := "TwoHalves$Head", name := "of", desc := "(I)I" } : Jvm.MethodName)) ∈ lw_all := lw_g (lw_at lw_m4 84 rfl) rfl
theorem q913 : (Jvm.Cond.selects "TwoHalves$Head" ({ cls := "TwoHalves$Head", name := "of", desc := "(I)I" } : Jvm.MethodName) ({ cls := "TwoHalves$Head", name := "of", desc := "(I)I" } : Jvm.MethodName)) ∈ lw_all := lw_g (lw_at lw_m4 85 rfl) rfl
theorem q914 : (Jvm.Cond.code ({ cls := "TwoHalves$Head", name := "of", desc := "(I)I" } : Jvm.MethodName) prog_10_method_3_code (4 : Nat) (Option.some Jvm.ClassFile.FieldType.int)) ∈ lw_all := lw_g (lw_at lw_m4 86 rfl) rfl
theorem q1031 : (Jvm.Cond.instanceMethod ({ cls := "TwoHalves$Head", name := "canSay", desc := "(II)Z" } : Jvm.MethodName)) ∈ lw_all := lw_g (lw_at lw_m4 203 rfl) rfl
theorem q1032 : (Jvm.Cond.selects "TwoHalves$Head" ({ cls := "TwoHalves$Head", name := "canSay", desc := "(II)Z" } : Jvm.MethodName) ({ cls := "TwoHalves$Head", name := "canSay", desc := "(II)Z" } : Jvm.MethodName)) ∈ lw_all := lw_g (lw_at lw_m4 204 rfl) rfl
theorem q1033 : (Jvm.Cond.code ({ cls := "TwoHalves$Head", name := "canSay", desc := "(II)Z" } : Jvm.MethodName) prog_10_method_2_code (3 : Nat) (Option.some Jvm.ClassFile.FieldType.boolean)) ∈ lw_all := lw_g (lw_at lw_m4 205 rfl) rfl
theorem q1974 : (Jvm.Cond.castable "TwoHalves$Head" "java/lang/Object") ∈ lw_tbl := lw_at lw_m8 186 rfl
theorem in_X6 : ∀ w ∈ wsX60, w ∈ lw_all := lw_in wsX60 [341, 343, 345, 347, 349, 351, 353, 355] (by decide +kernel) (by decide +kernel)
/-! TwoHalves$Book -/
set_option maxRecDepth 100000
def RX7 : String := "TwoHalves$Book"
def TX7 : u_T := fun k => match k with
  | 0 => ("TwoHalves$Book", "rows", "[LTwoHalves$Showing;", true)
  | _ => ("TwoHalves$Book", "many", "I", false)
def tyX7 : Nat → FieldType := fun k => match k with
  | 0 => .array (.object "TwoHalves$Showing")
  | _ => .int
abbrev wsX70 : List Cond := u_ws RX7 TX7 2
theorem nmX7 : ∀ a, a < 2 → ∀ b, b < 2 → a ≠ b → (TX7 a).2.1 ≠ (TX7 b).2.1 := by decide +kernel
theorem tyX7_ok : ∀ k, k < 2 → parseFieldDescriptor (TX7 k).2.2.1 = some (tyX7 k) := by decide +kernel
abbrev cX7_init : ByteArray := prog_4_method_1_code
def yX7_init : MethodName := ⟨RX7, "<init>", "()V"⟩
def dkwX7_init_0 : List UInt8 := [42, 183, 0, 3, 42, 16, 40, 189, 0, 9, 181, 0, 11, 177]
abbrev dktX7_init_0 : List UInt8 := dkwX7_init_0 ++ []
theorem dksX7_init_0 : cX7_init.data.toList.drop 0 = dktX7_init_0 := by decide +kernel
theorem dX7_init_0 : decode cX7_init 0 = .ok (.aload_n 0, 1) := dk_42 (dk_at dksX7_init_0 0 rfl rfl)
theorem dX7_init_1 : decode cX7_init 1 = .ok (.invokespecial 3, 3) := dk_183 0 3 (dk_at dksX7_init_0 1 rfl rfl)
theorem dX7_init_4 : decode cX7_init 4 = .ok (.aload_n 0, 1) := dk_42 (dk_at dksX7_init_0 4 rfl rfl)
theorem dX7_init_5 : decode cX7_init 5 = .ok (.bipush 40, 2) := dk_16 40 (dk_at dksX7_init_0 5 rfl rfl)
theorem dX7_init_7 : decode cX7_init 7 = .ok (.anewarray 9, 3) := dk_189 0 9 (dk_at dksX7_init_0 7 rfl rfl)
theorem dX7_init_10 : decode cX7_init 10 = .ok (.putfield 11, 3) := dk_181 0 11 (dk_at dksX7_init_0 10 rfl rfl)
theorem dX7_init_13 : decode cX7_init 13 = .ok (.return_, 1) := dk_177 (dk_at dksX7_init_0 13 rfl rfl)
theorem q117 : (Jvm.Cond.initialized "TwoHalves$Book") ∈ lw_all := lw_g (lw_at lw_m1 9 rfl) rfl
theorem q363 : (Jvm.Cond.instantiable "TwoHalves$Book" (2 : Nat)) ∈ lw_all := lw_g (lw_at lw_m2 15 rfl) rfl
theorem q365 : (Jvm.Cond.instanceMethod ({ cls := "TwoHalves$Book", name := "<init>", desc := "()V" } : Jvm.MethodName)) ∈ lw_all := lw_g (lw_at lw_m2 17 rfl) rfl
theorem q366 : (Jvm.Cond.code ({ cls := "TwoHalves$Book", name := "<init>", desc := "()V" } : Jvm.MethodName) prog_4_method_1_code (1 : Nat) (Option.none : Option Jvm.ClassFile.FieldType)) ∈ lw_all := lw_g (lw_at lw_m2 18 rfl) rfl
theorem q367 : (Jvm.Cond.methodLink "TwoHalves$Book" (3 : Nat) ({ cls := "java/lang/Object", name := "<init>", desc := "()V" } : Jvm.MethodName)) ∈ lw_all := lw_g (lw_at lw_m2 19 rfl) rfl
theorem q368 : (Jvm.Cond.classLink "TwoHalves$Book" (9 : Nat) "TwoHalves$Showing") ∈ lw_all := lw_g (lw_at lw_m2 20 rfl) rfl
theorem q369 : (Jvm.Cond.fieldLink "TwoHalves$Book" (11 : Nat) "TwoHalves$Book" "rows" "[LTwoHalves$Showing;") ∈ lw_all := lw_g (lw_at lw_m2 21 rfl) rfl
theorem q376 : (Jvm.Cond.laysFinal "TwoHalves$Book" "TwoHalves$Book" "rows" "[LTwoHalves$Showing;") ∈ lw_all := lw_g (lw_at lw_m2 28 rfl) rfl
theorem q377 : (Jvm.Cond.soleField "TwoHalves$Book" "rows") ∈ lw_all := lw_g (lw_at lw_m2 29 rfl) rfl
theorem q378 : (Jvm.Cond.lays "TwoHalves$Book" "TwoHalves$Book" "many" "I") ∈ lw_all := lw_g (lw_at lw_m2 30 rfl) rfl
theorem q379 : (Jvm.Cond.soleField "TwoHalves$Book" "many") ∈ lw_all := lw_g (lw_at lw_m2 31 rfl) rfl
theorem q380 : (Jvm.Cond.superclass "TwoHalves$Book" "java/lang/Object") ∈ lw_all := lw_g (lw_at lw_m2 32 rfl) rfl
theorem q1975 : (Jvm.Cond.castable "TwoHalves$Book" "java/lang/Object") ∈ lw_tbl := lw_at lw_m8 187 rfl
theorem in_X7 : ∀ w ∈ wsX70, w ∈ lw_all := lw_in wsX70 [376, 378] (by decide +kernel) (by decide +kernel)
/-! TwoHalves$Mind -/
set_option maxRecDepth 100000
def RX8 : String := "TwoHalves$Mind"
def TX8 : u_T := fun k => match k with
  | 0 => ("TwoHalves$Mind", "since", "[[I", true)
  | _ => ("TwoHalves$Mind", "this$0", "LTwoHalves;", true)
def tyX8 : Nat → FieldType := fun k => match k with
  | 0 => .array (.array .int)
  | _ => .object "TwoHalves"
abbrev wsX80 : List Cond := u_ws RX8 TX8 2
theorem nmX8 : ∀ a, a < 2 → ∀ b, b < 2 → a ≠ b → (TX8 a).2.1 ≠ (TX8 b).2.1 := by decide +kernel
theorem tyX8_ok : ∀ k, k < 2 → parseFieldDescriptor (TX8 k).2.2.1 = some (tyX8 k) := by decide +kernel
abbrev cX8_init : ByteArray := prog_12_method_1_code
def yX8_init : MethodName := ⟨RX8, "<init>", "(LTwoHalves;)V"⟩
def dkwX8_init_0 : List UInt8 := [42, 43, 181, 0, 3, 42, 183, 0, 9, 42, 5, 16, 16, 197, 0, 15, 2, 181, 0, 17, 177]
abbrev dktX8_init_0 : List UInt8 := dkwX8_init_0 ++ []
theorem dksX8_init_0 : cX8_init.data.toList.drop 0 = dktX8_init_0 := by decide +kernel
theorem dX8_init_0 : decode cX8_init 0 = .ok (.aload_n 0, 1) := dk_42 (dk_at dksX8_init_0 0 rfl rfl)
theorem dX8_init_1 : decode cX8_init 1 = .ok (.aload_n 1, 1) := dk_43 (dk_at dksX8_init_0 1 rfl rfl)
theorem dX8_init_2 : decode cX8_init 2 = .ok (.putfield 3, 3) := dk_181 0 3 (dk_at dksX8_init_0 2 rfl rfl)
theorem dX8_init_5 : decode cX8_init 5 = .ok (.aload_n 0, 1) := dk_42 (dk_at dksX8_init_0 5 rfl rfl)
theorem dX8_init_6 : decode cX8_init 6 = .ok (.invokespecial 9, 3) := dk_183 0 9 (dk_at dksX8_init_0 6 rfl rfl)
theorem dX8_init_9 : decode cX8_init 9 = .ok (.aload_n 0, 1) := dk_42 (dk_at dksX8_init_0 9 rfl rfl)
theorem dX8_init_10 : decode cX8_init 10 = .ok (.iconst 2, 1) := dk_5 (dk_at dksX8_init_0 10 rfl rfl)
theorem dX8_init_11 : decode cX8_init 11 = .ok (.bipush 16, 2) := dk_16 16 (dk_at dksX8_init_0 11 rfl rfl)
theorem dX8_init_13 : decode cX8_init 13 = .ok (.multianewarray 15 2, 4) := by decide +kernel
theorem dX8_init_17 : decode cX8_init 17 = .ok (.putfield 17, 3) := dk_181 0 17 (dk_at dksX8_init_0 17 rfl rfl)
theorem dX8_init_20 : decode cX8_init 20 = .ok (.return_, 1) := dk_177 (dk_at dksX8_init_0 20 rfl rfl)
abbrev cX8_spread : ByteArray := prog_12_method_3_code
def yX8_spread : MethodName := ⟨RX8, "spread", "(LTwoHalves$Showing;IIZ)V"⟩
def dkwX8_spread_4 : List UInt8 := [167, 255, 194, 167, 255, 180, 177]
abbrev dktX8_spread_4 : List UInt8 := dkwX8_spread_4 ++ []
def dkwX8_spread_3 : List UInt8 := [21, 6, 42, 25, 5, 180, 0, 48, 21, 7, 50, 43, 180, 0, 64, 182, 0, 67, 128, 54, 6, 132, 7, 1]
abbrev dktX8_spread_3 : List UInt8 := dkwX8_spread_3 ++ dktX8_spread_4
def dkwX8_spread_2 : List UInt8 := [21, 7, 50, 21, 7, 43, 180, 0, 52, 43, 180, 0, 55, 28, 29, 21, 4, 182, 0, 58, 153, 0, 24]
abbrev dktX8_spread_2 : List UInt8 := dkwX8_spread_2 ++ dktX8_spread_3
def dkwX8_spread_1 : List UInt8 := [153, 0, 77, 3, 54, 6, 3, 54, 7, 21, 7, 25, 5, 180, 0, 43, 162, 0, 58, 25, 5, 180, 0, 48]
abbrev dktX8_spread_1 : List UInt8 := dkwX8_spread_1 ++ dktX8_spread_2
def dkwX8_spread_0 : List UInt8 := [42, 43, 182, 0, 29, 42, 180, 0, 3, 180, 0, 33, 180, 0, 37, 58, 5, 4, 54, 6, 21, 6]
abbrev dktX8_spread_0 : List UInt8 := dkwX8_spread_0 ++ dktX8_spread_1
theorem dksX8_spread_0 : cX8_spread.data.toList.drop 0 = dktX8_spread_0 := by decide +kernel
theorem dksX8_spread_1 : cX8_spread.data.toList.drop 22 = dktX8_spread_1 := dk_seg dksX8_spread_0 22 rfl rfl
theorem dksX8_spread_2 : cX8_spread.data.toList.drop 46 = dktX8_spread_2 := dk_seg dksX8_spread_1 24 rfl rfl
theorem dksX8_spread_3 : cX8_spread.data.toList.drop 69 = dktX8_spread_3 := dk_seg dksX8_spread_2 23 rfl rfl
theorem dksX8_spread_4 : cX8_spread.data.toList.drop 93 = dktX8_spread_4 := dk_seg dksX8_spread_3 24 rfl rfl
theorem dX8_spread_0 : decode cX8_spread 0 = .ok (.aload_n 0, 1) := dk_42 (dk_at dksX8_spread_0 0 rfl rfl)
theorem dX8_spread_1 : decode cX8_spread 1 = .ok (.aload_n 1, 1) := dk_43 (dk_at dksX8_spread_0 1 rfl rfl)
theorem dX8_spread_2 : decode cX8_spread 2 = .ok (.invokevirtual 29, 3) := dk_182 0 29 (dk_at dksX8_spread_0 2 rfl rfl)
theorem dX8_spread_5 : decode cX8_spread 5 = .ok (.aload_n 0, 1) := dk_42 (dk_at dksX8_spread_0 5 rfl rfl)
theorem dX8_spread_6 : decode cX8_spread 6 = .ok (.getfield 3, 3) := dk_180 0 3 (dk_at dksX8_spread_0 6 rfl rfl)
theorem dX8_spread_9 : decode cX8_spread 9 = .ok (.getfield 33, 3) := dk_180 0 33 (dk_at dksX8_spread_0 9 rfl rfl)
theorem dX8_spread_12 : decode cX8_spread 12 = .ok (.getfield 37, 3) := dk_180 0 37 (dk_at dksX8_spread_0 12 rfl rfl)
theorem dX8_spread_15 : decode cX8_spread 15 = .ok (.astore 5, 2) := dk_58 5 (dk_at dksX8_spread_0 15 rfl rfl)
theorem dX8_spread_17 : decode cX8_spread 17 = .ok (.iconst 1, 1) := dk_4 (dk_at dksX8_spread_0 17 rfl rfl)
theorem dX8_spread_18 : decode cX8_spread 18 = .ok (.istore 6, 2) := dk_54 6 (dk_at dksX8_spread_0 18 rfl rfl)
theorem dX8_spread_20 : decode cX8_spread 20 = .ok (.iload 6, 2) := dk_21 6 (dk_at dksX8_spread_0 20 rfl rfl)
theorem dX8_spread_22 : decode cX8_spread 22 = .ok (.ifCond .eq 77, 3) := dk_153 0 77 (dk_at dksX8_spread_1 0 rfl rfl)
theorem dX8_spread_25 : decode cX8_spread 25 = .ok (.iconst 0, 1) := dk_3 (dk_at dksX8_spread_1 3 rfl rfl)
theorem dX8_spread_26 : decode cX8_spread 26 = .ok (.istore 6, 2) := dk_54 6 (dk_at dksX8_spread_1 4 rfl rfl)
theorem dX8_spread_28 : decode cX8_spread 28 = .ok (.iconst 0, 1) := dk_3 (dk_at dksX8_spread_1 6 rfl rfl)
theorem dX8_spread_29 : decode cX8_spread 29 = .ok (.istore 7, 2) := dk_54 7 (dk_at dksX8_spread_1 7 rfl rfl)
theorem dX8_spread_31 : decode cX8_spread 31 = .ok (.iload 7, 2) := dk_21 7 (dk_at dksX8_spread_1 9 rfl rfl)
theorem dX8_spread_33 : decode cX8_spread 33 = .ok (.aload 5, 2) := dk_25 5 (dk_at dksX8_spread_1 11 rfl rfl)
theorem dX8_spread_35 : decode cX8_spread 35 = .ok (.getfield 43, 3) := dk_180 0 43 (dk_at dksX8_spread_1 13 rfl rfl)
theorem dX8_spread_38 : decode cX8_spread 38 = .ok (.if_icmp .ge 58, 3) := dk_162 0 58 (dk_at dksX8_spread_1 16 rfl rfl)
theorem dX8_spread_41 : decode cX8_spread 41 = .ok (.aload 5, 2) := dk_25 5 (dk_at dksX8_spread_1 19 rfl rfl)
theorem dX8_spread_43 : decode cX8_spread 43 = .ok (.getfield 48, 3) := dk_180 0 48 (dk_at dksX8_spread_1 21 rfl rfl)
theorem dX8_spread_46 : decode cX8_spread 46 = .ok (.iload 7, 2) := dk_21 7 (dk_at dksX8_spread_2 0 rfl rfl)
theorem dX8_spread_48 : decode cX8_spread 48 = .ok (.aaload, 1) := dk_50 (dk_at dksX8_spread_2 2 rfl rfl)
theorem dX8_spread_49 : decode cX8_spread 49 = .ok (.iload 7, 2) := dk_21 7 (dk_at dksX8_spread_2 3 rfl rfl)
theorem dX8_spread_51 : decode cX8_spread 51 = .ok (.aload_n 1, 1) := dk_43 (dk_at dksX8_spread_2 5 rfl rfl)
theorem dX8_spread_52 : decode cX8_spread 52 = .ok (.getfield 52, 3) := dk_180 0 52 (dk_at dksX8_spread_2 6 rfl rfl)
theorem dX8_spread_55 : decode cX8_spread 55 = .ok (.aload_n 1, 1) := dk_43 (dk_at dksX8_spread_2 9 rfl rfl)
theorem dX8_spread_56 : decode cX8_spread 56 = .ok (.getfield 55, 3) := dk_180 0 55 (dk_at dksX8_spread_2 10 rfl rfl)
theorem dX8_spread_59 : decode cX8_spread 59 = .ok (.iload_n 2, 1) := dk_28 (dk_at dksX8_spread_2 13 rfl rfl)
theorem dX8_spread_60 : decode cX8_spread 60 = .ok (.iload_n 3, 1) := dk_29 (dk_at dksX8_spread_2 14 rfl rfl)
theorem dX8_spread_61 : decode cX8_spread 61 = .ok (.iload 4, 2) := dk_21 4 (dk_at dksX8_spread_2 15 rfl rfl)
theorem dX8_spread_63 : decode cX8_spread 63 = .ok (.invokevirtual 58, 3) := dk_182 0 58 (dk_at dksX8_spread_2 17 rfl rfl)
theorem dX8_spread_66 : decode cX8_spread 66 = .ok (.ifCond .eq 24, 3) := dk_153 0 24 (dk_at dksX8_spread_2 20 rfl rfl)
theorem dX8_spread_69 : decode cX8_spread 69 = .ok (.iload 6, 2) := dk_21 6 (dk_at dksX8_spread_3 0 rfl rfl)
theorem dX8_spread_71 : decode cX8_spread 71 = .ok (.aload_n 0, 1) := dk_42 (dk_at dksX8_spread_3 2 rfl rfl)
theorem dX8_spread_72 : decode cX8_spread 72 = .ok (.aload 5, 2) := dk_25 5 (dk_at dksX8_spread_3 3 rfl rfl)
theorem dX8_spread_74 : decode cX8_spread 74 = .ok (.getfield 48, 3) := dk_180 0 48 (dk_at dksX8_spread_3 5 rfl rfl)
theorem dX8_spread_77 : decode cX8_spread 77 = .ok (.iload 7, 2) := dk_21 7 (dk_at dksX8_spread_3 8 rfl rfl)
theorem dX8_spread_79 : decode cX8_spread 79 = .ok (.aaload, 1) := dk_50 (dk_at dksX8_spread_3 10 rfl rfl)
theorem dX8_spread_80 : decode cX8_spread 80 = .ok (.aload_n 1, 1) := dk_43 (dk_at dksX8_spread_3 11 rfl rfl)
theorem dX8_spread_81 : decode cX8_spread 81 = .ok (.getfield 64, 3) := dk_180 0 64 (dk_at dksX8_spread_3 12 rfl rfl)
theorem dX8_spread_84 : decode cX8_spread 84 = .ok (.invokevirtual 67, 3) := dk_182 0 67 (dk_at dksX8_spread_3 15 rfl rfl)
theorem dX8_spread_87 : decode cX8_spread 87 = .ok (.ior, 1) := dk_128 (dk_at dksX8_spread_3 18 rfl rfl)
theorem dX8_spread_88 : decode cX8_spread 88 = .ok (.istore 6, 2) := dk_54 6 (dk_at dksX8_spread_3 19 rfl rfl)
theorem dX8_spread_90 : decode cX8_spread 90 = .ok (.iinc 7 1, 3) := dk_132 7 1 (dk_at dksX8_spread_3 21 rfl rfl)
theorem dX8_spread_93 : decode cX8_spread 93 = .ok (.goto (-62), 3) := dk_167 255 194 (dk_at dksX8_spread_4 0 rfl rfl)
theorem dX8_spread_96 : decode cX8_spread 96 = .ok (.goto (-76), 3) := dk_167 255 180 (dk_at dksX8_spread_4 3 rfl rfl)
theorem dX8_spread_99 : decode cX8_spread 99 = .ok (.return_, 1) := dk_177 (dk_at dksX8_spread_4 6 rfl rfl)
abbrev cX8_begin : ByteArray := prog_12_method_2_code
def yX8_begin : MethodName := ⟨RX8, "begin", "(LTwoHalves$Showing;)V"⟩
def dkwX8_begin_2 : List UInt8 := [167, 0, 6, 17, 3, 232, 79, 132, 2, 1, 167, 255, 201, 177]
abbrev dktX8_begin_2 : List UInt8 := dkwX8_begin_2 ++ []
def dkwX8_begin_1 : List UInt8 := [167, 0, 6, 17, 3, 232, 79, 42, 180, 0, 17, 4, 50, 28, 28, 43, 180, 0, 26, 160, 0, 7, 3]
abbrev dktX8_begin_1 : List UInt8 := dkwX8_begin_1 ++ dktX8_begin_2
def dkwX8_begin_0 : List UInt8 := [3, 61, 28, 16, 16, 162, 0, 55, 42, 180, 0, 17, 3, 50, 28, 28, 43, 180, 0, 20, 160, 0, 7, 3]
abbrev dktX8_begin_0 : List UInt8 := dkwX8_begin_0 ++ dktX8_begin_1
theorem dksX8_begin_0 : cX8_begin.data.toList.drop 0 = dktX8_begin_0 := by decide +kernel
theorem dksX8_begin_1 : cX8_begin.data.toList.drop 24 = dktX8_begin_1 := dk_seg dksX8_begin_0 24 rfl rfl
theorem dksX8_begin_2 : cX8_begin.data.toList.drop 47 = dktX8_begin_2 := dk_seg dksX8_begin_1 23 rfl rfl
theorem dX8_begin_0 : decode cX8_begin 0 = .ok (.iconst 0, 1) := dk_3 (dk_at dksX8_begin_0 0 rfl rfl)
theorem dX8_begin_1 : decode cX8_begin 1 = .ok (.istore_n 2, 1) := dk_61 (dk_at dksX8_begin_0 1 rfl rfl)
theorem dX8_begin_2 : decode cX8_begin 2 = .ok (.iload_n 2, 1) := dk_28 (dk_at dksX8_begin_0 2 rfl rfl)
theorem dX8_begin_3 : decode cX8_begin 3 = .ok (.bipush 16, 2) := dk_16 16 (dk_at dksX8_begin_0 3 rfl rfl)
theorem dX8_begin_5 : decode cX8_begin 5 = .ok (.if_icmp .ge 55, 3) := dk_162 0 55 (dk_at dksX8_begin_0 5 rfl rfl)
theorem dX8_begin_8 : decode cX8_begin 8 = .ok (.aload_n 0, 1) := dk_42 (dk_at dksX8_begin_0 8 rfl rfl)
theorem dX8_begin_9 : decode cX8_begin 9 = .ok (.getfield 17, 3) := dk_180 0 17 (dk_at dksX8_begin_0 9 rfl rfl)
theorem dX8_begin_12 : decode cX8_begin 12 = .ok (.iconst 0, 1) := dk_3 (dk_at dksX8_begin_0 12 rfl rfl)
theorem dX8_begin_13 : decode cX8_begin 13 = .ok (.aaload, 1) := dk_50 (dk_at dksX8_begin_0 13 rfl rfl)
theorem dX8_begin_14 : decode cX8_begin 14 = .ok (.iload_n 2, 1) := dk_28 (dk_at dksX8_begin_0 14 rfl rfl)
theorem dX8_begin_15 : decode cX8_begin 15 = .ok (.iload_n 2, 1) := dk_28 (dk_at dksX8_begin_0 15 rfl rfl)
theorem dX8_begin_16 : decode cX8_begin 16 = .ok (.aload_n 1, 1) := dk_43 (dk_at dksX8_begin_0 16 rfl rfl)
theorem dX8_begin_17 : decode cX8_begin 17 = .ok (.getfield 20, 3) := dk_180 0 20 (dk_at dksX8_begin_0 17 rfl rfl)
theorem dX8_begin_20 : decode cX8_begin 20 = .ok (.if_icmp .ne 7, 3) := dk_160 0 7 (dk_at dksX8_begin_0 20 rfl rfl)
theorem dX8_begin_23 : decode cX8_begin 23 = .ok (.iconst 0, 1) := dk_3 (dk_at dksX8_begin_0 23 rfl rfl)
theorem dX8_begin_24 : decode cX8_begin 24 = .ok (.goto 6, 3) := dk_167 0 6 (dk_at dksX8_begin_1 0 rfl rfl)
theorem dX8_begin_27 : decode cX8_begin 27 = .ok (.sipush 1000, 3) := dk_17 3 232 (dk_at dksX8_begin_1 3 rfl rfl)
theorem dX8_begin_30 : decode cX8_begin 30 = .ok (.iastore, 1) := dk_79 (dk_at dksX8_begin_1 6 rfl rfl)
theorem dX8_begin_31 : decode cX8_begin 31 = .ok (.aload_n 0, 1) := dk_42 (dk_at dksX8_begin_1 7 rfl rfl)
theorem dX8_begin_32 : decode cX8_begin 32 = .ok (.getfield 17, 3) := dk_180 0 17 (dk_at dksX8_begin_1 8 rfl rfl)
theorem dX8_begin_35 : decode cX8_begin 35 = .ok (.iconst 1, 1) := dk_4 (dk_at dksX8_begin_1 11 rfl rfl)
theorem dX8_begin_36 : decode cX8_begin 36 = .ok (.aaload, 1) := dk_50 (dk_at dksX8_begin_1 12 rfl rfl)
theorem dX8_begin_37 : decode cX8_begin 37 = .ok (.iload_n 2, 1) := dk_28 (dk_at dksX8_begin_1 13 rfl rfl)
theorem dX8_begin_38 : decode cX8_begin 38 = .ok (.iload_n 2, 1) := dk_28 (dk_at dksX8_begin_1 14 rfl rfl)
theorem dX8_begin_39 : decode cX8_begin 39 = .ok (.aload_n 1, 1) := dk_43 (dk_at dksX8_begin_1 15 rfl rfl)
theorem dX8_begin_40 : decode cX8_begin 40 = .ok (.getfield 26, 3) := dk_180 0 26 (dk_at dksX8_begin_1 16 rfl rfl)
theorem dX8_begin_43 : decode cX8_begin 43 = .ok (.if_icmp .ne 7, 3) := dk_160 0 7 (dk_at dksX8_begin_1 19 rfl rfl)
theorem dX8_begin_46 : decode cX8_begin 46 = .ok (.iconst 0, 1) := dk_3 (dk_at dksX8_begin_1 22 rfl rfl)
theorem dX8_begin_47 : decode cX8_begin 47 = .ok (.goto 6, 3) := dk_167 0 6 (dk_at dksX8_begin_2 0 rfl rfl)
theorem dX8_begin_50 : decode cX8_begin 50 = .ok (.sipush 1000, 3) := dk_17 3 232 (dk_at dksX8_begin_2 3 rfl rfl)
theorem dX8_begin_53 : decode cX8_begin 53 = .ok (.iastore, 1) := dk_79 (dk_at dksX8_begin_2 6 rfl rfl)
theorem dX8_begin_54 : decode cX8_begin 54 = .ok (.iinc 2 1, 3) := dk_132 2 1 (dk_at dksX8_begin_2 7 rfl rfl)
theorem dX8_begin_57 : decode cX8_begin 57 = .ok (.goto (-55), 3) := dk_167 255 201 (dk_at dksX8_begin_2 10 rfl rfl)
theorem dX8_begin_60 : decode cX8_begin 60 = .ok (.return_, 1) := dk_177 (dk_at dksX8_begin_2 13 rfl rfl)
abbrev cX8_passes : ByteArray := prog_12_method_4_code
def yX8_passes : MethodName := ⟨RX8, "passes", "(LTwoHalves$Way;I)Z"⟩
def dkwX8_passes_5 : List UInt8 := [132, 4, 1, 167, 255, 141, 29, 172]
abbrev dktX8_passes_5 : List UInt8 := dkwX8_passes_5 ++ []
def dkwX8_passes_4 : List UInt8 := [161, 0, 6, 167, 0, 21, 42, 180, 0, 17, 4, 43, 180, 0, 74, 100, 50, 21, 4, 21, 5, 79, 4, 62]
abbrev dktX8_passes_4 : List UInt8 := dkwX8_passes_4 ++ dktX8_passes_5
def dkwX8_passes_3 : List UInt8 := [21, 5, 28, 163, 0, 43, 21, 5, 42, 180, 0, 17, 4, 43, 180, 0, 74, 100, 50, 21, 4, 46]
abbrev dktX8_passes_3 : List UInt8 := dkwX8_passes_3 ++ dktX8_passes_4
def dkwX8_passes_2 : List UInt8 := [180, 0, 3, 180, 0, 33, 180, 0, 37, 180, 0, 81, 21, 4, 50, 180, 0, 85, 122, 4, 126, 153, 0, 49]
abbrev dktX8_passes_2 : List UInt8 := dkwX8_passes_2 ++ dktX8_passes_3
def dkwX8_passes_1 : List UInt8 := [180, 0, 17, 43, 180, 0, 74, 50, 21, 4, 46, 43, 180, 0, 77, 96, 54, 5, 43, 180, 0, 78, 42]
abbrev dktX8_passes_1 : List UInt8 := dkwX8_passes_1 ++ dktX8_passes_2
def dkwX8_passes_0 : List UInt8 := [3, 62, 3, 54, 4, 21, 4, 42, 180, 0, 3, 180, 0, 33, 180, 0, 37, 180, 0, 71, 162, 0, 103, 42]
abbrev dktX8_passes_0 : List UInt8 := dkwX8_passes_0 ++ dktX8_passes_1
theorem dksX8_passes_0 : cX8_passes.data.toList.drop 0 = dktX8_passes_0 := by decide +kernel
theorem dksX8_passes_1 : cX8_passes.data.toList.drop 24 = dktX8_passes_1 := dk_seg dksX8_passes_0 24 rfl rfl
theorem dksX8_passes_2 : cX8_passes.data.toList.drop 47 = dktX8_passes_2 := dk_seg dksX8_passes_1 23 rfl rfl
theorem dksX8_passes_3 : cX8_passes.data.toList.drop 71 = dktX8_passes_3 := dk_seg dksX8_passes_2 24 rfl rfl
theorem dksX8_passes_4 : cX8_passes.data.toList.drop 93 = dktX8_passes_4 := dk_seg dksX8_passes_3 22 rfl rfl
theorem dksX8_passes_5 : cX8_passes.data.toList.drop 117 = dktX8_passes_5 := dk_seg dksX8_passes_4 24 rfl rfl
theorem dX8_passes_0 : decode cX8_passes 0 = .ok (.iconst 0, 1) := dk_3 (dk_at dksX8_passes_0 0 rfl rfl)
theorem dX8_passes_1 : decode cX8_passes 1 = .ok (.istore_n 3, 1) := dk_62 (dk_at dksX8_passes_0 1 rfl rfl)
theorem dX8_passes_2 : decode cX8_passes 2 = .ok (.iconst 0, 1) := dk_3 (dk_at dksX8_passes_0 2 rfl rfl)
theorem dX8_passes_3 : decode cX8_passes 3 = .ok (.istore 4, 2) := dk_54 4 (dk_at dksX8_passes_0 3 rfl rfl)
theorem dX8_passes_5 : decode cX8_passes 5 = .ok (.iload 4, 2) := dk_21 4 (dk_at dksX8_passes_0 5 rfl rfl)
theorem dX8_passes_7 : decode cX8_passes 7 = .ok (.aload_n 0, 1) := dk_42 (dk_at dksX8_passes_0 7 rfl rfl)
theorem dX8_passes_8 : decode cX8_passes 8 = .ok (.getfield 3, 3) := dk_180 0 3 (dk_at dksX8_passes_0 8 rfl rfl)
theorem dX8_passes_11 : decode cX8_passes 11 = .ok (.getfield 33, 3) := dk_180 0 33 (dk_at dksX8_passes_0 11 rfl rfl)
theorem dX8_passes_14 : decode cX8_passes 14 = .ok (.getfield 37, 3) := dk_180 0 37 (dk_at dksX8_passes_0 14 rfl rfl)
theorem dX8_passes_17 : decode cX8_passes 17 = .ok (.getfield 71, 3) := dk_180 0 71 (dk_at dksX8_passes_0 17 rfl rfl)
theorem dX8_passes_20 : decode cX8_passes 20 = .ok (.if_icmp .ge 103, 3) := dk_162 0 103 (dk_at dksX8_passes_0 20 rfl rfl)
theorem dX8_passes_23 : decode cX8_passes 23 = .ok (.aload_n 0, 1) := dk_42 (dk_at dksX8_passes_0 23 rfl rfl)
theorem dX8_passes_24 : decode cX8_passes 24 = .ok (.getfield 17, 3) := dk_180 0 17 (dk_at dksX8_passes_1 0 rfl rfl)
theorem dX8_passes_27 : decode cX8_passes 27 = .ok (.aload_n 1, 1) := dk_43 (dk_at dksX8_passes_1 3 rfl rfl)
theorem dX8_passes_28 : decode cX8_passes 28 = .ok (.getfield 74, 3) := dk_180 0 74 (dk_at dksX8_passes_1 4 rfl rfl)
theorem dX8_passes_31 : decode cX8_passes 31 = .ok (.aaload, 1) := dk_50 (dk_at dksX8_passes_1 7 rfl rfl)
theorem dX8_passes_32 : decode cX8_passes 32 = .ok (.iload 4, 2) := dk_21 4 (dk_at dksX8_passes_1 8 rfl rfl)
theorem dX8_passes_34 : decode cX8_passes 34 = .ok (.iaload, 1) := dk_46 (dk_at dksX8_passes_1 10 rfl rfl)
theorem dX8_passes_35 : decode cX8_passes 35 = .ok (.aload_n 1, 1) := dk_43 (dk_at dksX8_passes_1 11 rfl rfl)
theorem dX8_passes_36 : decode cX8_passes 36 = .ok (.getfield 77, 3) := dk_180 0 77 (dk_at dksX8_passes_1 12 rfl rfl)
theorem dX8_passes_39 : decode cX8_passes 39 = .ok (.iadd, 1) := dk_96 (dk_at dksX8_passes_1 15 rfl rfl)
theorem dX8_passes_40 : decode cX8_passes 40 = .ok (.istore 5, 2) := dk_54 5 (dk_at dksX8_passes_1 16 rfl rfl)
theorem dX8_passes_42 : decode cX8_passes 42 = .ok (.aload_n 1, 1) := dk_43 (dk_at dksX8_passes_1 18 rfl rfl)
theorem dX8_passes_43 : decode cX8_passes 43 = .ok (.getfield 78, 3) := dk_180 0 78 (dk_at dksX8_passes_1 19 rfl rfl)
theorem dX8_passes_46 : decode cX8_passes 46 = .ok (.aload_n 0, 1) := dk_42 (dk_at dksX8_passes_1 22 rfl rfl)
theorem dX8_passes_47 : decode cX8_passes 47 = .ok (.getfield 3, 3) := dk_180 0 3 (dk_at dksX8_passes_2 0 rfl rfl)
theorem dX8_passes_50 : decode cX8_passes 50 = .ok (.getfield 33, 3) := dk_180 0 33 (dk_at dksX8_passes_2 3 rfl rfl)
theorem dX8_passes_53 : decode cX8_passes 53 = .ok (.getfield 37, 3) := dk_180 0 37 (dk_at dksX8_passes_2 6 rfl rfl)
theorem dX8_passes_56 : decode cX8_passes 56 = .ok (.getfield 81, 3) := dk_180 0 81 (dk_at dksX8_passes_2 9 rfl rfl)
theorem dX8_passes_59 : decode cX8_passes 59 = .ok (.iload 4, 2) := dk_21 4 (dk_at dksX8_passes_2 12 rfl rfl)
theorem dX8_passes_61 : decode cX8_passes 61 = .ok (.aaload, 1) := dk_50 (dk_at dksX8_passes_2 14 rfl rfl)
theorem dX8_passes_62 : decode cX8_passes 62 = .ok (.getfield 85, 3) := dk_180 0 85 (dk_at dksX8_passes_2 15 rfl rfl)
theorem dX8_passes_65 : decode cX8_passes 65 = .ok (.ishr, 1) := dk_122 (dk_at dksX8_passes_2 18 rfl rfl)
theorem dX8_passes_66 : decode cX8_passes 66 = .ok (.iconst 1, 1) := dk_4 (dk_at dksX8_passes_2 19 rfl rfl)
theorem dX8_passes_67 : decode cX8_passes 67 = .ok (.iand, 1) := dk_126 (dk_at dksX8_passes_2 20 rfl rfl)
theorem dX8_passes_68 : decode cX8_passes 68 = .ok (.ifCond .eq 49, 3) := dk_153 0 49 (dk_at dksX8_passes_2 21 rfl rfl)
theorem dX8_passes_71 : decode cX8_passes 71 = .ok (.iload 5, 2) := dk_21 5 (dk_at dksX8_passes_3 0 rfl rfl)
theorem dX8_passes_73 : decode cX8_passes 73 = .ok (.iload_n 2, 1) := dk_28 (dk_at dksX8_passes_3 2 rfl rfl)
theorem dX8_passes_74 : decode cX8_passes 74 = .ok (.if_icmp .gt 43, 3) := dk_163 0 43 (dk_at dksX8_passes_3 3 rfl rfl)
theorem dX8_passes_77 : decode cX8_passes 77 = .ok (.iload 5, 2) := dk_21 5 (dk_at dksX8_passes_3 6 rfl rfl)
theorem dX8_passes_79 : decode cX8_passes 79 = .ok (.aload_n 0, 1) := dk_42 (dk_at dksX8_passes_3 8 rfl rfl)
theorem dX8_passes_80 : decode cX8_passes 80 = .ok (.getfield 17, 3) := dk_180 0 17 (dk_at dksX8_passes_3 9 rfl rfl)
theorem dX8_passes_83 : decode cX8_passes 83 = .ok (.iconst 1, 1) := dk_4 (dk_at dksX8_passes_3 12 rfl rfl)
theorem dX8_passes_84 : decode cX8_passes 84 = .ok (.aload_n 1, 1) := dk_43 (dk_at dksX8_passes_3 13 rfl rfl)
theorem dX8_passes_85 : decode cX8_passes 85 = .ok (.getfield 74, 3) := dk_180 0 74 (dk_at dksX8_passes_3 14 rfl rfl)
theorem dX8_passes_88 : decode cX8_passes 88 = .ok (.isub, 1) := dk_100 (dk_at dksX8_passes_3 17 rfl rfl)
theorem dX8_passes_89 : decode cX8_passes 89 = .ok (.aaload, 1) := dk_50 (dk_at dksX8_passes_3 18 rfl rfl)
theorem dX8_passes_90 : decode cX8_passes 90 = .ok (.iload 4, 2) := dk_21 4 (dk_at dksX8_passes_3 19 rfl rfl)
theorem dX8_passes_92 : decode cX8_passes 92 = .ok (.iaload, 1) := dk_46 (dk_at dksX8_passes_3 21 rfl rfl)
theorem dX8_passes_93 : decode cX8_passes 93 = .ok (.if_icmp .lt 6, 3) := dk_161 0 6 (dk_at dksX8_passes_4 0 rfl rfl)
theorem dX8_passes_96 : decode cX8_passes 96 = .ok (.goto 21, 3) := dk_167 0 21 (dk_at dksX8_passes_4 3 rfl rfl)
theorem dX8_passes_99 : decode cX8_passes 99 = .ok (.aload_n 0, 1) := dk_42 (dk_at dksX8_passes_4 6 rfl rfl)
theorem dX8_passes_100 : decode cX8_passes 100 = .ok (.getfield 17, 3) := dk_180 0 17 (dk_at dksX8_passes_4 7 rfl rfl)
theorem dX8_passes_103 : decode cX8_passes 103 = .ok (.iconst 1, 1) := dk_4 (dk_at dksX8_passes_4 10 rfl rfl)
theorem dX8_passes_104 : decode cX8_passes 104 = .ok (.aload_n 1, 1) := dk_43 (dk_at dksX8_passes_4 11 rfl rfl)
theorem dX8_passes_105 : decode cX8_passes 105 = .ok (.getfield 74, 3) := dk_180 0 74 (dk_at dksX8_passes_4 12 rfl rfl)
theorem dX8_passes_108 : decode cX8_passes 108 = .ok (.isub, 1) := dk_100 (dk_at dksX8_passes_4 15 rfl rfl)
theorem dX8_passes_109 : decode cX8_passes 109 = .ok (.aaload, 1) := dk_50 (dk_at dksX8_passes_4 16 rfl rfl)
theorem dX8_passes_110 : decode cX8_passes 110 = .ok (.iload 4, 2) := dk_21 4 (dk_at dksX8_passes_4 17 rfl rfl)
theorem dX8_passes_112 : decode cX8_passes 112 = .ok (.iload 5, 2) := dk_21 5 (dk_at dksX8_passes_4 19 rfl rfl)
theorem dX8_passes_114 : decode cX8_passes 114 = .ok (.iastore, 1) := dk_79 (dk_at dksX8_passes_4 21 rfl rfl)
theorem dX8_passes_115 : decode cX8_passes 115 = .ok (.iconst 1, 1) := dk_4 (dk_at dksX8_passes_4 22 rfl rfl)
theorem dX8_passes_116 : decode cX8_passes 116 = .ok (.istore_n 3, 1) := dk_62 (dk_at dksX8_passes_4 23 rfl rfl)
theorem dX8_passes_117 : decode cX8_passes 117 = .ok (.iinc 4 1, 3) := dk_132 4 1 (dk_at dksX8_passes_5 0 rfl rfl)
theorem dX8_passes_120 : decode cX8_passes 120 = .ok (.goto (-115), 3) := dk_167 255 141 (dk_at dksX8_passes_5 3 rfl rfl)
theorem dX8_passes_123 : decode cX8_passes 123 = .ok (.iload_n 3, 1) := dk_29 (dk_at dksX8_passes_5 6 rfl rfl)
theorem dX8_passes_124 : decode cX8_passes 124 = .ok (.ireturn, 1) := dk_172 (dk_at dksX8_passes_5 7 rfl rfl)
abbrev cX8_suited : ByteArray := prog_12_method_7_code
def yX8_suited : MethodName := ⟨RX8, "suited", "(II)I"⟩
def dkwX8_suited_4 : List UInt8 := [132, 4, 1, 167, 255, 165, 29, 172]
abbrev dktX8_suited_4 : List UInt8 := dkwX8_suited_4 ++ []
def dkwX8_suited_3 : List UInt8 := [180, 0, 17, 27, 50, 21, 4, 46, 42, 180, 0, 17, 27, 50, 29, 46, 162, 0, 6, 21, 4, 62]
abbrev dktX8_suited_3 : List UInt8 := dkwX8_suited_3 ++ dktX8_suited_4
def dkwX8_suited_2 : List UInt8 := [160, 0, 46, 42, 180, 0, 17, 27, 50, 21, 4, 46, 17, 3, 232, 162, 0, 31, 29, 2, 159, 0, 23, 42]
abbrev dktX8_suited_2 : List UInt8 := dkwX8_suited_2 ++ dktX8_suited_3
def dkwX8_suited_1 : List UInt8 := [180, 0, 3, 180, 0, 33, 180, 0, 37, 180, 0, 81, 28, 50, 180, 0, 100, 21, 4, 122, 4, 126, 4]
abbrev dktX8_suited_1 : List UInt8 := dkwX8_suited_1 ++ dktX8_suited_2
def dkwX8_suited_0 : List UInt8 := [2, 62, 3, 54, 4, 21, 4, 42, 180, 0, 3, 180, 0, 33, 180, 0, 37, 180, 0, 71, 162, 0, 79, 42]
abbrev dktX8_suited_0 : List UInt8 := dkwX8_suited_0 ++ dktX8_suited_1
theorem dksX8_suited_0 : cX8_suited.data.toList.drop 0 = dktX8_suited_0 := by decide +kernel
theorem dksX8_suited_1 : cX8_suited.data.toList.drop 24 = dktX8_suited_1 := dk_seg dksX8_suited_0 24 rfl rfl
theorem dksX8_suited_2 : cX8_suited.data.toList.drop 47 = dktX8_suited_2 := dk_seg dksX8_suited_1 23 rfl rfl
theorem dksX8_suited_3 : cX8_suited.data.toList.drop 71 = dktX8_suited_3 := dk_seg dksX8_suited_2 24 rfl rfl
theorem dksX8_suited_4 : cX8_suited.data.toList.drop 93 = dktX8_suited_4 := dk_seg dksX8_suited_3 22 rfl rfl
theorem dX8_suited_0 : decode cX8_suited 0 = .ok (.iconst (-1), 1) := dk_2 (dk_at dksX8_suited_0 0 rfl rfl)
theorem dX8_suited_1 : decode cX8_suited 1 = .ok (.istore_n 3, 1) := dk_62 (dk_at dksX8_suited_0 1 rfl rfl)
theorem dX8_suited_2 : decode cX8_suited 2 = .ok (.iconst 0, 1) := dk_3 (dk_at dksX8_suited_0 2 rfl rfl)
theorem dX8_suited_3 : decode cX8_suited 3 = .ok (.istore 4, 2) := dk_54 4 (dk_at dksX8_suited_0 3 rfl rfl)
theorem dX8_suited_5 : decode cX8_suited 5 = .ok (.iload 4, 2) := dk_21 4 (dk_at dksX8_suited_0 5 rfl rfl)
theorem dX8_suited_7 : decode cX8_suited 7 = .ok (.aload_n 0, 1) := dk_42 (dk_at dksX8_suited_0 7 rfl rfl)
theorem dX8_suited_8 : decode cX8_suited 8 = .ok (.getfield 3, 3) := dk_180 0 3 (dk_at dksX8_suited_0 8 rfl rfl)
theorem dX8_suited_11 : decode cX8_suited 11 = .ok (.getfield 33, 3) := dk_180 0 33 (dk_at dksX8_suited_0 11 rfl rfl)
theorem dX8_suited_14 : decode cX8_suited 14 = .ok (.getfield 37, 3) := dk_180 0 37 (dk_at dksX8_suited_0 14 rfl rfl)
theorem dX8_suited_17 : decode cX8_suited 17 = .ok (.getfield 71, 3) := dk_180 0 71 (dk_at dksX8_suited_0 17 rfl rfl)
theorem dX8_suited_20 : decode cX8_suited 20 = .ok (.if_icmp .ge 79, 3) := dk_162 0 79 (dk_at dksX8_suited_0 20 rfl rfl)
theorem dX8_suited_23 : decode cX8_suited 23 = .ok (.aload_n 0, 1) := dk_42 (dk_at dksX8_suited_0 23 rfl rfl)
theorem dX8_suited_24 : decode cX8_suited 24 = .ok (.getfield 3, 3) := dk_180 0 3 (dk_at dksX8_suited_1 0 rfl rfl)
theorem dX8_suited_27 : decode cX8_suited 27 = .ok (.getfield 33, 3) := dk_180 0 33 (dk_at dksX8_suited_1 3 rfl rfl)
theorem dX8_suited_30 : decode cX8_suited 30 = .ok (.getfield 37, 3) := dk_180 0 37 (dk_at dksX8_suited_1 6 rfl rfl)
theorem dX8_suited_33 : decode cX8_suited 33 = .ok (.getfield 81, 3) := dk_180 0 81 (dk_at dksX8_suited_1 9 rfl rfl)
theorem dX8_suited_36 : decode cX8_suited 36 = .ok (.iload_n 2, 1) := dk_28 (dk_at dksX8_suited_1 12 rfl rfl)
theorem dX8_suited_37 : decode cX8_suited 37 = .ok (.aaload, 1) := dk_50 (dk_at dksX8_suited_1 13 rfl rfl)
theorem dX8_suited_38 : decode cX8_suited 38 = .ok (.getfield 100, 3) := dk_180 0 100 (dk_at dksX8_suited_1 14 rfl rfl)
theorem dX8_suited_41 : decode cX8_suited 41 = .ok (.iload 4, 2) := dk_21 4 (dk_at dksX8_suited_1 17 rfl rfl)
theorem dX8_suited_43 : decode cX8_suited 43 = .ok (.ishr, 1) := dk_122 (dk_at dksX8_suited_1 19 rfl rfl)
theorem dX8_suited_44 : decode cX8_suited 44 = .ok (.iconst 1, 1) := dk_4 (dk_at dksX8_suited_1 20 rfl rfl)
theorem dX8_suited_45 : decode cX8_suited 45 = .ok (.iand, 1) := dk_126 (dk_at dksX8_suited_1 21 rfl rfl)
theorem dX8_suited_46 : decode cX8_suited 46 = .ok (.iconst 1, 1) := dk_4 (dk_at dksX8_suited_1 22 rfl rfl)
theorem dX8_suited_47 : decode cX8_suited 47 = .ok (.if_icmp .ne 46, 3) := dk_160 0 46 (dk_at dksX8_suited_2 0 rfl rfl)
theorem dX8_suited_50 : decode cX8_suited 50 = .ok (.aload_n 0, 1) := dk_42 (dk_at dksX8_suited_2 3 rfl rfl)
theorem dX8_suited_51 : decode cX8_suited 51 = .ok (.getfield 17, 3) := dk_180 0 17 (dk_at dksX8_suited_2 4 rfl rfl)
theorem dX8_suited_54 : decode cX8_suited 54 = .ok (.iload_n 1, 1) := dk_27 (dk_at dksX8_suited_2 7 rfl rfl)
theorem dX8_suited_55 : decode cX8_suited 55 = .ok (.aaload, 1) := dk_50 (dk_at dksX8_suited_2 8 rfl rfl)
theorem dX8_suited_56 : decode cX8_suited 56 = .ok (.iload 4, 2) := dk_21 4 (dk_at dksX8_suited_2 9 rfl rfl)
theorem dX8_suited_58 : decode cX8_suited 58 = .ok (.iaload, 1) := dk_46 (dk_at dksX8_suited_2 11 rfl rfl)
theorem dX8_suited_59 : decode cX8_suited 59 = .ok (.sipush 1000, 3) := dk_17 3 232 (dk_at dksX8_suited_2 12 rfl rfl)
theorem dX8_suited_62 : decode cX8_suited 62 = .ok (.if_icmp .ge 31, 3) := dk_162 0 31 (dk_at dksX8_suited_2 15 rfl rfl)
theorem dX8_suited_65 : decode cX8_suited 65 = .ok (.iload_n 3, 1) := dk_29 (dk_at dksX8_suited_2 18 rfl rfl)
theorem dX8_suited_66 : decode cX8_suited 66 = .ok (.iconst (-1), 1) := dk_2 (dk_at dksX8_suited_2 19 rfl rfl)
theorem dX8_suited_67 : decode cX8_suited 67 = .ok (.if_icmp .eq 23, 3) := dk_159 0 23 (dk_at dksX8_suited_2 20 rfl rfl)
theorem dX8_suited_70 : decode cX8_suited 70 = .ok (.aload_n 0, 1) := dk_42 (dk_at dksX8_suited_2 23 rfl rfl)
theorem dX8_suited_71 : decode cX8_suited 71 = .ok (.getfield 17, 3) := dk_180 0 17 (dk_at dksX8_suited_3 0 rfl rfl)
theorem dX8_suited_74 : decode cX8_suited 74 = .ok (.iload_n 1, 1) := dk_27 (dk_at dksX8_suited_3 3 rfl rfl)
theorem dX8_suited_75 : decode cX8_suited 75 = .ok (.aaload, 1) := dk_50 (dk_at dksX8_suited_3 4 rfl rfl)
theorem dX8_suited_76 : decode cX8_suited 76 = .ok (.iload 4, 2) := dk_21 4 (dk_at dksX8_suited_3 5 rfl rfl)
theorem dX8_suited_78 : decode cX8_suited 78 = .ok (.iaload, 1) := dk_46 (dk_at dksX8_suited_3 7 rfl rfl)
theorem dX8_suited_79 : decode cX8_suited 79 = .ok (.aload_n 0, 1) := dk_42 (dk_at dksX8_suited_3 8 rfl rfl)
theorem dX8_suited_80 : decode cX8_suited 80 = .ok (.getfield 17, 3) := dk_180 0 17 (dk_at dksX8_suited_3 9 rfl rfl)
theorem dX8_suited_83 : decode cX8_suited 83 = .ok (.iload_n 1, 1) := dk_27 (dk_at dksX8_suited_3 12 rfl rfl)
theorem dX8_suited_84 : decode cX8_suited 84 = .ok (.aaload, 1) := dk_50 (dk_at dksX8_suited_3 13 rfl rfl)
theorem dX8_suited_85 : decode cX8_suited 85 = .ok (.iload_n 3, 1) := dk_29 (dk_at dksX8_suited_3 14 rfl rfl)
theorem dX8_suited_86 : decode cX8_suited 86 = .ok (.iaload, 1) := dk_46 (dk_at dksX8_suited_3 15 rfl rfl)
theorem dX8_suited_87 : decode cX8_suited 87 = .ok (.if_icmp .ge 6, 3) := dk_162 0 6 (dk_at dksX8_suited_3 16 rfl rfl)
theorem dX8_suited_90 : decode cX8_suited 90 = .ok (.iload 4, 2) := dk_21 4 (dk_at dksX8_suited_3 19 rfl rfl)
theorem dX8_suited_92 : decode cX8_suited 92 = .ok (.istore_n 3, 1) := dk_62 (dk_at dksX8_suited_3 21 rfl rfl)
theorem dX8_suited_93 : decode cX8_suited 93 = .ok (.iinc 4 1, 3) := dk_132 4 1 (dk_at dksX8_suited_4 0 rfl rfl)
theorem dX8_suited_96 : decode cX8_suited 96 = .ok (.goto (-91), 3) := dk_167 255 165 (dk_at dksX8_suited_4 3 rfl rfl)
theorem dX8_suited_99 : decode cX8_suited 99 = .ok (.iload_n 3, 1) := dk_29 (dk_at dksX8_suited_4 6 rfl rfl)
theorem dX8_suited_100 : decode cX8_suited 100 = .ok (.ireturn, 1) := dk_172 (dk_at dksX8_suited_4 7 rfl rfl)
abbrev cX8_said : ByteArray := prog_12_method_6_code
def yX8_said : MethodName := ⟨RX8, "said", "(I)I"⟩
def dkwX8_said_2 : List UInt8 := [153, 0, 14, 42, 180, 0, 17, 4, 50, 27, 46, 167, 0, 6, 17, 3, 232, 62, 28, 29, 184, 0, 90, 172]
abbrev dktX8_said_2 : List UInt8 := dkwX8_said_2 ++ []
def dkwX8_said_1 : List UInt8 := [27, 46, 167, 0, 6, 17, 3, 232, 61, 42, 180, 0, 3, 180, 0, 33, 180, 0, 37, 4, 27, 182, 0, 96]
abbrev dktX8_said_1 : List UInt8 := dkwX8_said_1 ++ dktX8_said_2
def dkwX8_said_0 : List UInt8 := [42, 180, 0, 3, 180, 0, 33, 180, 0, 37, 3, 27, 182, 0, 96, 153, 0, 14, 42, 180, 0, 17, 3, 50]
abbrev dktX8_said_0 : List UInt8 := dkwX8_said_0 ++ dktX8_said_1
theorem dksX8_said_0 : cX8_said.data.toList.drop 0 = dktX8_said_0 := by decide +kernel
theorem dksX8_said_1 : cX8_said.data.toList.drop 24 = dktX8_said_1 := dk_seg dksX8_said_0 24 rfl rfl
theorem dksX8_said_2 : cX8_said.data.toList.drop 48 = dktX8_said_2 := dk_seg dksX8_said_1 24 rfl rfl
theorem dX8_said_0 : decode cX8_said 0 = .ok (.aload_n 0, 1) := dk_42 (dk_at dksX8_said_0 0 rfl rfl)
theorem dX8_said_1 : decode cX8_said 1 = .ok (.getfield 3, 3) := dk_180 0 3 (dk_at dksX8_said_0 1 rfl rfl)
theorem dX8_said_4 : decode cX8_said 4 = .ok (.getfield 33, 3) := dk_180 0 33 (dk_at dksX8_said_0 4 rfl rfl)
theorem dX8_said_7 : decode cX8_said 7 = .ok (.getfield 37, 3) := dk_180 0 37 (dk_at dksX8_said_0 7 rfl rfl)
theorem dX8_said_10 : decode cX8_said 10 = .ok (.iconst 0, 1) := dk_3 (dk_at dksX8_said_0 10 rfl rfl)
theorem dX8_said_11 : decode cX8_said 11 = .ok (.iload_n 1, 1) := dk_27 (dk_at dksX8_said_0 11 rfl rfl)
theorem dX8_said_12 : decode cX8_said 12 = .ok (.invokevirtual 96, 3) := dk_182 0 96 (dk_at dksX8_said_0 12 rfl rfl)
theorem dX8_said_15 : decode cX8_said 15 = .ok (.ifCond .eq 14, 3) := dk_153 0 14 (dk_at dksX8_said_0 15 rfl rfl)
theorem dX8_said_18 : decode cX8_said 18 = .ok (.aload_n 0, 1) := dk_42 (dk_at dksX8_said_0 18 rfl rfl)
theorem dX8_said_19 : decode cX8_said 19 = .ok (.getfield 17, 3) := dk_180 0 17 (dk_at dksX8_said_0 19 rfl rfl)
theorem dX8_said_22 : decode cX8_said 22 = .ok (.iconst 0, 1) := dk_3 (dk_at dksX8_said_0 22 rfl rfl)
theorem dX8_said_23 : decode cX8_said 23 = .ok (.aaload, 1) := dk_50 (dk_at dksX8_said_0 23 rfl rfl)
theorem dX8_said_24 : decode cX8_said 24 = .ok (.iload_n 1, 1) := dk_27 (dk_at dksX8_said_1 0 rfl rfl)
theorem dX8_said_25 : decode cX8_said 25 = .ok (.iaload, 1) := dk_46 (dk_at dksX8_said_1 1 rfl rfl)
theorem dX8_said_26 : decode cX8_said 26 = .ok (.goto 6, 3) := dk_167 0 6 (dk_at dksX8_said_1 2 rfl rfl)
theorem dX8_said_29 : decode cX8_said 29 = .ok (.sipush 1000, 3) := dk_17 3 232 (dk_at dksX8_said_1 5 rfl rfl)
theorem dX8_said_32 : decode cX8_said 32 = .ok (.istore_n 2, 1) := dk_61 (dk_at dksX8_said_1 8 rfl rfl)
theorem dX8_said_33 : decode cX8_said 33 = .ok (.aload_n 0, 1) := dk_42 (dk_at dksX8_said_1 9 rfl rfl)
theorem dX8_said_34 : decode cX8_said 34 = .ok (.getfield 3, 3) := dk_180 0 3 (dk_at dksX8_said_1 10 rfl rfl)
theorem dX8_said_37 : decode cX8_said 37 = .ok (.getfield 33, 3) := dk_180 0 33 (dk_at dksX8_said_1 13 rfl rfl)
theorem dX8_said_40 : decode cX8_said 40 = .ok (.getfield 37, 3) := dk_180 0 37 (dk_at dksX8_said_1 16 rfl rfl)
theorem dX8_said_43 : decode cX8_said 43 = .ok (.iconst 1, 1) := dk_4 (dk_at dksX8_said_1 19 rfl rfl)
theorem dX8_said_44 : decode cX8_said 44 = .ok (.iload_n 1, 1) := dk_27 (dk_at dksX8_said_1 20 rfl rfl)
theorem dX8_said_45 : decode cX8_said 45 = .ok (.invokevirtual 96, 3) := dk_182 0 96 (dk_at dksX8_said_1 21 rfl rfl)
theorem dX8_said_48 : decode cX8_said 48 = .ok (.ifCond .eq 14, 3) := dk_153 0 14 (dk_at dksX8_said_2 0 rfl rfl)
theorem dX8_said_51 : decode cX8_said 51 = .ok (.aload_n 0, 1) := dk_42 (dk_at dksX8_said_2 3 rfl rfl)
theorem dX8_said_52 : decode cX8_said 52 = .ok (.getfield 17, 3) := dk_180 0 17 (dk_at dksX8_said_2 4 rfl rfl)
theorem dX8_said_55 : decode cX8_said 55 = .ok (.iconst 1, 1) := dk_4 (dk_at dksX8_said_2 7 rfl rfl)
theorem dX8_said_56 : decode cX8_said 56 = .ok (.aaload, 1) := dk_50 (dk_at dksX8_said_2 8 rfl rfl)
theorem dX8_said_57 : decode cX8_said 57 = .ok (.iload_n 1, 1) := dk_27 (dk_at dksX8_said_2 9 rfl rfl)
theorem dX8_said_58 : decode cX8_said 58 = .ok (.iaload, 1) := dk_46 (dk_at dksX8_said_2 10 rfl rfl)
theorem dX8_said_59 : decode cX8_said 59 = .ok (.goto 6, 3) := dk_167 0 6 (dk_at dksX8_said_2 11 rfl rfl)
theorem dX8_said_62 : decode cX8_said 62 = .ok (.sipush 1000, 3) := dk_17 3 232 (dk_at dksX8_said_2 14 rfl rfl)
theorem dX8_said_65 : decode cX8_said 65 = .ok (.istore_n 3, 1) := dk_62 (dk_at dksX8_said_2 17 rfl rfl)
theorem dX8_said_66 : decode cX8_said 66 = .ok (.iload_n 2, 1) := dk_28 (dk_at dksX8_said_2 18 rfl rfl)
theorem dX8_said_67 : decode cX8_said 67 = .ok (.iload_n 3, 1) := dk_29 (dk_at dksX8_said_2 19 rfl rfl)
theorem dX8_said_68 : decode cX8_said 68 = .ok (.invokestatic 90, 3) := dk_184 0 90 (dk_at dksX8_said_2 20 rfl rfl)
theorem dX8_said_71 : decode cX8_said 71 = .ok (.ireturn, 1) := dk_172 (dk_at dksX8_said_2 23 rfl rfl)
abbrev cX8_mean : ByteArray := prog_12_method_5_code
def yX8_mean : MethodName := ⟨RX8, "mean", "(LTwoHalves$Showing;Z)V"⟩
def dkwX8_mean_2 : List UInt8 := [42, 180, 0, 17, 4, 50, 29, 21, 4, 79, 132, 3, 1, 167, 255, 202, 177]
abbrev dktX8_mean_2 : List UInt8 := dkwX8_mean_2 ++ []
def dkwX8_mean_1 : List UInt8 := [46, 42, 180, 0, 17, 4, 50, 29, 46, 184, 0, 90, 54, 4, 42, 180, 0, 17, 3, 50, 29, 21, 4, 79]
abbrev dktX8_mean_1 : List UInt8 := dkwX8_mean_1 ++ dktX8_mean_2
def dkwX8_mean_0 : List UInt8 := [42, 43, 182, 0, 29, 3, 62, 29, 16, 16, 162, 0, 54, 28, 153, 0, 50, 42, 180, 0, 17, 3, 50, 29]
abbrev dktX8_mean_0 : List UInt8 := dkwX8_mean_0 ++ dktX8_mean_1
theorem dksX8_mean_0 : cX8_mean.data.toList.drop 0 = dktX8_mean_0 := by decide +kernel
theorem dksX8_mean_1 : cX8_mean.data.toList.drop 24 = dktX8_mean_1 := dk_seg dksX8_mean_0 24 rfl rfl
theorem dksX8_mean_2 : cX8_mean.data.toList.drop 48 = dktX8_mean_2 := dk_seg dksX8_mean_1 24 rfl rfl
theorem dX8_mean_0 : decode cX8_mean 0 = .ok (.aload_n 0, 1) := dk_42 (dk_at dksX8_mean_0 0 rfl rfl)
theorem dX8_mean_1 : decode cX8_mean 1 = .ok (.aload_n 1, 1) := dk_43 (dk_at dksX8_mean_0 1 rfl rfl)
theorem dX8_mean_2 : decode cX8_mean 2 = .ok (.invokevirtual 29, 3) := dk_182 0 29 (dk_at dksX8_mean_0 2 rfl rfl)
theorem dX8_mean_5 : decode cX8_mean 5 = .ok (.iconst 0, 1) := dk_3 (dk_at dksX8_mean_0 5 rfl rfl)
theorem dX8_mean_6 : decode cX8_mean 6 = .ok (.istore_n 3, 1) := dk_62 (dk_at dksX8_mean_0 6 rfl rfl)
theorem dX8_mean_7 : decode cX8_mean 7 = .ok (.iload_n 3, 1) := dk_29 (dk_at dksX8_mean_0 7 rfl rfl)
theorem dX8_mean_8 : decode cX8_mean 8 = .ok (.bipush 16, 2) := dk_16 16 (dk_at dksX8_mean_0 8 rfl rfl)
theorem dX8_mean_10 : decode cX8_mean 10 = .ok (.if_icmp .ge 54, 3) := dk_162 0 54 (dk_at dksX8_mean_0 10 rfl rfl)
theorem dX8_mean_13 : decode cX8_mean 13 = .ok (.iload_n 2, 1) := dk_28 (dk_at dksX8_mean_0 13 rfl rfl)
theorem dX8_mean_14 : decode cX8_mean 14 = .ok (.ifCond .eq 50, 3) := dk_153 0 50 (dk_at dksX8_mean_0 14 rfl rfl)
theorem dX8_mean_17 : decode cX8_mean 17 = .ok (.aload_n 0, 1) := dk_42 (dk_at dksX8_mean_0 17 rfl rfl)
theorem dX8_mean_18 : decode cX8_mean 18 = .ok (.getfield 17, 3) := dk_180 0 17 (dk_at dksX8_mean_0 18 rfl rfl)
theorem dX8_mean_21 : decode cX8_mean 21 = .ok (.iconst 0, 1) := dk_3 (dk_at dksX8_mean_0 21 rfl rfl)
theorem dX8_mean_22 : decode cX8_mean 22 = .ok (.aaload, 1) := dk_50 (dk_at dksX8_mean_0 22 rfl rfl)
theorem dX8_mean_23 : decode cX8_mean 23 = .ok (.iload_n 3, 1) := dk_29 (dk_at dksX8_mean_0 23 rfl rfl)
theorem dX8_mean_24 : decode cX8_mean 24 = .ok (.iaload, 1) := dk_46 (dk_at dksX8_mean_1 0 rfl rfl)
theorem dX8_mean_25 : decode cX8_mean 25 = .ok (.aload_n 0, 1) := dk_42 (dk_at dksX8_mean_1 1 rfl rfl)
theorem dX8_mean_26 : decode cX8_mean 26 = .ok (.getfield 17, 3) := dk_180 0 17 (dk_at dksX8_mean_1 2 rfl rfl)
theorem dX8_mean_29 : decode cX8_mean 29 = .ok (.iconst 1, 1) := dk_4 (dk_at dksX8_mean_1 5 rfl rfl)
theorem dX8_mean_30 : decode cX8_mean 30 = .ok (.aaload, 1) := dk_50 (dk_at dksX8_mean_1 6 rfl rfl)
theorem dX8_mean_31 : decode cX8_mean 31 = .ok (.iload_n 3, 1) := dk_29 (dk_at dksX8_mean_1 7 rfl rfl)
theorem dX8_mean_32 : decode cX8_mean 32 = .ok (.iaload, 1) := dk_46 (dk_at dksX8_mean_1 8 rfl rfl)
theorem dX8_mean_33 : decode cX8_mean 33 = .ok (.invokestatic 90, 3) := dk_184 0 90 (dk_at dksX8_mean_1 9 rfl rfl)
theorem dX8_mean_36 : decode cX8_mean 36 = .ok (.istore 4, 2) := dk_54 4 (dk_at dksX8_mean_1 12 rfl rfl)
theorem dX8_mean_38 : decode cX8_mean 38 = .ok (.aload_n 0, 1) := dk_42 (dk_at dksX8_mean_1 14 rfl rfl)
theorem dX8_mean_39 : decode cX8_mean 39 = .ok (.getfield 17, 3) := dk_180 0 17 (dk_at dksX8_mean_1 15 rfl rfl)
theorem dX8_mean_42 : decode cX8_mean 42 = .ok (.iconst 0, 1) := dk_3 (dk_at dksX8_mean_1 18 rfl rfl)
theorem dX8_mean_43 : decode cX8_mean 43 = .ok (.aaload, 1) := dk_50 (dk_at dksX8_mean_1 19 rfl rfl)
theorem dX8_mean_44 : decode cX8_mean 44 = .ok (.iload_n 3, 1) := dk_29 (dk_at dksX8_mean_1 20 rfl rfl)
theorem dX8_mean_45 : decode cX8_mean 45 = .ok (.iload 4, 2) := dk_21 4 (dk_at dksX8_mean_1 21 rfl rfl)
theorem dX8_mean_47 : decode cX8_mean 47 = .ok (.iastore, 1) := dk_79 (dk_at dksX8_mean_1 23 rfl rfl)
theorem dX8_mean_48 : decode cX8_mean 48 = .ok (.aload_n 0, 1) := dk_42 (dk_at dksX8_mean_2 0 rfl rfl)
theorem dX8_mean_49 : decode cX8_mean 49 = .ok (.getfield 17, 3) := dk_180 0 17 (dk_at dksX8_mean_2 1 rfl rfl)
theorem dX8_mean_52 : decode cX8_mean 52 = .ok (.iconst 1, 1) := dk_4 (dk_at dksX8_mean_2 4 rfl rfl)
theorem dX8_mean_53 : decode cX8_mean 53 = .ok (.aaload, 1) := dk_50 (dk_at dksX8_mean_2 5 rfl rfl)
theorem dX8_mean_54 : decode cX8_mean 54 = .ok (.iload_n 3, 1) := dk_29 (dk_at dksX8_mean_2 6 rfl rfl)
theorem dX8_mean_55 : decode cX8_mean 55 = .ok (.iload 4, 2) := dk_21 4 (dk_at dksX8_mean_2 7 rfl rfl)
theorem dX8_mean_57 : decode cX8_mean 57 = .ok (.iastore, 1) := dk_79 (dk_at dksX8_mean_2 9 rfl rfl)
theorem dX8_mean_58 : decode cX8_mean 58 = .ok (.iinc 3 1, 3) := dk_132 3 1 (dk_at dksX8_mean_2 10 rfl rfl)
theorem dX8_mean_61 : decode cX8_mean 61 = .ok (.goto (-54), 3) := dk_167 255 202 (dk_at dksX8_mean_2 13 rfl rfl)
theorem dX8_mean_64 : decode cX8_mean 64 = .ok (.return_, 1) := dk_177 (dk_at dksX8_mean_2 16 rfl rfl)
theorem q118 : (Jvm.Cond.initialized "TwoHalves$Mind") ∈ lw_all := lw_g (lw_at lw_m1 10 rfl) rfl
theorem q318 : (Jvm.Cond.fieldLinkNest "TwoHalves$Mind" (81 : Nat) "TwoHalves$Head" "things" "[LTwoHalves$Thing;" "TwoHalves") ∈ lw_tbl := lw_at lw_m1 210 rfl
theorem q322 : (Jvm.Cond.fieldLinkNest "TwoHalves$Mind" (48 : Nat) "TwoHalves$Head" "ways" "[LTwoHalves$Way;" "TwoHalves") ∈ lw_tbl := lw_at lw_m1 214 rfl
theorem q329 : (Jvm.Cond.fieldLinkNest "TwoHalves$Mind" (71 : Nat) "TwoHalves$Head" "thingMany" "I" "TwoHalves") ∈ lw_tbl := lw_at lw_m1 221 rfl
theorem q333 : (Jvm.Cond.fieldLinkNest "TwoHalves$Mind" (43 : Nat) "TwoHalves$Head" "wayMany" "I" "TwoHalves") ∈ lw_tbl := lw_at lw_m1 225 rfl
theorem q383 : (Jvm.Cond.fieldLinkNest "TwoHalves$Mind" (37 : Nat) "TwoHalves$State" "head" "LTwoHalves$Head;" "TwoHalves") ∈ lw_tbl := lw_at lw_m2 35 rfl
theorem q415 : (Jvm.Cond.instantiable "TwoHalves$Mind" (2 : Nat)) ∈ lw_all := lw_g (lw_at lw_m2 67 rfl) rfl
theorem q417 : (Jvm.Cond.instanceMethod ({ cls := "TwoHalves$Mind", name := "<init>", desc := "(LTwoHalves;)V" } : Jvm.MethodName)) ∈ lw_all := lw_g (lw_at lw_m2 69 rfl) rfl
theorem q418 : (Jvm.Cond.code ({ cls := "TwoHalves$Mind", name := "<init>", desc := "(LTwoHalves;)V" } : Jvm.MethodName) prog_12_method_1_code (2 : Nat) (Option.none : Option Jvm.ClassFile.FieldType)) ∈ lw_all := lw_g (lw_at lw_m2 70 rfl) rfl
theorem q419 : (Jvm.Cond.methodLink "TwoHalves$Mind" (9 : Nat) ({ cls := "java/lang/Object", name := "<init>", desc := "()V" } : Jvm.MethodName)) ∈ lw_all := lw_g (lw_at lw_m2 71 rfl) rfl
theorem q420 : (Jvm.Cond.classLink "TwoHalves$Mind" (15 : Nat) "[[I") ∈ lw_all := lw_g (lw_at lw_m2 72 rfl) rfl
theorem q422 : (Jvm.Cond.fieldLink "TwoHalves$Mind" (17 : Nat) "TwoHalves$Mind" "since" "[[I") ∈ lw_all := lw_g (lw_at lw_m2 74 rfl) rfl
theorem q425 : (Jvm.Cond.fieldLink "TwoHalves$Mind" (3 : Nat) "TwoHalves$Mind" "this$0" "LTwoHalves;") ∈ lw_all := lw_g (lw_at lw_m2 77 rfl) rfl
theorem q426 : (Jvm.Cond.laysFinal "TwoHalves$Mind" "TwoHalves$Mind" "since" "[[I") ∈ lw_all := lw_g (lw_at lw_m2 78 rfl) rfl
theorem q427 : (Jvm.Cond.soleField "TwoHalves$Mind" "since") ∈ lw_all := lw_g (lw_at lw_m2 79 rfl) rfl
theorem q428 : (Jvm.Cond.laysFinal "TwoHalves$Mind" "TwoHalves$Mind" "this$0" "LTwoHalves;") ∈ lw_all := lw_g (lw_at lw_m2 80 rfl) rfl
theorem q429 : (Jvm.Cond.soleField "TwoHalves$Mind" "this$0") ∈ lw_all := lw_g (lw_at lw_m2 81 rfl) rfl
theorem q430 : (Jvm.Cond.superclass "TwoHalves$Mind" "java/lang/Object") ∈ lw_all := lw_g (lw_at lw_m2 82 rfl) rfl
theorem q530 : (Jvm.Cond.fieldLinkNest "TwoHalves$Mind" (33 : Nat) "TwoHalves" "now" "LTwoHalves$State;" "TwoHalves") ∈ lw_tbl := lw_at lw_m2 182 rfl
theorem q782 : (Jvm.Cond.fieldLinkNest "TwoHalves$Mind" (85 : Nat) "TwoHalves$Thing" "kind" "I" "TwoHalves") ∈ lw_tbl := lw_at lw_m3 194 rfl
theorem q784 : (Jvm.Cond.fieldLinkNest "TwoHalves$Mind" (100 : Nat) "TwoHalves$Thing" "suits" "I" "TwoHalves") ∈ lw_tbl := lw_at lw_m3 196 rfl
theorem q826 : (Jvm.Cond.fieldLinkNest "TwoHalves$Mind" (74 : Nat) "TwoHalves$Way" "from" "I" "TwoHalves") ∈ lw_tbl := lw_at lw_m3 238 rfl
theorem q828 : (Jvm.Cond.fieldLinkNest "TwoHalves$Mind" (78 : Nat) "TwoHalves$Way" "kinds" "I" "TwoHalves") ∈ lw_tbl := lw_at lw_m4 0 rfl
theorem q831 : (Jvm.Cond.fieldLinkNest "TwoHalves$Mind" (77 : Nat) "TwoHalves$Way" "ticks" "I" "TwoHalves") ∈ lw_tbl := lw_at lw_m4 3 rfl
theorem q943 : (Jvm.Cond.fieldLinkNest "TwoHalves$Mind" (26 : Nat) "TwoHalves$Showing" "left" "I" "TwoHalves") ∈ lw_tbl := lw_at lw_m4 115 rfl
theorem q945 : (Jvm.Cond.fieldLinkNest "TwoHalves$Mind" (20 : Nat) "TwoHalves$Showing" "right" "I" "TwoHalves") ∈ lw_tbl := lw_at lw_m4 117 rfl
theorem q947 : (Jvm.Cond.fieldLinkNest "TwoHalves$Mind" (64 : Nat) "TwoHalves$Showing" "ticks" "I" "TwoHalves") ∈ lw_tbl := lw_at lw_m4 119 rfl
theorem q949 : (Jvm.Cond.fieldLinkNest "TwoHalves$Mind" (55 : Nat) "TwoHalves$Showing" "flags" "I" "TwoHalves") ∈ lw_tbl := lw_at lw_m4 121 rfl
theorem q951 : (Jvm.Cond.fieldLinkNest "TwoHalves$Mind" (52 : Nat) "TwoHalves$Showing" "years" "I" "TwoHalves") ∈ lw_tbl := lw_at lw_m4 123 rfl
theorem q978 : (Jvm.Cond.instanceMethod ({ cls := "TwoHalves$Mind", name := "spread", desc := "(LTwoHalves$Showing;IIZ)V" } : Jvm.MethodName)) ∈ lw_all := lw_g (lw_at lw_m4 150 rfl) rfl
theorem q979 : (Jvm.Cond.selects "TwoHalves$Mind" ({ cls := "TwoHalves$Mind", name := "spread", desc := "(LTwoHalves$Showing;IIZ)V" } : Jvm.MethodName) ({ cls := "TwoHalves$Mind", name := "spread", desc := "(LTwoHalves$Showing;IIZ)V" } : Jvm.MethodName)) ∈ lw_all := lw_g (lw_at lw_m4 151 rfl) rfl
theorem q980 : (Jvm.Cond.code ({ cls := "TwoHalves$Mind", name := "spread", desc := "(LTwoHalves$Showing;IIZ)V" } : Jvm.MethodName) prog_12_method_3_code (8 : Nat) (Option.none : Option Jvm.ClassFile.FieldType)) ∈ lw_all := lw_g (lw_at lw_m4 152 rfl) rfl
theorem q981 : (Jvm.Cond.methodLink "TwoHalves$Mind" (29 : Nat) ({ cls := "TwoHalves$Mind", name := "begin", desc := "(LTwoHalves$Showing;)V" } : Jvm.MethodName)) ∈ lw_all := lw_g (lw_at lw_m4 153 rfl) rfl
theorem q982 : (Jvm.Cond.privateMethod ({ cls := "TwoHalves$Mind", name := "begin", desc := "(LTwoHalves$Showing;)V" } : Jvm.MethodName)) ∈ lw_tbl := lw_at lw_m4 154 rfl
theorem q983 : (Jvm.Cond.instanceMethod ({ cls := "TwoHalves$Mind", name := "begin", desc := "(LTwoHalves$Showing;)V" } : Jvm.MethodName)) ∈ lw_all := lw_g (lw_at lw_m4 155 rfl) rfl
theorem q984 : (Jvm.Cond.code ({ cls := "TwoHalves$Mind", name := "begin", desc := "(LTwoHalves$Showing;)V" } : Jvm.MethodName) prog_12_method_2_code (3 : Nat) (Option.none : Option Jvm.ClassFile.FieldType)) ∈ lw_all := lw_g (lw_at lw_m4 156 rfl) rfl
theorem q985 : (Jvm.Cond.methodLink "TwoHalves$Mind" (58 : Nat) ({ cls := "TwoHalves$Way", name := "goes", desc := "(IIIIIZ)Z" } : Jvm.MethodName)) ∈ lw_all := lw_g (lw_at lw_m4 157 rfl) rfl
theorem q989 : (Jvm.Cond.methodLink "TwoHalves$Mind" (67 : Nat) ({ cls := "TwoHalves$Mind", name := "passes", desc := "(LTwoHalves$Way;I)Z" } : Jvm.MethodName)) ∈ lw_all := lw_g (lw_at lw_m4 161 rfl) rfl
theorem q990 : (Jvm.Cond.privateMethod ({ cls := "TwoHalves$Mind", name := "passes", desc := "(LTwoHalves$Way;I)Z" } : Jvm.MethodName)) ∈ lw_tbl := lw_at lw_m4 162 rfl
theorem q991 : (Jvm.Cond.instanceMethod ({ cls := "TwoHalves$Mind", name := "passes", desc := "(LTwoHalves$Way;I)Z" } : Jvm.MethodName)) ∈ lw_all := lw_g (lw_at lw_m4 163 rfl) rfl
theorem q992 : (Jvm.Cond.code ({ cls := "TwoHalves$Mind", name := "passes", desc := "(LTwoHalves$Way;I)Z" } : Jvm.MethodName) prog_12_method_4_code (6 : Nat) (Option.some Jvm.ClassFile.FieldType.boolean)) ∈ lw_all := lw_g (lw_at lw_m4 164 rfl) rfl
theorem q1020 : (Jvm.Cond.instanceMethod ({ cls := "TwoHalves$Mind", name := "suited", desc := "(II)I" } : Jvm.MethodName)) ∈ lw_all := lw_g (lw_at lw_m4 192 rfl) rfl
theorem q1021 : (Jvm.Cond.selects "TwoHalves$Mind" ({ cls := "TwoHalves$Mind", name := "suited", desc := "(II)I" } : Jvm.MethodName) ({ cls := "TwoHalves$Mind", name := "suited", desc := "(II)I" } : Jvm.MethodName)) ∈ lw_all := lw_g (lw_at lw_m4 193 rfl) rfl
theorem q1022 : (Jvm.Cond.code ({ cls := "TwoHalves$Mind", name := "suited", desc := "(II)I" } : Jvm.MethodName) prog_12_method_7_code (5 : Nat) (Option.some Jvm.ClassFile.FieldType.int)) ∈ lw_all := lw_g (lw_at lw_m4 194 rfl) rfl
theorem q1027 : (Jvm.Cond.instanceMethod ({ cls := "TwoHalves$Mind", name := "said", desc := "(I)I" } : Jvm.MethodName)) ∈ lw_all := lw_g (lw_at lw_m4 199 rfl) rfl
theorem q1028 : (Jvm.Cond.selects "TwoHalves$Mind" ({ cls := "TwoHalves$Mind", name := "said", desc := "(I)I" } : Jvm.MethodName) ({ cls := "TwoHalves$Mind", name := "said", desc := "(I)I" } : Jvm.MethodName)) ∈ lw_all := lw_g (lw_at lw_m4 200 rfl) rfl
theorem q1029 : (Jvm.Cond.code ({ cls := "TwoHalves$Mind", name := "said", desc := "(I)I" } : Jvm.MethodName) prog_12_method_6_code (4 : Nat) (Option.some Jvm.ClassFile.FieldType.int)) ∈ lw_all := lw_g (lw_at lw_m4 201 rfl) rfl
theorem q1030 : (Jvm.Cond.methodLink "TwoHalves$Mind" (96 : Nat) ({ cls := "TwoHalves$Head", name := "canSay", desc := "(II)Z" } : Jvm.MethodName)) ∈ lw_all := lw_g (lw_at lw_m4 202 rfl) rfl
theorem q1034 : (Jvm.Cond.methodLink "TwoHalves$Mind" (90 : Nat) ({ cls := "java/lang/Math", name := "min", desc := "(II)I" } : Jvm.MethodName)) ∈ lw_all := lw_g (lw_at lw_m4 206 rfl) rfl
theorem q1064 : (Jvm.Cond.instanceMethod ({ cls := "TwoHalves$Mind", name := "mean", desc := "(LTwoHalves$Showing;Z)V" } : Jvm.MethodName)) ∈ lw_all := lw_g (lw_at lw_m4 236 rfl) rfl
theorem q1065 : (Jvm.Cond.selects "TwoHalves$Mind" ({ cls := "TwoHalves$Mind", name := "mean", desc := "(LTwoHalves$Showing;Z)V" } : Jvm.MethodName) ({ cls := "TwoHalves$Mind", name := "mean", desc := "(LTwoHalves$Showing;Z)V" } : Jvm.MethodName)) ∈ lw_all := lw_g (lw_at lw_m4 237 rfl) rfl
theorem q1066 : (Jvm.Cond.code ({ cls := "TwoHalves$Mind", name := "mean", desc := "(LTwoHalves$Showing;Z)V" } : Jvm.MethodName) prog_12_method_5_code (5 : Nat) (Option.none : Option Jvm.ClassFile.FieldType)) ∈ lw_all := lw_g (lw_at lw_m4 238 rfl) rfl
theorem q1976 : (Jvm.Cond.castable "TwoHalves$Mind" "java/lang/Object") ∈ lw_tbl := lw_at lw_m8 188 rfl
theorem in_X8 : ∀ w ∈ wsX80, w ∈ lw_all := lw_in wsX80 [426, 428] (by decide +kernel) (by decide +kernel)
/-! TwoHalves$Asked -/
set_option maxRecDepth 100000
def RX9 : String := "TwoHalves$Asked"
abbrev cX9_init : ByteArray := prog_3_method_1_code
def yX9_init : MethodName := ⟨RX9, "<init>", "(LTwoHalves;)V"⟩
def dkwX9_init_0 : List UInt8 := [42, 43, 181, 0, 1, 42, 183, 0, 7, 177]
abbrev dktX9_init_0 : List UInt8 := dkwX9_init_0 ++ []
theorem dksX9_init_0 : cX9_init.data.toList.drop 0 = dktX9_init_0 := by decide +kernel
theorem dX9_init_0 : decode cX9_init 0 = .ok (.aload_n 0, 1) := dk_42 (dk_at dksX9_init_0 0 rfl rfl)
theorem dX9_init_1 : decode cX9_init 1 = .ok (.aload_n 1, 1) := dk_43 (dk_at dksX9_init_0 1 rfl rfl)
theorem dX9_init_2 : decode cX9_init 2 = .ok (.putfield 1, 3) := dk_181 0 1 (dk_at dksX9_init_0 2 rfl rfl)
theorem dX9_init_5 : decode cX9_init 5 = .ok (.aload_n 0, 1) := dk_42 (dk_at dksX9_init_0 5 rfl rfl)
theorem dX9_init_6 : decode cX9_init 6 = .ok (.invokespecial 7, 3) := dk_183 0 7 (dk_at dksX9_init_0 6 rfl rfl)
theorem dX9_init_9 : decode cX9_init 9 = .ok (.return_, 1) := dk_177 (dk_at dksX9_init_0 9 rfl rfl)
theorem q119 : (Jvm.Cond.initialized "TwoHalves$Asked") ∈ lw_all := lw_g (lw_at lw_m1 11 rfl) rfl
theorem q437 : (Jvm.Cond.instanceMethod ({ cls := "TwoHalves$Asked", name := "<init>", desc := "(LTwoHalves;)V" } : Jvm.MethodName)) ∈ lw_all := lw_g (lw_at lw_m2 89 rfl) rfl
theorem q438 : (Jvm.Cond.code ({ cls := "TwoHalves$Asked", name := "<init>", desc := "(LTwoHalves;)V" } : Jvm.MethodName) prog_3_method_1_code (2 : Nat) (Option.none : Option Jvm.ClassFile.FieldType)) ∈ lw_all := lw_g (lw_at lw_m2 90 rfl) rfl
theorem q439 : (Jvm.Cond.methodLink "TwoHalves$Asked" (7 : Nat) ({ cls := "java/lang/Object", name := "<init>", desc := "()V" } : Jvm.MethodName)) ∈ lw_all := lw_g (lw_at lw_m2 91 rfl) rfl
theorem q442 : (Jvm.Cond.fieldLink "TwoHalves$Asked" (1 : Nat) "TwoHalves$Asked" "this$0" "LTwoHalves;") ∈ lw_all := lw_g (lw_at lw_m2 94 rfl) rfl
theorem q448 : (Jvm.Cond.soleField "TwoHalves$Asked" "this$0") ∈ lw_all := lw_g (lw_at lw_m2 100 rfl) rfl
theorem q1014 : (Jvm.Cond.declares ({ cls := "TwoHalves$Asked", name := "answer", desc := "(LTwoHalves$Showing;LTwoHalves$Mind;)I" } : Jvm.MethodName)) ∈ lw_tbl := lw_at lw_m4 186 rfl
theorem q1015 : (Jvm.Cond.sameMethod "TwoHalves$Asked" "TwoHalves$Asked" "answer" "(LTwoHalves$Showing;LTwoHalves$Mind;)I") ∈ lw_all := lw_g (lw_at lw_m4 187 rfl) rfl
/-! TwoHalves$Hand -/
set_option maxRecDepth 100000
def RX10 : String := "TwoHalves$Hand"
def TX10 : u_T := fun k => match k with
  | 0 => ("TwoHalves$Asked", "this$0", "LTwoHalves;", true)
  | 1 => ("TwoHalves$Hand", "half", "I", true)
  | _ => ("TwoHalves$Hand", "this$0", "LTwoHalves;", true)
def tyX10 : Nat → FieldType := fun k => match k with
  | 0 => .object "TwoHalves"
  | 1 => .int
  | _ => .object "TwoHalves"
abbrev wsX100 : List Cond := u_ws RX10 TX10 3
-- two fields of one name: no nmX10
theorem tyX10_ok : ∀ k, k < 3 → parseFieldDescriptor (TX10 k).2.2.1 = some (tyX10 k) := by decide +kernel
abbrev cX10_init : ByteArray := prog_9_method_1_code
def yX10_init : MethodName := ⟨RX10, "<init>", "(LTwoHalves;I)V"⟩
def dkwX10_init_0 : List UInt8 := [42, 43, 181, 0, 3, 42, 43, 183, 0, 9, 42, 28, 181, 0, 15, 177]
abbrev dktX10_init_0 : List UInt8 := dkwX10_init_0 ++ []
theorem dksX10_init_0 : cX10_init.data.toList.drop 0 = dktX10_init_0 := by decide +kernel
theorem dX10_init_0 : decode cX10_init 0 = .ok (.aload_n 0, 1) := dk_42 (dk_at dksX10_init_0 0 rfl rfl)
theorem dX10_init_1 : decode cX10_init 1 = .ok (.aload_n 1, 1) := dk_43 (dk_at dksX10_init_0 1 rfl rfl)
theorem dX10_init_2 : decode cX10_init 2 = .ok (.putfield 3, 3) := dk_181 0 3 (dk_at dksX10_init_0 2 rfl rfl)
theorem dX10_init_5 : decode cX10_init 5 = .ok (.aload_n 0, 1) := dk_42 (dk_at dksX10_init_0 5 rfl rfl)
theorem dX10_init_6 : decode cX10_init 6 = .ok (.aload_n 1, 1) := dk_43 (dk_at dksX10_init_0 6 rfl rfl)
theorem dX10_init_7 : decode cX10_init 7 = .ok (.invokespecial 9, 3) := dk_183 0 9 (dk_at dksX10_init_0 7 rfl rfl)
theorem dX10_init_10 : decode cX10_init 10 = .ok (.aload_n 0, 1) := dk_42 (dk_at dksX10_init_0 10 rfl rfl)
theorem dX10_init_11 : decode cX10_init 11 = .ok (.iload_n 2, 1) := dk_28 (dk_at dksX10_init_0 11 rfl rfl)
theorem dX10_init_12 : decode cX10_init 12 = .ok (.putfield 15, 3) := dk_181 0 15 (dk_at dksX10_init_0 12 rfl rfl)
theorem dX10_init_15 : decode cX10_init 15 = .ok (.return_, 1) := dk_177 (dk_at dksX10_init_0 15 rfl rfl)
abbrev cX10_answer : ByteArray := prog_9_method_2_code
def yX10_answer : MethodName := ⟨RX10, "answer", "(LTwoHalves$Showing;LTwoHalves$Mind;)I"⟩
def dkwX10_answer_6 : List UInt8 := [132, 6, 1, 167, 255, 222, 2, 172]
abbrev dktX10_answer_6 : List UInt8 := dkwX10_answer_6 ++ []
def dkwX10_answer_5 : List UInt8 := [25, 4, 21, 6, 46, 54, 7, 44, 42, 180, 0, 15, 21, 7, 182, 0, 31, 2, 159, 0, 6, 21, 7, 172]
abbrev dktX10_answer_5 : List UInt8 := dkwX10_answer_5 ++ dktX10_answer_6
def dkwX10_answer_4 : List UInt8 := [29, 172, 43, 180, 0, 19, 58, 4, 25, 4, 190, 54, 5, 3, 54, 6, 21, 6, 21, 5, 162, 0, 33]
abbrev dktX10_answer_4 : List UInt8 := dkwX10_answer_4 ++ dktX10_answer_5
def dkwX10_answer_3 : List UInt8 := [42, 180, 0, 15, 50, 29, 46, 162, 0, 6, 21, 7, 62, 132, 6, 1, 167, 255, 187, 29, 2, 159, 0, 5]
abbrev dktX10_answer_3 : List UInt8 := dkwX10_answer_3 ++ dktX10_answer_4
def dkwX10_answer_2 : List UInt8 := [162, 0, 37, 29, 2, 159, 0, 29, 44, 180, 0, 25, 42, 180, 0, 15, 50, 21, 7, 46, 44, 180, 0, 25]
abbrev dktX10_answer_2 : List UInt8 := dkwX10_answer_2 ++ dktX10_answer_3
def dkwX10_answer_1 : List UInt8 := [25, 4, 21, 6, 46, 54, 7, 44, 180, 0, 25, 42, 180, 0, 15, 50, 21, 7, 46, 17, 3, 232]
abbrev dktX10_answer_1 : List UInt8 := dkwX10_answer_1 ++ dktX10_answer_2
def dkwX10_answer_0 : List UInt8 := [2, 62, 43, 180, 0, 19, 58, 4, 25, 4, 190, 54, 5, 3, 54, 6, 21, 6, 21, 5, 162, 0, 68]
abbrev dktX10_answer_0 : List UInt8 := dkwX10_answer_0 ++ dktX10_answer_1
theorem dksX10_answer_0 : cX10_answer.data.toList.drop 0 = dktX10_answer_0 := by decide +kernel
theorem dksX10_answer_1 : cX10_answer.data.toList.drop 23 = dktX10_answer_1 := dk_seg dksX10_answer_0 23 rfl rfl
theorem dksX10_answer_2 : cX10_answer.data.toList.drop 45 = dktX10_answer_2 := dk_seg dksX10_answer_1 22 rfl rfl
theorem dksX10_answer_3 : cX10_answer.data.toList.drop 69 = dktX10_answer_3 := dk_seg dksX10_answer_2 24 rfl rfl
theorem dksX10_answer_4 : cX10_answer.data.toList.drop 93 = dktX10_answer_4 := dk_seg dksX10_answer_3 24 rfl rfl
theorem dksX10_answer_5 : cX10_answer.data.toList.drop 116 = dktX10_answer_5 := dk_seg dksX10_answer_4 23 rfl rfl
theorem dksX10_answer_6 : cX10_answer.data.toList.drop 140 = dktX10_answer_6 := dk_seg dksX10_answer_5 24 rfl rfl
theorem dX10_answer_0 : decode cX10_answer 0 = .ok (.iconst (-1), 1) := dk_2 (dk_at dksX10_answer_0 0 rfl rfl)
theorem dX10_answer_1 : decode cX10_answer 1 = .ok (.istore_n 3, 1) := dk_62 (dk_at dksX10_answer_0 1 rfl rfl)
theorem dX10_answer_2 : decode cX10_answer 2 = .ok (.aload_n 1, 1) := dk_43 (dk_at dksX10_answer_0 2 rfl rfl)
theorem dX10_answer_3 : decode cX10_answer 3 = .ok (.getfield 19, 3) := dk_180 0 19 (dk_at dksX10_answer_0 3 rfl rfl)
theorem dX10_answer_6 : decode cX10_answer 6 = .ok (.astore 4, 2) := dk_58 4 (dk_at dksX10_answer_0 6 rfl rfl)
theorem dX10_answer_8 : decode cX10_answer 8 = .ok (.aload 4, 2) := dk_25 4 (dk_at dksX10_answer_0 8 rfl rfl)
theorem dX10_answer_10 : decode cX10_answer 10 = .ok (.arraylength, 1) := dk_190 (dk_at dksX10_answer_0 10 rfl rfl)
theorem dX10_answer_11 : decode cX10_answer 11 = .ok (.istore 5, 2) := dk_54 5 (dk_at dksX10_answer_0 11 rfl rfl)
theorem dX10_answer_13 : decode cX10_answer 13 = .ok (.iconst 0, 1) := dk_3 (dk_at dksX10_answer_0 13 rfl rfl)
theorem dX10_answer_14 : decode cX10_answer 14 = .ok (.istore 6, 2) := dk_54 6 (dk_at dksX10_answer_0 14 rfl rfl)
theorem dX10_answer_16 : decode cX10_answer 16 = .ok (.iload 6, 2) := dk_21 6 (dk_at dksX10_answer_0 16 rfl rfl)
theorem dX10_answer_18 : decode cX10_answer 18 = .ok (.iload 5, 2) := dk_21 5 (dk_at dksX10_answer_0 18 rfl rfl)
theorem dX10_answer_20 : decode cX10_answer 20 = .ok (.if_icmp .ge 68, 3) := dk_162 0 68 (dk_at dksX10_answer_0 20 rfl rfl)
theorem dX10_answer_23 : decode cX10_answer 23 = .ok (.aload 4, 2) := dk_25 4 (dk_at dksX10_answer_1 0 rfl rfl)
theorem dX10_answer_25 : decode cX10_answer 25 = .ok (.iload 6, 2) := dk_21 6 (dk_at dksX10_answer_1 2 rfl rfl)
theorem dX10_answer_27 : decode cX10_answer 27 = .ok (.iaload, 1) := dk_46 (dk_at dksX10_answer_1 4 rfl rfl)
theorem dX10_answer_28 : decode cX10_answer 28 = .ok (.istore 7, 2) := dk_54 7 (dk_at dksX10_answer_1 5 rfl rfl)
theorem dX10_answer_30 : decode cX10_answer 30 = .ok (.aload_n 2, 1) := dk_44 (dk_at dksX10_answer_1 7 rfl rfl)
theorem dX10_answer_31 : decode cX10_answer 31 = .ok (.getfield 25, 3) := dk_180 0 25 (dk_at dksX10_answer_1 8 rfl rfl)
theorem dX10_answer_34 : decode cX10_answer 34 = .ok (.aload_n 0, 1) := dk_42 (dk_at dksX10_answer_1 11 rfl rfl)
theorem dX10_answer_35 : decode cX10_answer 35 = .ok (.getfield 15, 3) := dk_180 0 15 (dk_at dksX10_answer_1 12 rfl rfl)
theorem dX10_answer_38 : decode cX10_answer 38 = .ok (.aaload, 1) := dk_50 (dk_at dksX10_answer_1 15 rfl rfl)
theorem dX10_answer_39 : decode cX10_answer 39 = .ok (.iload 7, 2) := dk_21 7 (dk_at dksX10_answer_1 16 rfl rfl)
theorem dX10_answer_41 : decode cX10_answer 41 = .ok (.iaload, 1) := dk_46 (dk_at dksX10_answer_1 18 rfl rfl)
theorem dX10_answer_42 : decode cX10_answer 42 = .ok (.sipush 1000, 3) := dk_17 3 232 (dk_at dksX10_answer_1 19 rfl rfl)
theorem dX10_answer_45 : decode cX10_answer 45 = .ok (.if_icmp .ge 37, 3) := dk_162 0 37 (dk_at dksX10_answer_2 0 rfl rfl)
theorem dX10_answer_48 : decode cX10_answer 48 = .ok (.iload_n 3, 1) := dk_29 (dk_at dksX10_answer_2 3 rfl rfl)
theorem dX10_answer_49 : decode cX10_answer 49 = .ok (.iconst (-1), 1) := dk_2 (dk_at dksX10_answer_2 4 rfl rfl)
theorem dX10_answer_50 : decode cX10_answer 50 = .ok (.if_icmp .eq 29, 3) := dk_159 0 29 (dk_at dksX10_answer_2 5 rfl rfl)
theorem dX10_answer_53 : decode cX10_answer 53 = .ok (.aload_n 2, 1) := dk_44 (dk_at dksX10_answer_2 8 rfl rfl)
theorem dX10_answer_54 : decode cX10_answer 54 = .ok (.getfield 25, 3) := dk_180 0 25 (dk_at dksX10_answer_2 9 rfl rfl)
theorem dX10_answer_57 : decode cX10_answer 57 = .ok (.aload_n 0, 1) := dk_42 (dk_at dksX10_answer_2 12 rfl rfl)
theorem dX10_answer_58 : decode cX10_answer 58 = .ok (.getfield 15, 3) := dk_180 0 15 (dk_at dksX10_answer_2 13 rfl rfl)
theorem dX10_answer_61 : decode cX10_answer 61 = .ok (.aaload, 1) := dk_50 (dk_at dksX10_answer_2 16 rfl rfl)
theorem dX10_answer_62 : decode cX10_answer 62 = .ok (.iload 7, 2) := dk_21 7 (dk_at dksX10_answer_2 17 rfl rfl)
theorem dX10_answer_64 : decode cX10_answer 64 = .ok (.iaload, 1) := dk_46 (dk_at dksX10_answer_2 19 rfl rfl)
theorem dX10_answer_65 : decode cX10_answer 65 = .ok (.aload_n 2, 1) := dk_44 (dk_at dksX10_answer_2 20 rfl rfl)
theorem dX10_answer_66 : decode cX10_answer 66 = .ok (.getfield 25, 3) := dk_180 0 25 (dk_at dksX10_answer_2 21 rfl rfl)
theorem dX10_answer_69 : decode cX10_answer 69 = .ok (.aload_n 0, 1) := dk_42 (dk_at dksX10_answer_3 0 rfl rfl)
theorem dX10_answer_70 : decode cX10_answer 70 = .ok (.getfield 15, 3) := dk_180 0 15 (dk_at dksX10_answer_3 1 rfl rfl)
theorem dX10_answer_73 : decode cX10_answer 73 = .ok (.aaload, 1) := dk_50 (dk_at dksX10_answer_3 4 rfl rfl)
theorem dX10_answer_74 : decode cX10_answer 74 = .ok (.iload_n 3, 1) := dk_29 (dk_at dksX10_answer_3 5 rfl rfl)
theorem dX10_answer_75 : decode cX10_answer 75 = .ok (.iaload, 1) := dk_46 (dk_at dksX10_answer_3 6 rfl rfl)
theorem dX10_answer_76 : decode cX10_answer 76 = .ok (.if_icmp .ge 6, 3) := dk_162 0 6 (dk_at dksX10_answer_3 7 rfl rfl)
theorem dX10_answer_79 : decode cX10_answer 79 = .ok (.iload 7, 2) := dk_21 7 (dk_at dksX10_answer_3 10 rfl rfl)
theorem dX10_answer_81 : decode cX10_answer 81 = .ok (.istore_n 3, 1) := dk_62 (dk_at dksX10_answer_3 12 rfl rfl)
theorem dX10_answer_82 : decode cX10_answer 82 = .ok (.iinc 6 1, 3) := dk_132 6 1 (dk_at dksX10_answer_3 13 rfl rfl)
theorem dX10_answer_85 : decode cX10_answer 85 = .ok (.goto (-69), 3) := dk_167 255 187 (dk_at dksX10_answer_3 16 rfl rfl)
theorem dX10_answer_88 : decode cX10_answer 88 = .ok (.iload_n 3, 1) := dk_29 (dk_at dksX10_answer_3 19 rfl rfl)
theorem dX10_answer_89 : decode cX10_answer 89 = .ok (.iconst (-1), 1) := dk_2 (dk_at dksX10_answer_3 20 rfl rfl)
theorem dX10_answer_90 : decode cX10_answer 90 = .ok (.if_icmp .eq 5, 3) := dk_159 0 5 (dk_at dksX10_answer_3 21 rfl rfl)
theorem dX10_answer_93 : decode cX10_answer 93 = .ok (.iload_n 3, 1) := dk_29 (dk_at dksX10_answer_4 0 rfl rfl)
theorem dX10_answer_94 : decode cX10_answer 94 = .ok (.ireturn, 1) := dk_172 (dk_at dksX10_answer_4 1 rfl rfl)
theorem dX10_answer_95 : decode cX10_answer 95 = .ok (.aload_n 1, 1) := dk_43 (dk_at dksX10_answer_4 2 rfl rfl)
theorem dX10_answer_96 : decode cX10_answer 96 = .ok (.getfield 19, 3) := dk_180 0 19 (dk_at dksX10_answer_4 3 rfl rfl)
theorem dX10_answer_99 : decode cX10_answer 99 = .ok (.astore 4, 2) := dk_58 4 (dk_at dksX10_answer_4 6 rfl rfl)
theorem dX10_answer_101 : decode cX10_answer 101 = .ok (.aload 4, 2) := dk_25 4 (dk_at dksX10_answer_4 8 rfl rfl)
theorem dX10_answer_103 : decode cX10_answer 103 = .ok (.arraylength, 1) := dk_190 (dk_at dksX10_answer_4 10 rfl rfl)
theorem dX10_answer_104 : decode cX10_answer 104 = .ok (.istore 5, 2) := dk_54 5 (dk_at dksX10_answer_4 11 rfl rfl)
theorem dX10_answer_106 : decode cX10_answer 106 = .ok (.iconst 0, 1) := dk_3 (dk_at dksX10_answer_4 13 rfl rfl)
theorem dX10_answer_107 : decode cX10_answer 107 = .ok (.istore 6, 2) := dk_54 6 (dk_at dksX10_answer_4 14 rfl rfl)
theorem dX10_answer_109 : decode cX10_answer 109 = .ok (.iload 6, 2) := dk_21 6 (dk_at dksX10_answer_4 16 rfl rfl)
theorem dX10_answer_111 : decode cX10_answer 111 = .ok (.iload 5, 2) := dk_21 5 (dk_at dksX10_answer_4 18 rfl rfl)
theorem dX10_answer_113 : decode cX10_answer 113 = .ok (.if_icmp .ge 33, 3) := dk_162 0 33 (dk_at dksX10_answer_4 20 rfl rfl)
theorem dX10_answer_116 : decode cX10_answer 116 = .ok (.aload 4, 2) := dk_25 4 (dk_at dksX10_answer_5 0 rfl rfl)
theorem dX10_answer_118 : decode cX10_answer 118 = .ok (.iload 6, 2) := dk_21 6 (dk_at dksX10_answer_5 2 rfl rfl)
theorem dX10_answer_120 : decode cX10_answer 120 = .ok (.iaload, 1) := dk_46 (dk_at dksX10_answer_5 4 rfl rfl)
theorem dX10_answer_121 : decode cX10_answer 121 = .ok (.istore 7, 2) := dk_54 7 (dk_at dksX10_answer_5 5 rfl rfl)
theorem dX10_answer_123 : decode cX10_answer 123 = .ok (.aload_n 2, 1) := dk_44 (dk_at dksX10_answer_5 7 rfl rfl)
theorem dX10_answer_124 : decode cX10_answer 124 = .ok (.aload_n 0, 1) := dk_42 (dk_at dksX10_answer_5 8 rfl rfl)
theorem dX10_answer_125 : decode cX10_answer 125 = .ok (.getfield 15, 3) := dk_180 0 15 (dk_at dksX10_answer_5 9 rfl rfl)
theorem dX10_answer_128 : decode cX10_answer 128 = .ok (.iload 7, 2) := dk_21 7 (dk_at dksX10_answer_5 12 rfl rfl)
theorem dX10_answer_130 : decode cX10_answer 130 = .ok (.invokevirtual 31, 3) := dk_182 0 31 (dk_at dksX10_answer_5 14 rfl rfl)
theorem dX10_answer_133 : decode cX10_answer 133 = .ok (.iconst (-1), 1) := dk_2 (dk_at dksX10_answer_5 17 rfl rfl)
theorem dX10_answer_134 : decode cX10_answer 134 = .ok (.if_icmp .eq 6, 3) := dk_159 0 6 (dk_at dksX10_answer_5 18 rfl rfl)
theorem dX10_answer_137 : decode cX10_answer 137 = .ok (.iload 7, 2) := dk_21 7 (dk_at dksX10_answer_5 21 rfl rfl)
theorem dX10_answer_139 : decode cX10_answer 139 = .ok (.ireturn, 1) := dk_172 (dk_at dksX10_answer_5 23 rfl rfl)
theorem dX10_answer_140 : decode cX10_answer 140 = .ok (.iinc 6 1, 3) := dk_132 6 1 (dk_at dksX10_answer_6 0 rfl rfl)
theorem dX10_answer_143 : decode cX10_answer 143 = .ok (.goto (-34), 3) := dk_167 255 222 (dk_at dksX10_answer_6 3 rfl rfl)
theorem dX10_answer_146 : decode cX10_answer 146 = .ok (.iconst (-1), 1) := dk_2 (dk_at dksX10_answer_6 6 rfl rfl)
theorem dX10_answer_147 : decode cX10_answer 147 = .ok (.ireturn, 1) := dk_172 (dk_at dksX10_answer_6 7 rfl rfl)
abbrev cX10_cause : ByteArray := prog_9_method_3_code
def yX10_cause : MethodName := ⟨RX10, "cause", "(ILTwoHalves$Mind;)I"⟩
def dkwX10_cause_1 : List UInt8 := [180, 0, 15, 27, 182, 0, 31, 172]
abbrev dktX10_cause_1 : List UInt8 := dkwX10_cause_1 ++ []
def dkwX10_cause_0 : List UInt8 := [44, 180, 0, 25, 42, 180, 0, 15, 50, 27, 46, 17, 3, 232, 162, 0, 7, 27, 167, 0, 12, 44, 42]
abbrev dktX10_cause_0 : List UInt8 := dkwX10_cause_0 ++ dktX10_cause_1
theorem dksX10_cause_0 : cX10_cause.data.toList.drop 0 = dktX10_cause_0 := by decide +kernel
theorem dksX10_cause_1 : cX10_cause.data.toList.drop 23 = dktX10_cause_1 := dk_seg dksX10_cause_0 23 rfl rfl
theorem dX10_cause_0 : decode cX10_cause 0 = .ok (.aload_n 2, 1) := dk_44 (dk_at dksX10_cause_0 0 rfl rfl)
theorem dX10_cause_1 : decode cX10_cause 1 = .ok (.getfield 25, 3) := dk_180 0 25 (dk_at dksX10_cause_0 1 rfl rfl)
theorem dX10_cause_4 : decode cX10_cause 4 = .ok (.aload_n 0, 1) := dk_42 (dk_at dksX10_cause_0 4 rfl rfl)
theorem dX10_cause_5 : decode cX10_cause 5 = .ok (.getfield 15, 3) := dk_180 0 15 (dk_at dksX10_cause_0 5 rfl rfl)
theorem dX10_cause_8 : decode cX10_cause 8 = .ok (.aaload, 1) := dk_50 (dk_at dksX10_cause_0 8 rfl rfl)
theorem dX10_cause_9 : decode cX10_cause 9 = .ok (.iload_n 1, 1) := dk_27 (dk_at dksX10_cause_0 9 rfl rfl)
theorem dX10_cause_10 : decode cX10_cause 10 = .ok (.iaload, 1) := dk_46 (dk_at dksX10_cause_0 10 rfl rfl)
theorem dX10_cause_11 : decode cX10_cause 11 = .ok (.sipush 1000, 3) := dk_17 3 232 (dk_at dksX10_cause_0 11 rfl rfl)
theorem dX10_cause_14 : decode cX10_cause 14 = .ok (.if_icmp .ge 7, 3) := dk_162 0 7 (dk_at dksX10_cause_0 14 rfl rfl)
theorem dX10_cause_17 : decode cX10_cause 17 = .ok (.iload_n 1, 1) := dk_27 (dk_at dksX10_cause_0 17 rfl rfl)
theorem dX10_cause_18 : decode cX10_cause 18 = .ok (.goto 12, 3) := dk_167 0 12 (dk_at dksX10_cause_0 18 rfl rfl)
theorem dX10_cause_21 : decode cX10_cause 21 = .ok (.aload_n 2, 1) := dk_44 (dk_at dksX10_cause_0 21 rfl rfl)
theorem dX10_cause_22 : decode cX10_cause 22 = .ok (.aload_n 0, 1) := dk_42 (dk_at dksX10_cause_0 22 rfl rfl)
theorem dX10_cause_23 : decode cX10_cause 23 = .ok (.getfield 15, 3) := dk_180 0 15 (dk_at dksX10_cause_1 0 rfl rfl)
theorem dX10_cause_26 : decode cX10_cause 26 = .ok (.iload_n 1, 1) := dk_27 (dk_at dksX10_cause_1 3 rfl rfl)
theorem dX10_cause_27 : decode cX10_cause 27 = .ok (.invokevirtual 31, 3) := dk_182 0 31 (dk_at dksX10_cause_1 4 rfl rfl)
theorem dX10_cause_30 : decode cX10_cause 30 = .ok (.ireturn, 1) := dk_172 (dk_at dksX10_cause_1 7 rfl rfl)
theorem q120 : (Jvm.Cond.initialized "TwoHalves$Hand") ∈ lw_all := lw_g (lw_at lw_m1 12 rfl) rfl
theorem q423 : (Jvm.Cond.fieldLinkNest "TwoHalves$Hand" (25 : Nat) "TwoHalves$Mind" "since" "[[I" "TwoHalves") ∈ lw_tbl := lw_at lw_m2 75 rfl
theorem q432 : (Jvm.Cond.instantiable "TwoHalves$Hand" (3 : Nat)) ∈ lw_all := lw_g (lw_at lw_m2 84 rfl) rfl
theorem q434 : (Jvm.Cond.instanceMethod ({ cls := "TwoHalves$Hand", name := "<init>", desc := "(LTwoHalves;I)V" } : Jvm.MethodName)) ∈ lw_all := lw_g (lw_at lw_m2 86 rfl) rfl
theorem q435 : (Jvm.Cond.code ({ cls := "TwoHalves$Hand", name := "<init>", desc := "(LTwoHalves;I)V" } : Jvm.MethodName) prog_9_method_1_code (3 : Nat) (Option.none : Option Jvm.ClassFile.FieldType)) ∈ lw_all := lw_g (lw_at lw_m2 87 rfl) rfl
theorem q436 : (Jvm.Cond.methodLinkNest "TwoHalves$Hand" (9 : Nat) ({ cls := "TwoHalves$Asked", name := "<init>", desc := "(LTwoHalves;)V" } : Jvm.MethodName) "TwoHalves") ∈ lw_tbl := lw_at lw_m2 88 rfl
theorem q440 : (Jvm.Cond.fieldLink "TwoHalves$Hand" (15 : Nat) "TwoHalves$Hand" "half" "I") ∈ lw_all := lw_g (lw_at lw_m2 92 rfl) rfl
theorem q441 : (Jvm.Cond.fieldLink "TwoHalves$Hand" (3 : Nat) "TwoHalves$Hand" "this$0" "LTwoHalves;") ∈ lw_all := lw_g (lw_at lw_m2 93 rfl) rfl
theorem q443 : (Jvm.Cond.laysFinal "TwoHalves$Hand" "TwoHalves$Hand" "half" "I") ∈ lw_all := lw_g (lw_at lw_m2 95 rfl) rfl
theorem q444 : (Jvm.Cond.soleField "TwoHalves$Hand" "half") ∈ lw_all := lw_g (lw_at lw_m2 96 rfl) rfl
theorem q445 : (Jvm.Cond.laysFinal "TwoHalves$Hand" "TwoHalves$Hand" "this$0" "LTwoHalves;") ∈ lw_all := lw_g (lw_at lw_m2 97 rfl) rfl
theorem q446 : (Jvm.Cond.soleField "TwoHalves$Hand" "this$0") ∈ lw_all := lw_g (lw_at lw_m2 98 rfl) rfl
theorem q447 : (Jvm.Cond.laysFinal "TwoHalves$Hand" "TwoHalves$Asked" "this$0" "LTwoHalves;") ∈ lw_all := lw_g (lw_at lw_m2 99 rfl) rfl
theorem q449 : (Jvm.Cond.superclass "TwoHalves$Hand" "TwoHalves$Asked") ∈ lw_all := lw_g (lw_at lw_m2 101 rfl) rfl
theorem q956 : (Jvm.Cond.fieldLinkNest "TwoHalves$Hand" (19 : Nat) "TwoHalves$Showing" "offered" "[I" "TwoHalves") ∈ lw_tbl := lw_at lw_m4 128 rfl
theorem q1016 : (Jvm.Cond.selects "TwoHalves$Hand" ({ cls := "TwoHalves$Asked", name := "answer", desc := "(LTwoHalves$Showing;LTwoHalves$Mind;)I" } : Jvm.MethodName) ({ cls := "TwoHalves$Hand", name := "answer", desc := "(LTwoHalves$Showing;LTwoHalves$Mind;)I" } : Jvm.MethodName)) ∈ lw_all := lw_g (lw_at lw_m4 188 rfl) rfl
theorem q1017 : (Jvm.Cond.instanceMethod ({ cls := "TwoHalves$Hand", name := "answer", desc := "(LTwoHalves$Showing;LTwoHalves$Mind;)I" } : Jvm.MethodName)) ∈ lw_all := lw_g (lw_at lw_m4 189 rfl) rfl
theorem q1018 : (Jvm.Cond.code ({ cls := "TwoHalves$Hand", name := "answer", desc := "(LTwoHalves$Showing;LTwoHalves$Mind;)I" } : Jvm.MethodName) prog_9_method_2_code (8 : Nat) (Option.some Jvm.ClassFile.FieldType.int)) ∈ lw_all := lw_g (lw_at lw_m4 190 rfl) rfl
theorem q1019 : (Jvm.Cond.methodLink "TwoHalves$Hand" (31 : Nat) ({ cls := "TwoHalves$Mind", name := "suited", desc := "(II)I" } : Jvm.MethodName)) ∈ lw_all := lw_g (lw_at lw_m4 191 rfl) rfl
theorem q1042 : (Jvm.Cond.instanceMethod ({ cls := "TwoHalves$Hand", name := "cause", desc := "(ILTwoHalves$Mind;)I" } : Jvm.MethodName)) ∈ lw_all := lw_g (lw_at lw_m4 214 rfl) rfl
theorem q1043 : (Jvm.Cond.selects "TwoHalves$Hand" ({ cls := "TwoHalves$Hand", name := "cause", desc := "(ILTwoHalves$Mind;)I" } : Jvm.MethodName) ({ cls := "TwoHalves$Hand", name := "cause", desc := "(ILTwoHalves$Mind;)I" } : Jvm.MethodName)) ∈ lw_all := lw_g (lw_at lw_m4 215 rfl) rfl
theorem q1044 : (Jvm.Cond.code ({ cls := "TwoHalves$Hand", name := "cause", desc := "(ILTwoHalves$Mind;)I" } : Jvm.MethodName) prog_9_method_3_code (3 : Nat) (Option.some Jvm.ClassFile.FieldType.int)) ∈ lw_all := lw_g (lw_at lw_m4 216 rfl) rfl
theorem q1969 : (Jvm.Cond.selects "TwoHalves$Hand" ({ cls := "TwoHalves$Hand", name := "answer", desc := "(LTwoHalves$Showing;LTwoHalves$Mind;)I" } : Jvm.MethodName) ({ cls := "TwoHalves$Hand", name := "answer", desc := "(LTwoHalves$Showing;LTwoHalves$Mind;)I" } : Jvm.MethodName)) ∈ lw_all := lw_g (lw_at lw_m8 181 rfl) rfl
theorem q1977 : (Jvm.Cond.castable "TwoHalves$Hand" "java/lang/Object") ∈ lw_tbl := lw_at lw_m8 189 rfl
theorem q1992 : (Jvm.Cond.castable "TwoHalves$Hand" "TwoHalves$Asked") ∈ lw_tbl := lw_at lw_m8 204 rfl
theorem in_X10 : ∀ w ∈ wsX100, w ∈ lw_all := lw_in wsX100 [447, 443, 445] (by decide +kernel) (by decide +kernel)
/-! TwoHalves$Mouth -/
set_option maxRecDepth 100000
def RX11 : String := "TwoHalves$Mouth"
def TX11 : u_T := fun k => match k with
  | 0 => ("TwoHalves$Asked", "this$0", "LTwoHalves;", true)
  | _ => ("TwoHalves$Mouth", "this$0", "LTwoHalves;", true)
def tyX11 : Nat → FieldType := fun k => match k with
  | 0 => .object "TwoHalves"
  | _ => .object "TwoHalves"
abbrev wsX110 : List Cond := u_ws RX11 TX11 2
-- two fields of one name: no nmX11
theorem tyX11_ok : ∀ k, k < 2 → parseFieldDescriptor (TX11 k).2.2.1 = some (tyX11 k) := by decide +kernel
abbrev cX11_init : ByteArray := prog_13_method_1_code
def yX11_init : MethodName := ⟨RX11, "<init>", "(LTwoHalves;)V"⟩
def dkwX11_init_0 : List UInt8 := [42, 43, 181, 0, 3, 42, 43, 183, 0, 9, 177]
abbrev dktX11_init_0 : List UInt8 := dkwX11_init_0 ++ []
theorem dksX11_init_0 : cX11_init.data.toList.drop 0 = dktX11_init_0 := by decide +kernel
theorem dX11_init_0 : decode cX11_init 0 = .ok (.aload_n 0, 1) := dk_42 (dk_at dksX11_init_0 0 rfl rfl)
theorem dX11_init_1 : decode cX11_init 1 = .ok (.aload_n 1, 1) := dk_43 (dk_at dksX11_init_0 1 rfl rfl)
theorem dX11_init_2 : decode cX11_init 2 = .ok (.putfield 3, 3) := dk_181 0 3 (dk_at dksX11_init_0 2 rfl rfl)
theorem dX11_init_5 : decode cX11_init 5 = .ok (.aload_n 0, 1) := dk_42 (dk_at dksX11_init_0 5 rfl rfl)
theorem dX11_init_6 : decode cX11_init 6 = .ok (.aload_n 1, 1) := dk_43 (dk_at dksX11_init_0 6 rfl rfl)
theorem dX11_init_7 : decode cX11_init 7 = .ok (.invokespecial 9, 3) := dk_183 0 9 (dk_at dksX11_init_0 7 rfl rfl)
theorem dX11_init_10 : decode cX11_init 10 = .ok (.return_, 1) := dk_177 (dk_at dksX11_init_0 10 rfl rfl)
abbrev cX11_answer : ByteArray := prog_13_method_2_code
def yX11_answer : MethodName := ⟨RX11, "answer", "(LTwoHalves$Showing;LTwoHalves$Mind;)I"⟩
def dkwX11_answer_2 : List UInt8 := [182, 0, 31, 162, 0, 6, 21, 4, 62, 132, 4, 1, 167, 255, 201, 29, 172]
abbrev dktX11_answer_2 : List UInt8 := dkwX11_answer_2 ++ []
def dkwX11_answer_1 : List UInt8 := [21, 4, 182, 0, 31, 17, 3, 232, 162, 0, 25, 29, 2, 159, 0, 17, 44, 21, 4, 182, 0, 31, 44, 29]
abbrev dktX11_answer_1 : List UInt8 := dkwX11_answer_1 ++ dktX11_answer_2
def dkwX11_answer_0 : List UInt8 := [2, 62, 3, 54, 4, 21, 4, 42, 180, 0, 3, 180, 0, 15, 180, 0, 19, 180, 0, 25, 162, 0, 43, 44]
abbrev dktX11_answer_0 : List UInt8 := dkwX11_answer_0 ++ dktX11_answer_1
theorem dksX11_answer_0 : cX11_answer.data.toList.drop 0 = dktX11_answer_0 := by decide +kernel
theorem dksX11_answer_1 : cX11_answer.data.toList.drop 24 = dktX11_answer_1 := dk_seg dksX11_answer_0 24 rfl rfl
theorem dksX11_answer_2 : cX11_answer.data.toList.drop 48 = dktX11_answer_2 := dk_seg dksX11_answer_1 24 rfl rfl
theorem dX11_answer_0 : decode cX11_answer 0 = .ok (.iconst (-1), 1) := dk_2 (dk_at dksX11_answer_0 0 rfl rfl)
theorem dX11_answer_1 : decode cX11_answer 1 = .ok (.istore_n 3, 1) := dk_62 (dk_at dksX11_answer_0 1 rfl rfl)
theorem dX11_answer_2 : decode cX11_answer 2 = .ok (.iconst 0, 1) := dk_3 (dk_at dksX11_answer_0 2 rfl rfl)
theorem dX11_answer_3 : decode cX11_answer 3 = .ok (.istore 4, 2) := dk_54 4 (dk_at dksX11_answer_0 3 rfl rfl)
theorem dX11_answer_5 : decode cX11_answer 5 = .ok (.iload 4, 2) := dk_21 4 (dk_at dksX11_answer_0 5 rfl rfl)
theorem dX11_answer_7 : decode cX11_answer 7 = .ok (.aload_n 0, 1) := dk_42 (dk_at dksX11_answer_0 7 rfl rfl)
theorem dX11_answer_8 : decode cX11_answer 8 = .ok (.getfield 3, 3) := dk_180 0 3 (dk_at dksX11_answer_0 8 rfl rfl)
theorem dX11_answer_11 : decode cX11_answer 11 = .ok (.getfield 15, 3) := dk_180 0 15 (dk_at dksX11_answer_0 11 rfl rfl)
theorem dX11_answer_14 : decode cX11_answer 14 = .ok (.getfield 19, 3) := dk_180 0 19 (dk_at dksX11_answer_0 14 rfl rfl)
theorem dX11_answer_17 : decode cX11_answer 17 = .ok (.getfield 25, 3) := dk_180 0 25 (dk_at dksX11_answer_0 17 rfl rfl)
theorem dX11_answer_20 : decode cX11_answer 20 = .ok (.if_icmp .ge 43, 3) := dk_162 0 43 (dk_at dksX11_answer_0 20 rfl rfl)
theorem dX11_answer_23 : decode cX11_answer 23 = .ok (.aload_n 2, 1) := dk_44 (dk_at dksX11_answer_0 23 rfl rfl)
theorem dX11_answer_24 : decode cX11_answer 24 = .ok (.iload 4, 2) := dk_21 4 (dk_at dksX11_answer_1 0 rfl rfl)
theorem dX11_answer_26 : decode cX11_answer 26 = .ok (.invokevirtual 31, 3) := dk_182 0 31 (dk_at dksX11_answer_1 2 rfl rfl)
theorem dX11_answer_29 : decode cX11_answer 29 = .ok (.sipush 1000, 3) := dk_17 3 232 (dk_at dksX11_answer_1 5 rfl rfl)
theorem dX11_answer_32 : decode cX11_answer 32 = .ok (.if_icmp .ge 25, 3) := dk_162 0 25 (dk_at dksX11_answer_1 8 rfl rfl)
theorem dX11_answer_35 : decode cX11_answer 35 = .ok (.iload_n 3, 1) := dk_29 (dk_at dksX11_answer_1 11 rfl rfl)
theorem dX11_answer_36 : decode cX11_answer 36 = .ok (.iconst (-1), 1) := dk_2 (dk_at dksX11_answer_1 12 rfl rfl)
theorem dX11_answer_37 : decode cX11_answer 37 = .ok (.if_icmp .eq 17, 3) := dk_159 0 17 (dk_at dksX11_answer_1 13 rfl rfl)
theorem dX11_answer_40 : decode cX11_answer 40 = .ok (.aload_n 2, 1) := dk_44 (dk_at dksX11_answer_1 16 rfl rfl)
theorem dX11_answer_41 : decode cX11_answer 41 = .ok (.iload 4, 2) := dk_21 4 (dk_at dksX11_answer_1 17 rfl rfl)
theorem dX11_answer_43 : decode cX11_answer 43 = .ok (.invokevirtual 31, 3) := dk_182 0 31 (dk_at dksX11_answer_1 19 rfl rfl)
theorem dX11_answer_46 : decode cX11_answer 46 = .ok (.aload_n 2, 1) := dk_44 (dk_at dksX11_answer_1 22 rfl rfl)
theorem dX11_answer_47 : decode cX11_answer 47 = .ok (.iload_n 3, 1) := dk_29 (dk_at dksX11_answer_1 23 rfl rfl)
theorem dX11_answer_48 : decode cX11_answer 48 = .ok (.invokevirtual 31, 3) := dk_182 0 31 (dk_at dksX11_answer_2 0 rfl rfl)
theorem dX11_answer_51 : decode cX11_answer 51 = .ok (.if_icmp .ge 6, 3) := dk_162 0 6 (dk_at dksX11_answer_2 3 rfl rfl)
theorem dX11_answer_54 : decode cX11_answer 54 = .ok (.iload 4, 2) := dk_21 4 (dk_at dksX11_answer_2 6 rfl rfl)
theorem dX11_answer_56 : decode cX11_answer 56 = .ok (.istore_n 3, 1) := dk_62 (dk_at dksX11_answer_2 8 rfl rfl)
theorem dX11_answer_57 : decode cX11_answer 57 = .ok (.iinc 4 1, 3) := dk_132 4 1 (dk_at dksX11_answer_2 9 rfl rfl)
theorem dX11_answer_60 : decode cX11_answer 60 = .ok (.goto (-55), 3) := dk_167 255 201 (dk_at dksX11_answer_2 12 rfl rfl)
theorem dX11_answer_63 : decode cX11_answer 63 = .ok (.iload_n 3, 1) := dk_29 (dk_at dksX11_answer_2 15 rfl rfl)
theorem dX11_answer_64 : decode cX11_answer 64 = .ok (.ireturn, 1) := dk_172 (dk_at dksX11_answer_2 16 rfl rfl)
theorem q121 : (Jvm.Cond.initialized "TwoHalves$Mouth") ∈ lw_all := lw_g (lw_at lw_m1 13 rfl) rfl
theorem q327 : (Jvm.Cond.fieldLinkNest "TwoHalves$Mouth" (25 : Nat) "TwoHalves$Head" "thingMany" "I" "TwoHalves") ∈ lw_tbl := lw_at lw_m1 219 rfl
theorem q382 : (Jvm.Cond.fieldLinkNest "TwoHalves$Mouth" (19 : Nat) "TwoHalves$State" "head" "LTwoHalves$Head;" "TwoHalves") ∈ lw_tbl := lw_at lw_m2 34 rfl
theorem q453 : (Jvm.Cond.instantiable "TwoHalves$Mouth" (2 : Nat)) ∈ lw_all := lw_g (lw_at lw_m2 105 rfl) rfl
theorem q455 : (Jvm.Cond.instanceMethod ({ cls := "TwoHalves$Mouth", name := "<init>", desc := "(LTwoHalves;)V" } : Jvm.MethodName)) ∈ lw_all := lw_g (lw_at lw_m2 107 rfl) rfl
theorem q456 : (Jvm.Cond.code ({ cls := "TwoHalves$Mouth", name := "<init>", desc := "(LTwoHalves;)V" } : Jvm.MethodName) prog_13_method_1_code (2 : Nat) (Option.none : Option Jvm.ClassFile.FieldType)) ∈ lw_all := lw_g (lw_at lw_m2 108 rfl) rfl
theorem q457 : (Jvm.Cond.methodLinkNest "TwoHalves$Mouth" (9 : Nat) ({ cls := "TwoHalves$Asked", name := "<init>", desc := "(LTwoHalves;)V" } : Jvm.MethodName) "TwoHalves") ∈ lw_tbl := lw_at lw_m2 109 rfl
theorem q458 : (Jvm.Cond.fieldLink "TwoHalves$Mouth" (3 : Nat) "TwoHalves$Mouth" "this$0" "LTwoHalves;") ∈ lw_all := lw_g (lw_at lw_m2 110 rfl) rfl
theorem q459 : (Jvm.Cond.laysFinal "TwoHalves$Mouth" "TwoHalves$Mouth" "this$0" "LTwoHalves;") ∈ lw_all := lw_g (lw_at lw_m2 111 rfl) rfl
theorem q460 : (Jvm.Cond.soleField "TwoHalves$Mouth" "this$0") ∈ lw_all := lw_g (lw_at lw_m2 112 rfl) rfl
theorem q461 : (Jvm.Cond.laysFinal "TwoHalves$Mouth" "TwoHalves$Asked" "this$0" "LTwoHalves;") ∈ lw_all := lw_g (lw_at lw_m2 113 rfl) rfl
theorem q462 : (Jvm.Cond.superclass "TwoHalves$Mouth" "TwoHalves$Asked") ∈ lw_all := lw_g (lw_at lw_m2 114 rfl) rfl
theorem q528 : (Jvm.Cond.fieldLinkNest "TwoHalves$Mouth" (15 : Nat) "TwoHalves" "now" "LTwoHalves$State;" "TwoHalves") ∈ lw_tbl := lw_at lw_m2 180 rfl
theorem q1023 : (Jvm.Cond.selects "TwoHalves$Mouth" ({ cls := "TwoHalves$Asked", name := "answer", desc := "(LTwoHalves$Showing;LTwoHalves$Mind;)I" } : Jvm.MethodName) ({ cls := "TwoHalves$Mouth", name := "answer", desc := "(LTwoHalves$Showing;LTwoHalves$Mind;)I" } : Jvm.MethodName)) ∈ lw_all := lw_g (lw_at lw_m4 195 rfl) rfl
theorem q1024 : (Jvm.Cond.instanceMethod ({ cls := "TwoHalves$Mouth", name := "answer", desc := "(LTwoHalves$Showing;LTwoHalves$Mind;)I" } : Jvm.MethodName)) ∈ lw_all := lw_g (lw_at lw_m4 196 rfl) rfl
theorem q1025 : (Jvm.Cond.code ({ cls := "TwoHalves$Mouth", name := "answer", desc := "(LTwoHalves$Showing;LTwoHalves$Mind;)I" } : Jvm.MethodName) prog_13_method_2_code (5 : Nat) (Option.some Jvm.ClassFile.FieldType.int)) ∈ lw_all := lw_g (lw_at lw_m4 197 rfl) rfl
theorem q1026 : (Jvm.Cond.methodLink "TwoHalves$Mouth" (31 : Nat) ({ cls := "TwoHalves$Mind", name := "said", desc := "(I)I" } : Jvm.MethodName)) ∈ lw_all := lw_g (lw_at lw_m4 198 rfl) rfl
theorem q1978 : (Jvm.Cond.castable "TwoHalves$Mouth" "java/lang/Object") ∈ lw_tbl := lw_at lw_m8 190 rfl
theorem q1993 : (Jvm.Cond.castable "TwoHalves$Mouth" "TwoHalves$Asked") ∈ lw_tbl := lw_at lw_m8 205 rfl
theorem in_X11 : ∀ w ∈ wsX110, w ∈ lw_all := lw_in wsX110 [461, 459] (by decide +kernel) (by decide +kernel)
/-! TwoHalves$SentenceReader -/
set_option maxRecDepth 100000
def RX12 : String := "TwoHalves$SentenceReader"
def TX12 : u_T := fun k => match k with
  | 0 => ("TwoHalves$Reader", "most", "I", true)
  | 1 => ("TwoHalves$Reader", "p", "I", false)
  | 2 => ("TwoHalves$Reader", "at", "I", false)
  | 3 => ("TwoHalves$Reader", "token", "I", false)
  | 4 => ("TwoHalves$Reader", "value", "I", false)
  | 5 => ("TwoHalves$Reader", "many", "I", false)
  | 6 => ("TwoHalves$Reader", "name", "J", false)
  | 7 => ("TwoHalves$Reader", "this$0", "LTwoHalves;", true)
  | 8 => ("TwoHalves$SentenceReader", "ways", "[Ljava/lang/String;", true)
  | 9 => ("TwoHalves$SentenceReader", "counts", "[Ljava/lang/String;", true)
  | 10 => ("TwoHalves$SentenceReader", "ones", "I", false)
  | _ => ("TwoHalves$SentenceReader", "this$0", "LTwoHalves;", true)
def tyX12 : Nat → FieldType := fun k => match k with
  | 0 => .int
  | 1 => .int
  | 2 => .int
  | 3 => .int
  | 4 => .int
  | 5 => .int
  | 6 => .long
  | 7 => .object "TwoHalves"
  | 8 => .array (.object "java/lang/String")
  | 9 => .array (.object "java/lang/String")
  | 10 => .int
  | _ => .object "TwoHalves"
abbrev wsX120 : List Cond := u_ws RX12 TX12 12
-- two fields of one name: no nmX12
theorem tyX12_ok : ∀ k, k < 12 → parseFieldDescriptor (TX12 k).2.2.1 = some (tyX12 k) := by decide +kernel
abbrev cX12_init : ByteArray := prog_18_method_1_code
def yX12_init : MethodName := ⟨RX12, "<init>", "(LTwoHalves;)V"⟩
def dkwX12_init_2 : List UInt8 := [18, 29, 83, 89, 5, 18, 31, 83, 89, 6, 18, 33, 83, 181, 0, 35, 177]
abbrev dktX12_init_2 : List UInt8 := dkwX12_init_2 ++ []
def dkwX12_init_1 : List UInt8 := [4, 18, 19, 83, 89, 5, 18, 21, 83, 181, 0, 23, 42, 7, 189, 0, 15, 89, 3, 18, 27, 83, 89, 4]
abbrev dktX12_init_1 : List UInt8 := dkwX12_init_1 ++ dktX12_init_2
def dkwX12_init_0 : List UInt8 := [42, 43, 181, 0, 3, 42, 43, 17, 0, 200, 183, 0, 9, 42, 6, 189, 0, 15, 89, 3, 18, 17, 83, 89]
abbrev dktX12_init_0 : List UInt8 := dkwX12_init_0 ++ dktX12_init_1
theorem dksX12_init_0 : cX12_init.data.toList.drop 0 = dktX12_init_0 := by decide +kernel
theorem dksX12_init_1 : cX12_init.data.toList.drop 24 = dktX12_init_1 := dk_seg dksX12_init_0 24 rfl rfl
theorem dksX12_init_2 : cX12_init.data.toList.drop 48 = dktX12_init_2 := dk_seg dksX12_init_1 24 rfl rfl
theorem dX12_init_0 : decode cX12_init 0 = .ok (.aload_n 0, 1) := dk_42 (dk_at dksX12_init_0 0 rfl rfl)
theorem dX12_init_1 : decode cX12_init 1 = .ok (.aload_n 1, 1) := dk_43 (dk_at dksX12_init_0 1 rfl rfl)
theorem dX12_init_2 : decode cX12_init 2 = .ok (.putfield 3, 3) := dk_181 0 3 (dk_at dksX12_init_0 2 rfl rfl)
theorem dX12_init_5 : decode cX12_init 5 = .ok (.aload_n 0, 1) := dk_42 (dk_at dksX12_init_0 5 rfl rfl)
theorem dX12_init_6 : decode cX12_init 6 = .ok (.aload_n 1, 1) := dk_43 (dk_at dksX12_init_0 6 rfl rfl)
theorem dX12_init_7 : decode cX12_init 7 = .ok (.sipush 200, 3) := dk_17 0 200 (dk_at dksX12_init_0 7 rfl rfl)
theorem dX12_init_10 : decode cX12_init 10 = .ok (.invokespecial 9, 3) := dk_183 0 9 (dk_at dksX12_init_0 10 rfl rfl)
theorem dX12_init_13 : decode cX12_init 13 = .ok (.aload_n 0, 1) := dk_42 (dk_at dksX12_init_0 13 rfl rfl)
theorem dX12_init_14 : decode cX12_init 14 = .ok (.iconst 3, 1) := dk_6 (dk_at dksX12_init_0 14 rfl rfl)
theorem dX12_init_15 : decode cX12_init 15 = .ok (.anewarray 15, 3) := dk_189 0 15 (dk_at dksX12_init_0 15 rfl rfl)
theorem dX12_init_18 : decode cX12_init 18 = .ok (.dup, 1) := dk_89 (dk_at dksX12_init_0 18 rfl rfl)
theorem dX12_init_19 : decode cX12_init 19 = .ok (.iconst 0, 1) := dk_3 (dk_at dksX12_init_0 19 rfl rfl)
theorem dX12_init_20 : decode cX12_init 20 = .ok (.ldc 17, 2) := dk_18 17 (dk_at dksX12_init_0 20 rfl rfl)
theorem dX12_init_22 : decode cX12_init 22 = .ok (.aastore, 1) := dk_83 (dk_at dksX12_init_0 22 rfl rfl)
theorem dX12_init_23 : decode cX12_init 23 = .ok (.dup, 1) := dk_89 (dk_at dksX12_init_0 23 rfl rfl)
theorem dX12_init_24 : decode cX12_init 24 = .ok (.iconst 1, 1) := dk_4 (dk_at dksX12_init_1 0 rfl rfl)
theorem dX12_init_25 : decode cX12_init 25 = .ok (.ldc 19, 2) := dk_18 19 (dk_at dksX12_init_1 1 rfl rfl)
theorem dX12_init_27 : decode cX12_init 27 = .ok (.aastore, 1) := dk_83 (dk_at dksX12_init_1 3 rfl rfl)
theorem dX12_init_28 : decode cX12_init 28 = .ok (.dup, 1) := dk_89 (dk_at dksX12_init_1 4 rfl rfl)
theorem dX12_init_29 : decode cX12_init 29 = .ok (.iconst 2, 1) := dk_5 (dk_at dksX12_init_1 5 rfl rfl)
theorem dX12_init_30 : decode cX12_init 30 = .ok (.ldc 21, 2) := dk_18 21 (dk_at dksX12_init_1 6 rfl rfl)
theorem dX12_init_32 : decode cX12_init 32 = .ok (.aastore, 1) := dk_83 (dk_at dksX12_init_1 8 rfl rfl)
theorem dX12_init_33 : decode cX12_init 33 = .ok (.putfield 23, 3) := dk_181 0 23 (dk_at dksX12_init_1 9 rfl rfl)
theorem dX12_init_36 : decode cX12_init 36 = .ok (.aload_n 0, 1) := dk_42 (dk_at dksX12_init_1 12 rfl rfl)
theorem dX12_init_37 : decode cX12_init 37 = .ok (.iconst 4, 1) := dk_7 (dk_at dksX12_init_1 13 rfl rfl)
theorem dX12_init_38 : decode cX12_init 38 = .ok (.anewarray 15, 3) := dk_189 0 15 (dk_at dksX12_init_1 14 rfl rfl)
theorem dX12_init_41 : decode cX12_init 41 = .ok (.dup, 1) := dk_89 (dk_at dksX12_init_1 17 rfl rfl)
theorem dX12_init_42 : decode cX12_init 42 = .ok (.iconst 0, 1) := dk_3 (dk_at dksX12_init_1 18 rfl rfl)
theorem dX12_init_43 : decode cX12_init 43 = .ok (.ldc 27, 2) := dk_18 27 (dk_at dksX12_init_1 19 rfl rfl)
theorem dX12_init_45 : decode cX12_init 45 = .ok (.aastore, 1) := dk_83 (dk_at dksX12_init_1 21 rfl rfl)
theorem dX12_init_46 : decode cX12_init 46 = .ok (.dup, 1) := dk_89 (dk_at dksX12_init_1 22 rfl rfl)
theorem dX12_init_47 : decode cX12_init 47 = .ok (.iconst 1, 1) := dk_4 (dk_at dksX12_init_1 23 rfl rfl)
theorem dX12_init_48 : decode cX12_init 48 = .ok (.ldc 29, 2) := dk_18 29 (dk_at dksX12_init_2 0 rfl rfl)
theorem dX12_init_50 : decode cX12_init 50 = .ok (.aastore, 1) := dk_83 (dk_at dksX12_init_2 2 rfl rfl)
theorem dX12_init_51 : decode cX12_init 51 = .ok (.dup, 1) := dk_89 (dk_at dksX12_init_2 3 rfl rfl)
theorem dX12_init_52 : decode cX12_init 52 = .ok (.iconst 2, 1) := dk_5 (dk_at dksX12_init_2 4 rfl rfl)
theorem dX12_init_53 : decode cX12_init 53 = .ok (.ldc 31, 2) := dk_18 31 (dk_at dksX12_init_2 5 rfl rfl)
theorem dX12_init_55 : decode cX12_init 55 = .ok (.aastore, 1) := dk_83 (dk_at dksX12_init_2 7 rfl rfl)
theorem dX12_init_56 : decode cX12_init 56 = .ok (.dup, 1) := dk_89 (dk_at dksX12_init_2 8 rfl rfl)
theorem dX12_init_57 : decode cX12_init 57 = .ok (.iconst 3, 1) := dk_6 (dk_at dksX12_init_2 9 rfl rfl)
theorem dX12_init_58 : decode cX12_init 58 = .ok (.ldc 33, 2) := dk_18 33 (dk_at dksX12_init_2 10 rfl rfl)
theorem dX12_init_60 : decode cX12_init 60 = .ok (.aastore, 1) := dk_83 (dk_at dksX12_init_2 12 rfl rfl)
theorem dX12_init_61 : decode cX12_init 61 = .ok (.putfield 35, 3) := dk_181 0 35 (dk_at dksX12_init_2 13 rfl rfl)
theorem dX12_init_64 : decode cX12_init 64 = .ok (.return_, 1) := dk_177 (dk_at dksX12_init_2 16 rfl rfl)
abbrev cX12_read : ByteArray := prog_18_method_2_code
def yX12_read : MethodName := ⟨RX12, "read", "()LTwoHalves$Cond;"⟩
def dkwX12_read_1 : List UInt8 := [180, 0, 53, 154, 0, 7, 4, 167, 0, 4, 3, 4, 182, 0, 56, 43, 176]
abbrev dktX12_read_1 : List UInt8 := dkwX12_read_1 ++ []
def dkwX12_read_0 : List UInt8 := [42, 3, 181, 0, 38, 42, 3, 181, 0, 42, 42, 182, 0, 45, 42, 4, 182, 0, 49, 76, 42, 42]
abbrev dktX12_read_0 : List UInt8 := dkwX12_read_0 ++ dktX12_read_1
theorem dksX12_read_0 : cX12_read.data.toList.drop 0 = dktX12_read_0 := by decide +kernel
theorem dksX12_read_1 : cX12_read.data.toList.drop 22 = dktX12_read_1 := dk_seg dksX12_read_0 22 rfl rfl
theorem dX12_read_0 : decode cX12_read 0 = .ok (.aload_n 0, 1) := dk_42 (dk_at dksX12_read_0 0 rfl rfl)
theorem dX12_read_1 : decode cX12_read 1 = .ok (.iconst 0, 1) := dk_3 (dk_at dksX12_read_0 1 rfl rfl)
theorem dX12_read_2 : decode cX12_read 2 = .ok (.putfield 38, 3) := dk_181 0 38 (dk_at dksX12_read_0 2 rfl rfl)
theorem dX12_read_5 : decode cX12_read 5 = .ok (.aload_n 0, 1) := dk_42 (dk_at dksX12_read_0 5 rfl rfl)
theorem dX12_read_6 : decode cX12_read 6 = .ok (.iconst 0, 1) := dk_3 (dk_at dksX12_read_0 6 rfl rfl)
theorem dX12_read_7 : decode cX12_read 7 = .ok (.putfield 42, 3) := dk_181 0 42 (dk_at dksX12_read_0 7 rfl rfl)
theorem dX12_read_10 : decode cX12_read 10 = .ok (.aload_n 0, 1) := dk_42 (dk_at dksX12_read_0 10 rfl rfl)
theorem dX12_read_11 : decode cX12_read 11 = .ok (.invokevirtual 45, 3) := dk_182 0 45 (dk_at dksX12_read_0 11 rfl rfl)
theorem dX12_read_14 : decode cX12_read 14 = .ok (.aload_n 0, 1) := dk_42 (dk_at dksX12_read_0 14 rfl rfl)
theorem dX12_read_15 : decode cX12_read 15 = .ok (.iconst 1, 1) := dk_4 (dk_at dksX12_read_0 15 rfl rfl)
theorem dX12_read_16 : decode cX12_read 16 = .ok (.invokevirtual 49, 3) := dk_182 0 49 (dk_at dksX12_read_0 16 rfl rfl)
theorem dX12_read_19 : decode cX12_read 19 = .ok (.astore_n 1, 1) := dk_76 (dk_at dksX12_read_0 19 rfl rfl)
theorem dX12_read_20 : decode cX12_read 20 = .ok (.aload_n 0, 1) := dk_42 (dk_at dksX12_read_0 20 rfl rfl)
theorem dX12_read_21 : decode cX12_read 21 = .ok (.aload_n 0, 1) := dk_42 (dk_at dksX12_read_0 21 rfl rfl)
theorem dX12_read_22 : decode cX12_read 22 = .ok (.getfield 53, 3) := dk_180 0 53 (dk_at dksX12_read_1 0 rfl rfl)
theorem dX12_read_25 : decode cX12_read 25 = .ok (.ifCond .ne 7, 3) := dk_154 0 7 (dk_at dksX12_read_1 3 rfl rfl)
theorem dX12_read_28 : decode cX12_read 28 = .ok (.iconst 1, 1) := dk_4 (dk_at dksX12_read_1 6 rfl rfl)
theorem dX12_read_29 : decode cX12_read 29 = .ok (.goto 4, 3) := dk_167 0 4 (dk_at dksX12_read_1 7 rfl rfl)
theorem dX12_read_32 : decode cX12_read 32 = .ok (.iconst 0, 1) := dk_3 (dk_at dksX12_read_1 10 rfl rfl)
theorem dX12_read_33 : decode cX12_read 33 = .ok (.iconst 1, 1) := dk_4 (dk_at dksX12_read_1 11 rfl rfl)
theorem dX12_read_34 : decode cX12_read 34 = .ok (.invokevirtual 56, 3) := dk_182 0 56 (dk_at dksX12_read_1 12 rfl rfl)
theorem dX12_read_37 : decode cX12_read 37 = .ok (.aload_n 1, 1) := dk_43 (dk_at dksX12_read_1 15 rfl rfl)
theorem dX12_read_38 : decode cX12_read 38 = .ok (.areturn, 1) := dk_176 (dk_at dksX12_read_1 16 rfl rfl)
abbrev cX12_any : ByteArray := prog_18_method_3_code
def yX12_any : MethodName := ⟨RX12, "any", "(I)LTwoHalves$Cond;"⟩
def dkwX12_any_1 : List UInt8 := [42, 27, 182, 0, 60, 183, 0, 71, 77, 167, 255, 229, 44, 176]
abbrev dktX12_any_1 : List UInt8 := dkwX12_any_1 ++ []
def dkwX12_any_0 : List UInt8 := [42, 27, 182, 0, 60, 77, 42, 18, 63, 182, 0, 65, 153, 0, 24, 42, 182, 0, 45, 187, 0, 69, 89, 44]
abbrev dktX12_any_0 : List UInt8 := dkwX12_any_0 ++ dktX12_any_1
theorem dksX12_any_0 : cX12_any.data.toList.drop 0 = dktX12_any_0 := by decide +kernel
theorem dksX12_any_1 : cX12_any.data.toList.drop 24 = dktX12_any_1 := dk_seg dksX12_any_0 24 rfl rfl
theorem dX12_any_0 : decode cX12_any 0 = .ok (.aload_n 0, 1) := dk_42 (dk_at dksX12_any_0 0 rfl rfl)
theorem dX12_any_1 : decode cX12_any 1 = .ok (.iload_n 1, 1) := dk_27 (dk_at dksX12_any_0 1 rfl rfl)
theorem dX12_any_2 : decode cX12_any 2 = .ok (.invokevirtual 60, 3) := dk_182 0 60 (dk_at dksX12_any_0 2 rfl rfl)
theorem dX12_any_5 : decode cX12_any 5 = .ok (.astore_n 2, 1) := dk_77 (dk_at dksX12_any_0 5 rfl rfl)
theorem dX12_any_6 : decode cX12_any 6 = .ok (.aload_n 0, 1) := dk_42 (dk_at dksX12_any_0 6 rfl rfl)
theorem dX12_any_7 : decode cX12_any 7 = .ok (.ldc 63, 2) := dk_18 63 (dk_at dksX12_any_0 7 rfl rfl)
theorem dX12_any_9 : decode cX12_any 9 = .ok (.invokevirtual 65, 3) := dk_182 0 65 (dk_at dksX12_any_0 9 rfl rfl)
theorem dX12_any_12 : decode cX12_any 12 = .ok (.ifCond .eq 24, 3) := dk_153 0 24 (dk_at dksX12_any_0 12 rfl rfl)
theorem dX12_any_15 : decode cX12_any 15 = .ok (.aload_n 0, 1) := dk_42 (dk_at dksX12_any_0 15 rfl rfl)
theorem dX12_any_16 : decode cX12_any 16 = .ok (.invokevirtual 45, 3) := dk_182 0 45 (dk_at dksX12_any_0 16 rfl rfl)
theorem dX12_any_19 : decode cX12_any 19 = .ok (.new 69, 3) := dk_187 0 69 (dk_at dksX12_any_0 19 rfl rfl)
theorem dX12_any_22 : decode cX12_any 22 = .ok (.dup, 1) := dk_89 (dk_at dksX12_any_0 22 rfl rfl)
theorem dX12_any_23 : decode cX12_any 23 = .ok (.aload_n 2, 1) := dk_44 (dk_at dksX12_any_0 23 rfl rfl)
theorem dX12_any_24 : decode cX12_any 24 = .ok (.aload_n 0, 1) := dk_42 (dk_at dksX12_any_1 0 rfl rfl)
theorem dX12_any_25 : decode cX12_any 25 = .ok (.iload_n 1, 1) := dk_27 (dk_at dksX12_any_1 1 rfl rfl)
theorem dX12_any_26 : decode cX12_any 26 = .ok (.invokevirtual 60, 3) := dk_182 0 60 (dk_at dksX12_any_1 2 rfl rfl)
theorem dX12_any_29 : decode cX12_any 29 = .ok (.invokespecial 71, 3) := dk_183 0 71 (dk_at dksX12_any_1 5 rfl rfl)
theorem dX12_any_32 : decode cX12_any 32 = .ok (.astore_n 2, 1) := dk_77 (dk_at dksX12_any_1 8 rfl rfl)
theorem dX12_any_33 : decode cX12_any 33 = .ok (.goto (-27), 3) := dk_167 255 229 (dk_at dksX12_any_1 9 rfl rfl)
theorem dX12_any_36 : decode cX12_any 36 = .ok (.aload_n 2, 1) := dk_44 (dk_at dksX12_any_1 12 rfl rfl)
theorem dX12_any_37 : decode cX12_any 37 = .ok (.areturn, 1) := dk_176 (dk_at dksX12_any_1 13 rfl rfl)
abbrev cX12_both : ByteArray := prog_18_method_4_code
def yX12_both : MethodName := ⟨RX12, "both", "(I)LTwoHalves$Cond;"⟩
def dkwX12_both_1 : List UInt8 := [42, 27, 182, 0, 74, 183, 0, 81, 77, 167, 255, 229, 44, 176]
abbrev dktX12_both_1 : List UInt8 := dkwX12_both_1 ++ []
def dkwX12_both_0 : List UInt8 := [42, 27, 182, 0, 74, 77, 42, 18, 77, 182, 0, 65, 153, 0, 24, 42, 182, 0, 45, 187, 0, 79, 89, 44]
abbrev dktX12_both_0 : List UInt8 := dkwX12_both_0 ++ dktX12_both_1
theorem dksX12_both_0 : cX12_both.data.toList.drop 0 = dktX12_both_0 := by decide +kernel
theorem dksX12_both_1 : cX12_both.data.toList.drop 24 = dktX12_both_1 := dk_seg dksX12_both_0 24 rfl rfl
theorem dX12_both_0 : decode cX12_both 0 = .ok (.aload_n 0, 1) := dk_42 (dk_at dksX12_both_0 0 rfl rfl)
theorem dX12_both_1 : decode cX12_both 1 = .ok (.iload_n 1, 1) := dk_27 (dk_at dksX12_both_0 1 rfl rfl)
theorem dX12_both_2 : decode cX12_both 2 = .ok (.invokevirtual 74, 3) := dk_182 0 74 (dk_at dksX12_both_0 2 rfl rfl)
theorem dX12_both_5 : decode cX12_both 5 = .ok (.astore_n 2, 1) := dk_77 (dk_at dksX12_both_0 5 rfl rfl)
theorem dX12_both_6 : decode cX12_both 6 = .ok (.aload_n 0, 1) := dk_42 (dk_at dksX12_both_0 6 rfl rfl)
theorem dX12_both_7 : decode cX12_both 7 = .ok (.ldc 77, 2) := dk_18 77 (dk_at dksX12_both_0 7 rfl rfl)
theorem dX12_both_9 : decode cX12_both 9 = .ok (.invokevirtual 65, 3) := dk_182 0 65 (dk_at dksX12_both_0 9 rfl rfl)
theorem dX12_both_12 : decode cX12_both 12 = .ok (.ifCond .eq 24, 3) := dk_153 0 24 (dk_at dksX12_both_0 12 rfl rfl)
theorem dX12_both_15 : decode cX12_both 15 = .ok (.aload_n 0, 1) := dk_42 (dk_at dksX12_both_0 15 rfl rfl)
theorem dX12_both_16 : decode cX12_both 16 = .ok (.invokevirtual 45, 3) := dk_182 0 45 (dk_at dksX12_both_0 16 rfl rfl)
theorem dX12_both_19 : decode cX12_both 19 = .ok (.new 79, 3) := dk_187 0 79 (dk_at dksX12_both_0 19 rfl rfl)
theorem dX12_both_22 : decode cX12_both 22 = .ok (.dup, 1) := dk_89 (dk_at dksX12_both_0 22 rfl rfl)
theorem dX12_both_23 : decode cX12_both 23 = .ok (.aload_n 2, 1) := dk_44 (dk_at dksX12_both_0 23 rfl rfl)
theorem dX12_both_24 : decode cX12_both 24 = .ok (.aload_n 0, 1) := dk_42 (dk_at dksX12_both_1 0 rfl rfl)
theorem dX12_both_25 : decode cX12_both 25 = .ok (.iload_n 1, 1) := dk_27 (dk_at dksX12_both_1 1 rfl rfl)
theorem dX12_both_26 : decode cX12_both 26 = .ok (.invokevirtual 74, 3) := dk_182 0 74 (dk_at dksX12_both_1 2 rfl rfl)
theorem dX12_both_29 : decode cX12_both 29 = .ok (.invokespecial 81, 3) := dk_183 0 81 (dk_at dksX12_both_1 5 rfl rfl)
theorem dX12_both_32 : decode cX12_both 32 = .ok (.astore_n 2, 1) := dk_77 (dk_at dksX12_both_1 8 rfl rfl)
theorem dX12_both_33 : decode cX12_both 33 = .ok (.goto (-27), 3) := dk_167 255 229 (dk_at dksX12_both_1 9 rfl rfl)
theorem dX12_both_36 : decode cX12_both 36 = .ok (.aload_n 2, 1) := dk_44 (dk_at dksX12_both_1 12 rfl rfl)
theorem dX12_both_37 : decode cX12_both 37 = .ok (.areturn, 1) := dk_176 (dk_at dksX12_both_1 13 rfl rfl)
abbrev cX12_one : ByteArray := prog_18_method_5_code
def yX12_one : MethodName := ⟨RX12, "one", "(I)LTwoHalves$Cond;"⟩
def dkwX12_one_7 : List UInt8 := [182, 0, 103, 176]
abbrev dktX12_one_7 : List UInt8 := dkwX12_one_7 ++ []
def dkwX12_one_6 : List UInt8 := [182, 0, 96, 25, 6, 176, 21, 4, 2, 159, 0, 12, 42, 21, 4, 182, 0, 100, 167, 0, 9, 42, 21, 5]
abbrev dktX12_one_6 : List UInt8 := dkwX12_one_6 ++ dktX12_one_7
def dkwX12_one_5 : List UInt8 := [182, 0, 74, 183, 0, 93, 176, 29, 153, 0, 21, 42, 27, 4, 96, 182, 0, 49, 58, 6, 42, 16, 41]
abbrev dktX12_one_5 : List UInt8 := dkwX12_one_5 ++ dktX12_one_6
def dkwX12_one_4 : List UInt8 := [180, 0, 42, 4, 96, 181, 0, 42, 42, 182, 0, 45, 28, 153, 0, 18, 187, 0, 91, 89, 42, 27, 4, 96]
abbrev dktX12_one_4 : List UInt8 := dkwX12_one_4 ++ dktX12_one_5
def dkwX12_one_3 : List UInt8 := [16, 20, 162, 0, 13, 27, 16, 8, 163, 0, 7, 4, 167, 0, 4, 3, 7, 182, 0, 56, 42, 89]
abbrev dktX12_one_3 : List UInt8 := dkwX12_one_3 ++ dktX12_one_4
def dkwX12_one_2 : List UInt8 := [160, 0, 9, 21, 5, 2, 159, 0, 7, 4, 167, 0, 4, 3, 4, 182, 0, 56, 42, 42, 180, 0, 42]
abbrev dktX12_one_2 : List UInt8 := dkwX12_one_2 ++ dktX12_one_3
def dkwX12_one_1 : List UInt8 := [42, 42, 180, 0, 35, 182, 0, 87, 54, 5, 42, 28, 154, 0, 19, 29, 154, 0, 15, 21, 4, 2]
abbrev dktX12_one_1 : List UInt8 := dkwX12_one_1 ++ dktX12_one_2
def dkwX12_one_0 : List UInt8 := [42, 18, 82, 182, 0, 65, 61, 42, 16, 40, 182, 0, 84, 62, 42, 42, 180, 0, 23, 182, 0, 87, 54, 4]
abbrev dktX12_one_0 : List UInt8 := dkwX12_one_0 ++ dktX12_one_1
theorem dksX12_one_0 : cX12_one.data.toList.drop 0 = dktX12_one_0 := by decide +kernel
theorem dksX12_one_1 : cX12_one.data.toList.drop 24 = dktX12_one_1 := dk_seg dksX12_one_0 24 rfl rfl
theorem dksX12_one_2 : cX12_one.data.toList.drop 46 = dktX12_one_2 := dk_seg dksX12_one_1 22 rfl rfl
theorem dksX12_one_3 : cX12_one.data.toList.drop 69 = dktX12_one_3 := dk_seg dksX12_one_2 23 rfl rfl
theorem dksX12_one_4 : cX12_one.data.toList.drop 91 = dktX12_one_4 := dk_seg dksX12_one_3 22 rfl rfl
theorem dksX12_one_5 : cX12_one.data.toList.drop 115 = dktX12_one_5 := dk_seg dksX12_one_4 24 rfl rfl
theorem dksX12_one_6 : cX12_one.data.toList.drop 138 = dktX12_one_6 := dk_seg dksX12_one_5 23 rfl rfl
theorem dksX12_one_7 : cX12_one.data.toList.drop 162 = dktX12_one_7 := dk_seg dksX12_one_6 24 rfl rfl
theorem dX12_one_0 : decode cX12_one 0 = .ok (.aload_n 0, 1) := dk_42 (dk_at dksX12_one_0 0 rfl rfl)
theorem dX12_one_1 : decode cX12_one 1 = .ok (.ldc 82, 2) := dk_18 82 (dk_at dksX12_one_0 1 rfl rfl)
theorem dX12_one_3 : decode cX12_one 3 = .ok (.invokevirtual 65, 3) := dk_182 0 65 (dk_at dksX12_one_0 3 rfl rfl)
theorem dX12_one_6 : decode cX12_one 6 = .ok (.istore_n 2, 1) := dk_61 (dk_at dksX12_one_0 6 rfl rfl)
theorem dX12_one_7 : decode cX12_one 7 = .ok (.aload_n 0, 1) := dk_42 (dk_at dksX12_one_0 7 rfl rfl)
theorem dX12_one_8 : decode cX12_one 8 = .ok (.bipush 40, 2) := dk_16 40 (dk_at dksX12_one_0 8 rfl rfl)
theorem dX12_one_10 : decode cX12_one 10 = .ok (.invokevirtual 84, 3) := dk_182 0 84 (dk_at dksX12_one_0 10 rfl rfl)
theorem dX12_one_13 : decode cX12_one 13 = .ok (.istore_n 3, 1) := dk_62 (dk_at dksX12_one_0 13 rfl rfl)
theorem dX12_one_14 : decode cX12_one 14 = .ok (.aload_n 0, 1) := dk_42 (dk_at dksX12_one_0 14 rfl rfl)
theorem dX12_one_15 : decode cX12_one 15 = .ok (.aload_n 0, 1) := dk_42 (dk_at dksX12_one_0 15 rfl rfl)
theorem dX12_one_16 : decode cX12_one 16 = .ok (.getfield 23, 3) := dk_180 0 23 (dk_at dksX12_one_0 16 rfl rfl)
theorem dX12_one_19 : decode cX12_one 19 = .ok (.invokevirtual 87, 3) := dk_182 0 87 (dk_at dksX12_one_0 19 rfl rfl)
theorem dX12_one_22 : decode cX12_one 22 = .ok (.istore 4, 2) := dk_54 4 (dk_at dksX12_one_0 22 rfl rfl)
theorem dX12_one_24 : decode cX12_one 24 = .ok (.aload_n 0, 1) := dk_42 (dk_at dksX12_one_1 0 rfl rfl)
theorem dX12_one_25 : decode cX12_one 25 = .ok (.aload_n 0, 1) := dk_42 (dk_at dksX12_one_1 1 rfl rfl)
theorem dX12_one_26 : decode cX12_one 26 = .ok (.getfield 35, 3) := dk_180 0 35 (dk_at dksX12_one_1 2 rfl rfl)
theorem dX12_one_29 : decode cX12_one 29 = .ok (.invokevirtual 87, 3) := dk_182 0 87 (dk_at dksX12_one_1 5 rfl rfl)
theorem dX12_one_32 : decode cX12_one 32 = .ok (.istore 5, 2) := dk_54 5 (dk_at dksX12_one_1 8 rfl rfl)
theorem dX12_one_34 : decode cX12_one 34 = .ok (.aload_n 0, 1) := dk_42 (dk_at dksX12_one_1 10 rfl rfl)
theorem dX12_one_35 : decode cX12_one 35 = .ok (.iload_n 2, 1) := dk_28 (dk_at dksX12_one_1 11 rfl rfl)
theorem dX12_one_36 : decode cX12_one 36 = .ok (.ifCond .ne 19, 3) := dk_154 0 19 (dk_at dksX12_one_1 12 rfl rfl)
theorem dX12_one_39 : decode cX12_one 39 = .ok (.iload_n 3, 1) := dk_29 (dk_at dksX12_one_1 15 rfl rfl)
theorem dX12_one_40 : decode cX12_one 40 = .ok (.ifCond .ne 15, 3) := dk_154 0 15 (dk_at dksX12_one_1 16 rfl rfl)
theorem dX12_one_43 : decode cX12_one 43 = .ok (.iload 4, 2) := dk_21 4 (dk_at dksX12_one_1 19 rfl rfl)
theorem dX12_one_45 : decode cX12_one 45 = .ok (.iconst (-1), 1) := dk_2 (dk_at dksX12_one_1 21 rfl rfl)
theorem dX12_one_46 : decode cX12_one 46 = .ok (.if_icmp .ne 9, 3) := dk_160 0 9 (dk_at dksX12_one_2 0 rfl rfl)
theorem dX12_one_49 : decode cX12_one 49 = .ok (.iload 5, 2) := dk_21 5 (dk_at dksX12_one_2 3 rfl rfl)
theorem dX12_one_51 : decode cX12_one 51 = .ok (.iconst (-1), 1) := dk_2 (dk_at dksX12_one_2 5 rfl rfl)
theorem dX12_one_52 : decode cX12_one 52 = .ok (.if_icmp .eq 7, 3) := dk_159 0 7 (dk_at dksX12_one_2 6 rfl rfl)
theorem dX12_one_55 : decode cX12_one 55 = .ok (.iconst 1, 1) := dk_4 (dk_at dksX12_one_2 9 rfl rfl)
theorem dX12_one_56 : decode cX12_one 56 = .ok (.goto 4, 3) := dk_167 0 4 (dk_at dksX12_one_2 10 rfl rfl)
theorem dX12_one_59 : decode cX12_one 59 = .ok (.iconst 0, 1) := dk_3 (dk_at dksX12_one_2 13 rfl rfl)
theorem dX12_one_60 : decode cX12_one 60 = .ok (.iconst 1, 1) := dk_4 (dk_at dksX12_one_2 14 rfl rfl)
theorem dX12_one_61 : decode cX12_one 61 = .ok (.invokevirtual 56, 3) := dk_182 0 56 (dk_at dksX12_one_2 15 rfl rfl)
theorem dX12_one_64 : decode cX12_one 64 = .ok (.aload_n 0, 1) := dk_42 (dk_at dksX12_one_2 18 rfl rfl)
theorem dX12_one_65 : decode cX12_one 65 = .ok (.aload_n 0, 1) := dk_42 (dk_at dksX12_one_2 19 rfl rfl)
theorem dX12_one_66 : decode cX12_one 66 = .ok (.getfield 42, 3) := dk_180 0 42 (dk_at dksX12_one_2 20 rfl rfl)
theorem dX12_one_69 : decode cX12_one 69 = .ok (.bipush 20, 2) := dk_16 20 (dk_at dksX12_one_3 0 rfl rfl)
theorem dX12_one_71 : decode cX12_one 71 = .ok (.if_icmp .ge 13, 3) := dk_162 0 13 (dk_at dksX12_one_3 2 rfl rfl)
theorem dX12_one_74 : decode cX12_one 74 = .ok (.iload_n 1, 1) := dk_27 (dk_at dksX12_one_3 5 rfl rfl)
theorem dX12_one_75 : decode cX12_one 75 = .ok (.bipush 8, 2) := dk_16 8 (dk_at dksX12_one_3 6 rfl rfl)
theorem dX12_one_77 : decode cX12_one 77 = .ok (.if_icmp .gt 7, 3) := dk_163 0 7 (dk_at dksX12_one_3 8 rfl rfl)
theorem dX12_one_80 : decode cX12_one 80 = .ok (.iconst 1, 1) := dk_4 (dk_at dksX12_one_3 11 rfl rfl)
theorem dX12_one_81 : decode cX12_one 81 = .ok (.goto 4, 3) := dk_167 0 4 (dk_at dksX12_one_3 12 rfl rfl)
theorem dX12_one_84 : decode cX12_one 84 = .ok (.iconst 0, 1) := dk_3 (dk_at dksX12_one_3 15 rfl rfl)
theorem dX12_one_85 : decode cX12_one 85 = .ok (.iconst 4, 1) := dk_7 (dk_at dksX12_one_3 16 rfl rfl)
theorem dX12_one_86 : decode cX12_one 86 = .ok (.invokevirtual 56, 3) := dk_182 0 56 (dk_at dksX12_one_3 17 rfl rfl)
theorem dX12_one_89 : decode cX12_one 89 = .ok (.aload_n 0, 1) := dk_42 (dk_at dksX12_one_3 20 rfl rfl)
theorem dX12_one_90 : decode cX12_one 90 = .ok (.dup, 1) := dk_89 (dk_at dksX12_one_3 21 rfl rfl)
theorem dX12_one_91 : decode cX12_one 91 = .ok (.getfield 42, 3) := dk_180 0 42 (dk_at dksX12_one_4 0 rfl rfl)
theorem dX12_one_94 : decode cX12_one 94 = .ok (.iconst 1, 1) := dk_4 (dk_at dksX12_one_4 3 rfl rfl)
theorem dX12_one_95 : decode cX12_one 95 = .ok (.iadd, 1) := dk_96 (dk_at dksX12_one_4 4 rfl rfl)
theorem dX12_one_96 : decode cX12_one 96 = .ok (.putfield 42, 3) := dk_181 0 42 (dk_at dksX12_one_4 5 rfl rfl)
theorem dX12_one_99 : decode cX12_one 99 = .ok (.aload_n 0, 1) := dk_42 (dk_at dksX12_one_4 8 rfl rfl)
theorem dX12_one_100 : decode cX12_one 100 = .ok (.invokevirtual 45, 3) := dk_182 0 45 (dk_at dksX12_one_4 9 rfl rfl)
theorem dX12_one_103 : decode cX12_one 103 = .ok (.iload_n 2, 1) := dk_28 (dk_at dksX12_one_4 12 rfl rfl)
theorem dX12_one_104 : decode cX12_one 104 = .ok (.ifCond .eq 18, 3) := dk_153 0 18 (dk_at dksX12_one_4 13 rfl rfl)
theorem dX12_one_107 : decode cX12_one 107 = .ok (.new 91, 3) := dk_187 0 91 (dk_at dksX12_one_4 16 rfl rfl)
theorem dX12_one_110 : decode cX12_one 110 = .ok (.dup, 1) := dk_89 (dk_at dksX12_one_4 19 rfl rfl)
theorem dX12_one_111 : decode cX12_one 111 = .ok (.aload_n 0, 1) := dk_42 (dk_at dksX12_one_4 20 rfl rfl)
theorem dX12_one_112 : decode cX12_one 112 = .ok (.iload_n 1, 1) := dk_27 (dk_at dksX12_one_4 21 rfl rfl)
theorem dX12_one_113 : decode cX12_one 113 = .ok (.iconst 1, 1) := dk_4 (dk_at dksX12_one_4 22 rfl rfl)
theorem dX12_one_114 : decode cX12_one 114 = .ok (.iadd, 1) := dk_96 (dk_at dksX12_one_4 23 rfl rfl)
theorem dX12_one_115 : decode cX12_one 115 = .ok (.invokevirtual 74, 3) := dk_182 0 74 (dk_at dksX12_one_5 0 rfl rfl)
theorem dX12_one_118 : decode cX12_one 118 = .ok (.invokespecial 93, 3) := dk_183 0 93 (dk_at dksX12_one_5 3 rfl rfl)
theorem dX12_one_121 : decode cX12_one 121 = .ok (.areturn, 1) := dk_176 (dk_at dksX12_one_5 6 rfl rfl)
theorem dX12_one_122 : decode cX12_one 122 = .ok (.iload_n 3, 1) := dk_29 (dk_at dksX12_one_5 7 rfl rfl)
theorem dX12_one_123 : decode cX12_one 123 = .ok (.ifCond .eq 21, 3) := dk_153 0 21 (dk_at dksX12_one_5 8 rfl rfl)
theorem dX12_one_126 : decode cX12_one 126 = .ok (.aload_n 0, 1) := dk_42 (dk_at dksX12_one_5 11 rfl rfl)
theorem dX12_one_127 : decode cX12_one 127 = .ok (.iload_n 1, 1) := dk_27 (dk_at dksX12_one_5 12 rfl rfl)
theorem dX12_one_128 : decode cX12_one 128 = .ok (.iconst 1, 1) := dk_4 (dk_at dksX12_one_5 13 rfl rfl)
theorem dX12_one_129 : decode cX12_one 129 = .ok (.iadd, 1) := dk_96 (dk_at dksX12_one_5 14 rfl rfl)
theorem dX12_one_130 : decode cX12_one 130 = .ok (.invokevirtual 49, 3) := dk_182 0 49 (dk_at dksX12_one_5 15 rfl rfl)
theorem dX12_one_133 : decode cX12_one 133 = .ok (.astore 6, 2) := dk_58 6 (dk_at dksX12_one_5 18 rfl rfl)
theorem dX12_one_135 : decode cX12_one 135 = .ok (.aload_n 0, 1) := dk_42 (dk_at dksX12_one_5 20 rfl rfl)
theorem dX12_one_136 : decode cX12_one 136 = .ok (.bipush 41, 2) := dk_16 41 (dk_at dksX12_one_5 21 rfl rfl)
theorem dX12_one_138 : decode cX12_one 138 = .ok (.invokevirtual 96, 3) := dk_182 0 96 (dk_at dksX12_one_6 0 rfl rfl)
theorem dX12_one_141 : decode cX12_one 141 = .ok (.aload 6, 2) := dk_25 6 (dk_at dksX12_one_6 3 rfl rfl)
theorem dX12_one_143 : decode cX12_one 143 = .ok (.areturn, 1) := dk_176 (dk_at dksX12_one_6 5 rfl rfl)
theorem dX12_one_144 : decode cX12_one 144 = .ok (.iload 4, 2) := dk_21 4 (dk_at dksX12_one_6 6 rfl rfl)
theorem dX12_one_146 : decode cX12_one 146 = .ok (.iconst (-1), 1) := dk_2 (dk_at dksX12_one_6 8 rfl rfl)
theorem dX12_one_147 : decode cX12_one 147 = .ok (.if_icmp .eq 12, 3) := dk_159 0 12 (dk_at dksX12_one_6 9 rfl rfl)
theorem dX12_one_150 : decode cX12_one 150 = .ok (.aload_n 0, 1) := dk_42 (dk_at dksX12_one_6 12 rfl rfl)
theorem dX12_one_151 : decode cX12_one 151 = .ok (.iload 4, 2) := dk_21 4 (dk_at dksX12_one_6 13 rfl rfl)
theorem dX12_one_153 : decode cX12_one 153 = .ok (.invokevirtual 100, 3) := dk_182 0 100 (dk_at dksX12_one_6 15 rfl rfl)
theorem dX12_one_156 : decode cX12_one 156 = .ok (.goto 9, 3) := dk_167 0 9 (dk_at dksX12_one_6 18 rfl rfl)
theorem dX12_one_159 : decode cX12_one 159 = .ok (.aload_n 0, 1) := dk_42 (dk_at dksX12_one_6 21 rfl rfl)
theorem dX12_one_160 : decode cX12_one 160 = .ok (.iload 5, 2) := dk_21 5 (dk_at dksX12_one_6 22 rfl rfl)
theorem dX12_one_162 : decode cX12_one 162 = .ok (.invokevirtual 103, 3) := dk_182 0 103 (dk_at dksX12_one_7 0 rfl rfl)
theorem dX12_one_165 : decode cX12_one 165 = .ok (.areturn, 1) := dk_176 (dk_at dksX12_one_7 3 rfl rfl)
abbrev cX12_ofWay : ByteArray := prog_18_method_6_code
def yX12_ofWay : MethodName := ⟨RX12, "ofWay", "(I)LTwoHalves$Cond;"⟩
def dkwX12_ofWay_2 : List UInt8 := [167, 0, 4, 3, 6, 182, 0, 56, 42, 182, 0, 45, 187, 0, 131, 89, 27, 28, 183, 0, 133, 176]
abbrev dktX12_ofWay_2 : List UInt8 := dkwX12_ofWay_2 ++ []
def dkwX12_ofWay_1 : List UInt8 := [180, 0, 3, 180, 0, 109, 180, 0, 113, 180, 0, 124, 182, 0, 127, 61, 42, 28, 2, 159, 0, 7, 4]
abbrev dktX12_ofWay_1 : List UInt8 := dkwX12_ofWay_1 ++ dktX12_ofWay_2
def dkwX12_ofWay_0 : List UInt8 := [42, 42, 182, 0, 105, 4, 182, 0, 56, 42, 42, 180, 0, 3, 180, 0, 109, 180, 0, 113, 180, 0, 119, 42]
abbrev dktX12_ofWay_0 : List UInt8 := dkwX12_ofWay_0 ++ dktX12_ofWay_1
theorem dksX12_ofWay_0 : cX12_ofWay.data.toList.drop 0 = dktX12_ofWay_0 := by decide +kernel
theorem dksX12_ofWay_1 : cX12_ofWay.data.toList.drop 24 = dktX12_ofWay_1 := dk_seg dksX12_ofWay_0 24 rfl rfl
theorem dksX12_ofWay_2 : cX12_ofWay.data.toList.drop 47 = dktX12_ofWay_2 := dk_seg dksX12_ofWay_1 23 rfl rfl
theorem dX12_ofWay_0 : decode cX12_ofWay 0 = .ok (.aload_n 0, 1) := dk_42 (dk_at dksX12_ofWay_0 0 rfl rfl)
theorem dX12_ofWay_1 : decode cX12_ofWay 1 = .ok (.aload_n 0, 1) := dk_42 (dk_at dksX12_ofWay_0 1 rfl rfl)
theorem dX12_ofWay_2 : decode cX12_ofWay 2 = .ok (.invokevirtual 105, 3) := dk_182 0 105 (dk_at dksX12_ofWay_0 2 rfl rfl)
theorem dX12_ofWay_5 : decode cX12_ofWay 5 = .ok (.iconst 1, 1) := dk_4 (dk_at dksX12_ofWay_0 5 rfl rfl)
theorem dX12_ofWay_6 : decode cX12_ofWay 6 = .ok (.invokevirtual 56, 3) := dk_182 0 56 (dk_at dksX12_ofWay_0 6 rfl rfl)
theorem dX12_ofWay_9 : decode cX12_ofWay 9 = .ok (.aload_n 0, 1) := dk_42 (dk_at dksX12_ofWay_0 9 rfl rfl)
theorem dX12_ofWay_10 : decode cX12_ofWay 10 = .ok (.aload_n 0, 1) := dk_42 (dk_at dksX12_ofWay_0 10 rfl rfl)
theorem dX12_ofWay_11 : decode cX12_ofWay 11 = .ok (.getfield 3, 3) := dk_180 0 3 (dk_at dksX12_ofWay_0 11 rfl rfl)
theorem dX12_ofWay_14 : decode cX12_ofWay 14 = .ok (.getfield 109, 3) := dk_180 0 109 (dk_at dksX12_ofWay_0 14 rfl rfl)
theorem dX12_ofWay_17 : decode cX12_ofWay 17 = .ok (.getfield 113, 3) := dk_180 0 113 (dk_at dksX12_ofWay_0 17 rfl rfl)
theorem dX12_ofWay_20 : decode cX12_ofWay 20 = .ok (.getfield 119, 3) := dk_180 0 119 (dk_at dksX12_ofWay_0 20 rfl rfl)
theorem dX12_ofWay_23 : decode cX12_ofWay 23 = .ok (.aload_n 0, 1) := dk_42 (dk_at dksX12_ofWay_0 23 rfl rfl)
theorem dX12_ofWay_24 : decode cX12_ofWay 24 = .ok (.getfield 3, 3) := dk_180 0 3 (dk_at dksX12_ofWay_1 0 rfl rfl)
theorem dX12_ofWay_27 : decode cX12_ofWay 27 = .ok (.getfield 109, 3) := dk_180 0 109 (dk_at dksX12_ofWay_1 3 rfl rfl)
theorem dX12_ofWay_30 : decode cX12_ofWay 30 = .ok (.getfield 113, 3) := dk_180 0 113 (dk_at dksX12_ofWay_1 6 rfl rfl)
theorem dX12_ofWay_33 : decode cX12_ofWay 33 = .ok (.getfield 124, 3) := dk_180 0 124 (dk_at dksX12_ofWay_1 9 rfl rfl)
theorem dX12_ofWay_36 : decode cX12_ofWay 36 = .ok (.invokevirtual 127, 3) := dk_182 0 127 (dk_at dksX12_ofWay_1 12 rfl rfl)
theorem dX12_ofWay_39 : decode cX12_ofWay 39 = .ok (.istore_n 2, 1) := dk_61 (dk_at dksX12_ofWay_1 15 rfl rfl)
theorem dX12_ofWay_40 : decode cX12_ofWay 40 = .ok (.aload_n 0, 1) := dk_42 (dk_at dksX12_ofWay_1 16 rfl rfl)
theorem dX12_ofWay_41 : decode cX12_ofWay 41 = .ok (.iload_n 2, 1) := dk_28 (dk_at dksX12_ofWay_1 17 rfl rfl)
theorem dX12_ofWay_42 : decode cX12_ofWay 42 = .ok (.iconst (-1), 1) := dk_2 (dk_at dksX12_ofWay_1 18 rfl rfl)
theorem dX12_ofWay_43 : decode cX12_ofWay 43 = .ok (.if_icmp .eq 7, 3) := dk_159 0 7 (dk_at dksX12_ofWay_1 19 rfl rfl)
theorem dX12_ofWay_46 : decode cX12_ofWay 46 = .ok (.iconst 1, 1) := dk_4 (dk_at dksX12_ofWay_1 22 rfl rfl)
theorem dX12_ofWay_47 : decode cX12_ofWay 47 = .ok (.goto 4, 3) := dk_167 0 4 (dk_at dksX12_ofWay_2 0 rfl rfl)
theorem dX12_ofWay_50 : decode cX12_ofWay 50 = .ok (.iconst 0, 1) := dk_3 (dk_at dksX12_ofWay_2 3 rfl rfl)
theorem dX12_ofWay_51 : decode cX12_ofWay 51 = .ok (.iconst 3, 1) := dk_6 (dk_at dksX12_ofWay_2 4 rfl rfl)
theorem dX12_ofWay_52 : decode cX12_ofWay 52 = .ok (.invokevirtual 56, 3) := dk_182 0 56 (dk_at dksX12_ofWay_2 5 rfl rfl)
theorem dX12_ofWay_55 : decode cX12_ofWay 55 = .ok (.aload_n 0, 1) := dk_42 (dk_at dksX12_ofWay_2 8 rfl rfl)
theorem dX12_ofWay_56 : decode cX12_ofWay 56 = .ok (.invokevirtual 45, 3) := dk_182 0 45 (dk_at dksX12_ofWay_2 9 rfl rfl)
theorem dX12_ofWay_59 : decode cX12_ofWay 59 = .ok (.new 131, 3) := dk_187 0 131 (dk_at dksX12_ofWay_2 12 rfl rfl)
theorem dX12_ofWay_62 : decode cX12_ofWay 62 = .ok (.dup, 1) := dk_89 (dk_at dksX12_ofWay_2 15 rfl rfl)
theorem dX12_ofWay_63 : decode cX12_ofWay 63 = .ok (.iload_n 1, 1) := dk_27 (dk_at dksX12_ofWay_2 16 rfl rfl)
theorem dX12_ofWay_64 : decode cX12_ofWay 64 = .ok (.iload_n 2, 1) := dk_28 (dk_at dksX12_ofWay_2 17 rfl rfl)
theorem dX12_ofWay_65 : decode cX12_ofWay 65 = .ok (.invokespecial 133, 3) := dk_183 0 133 (dk_at dksX12_ofWay_2 18 rfl rfl)
theorem dX12_ofWay_68 : decode cX12_ofWay 68 = .ok (.areturn, 1) := dk_176 (dk_at dksX12_ofWay_2 21 rfl rfl)
abbrev cX12_counts : ByteArray := prog_18_method_7_code
def yX12_counts : MethodName := ⟨RX12, "counts", "(I)LTwoHalves$Cond;"⟩
def dkwX12_counts_2 : List UInt8 := [187, 0, 139, 89, 27, 28, 42, 3, 16, 99, 182, 0, 141, 183, 0, 145, 176]
abbrev dktX12_counts_2 : List UInt8 := dkwX12_counts_2 ++ []
def dkwX12_counts_1 : List UInt8 := [182, 0, 84, 153, 0, 7, 4, 167, 0, 4, 3, 4, 182, 0, 56, 42, 180, 0, 136, 61, 42, 182, 0, 45]
abbrev dktX12_counts_1 : List UInt8 := dkwX12_counts_1 ++ dktX12_counts_2
def dkwX12_counts_0 : List UInt8 := [42, 42, 16, 60, 182, 0, 84, 154, 0, 21, 42, 16, 61, 182, 0, 84, 154, 0, 12, 42, 16, 62]
abbrev dktX12_counts_0 : List UInt8 := dkwX12_counts_0 ++ dktX12_counts_1
theorem dksX12_counts_0 : cX12_counts.data.toList.drop 0 = dktX12_counts_0 := by decide +kernel
theorem dksX12_counts_1 : cX12_counts.data.toList.drop 22 = dktX12_counts_1 := dk_seg dksX12_counts_0 22 rfl rfl
theorem dksX12_counts_2 : cX12_counts.data.toList.drop 46 = dktX12_counts_2 := dk_seg dksX12_counts_1 24 rfl rfl
theorem dX12_counts_0 : decode cX12_counts 0 = .ok (.aload_n 0, 1) := dk_42 (dk_at dksX12_counts_0 0 rfl rfl)
theorem dX12_counts_1 : decode cX12_counts 1 = .ok (.aload_n 0, 1) := dk_42 (dk_at dksX12_counts_0 1 rfl rfl)
theorem dX12_counts_2 : decode cX12_counts 2 = .ok (.bipush 60, 2) := dk_16 60 (dk_at dksX12_counts_0 2 rfl rfl)
theorem dX12_counts_4 : decode cX12_counts 4 = .ok (.invokevirtual 84, 3) := dk_182 0 84 (dk_at dksX12_counts_0 4 rfl rfl)
theorem dX12_counts_7 : decode cX12_counts 7 = .ok (.ifCond .ne 21, 3) := dk_154 0 21 (dk_at dksX12_counts_0 7 rfl rfl)
theorem dX12_counts_10 : decode cX12_counts 10 = .ok (.aload_n 0, 1) := dk_42 (dk_at dksX12_counts_0 10 rfl rfl)
theorem dX12_counts_11 : decode cX12_counts 11 = .ok (.bipush 61, 2) := dk_16 61 (dk_at dksX12_counts_0 11 rfl rfl)
theorem dX12_counts_13 : decode cX12_counts 13 = .ok (.invokevirtual 84, 3) := dk_182 0 84 (dk_at dksX12_counts_0 13 rfl rfl)
theorem dX12_counts_16 : decode cX12_counts 16 = .ok (.ifCond .ne 12, 3) := dk_154 0 12 (dk_at dksX12_counts_0 16 rfl rfl)
theorem dX12_counts_19 : decode cX12_counts 19 = .ok (.aload_n 0, 1) := dk_42 (dk_at dksX12_counts_0 19 rfl rfl)
theorem dX12_counts_20 : decode cX12_counts 20 = .ok (.bipush 62, 2) := dk_16 62 (dk_at dksX12_counts_0 20 rfl rfl)
theorem dX12_counts_22 : decode cX12_counts 22 = .ok (.invokevirtual 84, 3) := dk_182 0 84 (dk_at dksX12_counts_1 0 rfl rfl)
theorem dX12_counts_25 : decode cX12_counts 25 = .ok (.ifCond .eq 7, 3) := dk_153 0 7 (dk_at dksX12_counts_1 3 rfl rfl)
theorem dX12_counts_28 : decode cX12_counts 28 = .ok (.iconst 1, 1) := dk_4 (dk_at dksX12_counts_1 6 rfl rfl)
theorem dX12_counts_29 : decode cX12_counts 29 = .ok (.goto 4, 3) := dk_167 0 4 (dk_at dksX12_counts_1 7 rfl rfl)
theorem dX12_counts_32 : decode cX12_counts 32 = .ok (.iconst 0, 1) := dk_3 (dk_at dksX12_counts_1 10 rfl rfl)
theorem dX12_counts_33 : decode cX12_counts 33 = .ok (.iconst 1, 1) := dk_4 (dk_at dksX12_counts_1 11 rfl rfl)
theorem dX12_counts_34 : decode cX12_counts 34 = .ok (.invokevirtual 56, 3) := dk_182 0 56 (dk_at dksX12_counts_1 12 rfl rfl)
theorem dX12_counts_37 : decode cX12_counts 37 = .ok (.aload_n 0, 1) := dk_42 (dk_at dksX12_counts_1 15 rfl rfl)
theorem dX12_counts_38 : decode cX12_counts 38 = .ok (.getfield 136, 3) := dk_180 0 136 (dk_at dksX12_counts_1 16 rfl rfl)
theorem dX12_counts_41 : decode cX12_counts 41 = .ok (.istore_n 2, 1) := dk_61 (dk_at dksX12_counts_1 19 rfl rfl)
theorem dX12_counts_42 : decode cX12_counts 42 = .ok (.aload_n 0, 1) := dk_42 (dk_at dksX12_counts_1 20 rfl rfl)
theorem dX12_counts_43 : decode cX12_counts 43 = .ok (.invokevirtual 45, 3) := dk_182 0 45 (dk_at dksX12_counts_1 21 rfl rfl)
theorem dX12_counts_46 : decode cX12_counts 46 = .ok (.new 139, 3) := dk_187 0 139 (dk_at dksX12_counts_2 0 rfl rfl)
theorem dX12_counts_49 : decode cX12_counts 49 = .ok (.dup, 1) := dk_89 (dk_at dksX12_counts_2 3 rfl rfl)
theorem dX12_counts_50 : decode cX12_counts 50 = .ok (.iload_n 1, 1) := dk_27 (dk_at dksX12_counts_2 4 rfl rfl)
theorem dX12_counts_51 : decode cX12_counts 51 = .ok (.iload_n 2, 1) := dk_28 (dk_at dksX12_counts_2 5 rfl rfl)
theorem dX12_counts_52 : decode cX12_counts 52 = .ok (.aload_n 0, 1) := dk_42 (dk_at dksX12_counts_2 6 rfl rfl)
theorem dX12_counts_53 : decode cX12_counts 53 = .ok (.iconst 0, 1) := dk_3 (dk_at dksX12_counts_2 7 rfl rfl)
theorem dX12_counts_54 : decode cX12_counts 54 = .ok (.bipush 99, 2) := dk_16 99 (dk_at dksX12_counts_2 8 rfl rfl)
theorem dX12_counts_56 : decode cX12_counts 56 = .ok (.invokevirtual 141, 3) := dk_182 0 141 (dk_at dksX12_counts_2 10 rfl rfl)
theorem dX12_counts_59 : decode cX12_counts 59 = .ok (.invokespecial 145, 3) := dk_183 0 145 (dk_at dksX12_counts_2 13 rfl rfl)
theorem dX12_counts_62 : decode cX12_counts 62 = .ok (.areturn, 1) := dk_176 (dk_at dksX12_counts_2 16 rfl rfl)
theorem q122 : (Jvm.Cond.initialized "TwoHalves$SentenceReader") ∈ lw_all := lw_g (lw_at lw_m1 14 rfl) rfl
theorem q261 : (Jvm.Cond.fieldLink "TwoHalves$SentenceReader" (38 : Nat) "TwoHalves$SentenceReader" "p" "I") ∈ lw_all := lw_g (lw_at lw_m1 153 rfl) rfl
theorem q262 : (Jvm.Cond.sameField "TwoHalves$SentenceReader" "TwoHalves$Reader" "p" "I") ∈ lw_all := lw_g (lw_at lw_m1 154 rfl) rfl
theorem q268 : (Jvm.Cond.fieldLink "TwoHalves$SentenceReader" (53 : Nat) "TwoHalves$SentenceReader" "token" "I") ∈ lw_all := lw_g (lw_at lw_m1 160 rfl) rfl
theorem q269 : (Jvm.Cond.sameField "TwoHalves$SentenceReader" "TwoHalves$Reader" "token" "I") ∈ lw_all := lw_g (lw_at lw_m1 161 rfl) rfl
theorem q272 : (Jvm.Cond.fieldLink "TwoHalves$SentenceReader" (136 : Nat) "TwoHalves$SentenceReader" "value" "I") ∈ lw_all := lw_g (lw_at lw_m1 164 rfl) rfl
theorem q273 : (Jvm.Cond.sameField "TwoHalves$SentenceReader" "TwoHalves$Reader" "value" "I") ∈ lw_all := lw_g (lw_at lw_m1 165 rfl) rfl
theorem q323 : (Jvm.Cond.fieldLinkNest "TwoHalves$SentenceReader" (119 : Nat) "TwoHalves$Head" "ways" "[LTwoHalves$Way;" "TwoHalves") ∈ lw_tbl := lw_at lw_m1 215 rfl
theorem q334 : (Jvm.Cond.fieldLinkNest "TwoHalves$SentenceReader" (124 : Nat) "TwoHalves$Head" "wayMany" "I" "TwoHalves") ∈ lw_tbl := lw_at lw_m1 226 rfl
theorem q384 : (Jvm.Cond.fieldLinkNest "TwoHalves$SentenceReader" (113 : Nat) "TwoHalves$State" "head" "LTwoHalves$Head;" "TwoHalves") ∈ lw_tbl := lw_at lw_m2 36 rfl
theorem q465 : (Jvm.Cond.instantiable "TwoHalves$SentenceReader" (12 : Nat)) ∈ lw_all := lw_g (lw_at lw_m2 117 rfl) rfl
theorem q467 : (Jvm.Cond.instanceMethod ({ cls := "TwoHalves$SentenceReader", name := "<init>", desc := "(LTwoHalves;)V" } : Jvm.MethodName)) ∈ lw_all := lw_g (lw_at lw_m2 119 rfl) rfl
theorem q468 : (Jvm.Cond.code ({ cls := "TwoHalves$SentenceReader", name := "<init>", desc := "(LTwoHalves;)V" } : Jvm.MethodName) prog_18_method_1_code (2 : Nat) (Option.none : Option Jvm.ClassFile.FieldType)) ∈ lw_all := lw_g (lw_at lw_m2 120 rfl) rfl
theorem q469 : (Jvm.Cond.methodLink "TwoHalves$SentenceReader" (9 : Nat) ({ cls := "TwoHalves$Reader", name := "<init>", desc := "(LTwoHalves;I)V" } : Jvm.MethodName)) ∈ lw_all := lw_g (lw_at lw_m2 121 rfl) rfl
theorem q470 : (Jvm.Cond.classLink "TwoHalves$SentenceReader" (15 : Nat) "java/lang/String") ∈ lw_all := lw_g (lw_at lw_m2 122 rfl) rfl
theorem q471 : (Jvm.Cond.stringRef "TwoHalves$SentenceReader" (17 : Nat) "never") ∈ lw_tbl := lw_at lw_m2 123 rfl
theorem q472 : (Jvm.Cond.stringRef "TwoHalves$SentenceReader" (19 : Nat) "sure") ∈ lw_tbl := lw_at lw_m2 124 rfl
theorem q473 : (Jvm.Cond.stringRef "TwoHalves$SentenceReader" (21 : Nat) "maybe") ∈ lw_tbl := lw_at lw_m2 125 rfl
theorem q474 : (Jvm.Cond.stringRef "TwoHalves$SentenceReader" (27 : Nat) "rows") ∈ lw_tbl := lw_at lw_m2 126 rfl
theorem q475 : (Jvm.Cond.stringRef "TwoHalves$SentenceReader" (29 : Nat) "worlds") ∈ lw_tbl := lw_at lw_m2 127 rfl
theorem q476 : (Jvm.Cond.stringRef "TwoHalves$SentenceReader" (31 : Nat) "silent") ∈ lw_tbl := lw_at lw_m2 128 rfl
theorem q477 : (Jvm.Cond.stringRef "TwoHalves$SentenceReader" (33 : Nat) "spoken") ∈ lw_tbl := lw_at lw_m2 129 rfl
theorem q478 : (Jvm.Cond.fieldLink "TwoHalves$SentenceReader" (23 : Nat) "TwoHalves$SentenceReader" "ways" "[Ljava/lang/String;") ∈ lw_all := lw_g (lw_at lw_m2 130 rfl) rfl
theorem q479 : (Jvm.Cond.fieldLink "TwoHalves$SentenceReader" (35 : Nat) "TwoHalves$SentenceReader" "counts" "[Ljava/lang/String;") ∈ lw_all := lw_g (lw_at lw_m2 131 rfl) rfl
theorem q480 : (Jvm.Cond.fieldLink "TwoHalves$SentenceReader" (42 : Nat) "TwoHalves$SentenceReader" "ones" "I") ∈ lw_all := lw_g (lw_at lw_m2 132 rfl) rfl
theorem q482 : (Jvm.Cond.fieldLink "TwoHalves$SentenceReader" (3 : Nat) "TwoHalves$SentenceReader" "this$0" "LTwoHalves;") ∈ lw_all := lw_g (lw_at lw_m2 134 rfl) rfl
theorem q483 : (Jvm.Cond.laysFinal "TwoHalves$SentenceReader" "TwoHalves$SentenceReader" "ways" "[Ljava/lang/String;") ∈ lw_all := lw_g (lw_at lw_m2 135 rfl) rfl
theorem q484 : (Jvm.Cond.soleField "TwoHalves$SentenceReader" "ways") ∈ lw_all := lw_g (lw_at lw_m2 136 rfl) rfl
theorem q485 : (Jvm.Cond.laysFinal "TwoHalves$SentenceReader" "TwoHalves$SentenceReader" "counts" "[Ljava/lang/String;") ∈ lw_all := lw_g (lw_at lw_m2 137 rfl) rfl
theorem q486 : (Jvm.Cond.soleField "TwoHalves$SentenceReader" "counts") ∈ lw_all := lw_g (lw_at lw_m2 138 rfl) rfl
theorem q487 : (Jvm.Cond.lays "TwoHalves$SentenceReader" "TwoHalves$SentenceReader" "ones" "I") ∈ lw_all := lw_g (lw_at lw_m2 139 rfl) rfl
theorem q488 : (Jvm.Cond.soleField "TwoHalves$SentenceReader" "ones") ∈ lw_all := lw_g (lw_at lw_m2 140 rfl) rfl
theorem q489 : (Jvm.Cond.laysFinal "TwoHalves$SentenceReader" "TwoHalves$SentenceReader" "this$0" "LTwoHalves;") ∈ lw_all := lw_g (lw_at lw_m2 141 rfl) rfl
theorem q490 : (Jvm.Cond.soleField "TwoHalves$SentenceReader" "this$0") ∈ lw_all := lw_g (lw_at lw_m2 142 rfl) rfl
theorem q491 : (Jvm.Cond.laysFinal "TwoHalves$SentenceReader" "TwoHalves$Reader" "most" "I") ∈ lw_all := lw_g (lw_at lw_m2 143 rfl) rfl
theorem q492 : (Jvm.Cond.lays "TwoHalves$SentenceReader" "TwoHalves$Reader" "p" "I") ∈ lw_all := lw_g (lw_at lw_m2 144 rfl) rfl
theorem q493 : (Jvm.Cond.lays "TwoHalves$SentenceReader" "TwoHalves$Reader" "at" "I") ∈ lw_all := lw_g (lw_at lw_m2 145 rfl) rfl
theorem q494 : (Jvm.Cond.lays "TwoHalves$SentenceReader" "TwoHalves$Reader" "token" "I") ∈ lw_all := lw_g (lw_at lw_m2 146 rfl) rfl
theorem q495 : (Jvm.Cond.lays "TwoHalves$SentenceReader" "TwoHalves$Reader" "value" "I") ∈ lw_all := lw_g (lw_at lw_m2 147 rfl) rfl
theorem q496 : (Jvm.Cond.lays "TwoHalves$SentenceReader" "TwoHalves$Reader" "many" "I") ∈ lw_all := lw_g (lw_at lw_m2 148 rfl) rfl
theorem q497 : (Jvm.Cond.lays "TwoHalves$SentenceReader" "TwoHalves$Reader" "name" "J") ∈ lw_all := lw_g (lw_at lw_m2 149 rfl) rfl
theorem q498 : (Jvm.Cond.laysFinal "TwoHalves$SentenceReader" "TwoHalves$Reader" "this$0" "LTwoHalves;") ∈ lw_all := lw_g (lw_at lw_m2 150 rfl) rfl
theorem q499 : (Jvm.Cond.superclass "TwoHalves$SentenceReader" "TwoHalves$Reader") ∈ lw_all := lw_g (lw_at lw_m2 151 rfl) rfl
theorem q531 : (Jvm.Cond.fieldLinkNest "TwoHalves$SentenceReader" (109 : Nat) "TwoHalves" "now" "LTwoHalves$State;" "TwoHalves") ∈ lw_tbl := lw_at lw_m2 183 rfl
theorem q684 : (Jvm.Cond.selects "TwoHalves$SentenceReader" ({ cls := "TwoHalves$Reader", name := "is", desc := "(Ljava/lang/String;)Z" } : Jvm.MethodName) ({ cls := "TwoHalves$Reader", name := "is", desc := "(Ljava/lang/String;)Z" } : Jvm.MethodName)) ∈ lw_all := lw_g (lw_at lw_m3 96 rfl) rfl
theorem q744 : (Jvm.Cond.selects "TwoHalves$SentenceReader" ({ cls := "TwoHalves$Reader", name := "wrong", desc := "(I)LTwoHalves$Fault;" } : Jvm.MethodName) ({ cls := "TwoHalves$Reader", name := "wrong", desc := "(I)LTwoHalves$Fault;" } : Jvm.MethodName)) ∈ lw_all := lw_g (lw_at lw_m3 156 rfl) rfl
theorem q897 : (Jvm.Cond.selects "TwoHalves$SentenceReader" ({ cls := "TwoHalves$Reader", name := "is", desc := "(I)Z" } : Jvm.MethodName) ({ cls := "TwoHalves$Reader", name := "is", desc := "(I)Z" } : Jvm.MethodName)) ∈ lw_all := lw_g (lw_at lw_m4 69 rfl) rfl
theorem q1162 : (Jvm.Cond.instanceMethod ({ cls := "TwoHalves$SentenceReader", name := "read", desc := "()LTwoHalves$Cond;" } : Jvm.MethodName)) ∈ lw_all := lw_g (lw_at lw_m5 94 rfl) rfl
theorem q1163 : (Jvm.Cond.selects "TwoHalves$SentenceReader" ({ cls := "TwoHalves$SentenceReader", name := "read", desc := "()LTwoHalves$Cond;" } : Jvm.MethodName) ({ cls := "TwoHalves$SentenceReader", name := "read", desc := "()LTwoHalves$Cond;" } : Jvm.MethodName)) ∈ lw_all := lw_g (lw_at lw_m5 95 rfl) rfl
theorem q1164 : (Jvm.Cond.code ({ cls := "TwoHalves$SentenceReader", name := "read", desc := "()LTwoHalves$Cond;" } : Jvm.MethodName) prog_18_method_2_code (2 : Nat) (Option.some (Jvm.ClassFile.FieldType.object "TwoHalves$Cond"))) ∈ lw_all := lw_g (lw_at lw_m5 96 rfl) rfl
theorem q1165 : (Jvm.Cond.methodLink "TwoHalves$SentenceReader" (45 : Nat) ({ cls := "TwoHalves$SentenceReader", name := "next", desc := "()V" } : Jvm.MethodName)) ∈ lw_all := lw_g (lw_at lw_m5 97 rfl) rfl
theorem q1166 : (Jvm.Cond.sameMethod "TwoHalves$SentenceReader" "TwoHalves$Reader" "next" "()V") ∈ lw_all := lw_g (lw_at lw_m5 98 rfl) rfl
theorem q1167 : (Jvm.Cond.selects "TwoHalves$SentenceReader" ({ cls := "TwoHalves$SentenceReader", name := "next", desc := "()V" } : Jvm.MethodName) ({ cls := "TwoHalves$Reader", name := "next", desc := "()V" } : Jvm.MethodName)) ∈ lw_all := lw_g (lw_at lw_m5 99 rfl) rfl
theorem q1168 : (Jvm.Cond.methodLink "TwoHalves$SentenceReader" (49 : Nat) ({ cls := "TwoHalves$SentenceReader", name := "any", desc := "(I)LTwoHalves$Cond;" } : Jvm.MethodName)) ∈ lw_all := lw_g (lw_at lw_m5 100 rfl) rfl
theorem q1169 : (Jvm.Cond.privateMethod ({ cls := "TwoHalves$SentenceReader", name := "any", desc := "(I)LTwoHalves$Cond;" } : Jvm.MethodName)) ∈ lw_tbl := lw_at lw_m5 101 rfl
theorem q1170 : (Jvm.Cond.instanceMethod ({ cls := "TwoHalves$SentenceReader", name := "any", desc := "(I)LTwoHalves$Cond;" } : Jvm.MethodName)) ∈ lw_all := lw_g (lw_at lw_m5 102 rfl) rfl
theorem q1171 : (Jvm.Cond.code ({ cls := "TwoHalves$SentenceReader", name := "any", desc := "(I)LTwoHalves$Cond;" } : Jvm.MethodName) prog_18_method_3_code (3 : Nat) (Option.some (Jvm.ClassFile.FieldType.object "TwoHalves$Cond"))) ∈ lw_all := lw_g (lw_at lw_m5 103 rfl) rfl
theorem q1172 : (Jvm.Cond.methodLink "TwoHalves$SentenceReader" (60 : Nat) ({ cls := "TwoHalves$SentenceReader", name := "both", desc := "(I)LTwoHalves$Cond;" } : Jvm.MethodName)) ∈ lw_all := lw_g (lw_at lw_m5 104 rfl) rfl
theorem q1173 : (Jvm.Cond.privateMethod ({ cls := "TwoHalves$SentenceReader", name := "both", desc := "(I)LTwoHalves$Cond;" } : Jvm.MethodName)) ∈ lw_tbl := lw_at lw_m5 105 rfl
theorem q1174 : (Jvm.Cond.instanceMethod ({ cls := "TwoHalves$SentenceReader", name := "both", desc := "(I)LTwoHalves$Cond;" } : Jvm.MethodName)) ∈ lw_all := lw_g (lw_at lw_m5 106 rfl) rfl
theorem q1175 : (Jvm.Cond.code ({ cls := "TwoHalves$SentenceReader", name := "both", desc := "(I)LTwoHalves$Cond;" } : Jvm.MethodName) prog_18_method_4_code (3 : Nat) (Option.some (Jvm.ClassFile.FieldType.object "TwoHalves$Cond"))) ∈ lw_all := lw_g (lw_at lw_m5 107 rfl) rfl
theorem q1176 : (Jvm.Cond.methodLink "TwoHalves$SentenceReader" (74 : Nat) ({ cls := "TwoHalves$SentenceReader", name := "one", desc := "(I)LTwoHalves$Cond;" } : Jvm.MethodName)) ∈ lw_all := lw_g (lw_at lw_m5 108 rfl) rfl
theorem q1177 : (Jvm.Cond.privateMethod ({ cls := "TwoHalves$SentenceReader", name := "one", desc := "(I)LTwoHalves$Cond;" } : Jvm.MethodName)) ∈ lw_tbl := lw_at lw_m5 109 rfl
theorem q1178 : (Jvm.Cond.instanceMethod ({ cls := "TwoHalves$SentenceReader", name := "one", desc := "(I)LTwoHalves$Cond;" } : Jvm.MethodName)) ∈ lw_all := lw_g (lw_at lw_m5 110 rfl) rfl
theorem q1179 : (Jvm.Cond.code ({ cls := "TwoHalves$SentenceReader", name := "one", desc := "(I)LTwoHalves$Cond;" } : Jvm.MethodName) prog_18_method_5_code (7 : Nat) (Option.some (Jvm.ClassFile.FieldType.object "TwoHalves$Cond"))) ∈ lw_all := lw_g (lw_at lw_m5 111 rfl) rfl
theorem q1180 : (Jvm.Cond.stringRef "TwoHalves$SentenceReader" (82 : Nat) "not") ∈ lw_tbl := lw_at lw_m5 112 rfl
theorem q1181 : (Jvm.Cond.methodLink "TwoHalves$SentenceReader" (65 : Nat) ({ cls := "TwoHalves$SentenceReader", name := "is", desc := "(Ljava/lang/String;)Z" } : Jvm.MethodName)) ∈ lw_all := lw_g (lw_at lw_m5 113 rfl) rfl
theorem q1182 : (Jvm.Cond.sameMethod "TwoHalves$SentenceReader" "TwoHalves$Reader" "is" "(Ljava/lang/String;)Z") ∈ lw_all := lw_g (lw_at lw_m5 114 rfl) rfl
theorem q1183 : (Jvm.Cond.selects "TwoHalves$SentenceReader" ({ cls := "TwoHalves$SentenceReader", name := "is", desc := "(Ljava/lang/String;)Z" } : Jvm.MethodName) ({ cls := "TwoHalves$Reader", name := "is", desc := "(Ljava/lang/String;)Z" } : Jvm.MethodName)) ∈ lw_all := lw_g (lw_at lw_m5 115 rfl) rfl
theorem q1184 : (Jvm.Cond.methodLink "TwoHalves$SentenceReader" (84 : Nat) ({ cls := "TwoHalves$SentenceReader", name := "is", desc := "(I)Z" } : Jvm.MethodName)) ∈ lw_all := lw_g (lw_at lw_m5 116 rfl) rfl
theorem q1185 : (Jvm.Cond.sameMethod "TwoHalves$SentenceReader" "TwoHalves$Reader" "is" "(I)Z") ∈ lw_all := lw_g (lw_at lw_m5 117 rfl) rfl
theorem q1187 : (Jvm.Cond.selects "TwoHalves$SentenceReader" ({ cls := "TwoHalves$SentenceReader", name := "is", desc := "(I)Z" } : Jvm.MethodName) ({ cls := "TwoHalves$Reader", name := "is", desc := "(I)Z" } : Jvm.MethodName)) ∈ lw_all := lw_g (lw_at lw_m5 119 rfl) rfl
theorem q1188 : (Jvm.Cond.methodLink "TwoHalves$SentenceReader" (87 : Nat) ({ cls := "TwoHalves$SentenceReader", name := "find", desc := "([Ljava/lang/String;)I" } : Jvm.MethodName)) ∈ lw_all := lw_g (lw_at lw_m5 120 rfl) rfl
theorem q1189 : (Jvm.Cond.sameMethod "TwoHalves$SentenceReader" "TwoHalves$Reader" "find" "([Ljava/lang/String;)I") ∈ lw_all := lw_g (lw_at lw_m5 121 rfl) rfl
theorem q1190 : (Jvm.Cond.selects "TwoHalves$SentenceReader" ({ cls := "TwoHalves$SentenceReader", name := "find", desc := "([Ljava/lang/String;)I" } : Jvm.MethodName) ({ cls := "TwoHalves$Reader", name := "find", desc := "([Ljava/lang/String;)I" } : Jvm.MethodName)) ∈ lw_all := lw_g (lw_at lw_m5 122 rfl) rfl
theorem q1191 : (Jvm.Cond.methodLink "TwoHalves$SentenceReader" (56 : Nat) ({ cls := "TwoHalves$SentenceReader", name := "must", desc := "(ZI)V" } : Jvm.MethodName)) ∈ lw_all := lw_g (lw_at lw_m5 123 rfl) rfl
theorem q1192 : (Jvm.Cond.sameMethod "TwoHalves$SentenceReader" "TwoHalves$Reader" "must" "(ZI)V") ∈ lw_all := lw_g (lw_at lw_m5 124 rfl) rfl
theorem q1193 : (Jvm.Cond.selects "TwoHalves$SentenceReader" ({ cls := "TwoHalves$SentenceReader", name := "must", desc := "(ZI)V" } : Jvm.MethodName) ({ cls := "TwoHalves$Reader", name := "must", desc := "(ZI)V" } : Jvm.MethodName)) ∈ lw_all := lw_g (lw_at lw_m5 125 rfl) rfl
theorem q1194 : (Jvm.Cond.classLink "TwoHalves$SentenceReader" (91 : Nat) "TwoHalves$Not") ∈ lw_all := lw_g (lw_at lw_m5 126 rfl) rfl
theorem q1196 : (Jvm.Cond.methodLink "TwoHalves$SentenceReader" (93 : Nat) ({ cls := "TwoHalves$Not", name := "<init>", desc := "(LTwoHalves$Cond;)V" } : Jvm.MethodName)) ∈ lw_all := lw_g (lw_at lw_m5 128 rfl) rfl
theorem q1207 : (Jvm.Cond.methodLink "TwoHalves$SentenceReader" (96 : Nat) ({ cls := "TwoHalves$SentenceReader", name := "sign", desc := "(I)V" } : Jvm.MethodName)) ∈ lw_all := lw_g (lw_at lw_m5 139 rfl) rfl
theorem q1208 : (Jvm.Cond.sameMethod "TwoHalves$SentenceReader" "TwoHalves$Reader" "sign" "(I)V") ∈ lw_all := lw_g (lw_at lw_m5 140 rfl) rfl
theorem q1209 : (Jvm.Cond.selects "TwoHalves$SentenceReader" ({ cls := "TwoHalves$SentenceReader", name := "sign", desc := "(I)V" } : Jvm.MethodName) ({ cls := "TwoHalves$Reader", name := "sign", desc := "(I)V" } : Jvm.MethodName)) ∈ lw_all := lw_g (lw_at lw_m5 141 rfl) rfl
theorem q1210 : (Jvm.Cond.methodLink "TwoHalves$SentenceReader" (100 : Nat) ({ cls := "TwoHalves$SentenceReader", name := "ofWay", desc := "(I)LTwoHalves$Cond;" } : Jvm.MethodName)) ∈ lw_all := lw_g (lw_at lw_m5 142 rfl) rfl
theorem q1211 : (Jvm.Cond.privateMethod ({ cls := "TwoHalves$SentenceReader", name := "ofWay", desc := "(I)LTwoHalves$Cond;" } : Jvm.MethodName)) ∈ lw_tbl := lw_at lw_m5 143 rfl
theorem q1212 : (Jvm.Cond.instanceMethod ({ cls := "TwoHalves$SentenceReader", name := "ofWay", desc := "(I)LTwoHalves$Cond;" } : Jvm.MethodName)) ∈ lw_all := lw_g (lw_at lw_m5 144 rfl) rfl
theorem q1213 : (Jvm.Cond.code ({ cls := "TwoHalves$SentenceReader", name := "ofWay", desc := "(I)LTwoHalves$Cond;" } : Jvm.MethodName) prog_18_method_6_code (3 : Nat) (Option.some (Jvm.ClassFile.FieldType.object "TwoHalves$Cond"))) ∈ lw_all := lw_g (lw_at lw_m5 145 rfl) rfl
theorem q1214 : (Jvm.Cond.methodLink "TwoHalves$SentenceReader" (105 : Nat) ({ cls := "TwoHalves$SentenceReader", name := "isName", desc := "()Z" } : Jvm.MethodName)) ∈ lw_all := lw_g (lw_at lw_m5 146 rfl) rfl
theorem q1215 : (Jvm.Cond.sameMethod "TwoHalves$SentenceReader" "TwoHalves$Reader" "isName" "()Z") ∈ lw_all := lw_g (lw_at lw_m5 147 rfl) rfl
theorem q1216 : (Jvm.Cond.selects "TwoHalves$SentenceReader" ({ cls := "TwoHalves$SentenceReader", name := "isName", desc := "()Z" } : Jvm.MethodName) ({ cls := "TwoHalves$Reader", name := "isName", desc := "()Z" } : Jvm.MethodName)) ∈ lw_all := lw_g (lw_at lw_m5 148 rfl) rfl
theorem q1217 : (Jvm.Cond.methodLink "TwoHalves$SentenceReader" (127 : Nat) ({ cls := "TwoHalves$SentenceReader", name := "of", desc := "([LTwoHalves$Named;I)I" } : Jvm.MethodName)) ∈ lw_all := lw_g (lw_at lw_m5 149 rfl) rfl
theorem q1218 : (Jvm.Cond.sameMethod "TwoHalves$SentenceReader" "TwoHalves$Reader" "of" "([LTwoHalves$Named;I)I") ∈ lw_all := lw_g (lw_at lw_m5 150 rfl) rfl
theorem q1219 : (Jvm.Cond.selects "TwoHalves$SentenceReader" ({ cls := "TwoHalves$SentenceReader", name := "of", desc := "([LTwoHalves$Named;I)I" } : Jvm.MethodName) ({ cls := "TwoHalves$Reader", name := "of", desc := "([LTwoHalves$Named;I)I" } : Jvm.MethodName)) ∈ lw_all := lw_g (lw_at lw_m5 151 rfl) rfl
theorem q1220 : (Jvm.Cond.classLink "TwoHalves$SentenceReader" (131 : Nat) "TwoHalves$OfWay") ∈ lw_all := lw_g (lw_at lw_m5 152 rfl) rfl
theorem q1222 : (Jvm.Cond.methodLink "TwoHalves$SentenceReader" (133 : Nat) ({ cls := "TwoHalves$OfWay", name := "<init>", desc := "(II)V" } : Jvm.MethodName)) ∈ lw_all := lw_g (lw_at lw_m5 154 rfl) rfl
theorem q1233 : (Jvm.Cond.methodLink "TwoHalves$SentenceReader" (103 : Nat) ({ cls := "TwoHalves$SentenceReader", name := "counts", desc := "(I)LTwoHalves$Cond;" } : Jvm.MethodName)) ∈ lw_all := lw_g (lw_at lw_m5 165 rfl) rfl
theorem q1234 : (Jvm.Cond.privateMethod ({ cls := "TwoHalves$SentenceReader", name := "counts", desc := "(I)LTwoHalves$Cond;" } : Jvm.MethodName)) ∈ lw_tbl := lw_at lw_m5 166 rfl
theorem q1235 : (Jvm.Cond.instanceMethod ({ cls := "TwoHalves$SentenceReader", name := "counts", desc := "(I)LTwoHalves$Cond;" } : Jvm.MethodName)) ∈ lw_all := lw_g (lw_at lw_m5 167 rfl) rfl
theorem q1236 : (Jvm.Cond.code ({ cls := "TwoHalves$SentenceReader", name := "counts", desc := "(I)LTwoHalves$Cond;" } : Jvm.MethodName) prog_18_method_7_code (3 : Nat) (Option.some (Jvm.ClassFile.FieldType.object "TwoHalves$Cond"))) ∈ lw_all := lw_g (lw_at lw_m5 168 rfl) rfl
theorem q1237 : (Jvm.Cond.classLink "TwoHalves$SentenceReader" (139 : Nat) "TwoHalves$Counts") ∈ lw_all := lw_g (lw_at lw_m5 169 rfl) rfl
theorem q1239 : (Jvm.Cond.methodLink "TwoHalves$SentenceReader" (141 : Nat) ({ cls := "TwoHalves$SentenceReader", name := "number", desc := "(II)I" } : Jvm.MethodName)) ∈ lw_all := lw_g (lw_at lw_m5 171 rfl) rfl
theorem q1240 : (Jvm.Cond.sameMethod "TwoHalves$SentenceReader" "TwoHalves$Reader" "number" "(II)I") ∈ lw_all := lw_g (lw_at lw_m5 172 rfl) rfl
theorem q1241 : (Jvm.Cond.selects "TwoHalves$SentenceReader" ({ cls := "TwoHalves$SentenceReader", name := "number", desc := "(II)I" } : Jvm.MethodName) ({ cls := "TwoHalves$Reader", name := "number", desc := "(II)I" } : Jvm.MethodName)) ∈ lw_all := lw_g (lw_at lw_m5 173 rfl) rfl
theorem q1242 : (Jvm.Cond.methodLink "TwoHalves$SentenceReader" (145 : Nat) ({ cls := "TwoHalves$Counts", name := "<init>", desc := "(III)V" } : Jvm.MethodName)) ∈ lw_all := lw_g (lw_at lw_m5 174 rfl) rfl
theorem q1256 : (Jvm.Cond.stringRef "TwoHalves$SentenceReader" (77 : Nat) "and") ∈ lw_tbl := lw_at lw_m5 188 rfl
theorem q1257 : (Jvm.Cond.classLink "TwoHalves$SentenceReader" (79 : Nat) "TwoHalves$Both") ∈ lw_all := lw_g (lw_at lw_m5 189 rfl) rfl
theorem q1259 : (Jvm.Cond.methodLink "TwoHalves$SentenceReader" (81 : Nat) ({ cls := "TwoHalves$Both", name := "<init>", desc := "(LTwoHalves$Cond;LTwoHalves$Cond;)V" } : Jvm.MethodName)) ∈ lw_all := lw_g (lw_at lw_m5 191 rfl) rfl
theorem q1270 : (Jvm.Cond.stringRef "TwoHalves$SentenceReader" (63 : Nat) "or") ∈ lw_tbl := lw_at lw_m5 202 rfl
theorem q1271 : (Jvm.Cond.classLink "TwoHalves$SentenceReader" (69 : Nat) "TwoHalves$Any") ∈ lw_all := lw_g (lw_at lw_m5 203 rfl) rfl
theorem q1273 : (Jvm.Cond.methodLink "TwoHalves$SentenceReader" (71 : Nat) ({ cls := "TwoHalves$Any", name := "<init>", desc := "(LTwoHalves$Cond;LTwoHalves$Cond;)V" } : Jvm.MethodName)) ∈ lw_all := lw_g (lw_at lw_m5 205 rfl) rfl
theorem q1962 : (Jvm.Cond.selects "TwoHalves$SentenceReader" ({ cls := "TwoHalves$Reader", name := "find", desc := "([Ljava/lang/String;)I" } : Jvm.MethodName) ({ cls := "TwoHalves$Reader", name := "find", desc := "([Ljava/lang/String;)I" } : Jvm.MethodName)) ∈ lw_all := lw_g (lw_at lw_m8 174 rfl) rfl
theorem q1965 : (Jvm.Cond.selects "TwoHalves$SentenceReader" ({ cls := "TwoHalves$Reader", name := "must", desc := "(ZI)V" } : Jvm.MethodName) ({ cls := "TwoHalves$Reader", name := "must", desc := "(ZI)V" } : Jvm.MethodName)) ∈ lw_all := lw_g (lw_at lw_m8 177 rfl) rfl
theorem q1968 : (Jvm.Cond.selects "TwoHalves$SentenceReader" ({ cls := "TwoHalves$Reader", name := "next", desc := "()V" } : Jvm.MethodName) ({ cls := "TwoHalves$Reader", name := "next", desc := "()V" } : Jvm.MethodName)) ∈ lw_all := lw_g (lw_at lw_m8 180 rfl) rfl
theorem q1979 : (Jvm.Cond.castable "TwoHalves$SentenceReader" "java/lang/Object") ∈ lw_tbl := lw_at lw_m8 191 rfl
theorem in_X12 : ∀ w ∈ wsX120, w ∈ lw_all := lw_in wsX120 [491, 492, 493, 494, 495, 496, 497, 498, 483, 485, 487, 489] (by decide +kernel) (by decide +kernel)
/-! TwoHalves$Named -/
set_option maxRecDepth 100000
def RX14 : String := "TwoHalves$Named"
abbrev cX14_init : ByteArray := prog_14_method_1_code
def yX14_init : MethodName := ⟨RX14, "<init>", "(J)V"⟩
def dkwX14_init_0 : List UInt8 := [42, 183, 0, 1, 42, 31, 181, 0, 7, 177]
abbrev dktX14_init_0 : List UInt8 := dkwX14_init_0 ++ []
theorem dksX14_init_0 : cX14_init.data.toList.drop 0 = dktX14_init_0 := by decide +kernel
theorem dX14_init_0 : decode cX14_init 0 = .ok (.aload_n 0, 1) := dk_42 (dk_at dksX14_init_0 0 rfl rfl)
theorem dX14_init_1 : decode cX14_init 1 = .ok (.invokespecial 1, 3) := dk_183 0 1 (dk_at dksX14_init_0 1 rfl rfl)
theorem dX14_init_4 : decode cX14_init 4 = .ok (.aload_n 0, 1) := dk_42 (dk_at dksX14_init_0 4 rfl rfl)
theorem dX14_init_5 : decode cX14_init 5 = .ok (.lload_n 1, 1) := dk_31 (dk_at dksX14_init_0 5 rfl rfl)
theorem dX14_init_6 : decode cX14_init 6 = .ok (.putfield 7, 3) := dk_181 0 7 (dk_at dksX14_init_0 6 rfl rfl)
theorem dX14_init_9 : decode cX14_init 9 = .ok (.return_, 1) := dk_177 (dk_at dksX14_init_0 9 rfl rfl)
theorem q128 : (Jvm.Cond.initialized "TwoHalves$Named") ∈ lw_all := lw_g (lw_at lw_m1 20 rfl) rfl
theorem q777 : (Jvm.Cond.instanceMethod ({ cls := "TwoHalves$Named", name := "<init>", desc := "(J)V" } : Jvm.MethodName)) ∈ lw_all := lw_g (lw_at lw_m3 189 rfl) rfl
theorem q778 : (Jvm.Cond.code ({ cls := "TwoHalves$Named", name := "<init>", desc := "(J)V" } : Jvm.MethodName) prog_14_method_1_code (3 : Nat) (Option.none : Option Jvm.ClassFile.FieldType)) ∈ lw_all := lw_g (lw_at lw_m3 190 rfl) rfl
theorem q779 : (Jvm.Cond.methodLink "TwoHalves$Named" (1 : Nat) ({ cls := "java/lang/Object", name := "<init>", desc := "()V" } : Jvm.MethodName)) ∈ lw_all := lw_g (lw_at lw_m3 191 rfl) rfl
theorem q787 : (Jvm.Cond.fieldLink "TwoHalves$Named" (7 : Nat) "TwoHalves$Named" "name" "J") ∈ lw_all := lw_g (lw_at lw_m3 199 rfl) rfl
theorem q794 : (Jvm.Cond.soleField "TwoHalves$Named" "name") ∈ lw_all := lw_g (lw_at lw_m3 206 rfl) rfl
/-! TwoHalves$Thing -/
set_option maxRecDepth 100000
def RX15 : String := "TwoHalves$Thing"
def TX15 : u_T := fun k => match k with
  | 0 => ("TwoHalves$Named", "name", "J", true)
  | 1 => ("TwoHalves$Thing", "kind", "I", true)
  | _ => ("TwoHalves$Thing", "suits", "I", false)
def tyX15 : Nat → FieldType := fun k => match k with
  | 0 => .long
  | 1 => .int
  | _ => .int
abbrev wsX150 : List Cond := u_ws RX15 TX15 3
theorem nmX15 : ∀ a, a < 3 → ∀ b, b < 3 → a ≠ b → (TX15 a).2.1 ≠ (TX15 b).2.1 := by decide +kernel
theorem tyX15_ok : ∀ k, k < 3 → parseFieldDescriptor (TX15 k).2.2.1 = some (tyX15 k) := by decide +kernel
abbrev cX15_init : ByteArray := prog_21_method_1_code
def yX15_init : MethodName := ⟨RX15, "<init>", "(JI)V"⟩
def dkwX15_init_0 : List UInt8 := [42, 31, 183, 0, 1, 42, 29, 181, 0, 7, 177]
abbrev dktX15_init_0 : List UInt8 := dkwX15_init_0 ++ []
theorem dksX15_init_0 : cX15_init.data.toList.drop 0 = dktX15_init_0 := by decide +kernel
theorem dX15_init_0 : decode cX15_init 0 = .ok (.aload_n 0, 1) := dk_42 (dk_at dksX15_init_0 0 rfl rfl)
theorem dX15_init_1 : decode cX15_init 1 = .ok (.lload_n 1, 1) := dk_31 (dk_at dksX15_init_0 1 rfl rfl)
theorem dX15_init_2 : decode cX15_init 2 = .ok (.invokespecial 1, 3) := dk_183 0 1 (dk_at dksX15_init_0 2 rfl rfl)
theorem dX15_init_5 : decode cX15_init 5 = .ok (.aload_n 0, 1) := dk_42 (dk_at dksX15_init_0 5 rfl rfl)
theorem dX15_init_6 : decode cX15_init 6 = .ok (.iload_n 3, 1) := dk_29 (dk_at dksX15_init_0 6 rfl rfl)
theorem dX15_init_7 : decode cX15_init 7 = .ok (.putfield 7, 3) := dk_181 0 7 (dk_at dksX15_init_0 7 rfl rfl)
theorem dX15_init_10 : decode cX15_init 10 = .ok (.return_, 1) := dk_177 (dk_at dksX15_init_0 10 rfl rfl)
theorem q129 : (Jvm.Cond.initialized "TwoHalves$Thing") ∈ lw_all := lw_g (lw_at lw_m1 21 rfl) rfl
theorem q768 : (Jvm.Cond.instantiable "TwoHalves$Thing" (3 : Nat)) ∈ lw_all := lw_g (lw_at lw_m3 180 rfl) rfl
theorem q774 : (Jvm.Cond.instanceMethod ({ cls := "TwoHalves$Thing", name := "<init>", desc := "(JI)V" } : Jvm.MethodName)) ∈ lw_all := lw_g (lw_at lw_m3 186 rfl) rfl
theorem q775 : (Jvm.Cond.code ({ cls := "TwoHalves$Thing", name := "<init>", desc := "(JI)V" } : Jvm.MethodName) prog_21_method_1_code (4 : Nat) (Option.none : Option Jvm.ClassFile.FieldType)) ∈ lw_all := lw_g (lw_at lw_m3 187 rfl) rfl
theorem q776 : (Jvm.Cond.methodLink "TwoHalves$Thing" (1 : Nat) ({ cls := "TwoHalves$Named", name := "<init>", desc := "(J)V" } : Jvm.MethodName)) ∈ lw_all := lw_g (lw_at lw_m3 188 rfl) rfl
theorem q780 : (Jvm.Cond.fieldLink "TwoHalves$Thing" (7 : Nat) "TwoHalves$Thing" "kind" "I") ∈ lw_all := lw_g (lw_at lw_m3 192 rfl) rfl
theorem q789 : (Jvm.Cond.laysFinal "TwoHalves$Thing" "TwoHalves$Thing" "kind" "I") ∈ lw_all := lw_g (lw_at lw_m3 201 rfl) rfl
theorem q790 : (Jvm.Cond.soleField "TwoHalves$Thing" "kind") ∈ lw_all := lw_g (lw_at lw_m3 202 rfl) rfl
theorem q791 : (Jvm.Cond.lays "TwoHalves$Thing" "TwoHalves$Thing" "suits" "I") ∈ lw_all := lw_g (lw_at lw_m3 203 rfl) rfl
theorem q792 : (Jvm.Cond.soleField "TwoHalves$Thing" "suits") ∈ lw_all := lw_g (lw_at lw_m3 204 rfl) rfl
theorem q793 : (Jvm.Cond.laysFinal "TwoHalves$Thing" "TwoHalves$Named" "name" "J") ∈ lw_all := lw_g (lw_at lw_m3 205 rfl) rfl
theorem q795 : (Jvm.Cond.superclass "TwoHalves$Thing" "TwoHalves$Named") ∈ lw_all := lw_g (lw_at lw_m3 207 rfl) rfl
theorem q1981 : (Jvm.Cond.castable "TwoHalves$Thing" "java/lang/Object") ∈ lw_tbl := lw_at lw_m8 193 rfl
theorem in_X15 : ∀ w ∈ wsX150, w ∈ lw_all := lw_in wsX150 [793, 789, 791] (by decide +kernel) (by decide +kernel)
/-! TwoHalves$Way -/
set_option maxRecDepth 100000
def RX16 : String := "TwoHalves$Way"
def TX16 : u_T := fun k => match k with
  | 0 => ("TwoHalves$Named", "name", "J", true)
  | 1 => ("TwoHalves$Way", "from", "I", true)
  | 2 => ("TwoHalves$Way", "kinds", "I", false)
  | 3 => ("TwoHalves$Way", "ticks", "I", false)
  | 4 => ("TwoHalves$Way", "after", "I", false)
  | 5 => ("TwoHalves$Way", "flags", "I", false)
  | 6 => ("TwoHalves$Way", "state", "I", false)
  | 7 => ("TwoHalves$Way", "luck", "I", false)
  | _ => ("TwoHalves$Way", "outer", "Z", false)
def tyX16 : Nat → FieldType := fun k => match k with
  | 0 => .long
  | 1 => .int
  | 2 => .int
  | 3 => .int
  | 4 => .int
  | 5 => .int
  | 6 => .int
  | 7 => .int
  | _ => .boolean
abbrev wsX160 : List Cond := u_ws RX16 TX16 9
theorem nmX16 : ∀ a, a < 9 → ∀ b, b < 9 → a ≠ b → (TX16 a).2.1 ≠ (TX16 b).2.1 := by decide +kernel
theorem tyX16_ok : ∀ k, k < 9 → parseFieldDescriptor (TX16 k).2.2.1 = some (tyX16 k) := by decide +kernel
abbrev cX16_init : ByteArray := prog_22_method_1_code
def yX16_init : MethodName := ⟨RX16, "<init>", "(JI)V"⟩
def dkwX16_init_0 : List UInt8 := [42, 31, 183, 0, 3, 42, 29, 181, 0, 9, 177]
abbrev dktX16_init_0 : List UInt8 := dkwX16_init_0 ++ []
theorem dksX16_init_0 : cX16_init.data.toList.drop 0 = dktX16_init_0 := by decide +kernel
theorem dX16_init_0 : decode cX16_init 0 = .ok (.aload_n 0, 1) := dk_42 (dk_at dksX16_init_0 0 rfl rfl)
theorem dX16_init_1 : decode cX16_init 1 = .ok (.lload_n 1, 1) := dk_31 (dk_at dksX16_init_0 1 rfl rfl)
theorem dX16_init_2 : decode cX16_init 2 = .ok (.invokespecial 3, 3) := dk_183 0 3 (dk_at dksX16_init_0 2 rfl rfl)
theorem dX16_init_5 : decode cX16_init 5 = .ok (.aload_n 0, 1) := dk_42 (dk_at dksX16_init_0 5 rfl rfl)
theorem dX16_init_6 : decode cX16_init 6 = .ok (.iload_n 3, 1) := dk_29 (dk_at dksX16_init_0 6 rfl rfl)
theorem dX16_init_7 : decode cX16_init 7 = .ok (.putfield 9, 3) := dk_181 0 9 (dk_at dksX16_init_0 7 rfl rfl)
theorem dX16_init_10 : decode cX16_init 10 = .ok (.return_, 1) := dk_177 (dk_at dksX16_init_0 10 rfl rfl)
abbrev cX16_goes : ByteArray := prog_22_method_2_code
def yX16_goes : MethodName := ⟨RX16, "goes", "(IIIIIZ)Z"⟩
def dkwX16_goes_3 : List UInt8 := [160, 0, 7, 4, 167, 0, 4, 3, 172]
abbrev dktX16_goes_3 : List UInt8 := dkwX16_goes_3 ++ []
def dkwX16_goes_2 : List UInt8 := [27, 122, 4, 126, 4, 159, 0, 21, 42, 180, 0, 25, 6, 160, 0, 17, 21, 5, 27, 122, 4, 126, 4]
abbrev dktX16_goes_2 : List UInt8 := dkwX16_goes_2 ++ dktX16_goes_3
def dkwX16_goes_1 : List UInt8 := [21, 6, 153, 0, 5, 3, 172, 42, 180, 0, 25, 153, 0, 39, 42, 180, 0, 25, 5, 160, 0, 13, 21, 4]
abbrev dktX16_goes_1 : List UInt8 := dkwX16_goes_1 ++ dktX16_goes_2
def dkwX16_goes_0 : List UInt8 := [28, 42, 180, 0, 15, 161, 0, 24, 42, 180, 0, 18, 29, 126, 154, 0, 15, 42, 180, 0, 21, 153, 0, 10]
abbrev dktX16_goes_0 : List UInt8 := dkwX16_goes_0 ++ dktX16_goes_1
theorem dksX16_goes_0 : cX16_goes.data.toList.drop 0 = dktX16_goes_0 := by decide +kernel
theorem dksX16_goes_1 : cX16_goes.data.toList.drop 24 = dktX16_goes_1 := dk_seg dksX16_goes_0 24 rfl rfl
theorem dksX16_goes_2 : cX16_goes.data.toList.drop 48 = dktX16_goes_2 := dk_seg dksX16_goes_1 24 rfl rfl
theorem dksX16_goes_3 : cX16_goes.data.toList.drop 71 = dktX16_goes_3 := dk_seg dksX16_goes_2 23 rfl rfl
theorem dX16_goes_0 : decode cX16_goes 0 = .ok (.iload_n 2, 1) := dk_28 (dk_at dksX16_goes_0 0 rfl rfl)
theorem dX16_goes_1 : decode cX16_goes 1 = .ok (.aload_n 0, 1) := dk_42 (dk_at dksX16_goes_0 1 rfl rfl)
theorem dX16_goes_2 : decode cX16_goes 2 = .ok (.getfield 15, 3) := dk_180 0 15 (dk_at dksX16_goes_0 2 rfl rfl)
theorem dX16_goes_5 : decode cX16_goes 5 = .ok (.if_icmp .lt 24, 3) := dk_161 0 24 (dk_at dksX16_goes_0 5 rfl rfl)
theorem dX16_goes_8 : decode cX16_goes 8 = .ok (.aload_n 0, 1) := dk_42 (dk_at dksX16_goes_0 8 rfl rfl)
theorem dX16_goes_9 : decode cX16_goes 9 = .ok (.getfield 18, 3) := dk_180 0 18 (dk_at dksX16_goes_0 9 rfl rfl)
theorem dX16_goes_12 : decode cX16_goes 12 = .ok (.iload_n 3, 1) := dk_29 (dk_at dksX16_goes_0 12 rfl rfl)
theorem dX16_goes_13 : decode cX16_goes 13 = .ok (.iand, 1) := dk_126 (dk_at dksX16_goes_0 13 rfl rfl)
theorem dX16_goes_14 : decode cX16_goes 14 = .ok (.ifCond .ne 15, 3) := dk_154 0 15 (dk_at dksX16_goes_0 14 rfl rfl)
theorem dX16_goes_17 : decode cX16_goes 17 = .ok (.aload_n 0, 1) := dk_42 (dk_at dksX16_goes_0 17 rfl rfl)
theorem dX16_goes_18 : decode cX16_goes 18 = .ok (.getfield 21, 3) := dk_180 0 21 (dk_at dksX16_goes_0 18 rfl rfl)
theorem dX16_goes_21 : decode cX16_goes 21 = .ok (.ifCond .eq 10, 3) := dk_153 0 10 (dk_at dksX16_goes_0 21 rfl rfl)
theorem dX16_goes_24 : decode cX16_goes 24 = .ok (.iload 6, 2) := dk_21 6 (dk_at dksX16_goes_1 0 rfl rfl)
theorem dX16_goes_26 : decode cX16_goes 26 = .ok (.ifCond .eq 5, 3) := dk_153 0 5 (dk_at dksX16_goes_1 2 rfl rfl)
theorem dX16_goes_29 : decode cX16_goes 29 = .ok (.iconst 0, 1) := dk_3 (dk_at dksX16_goes_1 5 rfl rfl)
theorem dX16_goes_30 : decode cX16_goes 30 = .ok (.ireturn, 1) := dk_172 (dk_at dksX16_goes_1 6 rfl rfl)
theorem dX16_goes_31 : decode cX16_goes 31 = .ok (.aload_n 0, 1) := dk_42 (dk_at dksX16_goes_1 7 rfl rfl)
theorem dX16_goes_32 : decode cX16_goes 32 = .ok (.getfield 25, 3) := dk_180 0 25 (dk_at dksX16_goes_1 8 rfl rfl)
theorem dX16_goes_35 : decode cX16_goes 35 = .ok (.ifCond .eq 39, 3) := dk_153 0 39 (dk_at dksX16_goes_1 11 rfl rfl)
theorem dX16_goes_38 : decode cX16_goes 38 = .ok (.aload_n 0, 1) := dk_42 (dk_at dksX16_goes_1 14 rfl rfl)
theorem dX16_goes_39 : decode cX16_goes 39 = .ok (.getfield 25, 3) := dk_180 0 25 (dk_at dksX16_goes_1 15 rfl rfl)
theorem dX16_goes_42 : decode cX16_goes 42 = .ok (.iconst 2, 1) := dk_5 (dk_at dksX16_goes_1 18 rfl rfl)
theorem dX16_goes_43 : decode cX16_goes 43 = .ok (.if_icmp .ne 13, 3) := dk_160 0 13 (dk_at dksX16_goes_1 19 rfl rfl)
theorem dX16_goes_46 : decode cX16_goes 46 = .ok (.iload 4, 2) := dk_21 4 (dk_at dksX16_goes_1 22 rfl rfl)
theorem dX16_goes_48 : decode cX16_goes 48 = .ok (.iload_n 1, 1) := dk_27 (dk_at dksX16_goes_2 0 rfl rfl)
theorem dX16_goes_49 : decode cX16_goes 49 = .ok (.ishr, 1) := dk_122 (dk_at dksX16_goes_2 1 rfl rfl)
theorem dX16_goes_50 : decode cX16_goes 50 = .ok (.iconst 1, 1) := dk_4 (dk_at dksX16_goes_2 2 rfl rfl)
theorem dX16_goes_51 : decode cX16_goes 51 = .ok (.iand, 1) := dk_126 (dk_at dksX16_goes_2 3 rfl rfl)
theorem dX16_goes_52 : decode cX16_goes 52 = .ok (.iconst 1, 1) := dk_4 (dk_at dksX16_goes_2 4 rfl rfl)
theorem dX16_goes_53 : decode cX16_goes 53 = .ok (.if_icmp .eq 21, 3) := dk_159 0 21 (dk_at dksX16_goes_2 5 rfl rfl)
theorem dX16_goes_56 : decode cX16_goes 56 = .ok (.aload_n 0, 1) := dk_42 (dk_at dksX16_goes_2 8 rfl rfl)
theorem dX16_goes_57 : decode cX16_goes 57 = .ok (.getfield 25, 3) := dk_180 0 25 (dk_at dksX16_goes_2 9 rfl rfl)
theorem dX16_goes_60 : decode cX16_goes 60 = .ok (.iconst 3, 1) := dk_6 (dk_at dksX16_goes_2 12 rfl rfl)
theorem dX16_goes_61 : decode cX16_goes 61 = .ok (.if_icmp .ne 17, 3) := dk_160 0 17 (dk_at dksX16_goes_2 13 rfl rfl)
theorem dX16_goes_64 : decode cX16_goes 64 = .ok (.iload 5, 2) := dk_21 5 (dk_at dksX16_goes_2 16 rfl rfl)
theorem dX16_goes_66 : decode cX16_goes 66 = .ok (.iload_n 1, 1) := dk_27 (dk_at dksX16_goes_2 18 rfl rfl)
theorem dX16_goes_67 : decode cX16_goes 67 = .ok (.ishr, 1) := dk_122 (dk_at dksX16_goes_2 19 rfl rfl)
theorem dX16_goes_68 : decode cX16_goes 68 = .ok (.iconst 1, 1) := dk_4 (dk_at dksX16_goes_2 20 rfl rfl)
theorem dX16_goes_69 : decode cX16_goes 69 = .ok (.iand, 1) := dk_126 (dk_at dksX16_goes_2 21 rfl rfl)
theorem dX16_goes_70 : decode cX16_goes 70 = .ok (.iconst 1, 1) := dk_4 (dk_at dksX16_goes_2 22 rfl rfl)
theorem dX16_goes_71 : decode cX16_goes 71 = .ok (.if_icmp .ne 7, 3) := dk_160 0 7 (dk_at dksX16_goes_3 0 rfl rfl)
theorem dX16_goes_74 : decode cX16_goes 74 = .ok (.iconst 1, 1) := dk_4 (dk_at dksX16_goes_3 3 rfl rfl)
theorem dX16_goes_75 : decode cX16_goes 75 = .ok (.goto 4, 3) := dk_167 0 4 (dk_at dksX16_goes_3 4 rfl rfl)
theorem dX16_goes_78 : decode cX16_goes 78 = .ok (.iconst 0, 1) := dk_3 (dk_at dksX16_goes_3 7 rfl rfl)
theorem dX16_goes_79 : decode cX16_goes 79 = .ok (.ireturn, 1) := dk_172 (dk_at dksX16_goes_3 8 rfl rfl)
theorem q131 : (Jvm.Cond.initialized "TwoHalves$Way") ∈ lw_all := lw_g (lw_at lw_m1 23 rfl) rfl
theorem q820 : (Jvm.Cond.instantiable "TwoHalves$Way" (9 : Nat)) ∈ lw_all := lw_g (lw_at lw_m3 232 rfl) rfl
theorem q822 : (Jvm.Cond.instanceMethod ({ cls := "TwoHalves$Way", name := "<init>", desc := "(JI)V" } : Jvm.MethodName)) ∈ lw_all := lw_g (lw_at lw_m3 234 rfl) rfl
theorem q823 : (Jvm.Cond.code ({ cls := "TwoHalves$Way", name := "<init>", desc := "(JI)V" } : Jvm.MethodName) prog_22_method_1_code (4 : Nat) (Option.none : Option Jvm.ClassFile.FieldType)) ∈ lw_all := lw_g (lw_at lw_m3 235 rfl) rfl
theorem q824 : (Jvm.Cond.methodLink "TwoHalves$Way" (3 : Nat) ({ cls := "TwoHalves$Named", name := "<init>", desc := "(J)V" } : Jvm.MethodName)) ∈ lw_all := lw_g (lw_at lw_m3 236 rfl) rfl
theorem q825 : (Jvm.Cond.fieldLink "TwoHalves$Way" (9 : Nat) "TwoHalves$Way" "from" "I") ∈ lw_all := lw_g (lw_at lw_m3 237 rfl) rfl
theorem q834 : (Jvm.Cond.fieldLink "TwoHalves$Way" (15 : Nat) "TwoHalves$Way" "after" "I") ∈ lw_all := lw_g (lw_at lw_m4 6 rfl) rfl
theorem q837 : (Jvm.Cond.fieldLink "TwoHalves$Way" (18 : Nat) "TwoHalves$Way" "flags" "I") ∈ lw_all := lw_g (lw_at lw_m4 9 rfl) rfl
theorem q840 : (Jvm.Cond.fieldLink "TwoHalves$Way" (25 : Nat) "TwoHalves$Way" "state" "I") ∈ lw_all := lw_g (lw_at lw_m4 12 rfl) rfl
theorem q846 : (Jvm.Cond.fieldLink "TwoHalves$Way" (21 : Nat) "TwoHalves$Way" "outer" "Z") ∈ lw_all := lw_g (lw_at lw_m4 18 rfl) rfl
theorem q849 : (Jvm.Cond.laysFinal "TwoHalves$Way" "TwoHalves$Way" "from" "I") ∈ lw_all := lw_g (lw_at lw_m4 21 rfl) rfl
theorem q850 : (Jvm.Cond.soleField "TwoHalves$Way" "from") ∈ lw_all := lw_g (lw_at lw_m4 22 rfl) rfl
theorem q851 : (Jvm.Cond.lays "TwoHalves$Way" "TwoHalves$Way" "kinds" "I") ∈ lw_all := lw_g (lw_at lw_m4 23 rfl) rfl
theorem q852 : (Jvm.Cond.soleField "TwoHalves$Way" "kinds") ∈ lw_all := lw_g (lw_at lw_m4 24 rfl) rfl
theorem q853 : (Jvm.Cond.lays "TwoHalves$Way" "TwoHalves$Way" "ticks" "I") ∈ lw_all := lw_g (lw_at lw_m4 25 rfl) rfl
theorem q854 : (Jvm.Cond.soleField "TwoHalves$Way" "ticks") ∈ lw_all := lw_g (lw_at lw_m4 26 rfl) rfl
theorem q855 : (Jvm.Cond.lays "TwoHalves$Way" "TwoHalves$Way" "after" "I") ∈ lw_all := lw_g (lw_at lw_m4 27 rfl) rfl
theorem q856 : (Jvm.Cond.soleField "TwoHalves$Way" "after") ∈ lw_all := lw_g (lw_at lw_m4 28 rfl) rfl
theorem q857 : (Jvm.Cond.lays "TwoHalves$Way" "TwoHalves$Way" "flags" "I") ∈ lw_all := lw_g (lw_at lw_m4 29 rfl) rfl
theorem q858 : (Jvm.Cond.soleField "TwoHalves$Way" "flags") ∈ lw_all := lw_g (lw_at lw_m4 30 rfl) rfl
theorem q859 : (Jvm.Cond.lays "TwoHalves$Way" "TwoHalves$Way" "state" "I") ∈ lw_all := lw_g (lw_at lw_m4 31 rfl) rfl
theorem q860 : (Jvm.Cond.soleField "TwoHalves$Way" "state") ∈ lw_all := lw_g (lw_at lw_m4 32 rfl) rfl
theorem q861 : (Jvm.Cond.lays "TwoHalves$Way" "TwoHalves$Way" "luck" "I") ∈ lw_all := lw_g (lw_at lw_m4 33 rfl) rfl
theorem q862 : (Jvm.Cond.soleField "TwoHalves$Way" "luck") ∈ lw_all := lw_g (lw_at lw_m4 34 rfl) rfl
theorem q863 : (Jvm.Cond.lays "TwoHalves$Way" "TwoHalves$Way" "outer" "Z") ∈ lw_all := lw_g (lw_at lw_m4 35 rfl) rfl
theorem q864 : (Jvm.Cond.soleField "TwoHalves$Way" "outer") ∈ lw_all := lw_g (lw_at lw_m4 36 rfl) rfl
theorem q865 : (Jvm.Cond.laysFinal "TwoHalves$Way" "TwoHalves$Named" "name" "J") ∈ lw_all := lw_g (lw_at lw_m4 37 rfl) rfl
theorem q866 : (Jvm.Cond.superclass "TwoHalves$Way" "TwoHalves$Named") ∈ lw_all := lw_g (lw_at lw_m4 38 rfl) rfl
theorem q986 : (Jvm.Cond.instanceMethod ({ cls := "TwoHalves$Way", name := "goes", desc := "(IIIIIZ)Z" } : Jvm.MethodName)) ∈ lw_all := lw_g (lw_at lw_m4 158 rfl) rfl
theorem q987 : (Jvm.Cond.selects "TwoHalves$Way" ({ cls := "TwoHalves$Way", name := "goes", desc := "(IIIIIZ)Z" } : Jvm.MethodName) ({ cls := "TwoHalves$Way", name := "goes", desc := "(IIIIIZ)Z" } : Jvm.MethodName)) ∈ lw_all := lw_g (lw_at lw_m4 159 rfl) rfl
theorem q988 : (Jvm.Cond.code ({ cls := "TwoHalves$Way", name := "goes", desc := "(IIIIIZ)Z" } : Jvm.MethodName) prog_22_method_2_code (7 : Nat) (Option.some Jvm.ClassFile.FieldType.boolean)) ∈ lw_all := lw_g (lw_at lw_m4 160 rfl) rfl
theorem q1982 : (Jvm.Cond.castable "TwoHalves$Way" "java/lang/Object") ∈ lw_tbl := lw_at lw_m8 194 rfl
theorem in_X16 : ∀ w ∈ wsX160, w ∈ lw_all := lw_in wsX160 [865, 849, 851, 853, 855, 857, 859, 861, 863] (by decide +kernel) (by decide +kernel)
/-! TwoHalves$Showing -/
set_option maxRecDepth 100000
def RX17 : String := "TwoHalves$Showing"
def TX17 : u_T := fun k => match k with
  | 0 => ("TwoHalves$Showing", "left", "I", true)
  | 1 => ("TwoHalves$Showing", "right", "I", true)
  | 2 => ("TwoHalves$Showing", "ticks", "I", true)
  | 3 => ("TwoHalves$Showing", "flags", "I", true)
  | 4 => ("TwoHalves$Showing", "years", "I", true)
  | 5 => ("TwoHalves$Showing", "asked", "I", true)
  | 6 => ("TwoHalves$Showing", "offered", "[I", true)
  | _ => ("TwoHalves$Showing", "told", "I", false)
def tyX17 : Nat → FieldType := fun k => match k with
  | 0 => .int
  | 1 => .int
  | 2 => .int
  | 3 => .int
  | 4 => .int
  | 5 => .int
  | 6 => .array .int
  | _ => .int
abbrev wsX170 : List Cond := u_ws RX17 TX17 8
theorem nmX17 : ∀ a, a < 8 → ∀ b, b < 8 → a ≠ b → (TX17 a).2.1 ≠ (TX17 b).2.1 := by decide +kernel
theorem tyX17_ok : ∀ k, k < 8 → parseFieldDescriptor (TX17 k).2.2.1 = some (tyX17 k) := by decide +kernel
abbrev cX17_init : ByteArray := prog_19_method_1_code
def yX17_init : MethodName := ⟨RX17, "<init>", "(IIIIII[I)V"⟩
def dkwX17_init_2 : List UInt8 := [177]
abbrev dktX17_init_2 : List UInt8 := dkwX17_init_2 ++ []
def dkwX17_init_1 : List UInt8 := [42, 21, 4, 181, 0, 24, 42, 21, 5, 181, 0, 27, 42, 21, 6, 181, 0, 30, 42, 25, 7, 181, 0, 33]
abbrev dktX17_init_1 : List UInt8 := dkwX17_init_1 ++ dktX17_init_2
def dkwX17_init_0 : List UInt8 := [42, 183, 0, 3, 42, 2, 181, 0, 9, 42, 27, 181, 0, 15, 42, 28, 181, 0, 18, 42, 29, 181, 0, 21]
abbrev dktX17_init_0 : List UInt8 := dkwX17_init_0 ++ dktX17_init_1
theorem dksX17_init_0 : cX17_init.data.toList.drop 0 = dktX17_init_0 := by decide +kernel
theorem dksX17_init_1 : cX17_init.data.toList.drop 24 = dktX17_init_1 := dk_seg dksX17_init_0 24 rfl rfl
theorem dksX17_init_2 : cX17_init.data.toList.drop 48 = dktX17_init_2 := dk_seg dksX17_init_1 24 rfl rfl
theorem dX17_init_0 : decode cX17_init 0 = .ok (.aload_n 0, 1) := dk_42 (dk_at dksX17_init_0 0 rfl rfl)
theorem dX17_init_1 : decode cX17_init 1 = .ok (.invokespecial 3, 3) := dk_183 0 3 (dk_at dksX17_init_0 1 rfl rfl)
theorem dX17_init_4 : decode cX17_init 4 = .ok (.aload_n 0, 1) := dk_42 (dk_at dksX17_init_0 4 rfl rfl)
theorem dX17_init_5 : decode cX17_init 5 = .ok (.iconst (-1), 1) := dk_2 (dk_at dksX17_init_0 5 rfl rfl)
theorem dX17_init_6 : decode cX17_init 6 = .ok (.putfield 9, 3) := dk_181 0 9 (dk_at dksX17_init_0 6 rfl rfl)
theorem dX17_init_9 : decode cX17_init 9 = .ok (.aload_n 0, 1) := dk_42 (dk_at dksX17_init_0 9 rfl rfl)
theorem dX17_init_10 : decode cX17_init 10 = .ok (.iload_n 1, 1) := dk_27 (dk_at dksX17_init_0 10 rfl rfl)
theorem dX17_init_11 : decode cX17_init 11 = .ok (.putfield 15, 3) := dk_181 0 15 (dk_at dksX17_init_0 11 rfl rfl)
theorem dX17_init_14 : decode cX17_init 14 = .ok (.aload_n 0, 1) := dk_42 (dk_at dksX17_init_0 14 rfl rfl)
theorem dX17_init_15 : decode cX17_init 15 = .ok (.iload_n 2, 1) := dk_28 (dk_at dksX17_init_0 15 rfl rfl)
theorem dX17_init_16 : decode cX17_init 16 = .ok (.putfield 18, 3) := dk_181 0 18 (dk_at dksX17_init_0 16 rfl rfl)
theorem dX17_init_19 : decode cX17_init 19 = .ok (.aload_n 0, 1) := dk_42 (dk_at dksX17_init_0 19 rfl rfl)
theorem dX17_init_20 : decode cX17_init 20 = .ok (.iload_n 3, 1) := dk_29 (dk_at dksX17_init_0 20 rfl rfl)
theorem dX17_init_21 : decode cX17_init 21 = .ok (.putfield 21, 3) := dk_181 0 21 (dk_at dksX17_init_0 21 rfl rfl)
theorem dX17_init_24 : decode cX17_init 24 = .ok (.aload_n 0, 1) := dk_42 (dk_at dksX17_init_1 0 rfl rfl)
theorem dX17_init_25 : decode cX17_init 25 = .ok (.iload 4, 2) := dk_21 4 (dk_at dksX17_init_1 1 rfl rfl)
theorem dX17_init_27 : decode cX17_init 27 = .ok (.putfield 24, 3) := dk_181 0 24 (dk_at dksX17_init_1 3 rfl rfl)
theorem dX17_init_30 : decode cX17_init 30 = .ok (.aload_n 0, 1) := dk_42 (dk_at dksX17_init_1 6 rfl rfl)
theorem dX17_init_31 : decode cX17_init 31 = .ok (.iload 5, 2) := dk_21 5 (dk_at dksX17_init_1 7 rfl rfl)
theorem dX17_init_33 : decode cX17_init 33 = .ok (.putfield 27, 3) := dk_181 0 27 (dk_at dksX17_init_1 9 rfl rfl)
theorem dX17_init_36 : decode cX17_init 36 = .ok (.aload_n 0, 1) := dk_42 (dk_at dksX17_init_1 12 rfl rfl)
theorem dX17_init_37 : decode cX17_init 37 = .ok (.iload 6, 2) := dk_21 6 (dk_at dksX17_init_1 13 rfl rfl)
theorem dX17_init_39 : decode cX17_init 39 = .ok (.putfield 30, 3) := dk_181 0 30 (dk_at dksX17_init_1 15 rfl rfl)
theorem dX17_init_42 : decode cX17_init 42 = .ok (.aload_n 0, 1) := dk_42 (dk_at dksX17_init_1 18 rfl rfl)
theorem dX17_init_43 : decode cX17_init 43 = .ok (.aload 7, 2) := dk_25 7 (dk_at dksX17_init_1 19 rfl rfl)
theorem dX17_init_45 : decode cX17_init 45 = .ok (.putfield 33, 3) := dk_181 0 33 (dk_at dksX17_init_1 21 rfl rfl)
theorem dX17_init_48 : decode cX17_init 48 = .ok (.return_, 1) := dk_177 (dk_at dksX17_init_2 0 rfl rfl)
theorem q134 : (Jvm.Cond.initialized "TwoHalves$Showing") ∈ lw_all := lw_g (lw_at lw_m1 26 rfl) rfl
theorem q937 : (Jvm.Cond.instantiable "TwoHalves$Showing" (8 : Nat)) ∈ lw_all := lw_g (lw_at lw_m4 109 rfl) rfl
theorem q939 : (Jvm.Cond.instanceMethod ({ cls := "TwoHalves$Showing", name := "<init>", desc := "(IIIIII[I)V" } : Jvm.MethodName)) ∈ lw_all := lw_g (lw_at lw_m4 111 rfl) rfl
theorem q940 : (Jvm.Cond.code ({ cls := "TwoHalves$Showing", name := "<init>", desc := "(IIIIII[I)V" } : Jvm.MethodName) prog_19_method_1_code (8 : Nat) (Option.none : Option Jvm.ClassFile.FieldType)) ∈ lw_all := lw_g (lw_at lw_m4 112 rfl) rfl
theorem q941 : (Jvm.Cond.methodLink "TwoHalves$Showing" (3 : Nat) ({ cls := "java/lang/Object", name := "<init>", desc := "()V" } : Jvm.MethodName)) ∈ lw_all := lw_g (lw_at lw_m4 113 rfl) rfl
theorem q942 : (Jvm.Cond.fieldLink "TwoHalves$Showing" (15 : Nat) "TwoHalves$Showing" "left" "I") ∈ lw_all := lw_g (lw_at lw_m4 114 rfl) rfl
theorem q944 : (Jvm.Cond.fieldLink "TwoHalves$Showing" (18 : Nat) "TwoHalves$Showing" "right" "I") ∈ lw_all := lw_g (lw_at lw_m4 116 rfl) rfl
theorem q946 : (Jvm.Cond.fieldLink "TwoHalves$Showing" (21 : Nat) "TwoHalves$Showing" "ticks" "I") ∈ lw_all := lw_g (lw_at lw_m4 118 rfl) rfl
theorem q948 : (Jvm.Cond.fieldLink "TwoHalves$Showing" (24 : Nat) "TwoHalves$Showing" "flags" "I") ∈ lw_all := lw_g (lw_at lw_m4 120 rfl) rfl
theorem q950 : (Jvm.Cond.fieldLink "TwoHalves$Showing" (27 : Nat) "TwoHalves$Showing" "years" "I") ∈ lw_all := lw_g (lw_at lw_m4 122 rfl) rfl
theorem q952 : (Jvm.Cond.fieldLink "TwoHalves$Showing" (30 : Nat) "TwoHalves$Showing" "asked" "I") ∈ lw_all := lw_g (lw_at lw_m4 124 rfl) rfl
theorem q955 : (Jvm.Cond.fieldLink "TwoHalves$Showing" (33 : Nat) "TwoHalves$Showing" "offered" "[I") ∈ lw_all := lw_g (lw_at lw_m4 127 rfl) rfl
theorem q957 : (Jvm.Cond.fieldLink "TwoHalves$Showing" (9 : Nat) "TwoHalves$Showing" "told" "I") ∈ lw_all := lw_g (lw_at lw_m4 129 rfl) rfl
theorem q960 : (Jvm.Cond.laysFinal "TwoHalves$Showing" "TwoHalves$Showing" "left" "I") ∈ lw_all := lw_g (lw_at lw_m4 132 rfl) rfl
theorem q961 : (Jvm.Cond.soleField "TwoHalves$Showing" "left") ∈ lw_all := lw_g (lw_at lw_m4 133 rfl) rfl
theorem q962 : (Jvm.Cond.laysFinal "TwoHalves$Showing" "TwoHalves$Showing" "right" "I") ∈ lw_all := lw_g (lw_at lw_m4 134 rfl) rfl
theorem q963 : (Jvm.Cond.soleField "TwoHalves$Showing" "right") ∈ lw_all := lw_g (lw_at lw_m4 135 rfl) rfl
theorem q964 : (Jvm.Cond.laysFinal "TwoHalves$Showing" "TwoHalves$Showing" "ticks" "I") ∈ lw_all := lw_g (lw_at lw_m4 136 rfl) rfl
theorem q965 : (Jvm.Cond.soleField "TwoHalves$Showing" "ticks") ∈ lw_all := lw_g (lw_at lw_m4 137 rfl) rfl
theorem q966 : (Jvm.Cond.laysFinal "TwoHalves$Showing" "TwoHalves$Showing" "flags" "I") ∈ lw_all := lw_g (lw_at lw_m4 138 rfl) rfl
theorem q967 : (Jvm.Cond.soleField "TwoHalves$Showing" "flags") ∈ lw_all := lw_g (lw_at lw_m4 139 rfl) rfl
theorem q968 : (Jvm.Cond.laysFinal "TwoHalves$Showing" "TwoHalves$Showing" "years" "I") ∈ lw_all := lw_g (lw_at lw_m4 140 rfl) rfl
theorem q969 : (Jvm.Cond.soleField "TwoHalves$Showing" "years") ∈ lw_all := lw_g (lw_at lw_m4 141 rfl) rfl
theorem q970 : (Jvm.Cond.laysFinal "TwoHalves$Showing" "TwoHalves$Showing" "asked" "I") ∈ lw_all := lw_g (lw_at lw_m4 142 rfl) rfl
theorem q971 : (Jvm.Cond.soleField "TwoHalves$Showing" "asked") ∈ lw_all := lw_g (lw_at lw_m4 143 rfl) rfl
theorem q972 : (Jvm.Cond.laysFinal "TwoHalves$Showing" "TwoHalves$Showing" "offered" "[I") ∈ lw_all := lw_g (lw_at lw_m4 144 rfl) rfl
theorem q973 : (Jvm.Cond.soleField "TwoHalves$Showing" "offered") ∈ lw_all := lw_g (lw_at lw_m4 145 rfl) rfl
theorem q974 : (Jvm.Cond.lays "TwoHalves$Showing" "TwoHalves$Showing" "told" "I") ∈ lw_all := lw_g (lw_at lw_m4 146 rfl) rfl
theorem q975 : (Jvm.Cond.soleField "TwoHalves$Showing" "told") ∈ lw_all := lw_g (lw_at lw_m4 147 rfl) rfl
theorem q976 : (Jvm.Cond.superclass "TwoHalves$Showing" "java/lang/Object") ∈ lw_all := lw_g (lw_at lw_m4 148 rfl) rfl
theorem q1984 : (Jvm.Cond.castable "TwoHalves$Showing" "java/lang/Object") ∈ lw_tbl := lw_at lw_m8 196 rfl
theorem in_X17 : ∀ w ∈ wsX170, w ∈ lw_all := lw_in wsX170 [960, 962, 964, 966, 968, 970, 972, 974] (by decide +kernel) (by decide +kernel)
/-! TwoHalves$Cond -/
set_option maxRecDepth 100000
def RX18 : String := "TwoHalves$Cond"
abbrev cX18_init : ByteArray := prog_6_method_1_code
def yX18_init : MethodName := ⟨RX18, "<init>", "()V"⟩
theorem dX18_init_0 : decode cX18_init 0 = .ok (.aload_n 0, 1) := by decide +kernel
theorem dX18_init_1 : decode cX18_init 1 = .ok (.invokespecial 1, 3) := by decide +kernel
theorem dX18_init_4 : decode cX18_init 4 = .ok (.return_, 1) := by decide +kernel
theorem q137 : (Jvm.Cond.initialized "TwoHalves$Cond") ∈ lw_all := lw_g (lw_at lw_m1 29 rfl) rfl
theorem q1200 : (Jvm.Cond.instanceMethod ({ cls := "TwoHalves$Cond", name := "<init>", desc := "()V" } : Jvm.MethodName)) ∈ lw_all := lw_g (lw_at lw_m5 132 rfl) rfl
theorem q1201 : (Jvm.Cond.code ({ cls := "TwoHalves$Cond", name := "<init>", desc := "()V" } : Jvm.MethodName) prog_6_method_1_code (1 : Nat) (Option.none : Option Jvm.ClassFile.FieldType)) ∈ lw_all := lw_g (lw_at lw_m5 133 rfl) rfl
theorem q1202 : (Jvm.Cond.methodLink "TwoHalves$Cond" (1 : Nat) ({ cls := "java/lang/Object", name := "<init>", desc := "()V" } : Jvm.MethodName)) ∈ lw_all := lw_g (lw_at lw_m5 134 rfl) rfl
theorem q1289 : (Jvm.Cond.declares ({ cls := "TwoHalves$Cond", name := "is", desc := "(LTwoHalves;I)Z" } : Jvm.MethodName)) ∈ lw_tbl := lw_at lw_m5 221 rfl
theorem q1290 : (Jvm.Cond.sameMethod "TwoHalves$Cond" "TwoHalves$Cond" "is" "(LTwoHalves;I)Z") ∈ lw_all := lw_g (lw_at lw_m5 222 rfl) rfl
/-! TwoHalves$Not -/
set_option maxRecDepth 100000
def RX19 : String := "TwoHalves$Not"
def TX19 : u_T := fun k => match k with
  | _ => ("TwoHalves$Not", "a", "LTwoHalves$Cond;", true)
def tyX19 : Nat → FieldType := fun k => match k with
  | _ => .object "TwoHalves$Cond"
abbrev wsX190 : List Cond := u_ws RX19 TX19 1
theorem nmX19 : ∀ a, a < 1 → ∀ b, b < 1 → a ≠ b → (TX19 a).2.1 ≠ (TX19 b).2.1 := by decide +kernel
theorem tyX19_ok : ∀ k, k < 1 → parseFieldDescriptor (TX19 k).2.2.1 = some (tyX19 k) := by decide +kernel
abbrev cX19_init : ByteArray := prog_15_method_1_code
def yX19_init : MethodName := ⟨RX19, "<init>", "(LTwoHalves$Cond;)V"⟩
def dkwX19_init_0 : List UInt8 := [42, 183, 0, 1, 42, 43, 181, 0, 7, 177]
abbrev dktX19_init_0 : List UInt8 := dkwX19_init_0 ++ []
theorem dksX19_init_0 : cX19_init.data.toList.drop 0 = dktX19_init_0 := by decide +kernel
theorem dX19_init_0 : decode cX19_init 0 = .ok (.aload_n 0, 1) := dk_42 (dk_at dksX19_init_0 0 rfl rfl)
theorem dX19_init_1 : decode cX19_init 1 = .ok (.invokespecial 1, 3) := dk_183 0 1 (dk_at dksX19_init_0 1 rfl rfl)
theorem dX19_init_4 : decode cX19_init 4 = .ok (.aload_n 0, 1) := dk_42 (dk_at dksX19_init_0 4 rfl rfl)
theorem dX19_init_5 : decode cX19_init 5 = .ok (.aload_n 1, 1) := dk_43 (dk_at dksX19_init_0 5 rfl rfl)
theorem dX19_init_6 : decode cX19_init 6 = .ok (.putfield 7, 3) := dk_181 0 7 (dk_at dksX19_init_0 6 rfl rfl)
theorem dX19_init_9 : decode cX19_init 9 = .ok (.return_, 1) := dk_177 (dk_at dksX19_init_0 9 rfl rfl)
abbrev cX19_is : ByteArray := prog_15_method_2_code
def yX19_is : MethodName := ⟨RX19, "is", "(LTwoHalves;I)Z"⟩
def dkwX19_is_0 : List UInt8 := [42, 180, 0, 7, 43, 28, 182, 0, 13, 154, 0, 7, 4, 167, 0, 4, 3, 172]
abbrev dktX19_is_0 : List UInt8 := dkwX19_is_0 ++ []
theorem dksX19_is_0 : cX19_is.data.toList.drop 0 = dktX19_is_0 := by decide +kernel
theorem dX19_is_0 : decode cX19_is 0 = .ok (.aload_n 0, 1) := dk_42 (dk_at dksX19_is_0 0 rfl rfl)
theorem dX19_is_1 : decode cX19_is 1 = .ok (.getfield 7, 3) := dk_180 0 7 (dk_at dksX19_is_0 1 rfl rfl)
theorem dX19_is_4 : decode cX19_is 4 = .ok (.aload_n 1, 1) := dk_43 (dk_at dksX19_is_0 4 rfl rfl)
theorem dX19_is_5 : decode cX19_is 5 = .ok (.iload_n 2, 1) := dk_28 (dk_at dksX19_is_0 5 rfl rfl)
theorem dX19_is_6 : decode cX19_is 6 = .ok (.invokevirtual 13, 3) := dk_182 0 13 (dk_at dksX19_is_0 6 rfl rfl)
theorem dX19_is_9 : decode cX19_is 9 = .ok (.ifCond .ne 7, 3) := dk_154 0 7 (dk_at dksX19_is_0 9 rfl rfl)
theorem dX19_is_12 : decode cX19_is 12 = .ok (.iconst 1, 1) := dk_4 (dk_at dksX19_is_0 12 rfl rfl)
theorem dX19_is_13 : decode cX19_is 13 = .ok (.goto 4, 3) := dk_167 0 4 (dk_at dksX19_is_0 13 rfl rfl)
theorem dX19_is_16 : decode cX19_is 16 = .ok (.iconst 0, 1) := dk_3 (dk_at dksX19_is_0 16 rfl rfl)
theorem dX19_is_17 : decode cX19_is 17 = .ok (.ireturn, 1) := dk_172 (dk_at dksX19_is_0 17 rfl rfl)
theorem q138 : (Jvm.Cond.initialized "TwoHalves$Not") ∈ lw_all := lw_g (lw_at lw_m1 30 rfl) rfl
theorem q1195 : (Jvm.Cond.instantiable "TwoHalves$Not" (1 : Nat)) ∈ lw_all := lw_g (lw_at lw_m5 127 rfl) rfl
theorem q1197 : (Jvm.Cond.instanceMethod ({ cls := "TwoHalves$Not", name := "<init>", desc := "(LTwoHalves$Cond;)V" } : Jvm.MethodName)) ∈ lw_all := lw_g (lw_at lw_m5 129 rfl) rfl
theorem q1198 : (Jvm.Cond.code ({ cls := "TwoHalves$Not", name := "<init>", desc := "(LTwoHalves$Cond;)V" } : Jvm.MethodName) prog_15_method_1_code (2 : Nat) (Option.none : Option Jvm.ClassFile.FieldType)) ∈ lw_all := lw_g (lw_at lw_m5 130 rfl) rfl
theorem q1199 : (Jvm.Cond.methodLinkNest "TwoHalves$Not" (1 : Nat) ({ cls := "TwoHalves$Cond", name := "<init>", desc := "()V" } : Jvm.MethodName) "TwoHalves") ∈ lw_tbl := lw_at lw_m5 131 rfl
theorem q1203 : (Jvm.Cond.fieldLink "TwoHalves$Not" (7 : Nat) "TwoHalves$Not" "a" "LTwoHalves$Cond;") ∈ lw_all := lw_g (lw_at lw_m5 135 rfl) rfl
theorem q1204 : (Jvm.Cond.laysFinal "TwoHalves$Not" "TwoHalves$Not" "a" "LTwoHalves$Cond;") ∈ lw_all := lw_g (lw_at lw_m5 136 rfl) rfl
theorem q1205 : (Jvm.Cond.soleField "TwoHalves$Not" "a") ∈ lw_all := lw_g (lw_at lw_m5 137 rfl) rfl
theorem q1206 : (Jvm.Cond.superclass "TwoHalves$Not" "TwoHalves$Cond") ∈ lw_all := lw_g (lw_at lw_m5 138 rfl) rfl
theorem q1300 : (Jvm.Cond.instanceMethod ({ cls := "TwoHalves$Not", name := "is", desc := "(LTwoHalves;I)Z" } : Jvm.MethodName)) ∈ lw_all := lw_g (lw_at lw_m5 232 rfl) rfl
theorem q1301 : (Jvm.Cond.code ({ cls := "TwoHalves$Not", name := "is", desc := "(LTwoHalves;I)Z" } : Jvm.MethodName) prog_15_method_2_code (3 : Nat) (Option.some Jvm.ClassFile.FieldType.boolean)) ∈ lw_all := lw_g (lw_at lw_m5 233 rfl) rfl
theorem q1302 : (Jvm.Cond.methodLink "TwoHalves$Not" (13 : Nat) ({ cls := "TwoHalves$Cond", name := "is", desc := "(LTwoHalves;I)Z" } : Jvm.MethodName)) ∈ lw_all := lw_g (lw_at lw_m5 234 rfl) rfl
theorem q1308 : (Jvm.Cond.selects "TwoHalves$Not" ({ cls := "TwoHalves$Cond", name := "is", desc := "(LTwoHalves;I)Z" } : Jvm.MethodName) ({ cls := "TwoHalves$Not", name := "is", desc := "(LTwoHalves;I)Z" } : Jvm.MethodName)) ∈ lw_all := lw_g (lw_at lw_m6 0 rfl) rfl
theorem q1985 : (Jvm.Cond.castable "TwoHalves$Not" "java/lang/Object") ∈ lw_tbl := lw_at lw_m8 197 rfl
theorem in_X19 : ∀ w ∈ wsX190, w ∈ lw_all := lw_in wsX190 [1204] (by decide +kernel) (by decide +kernel)
/-! TwoHalves$OfWay -/
set_option maxRecDepth 100000
def RX20 : String := "TwoHalves$OfWay"
def TX20 : u_T := fun k => match k with
  | 0 => ("TwoHalves$OfWay", "sure", "I", true)
  | _ => ("TwoHalves$OfWay", "way", "I", true)
def tyX20 : Nat → FieldType := fun k => match k with
  | 0 => .int
  | _ => .int
abbrev wsX200 : List Cond := u_ws RX20 TX20 2
theorem nmX20 : ∀ a, a < 2 → ∀ b, b < 2 → a ≠ b → (TX20 a).2.1 ≠ (TX20 b).2.1 := by decide +kernel
theorem tyX20_ok : ∀ k, k < 2 → parseFieldDescriptor (TX20 k).2.2.1 = some (tyX20 k) := by decide +kernel
abbrev cX20_init : ByteArray := prog_16_method_1_code
def yX20_init : MethodName := ⟨RX20, "<init>", "(II)V"⟩
def dkwX20_init_0 : List UInt8 := [42, 183, 0, 1, 42, 27, 181, 0, 7, 42, 28, 181, 0, 13, 177]
abbrev dktX20_init_0 : List UInt8 := dkwX20_init_0 ++ []
theorem dksX20_init_0 : cX20_init.data.toList.drop 0 = dktX20_init_0 := by decide +kernel
theorem dX20_init_0 : decode cX20_init 0 = .ok (.aload_n 0, 1) := dk_42 (dk_at dksX20_init_0 0 rfl rfl)
theorem dX20_init_1 : decode cX20_init 1 = .ok (.invokespecial 1, 3) := dk_183 0 1 (dk_at dksX20_init_0 1 rfl rfl)
theorem dX20_init_4 : decode cX20_init 4 = .ok (.aload_n 0, 1) := dk_42 (dk_at dksX20_init_0 4 rfl rfl)
theorem dX20_init_5 : decode cX20_init 5 = .ok (.iload_n 1, 1) := dk_27 (dk_at dksX20_init_0 5 rfl rfl)
theorem dX20_init_6 : decode cX20_init 6 = .ok (.putfield 7, 3) := dk_181 0 7 (dk_at dksX20_init_0 6 rfl rfl)
theorem dX20_init_9 : decode cX20_init 9 = .ok (.aload_n 0, 1) := dk_42 (dk_at dksX20_init_0 9 rfl rfl)
theorem dX20_init_10 : decode cX20_init 10 = .ok (.iload_n 2, 1) := dk_28 (dk_at dksX20_init_0 10 rfl rfl)
theorem dX20_init_11 : decode cX20_init 11 = .ok (.putfield 13, 3) := dk_181 0 13 (dk_at dksX20_init_0 11 rfl rfl)
theorem dX20_init_14 : decode cX20_init 14 = .ok (.return_, 1) := dk_177 (dk_at dksX20_init_0 14 rfl rfl)
abbrev cX20_is : ByteArray := prog_16_method_2_code
def yX20_is : MethodName := ⟨RX20, "is", "(LTwoHalves;I)Z"⟩
def dkwX20_is_0 : List UInt8 := [43, 42, 180, 0, 13, 182, 0, 16, 42, 180, 0, 7, 160, 0, 7, 4, 167, 0, 4, 3, 172]
abbrev dktX20_is_0 : List UInt8 := dkwX20_is_0 ++ []
theorem dksX20_is_0 : cX20_is.data.toList.drop 0 = dktX20_is_0 := by decide +kernel
theorem dX20_is_0 : decode cX20_is 0 = .ok (.aload_n 1, 1) := dk_43 (dk_at dksX20_is_0 0 rfl rfl)
theorem dX20_is_1 : decode cX20_is 1 = .ok (.aload_n 0, 1) := dk_42 (dk_at dksX20_is_0 1 rfl rfl)
theorem dX20_is_2 : decode cX20_is 2 = .ok (.getfield 13, 3) := dk_180 0 13 (dk_at dksX20_is_0 2 rfl rfl)
theorem dX20_is_5 : decode cX20_is 5 = .ok (.invokevirtual 16, 3) := dk_182 0 16 (dk_at dksX20_is_0 5 rfl rfl)
theorem dX20_is_8 : decode cX20_is 8 = .ok (.aload_n 0, 1) := dk_42 (dk_at dksX20_is_0 8 rfl rfl)
theorem dX20_is_9 : decode cX20_is 9 = .ok (.getfield 7, 3) := dk_180 0 7 (dk_at dksX20_is_0 9 rfl rfl)
theorem dX20_is_12 : decode cX20_is 12 = .ok (.if_icmp .ne 7, 3) := dk_160 0 7 (dk_at dksX20_is_0 12 rfl rfl)
theorem dX20_is_15 : decode cX20_is 15 = .ok (.iconst 1, 1) := dk_4 (dk_at dksX20_is_0 15 rfl rfl)
theorem dX20_is_16 : decode cX20_is 16 = .ok (.goto 4, 3) := dk_167 0 4 (dk_at dksX20_is_0 16 rfl rfl)
theorem dX20_is_19 : decode cX20_is 19 = .ok (.iconst 0, 1) := dk_3 (dk_at dksX20_is_0 19 rfl rfl)
theorem dX20_is_20 : decode cX20_is 20 = .ok (.ireturn, 1) := dk_172 (dk_at dksX20_is_0 20 rfl rfl)
theorem q139 : (Jvm.Cond.initialized "TwoHalves$OfWay") ∈ lw_all := lw_g (lw_at lw_m1 31 rfl) rfl
theorem q1221 : (Jvm.Cond.instantiable "TwoHalves$OfWay" (2 : Nat)) ∈ lw_all := lw_g (lw_at lw_m5 153 rfl) rfl
theorem q1223 : (Jvm.Cond.instanceMethod ({ cls := "TwoHalves$OfWay", name := "<init>", desc := "(II)V" } : Jvm.MethodName)) ∈ lw_all := lw_g (lw_at lw_m5 155 rfl) rfl
theorem q1224 : (Jvm.Cond.code ({ cls := "TwoHalves$OfWay", name := "<init>", desc := "(II)V" } : Jvm.MethodName) prog_16_method_1_code (3 : Nat) (Option.none : Option Jvm.ClassFile.FieldType)) ∈ lw_all := lw_g (lw_at lw_m5 156 rfl) rfl
theorem q1225 : (Jvm.Cond.methodLinkNest "TwoHalves$OfWay" (1 : Nat) ({ cls := "TwoHalves$Cond", name := "<init>", desc := "()V" } : Jvm.MethodName) "TwoHalves") ∈ lw_tbl := lw_at lw_m5 157 rfl
theorem q1226 : (Jvm.Cond.fieldLink "TwoHalves$OfWay" (7 : Nat) "TwoHalves$OfWay" "sure" "I") ∈ lw_all := lw_g (lw_at lw_m5 158 rfl) rfl
theorem q1227 : (Jvm.Cond.fieldLink "TwoHalves$OfWay" (13 : Nat) "TwoHalves$OfWay" "way" "I") ∈ lw_all := lw_g (lw_at lw_m5 159 rfl) rfl
theorem q1228 : (Jvm.Cond.laysFinal "TwoHalves$OfWay" "TwoHalves$OfWay" "sure" "I") ∈ lw_all := lw_g (lw_at lw_m5 160 rfl) rfl
theorem q1229 : (Jvm.Cond.soleField "TwoHalves$OfWay" "sure") ∈ lw_all := lw_g (lw_at lw_m5 161 rfl) rfl
theorem q1230 : (Jvm.Cond.laysFinal "TwoHalves$OfWay" "TwoHalves$OfWay" "way" "I") ∈ lw_all := lw_g (lw_at lw_m5 162 rfl) rfl
theorem q1231 : (Jvm.Cond.soleField "TwoHalves$OfWay" "way") ∈ lw_all := lw_g (lw_at lw_m5 163 rfl) rfl
theorem q1232 : (Jvm.Cond.superclass "TwoHalves$OfWay" "TwoHalves$Cond") ∈ lw_all := lw_g (lw_at lw_m5 164 rfl) rfl
theorem q1303 : (Jvm.Cond.instanceMethod ({ cls := "TwoHalves$OfWay", name := "is", desc := "(LTwoHalves;I)Z" } : Jvm.MethodName)) ∈ lw_all := lw_g (lw_at lw_m5 235 rfl) rfl
theorem q1304 : (Jvm.Cond.code ({ cls := "TwoHalves$OfWay", name := "is", desc := "(LTwoHalves;I)Z" } : Jvm.MethodName) prog_16_method_2_code (3 : Nat) (Option.some Jvm.ClassFile.FieldType.boolean)) ∈ lw_all := lw_g (lw_at lw_m5 236 rfl) rfl
theorem q1305 : (Jvm.Cond.methodLinkNest "TwoHalves$OfWay" (16 : Nat) ({ cls := "TwoHalves", name := "sureOf", desc := "(I)I" } : Jvm.MethodName) "TwoHalves") ∈ lw_tbl := lw_at lw_m5 237 rfl
theorem q1309 : (Jvm.Cond.selects "TwoHalves$OfWay" ({ cls := "TwoHalves$Cond", name := "is", desc := "(LTwoHalves;I)Z" } : Jvm.MethodName) ({ cls := "TwoHalves$OfWay", name := "is", desc := "(LTwoHalves;I)Z" } : Jvm.MethodName)) ∈ lw_all := lw_g (lw_at lw_m6 1 rfl) rfl
theorem q1986 : (Jvm.Cond.castable "TwoHalves$OfWay" "java/lang/Object") ∈ lw_tbl := lw_at lw_m8 198 rfl
theorem in_X20 : ∀ w ∈ wsX200, w ∈ lw_all := lw_in wsX200 [1228, 1230] (by decide +kernel) (by decide +kernel)
/-! TwoHalves$Counts -/
set_option maxRecDepth 100000
def RX21 : String := "TwoHalves$Counts"
def TX21 : u_T := fun k => match k with
  | 0 => ("TwoHalves$Counts", "what", "I", true)
  | 1 => ("TwoHalves$Counts", "sign", "I", true)
  | _ => ("TwoHalves$Counts", "many", "I", true)
def tyX21 : Nat → FieldType := fun k => match k with
  | 0 => .int
  | 1 => .int
  | _ => .int
abbrev wsX210 : List Cond := u_ws RX21 TX21 3
theorem nmX21 : ∀ a, a < 3 → ∀ b, b < 3 → a ≠ b → (TX21 a).2.1 ≠ (TX21 b).2.1 := by decide +kernel
theorem tyX21_ok : ∀ k, k < 3 → parseFieldDescriptor (TX21 k).2.2.1 = some (tyX21 k) := by decide +kernel
abbrev cX21_init : ByteArray := prog_7_method_1_code
def yX21_init : MethodName := ⟨RX21, "<init>", "(III)V"⟩
def dkwX21_init_0 : List UInt8 := [42, 183, 0, 3, 42, 27, 181, 0, 9, 42, 28, 181, 0, 15, 42, 29, 181, 0, 18, 177]
abbrev dktX21_init_0 : List UInt8 := dkwX21_init_0 ++ []
theorem dksX21_init_0 : cX21_init.data.toList.drop 0 = dktX21_init_0 := by decide +kernel
theorem dX21_init_0 : decode cX21_init 0 = .ok (.aload_n 0, 1) := dk_42 (dk_at dksX21_init_0 0 rfl rfl)
theorem dX21_init_1 : decode cX21_init 1 = .ok (.invokespecial 3, 3) := dk_183 0 3 (dk_at dksX21_init_0 1 rfl rfl)
theorem dX21_init_4 : decode cX21_init 4 = .ok (.aload_n 0, 1) := dk_42 (dk_at dksX21_init_0 4 rfl rfl)
theorem dX21_init_5 : decode cX21_init 5 = .ok (.iload_n 1, 1) := dk_27 (dk_at dksX21_init_0 5 rfl rfl)
theorem dX21_init_6 : decode cX21_init 6 = .ok (.putfield 9, 3) := dk_181 0 9 (dk_at dksX21_init_0 6 rfl rfl)
theorem dX21_init_9 : decode cX21_init 9 = .ok (.aload_n 0, 1) := dk_42 (dk_at dksX21_init_0 9 rfl rfl)
theorem dX21_init_10 : decode cX21_init 10 = .ok (.iload_n 2, 1) := dk_28 (dk_at dksX21_init_0 10 rfl rfl)
theorem dX21_init_11 : decode cX21_init 11 = .ok (.putfield 15, 3) := dk_181 0 15 (dk_at dksX21_init_0 11 rfl rfl)
theorem dX21_init_14 : decode cX21_init 14 = .ok (.aload_n 0, 1) := dk_42 (dk_at dksX21_init_0 14 rfl rfl)
theorem dX21_init_15 : decode cX21_init 15 = .ok (.iload_n 3, 1) := dk_29 (dk_at dksX21_init_0 15 rfl rfl)
theorem dX21_init_16 : decode cX21_init 16 = .ok (.putfield 18, 3) := dk_181 0 18 (dk_at dksX21_init_0 16 rfl rfl)
theorem dX21_init_19 : decode cX21_init 19 = .ok (.return_, 1) := dk_177 (dk_at dksX21_init_0 19 rfl rfl)
abbrev cX21_is : ByteArray := prog_7_method_2_code
def yX21_is : MethodName := ⟨RX21, "is", "(LTwoHalves;I)Z"⟩
def dkwX21_is_7 : List UInt8 := [180, 0, 18, 164, 0, 7, 4, 167, 0, 4, 3, 172]
abbrev dktX21_is_7 : List UInt8 := dkwX21_is_7 ++ []
def dkwX21_is_6 : List UInt8 := [16, 61, 160, 0, 19, 29, 42, 180, 0, 18, 160, 0, 7, 4, 167, 0, 20, 3, 167, 0, 16, 29, 42]
abbrev dktX21_is_6 : List UInt8 := dkwX21_is_6 ++ dktX21_is_7
def dkwX21_is_5 : List UInt8 := [160, 0, 19, 29, 42, 180, 0, 18, 162, 0, 7, 4, 167, 0, 45, 3, 167, 0, 41, 42, 180, 0, 15]
abbrev dktX21_is_5 : List UInt8 := dkwX21_is_5 ++ dktX21_is_6
def dkwX21_is_4 : List UInt8 := [154, 0, 7, 4, 167, 0, 4, 3, 96, 62, 132, 5, 1, 167, 255, 183, 42, 180, 0, 15, 16, 60]
abbrev dktX21_is_4 : List UInt8 := dkwX21_is_4 ++ dktX21_is_5
def dkwX21_is_3 : List UInt8 := [159, 0, 25, 42, 180, 0, 9, 6, 160, 0, 21, 25, 4, 180, 0, 37, 21, 5, 50, 180, 0, 46]
abbrev dktX21_is_3 : List UInt8 := dkwX21_is_3 ++ dktX21_is_4
def dkwX21_is_2 : List UInt8 := [153, 0, 48, 42, 180, 0, 9, 5, 160, 0, 18, 25, 4, 180, 0, 37, 21, 5, 50, 180, 0, 41, 2]
abbrev dktX21_is_2 : List UInt8 := dkwX21_is_2 ++ dktX21_is_3
def dkwX21_is_1 : List UInt8 := [28, 50, 58, 4, 3, 54, 5, 21, 5, 25, 4, 180, 0, 34, 162, 0, 69, 29, 42, 180, 0, 9]
abbrev dktX21_is_1 : List UInt8 := dkwX21_is_1 ++ dktX21_is_2
def dkwX21_is_0 : List UInt8 := [42, 180, 0, 9, 4, 160, 0, 10, 43, 180, 0, 21, 167, 0, 4, 3, 62, 43, 180, 0, 24, 180, 0, 28]
abbrev dktX21_is_0 : List UInt8 := dkwX21_is_0 ++ dktX21_is_1
theorem dksX21_is_0 : cX21_is.data.toList.drop 0 = dktX21_is_0 := by decide +kernel
theorem dksX21_is_1 : cX21_is.data.toList.drop 24 = dktX21_is_1 := dk_seg dksX21_is_0 24 rfl rfl
theorem dksX21_is_2 : cX21_is.data.toList.drop 46 = dktX21_is_2 := dk_seg dksX21_is_1 22 rfl rfl
theorem dksX21_is_3 : cX21_is.data.toList.drop 69 = dktX21_is_3 := dk_seg dksX21_is_2 23 rfl rfl
theorem dksX21_is_4 : cX21_is.data.toList.drop 91 = dktX21_is_4 := dk_seg dksX21_is_3 22 rfl rfl
theorem dksX21_is_5 : cX21_is.data.toList.drop 113 = dktX21_is_5 := dk_seg dksX21_is_4 22 rfl rfl
theorem dksX21_is_6 : cX21_is.data.toList.drop 136 = dktX21_is_6 := dk_seg dksX21_is_5 23 rfl rfl
theorem dksX21_is_7 : cX21_is.data.toList.drop 159 = dktX21_is_7 := dk_seg dksX21_is_6 23 rfl rfl
theorem dX21_is_0 : decode cX21_is 0 = .ok (.aload_n 0, 1) := dk_42 (dk_at dksX21_is_0 0 rfl rfl)
theorem dX21_is_1 : decode cX21_is 1 = .ok (.getfield 9, 3) := dk_180 0 9 (dk_at dksX21_is_0 1 rfl rfl)
theorem dX21_is_4 : decode cX21_is 4 = .ok (.iconst 1, 1) := dk_4 (dk_at dksX21_is_0 4 rfl rfl)
theorem dX21_is_5 : decode cX21_is 5 = .ok (.if_icmp .ne 10, 3) := dk_160 0 10 (dk_at dksX21_is_0 5 rfl rfl)
theorem dX21_is_8 : decode cX21_is 8 = .ok (.aload_n 1, 1) := dk_43 (dk_at dksX21_is_0 8 rfl rfl)
theorem dX21_is_9 : decode cX21_is 9 = .ok (.getfield 21, 3) := dk_180 0 21 (dk_at dksX21_is_0 9 rfl rfl)
theorem dX21_is_12 : decode cX21_is 12 = .ok (.goto 4, 3) := dk_167 0 4 (dk_at dksX21_is_0 12 rfl rfl)
theorem dX21_is_15 : decode cX21_is 15 = .ok (.iconst 0, 1) := dk_3 (dk_at dksX21_is_0 15 rfl rfl)
theorem dX21_is_16 : decode cX21_is 16 = .ok (.istore_n 3, 1) := dk_62 (dk_at dksX21_is_0 16 rfl rfl)
theorem dX21_is_17 : decode cX21_is 17 = .ok (.aload_n 1, 1) := dk_43 (dk_at dksX21_is_0 17 rfl rfl)
theorem dX21_is_18 : decode cX21_is 18 = .ok (.getfield 24, 3) := dk_180 0 24 (dk_at dksX21_is_0 18 rfl rfl)
theorem dX21_is_21 : decode cX21_is 21 = .ok (.getfield 28, 3) := dk_180 0 28 (dk_at dksX21_is_0 21 rfl rfl)
theorem dX21_is_24 : decode cX21_is 24 = .ok (.iload_n 2, 1) := dk_28 (dk_at dksX21_is_1 0 rfl rfl)
theorem dX21_is_25 : decode cX21_is 25 = .ok (.aaload, 1) := dk_50 (dk_at dksX21_is_1 1 rfl rfl)
theorem dX21_is_26 : decode cX21_is 26 = .ok (.astore 4, 2) := dk_58 4 (dk_at dksX21_is_1 2 rfl rfl)
theorem dX21_is_28 : decode cX21_is 28 = .ok (.iconst 0, 1) := dk_3 (dk_at dksX21_is_1 4 rfl rfl)
theorem dX21_is_29 : decode cX21_is 29 = .ok (.istore 5, 2) := dk_54 5 (dk_at dksX21_is_1 5 rfl rfl)
theorem dX21_is_31 : decode cX21_is 31 = .ok (.iload 5, 2) := dk_21 5 (dk_at dksX21_is_1 7 rfl rfl)
theorem dX21_is_33 : decode cX21_is 33 = .ok (.aload 4, 2) := dk_25 4 (dk_at dksX21_is_1 9 rfl rfl)
theorem dX21_is_35 : decode cX21_is 35 = .ok (.getfield 34, 3) := dk_180 0 34 (dk_at dksX21_is_1 11 rfl rfl)
theorem dX21_is_38 : decode cX21_is 38 = .ok (.if_icmp .ge 69, 3) := dk_162 0 69 (dk_at dksX21_is_1 14 rfl rfl)
theorem dX21_is_41 : decode cX21_is 41 = .ok (.iload_n 3, 1) := dk_29 (dk_at dksX21_is_1 17 rfl rfl)
theorem dX21_is_42 : decode cX21_is 42 = .ok (.aload_n 0, 1) := dk_42 (dk_at dksX21_is_1 18 rfl rfl)
theorem dX21_is_43 : decode cX21_is 43 = .ok (.getfield 9, 3) := dk_180 0 9 (dk_at dksX21_is_1 19 rfl rfl)
theorem dX21_is_46 : decode cX21_is 46 = .ok (.ifCond .eq 48, 3) := dk_153 0 48 (dk_at dksX21_is_2 0 rfl rfl)
theorem dX21_is_49 : decode cX21_is 49 = .ok (.aload_n 0, 1) := dk_42 (dk_at dksX21_is_2 3 rfl rfl)
theorem dX21_is_50 : decode cX21_is 50 = .ok (.getfield 9, 3) := dk_180 0 9 (dk_at dksX21_is_2 4 rfl rfl)
theorem dX21_is_53 : decode cX21_is 53 = .ok (.iconst 2, 1) := dk_5 (dk_at dksX21_is_2 7 rfl rfl)
theorem dX21_is_54 : decode cX21_is 54 = .ok (.if_icmp .ne 18, 3) := dk_160 0 18 (dk_at dksX21_is_2 8 rfl rfl)
theorem dX21_is_57 : decode cX21_is 57 = .ok (.aload 4, 2) := dk_25 4 (dk_at dksX21_is_2 11 rfl rfl)
theorem dX21_is_59 : decode cX21_is 59 = .ok (.getfield 37, 3) := dk_180 0 37 (dk_at dksX21_is_2 13 rfl rfl)
theorem dX21_is_62 : decode cX21_is 62 = .ok (.iload 5, 2) := dk_21 5 (dk_at dksX21_is_2 16 rfl rfl)
theorem dX21_is_64 : decode cX21_is 64 = .ok (.aaload, 1) := dk_50 (dk_at dksX21_is_2 18 rfl rfl)
theorem dX21_is_65 : decode cX21_is 65 = .ok (.getfield 41, 3) := dk_180 0 41 (dk_at dksX21_is_2 19 rfl rfl)
theorem dX21_is_68 : decode cX21_is 68 = .ok (.iconst (-1), 1) := dk_2 (dk_at dksX21_is_2 22 rfl rfl)
theorem dX21_is_69 : decode cX21_is 69 = .ok (.if_icmp .eq 25, 3) := dk_159 0 25 (dk_at dksX21_is_3 0 rfl rfl)
theorem dX21_is_72 : decode cX21_is 72 = .ok (.aload_n 0, 1) := dk_42 (dk_at dksX21_is_3 3 rfl rfl)
theorem dX21_is_73 : decode cX21_is 73 = .ok (.getfield 9, 3) := dk_180 0 9 (dk_at dksX21_is_3 4 rfl rfl)
theorem dX21_is_76 : decode cX21_is 76 = .ok (.iconst 3, 1) := dk_6 (dk_at dksX21_is_3 7 rfl rfl)
theorem dX21_is_77 : decode cX21_is 77 = .ok (.if_icmp .ne 21, 3) := dk_160 0 21 (dk_at dksX21_is_3 8 rfl rfl)
theorem dX21_is_80 : decode cX21_is 80 = .ok (.aload 4, 2) := dk_25 4 (dk_at dksX21_is_3 11 rfl rfl)
theorem dX21_is_82 : decode cX21_is 82 = .ok (.getfield 37, 3) := dk_180 0 37 (dk_at dksX21_is_3 13 rfl rfl)
theorem dX21_is_85 : decode cX21_is 85 = .ok (.iload 5, 2) := dk_21 5 (dk_at dksX21_is_3 16 rfl rfl)
theorem dX21_is_87 : decode cX21_is 87 = .ok (.aaload, 1) := dk_50 (dk_at dksX21_is_3 18 rfl rfl)
theorem dX21_is_88 : decode cX21_is 88 = .ok (.getfield 46, 3) := dk_180 0 46 (dk_at dksX21_is_3 19 rfl rfl)
theorem dX21_is_91 : decode cX21_is 91 = .ok (.ifCond .ne 7, 3) := dk_154 0 7 (dk_at dksX21_is_4 0 rfl rfl)
theorem dX21_is_94 : decode cX21_is 94 = .ok (.iconst 1, 1) := dk_4 (dk_at dksX21_is_4 3 rfl rfl)
theorem dX21_is_95 : decode cX21_is 95 = .ok (.goto 4, 3) := dk_167 0 4 (dk_at dksX21_is_4 4 rfl rfl)
theorem dX21_is_98 : decode cX21_is 98 = .ok (.iconst 0, 1) := dk_3 (dk_at dksX21_is_4 7 rfl rfl)
theorem dX21_is_99 : decode cX21_is 99 = .ok (.iadd, 1) := dk_96 (dk_at dksX21_is_4 8 rfl rfl)
theorem dX21_is_100 : decode cX21_is 100 = .ok (.istore_n 3, 1) := dk_62 (dk_at dksX21_is_4 9 rfl rfl)
theorem dX21_is_101 : decode cX21_is 101 = .ok (.iinc 5 1, 3) := dk_132 5 1 (dk_at dksX21_is_4 10 rfl rfl)
theorem dX21_is_104 : decode cX21_is 104 = .ok (.goto (-73), 3) := dk_167 255 183 (dk_at dksX21_is_4 13 rfl rfl)
theorem dX21_is_107 : decode cX21_is 107 = .ok (.aload_n 0, 1) := dk_42 (dk_at dksX21_is_4 16 rfl rfl)
theorem dX21_is_108 : decode cX21_is 108 = .ok (.getfield 15, 3) := dk_180 0 15 (dk_at dksX21_is_4 17 rfl rfl)
theorem dX21_is_111 : decode cX21_is 111 = .ok (.bipush 60, 2) := dk_16 60 (dk_at dksX21_is_4 20 rfl rfl)
theorem dX21_is_113 : decode cX21_is 113 = .ok (.if_icmp .ne 19, 3) := dk_160 0 19 (dk_at dksX21_is_5 0 rfl rfl)
theorem dX21_is_116 : decode cX21_is 116 = .ok (.iload_n 3, 1) := dk_29 (dk_at dksX21_is_5 3 rfl rfl)
theorem dX21_is_117 : decode cX21_is 117 = .ok (.aload_n 0, 1) := dk_42 (dk_at dksX21_is_5 4 rfl rfl)
theorem dX21_is_118 : decode cX21_is 118 = .ok (.getfield 18, 3) := dk_180 0 18 (dk_at dksX21_is_5 5 rfl rfl)
theorem dX21_is_121 : decode cX21_is 121 = .ok (.if_icmp .ge 7, 3) := dk_162 0 7 (dk_at dksX21_is_5 8 rfl rfl)
theorem dX21_is_124 : decode cX21_is 124 = .ok (.iconst 1, 1) := dk_4 (dk_at dksX21_is_5 11 rfl rfl)
theorem dX21_is_125 : decode cX21_is 125 = .ok (.goto 45, 3) := dk_167 0 45 (dk_at dksX21_is_5 12 rfl rfl)
theorem dX21_is_128 : decode cX21_is 128 = .ok (.iconst 0, 1) := dk_3 (dk_at dksX21_is_5 15 rfl rfl)
theorem dX21_is_129 : decode cX21_is 129 = .ok (.goto 41, 3) := dk_167 0 41 (dk_at dksX21_is_5 16 rfl rfl)
theorem dX21_is_132 : decode cX21_is 132 = .ok (.aload_n 0, 1) := dk_42 (dk_at dksX21_is_5 19 rfl rfl)
theorem dX21_is_133 : decode cX21_is 133 = .ok (.getfield 15, 3) := dk_180 0 15 (dk_at dksX21_is_5 20 rfl rfl)
theorem dX21_is_136 : decode cX21_is 136 = .ok (.bipush 61, 2) := dk_16 61 (dk_at dksX21_is_6 0 rfl rfl)
theorem dX21_is_138 : decode cX21_is 138 = .ok (.if_icmp .ne 19, 3) := dk_160 0 19 (dk_at dksX21_is_6 2 rfl rfl)
theorem dX21_is_141 : decode cX21_is 141 = .ok (.iload_n 3, 1) := dk_29 (dk_at dksX21_is_6 5 rfl rfl)
theorem dX21_is_142 : decode cX21_is 142 = .ok (.aload_n 0, 1) := dk_42 (dk_at dksX21_is_6 6 rfl rfl)
theorem dX21_is_143 : decode cX21_is 143 = .ok (.getfield 18, 3) := dk_180 0 18 (dk_at dksX21_is_6 7 rfl rfl)
theorem dX21_is_146 : decode cX21_is 146 = .ok (.if_icmp .ne 7, 3) := dk_160 0 7 (dk_at dksX21_is_6 10 rfl rfl)
theorem dX21_is_149 : decode cX21_is 149 = .ok (.iconst 1, 1) := dk_4 (dk_at dksX21_is_6 13 rfl rfl)
theorem dX21_is_150 : decode cX21_is 150 = .ok (.goto 20, 3) := dk_167 0 20 (dk_at dksX21_is_6 14 rfl rfl)
theorem dX21_is_153 : decode cX21_is 153 = .ok (.iconst 0, 1) := dk_3 (dk_at dksX21_is_6 17 rfl rfl)
theorem dX21_is_154 : decode cX21_is 154 = .ok (.goto 16, 3) := dk_167 0 16 (dk_at dksX21_is_6 18 rfl rfl)
theorem dX21_is_157 : decode cX21_is 157 = .ok (.iload_n 3, 1) := dk_29 (dk_at dksX21_is_6 21 rfl rfl)
theorem dX21_is_158 : decode cX21_is 158 = .ok (.aload_n 0, 1) := dk_42 (dk_at dksX21_is_6 22 rfl rfl)
theorem dX21_is_159 : decode cX21_is 159 = .ok (.getfield 18, 3) := dk_180 0 18 (dk_at dksX21_is_7 0 rfl rfl)
theorem dX21_is_162 : decode cX21_is 162 = .ok (.if_icmp .le 7, 3) := dk_164 0 7 (dk_at dksX21_is_7 3 rfl rfl)
theorem dX21_is_165 : decode cX21_is 165 = .ok (.iconst 1, 1) := dk_4 (dk_at dksX21_is_7 6 rfl rfl)
theorem dX21_is_166 : decode cX21_is 166 = .ok (.goto 4, 3) := dk_167 0 4 (dk_at dksX21_is_7 7 rfl rfl)
theorem dX21_is_169 : decode cX21_is 169 = .ok (.iconst 0, 1) := dk_3 (dk_at dksX21_is_7 10 rfl rfl)
theorem dX21_is_170 : decode cX21_is 170 = .ok (.ireturn, 1) := dk_172 (dk_at dksX21_is_7 11 rfl rfl)
theorem q140 : (Jvm.Cond.initialized "TwoHalves$Counts") ∈ lw_all := lw_g (lw_at lw_m1 32 rfl) rfl
theorem q370 : (Jvm.Cond.fieldLinkNest "TwoHalves$Counts" (37 : Nat) "TwoHalves$Book" "rows" "[LTwoHalves$Showing;" "TwoHalves") ∈ lw_tbl := lw_at lw_m2 22 rfl
theorem q373 : (Jvm.Cond.fieldLinkNest "TwoHalves$Counts" (34 : Nat) "TwoHalves$Book" "many" "I" "TwoHalves") ∈ lw_tbl := lw_at lw_m2 25 rfl
theorem q393 : (Jvm.Cond.fieldLinkNest "TwoHalves$Counts" (28 : Nat) "TwoHalves$State" "books" "[LTwoHalves$Book;" "TwoHalves") ∈ lw_tbl := lw_at lw_m2 45 rfl
theorem q529 : (Jvm.Cond.fieldLinkNest "TwoHalves$Counts" (24 : Nat) "TwoHalves" "now" "LTwoHalves$State;" "TwoHalves") ∈ lw_tbl := lw_at lw_m2 181 rfl
theorem q544 : (Jvm.Cond.fieldLinkNest "TwoHalves$Counts" (21 : Nat) "TwoHalves" "fitMany" "I" "TwoHalves") ∈ lw_tbl := lw_at lw_m2 196 rfl
theorem q953 : (Jvm.Cond.fieldLinkNest "TwoHalves$Counts" (46 : Nat) "TwoHalves$Showing" "asked" "I" "TwoHalves") ∈ lw_tbl := lw_at lw_m4 125 rfl
theorem q958 : (Jvm.Cond.fieldLinkNest "TwoHalves$Counts" (41 : Nat) "TwoHalves$Showing" "told" "I" "TwoHalves") ∈ lw_tbl := lw_at lw_m4 130 rfl
theorem q1238 : (Jvm.Cond.instantiable "TwoHalves$Counts" (3 : Nat)) ∈ lw_all := lw_g (lw_at lw_m5 170 rfl) rfl
theorem q1243 : (Jvm.Cond.instanceMethod ({ cls := "TwoHalves$Counts", name := "<init>", desc := "(III)V" } : Jvm.MethodName)) ∈ lw_all := lw_g (lw_at lw_m5 175 rfl) rfl
theorem q1244 : (Jvm.Cond.code ({ cls := "TwoHalves$Counts", name := "<init>", desc := "(III)V" } : Jvm.MethodName) prog_7_method_1_code (4 : Nat) (Option.none : Option Jvm.ClassFile.FieldType)) ∈ lw_all := lw_g (lw_at lw_m5 176 rfl) rfl
theorem q1245 : (Jvm.Cond.methodLinkNest "TwoHalves$Counts" (3 : Nat) ({ cls := "TwoHalves$Cond", name := "<init>", desc := "()V" } : Jvm.MethodName) "TwoHalves") ∈ lw_tbl := lw_at lw_m5 177 rfl
theorem q1246 : (Jvm.Cond.fieldLink "TwoHalves$Counts" (9 : Nat) "TwoHalves$Counts" "what" "I") ∈ lw_all := lw_g (lw_at lw_m5 178 rfl) rfl
theorem q1247 : (Jvm.Cond.fieldLink "TwoHalves$Counts" (15 : Nat) "TwoHalves$Counts" "sign" "I") ∈ lw_all := lw_g (lw_at lw_m5 179 rfl) rfl
theorem q1248 : (Jvm.Cond.fieldLink "TwoHalves$Counts" (18 : Nat) "TwoHalves$Counts" "many" "I") ∈ lw_all := lw_g (lw_at lw_m5 180 rfl) rfl
theorem q1249 : (Jvm.Cond.laysFinal "TwoHalves$Counts" "TwoHalves$Counts" "what" "I") ∈ lw_all := lw_g (lw_at lw_m5 181 rfl) rfl
theorem q1250 : (Jvm.Cond.soleField "TwoHalves$Counts" "what") ∈ lw_all := lw_g (lw_at lw_m5 182 rfl) rfl
theorem q1251 : (Jvm.Cond.laysFinal "TwoHalves$Counts" "TwoHalves$Counts" "sign" "I") ∈ lw_all := lw_g (lw_at lw_m5 183 rfl) rfl
theorem q1252 : (Jvm.Cond.soleField "TwoHalves$Counts" "sign") ∈ lw_all := lw_g (lw_at lw_m5 184 rfl) rfl
theorem q1253 : (Jvm.Cond.laysFinal "TwoHalves$Counts" "TwoHalves$Counts" "many" "I") ∈ lw_all := lw_g (lw_at lw_m5 185 rfl) rfl
theorem q1254 : (Jvm.Cond.soleField "TwoHalves$Counts" "many") ∈ lw_all := lw_g (lw_at lw_m5 186 rfl) rfl
theorem q1255 : (Jvm.Cond.superclass "TwoHalves$Counts" "TwoHalves$Cond") ∈ lw_all := lw_g (lw_at lw_m5 187 rfl) rfl
theorem q1298 : (Jvm.Cond.instanceMethod ({ cls := "TwoHalves$Counts", name := "is", desc := "(LTwoHalves;I)Z" } : Jvm.MethodName)) ∈ lw_all := lw_g (lw_at lw_m5 230 rfl) rfl
theorem q1299 : (Jvm.Cond.code ({ cls := "TwoHalves$Counts", name := "is", desc := "(LTwoHalves;I)Z" } : Jvm.MethodName) prog_7_method_2_code (6 : Nat) (Option.some Jvm.ClassFile.FieldType.boolean)) ∈ lw_all := lw_g (lw_at lw_m5 231 rfl) rfl
theorem q1307 : (Jvm.Cond.selects "TwoHalves$Counts" ({ cls := "TwoHalves$Cond", name := "is", desc := "(LTwoHalves;I)Z" } : Jvm.MethodName) ({ cls := "TwoHalves$Counts", name := "is", desc := "(LTwoHalves;I)Z" } : Jvm.MethodName)) ∈ lw_all := lw_g (lw_at lw_m5 239 rfl) rfl
theorem q1987 : (Jvm.Cond.castable "TwoHalves$Counts" "java/lang/Object") ∈ lw_tbl := lw_at lw_m8 199 rfl
theorem in_X21 : ∀ w ∈ wsX210, w ∈ lw_all := lw_in wsX210 [1249, 1251, 1253] (by decide +kernel) (by decide +kernel)
/-! TwoHalves$Both -/
set_option maxRecDepth 100000
def RX22 : String := "TwoHalves$Both"
def TX22 : u_T := fun k => match k with
  | 0 => ("TwoHalves$Both", "a", "LTwoHalves$Cond;", true)
  | _ => ("TwoHalves$Both", "b", "LTwoHalves$Cond;", true)
def tyX22 : Nat → FieldType := fun k => match k with
  | 0 => .object "TwoHalves$Cond"
  | _ => .object "TwoHalves$Cond"
abbrev wsX220 : List Cond := u_ws RX22 TX22 2
theorem nmX22 : ∀ a, a < 2 → ∀ b, b < 2 → a ≠ b → (TX22 a).2.1 ≠ (TX22 b).2.1 := by decide +kernel
theorem tyX22_ok : ∀ k, k < 2 → parseFieldDescriptor (TX22 k).2.2.1 = some (tyX22 k) := by decide +kernel
abbrev cX22_init : ByteArray := prog_5_method_1_code
def yX22_init : MethodName := ⟨RX22, "<init>", "(LTwoHalves$Cond;LTwoHalves$Cond;)V"⟩
def dkwX22_init_0 : List UInt8 := [42, 183, 0, 1, 42, 43, 181, 0, 7, 42, 44, 181, 0, 13, 177]
abbrev dktX22_init_0 : List UInt8 := dkwX22_init_0 ++ []
theorem dksX22_init_0 : cX22_init.data.toList.drop 0 = dktX22_init_0 := by decide +kernel
theorem dX22_init_0 : decode cX22_init 0 = .ok (.aload_n 0, 1) := dk_42 (dk_at dksX22_init_0 0 rfl rfl)
theorem dX22_init_1 : decode cX22_init 1 = .ok (.invokespecial 1, 3) := dk_183 0 1 (dk_at dksX22_init_0 1 rfl rfl)
theorem dX22_init_4 : decode cX22_init 4 = .ok (.aload_n 0, 1) := dk_42 (dk_at dksX22_init_0 4 rfl rfl)
theorem dX22_init_5 : decode cX22_init 5 = .ok (.aload_n 1, 1) := dk_43 (dk_at dksX22_init_0 5 rfl rfl)
theorem dX22_init_6 : decode cX22_init 6 = .ok (.putfield 7, 3) := dk_181 0 7 (dk_at dksX22_init_0 6 rfl rfl)
theorem dX22_init_9 : decode cX22_init 9 = .ok (.aload_n 0, 1) := dk_42 (dk_at dksX22_init_0 9 rfl rfl)
theorem dX22_init_10 : decode cX22_init 10 = .ok (.aload_n 2, 1) := dk_44 (dk_at dksX22_init_0 10 rfl rfl)
theorem dX22_init_11 : decode cX22_init 11 = .ok (.putfield 13, 3) := dk_181 0 13 (dk_at dksX22_init_0 11 rfl rfl)
theorem dX22_init_14 : decode cX22_init 14 = .ok (.return_, 1) := dk_177 (dk_at dksX22_init_0 14 rfl rfl)
abbrev cX22_is : ByteArray := prog_5_method_2_code
def yX22_is : MethodName := ⟨RX22, "is", "(LTwoHalves;I)Z"⟩
def dkwX22_is_1 : List UInt8 := [4, 167, 0, 4, 3, 172]
abbrev dktX22_is_1 : List UInt8 := dkwX22_is_1 ++ []
def dkwX22_is_0 : List UInt8 := [42, 180, 0, 7, 43, 28, 182, 0, 16, 153, 0, 19, 42, 180, 0, 13, 43, 28, 182, 0, 16, 153, 0, 7]
abbrev dktX22_is_0 : List UInt8 := dkwX22_is_0 ++ dktX22_is_1
theorem dksX22_is_0 : cX22_is.data.toList.drop 0 = dktX22_is_0 := by decide +kernel
theorem dksX22_is_1 : cX22_is.data.toList.drop 24 = dktX22_is_1 := dk_seg dksX22_is_0 24 rfl rfl
theorem dX22_is_0 : decode cX22_is 0 = .ok (.aload_n 0, 1) := dk_42 (dk_at dksX22_is_0 0 rfl rfl)
theorem dX22_is_1 : decode cX22_is 1 = .ok (.getfield 7, 3) := dk_180 0 7 (dk_at dksX22_is_0 1 rfl rfl)
theorem dX22_is_4 : decode cX22_is 4 = .ok (.aload_n 1, 1) := dk_43 (dk_at dksX22_is_0 4 rfl rfl)
theorem dX22_is_5 : decode cX22_is 5 = .ok (.iload_n 2, 1) := dk_28 (dk_at dksX22_is_0 5 rfl rfl)
theorem dX22_is_6 : decode cX22_is 6 = .ok (.invokevirtual 16, 3) := dk_182 0 16 (dk_at dksX22_is_0 6 rfl rfl)
theorem dX22_is_9 : decode cX22_is 9 = .ok (.ifCond .eq 19, 3) := dk_153 0 19 (dk_at dksX22_is_0 9 rfl rfl)
theorem dX22_is_12 : decode cX22_is 12 = .ok (.aload_n 0, 1) := dk_42 (dk_at dksX22_is_0 12 rfl rfl)
theorem dX22_is_13 : decode cX22_is 13 = .ok (.getfield 13, 3) := dk_180 0 13 (dk_at dksX22_is_0 13 rfl rfl)
theorem dX22_is_16 : decode cX22_is 16 = .ok (.aload_n 1, 1) := dk_43 (dk_at dksX22_is_0 16 rfl rfl)
theorem dX22_is_17 : decode cX22_is 17 = .ok (.iload_n 2, 1) := dk_28 (dk_at dksX22_is_0 17 rfl rfl)
theorem dX22_is_18 : decode cX22_is 18 = .ok (.invokevirtual 16, 3) := dk_182 0 16 (dk_at dksX22_is_0 18 rfl rfl)
theorem dX22_is_21 : decode cX22_is 21 = .ok (.ifCond .eq 7, 3) := dk_153 0 7 (dk_at dksX22_is_0 21 rfl rfl)
theorem dX22_is_24 : decode cX22_is 24 = .ok (.iconst 1, 1) := dk_4 (dk_at dksX22_is_1 0 rfl rfl)
theorem dX22_is_25 : decode cX22_is 25 = .ok (.goto 4, 3) := dk_167 0 4 (dk_at dksX22_is_1 1 rfl rfl)
theorem dX22_is_28 : decode cX22_is 28 = .ok (.iconst 0, 1) := dk_3 (dk_at dksX22_is_1 4 rfl rfl)
theorem dX22_is_29 : decode cX22_is 29 = .ok (.ireturn, 1) := dk_172 (dk_at dksX22_is_1 5 rfl rfl)
theorem q141 : (Jvm.Cond.initialized "TwoHalves$Both") ∈ lw_all := lw_g (lw_at lw_m1 33 rfl) rfl
theorem q1258 : (Jvm.Cond.instantiable "TwoHalves$Both" (2 : Nat)) ∈ lw_all := lw_g (lw_at lw_m5 190 rfl) rfl
theorem q1260 : (Jvm.Cond.instanceMethod ({ cls := "TwoHalves$Both", name := "<init>", desc := "(LTwoHalves$Cond;LTwoHalves$Cond;)V" } : Jvm.MethodName)) ∈ lw_all := lw_g (lw_at lw_m5 192 rfl) rfl
theorem q1261 : (Jvm.Cond.code ({ cls := "TwoHalves$Both", name := "<init>", desc := "(LTwoHalves$Cond;LTwoHalves$Cond;)V" } : Jvm.MethodName) prog_5_method_1_code (3 : Nat) (Option.none : Option Jvm.ClassFile.FieldType)) ∈ lw_all := lw_g (lw_at lw_m5 193 rfl) rfl
theorem q1262 : (Jvm.Cond.methodLinkNest "TwoHalves$Both" (1 : Nat) ({ cls := "TwoHalves$Cond", name := "<init>", desc := "()V" } : Jvm.MethodName) "TwoHalves") ∈ lw_tbl := lw_at lw_m5 194 rfl
theorem q1263 : (Jvm.Cond.fieldLink "TwoHalves$Both" (7 : Nat) "TwoHalves$Both" "a" "LTwoHalves$Cond;") ∈ lw_all := lw_g (lw_at lw_m5 195 rfl) rfl
theorem q1264 : (Jvm.Cond.fieldLink "TwoHalves$Both" (13 : Nat) "TwoHalves$Both" "b" "LTwoHalves$Cond;") ∈ lw_all := lw_g (lw_at lw_m5 196 rfl) rfl
theorem q1265 : (Jvm.Cond.laysFinal "TwoHalves$Both" "TwoHalves$Both" "a" "LTwoHalves$Cond;") ∈ lw_all := lw_g (lw_at lw_m5 197 rfl) rfl
theorem q1266 : (Jvm.Cond.soleField "TwoHalves$Both" "a") ∈ lw_all := lw_g (lw_at lw_m5 198 rfl) rfl
theorem q1267 : (Jvm.Cond.laysFinal "TwoHalves$Both" "TwoHalves$Both" "b" "LTwoHalves$Cond;") ∈ lw_all := lw_g (lw_at lw_m5 199 rfl) rfl
theorem q1268 : (Jvm.Cond.soleField "TwoHalves$Both" "b") ∈ lw_all := lw_g (lw_at lw_m5 200 rfl) rfl
theorem q1269 : (Jvm.Cond.superclass "TwoHalves$Both" "TwoHalves$Cond") ∈ lw_all := lw_g (lw_at lw_m5 201 rfl) rfl
theorem q1295 : (Jvm.Cond.instanceMethod ({ cls := "TwoHalves$Both", name := "is", desc := "(LTwoHalves;I)Z" } : Jvm.MethodName)) ∈ lw_all := lw_g (lw_at lw_m5 227 rfl) rfl
theorem q1296 : (Jvm.Cond.code ({ cls := "TwoHalves$Both", name := "is", desc := "(LTwoHalves;I)Z" } : Jvm.MethodName) prog_5_method_2_code (3 : Nat) (Option.some Jvm.ClassFile.FieldType.boolean)) ∈ lw_all := lw_g (lw_at lw_m5 228 rfl) rfl
theorem q1297 : (Jvm.Cond.methodLink "TwoHalves$Both" (16 : Nat) ({ cls := "TwoHalves$Cond", name := "is", desc := "(LTwoHalves;I)Z" } : Jvm.MethodName)) ∈ lw_all := lw_g (lw_at lw_m5 229 rfl) rfl
theorem q1306 : (Jvm.Cond.selects "TwoHalves$Both" ({ cls := "TwoHalves$Cond", name := "is", desc := "(LTwoHalves;I)Z" } : Jvm.MethodName) ({ cls := "TwoHalves$Both", name := "is", desc := "(LTwoHalves;I)Z" } : Jvm.MethodName)) ∈ lw_all := lw_g (lw_at lw_m5 238 rfl) rfl
theorem q1988 : (Jvm.Cond.castable "TwoHalves$Both" "java/lang/Object") ∈ lw_tbl := lw_at lw_m8 200 rfl
theorem in_X22 : ∀ w ∈ wsX220, w ∈ lw_all := lw_in wsX220 [1265, 1267] (by decide +kernel) (by decide +kernel)
/-! TwoHalves$Any -/
set_option maxRecDepth 100000
def RX23 : String := "TwoHalves$Any"
def TX23 : u_T := fun k => match k with
  | 0 => ("TwoHalves$Any", "a", "LTwoHalves$Cond;", true)
  | _ => ("TwoHalves$Any", "b", "LTwoHalves$Cond;", true)
def tyX23 : Nat → FieldType := fun k => match k with
  | 0 => .object "TwoHalves$Cond"
  | _ => .object "TwoHalves$Cond"
abbrev wsX230 : List Cond := u_ws RX23 TX23 2
theorem nmX23 : ∀ a, a < 2 → ∀ b, b < 2 → a ≠ b → (TX23 a).2.1 ≠ (TX23 b).2.1 := by decide +kernel
theorem tyX23_ok : ∀ k, k < 2 → parseFieldDescriptor (TX23 k).2.2.1 = some (tyX23 k) := by decide +kernel
abbrev cX23_init : ByteArray := prog_2_method_1_code
def yX23_init : MethodName := ⟨RX23, "<init>", "(LTwoHalves$Cond;LTwoHalves$Cond;)V"⟩
def dkwX23_init_0 : List UInt8 := [42, 183, 0, 1, 42, 43, 181, 0, 7, 42, 44, 181, 0, 13, 177]
abbrev dktX23_init_0 : List UInt8 := dkwX23_init_0 ++ []
theorem dksX23_init_0 : cX23_init.data.toList.drop 0 = dktX23_init_0 := by decide +kernel
theorem dX23_init_0 : decode cX23_init 0 = .ok (.aload_n 0, 1) := dk_42 (dk_at dksX23_init_0 0 rfl rfl)
theorem dX23_init_1 : decode cX23_init 1 = .ok (.invokespecial 1, 3) := dk_183 0 1 (dk_at dksX23_init_0 1 rfl rfl)
theorem dX23_init_4 : decode cX23_init 4 = .ok (.aload_n 0, 1) := dk_42 (dk_at dksX23_init_0 4 rfl rfl)
theorem dX23_init_5 : decode cX23_init 5 = .ok (.aload_n 1, 1) := dk_43 (dk_at dksX23_init_0 5 rfl rfl)
theorem dX23_init_6 : decode cX23_init 6 = .ok (.putfield 7, 3) := dk_181 0 7 (dk_at dksX23_init_0 6 rfl rfl)
theorem dX23_init_9 : decode cX23_init 9 = .ok (.aload_n 0, 1) := dk_42 (dk_at dksX23_init_0 9 rfl rfl)
theorem dX23_init_10 : decode cX23_init 10 = .ok (.aload_n 2, 1) := dk_44 (dk_at dksX23_init_0 10 rfl rfl)
theorem dX23_init_11 : decode cX23_init 11 = .ok (.putfield 13, 3) := dk_181 0 13 (dk_at dksX23_init_0 11 rfl rfl)
theorem dX23_init_14 : decode cX23_init 14 = .ok (.return_, 1) := dk_177 (dk_at dksX23_init_0 14 rfl rfl)
abbrev cX23_is : ByteArray := prog_2_method_2_code
def yX23_is : MethodName := ⟨RX23, "is", "(LTwoHalves;I)Z"⟩
def dkwX23_is_1 : List UInt8 := [4, 167, 0, 4, 3, 172]
abbrev dktX23_is_1 : List UInt8 := dkwX23_is_1 ++ []
def dkwX23_is_0 : List UInt8 := [42, 180, 0, 7, 43, 28, 182, 0, 16, 154, 0, 15, 42, 180, 0, 13, 43, 28, 182, 0, 16, 153, 0, 7]
abbrev dktX23_is_0 : List UInt8 := dkwX23_is_0 ++ dktX23_is_1
theorem dksX23_is_0 : cX23_is.data.toList.drop 0 = dktX23_is_0 := by decide +kernel
theorem dksX23_is_1 : cX23_is.data.toList.drop 24 = dktX23_is_1 := dk_seg dksX23_is_0 24 rfl rfl
theorem dX23_is_0 : decode cX23_is 0 = .ok (.aload_n 0, 1) := dk_42 (dk_at dksX23_is_0 0 rfl rfl)
theorem dX23_is_1 : decode cX23_is 1 = .ok (.getfield 7, 3) := dk_180 0 7 (dk_at dksX23_is_0 1 rfl rfl)
theorem dX23_is_4 : decode cX23_is 4 = .ok (.aload_n 1, 1) := dk_43 (dk_at dksX23_is_0 4 rfl rfl)
theorem dX23_is_5 : decode cX23_is 5 = .ok (.iload_n 2, 1) := dk_28 (dk_at dksX23_is_0 5 rfl rfl)
theorem dX23_is_6 : decode cX23_is 6 = .ok (.invokevirtual 16, 3) := dk_182 0 16 (dk_at dksX23_is_0 6 rfl rfl)
theorem dX23_is_9 : decode cX23_is 9 = .ok (.ifCond .ne 15, 3) := dk_154 0 15 (dk_at dksX23_is_0 9 rfl rfl)
theorem dX23_is_12 : decode cX23_is 12 = .ok (.aload_n 0, 1) := dk_42 (dk_at dksX23_is_0 12 rfl rfl)
theorem dX23_is_13 : decode cX23_is 13 = .ok (.getfield 13, 3) := dk_180 0 13 (dk_at dksX23_is_0 13 rfl rfl)
theorem dX23_is_16 : decode cX23_is 16 = .ok (.aload_n 1, 1) := dk_43 (dk_at dksX23_is_0 16 rfl rfl)
theorem dX23_is_17 : decode cX23_is 17 = .ok (.iload_n 2, 1) := dk_28 (dk_at dksX23_is_0 17 rfl rfl)
theorem dX23_is_18 : decode cX23_is 18 = .ok (.invokevirtual 16, 3) := dk_182 0 16 (dk_at dksX23_is_0 18 rfl rfl)
theorem dX23_is_21 : decode cX23_is 21 = .ok (.ifCond .eq 7, 3) := dk_153 0 7 (dk_at dksX23_is_0 21 rfl rfl)
theorem dX23_is_24 : decode cX23_is 24 = .ok (.iconst 1, 1) := dk_4 (dk_at dksX23_is_1 0 rfl rfl)
theorem dX23_is_25 : decode cX23_is 25 = .ok (.goto 4, 3) := dk_167 0 4 (dk_at dksX23_is_1 1 rfl rfl)
theorem dX23_is_28 : decode cX23_is 28 = .ok (.iconst 0, 1) := dk_3 (dk_at dksX23_is_1 4 rfl rfl)
theorem dX23_is_29 : decode cX23_is 29 = .ok (.ireturn, 1) := dk_172 (dk_at dksX23_is_1 5 rfl rfl)
theorem q142 : (Jvm.Cond.initialized "TwoHalves$Any") ∈ lw_all := lw_g (lw_at lw_m1 34 rfl) rfl
theorem q1272 : (Jvm.Cond.instantiable "TwoHalves$Any" (2 : Nat)) ∈ lw_all := lw_g (lw_at lw_m5 204 rfl) rfl
theorem q1274 : (Jvm.Cond.instanceMethod ({ cls := "TwoHalves$Any", name := "<init>", desc := "(LTwoHalves$Cond;LTwoHalves$Cond;)V" } : Jvm.MethodName)) ∈ lw_all := lw_g (lw_at lw_m5 206 rfl) rfl
theorem q1275 : (Jvm.Cond.code ({ cls := "TwoHalves$Any", name := "<init>", desc := "(LTwoHalves$Cond;LTwoHalves$Cond;)V" } : Jvm.MethodName) prog_2_method_1_code (3 : Nat) (Option.none : Option Jvm.ClassFile.FieldType)) ∈ lw_all := lw_g (lw_at lw_m5 207 rfl) rfl
theorem q1276 : (Jvm.Cond.methodLinkNest "TwoHalves$Any" (1 : Nat) ({ cls := "TwoHalves$Cond", name := "<init>", desc := "()V" } : Jvm.MethodName) "TwoHalves") ∈ lw_tbl := lw_at lw_m5 208 rfl
theorem q1277 : (Jvm.Cond.fieldLink "TwoHalves$Any" (7 : Nat) "TwoHalves$Any" "a" "LTwoHalves$Cond;") ∈ lw_all := lw_g (lw_at lw_m5 209 rfl) rfl
theorem q1278 : (Jvm.Cond.fieldLink "TwoHalves$Any" (13 : Nat) "TwoHalves$Any" "b" "LTwoHalves$Cond;") ∈ lw_all := lw_g (lw_at lw_m5 210 rfl) rfl
theorem q1279 : (Jvm.Cond.laysFinal "TwoHalves$Any" "TwoHalves$Any" "a" "LTwoHalves$Cond;") ∈ lw_all := lw_g (lw_at lw_m5 211 rfl) rfl
theorem q1280 : (Jvm.Cond.soleField "TwoHalves$Any" "a") ∈ lw_all := lw_g (lw_at lw_m5 212 rfl) rfl
theorem q1281 : (Jvm.Cond.laysFinal "TwoHalves$Any" "TwoHalves$Any" "b" "LTwoHalves$Cond;") ∈ lw_all := lw_g (lw_at lw_m5 213 rfl) rfl
theorem q1282 : (Jvm.Cond.soleField "TwoHalves$Any" "b") ∈ lw_all := lw_g (lw_at lw_m5 214 rfl) rfl
theorem q1283 : (Jvm.Cond.superclass "TwoHalves$Any" "TwoHalves$Cond") ∈ lw_all := lw_g (lw_at lw_m5 215 rfl) rfl
theorem q1291 : (Jvm.Cond.selects "TwoHalves$Any" ({ cls := "TwoHalves$Cond", name := "is", desc := "(LTwoHalves;I)Z" } : Jvm.MethodName) ({ cls := "TwoHalves$Any", name := "is", desc := "(LTwoHalves;I)Z" } : Jvm.MethodName)) ∈ lw_all := lw_g (lw_at lw_m5 223 rfl) rfl
theorem q1292 : (Jvm.Cond.instanceMethod ({ cls := "TwoHalves$Any", name := "is", desc := "(LTwoHalves;I)Z" } : Jvm.MethodName)) ∈ lw_all := lw_g (lw_at lw_m5 224 rfl) rfl
theorem q1293 : (Jvm.Cond.code ({ cls := "TwoHalves$Any", name := "is", desc := "(LTwoHalves;I)Z" } : Jvm.MethodName) prog_2_method_2_code (3 : Nat) (Option.some Jvm.ClassFile.FieldType.boolean)) ∈ lw_all := lw_g (lw_at lw_m5 225 rfl) rfl
theorem q1294 : (Jvm.Cond.methodLink "TwoHalves$Any" (16 : Nat) ({ cls := "TwoHalves$Cond", name := "is", desc := "(LTwoHalves;I)Z" } : Jvm.MethodName)) ∈ lw_all := lw_g (lw_at lw_m5 226 rfl) rfl
theorem q1989 : (Jvm.Cond.castable "TwoHalves$Any" "java/lang/Object") ∈ lw_tbl := lw_at lw_m8 201 rfl
theorem in_X23 : ∀ w ∈ wsX230, w ∈ lw_all := lw_in wsX230 [1279, 1281] (by decide +kernel) (by decide +kernel)
