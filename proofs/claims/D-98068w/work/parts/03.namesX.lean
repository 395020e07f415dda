/-! RainWalkLaw -/
set_option maxRecDepth 100000
def RX0 : String := "RainWalkLaw"
abbrev cX0_led : ByteArray := method_3_code
def yX0_led : MethodName := ⟨RX0, "led", "(LRainWalk;I[J)I"⟩
def dkwX0_led_0 : List UInt8 := [44, 3, 42, 27, 182, 0, 7, 133, 80, 167, 0, 6, 78, 4, 172, 3, 172]
abbrev dktX0_led_0 : List UInt8 := dkwX0_led_0 ++ []
theorem dksX0_led_0 : cX0_led.data.toList.drop 0 = dktX0_led_0 := by decide +kernel
theorem dX0_led_0 : decode cX0_led 0 = .ok (.aload_n 2, 1) := dk_44 (dk_at dksX0_led_0 0 rfl rfl)
theorem dX0_led_1 : decode cX0_led 1 = .ok (.iconst 0, 1) := dk_3 (dk_at dksX0_led_0 1 rfl rfl)
theorem dX0_led_2 : decode cX0_led 2 = .ok (.aload_n 0, 1) := dk_42 (dk_at dksX0_led_0 2 rfl rfl)
theorem dX0_led_3 : decode cX0_led 3 = .ok (.iload_n 1, 1) := dk_27 (dk_at dksX0_led_0 3 rfl rfl)
theorem dX0_led_4 : decode cX0_led 4 = .ok (.invokevirtual 7, 3) := dk_182 0 7 (dk_at dksX0_led_0 4 rfl rfl)
theorem dX0_led_7 : decode cX0_led 7 = .ok (.i2l, 1) := dk_133 (dk_at dksX0_led_0 7 rfl rfl)
theorem dX0_led_8 : decode cX0_led 8 = .ok (.lastore, 1) := dk_80 (dk_at dksX0_led_0 8 rfl rfl)
theorem dX0_led_9 : decode cX0_led 9 = .ok (.goto 6, 3) := dk_167 0 6 (dk_at dksX0_led_0 9 rfl rfl)
theorem dX0_led_12 : decode cX0_led 12 = .ok (.astore_n 3, 1) := dk_78 (dk_at dksX0_led_0 12 rfl rfl)
theorem dX0_led_13 : decode cX0_led 13 = .ok (.iconst 1, 1) := dk_4 (dk_at dksX0_led_0 13 rfl rfl)
theorem dX0_led_14 : decode cX0_led 14 = .ok (.ireturn, 1) := dk_172 (dk_at dksX0_led_0 14 rfl rfl)
theorem dX0_led_15 : decode cX0_led 15 = .ok (.iconst 0, 1) := dk_3 (dk_at dksX0_led_0 15 rfl rfl)
theorem dX0_led_16 : decode cX0_led 16 = .ok (.ireturn, 1) := dk_172 (dk_at dksX0_led_0 16 rfl rfl)
theorem q111 : (Jvm.Cond.initialized "RainWalkLaw") ∈ lw_all := lw_g (lw_at lw_m1 0 rfl) rfl
theorem q142 : (Jvm.Cond.classLink "RainWalkLaw" (8 : Nat) "RainWalk") ∈ lw_all := lw_g (lw_at lw_m1 31 rfl) rfl
theorem q144 : (Jvm.Cond.methodLink "RainWalkLaw" (15 : Nat) ({ cls := "RainWalk", name := "<init>", desc := "()V" } : Jvm.MethodName)) ∈ lw_all := lw_g (lw_at lw_m1 33 rfl) rfl
theorem q398 : (Jvm.Cond.methodLink "RainWalkLaw" (19 : Nat) ({ cls := "RainWalk", name := "feed", desc := "(IIIII)I" } : Jvm.MethodName)) ∈ lw_all := lw_g (lw_at lw_m2 47 rfl) rfl
theorem q406 : (Jvm.Cond.methodLink "RainWalkLaw" (24 : Nat) ({ cls := "RainWalk", name := "world", desc := "(I)I" } : Jvm.MethodName)) ∈ lw_all := lw_g (lw_at lw_m2 55 rfl) rfl
theorem q975 : (Jvm.Cond.methodLink "RainWalkLaw" (28 : Nat) ({ cls := "RainWalk", name := "fault", desc := "()I" } : Jvm.MethodName)) ∈ lw_all := lw_g (lw_at lw_m4 144 rfl) rfl
theorem q979 : (Jvm.Cond.methodLink "RainWalkLaw" (33 : Nat) ({ cls := "RainWalk", name := "where", desc := "()I" } : Jvm.MethodName)) ∈ lw_all := lw_g (lw_at lw_m4 148 rfl) rfl
theorem q983 : (Jvm.Cond.methodLink "RainWalkLaw" (37 : Nat) ({ cls := "RainWalk", name := "face", desc := "(IIIIIIZ)J" } : Jvm.MethodName)) ∈ lw_all := lw_g (lw_at lw_m4 152 rfl) rfl
theorem q1107 : (Jvm.Cond.methodLink "RainWalkLaw" (42 : Nat) ({ cls := "RainWalk", name := "wet", desc := "(IIIIIZ)J" } : Jvm.MethodName)) ∈ lw_all := lw_g (lw_at lw_m5 36 rfl) rfl
theorem q1115 : (Jvm.Cond.methodLink "RainWalkLaw" (47 : Nat) ({ cls := "RainWalk", name := "mean", desc := "(IIIIIZ)J" } : Jvm.MethodName)) ∈ lw_all := lw_g (lw_at lw_m5 44 rfl) rfl
theorem q1120 : (Jvm.Cond.methodLink "RainWalkLaw" (51 : Nat) ({ cls := "RainWalk", name := "minutes", desc := "(III)I" } : Jvm.MethodName)) ∈ lw_all := lw_g (lw_at lw_m5 49 rfl) rfl
theorem q1128 : (Jvm.Cond.methodLink "RainWalkLaw" (56 : Nat) ({ cls := "RainWalk", name := "air", desc := "(III)I" } : Jvm.MethodName)) ∈ lw_all := lw_g (lw_at lw_m5 57 rfl) rfl
theorem q1134 : (Jvm.Cond.methodLink "RainWalkLaw" (60 : Nat) ({ cls := "RainWalk", name := "held", desc := "(IIIII)I" } : Jvm.MethodName)) ∈ lw_all := lw_g (lw_at lw_m5 63 rfl) rfl
theorem q1139 : (Jvm.Cond.methodLink "RainWalkLaw" (64 : Nat) ({ cls := "RainWalk", name := "best", desc := "(IIII)I" } : Jvm.MethodName)) ∈ lw_all := lw_g (lw_at lw_m5 68 rfl) rfl
theorem q1147 : (Jvm.Cond.methodLink "RainWalkLaw" (69 : Nat) ({ cls := "RainWalk", name := "saves", desc := "(IIIIZ)J" } : Jvm.MethodName)) ∈ lw_all := lw_g (lw_at lw_m5 76 rfl) rfl
theorem q1151 : (Jvm.Cond.methodLink "RainWalkLaw" (74 : Nat) ({ cls := "RainWalk", name := "worst", desc := "(IIII)I" } : Jvm.MethodName)) ∈ lw_all := lw_g (lw_at lw_m5 80 rfl) rfl
theorem q1159 : (Jvm.Cond.methodLink "RainWalkLaw" (78 : Nat) ({ cls := "RainWalk", name := "even", desc := "(IIII)I" } : Jvm.MethodName)) ∈ lw_all := lw_g (lw_at lw_m5 88 rfl) rfl
theorem q1167 : (Jvm.Cond.methodLink "RainWalkLaw" (82 : Nat) ({ cls := "RainWalk", name := "round", desc := "(IIIZ)J" } : Jvm.MethodName)) ∈ lw_all := lw_g (lw_at lw_m5 96 rfl) rfl
theorem q1171 : (Jvm.Cond.methodLink "RainWalkLaw" (87 : Nat) ({ cls := "RainWalk", name := "driest", desc := "(III)I" } : Jvm.MethodName)) ∈ lw_all := lw_g (lw_at lw_m5 100 rfl) rfl
theorem q1175 : (Jvm.Cond.methodLink "RainWalkLaw" (91 : Nat) ({ cls := "RainWalk", name := "lee", desc := "(IIIIIIZ)J" } : Jvm.MethodName)) ∈ lw_all := lw_g (lw_at lw_m5 104 rfl) rfl
theorem q1192 : (Jvm.Cond.methodLink "RainWalkLaw" (95 : Nat) ({ cls := "RainWalk", name := "first", desc := "(IIIIII)I" } : Jvm.MethodName)) ∈ lw_all := lw_g (lw_at lw_m5 121 rfl) rfl
theorem q1196 : (Jvm.Cond.methodLink "RainWalkLaw" (100 : Nat) ({ cls := "RainWalk", name := "least", desc := "(IIIIIZ)J" } : Jvm.MethodName)) ∈ lw_all := lw_g (lw_at lw_m5 125 rfl) rfl
theorem q1268 : (Jvm.Cond.methodLink "RainWalkLaw" (104 : Nat) ({ cls := "RainWalk", name := "there", desc := "(IIIII)I" } : Jvm.MethodName)) ∈ lw_all := lw_g (lw_at lw_m5 197 rfl) rfl
theorem q1276 : (Jvm.Cond.methodLink "RainWalkLaw" (108 : Nat) ({ cls := "RainWalk", name := "steps", desc := "(IIIII)I" } : Jvm.MethodName)) ∈ lw_all := lw_g (lw_at lw_m5 205 rfl) rfl
theorem q1288 : (Jvm.Cond.methodLink "RainWalkLaw" (112 : Nat) ({ cls := "RainWalk", name := "step", desc := "(IIIIII)I" } : Jvm.MethodName)) ∈ lw_all := lw_g (lw_at lw_m5 217 rfl) rfl
theorem q1296 : (Jvm.Cond.methodLink "RainWalkLaw" (116 : Nat) ({ cls := "RainWalk", name := "off", desc := "(IIII)I" } : Jvm.MethodName)) ∈ lw_all := lw_g (lw_at lw_m5 225 rfl) rfl
theorem q1300 : (Jvm.Cond.methodLink "RainWalkLaw" (120 : Nat) ({ cls := "RainWalk", name := "fits", desc := "(I)I" } : Jvm.MethodName)) ∈ lw_all := lw_g (lw_at lw_m5 229 rfl) rfl
theorem q1317 : (Jvm.Cond.methodLink "RainWalkLaw" (124 : Nat) ({ cls := "RainWalk", name := "fit", desc := "(II)I" } : Jvm.MethodName)) ∈ lw_all := lw_g (lw_at lw_m6 6 rfl) rfl
theorem q1321 : (Jvm.Cond.methodLink "RainWalkLaw" (129 : Nat) ({ cls := "RainWalk", name := "lies", desc := "()I" } : Jvm.MethodName)) ∈ lw_all := lw_g (lw_at lw_m6 10 rfl) rfl
theorem q1326 : (Jvm.Cond.methodLink "RainWalkLaw" (133 : Nat) ({ cls := "RainWalk", name := "day", desc := "(IIII)I" } : Jvm.MethodName)) ∈ lw_all := lw_g (lw_at lw_m6 15 rfl) rfl
theorem q1332 : (Jvm.Cond.methodLink "RainWalkLaw" (137 : Nat) ({ cls := "RainWalk", name := "go", desc := "(III)I" } : Jvm.MethodName)) ∈ lw_all := lw_g (lw_at lw_m6 21 rfl) rfl
theorem q1365 : (Jvm.Cond.methodLink "RainWalkLaw" (141 : Nat) ({ cls := "RainWalk", name := "stay", desc := "(I)Z" } : Jvm.MethodName)) ∈ lw_all := lw_g (lw_at lw_m6 54 rfl) rfl
theorem q1375 : (Jvm.Cond.methodLink "RainWalkLaw" (146 : Nat) ({ cls := "RainWalk", name := "got", desc := "(IZ)J" } : Jvm.MethodName)) ∈ lw_all := lw_g (lw_at lw_m6 64 rfl) rfl
theorem q1379 : (Jvm.Cond.methodLink "RainWalkLaw" (151 : Nat) ({ cls := "RainWalk", name := "wetness", desc := "(Z)J" } : Jvm.MethodName)) ∈ lw_all := lw_g (lw_at lw_m6 68 rfl) rfl
theorem q1401 : (Jvm.Cond.methodLink "RainWalkLaw" (156 : Nat) ({ cls := "RainWalk", name := "soaked", desc := "()I" } : Jvm.MethodName)) ∈ lw_all := lw_g (lw_at lw_m6 90 rfl) rfl
theorem q1405 : (Jvm.Cond.methodLink "RainWalkLaw" (160 : Nat) ({ cls := "RainWalk", name := "undo", desc := "()Z" } : Jvm.MethodName)) ∈ lw_all := lw_g (lw_at lw_m6 94 rfl) rfl
theorem q1409 : (Jvm.Cond.methodLink "RainWalkLaw" (165 : Nat) ({ cls := "RainWalk", name := "mark", desc := "()I" } : Jvm.MethodName)) ∈ lw_all := lw_g (lw_at lw_m6 98 rfl) rfl
theorem q1413 : (Jvm.Cond.methodLink "RainWalkLaw" (169 : Nat) ({ cls := "RainWalk", name := "back", desc := "(I)Z" } : Jvm.MethodName)) ∈ lw_all := lw_g (lw_at lw_m6 102 rfl) rfl
theorem q1417 : (Jvm.Cond.methodLink "RainWalkLaw" (173 : Nat) ({ cls := "RainWalk", name := "walker", desc := "(II)I" } : Jvm.MethodName)) ∈ lw_all := lw_g (lw_at lw_m6 106 rfl) rfl
theorem q1439 : (Jvm.Cond.methodLink "RainWalkLaw" (177 : Nat) ({ cls := "RainWalk", name := "road", desc := "(II)I" } : Jvm.MethodName)) ∈ lw_all := lw_g (lw_at lw_m6 128 rfl) rfl
theorem q1443 : (Jvm.Cond.methodLink "RainWalkLaw" (190 : Nat) ({ cls := "RainWalk", name := "size", desc := "(I)I" } : Jvm.MethodName)) ∈ lw_all := lw_g (lw_at lw_m6 132 rfl) rfl
theorem q1447 : (Jvm.Cond.methodLink "RainWalkLaw" (194 : Nat) ({ cls := "RainWalk", name := "trouble", desc := "()I" } : Jvm.MethodName)) ∈ lw_all := lw_g (lw_at lw_m6 136 rfl) rfl
theorem q1451 : (Jvm.Cond.methodLink "RainWalkLaw" (181 : Nat) ({ cls := "RainWalkLaw", name := "led", desc := "(LRainWalk;I[J)I" } : Jvm.MethodName)) ∈ lw_all := lw_g (lw_at lw_m6 140 rfl) rfl
theorem q1452 : (Jvm.Cond.static ({ cls := "RainWalkLaw", name := "led", desc := "(LRainWalk;I[J)I" } : Jvm.MethodName)) ∈ lw_all := lw_g (lw_at lw_m6 141 rfl) rfl
theorem q1453 : (Jvm.Cond.codeWith ({ cls := "RainWalkLaw", name := "led", desc := "(LRainWalk;I[J)I" } : Jvm.MethodName) method_3_code (4 : Nat) (Option.some Jvm.ClassFile.FieldType.int) [((0 : Nat), (9 : Nat), (12 : Nat), (13 : Nat))]) ∈ lw_all := lw_g (lw_at lw_m6 142 rfl) rfl
theorem q1454 : (Jvm.Cond.classLink "RainWalkLaw" (13 : Nat) "java/util/NoSuchElementException") ∈ lw_all := lw_g (lw_at lw_m6 143 rfl) rfl
theorem q1455 : (Jvm.Cond.methodLink "RainWalkLaw" (7 : Nat) ({ cls := "RainWalk", name := "led", desc := "(I)I" } : Jvm.MethodName)) ∈ lw_all := lw_g (lw_at lw_m6 144 rfl) rfl
theorem q1480 : (Jvm.Cond.classLink "RainWalkLaw" (16 : Nat) "RainWalkModel") ∈ lw_all := lw_g (lw_at lw_m6 169 rfl) rfl
theorem q1482 : (Jvm.Cond.methodLink "RainWalkLaw" (18 : Nat) ({ cls := "RainWalkModel", name := "<init>", desc := "()V" } : Jvm.MethodName)) ∈ lw_all := lw_g (lw_at lw_m6 171 rfl) rfl
theorem q1565 : (Jvm.Cond.methodLink "RainWalkLaw" (187 : Nat) ({ cls := "RainWalkModel", name := "thrown", desc := "()I" } : Jvm.MethodName)) ∈ lw_all := lw_g (lw_at lw_m7 14 rfl) rfl
theorem q1569 : (Jvm.Cond.methodLink "RainWalkLaw" (23 : Nat) ({ cls := "RainWalkModel", name := "feed", desc := "(IIIII)I" } : Jvm.MethodName)) ∈ lw_all := lw_g (lw_at lw_m7 18 rfl) rfl
theorem q1573 : (Jvm.Cond.methodLink "RainWalkLaw" (27 : Nat) ({ cls := "RainWalkModel", name := "world", desc := "(I)I" } : Jvm.MethodName)) ∈ lw_all := lw_g (lw_at lw_m7 22 rfl) rfl
theorem q1875 : (Jvm.Cond.methodLink "RainWalkLaw" (32 : Nat) ({ cls := "RainWalkModel", name := "fault", desc := "()I" } : Jvm.MethodName)) ∈ lw_all := lw_g (lw_at lw_m8 84 rfl) rfl
theorem q1879 : (Jvm.Cond.methodLink "RainWalkLaw" (36 : Nat) ({ cls := "RainWalkModel", name := "where", desc := "()I" } : Jvm.MethodName)) ∈ lw_all := lw_g (lw_at lw_m8 88 rfl) rfl
theorem q1883 : (Jvm.Cond.methodLink "RainWalkLaw" (41 : Nat) ({ cls := "RainWalkModel", name := "face", desc := "(IIIIIIZ)J" } : Jvm.MethodName)) ∈ lw_all := lw_g (lw_at lw_m8 92 rfl) rfl
theorem q1943 : (Jvm.Cond.methodLink "RainWalkLaw" (46 : Nat) ({ cls := "RainWalkModel", name := "wet", desc := "(IIIIIZ)J" } : Jvm.MethodName)) ∈ lw_all := lw_g (lw_at lw_m8 152 rfl) rfl
theorem q1951 : (Jvm.Cond.methodLink "RainWalkLaw" (50 : Nat) ({ cls := "RainWalkModel", name := "mean", desc := "(IIIIIZ)J" } : Jvm.MethodName)) ∈ lw_all := lw_g (lw_at lw_m8 160 rfl) rfl
theorem q1956 : (Jvm.Cond.methodLink "RainWalkLaw" (55 : Nat) ({ cls := "RainWalkModel", name := "minutes", desc := "(III)I" } : Jvm.MethodName)) ∈ lw_all := lw_g (lw_at lw_m8 165 rfl) rfl
theorem q1964 : (Jvm.Cond.methodLink "RainWalkLaw" (59 : Nat) ({ cls := "RainWalkModel", name := "air", desc := "(III)I" } : Jvm.MethodName)) ∈ lw_all := lw_g (lw_at lw_m8 173 rfl) rfl
theorem q1972 : (Jvm.Cond.methodLink "RainWalkLaw" (63 : Nat) ({ cls := "RainWalkModel", name := "held", desc := "(IIIII)I" } : Jvm.MethodName)) ∈ lw_all := lw_g (lw_at lw_m8 181 rfl) rfl
theorem q1976 : (Jvm.Cond.methodLink "RainWalkLaw" (68 : Nat) ({ cls := "RainWalkModel", name := "best", desc := "(IIII)I" } : Jvm.MethodName)) ∈ lw_all := lw_g (lw_at lw_m8 185 rfl) rfl
theorem q1984 : (Jvm.Cond.methodLink "RainWalkLaw" (73 : Nat) ({ cls := "RainWalkModel", name := "saves", desc := "(IIIIZ)J" } : Jvm.MethodName)) ∈ lw_all := lw_g (lw_at lw_m8 193 rfl) rfl
theorem q1988 : (Jvm.Cond.methodLink "RainWalkLaw" (77 : Nat) ({ cls := "RainWalkModel", name := "worst", desc := "(IIII)I" } : Jvm.MethodName)) ∈ lw_all := lw_g (lw_at lw_m8 197 rfl) rfl
theorem q1992 : (Jvm.Cond.methodLink "RainWalkLaw" (81 : Nat) ({ cls := "RainWalkModel", name := "even", desc := "(IIII)I" } : Jvm.MethodName)) ∈ lw_all := lw_g (lw_at lw_m8 201 rfl) rfl
theorem q1996 : (Jvm.Cond.methodLink "RainWalkLaw" (86 : Nat) ({ cls := "RainWalkModel", name := "round", desc := "(IIIZ)J" } : Jvm.MethodName)) ∈ lw_all := lw_g (lw_at lw_m8 205 rfl) rfl
theorem q2004 : (Jvm.Cond.methodLink "RainWalkLaw" (90 : Nat) ({ cls := "RainWalkModel", name := "driest", desc := "(III)I" } : Jvm.MethodName)) ∈ lw_all := lw_g (lw_at lw_m8 213 rfl) rfl
theorem q2008 : (Jvm.Cond.methodLink "RainWalkLaw" (94 : Nat) ({ cls := "RainWalkModel", name := "lee", desc := "(IIIIIIZ)J" } : Jvm.MethodName)) ∈ lw_all := lw_g (lw_at lw_m8 217 rfl) rfl
theorem q2020 : (Jvm.Cond.methodLink "RainWalkLaw" (99 : Nat) ({ cls := "RainWalkModel", name := "first", desc := "(IIIIII)I" } : Jvm.MethodName)) ∈ lw_all := lw_g (lw_at lw_m8 229 rfl) rfl
theorem q2024 : (Jvm.Cond.methodLink "RainWalkLaw" (103 : Nat) ({ cls := "RainWalkModel", name := "least", desc := "(IIIIIZ)J" } : Jvm.MethodName)) ∈ lw_all := lw_g (lw_at lw_m8 233 rfl) rfl
theorem q2080 : (Jvm.Cond.methodLink "RainWalkLaw" (107 : Nat) ({ cls := "RainWalkModel", name := "there", desc := "(IIIII)I" } : Jvm.MethodName)) ∈ lw_all := lw_g (lw_at lw_m9 49 rfl) rfl
theorem q2084 : (Jvm.Cond.methodLink "RainWalkLaw" (111 : Nat) ({ cls := "RainWalkModel", name := "steps", desc := "(IIIII)I" } : Jvm.MethodName)) ∈ lw_all := lw_g (lw_at lw_m9 53 rfl) rfl
theorem q2092 : (Jvm.Cond.methodLink "RainWalkLaw" (115 : Nat) ({ cls := "RainWalkModel", name := "step", desc := "(IIIIII)I" } : Jvm.MethodName)) ∈ lw_all := lw_g (lw_at lw_m9 61 rfl) rfl
theorem q2096 : (Jvm.Cond.methodLink "RainWalkLaw" (119 : Nat) ({ cls := "RainWalkModel", name := "off", desc := "(IIII)I" } : Jvm.MethodName)) ∈ lw_all := lw_g (lw_at lw_m9 65 rfl) rfl
theorem q2100 : (Jvm.Cond.methodLink "RainWalkLaw" (123 : Nat) ({ cls := "RainWalkModel", name := "fits", desc := "(I)I" } : Jvm.MethodName)) ∈ lw_all := lw_g (lw_at lw_m9 69 rfl) rfl
theorem q2112 : (Jvm.Cond.methodLink "RainWalkLaw" (128 : Nat) ({ cls := "RainWalkModel", name := "fit", desc := "(II)I" } : Jvm.MethodName)) ∈ lw_all := lw_g (lw_at lw_m9 81 rfl) rfl
theorem q2116 : (Jvm.Cond.methodLink "RainWalkLaw" (132 : Nat) ({ cls := "RainWalkModel", name := "lies", desc := "()I" } : Jvm.MethodName)) ∈ lw_all := lw_g (lw_at lw_m9 85 rfl) rfl
theorem q2120 : (Jvm.Cond.methodLink "RainWalkLaw" (136 : Nat) ({ cls := "RainWalkModel", name := "day", desc := "(IIII)I" } : Jvm.MethodName)) ∈ lw_all := lw_g (lw_at lw_m9 89 rfl) rfl
theorem q2128 : (Jvm.Cond.methodLink "RainWalkLaw" (140 : Nat) ({ cls := "RainWalkModel", name := "go", desc := "(III)I" } : Jvm.MethodName)) ∈ lw_all := lw_g (lw_at lw_m9 97 rfl) rfl
theorem q2144 : (Jvm.Cond.methodLink "RainWalkLaw" (145 : Nat) ({ cls := "RainWalkModel", name := "stay", desc := "(I)Z" } : Jvm.MethodName)) ∈ lw_all := lw_g (lw_at lw_m9 113 rfl) rfl
theorem q2157 : (Jvm.Cond.methodLink "RainWalkLaw" (150 : Nat) ({ cls := "RainWalkModel", name := "got", desc := "(IZ)J" } : Jvm.MethodName)) ∈ lw_all := lw_g (lw_at lw_m9 126 rfl) rfl
theorem q2161 : (Jvm.Cond.methodLink "RainWalkLaw" (155 : Nat) ({ cls := "RainWalkModel", name := "wetness", desc := "(Z)J" } : Jvm.MethodName)) ∈ lw_all := lw_g (lw_at lw_m9 130 rfl) rfl
theorem q2173 : (Jvm.Cond.methodLink "RainWalkLaw" (159 : Nat) ({ cls := "RainWalkModel", name := "soaked", desc := "()I" } : Jvm.MethodName)) ∈ lw_all := lw_g (lw_at lw_m9 142 rfl) rfl
theorem q2177 : (Jvm.Cond.methodLink "RainWalkLaw" (164 : Nat) ({ cls := "RainWalkModel", name := "undo", desc := "()Z" } : Jvm.MethodName)) ∈ lw_all := lw_g (lw_at lw_m9 146 rfl) rfl
theorem q2181 : (Jvm.Cond.methodLink "RainWalkLaw" (168 : Nat) ({ cls := "RainWalkModel", name := "mark", desc := "()I" } : Jvm.MethodName)) ∈ lw_all := lw_g (lw_at lw_m9 150 rfl) rfl
theorem q2185 : (Jvm.Cond.methodLink "RainWalkLaw" (172 : Nat) ({ cls := "RainWalkModel", name := "back", desc := "(I)Z" } : Jvm.MethodName)) ∈ lw_all := lw_g (lw_at lw_m9 154 rfl) rfl
theorem q2189 : (Jvm.Cond.methodLink "RainWalkLaw" (176 : Nat) ({ cls := "RainWalkModel", name := "walker", desc := "(II)I" } : Jvm.MethodName)) ∈ lw_all := lw_g (lw_at lw_m9 158 rfl) rfl
theorem q2193 : (Jvm.Cond.methodLink "RainWalkLaw" (180 : Nat) ({ cls := "RainWalkModel", name := "road", desc := "(II)I" } : Jvm.MethodName)) ∈ lw_all := lw_g (lw_at lw_m9 162 rfl) rfl
theorem q2197 : (Jvm.Cond.methodLink "RainWalkLaw" (186 : Nat) ({ cls := "RainWalkModel", name := "led", desc := "(I)I" } : Jvm.MethodName)) ∈ lw_all := lw_g (lw_at lw_m9 166 rfl) rfl
theorem q2201 : (Jvm.Cond.methodLink "RainWalkLaw" (193 : Nat) ({ cls := "RainWalkModel", name := "size", desc := "(I)I" } : Jvm.MethodName)) ∈ lw_all := lw_g (lw_at lw_m9 170 rfl) rfl
theorem q2205 : (Jvm.Cond.methodLink "RainWalkLaw" (197 : Nat) ({ cls := "RainWalkModel", name := "trouble", desc := "()I" } : Jvm.MethodName)) ∈ lw_all := lw_g (lw_at lw_m9 174 rfl) rfl
/-! RainWalk$Reader -/
set_option maxRecDepth 100000
def RX2 : String := "RainWalk$Reader"
def TX2 : u_T := fun k => match k with
  | 0 => ("RainWalk$Reader", "wrong", "LRainWalk$Refused;", true)
  | 1 => ("RainWalk$Reader", "text", "[B", true)
  | 2 => ("RainWalk$Reader", "letters", "[C", true)
  | 3 => ("RainWalk$Reader", "size", "I", false)
  | 4 => ("RainWalk$Reader", "end", "I", false)
  | 5 => ("RainWalk$Reader", "token", "I", false)
  | 6 => ("RainWalk$Reader", "at", "I", false)
  | 7 => ("RainWalk$Reader", "whole", "I", false)
  | 8 => ("RainWalk$Reader", "word", "Ljava/lang/String;", false)
  | _ => ("RainWalk$Reader", "world", "LRainWalk$World;", false)
def tyX2 : Nat → FieldType := fun k => match k with
  | 0 => .object "RainWalk$Refused"
  | 1 => .array .byte
  | 2 => .array .char
  | 3 => .int
  | 4 => .int
  | 5 => .int
  | 6 => .int
  | 7 => .int
  | 8 => .object "java/lang/String"
  | _ => .object "RainWalk$World"
abbrev wsX20 : List Cond := u_ws RX2 TX2 10
theorem nmX2 : ∀ a, a < 10 → ∀ b, b < 10 → a ≠ b → (TX2 a).2.1 ≠ (TX2 b).2.1 := by decide +kernel
theorem tyX2_ok : ∀ k, k < 10 → parseFieldDescriptor (TX2 k).2.2.1 = some (tyX2 k) := by decide +kernel
abbrev cX2_init : ByteArray := prog_10_method_1_code
def yX2_init : MethodName := ⟨RX2, "<init>", "([B)V"⟩
def dkwX2_init_1 : List UInt8 := [43, 181, 0, 22, 177]
abbrev dktX2_init_1 : List UInt8 := dkwX2_init_1 ++ []
def dkwX2_init_0 : List UInt8 := [42, 183, 0, 3, 42, 187, 0, 9, 89, 183, 0, 11, 181, 0, 12, 42, 16, 8, 188, 5, 181, 0, 18, 42]
abbrev dktX2_init_0 : List UInt8 := dkwX2_init_0 ++ dktX2_init_1
theorem dksX2_init_0 : cX2_init.data.toList.drop 0 = dktX2_init_0 := by decide +kernel
theorem dksX2_init_1 : cX2_init.data.toList.drop 24 = dktX2_init_1 := dk_seg dksX2_init_0 24 rfl rfl
theorem dX2_init_0 : decode cX2_init 0 = .ok (.aload_n 0, 1) := dk_42 (dk_at dksX2_init_0 0 rfl rfl)
theorem dX2_init_1 : decode cX2_init 1 = .ok (.invokespecial 3, 3) := dk_183 0 3 (dk_at dksX2_init_0 1 rfl rfl)
theorem dX2_init_4 : decode cX2_init 4 = .ok (.aload_n 0, 1) := dk_42 (dk_at dksX2_init_0 4 rfl rfl)
theorem dX2_init_5 : decode cX2_init 5 = .ok (.new 9, 3) := dk_187 0 9 (dk_at dksX2_init_0 5 rfl rfl)
theorem dX2_init_8 : decode cX2_init 8 = .ok (.dup, 1) := dk_89 (dk_at dksX2_init_0 8 rfl rfl)
theorem dX2_init_9 : decode cX2_init 9 = .ok (.invokespecial 11, 3) := dk_183 0 11 (dk_at dksX2_init_0 9 rfl rfl)
theorem dX2_init_12 : decode cX2_init 12 = .ok (.putfield 12, 3) := dk_181 0 12 (dk_at dksX2_init_0 12 rfl rfl)
theorem dX2_init_15 : decode cX2_init 15 = .ok (.aload_n 0, 1) := dk_42 (dk_at dksX2_init_0 15 rfl rfl)
theorem dX2_init_16 : decode cX2_init 16 = .ok (.bipush 8, 2) := dk_16 8 (dk_at dksX2_init_0 16 rfl rfl)
theorem dX2_init_18 : decode cX2_init 18 = .ok (.newarray .char, 2) := dk_188_5 (dk_at dksX2_init_0 18 rfl rfl)
theorem dX2_init_20 : decode cX2_init 20 = .ok (.putfield 18, 3) := dk_181 0 18 (dk_at dksX2_init_0 20 rfl rfl)
theorem dX2_init_23 : decode cX2_init 23 = .ok (.aload_n 0, 1) := dk_42 (dk_at dksX2_init_0 23 rfl rfl)
theorem dX2_init_24 : decode cX2_init 24 = .ok (.aload_n 1, 1) := dk_43 (dk_at dksX2_init_1 0 rfl rfl)
theorem dX2_init_25 : decode cX2_init 25 = .ok (.putfield 22, 3) := dk_181 0 22 (dk_at dksX2_init_1 1 rfl rfl)
theorem dX2_init_28 : decode cX2_init 28 = .ok (.return_, 1) := dk_177 (dk_at dksX2_init_1 4 rfl rfl)
abbrev cX2_read : ByteArray := prog_10_method_16_code
def yX2_read : MethodName := ⟨RX2, "read", "(I)LRainWalk$World;"⟩
def dkwX2_read_4 : List UInt8 := [16, 6, 182, 0, 82, 191, 42, 180, 0, 111, 176]
abbrev dktX2_read_4 : List UInt8 := dkwX2_read_4 ++ []
def dkwX2_read_3 : List UInt8 := [153, 0, 23, 42, 180, 0, 111, 180, 0, 145, 153, 0, 13, 42, 180, 0, 111, 180, 0, 148, 154, 0, 10, 42]
abbrev dktX2_read_3 : List UInt8 := dkwX2_read_3 ++ dktX2_read_4
def dkwX2_read_2 : List UInt8 := [167, 255, 239, 42, 180, 0, 47, 153, 0, 9, 42, 4, 182, 0, 82, 191, 42, 180, 0, 111, 180, 0, 138]
abbrev dktX2_read_2 : List UInt8 := dkwX2_read_2 ++ dktX2_read_3
def dkwX2_read_1 : List UInt8 := [182, 0, 75, 42, 182, 0, 142, 42, 180, 0, 47, 16, 59, 160, 0, 14, 42, 182, 0, 75, 42, 182, 0, 142]
abbrev dktX2_read_1 : List UInt8 := dkwX2_read_1 ++ dktX2_read_2
def dkwX2_read_0 : List UInt8 := [42, 27, 181, 0, 33, 42, 3, 181, 0, 40, 42, 187, 0, 115, 89, 183, 0, 141, 181, 0, 111, 42]
abbrev dktX2_read_0 : List UInt8 := dkwX2_read_0 ++ dktX2_read_1
theorem dksX2_read_0 : cX2_read.data.toList.drop 0 = dktX2_read_0 := by decide +kernel
theorem dksX2_read_1 : cX2_read.data.toList.drop 22 = dktX2_read_1 := dk_seg dksX2_read_0 22 rfl rfl
theorem dksX2_read_2 : cX2_read.data.toList.drop 46 = dktX2_read_2 := dk_seg dksX2_read_1 24 rfl rfl
theorem dksX2_read_3 : cX2_read.data.toList.drop 69 = dktX2_read_3 := dk_seg dksX2_read_2 23 rfl rfl
theorem dksX2_read_4 : cX2_read.data.toList.drop 93 = dktX2_read_4 := dk_seg dksX2_read_3 24 rfl rfl
theorem dX2_read_0 : decode cX2_read 0 = .ok (.aload_n 0, 1) := dk_42 (dk_at dksX2_read_0 0 rfl rfl)
theorem dX2_read_1 : decode cX2_read 1 = .ok (.iload_n 1, 1) := dk_27 (dk_at dksX2_read_0 1 rfl rfl)
theorem dX2_read_2 : decode cX2_read 2 = .ok (.putfield 33, 3) := dk_181 0 33 (dk_at dksX2_read_0 2 rfl rfl)
theorem dX2_read_5 : decode cX2_read 5 = .ok (.aload_n 0, 1) := dk_42 (dk_at dksX2_read_0 5 rfl rfl)
theorem dX2_read_6 : decode cX2_read 6 = .ok (.iconst 0, 1) := dk_3 (dk_at dksX2_read_0 6 rfl rfl)
theorem dX2_read_7 : decode cX2_read 7 = .ok (.putfield 40, 3) := dk_181 0 40 (dk_at dksX2_read_0 7 rfl rfl)
theorem dX2_read_10 : decode cX2_read 10 = .ok (.aload_n 0, 1) := dk_42 (dk_at dksX2_read_0 10 rfl rfl)
theorem dX2_read_11 : decode cX2_read 11 = .ok (.new 115, 3) := dk_187 0 115 (dk_at dksX2_read_0 11 rfl rfl)
theorem dX2_read_14 : decode cX2_read 14 = .ok (.dup, 1) := dk_89 (dk_at dksX2_read_0 14 rfl rfl)
theorem dX2_read_15 : decode cX2_read 15 = .ok (.invokespecial 141, 3) := dk_183 0 141 (dk_at dksX2_read_0 15 rfl rfl)
theorem dX2_read_18 : decode cX2_read 18 = .ok (.putfield 111, 3) := dk_181 0 111 (dk_at dksX2_read_0 18 rfl rfl)
theorem dX2_read_21 : decode cX2_read 21 = .ok (.aload_n 0, 1) := dk_42 (dk_at dksX2_read_0 21 rfl rfl)
theorem dX2_read_22 : decode cX2_read 22 = .ok (.invokevirtual 75, 3) := dk_182 0 75 (dk_at dksX2_read_1 0 rfl rfl)
theorem dX2_read_25 : decode cX2_read 25 = .ok (.aload_n 0, 1) := dk_42 (dk_at dksX2_read_1 3 rfl rfl)
theorem dX2_read_26 : decode cX2_read 26 = .ok (.invokevirtual 142, 3) := dk_182 0 142 (dk_at dksX2_read_1 4 rfl rfl)
theorem dX2_read_29 : decode cX2_read 29 = .ok (.aload_n 0, 1) := dk_42 (dk_at dksX2_read_1 7 rfl rfl)
theorem dX2_read_30 : decode cX2_read 30 = .ok (.getfield 47, 3) := dk_180 0 47 (dk_at dksX2_read_1 8 rfl rfl)
theorem dX2_read_33 : decode cX2_read 33 = .ok (.bipush 59, 2) := dk_16 59 (dk_at dksX2_read_1 11 rfl rfl)
theorem dX2_read_35 : decode cX2_read 35 = .ok (.if_icmp .ne 14, 3) := dk_160 0 14 (dk_at dksX2_read_1 13 rfl rfl)
theorem dX2_read_38 : decode cX2_read 38 = .ok (.aload_n 0, 1) := dk_42 (dk_at dksX2_read_1 16 rfl rfl)
theorem dX2_read_39 : decode cX2_read 39 = .ok (.invokevirtual 75, 3) := dk_182 0 75 (dk_at dksX2_read_1 17 rfl rfl)
theorem dX2_read_42 : decode cX2_read 42 = .ok (.aload_n 0, 1) := dk_42 (dk_at dksX2_read_1 20 rfl rfl)
theorem dX2_read_43 : decode cX2_read 43 = .ok (.invokevirtual 142, 3) := dk_182 0 142 (dk_at dksX2_read_1 21 rfl rfl)
theorem dX2_read_46 : decode cX2_read 46 = .ok (.goto (-17), 3) := dk_167 255 239 (dk_at dksX2_read_2 0 rfl rfl)
theorem dX2_read_49 : decode cX2_read 49 = .ok (.aload_n 0, 1) := dk_42 (dk_at dksX2_read_2 3 rfl rfl)
theorem dX2_read_50 : decode cX2_read 50 = .ok (.getfield 47, 3) := dk_180 0 47 (dk_at dksX2_read_2 4 rfl rfl)
theorem dX2_read_53 : decode cX2_read 53 = .ok (.ifCond .eq 9, 3) := dk_153 0 9 (dk_at dksX2_read_2 7 rfl rfl)
theorem dX2_read_56 : decode cX2_read 56 = .ok (.aload_n 0, 1) := dk_42 (dk_at dksX2_read_2 10 rfl rfl)
theorem dX2_read_57 : decode cX2_read 57 = .ok (.iconst 1, 1) := dk_4 (dk_at dksX2_read_2 11 rfl rfl)
theorem dX2_read_58 : decode cX2_read 58 = .ok (.invokevirtual 82, 3) := dk_182 0 82 (dk_at dksX2_read_2 12 rfl rfl)
theorem dX2_read_61 : decode cX2_read 61 = .ok (.athrow, 1) := dk_191 (dk_at dksX2_read_2 15 rfl rfl)
theorem dX2_read_62 : decode cX2_read 62 = .ok (.aload_n 0, 1) := dk_42 (dk_at dksX2_read_2 16 rfl rfl)
theorem dX2_read_63 : decode cX2_read 63 = .ok (.getfield 111, 3) := dk_180 0 111 (dk_at dksX2_read_2 17 rfl rfl)
theorem dX2_read_66 : decode cX2_read 66 = .ok (.getfield 138, 3) := dk_180 0 138 (dk_at dksX2_read_2 20 rfl rfl)
theorem dX2_read_69 : decode cX2_read 69 = .ok (.ifCond .eq 23, 3) := dk_153 0 23 (dk_at dksX2_read_3 0 rfl rfl)
theorem dX2_read_72 : decode cX2_read 72 = .ok (.aload_n 0, 1) := dk_42 (dk_at dksX2_read_3 3 rfl rfl)
theorem dX2_read_73 : decode cX2_read 73 = .ok (.getfield 111, 3) := dk_180 0 111 (dk_at dksX2_read_3 4 rfl rfl)
theorem dX2_read_76 : decode cX2_read 76 = .ok (.getfield 145, 3) := dk_180 0 145 (dk_at dksX2_read_3 7 rfl rfl)
theorem dX2_read_79 : decode cX2_read 79 = .ok (.ifCond .eq 13, 3) := dk_153 0 13 (dk_at dksX2_read_3 10 rfl rfl)
theorem dX2_read_82 : decode cX2_read 82 = .ok (.aload_n 0, 1) := dk_42 (dk_at dksX2_read_3 13 rfl rfl)
theorem dX2_read_83 : decode cX2_read 83 = .ok (.getfield 111, 3) := dk_180 0 111 (dk_at dksX2_read_3 14 rfl rfl)
theorem dX2_read_86 : decode cX2_read 86 = .ok (.getfield 148, 3) := dk_180 0 148 (dk_at dksX2_read_3 17 rfl rfl)
theorem dX2_read_89 : decode cX2_read 89 = .ok (.ifCond .ne 10, 3) := dk_154 0 10 (dk_at dksX2_read_3 20 rfl rfl)
theorem dX2_read_92 : decode cX2_read 92 = .ok (.aload_n 0, 1) := dk_42 (dk_at dksX2_read_3 23 rfl rfl)
theorem dX2_read_93 : decode cX2_read 93 = .ok (.bipush 6, 2) := dk_16 6 (dk_at dksX2_read_4 0 rfl rfl)
theorem dX2_read_95 : decode cX2_read 95 = .ok (.invokevirtual 82, 3) := dk_182 0 82 (dk_at dksX2_read_4 2 rfl rfl)
theorem dX2_read_98 : decode cX2_read 98 = .ok (.athrow, 1) := dk_191 (dk_at dksX2_read_4 5 rfl rfl)
theorem dX2_read_99 : decode cX2_read 99 = .ok (.aload_n 0, 1) := dk_42 (dk_at dksX2_read_4 6 rfl rfl)
theorem dX2_read_100 : decode cX2_read 100 = .ok (.getfield 111, 3) := dk_180 0 111 (dk_at dksX2_read_4 7 rfl rfl)
theorem dX2_read_103 : decode cX2_read 103 = .ok (.areturn, 1) := dk_176 (dk_at dksX2_read_4 10 rfl rfl)
abbrev cX2_next : ByteArray := prog_10_method_6_code
def yX2_next : MethodName := ⟨RX2, "next", "()V"⟩
def dkwX2_next_13 : List UInt8 := [181, 0, 47, 177]
abbrev dktX2_next_13 : List UInt8 := dkwX2_next_13 ++ []
def dkwX2_next_12 : List UInt8 := [181, 0, 47, 167, 0, 24, 42, 28, 16, 59, 159, 0, 9, 28, 16, 44, 160, 0, 7, 28, 167, 0, 4, 4]
abbrev dktX2_next_12 : List UInt8 := dkwX2_next_12 ++ dktX2_next_13
def dkwX2_next_11 : List UInt8 := [181, 0, 40, 167, 255, 199, 42, 42, 180, 0, 40, 27, 100, 6, 164, 0, 7, 4, 167, 0, 4, 6]
abbrev dktX2_next_11 : List UInt8 := dkwX2_next_11 ++ dktX2_next_12
def dkwX2_next_10 : List UInt8 := [42, 42, 180, 0, 40, 182, 0, 43, 96, 16, 48, 100, 181, 0, 68, 42, 89, 180, 0, 40, 4, 96]
abbrev dktX2_next_10 : List UInt8 := dkwX2_next_10 ++ dktX2_next_11
def dkwX2_next_9 : List UInt8 := [184, 0, 65, 153, 0, 49, 42, 180, 0, 40, 27, 100, 6, 162, 0, 26, 42, 16, 10, 42, 180, 0, 68, 104]
abbrev dktX2_next_9 : List UInt8 := dkwX2_next_9 ++ dktX2_next_10
def dkwX2_next_8 : List UInt8 := [184, 0, 65, 153, 0, 95, 42, 3, 181, 0, 68, 42, 27, 181, 0, 40, 42, 42, 180, 0, 40, 182, 0, 43]
abbrev dktX2_next_8 : List UInt8 := dkwX2_next_8 ++ dktX2_next_9
def dkwX2_next_7 : List UInt8 := [3, 42, 180, 0, 40, 27, 100, 183, 0, 56, 167, 0, 5, 18, 59, 181, 0, 61, 167, 0, 123, 28]
abbrev dktX2_next_7 : List UInt8 := dkwX2_next_7 ++ dktX2_next_8
def dkwX2_next_6 : List UInt8 := [167, 0, 4, 5, 181, 0, 47, 42, 42, 180, 0, 47, 5, 160, 0, 24, 187, 0, 54, 89, 42, 180, 0, 18]
abbrev dktX2_next_6 : List UInt8 := dkwX2_next_6 ++ dktX2_next_7
def dkwX2_next_5 : List UInt8 := [180, 0, 40, 4, 96, 181, 0, 40, 167, 255, 201, 42, 42, 180, 0, 40, 27, 100, 16, 8, 164, 0, 7, 4]
abbrev dktX2_next_5 : List UInt8 := dkwX2_next_5 ++ dktX2_next_6
def dkwX2_next_4 : List UInt8 := [42, 180, 0, 18, 42, 180, 0, 40, 27, 100, 42, 42, 180, 0, 40, 182, 0, 43, 146, 85, 42, 89]
abbrev dktX2_next_4 : List UInt8 := dkwX2_next_4 ++ dktX2_next_5
def dkwX2_next_3 : List UInt8 := [42, 180, 0, 40, 182, 0, 43, 184, 0, 50, 153, 0, 47, 42, 180, 0, 40, 27, 100, 16, 8, 162, 0, 23]
abbrev dktX2_next_3 : List UInt8 := dkwX2_next_3 ++ dktX2_next_4
def dkwX2_next_2 : List UInt8 := [181, 0, 47, 42, 27, 181, 0, 40, 167, 0, 251, 28, 184, 0, 50, 153, 0, 124, 42, 27, 181, 0, 40, 42]
abbrev dktX2_next_2 : List UInt8 := dkwX2_next_2 ++ dktX2_next_3
def dkwX2_next_1 : List UInt8 := [181, 0, 26, 42, 27, 4, 96, 181, 0, 40, 42, 27, 182, 0, 43, 61, 28, 2, 160, 0, 16, 42, 3]
abbrev dktX2_next_1 : List UInt8 := dkwX2_next_1 ++ dktX2_next_2
def dkwX2_next_0 : List UInt8 := [42, 180, 0, 40, 60, 42, 27, 182, 0, 43, 16, 32, 160, 0, 9, 132, 1, 1, 167, 255, 243, 42, 27]
abbrev dktX2_next_0 : List UInt8 := dkwX2_next_0 ++ dktX2_next_1
theorem dksX2_next_0 : cX2_next.data.toList.drop 0 = dktX2_next_0 := by decide +kernel
theorem dksX2_next_1 : cX2_next.data.toList.drop 23 = dktX2_next_1 := dk_seg dksX2_next_0 23 rfl rfl
theorem dksX2_next_2 : cX2_next.data.toList.drop 46 = dktX2_next_2 := dk_seg dksX2_next_1 23 rfl rfl
theorem dksX2_next_3 : cX2_next.data.toList.drop 70 = dktX2_next_3 := dk_seg dksX2_next_2 24 rfl rfl
theorem dksX2_next_4 : cX2_next.data.toList.drop 94 = dktX2_next_4 := dk_seg dksX2_next_3 24 rfl rfl
theorem dksX2_next_5 : cX2_next.data.toList.drop 116 = dktX2_next_5 := dk_seg dksX2_next_4 22 rfl rfl
theorem dksX2_next_6 : cX2_next.data.toList.drop 140 = dktX2_next_6 := dk_seg dksX2_next_5 24 rfl rfl
theorem dksX2_next_7 : cX2_next.data.toList.drop 164 = dktX2_next_7 := dk_seg dksX2_next_6 24 rfl rfl
theorem dksX2_next_8 : cX2_next.data.toList.drop 186 = dktX2_next_8 := dk_seg dksX2_next_7 22 rfl rfl
theorem dksX2_next_9 : cX2_next.data.toList.drop 210 = dktX2_next_9 := dk_seg dksX2_next_8 24 rfl rfl
theorem dksX2_next_10 : cX2_next.data.toList.drop 234 = dktX2_next_10 := dk_seg dksX2_next_9 24 rfl rfl
theorem dksX2_next_11 : cX2_next.data.toList.drop 256 = dktX2_next_11 := dk_seg dksX2_next_10 22 rfl rfl
theorem dksX2_next_12 : cX2_next.data.toList.drop 278 = dktX2_next_12 := dk_seg dksX2_next_11 22 rfl rfl
theorem dksX2_next_13 : cX2_next.data.toList.drop 302 = dktX2_next_13 := dk_seg dksX2_next_12 24 rfl rfl
theorem dX2_next_0 : decode cX2_next 0 = .ok (.aload_n 0, 1) := dk_42 (dk_at dksX2_next_0 0 rfl rfl)
theorem dX2_next_1 : decode cX2_next 1 = .ok (.getfield 40, 3) := dk_180 0 40 (dk_at dksX2_next_0 1 rfl rfl)
theorem dX2_next_4 : decode cX2_next 4 = .ok (.istore_n 1, 1) := dk_60 (dk_at dksX2_next_0 4 rfl rfl)
theorem dX2_next_5 : decode cX2_next 5 = .ok (.aload_n 0, 1) := dk_42 (dk_at dksX2_next_0 5 rfl rfl)
theorem dX2_next_6 : decode cX2_next 6 = .ok (.iload_n 1, 1) := dk_27 (dk_at dksX2_next_0 6 rfl rfl)
theorem dX2_next_7 : decode cX2_next 7 = .ok (.invokevirtual 43, 3) := dk_182 0 43 (dk_at dksX2_next_0 7 rfl rfl)
theorem dX2_next_10 : decode cX2_next 10 = .ok (.bipush 32, 2) := dk_16 32 (dk_at dksX2_next_0 10 rfl rfl)
theorem dX2_next_12 : decode cX2_next 12 = .ok (.if_icmp .ne 9, 3) := dk_160 0 9 (dk_at dksX2_next_0 12 rfl rfl)
theorem dX2_next_15 : decode cX2_next 15 = .ok (.iinc 1 1, 3) := dk_132 1 1 (dk_at dksX2_next_0 15 rfl rfl)
theorem dX2_next_18 : decode cX2_next 18 = .ok (.goto (-13), 3) := dk_167 255 243 (dk_at dksX2_next_0 18 rfl rfl)
theorem dX2_next_21 : decode cX2_next 21 = .ok (.aload_n 0, 1) := dk_42 (dk_at dksX2_next_0 21 rfl rfl)
theorem dX2_next_22 : decode cX2_next 22 = .ok (.iload_n 1, 1) := dk_27 (dk_at dksX2_next_0 22 rfl rfl)
theorem dX2_next_23 : decode cX2_next 23 = .ok (.putfield 26, 3) := dk_181 0 26 (dk_at dksX2_next_1 0 rfl rfl)
theorem dX2_next_26 : decode cX2_next 26 = .ok (.aload_n 0, 1) := dk_42 (dk_at dksX2_next_1 3 rfl rfl)
theorem dX2_next_27 : decode cX2_next 27 = .ok (.iload_n 1, 1) := dk_27 (dk_at dksX2_next_1 4 rfl rfl)
theorem dX2_next_28 : decode cX2_next 28 = .ok (.iconst 1, 1) := dk_4 (dk_at dksX2_next_1 5 rfl rfl)
theorem dX2_next_29 : decode cX2_next 29 = .ok (.iadd, 1) := dk_96 (dk_at dksX2_next_1 6 rfl rfl)
theorem dX2_next_30 : decode cX2_next 30 = .ok (.putfield 40, 3) := dk_181 0 40 (dk_at dksX2_next_1 7 rfl rfl)
theorem dX2_next_33 : decode cX2_next 33 = .ok (.aload_n 0, 1) := dk_42 (dk_at dksX2_next_1 10 rfl rfl)
theorem dX2_next_34 : decode cX2_next 34 = .ok (.iload_n 1, 1) := dk_27 (dk_at dksX2_next_1 11 rfl rfl)
theorem dX2_next_35 : decode cX2_next 35 = .ok (.invokevirtual 43, 3) := dk_182 0 43 (dk_at dksX2_next_1 12 rfl rfl)
theorem dX2_next_38 : decode cX2_next 38 = .ok (.istore_n 2, 1) := dk_61 (dk_at dksX2_next_1 15 rfl rfl)
theorem dX2_next_39 : decode cX2_next 39 = .ok (.iload_n 2, 1) := dk_28 (dk_at dksX2_next_1 16 rfl rfl)
theorem dX2_next_40 : decode cX2_next 40 = .ok (.iconst (-1), 1) := dk_2 (dk_at dksX2_next_1 17 rfl rfl)
theorem dX2_next_41 : decode cX2_next 41 = .ok (.if_icmp .ne 16, 3) := dk_160 0 16 (dk_at dksX2_next_1 18 rfl rfl)
theorem dX2_next_44 : decode cX2_next 44 = .ok (.aload_n 0, 1) := dk_42 (dk_at dksX2_next_1 21 rfl rfl)
theorem dX2_next_45 : decode cX2_next 45 = .ok (.iconst 0, 1) := dk_3 (dk_at dksX2_next_1 22 rfl rfl)
theorem dX2_next_46 : decode cX2_next 46 = .ok (.putfield 47, 3) := dk_181 0 47 (dk_at dksX2_next_2 0 rfl rfl)
theorem dX2_next_49 : decode cX2_next 49 = .ok (.aload_n 0, 1) := dk_42 (dk_at dksX2_next_2 3 rfl rfl)
theorem dX2_next_50 : decode cX2_next 50 = .ok (.iload_n 1, 1) := dk_27 (dk_at dksX2_next_2 4 rfl rfl)
theorem dX2_next_51 : decode cX2_next 51 = .ok (.putfield 40, 3) := dk_181 0 40 (dk_at dksX2_next_2 5 rfl rfl)
theorem dX2_next_54 : decode cX2_next 54 = .ok (.goto 251, 3) := dk_167 0 251 (dk_at dksX2_next_2 8 rfl rfl)
theorem dX2_next_57 : decode cX2_next 57 = .ok (.iload_n 2, 1) := dk_28 (dk_at dksX2_next_2 11 rfl rfl)
theorem dX2_next_58 : decode cX2_next 58 = .ok (.invokestatic 50, 3) := dk_184 0 50 (dk_at dksX2_next_2 12 rfl rfl)
theorem dX2_next_61 : decode cX2_next 61 = .ok (.ifCond .eq 124, 3) := dk_153 0 124 (dk_at dksX2_next_2 15 rfl rfl)
theorem dX2_next_64 : decode cX2_next 64 = .ok (.aload_n 0, 1) := dk_42 (dk_at dksX2_next_2 18 rfl rfl)
theorem dX2_next_65 : decode cX2_next 65 = .ok (.iload_n 1, 1) := dk_27 (dk_at dksX2_next_2 19 rfl rfl)
theorem dX2_next_66 : decode cX2_next 66 = .ok (.putfield 40, 3) := dk_181 0 40 (dk_at dksX2_next_2 20 rfl rfl)
theorem dX2_next_69 : decode cX2_next 69 = .ok (.aload_n 0, 1) := dk_42 (dk_at dksX2_next_2 23 rfl rfl)
theorem dX2_next_70 : decode cX2_next 70 = .ok (.aload_n 0, 1) := dk_42 (dk_at dksX2_next_3 0 rfl rfl)
theorem dX2_next_71 : decode cX2_next 71 = .ok (.getfield 40, 3) := dk_180 0 40 (dk_at dksX2_next_3 1 rfl rfl)
theorem dX2_next_74 : decode cX2_next 74 = .ok (.invokevirtual 43, 3) := dk_182 0 43 (dk_at dksX2_next_3 4 rfl rfl)
theorem dX2_next_77 : decode cX2_next 77 = .ok (.invokestatic 50, 3) := dk_184 0 50 (dk_at dksX2_next_3 7 rfl rfl)
theorem dX2_next_80 : decode cX2_next 80 = .ok (.ifCond .eq 47, 3) := dk_153 0 47 (dk_at dksX2_next_3 10 rfl rfl)
theorem dX2_next_83 : decode cX2_next 83 = .ok (.aload_n 0, 1) := dk_42 (dk_at dksX2_next_3 13 rfl rfl)
theorem dX2_next_84 : decode cX2_next 84 = .ok (.getfield 40, 3) := dk_180 0 40 (dk_at dksX2_next_3 14 rfl rfl)
theorem dX2_next_87 : decode cX2_next 87 = .ok (.iload_n 1, 1) := dk_27 (dk_at dksX2_next_3 17 rfl rfl)
theorem dX2_next_88 : decode cX2_next 88 = .ok (.isub, 1) := dk_100 (dk_at dksX2_next_3 18 rfl rfl)
theorem dX2_next_89 : decode cX2_next 89 = .ok (.bipush 8, 2) := dk_16 8 (dk_at dksX2_next_3 19 rfl rfl)
theorem dX2_next_91 : decode cX2_next 91 = .ok (.if_icmp .ge 23, 3) := dk_162 0 23 (dk_at dksX2_next_3 21 rfl rfl)
theorem dX2_next_94 : decode cX2_next 94 = .ok (.aload_n 0, 1) := dk_42 (dk_at dksX2_next_4 0 rfl rfl)
theorem dX2_next_95 : decode cX2_next 95 = .ok (.getfield 18, 3) := dk_180 0 18 (dk_at dksX2_next_4 1 rfl rfl)
theorem dX2_next_98 : decode cX2_next 98 = .ok (.aload_n 0, 1) := dk_42 (dk_at dksX2_next_4 4 rfl rfl)
theorem dX2_next_99 : decode cX2_next 99 = .ok (.getfield 40, 3) := dk_180 0 40 (dk_at dksX2_next_4 5 rfl rfl)
theorem dX2_next_102 : decode cX2_next 102 = .ok (.iload_n 1, 1) := dk_27 (dk_at dksX2_next_4 8 rfl rfl)
theorem dX2_next_103 : decode cX2_next 103 = .ok (.isub, 1) := dk_100 (dk_at dksX2_next_4 9 rfl rfl)
theorem dX2_next_104 : decode cX2_next 104 = .ok (.aload_n 0, 1) := dk_42 (dk_at dksX2_next_4 10 rfl rfl)
theorem dX2_next_105 : decode cX2_next 105 = .ok (.aload_n 0, 1) := dk_42 (dk_at dksX2_next_4 11 rfl rfl)
theorem dX2_next_106 : decode cX2_next 106 = .ok (.getfield 40, 3) := dk_180 0 40 (dk_at dksX2_next_4 12 rfl rfl)
theorem dX2_next_109 : decode cX2_next 109 = .ok (.invokevirtual 43, 3) := dk_182 0 43 (dk_at dksX2_next_4 15 rfl rfl)
theorem dX2_next_112 : decode cX2_next 112 = .ok (.i2c, 1) := dk_146 (dk_at dksX2_next_4 18 rfl rfl)
theorem dX2_next_113 : decode cX2_next 113 = .ok (.castore, 1) := dk_85 (dk_at dksX2_next_4 19 rfl rfl)
theorem dX2_next_114 : decode cX2_next 114 = .ok (.aload_n 0, 1) := dk_42 (dk_at dksX2_next_4 20 rfl rfl)
theorem dX2_next_115 : decode cX2_next 115 = .ok (.dup, 1) := dk_89 (dk_at dksX2_next_4 21 rfl rfl)
theorem dX2_next_116 : decode cX2_next 116 = .ok (.getfield 40, 3) := dk_180 0 40 (dk_at dksX2_next_5 0 rfl rfl)
theorem dX2_next_119 : decode cX2_next 119 = .ok (.iconst 1, 1) := dk_4 (dk_at dksX2_next_5 3 rfl rfl)
theorem dX2_next_120 : decode cX2_next 120 = .ok (.iadd, 1) := dk_96 (dk_at dksX2_next_5 4 rfl rfl)
theorem dX2_next_121 : decode cX2_next 121 = .ok (.putfield 40, 3) := dk_181 0 40 (dk_at dksX2_next_5 5 rfl rfl)
theorem dX2_next_124 : decode cX2_next 124 = .ok (.goto (-55), 3) := dk_167 255 201 (dk_at dksX2_next_5 8 rfl rfl)
theorem dX2_next_127 : decode cX2_next 127 = .ok (.aload_n 0, 1) := dk_42 (dk_at dksX2_next_5 11 rfl rfl)
theorem dX2_next_128 : decode cX2_next 128 = .ok (.aload_n 0, 1) := dk_42 (dk_at dksX2_next_5 12 rfl rfl)
theorem dX2_next_129 : decode cX2_next 129 = .ok (.getfield 40, 3) := dk_180 0 40 (dk_at dksX2_next_5 13 rfl rfl)
theorem dX2_next_132 : decode cX2_next 132 = .ok (.iload_n 1, 1) := dk_27 (dk_at dksX2_next_5 16 rfl rfl)
theorem dX2_next_133 : decode cX2_next 133 = .ok (.isub, 1) := dk_100 (dk_at dksX2_next_5 17 rfl rfl)
theorem dX2_next_134 : decode cX2_next 134 = .ok (.bipush 8, 2) := dk_16 8 (dk_at dksX2_next_5 18 rfl rfl)
theorem dX2_next_136 : decode cX2_next 136 = .ok (.if_icmp .le 7, 3) := dk_164 0 7 (dk_at dksX2_next_5 20 rfl rfl)
theorem dX2_next_139 : decode cX2_next 139 = .ok (.iconst 1, 1) := dk_4 (dk_at dksX2_next_5 23 rfl rfl)
theorem dX2_next_140 : decode cX2_next 140 = .ok (.goto 4, 3) := dk_167 0 4 (dk_at dksX2_next_6 0 rfl rfl)
theorem dX2_next_143 : decode cX2_next 143 = .ok (.iconst 2, 1) := dk_5 (dk_at dksX2_next_6 3 rfl rfl)
theorem dX2_next_144 : decode cX2_next 144 = .ok (.putfield 47, 3) := dk_181 0 47 (dk_at dksX2_next_6 4 rfl rfl)
theorem dX2_next_147 : decode cX2_next 147 = .ok (.aload_n 0, 1) := dk_42 (dk_at dksX2_next_6 7 rfl rfl)
theorem dX2_next_148 : decode cX2_next 148 = .ok (.aload_n 0, 1) := dk_42 (dk_at dksX2_next_6 8 rfl rfl)
theorem dX2_next_149 : decode cX2_next 149 = .ok (.getfield 47, 3) := dk_180 0 47 (dk_at dksX2_next_6 9 rfl rfl)
theorem dX2_next_152 : decode cX2_next 152 = .ok (.iconst 2, 1) := dk_5 (dk_at dksX2_next_6 12 rfl rfl)
theorem dX2_next_153 : decode cX2_next 153 = .ok (.if_icmp .ne 24, 3) := dk_160 0 24 (dk_at dksX2_next_6 13 rfl rfl)
theorem dX2_next_156 : decode cX2_next 156 = .ok (.new 54, 3) := dk_187 0 54 (dk_at dksX2_next_6 16 rfl rfl)
theorem dX2_next_159 : decode cX2_next 159 = .ok (.dup, 1) := dk_89 (dk_at dksX2_next_6 19 rfl rfl)
theorem dX2_next_160 : decode cX2_next 160 = .ok (.aload_n 0, 1) := dk_42 (dk_at dksX2_next_6 20 rfl rfl)
theorem dX2_next_161 : decode cX2_next 161 = .ok (.getfield 18, 3) := dk_180 0 18 (dk_at dksX2_next_6 21 rfl rfl)
theorem dX2_next_164 : decode cX2_next 164 = .ok (.iconst 0, 1) := dk_3 (dk_at dksX2_next_7 0 rfl rfl)
theorem dX2_next_165 : decode cX2_next 165 = .ok (.aload_n 0, 1) := dk_42 (dk_at dksX2_next_7 1 rfl rfl)
theorem dX2_next_166 : decode cX2_next 166 = .ok (.getfield 40, 3) := dk_180 0 40 (dk_at dksX2_next_7 2 rfl rfl)
theorem dX2_next_169 : decode cX2_next 169 = .ok (.iload_n 1, 1) := dk_27 (dk_at dksX2_next_7 5 rfl rfl)
theorem dX2_next_170 : decode cX2_next 170 = .ok (.isub, 1) := dk_100 (dk_at dksX2_next_7 6 rfl rfl)
theorem dX2_next_171 : decode cX2_next 171 = .ok (.invokespecial 56, 3) := dk_183 0 56 (dk_at dksX2_next_7 7 rfl rfl)
theorem dX2_next_174 : decode cX2_next 174 = .ok (.goto 5, 3) := dk_167 0 5 (dk_at dksX2_next_7 10 rfl rfl)
theorem dX2_next_177 : decode cX2_next 177 = .ok (.ldc 59, 2) := dk_18 59 (dk_at dksX2_next_7 13 rfl rfl)
theorem dX2_next_179 : decode cX2_next 179 = .ok (.putfield 61, 3) := dk_181 0 61 (dk_at dksX2_next_7 15 rfl rfl)
theorem dX2_next_182 : decode cX2_next 182 = .ok (.goto 123, 3) := dk_167 0 123 (dk_at dksX2_next_7 18 rfl rfl)
theorem dX2_next_185 : decode cX2_next 185 = .ok (.iload_n 2, 1) := dk_28 (dk_at dksX2_next_7 21 rfl rfl)
theorem dX2_next_186 : decode cX2_next 186 = .ok (.invokestatic 65, 3) := dk_184 0 65 (dk_at dksX2_next_8 0 rfl rfl)
theorem dX2_next_189 : decode cX2_next 189 = .ok (.ifCond .eq 95, 3) := dk_153 0 95 (dk_at dksX2_next_8 3 rfl rfl)
theorem dX2_next_192 : decode cX2_next 192 = .ok (.aload_n 0, 1) := dk_42 (dk_at dksX2_next_8 6 rfl rfl)
theorem dX2_next_193 : decode cX2_next 193 = .ok (.iconst 0, 1) := dk_3 (dk_at dksX2_next_8 7 rfl rfl)
theorem dX2_next_194 : decode cX2_next 194 = .ok (.putfield 68, 3) := dk_181 0 68 (dk_at dksX2_next_8 8 rfl rfl)
theorem dX2_next_197 : decode cX2_next 197 = .ok (.aload_n 0, 1) := dk_42 (dk_at dksX2_next_8 11 rfl rfl)
theorem dX2_next_198 : decode cX2_next 198 = .ok (.iload_n 1, 1) := dk_27 (dk_at dksX2_next_8 12 rfl rfl)
theorem dX2_next_199 : decode cX2_next 199 = .ok (.putfield 40, 3) := dk_181 0 40 (dk_at dksX2_next_8 13 rfl rfl)
theorem dX2_next_202 : decode cX2_next 202 = .ok (.aload_n 0, 1) := dk_42 (dk_at dksX2_next_8 16 rfl rfl)
theorem dX2_next_203 : decode cX2_next 203 = .ok (.aload_n 0, 1) := dk_42 (dk_at dksX2_next_8 17 rfl rfl)
theorem dX2_next_204 : decode cX2_next 204 = .ok (.getfield 40, 3) := dk_180 0 40 (dk_at dksX2_next_8 18 rfl rfl)
theorem dX2_next_207 : decode cX2_next 207 = .ok (.invokevirtual 43, 3) := dk_182 0 43 (dk_at dksX2_next_8 21 rfl rfl)
theorem dX2_next_210 : decode cX2_next 210 = .ok (.invokestatic 65, 3) := dk_184 0 65 (dk_at dksX2_next_9 0 rfl rfl)
theorem dX2_next_213 : decode cX2_next 213 = .ok (.ifCond .eq 49, 3) := dk_153 0 49 (dk_at dksX2_next_9 3 rfl rfl)
theorem dX2_next_216 : decode cX2_next 216 = .ok (.aload_n 0, 1) := dk_42 (dk_at dksX2_next_9 6 rfl rfl)
theorem dX2_next_217 : decode cX2_next 217 = .ok (.getfield 40, 3) := dk_180 0 40 (dk_at dksX2_next_9 7 rfl rfl)
theorem dX2_next_220 : decode cX2_next 220 = .ok (.iload_n 1, 1) := dk_27 (dk_at dksX2_next_9 10 rfl rfl)
theorem dX2_next_221 : decode cX2_next 221 = .ok (.isub, 1) := dk_100 (dk_at dksX2_next_9 11 rfl rfl)
theorem dX2_next_222 : decode cX2_next 222 = .ok (.iconst 3, 1) := dk_6 (dk_at dksX2_next_9 12 rfl rfl)
theorem dX2_next_223 : decode cX2_next 223 = .ok (.if_icmp .ge 26, 3) := dk_162 0 26 (dk_at dksX2_next_9 13 rfl rfl)
theorem dX2_next_226 : decode cX2_next 226 = .ok (.aload_n 0, 1) := dk_42 (dk_at dksX2_next_9 16 rfl rfl)
theorem dX2_next_227 : decode cX2_next 227 = .ok (.bipush 10, 2) := dk_16 10 (dk_at dksX2_next_9 17 rfl rfl)
theorem dX2_next_229 : decode cX2_next 229 = .ok (.aload_n 0, 1) := dk_42 (dk_at dksX2_next_9 19 rfl rfl)
theorem dX2_next_230 : decode cX2_next 230 = .ok (.getfield 68, 3) := dk_180 0 68 (dk_at dksX2_next_9 20 rfl rfl)
theorem dX2_next_233 : decode cX2_next 233 = .ok (.imul, 1) := dk_104 (dk_at dksX2_next_9 23 rfl rfl)
theorem dX2_next_234 : decode cX2_next 234 = .ok (.aload_n 0, 1) := dk_42 (dk_at dksX2_next_10 0 rfl rfl)
theorem dX2_next_235 : decode cX2_next 235 = .ok (.aload_n 0, 1) := dk_42 (dk_at dksX2_next_10 1 rfl rfl)
theorem dX2_next_236 : decode cX2_next 236 = .ok (.getfield 40, 3) := dk_180 0 40 (dk_at dksX2_next_10 2 rfl rfl)
theorem dX2_next_239 : decode cX2_next 239 = .ok (.invokevirtual 43, 3) := dk_182 0 43 (dk_at dksX2_next_10 5 rfl rfl)
theorem dX2_next_242 : decode cX2_next 242 = .ok (.iadd, 1) := dk_96 (dk_at dksX2_next_10 8 rfl rfl)
theorem dX2_next_243 : decode cX2_next 243 = .ok (.bipush 48, 2) := dk_16 48 (dk_at dksX2_next_10 9 rfl rfl)
theorem dX2_next_245 : decode cX2_next 245 = .ok (.isub, 1) := dk_100 (dk_at dksX2_next_10 11 rfl rfl)
theorem dX2_next_246 : decode cX2_next 246 = .ok (.putfield 68, 3) := dk_181 0 68 (dk_at dksX2_next_10 12 rfl rfl)
theorem dX2_next_249 : decode cX2_next 249 = .ok (.aload_n 0, 1) := dk_42 (dk_at dksX2_next_10 15 rfl rfl)
theorem dX2_next_250 : decode cX2_next 250 = .ok (.dup, 1) := dk_89 (dk_at dksX2_next_10 16 rfl rfl)
theorem dX2_next_251 : decode cX2_next 251 = .ok (.getfield 40, 3) := dk_180 0 40 (dk_at dksX2_next_10 17 rfl rfl)
theorem dX2_next_254 : decode cX2_next 254 = .ok (.iconst 1, 1) := dk_4 (dk_at dksX2_next_10 20 rfl rfl)
theorem dX2_next_255 : decode cX2_next 255 = .ok (.iadd, 1) := dk_96 (dk_at dksX2_next_10 21 rfl rfl)
theorem dX2_next_256 : decode cX2_next 256 = .ok (.putfield 40, 3) := dk_181 0 40 (dk_at dksX2_next_11 0 rfl rfl)
theorem dX2_next_259 : decode cX2_next 259 = .ok (.goto (-57), 3) := dk_167 255 199 (dk_at dksX2_next_11 3 rfl rfl)
theorem dX2_next_262 : decode cX2_next 262 = .ok (.aload_n 0, 1) := dk_42 (dk_at dksX2_next_11 6 rfl rfl)
theorem dX2_next_263 : decode cX2_next 263 = .ok (.aload_n 0, 1) := dk_42 (dk_at dksX2_next_11 7 rfl rfl)
theorem dX2_next_264 : decode cX2_next 264 = .ok (.getfield 40, 3) := dk_180 0 40 (dk_at dksX2_next_11 8 rfl rfl)
theorem dX2_next_267 : decode cX2_next 267 = .ok (.iload_n 1, 1) := dk_27 (dk_at dksX2_next_11 11 rfl rfl)
theorem dX2_next_268 : decode cX2_next 268 = .ok (.isub, 1) := dk_100 (dk_at dksX2_next_11 12 rfl rfl)
theorem dX2_next_269 : decode cX2_next 269 = .ok (.iconst 3, 1) := dk_6 (dk_at dksX2_next_11 13 rfl rfl)
theorem dX2_next_270 : decode cX2_next 270 = .ok (.if_icmp .le 7, 3) := dk_164 0 7 (dk_at dksX2_next_11 14 rfl rfl)
theorem dX2_next_273 : decode cX2_next 273 = .ok (.iconst 1, 1) := dk_4 (dk_at dksX2_next_11 17 rfl rfl)
theorem dX2_next_274 : decode cX2_next 274 = .ok (.goto 4, 3) := dk_167 0 4 (dk_at dksX2_next_11 18 rfl rfl)
theorem dX2_next_277 : decode cX2_next 277 = .ok (.iconst 3, 1) := dk_6 (dk_at dksX2_next_11 21 rfl rfl)
theorem dX2_next_278 : decode cX2_next 278 = .ok (.putfield 47, 3) := dk_181 0 47 (dk_at dksX2_next_12 0 rfl rfl)
theorem dX2_next_281 : decode cX2_next 281 = .ok (.goto 24, 3) := dk_167 0 24 (dk_at dksX2_next_12 3 rfl rfl)
theorem dX2_next_284 : decode cX2_next 284 = .ok (.aload_n 0, 1) := dk_42 (dk_at dksX2_next_12 6 rfl rfl)
theorem dX2_next_285 : decode cX2_next 285 = .ok (.iload_n 2, 1) := dk_28 (dk_at dksX2_next_12 7 rfl rfl)
theorem dX2_next_286 : decode cX2_next 286 = .ok (.bipush 59, 2) := dk_16 59 (dk_at dksX2_next_12 8 rfl rfl)
theorem dX2_next_288 : decode cX2_next 288 = .ok (.if_icmp .eq 9, 3) := dk_159 0 9 (dk_at dksX2_next_12 10 rfl rfl)
theorem dX2_next_291 : decode cX2_next 291 = .ok (.iload_n 2, 1) := dk_28 (dk_at dksX2_next_12 13 rfl rfl)
theorem dX2_next_292 : decode cX2_next 292 = .ok (.bipush 44, 2) := dk_16 44 (dk_at dksX2_next_12 14 rfl rfl)
theorem dX2_next_294 : decode cX2_next 294 = .ok (.if_icmp .ne 7, 3) := dk_160 0 7 (dk_at dksX2_next_12 16 rfl rfl)
theorem dX2_next_297 : decode cX2_next 297 = .ok (.iload_n 2, 1) := dk_28 (dk_at dksX2_next_12 19 rfl rfl)
theorem dX2_next_298 : decode cX2_next 298 = .ok (.goto 4, 3) := dk_167 0 4 (dk_at dksX2_next_12 20 rfl rfl)
theorem dX2_next_301 : decode cX2_next 301 = .ok (.iconst 1, 1) := dk_4 (dk_at dksX2_next_12 23 rfl rfl)
theorem dX2_next_302 : decode cX2_next 302 = .ok (.putfield 47, 3) := dk_181 0 47 (dk_at dksX2_next_13 0 rfl rfl)
theorem dX2_next_305 : decode cX2_next 305 = .ok (.return_, 1) := dk_177 (dk_at dksX2_next_13 3 rfl rfl)
abbrev cX2_see : ByteArray := prog_10_method_3_code
def yX2_see : MethodName := ⟨RX2, "see", "(I)I"⟩
def dkwX2_see_0 : List UInt8 := [27, 42, 180, 0, 33, 162, 0, 16, 42, 180, 0, 22, 27, 51, 17, 0, 255, 126, 167, 0, 4, 2, 172]
abbrev dktX2_see_0 : List UInt8 := dkwX2_see_0 ++ []
theorem dksX2_see_0 : cX2_see.data.toList.drop 0 = dktX2_see_0 := by decide +kernel
theorem dX2_see_0 : decode cX2_see 0 = .ok (.iload_n 1, 1) := dk_27 (dk_at dksX2_see_0 0 rfl rfl)
theorem dX2_see_1 : decode cX2_see 1 = .ok (.aload_n 0, 1) := dk_42 (dk_at dksX2_see_0 1 rfl rfl)
theorem dX2_see_2 : decode cX2_see 2 = .ok (.getfield 33, 3) := dk_180 0 33 (dk_at dksX2_see_0 2 rfl rfl)
theorem dX2_see_5 : decode cX2_see 5 = .ok (.if_icmp .ge 16, 3) := dk_162 0 16 (dk_at dksX2_see_0 5 rfl rfl)
theorem dX2_see_8 : decode cX2_see 8 = .ok (.aload_n 0, 1) := dk_42 (dk_at dksX2_see_0 8 rfl rfl)
theorem dX2_see_9 : decode cX2_see 9 = .ok (.getfield 22, 3) := dk_180 0 22 (dk_at dksX2_see_0 9 rfl rfl)
theorem dX2_see_12 : decode cX2_see 12 = .ok (.iload_n 1, 1) := dk_27 (dk_at dksX2_see_0 12 rfl rfl)
theorem dX2_see_13 : decode cX2_see 13 = .ok (.baload, 1) := dk_51 (dk_at dksX2_see_0 13 rfl rfl)
theorem dX2_see_14 : decode cX2_see 14 = .ok (.sipush 255, 3) := dk_17 0 255 (dk_at dksX2_see_0 14 rfl rfl)
theorem dX2_see_17 : decode cX2_see 17 = .ok (.iand, 1) := dk_126 (dk_at dksX2_see_0 17 rfl rfl)
theorem dX2_see_18 : decode cX2_see 18 = .ok (.goto 4, 3) := dk_167 0 4 (dk_at dksX2_see_0 18 rfl rfl)
theorem dX2_see_21 : decode cX2_see 21 = .ok (.iconst (-1), 1) := dk_2 (dk_at dksX2_see_0 21 rfl rfl)
theorem dX2_see_22 : decode cX2_see 22 = .ok (.ireturn, 1) := dk_172 (dk_at dksX2_see_0 22 rfl rfl)
abbrev cX2_isSmall : ByteArray := prog_10_method_4_code
def yX2_isSmall : MethodName := ⟨RX2, "isSmall", "(I)Z"⟩
def dkwX2_isSmall_0 : List UInt8 := [26, 16, 97, 16, 122, 184, 0, 36, 172]
abbrev dktX2_isSmall_0 : List UInt8 := dkwX2_isSmall_0 ++ []
theorem dksX2_isSmall_0 : cX2_isSmall.data.toList.drop 0 = dktX2_isSmall_0 := by decide +kernel
theorem dX2_isSmall_0 : decode cX2_isSmall 0 = .ok (.iload_n 0, 1) := dk_26 (dk_at dksX2_isSmall_0 0 rfl rfl)
theorem dX2_isSmall_1 : decode cX2_isSmall 1 = .ok (.bipush 97, 2) := dk_16 97 (dk_at dksX2_isSmall_0 1 rfl rfl)
theorem dX2_isSmall_3 : decode cX2_isSmall 3 = .ok (.bipush 122, 2) := dk_16 122 (dk_at dksX2_isSmall_0 3 rfl rfl)
theorem dX2_isSmall_5 : decode cX2_isSmall 5 = .ok (.invokestatic 36, 3) := dk_184 0 36 (dk_at dksX2_isSmall_0 5 rfl rfl)
theorem dX2_isSmall_8 : decode cX2_isSmall 8 = .ok (.ireturn, 1) := dk_172 (dk_at dksX2_isSmall_0 8 rfl rfl)
abbrev cX2_isDigit : ByteArray := prog_10_method_5_code
def yX2_isDigit : MethodName := ⟨RX2, "isDigit", "(I)Z"⟩
def dkwX2_isDigit_0 : List UInt8 := [26, 16, 48, 16, 57, 184, 0, 36, 172]
abbrev dktX2_isDigit_0 : List UInt8 := dkwX2_isDigit_0 ++ []
theorem dksX2_isDigit_0 : cX2_isDigit.data.toList.drop 0 = dktX2_isDigit_0 := by decide +kernel
theorem dX2_isDigit_0 : decode cX2_isDigit 0 = .ok (.iload_n 0, 1) := dk_26 (dk_at dksX2_isDigit_0 0 rfl rfl)
theorem dX2_isDigit_1 : decode cX2_isDigit 1 = .ok (.bipush 48, 2) := dk_16 48 (dk_at dksX2_isDigit_0 1 rfl rfl)
theorem dX2_isDigit_3 : decode cX2_isDigit 3 = .ok (.bipush 57, 2) := dk_16 57 (dk_at dksX2_isDigit_0 3 rfl rfl)
theorem dX2_isDigit_5 : decode cX2_isDigit 5 = .ok (.invokestatic 36, 3) := dk_184 0 36 (dk_at dksX2_isDigit_0 5 rfl rfl)
theorem dX2_isDigit_8 : decode cX2_isDigit 8 = .ok (.ireturn, 1) := dk_172 (dk_at dksX2_isDigit_0 8 rfl rfl)
abbrev cX2_line : ByteArray := prog_10_method_17_code
def yX2_line : MethodName := ⟨RX2, "line", "()V"⟩
def dkwX2_line_10 : List UInt8 := [182, 0, 82, 191, 177]
abbrev dktX2_line_10 : List UInt8 := dkwX2_line_10 ++ []
def dkwX2_line_9 : List UInt8 := [182, 0, 158, 167, 0, 23, 42, 182, 0, 160, 167, 0, 16, 42, 182, 0, 162, 167, 0, 9, 42, 4]
abbrev dktX2_line_9 : List UInt8 := dkwX2_line_9 ++ dktX2_line_10
def dkwX2_line_8 : List UInt8 := [42, 182, 0, 151, 167, 0, 44, 42, 182, 0, 154, 167, 0, 37, 42, 182, 0, 156, 167, 0, 30, 42]
abbrev dktX2_line_8 : List UInt8 := dkwX2_line_8 ++ dktX2_line_9
def dkwX2_line_7 : List UInt8 := [170, 0, 0, 0, 0, 80, 0, 0, 0, 0, 0, 0, 0, 5, 0, 0, 0, 38, 0, 0, 0, 45, 0, 0, 0, 52, 0, 0, 0, 59, 0, 0, 0, 66, 0, 0, 0, 73]
abbrev dktX2_line_7 : List UInt8 := dkwX2_line_7 ++ dktX2_line_8
def dkwX2_line_6 : List UInt8 := [18, 100, 182, 0, 71, 153, 0, 5, 8, 61, 28]
abbrev dktX2_line_6 : List UInt8 := dkwX2_line_6 ++ dktX2_line_7
def dkwX2_line_5 : List UInt8 := [153, 0, 33, 6, 61, 167, 0, 28, 43, 18, 98, 182, 0, 71, 153, 0, 19, 7, 61, 167, 0, 14, 43]
abbrev dktX2_line_5 : List UInt8 := dkwX2_line_5 ++ dktX2_line_6
def dkwX2_line_4 : List UInt8 := [61, 167, 0, 56, 43, 18, 94, 182, 0, 71, 153, 0, 47, 5, 61, 167, 0, 42, 43, 18, 96, 182, 0, 71]
abbrev dktX2_line_4 : List UInt8 := dkwX2_line_4 ++ dktX2_line_5
def dkwX2_line_3 : List UInt8 := [43, 18, 90, 182, 0, 71, 153, 0, 75, 3, 61, 167, 0, 70, 43, 18, 92, 182, 0, 71, 153, 0, 61, 4]
abbrev dktX2_line_3 : List UInt8 := dkwX2_line_3 ++ dktX2_line_4
def dkwX2_line_2 : List UInt8 := [171, 0, 0, 0, 0, 0, 140, 0, 0, 0, 6, 208, 154, 80, 54, 0, 0, 0, 115, 0, 53, 75, 148, 0, 0, 0, 73, 0, 53, 127, 32, 0, 0, 0, 101, 0, 53, 206, 123, 0, 0, 0, 129, 6, 92, 217, 7, 0, 0, 0, 87, 6, 193, 27, 146, 0, 0, 0, 59]
abbrev dktX2_line_2 : List UInt8 := dkwX2_line_2 ++ dktX2_line_3
def dkwX2_line_1 : List UInt8 := [182, 0, 86]
abbrev dktX2_line_1 : List UInt8 := dkwX2_line_1 ++ dktX2_line_2
def dkwX2_line_0 : List UInt8 := [42, 180, 0, 47, 5, 159, 0, 9, 42, 4, 182, 0, 82, 191, 42, 180, 0, 61, 76, 2, 61, 43]
abbrev dktX2_line_0 : List UInt8 := dkwX2_line_0 ++ dktX2_line_1
theorem dksX2_line_0 : cX2_line.data.toList.drop 0 = dktX2_line_0 := by decide +kernel
theorem dksX2_line_1 : cX2_line.data.toList.drop 22 = dktX2_line_1 := dk_seg dksX2_line_0 22 rfl rfl
theorem dksX2_line_2 : cX2_line.data.toList.drop 25 = dktX2_line_2 := dk_seg dksX2_line_1 3 rfl rfl
theorem dksX2_line_3 : cX2_line.data.toList.drop 84 = dktX2_line_3 := dk_seg dksX2_line_2 59 rfl rfl
theorem dksX2_line_4 : cX2_line.data.toList.drop 108 = dktX2_line_4 := dk_seg dksX2_line_3 24 rfl rfl
theorem dksX2_line_5 : cX2_line.data.toList.drop 132 = dktX2_line_5 := dk_seg dksX2_line_4 24 rfl rfl
theorem dksX2_line_6 : cX2_line.data.toList.drop 155 = dktX2_line_6 := dk_seg dksX2_line_5 23 rfl rfl
theorem dksX2_line_7 : cX2_line.data.toList.drop 166 = dktX2_line_7 := dk_seg dksX2_line_6 11 rfl rfl
theorem dksX2_line_8 : cX2_line.data.toList.drop 204 = dktX2_line_8 := dk_seg dksX2_line_7 38 rfl rfl
theorem dksX2_line_9 : cX2_line.data.toList.drop 226 = dktX2_line_9 := dk_seg dksX2_line_8 22 rfl rfl
theorem dksX2_line_10 : cX2_line.data.toList.drop 248 = dktX2_line_10 := dk_seg dksX2_line_9 22 rfl rfl
theorem dX2_line_0 : decode cX2_line 0 = .ok (.aload_n 0, 1) := dk_42 (dk_at dksX2_line_0 0 rfl rfl)
theorem dX2_line_1 : decode cX2_line 1 = .ok (.getfield 47, 3) := dk_180 0 47 (dk_at dksX2_line_0 1 rfl rfl)
theorem dX2_line_4 : decode cX2_line 4 = .ok (.iconst 2, 1) := dk_5 (dk_at dksX2_line_0 4 rfl rfl)
theorem dX2_line_5 : decode cX2_line 5 = .ok (.if_icmp .eq 9, 3) := dk_159 0 9 (dk_at dksX2_line_0 5 rfl rfl)
theorem dX2_line_8 : decode cX2_line 8 = .ok (.aload_n 0, 1) := dk_42 (dk_at dksX2_line_0 8 rfl rfl)
theorem dX2_line_9 : decode cX2_line 9 = .ok (.iconst 1, 1) := dk_4 (dk_at dksX2_line_0 9 rfl rfl)
theorem dX2_line_10 : decode cX2_line 10 = .ok (.invokevirtual 82, 3) := dk_182 0 82 (dk_at dksX2_line_0 10 rfl rfl)
theorem dX2_line_13 : decode cX2_line 13 = .ok (.athrow, 1) := dk_191 (dk_at dksX2_line_0 13 rfl rfl)
theorem dX2_line_14 : decode cX2_line 14 = .ok (.aload_n 0, 1) := dk_42 (dk_at dksX2_line_0 14 rfl rfl)
theorem dX2_line_15 : decode cX2_line 15 = .ok (.getfield 61, 3) := dk_180 0 61 (dk_at dksX2_line_0 15 rfl rfl)
theorem dX2_line_18 : decode cX2_line 18 = .ok (.astore_n 1, 1) := dk_76 (dk_at dksX2_line_0 18 rfl rfl)
theorem dX2_line_19 : decode cX2_line 19 = .ok (.iconst (-1), 1) := dk_2 (dk_at dksX2_line_0 19 rfl rfl)
theorem dX2_line_20 : decode cX2_line 20 = .ok (.istore_n 2, 1) := dk_61 (dk_at dksX2_line_0 20 rfl rfl)
theorem dX2_line_21 : decode cX2_line 21 = .ok (.aload_n 1, 1) := dk_43 (dk_at dksX2_line_0 21 rfl rfl)
theorem dX2_line_22 : decode cX2_line 22 = .ok (.invokevirtual 86, 3) := dk_182 0 86 (dk_at dksX2_line_1 0 rfl rfl)
theorem dX2_line_25 : decode cX2_line 25 = .ok (.lookupswitch 140 #[(-795193290, 115), (3492756, 73), (3505952, 101), (3526267, 129), (106748167, 87), (113318802, 59)], 59) := by decide +kernel
theorem dX2_line_84 : decode cX2_line 84 = .ok (.aload_n 1, 1) := dk_43 (dk_at dksX2_line_3 0 rfl rfl)
theorem dX2_line_85 : decode cX2_line 85 = .ok (.ldc 90, 2) := dk_18 90 (dk_at dksX2_line_3 1 rfl rfl)
theorem dX2_line_87 : decode cX2_line 87 = .ok (.invokevirtual 71, 3) := dk_182 0 71 (dk_at dksX2_line_3 3 rfl rfl)
theorem dX2_line_90 : decode cX2_line 90 = .ok (.ifCond .eq 75, 3) := dk_153 0 75 (dk_at dksX2_line_3 6 rfl rfl)
theorem dX2_line_93 : decode cX2_line 93 = .ok (.iconst 0, 1) := dk_3 (dk_at dksX2_line_3 9 rfl rfl)
theorem dX2_line_94 : decode cX2_line 94 = .ok (.istore_n 2, 1) := dk_61 (dk_at dksX2_line_3 10 rfl rfl)
theorem dX2_line_95 : decode cX2_line 95 = .ok (.goto 70, 3) := dk_167 0 70 (dk_at dksX2_line_3 11 rfl rfl)
theorem dX2_line_98 : decode cX2_line 98 = .ok (.aload_n 1, 1) := dk_43 (dk_at dksX2_line_3 14 rfl rfl)
theorem dX2_line_99 : decode cX2_line 99 = .ok (.ldc 92, 2) := dk_18 92 (dk_at dksX2_line_3 15 rfl rfl)
theorem dX2_line_101 : decode cX2_line 101 = .ok (.invokevirtual 71, 3) := dk_182 0 71 (dk_at dksX2_line_3 17 rfl rfl)
theorem dX2_line_104 : decode cX2_line 104 = .ok (.ifCond .eq 61, 3) := dk_153 0 61 (dk_at dksX2_line_3 20 rfl rfl)
theorem dX2_line_107 : decode cX2_line 107 = .ok (.iconst 1, 1) := dk_4 (dk_at dksX2_line_3 23 rfl rfl)
theorem dX2_line_108 : decode cX2_line 108 = .ok (.istore_n 2, 1) := dk_61 (dk_at dksX2_line_4 0 rfl rfl)
theorem dX2_line_109 : decode cX2_line 109 = .ok (.goto 56, 3) := dk_167 0 56 (dk_at dksX2_line_4 1 rfl rfl)
theorem dX2_line_112 : decode cX2_line 112 = .ok (.aload_n 1, 1) := dk_43 (dk_at dksX2_line_4 4 rfl rfl)
theorem dX2_line_113 : decode cX2_line 113 = .ok (.ldc 94, 2) := dk_18 94 (dk_at dksX2_line_4 5 rfl rfl)
theorem dX2_line_115 : decode cX2_line 115 = .ok (.invokevirtual 71, 3) := dk_182 0 71 (dk_at dksX2_line_4 7 rfl rfl)
theorem dX2_line_118 : decode cX2_line 118 = .ok (.ifCond .eq 47, 3) := dk_153 0 47 (dk_at dksX2_line_4 10 rfl rfl)
theorem dX2_line_121 : decode cX2_line 121 = .ok (.iconst 2, 1) := dk_5 (dk_at dksX2_line_4 13 rfl rfl)
theorem dX2_line_122 : decode cX2_line 122 = .ok (.istore_n 2, 1) := dk_61 (dk_at dksX2_line_4 14 rfl rfl)
theorem dX2_line_123 : decode cX2_line 123 = .ok (.goto 42, 3) := dk_167 0 42 (dk_at dksX2_line_4 15 rfl rfl)
theorem dX2_line_126 : decode cX2_line 126 = .ok (.aload_n 1, 1) := dk_43 (dk_at dksX2_line_4 18 rfl rfl)
theorem dX2_line_127 : decode cX2_line 127 = .ok (.ldc 96, 2) := dk_18 96 (dk_at dksX2_line_4 19 rfl rfl)
theorem dX2_line_129 : decode cX2_line 129 = .ok (.invokevirtual 71, 3) := dk_182 0 71 (dk_at dksX2_line_4 21 rfl rfl)
theorem dX2_line_132 : decode cX2_line 132 = .ok (.ifCond .eq 33, 3) := dk_153 0 33 (dk_at dksX2_line_5 0 rfl rfl)
theorem dX2_line_135 : decode cX2_line 135 = .ok (.iconst 3, 1) := dk_6 (dk_at dksX2_line_5 3 rfl rfl)
theorem dX2_line_136 : decode cX2_line 136 = .ok (.istore_n 2, 1) := dk_61 (dk_at dksX2_line_5 4 rfl rfl)
theorem dX2_line_137 : decode cX2_line 137 = .ok (.goto 28, 3) := dk_167 0 28 (dk_at dksX2_line_5 5 rfl rfl)
theorem dX2_line_140 : decode cX2_line 140 = .ok (.aload_n 1, 1) := dk_43 (dk_at dksX2_line_5 8 rfl rfl)
theorem dX2_line_141 : decode cX2_line 141 = .ok (.ldc 98, 2) := dk_18 98 (dk_at dksX2_line_5 9 rfl rfl)
theorem dX2_line_143 : decode cX2_line 143 = .ok (.invokevirtual 71, 3) := dk_182 0 71 (dk_at dksX2_line_5 11 rfl rfl)
theorem dX2_line_146 : decode cX2_line 146 = .ok (.ifCond .eq 19, 3) := dk_153 0 19 (dk_at dksX2_line_5 14 rfl rfl)
theorem dX2_line_149 : decode cX2_line 149 = .ok (.iconst 4, 1) := dk_7 (dk_at dksX2_line_5 17 rfl rfl)
theorem dX2_line_150 : decode cX2_line 150 = .ok (.istore_n 2, 1) := dk_61 (dk_at dksX2_line_5 18 rfl rfl)
theorem dX2_line_151 : decode cX2_line 151 = .ok (.goto 14, 3) := dk_167 0 14 (dk_at dksX2_line_5 19 rfl rfl)
theorem dX2_line_154 : decode cX2_line 154 = .ok (.aload_n 1, 1) := dk_43 (dk_at dksX2_line_5 22 rfl rfl)
theorem dX2_line_155 : decode cX2_line 155 = .ok (.ldc 100, 2) := dk_18 100 (dk_at dksX2_line_6 0 rfl rfl)
theorem dX2_line_157 : decode cX2_line 157 = .ok (.invokevirtual 71, 3) := dk_182 0 71 (dk_at dksX2_line_6 2 rfl rfl)
theorem dX2_line_160 : decode cX2_line 160 = .ok (.ifCond .eq 5, 3) := dk_153 0 5 (dk_at dksX2_line_6 5 rfl rfl)
theorem dX2_line_163 : decode cX2_line 163 = .ok (.iconst 5, 1) := dk_8 (dk_at dksX2_line_6 8 rfl rfl)
theorem dX2_line_164 : decode cX2_line 164 = .ok (.istore_n 2, 1) := dk_61 (dk_at dksX2_line_6 9 rfl rfl)
theorem dX2_line_165 : decode cX2_line 165 = .ok (.iload_n 2, 1) := dk_28 (dk_at dksX2_line_6 10 rfl rfl)
theorem dX2_line_166 : decode cX2_line 166 = .ok (.tableswitch 80 0 5 #[38, 45, 52, 59, 66, 73], 38) := by decide +kernel
theorem dX2_line_204 : decode cX2_line 204 = .ok (.aload_n 0, 1) := dk_42 (dk_at dksX2_line_8 0 rfl rfl)
theorem dX2_line_205 : decode cX2_line 205 = .ok (.invokevirtual 151, 3) := dk_182 0 151 (dk_at dksX2_line_8 1 rfl rfl)
theorem dX2_line_208 : decode cX2_line 208 = .ok (.goto 44, 3) := dk_167 0 44 (dk_at dksX2_line_8 4 rfl rfl)
theorem dX2_line_211 : decode cX2_line 211 = .ok (.aload_n 0, 1) := dk_42 (dk_at dksX2_line_8 7 rfl rfl)
theorem dX2_line_212 : decode cX2_line 212 = .ok (.invokevirtual 154, 3) := dk_182 0 154 (dk_at dksX2_line_8 8 rfl rfl)
theorem dX2_line_215 : decode cX2_line 215 = .ok (.goto 37, 3) := dk_167 0 37 (dk_at dksX2_line_8 11 rfl rfl)
theorem dX2_line_218 : decode cX2_line 218 = .ok (.aload_n 0, 1) := dk_42 (dk_at dksX2_line_8 14 rfl rfl)
theorem dX2_line_219 : decode cX2_line 219 = .ok (.invokevirtual 156, 3) := dk_182 0 156 (dk_at dksX2_line_8 15 rfl rfl)
theorem dX2_line_222 : decode cX2_line 222 = .ok (.goto 30, 3) := dk_167 0 30 (dk_at dksX2_line_8 18 rfl rfl)
theorem dX2_line_225 : decode cX2_line 225 = .ok (.aload_n 0, 1) := dk_42 (dk_at dksX2_line_8 21 rfl rfl)
theorem dX2_line_226 : decode cX2_line 226 = .ok (.invokevirtual 158, 3) := dk_182 0 158 (dk_at dksX2_line_9 0 rfl rfl)
theorem dX2_line_229 : decode cX2_line 229 = .ok (.goto 23, 3) := dk_167 0 23 (dk_at dksX2_line_9 3 rfl rfl)
theorem dX2_line_232 : decode cX2_line 232 = .ok (.aload_n 0, 1) := dk_42 (dk_at dksX2_line_9 6 rfl rfl)
theorem dX2_line_233 : decode cX2_line 233 = .ok (.invokevirtual 160, 3) := dk_182 0 160 (dk_at dksX2_line_9 7 rfl rfl)
theorem dX2_line_236 : decode cX2_line 236 = .ok (.goto 16, 3) := dk_167 0 16 (dk_at dksX2_line_9 10 rfl rfl)
theorem dX2_line_239 : decode cX2_line 239 = .ok (.aload_n 0, 1) := dk_42 (dk_at dksX2_line_9 13 rfl rfl)
theorem dX2_line_240 : decode cX2_line 240 = .ok (.invokevirtual 162, 3) := dk_182 0 162 (dk_at dksX2_line_9 14 rfl rfl)
theorem dX2_line_243 : decode cX2_line 243 = .ok (.goto 9, 3) := dk_167 0 9 (dk_at dksX2_line_9 17 rfl rfl)
theorem dX2_line_246 : decode cX2_line 246 = .ok (.aload_n 0, 1) := dk_42 (dk_at dksX2_line_9 20 rfl rfl)
theorem dX2_line_247 : decode cX2_line 247 = .ok (.iconst 1, 1) := dk_4 (dk_at dksX2_line_9 21 rfl rfl)
theorem dX2_line_248 : decode cX2_line 248 = .ok (.invokevirtual 82, 3) := dk_182 0 82 (dk_at dksX2_line_10 0 rfl rfl)
theorem dX2_line_251 : decode cX2_line 251 = .ok (.athrow, 1) := dk_191 (dk_at dksX2_line_10 3 rfl rfl)
theorem dX2_line_252 : decode cX2_line 252 = .ok (.return_, 1) := dk_177 (dk_at dksX2_line_10 4 rfl rfl)
abbrev cX2_fail : ByteArray := prog_10_method_2_code
def yX2_fail : MethodName := ⟨RX2, "fail", "(I)LRainWalk$Refused;"⟩
def dkwX2_fail_0 : List UInt8 := [42, 180, 0, 12, 27, 42, 180, 0, 26, 182, 0, 30, 176]
abbrev dktX2_fail_0 : List UInt8 := dkwX2_fail_0 ++ []
theorem dksX2_fail_0 : cX2_fail.data.toList.drop 0 = dktX2_fail_0 := by decide +kernel
theorem dX2_fail_0 : decode cX2_fail 0 = .ok (.aload_n 0, 1) := dk_42 (dk_at dksX2_fail_0 0 rfl rfl)
theorem dX2_fail_1 : decode cX2_fail 1 = .ok (.getfield 12, 3) := dk_180 0 12 (dk_at dksX2_fail_0 1 rfl rfl)
theorem dX2_fail_4 : decode cX2_fail 4 = .ok (.iload_n 1, 1) := dk_27 (dk_at dksX2_fail_0 4 rfl rfl)
theorem dX2_fail_5 : decode cX2_fail 5 = .ok (.aload_n 0, 1) := dk_42 (dk_at dksX2_fail_0 5 rfl rfl)
theorem dX2_fail_6 : decode cX2_fail 6 = .ok (.getfield 26, 3) := dk_180 0 26 (dk_at dksX2_fail_0 6 rfl rfl)
theorem dX2_fail_9 : decode cX2_fail 9 = .ok (.invokevirtual 30, 3) := dk_182 0 30 (dk_at dksX2_fail_0 9 rfl rfl)
theorem dX2_fail_12 : decode cX2_fail 12 = .ok (.areturn, 1) := dk_176 (dk_at dksX2_fail_0 12 rfl rfl)
abbrev cX2_worldLine : ByteArray := prog_10_method_18_code
def yX2_worldLine : MethodName := ⟨RX2, "worldLine", "()V"⟩
def dkwX2_worldLine_1 : List UInt8 := [42, 18, 164, 8, 16, 60, 182, 0, 165, 181, 0, 138, 177]
abbrev dktX2_worldLine_1 : List UInt8 := dkwX2_worldLine_1 ++ []
def dkwX2_worldLine_0 : List UInt8 := [42, 180, 0, 111, 180, 0, 138, 158, 0, 9, 42, 6, 182, 0, 82, 191, 42, 182, 0, 75, 42, 180, 0, 111]
abbrev dktX2_worldLine_0 : List UInt8 := dkwX2_worldLine_0 ++ dktX2_worldLine_1
theorem dksX2_worldLine_0 : cX2_worldLine.data.toList.drop 0 = dktX2_worldLine_0 := by decide +kernel
theorem dksX2_worldLine_1 : cX2_worldLine.data.toList.drop 24 = dktX2_worldLine_1 := dk_seg dksX2_worldLine_0 24 rfl rfl
theorem dX2_worldLine_0 : decode cX2_worldLine 0 = .ok (.aload_n 0, 1) := dk_42 (dk_at dksX2_worldLine_0 0 rfl rfl)
theorem dX2_worldLine_1 : decode cX2_worldLine 1 = .ok (.getfield 111, 3) := dk_180 0 111 (dk_at dksX2_worldLine_0 1 rfl rfl)
theorem dX2_worldLine_4 : decode cX2_worldLine 4 = .ok (.getfield 138, 3) := dk_180 0 138 (dk_at dksX2_worldLine_0 4 rfl rfl)
theorem dX2_worldLine_7 : decode cX2_worldLine 7 = .ok (.ifCond .le 9, 3) := dk_158 0 9 (dk_at dksX2_worldLine_0 7 rfl rfl)
theorem dX2_worldLine_10 : decode cX2_worldLine 10 = .ok (.aload_n 0, 1) := dk_42 (dk_at dksX2_worldLine_0 10 rfl rfl)
theorem dX2_worldLine_11 : decode cX2_worldLine 11 = .ok (.iconst 3, 1) := dk_6 (dk_at dksX2_worldLine_0 11 rfl rfl)
theorem dX2_worldLine_12 : decode cX2_worldLine 12 = .ok (.invokevirtual 82, 3) := dk_182 0 82 (dk_at dksX2_worldLine_0 12 rfl rfl)
theorem dX2_worldLine_15 : decode cX2_worldLine 15 = .ok (.athrow, 1) := dk_191 (dk_at dksX2_worldLine_0 15 rfl rfl)
theorem dX2_worldLine_16 : decode cX2_worldLine 16 = .ok (.aload_n 0, 1) := dk_42 (dk_at dksX2_worldLine_0 16 rfl rfl)
theorem dX2_worldLine_17 : decode cX2_worldLine 17 = .ok (.invokevirtual 75, 3) := dk_182 0 75 (dk_at dksX2_worldLine_0 17 rfl rfl)
theorem dX2_worldLine_20 : decode cX2_worldLine 20 = .ok (.aload_n 0, 1) := dk_42 (dk_at dksX2_worldLine_0 20 rfl rfl)
theorem dX2_worldLine_21 : decode cX2_worldLine 21 = .ok (.getfield 111, 3) := dk_180 0 111 (dk_at dksX2_worldLine_0 21 rfl rfl)
theorem dX2_worldLine_24 : decode cX2_worldLine 24 = .ok (.aload_n 0, 1) := dk_42 (dk_at dksX2_worldLine_1 0 rfl rfl)
theorem dX2_worldLine_25 : decode cX2_worldLine 25 = .ok (.ldc 164, 2) := dk_18 164 (dk_at dksX2_worldLine_1 1 rfl rfl)
theorem dX2_worldLine_27 : decode cX2_worldLine 27 = .ok (.iconst 5, 1) := dk_8 (dk_at dksX2_worldLine_1 3 rfl rfl)
theorem dX2_worldLine_28 : decode cX2_worldLine 28 = .ok (.bipush 60, 2) := dk_16 60 (dk_at dksX2_worldLine_1 4 rfl rfl)
theorem dX2_worldLine_30 : decode cX2_worldLine 30 = .ok (.invokevirtual 165, 3) := dk_182 0 165 (dk_at dksX2_worldLine_1 6 rfl rfl)
theorem dX2_worldLine_33 : decode cX2_worldLine 33 = .ok (.putfield 138, 3) := dk_181 0 138 (dk_at dksX2_worldLine_1 9 rfl rfl)
theorem dX2_worldLine_36 : decode cX2_worldLine 36 = .ok (.return_, 1) := dk_177 (dk_at dksX2_worldLine_1 12 rfl rfl)
abbrev cX2_after : ByteArray := prog_10_method_13_code
def yX2_after : MethodName := ⟨RX2, "after", "(Ljava/lang/String;II)I"⟩
def dkwX2_after_0 : List UInt8 := [42, 43, 182, 0, 122, 42, 28, 29, 182, 0, 126, 172]
abbrev dktX2_after_0 : List UInt8 := dkwX2_after_0 ++ []
theorem dksX2_after_0 : cX2_after.data.toList.drop 0 = dktX2_after_0 := by decide +kernel
theorem dX2_after_0 : decode cX2_after 0 = .ok (.aload_n 0, 1) := dk_42 (dk_at dksX2_after_0 0 rfl rfl)
theorem dX2_after_1 : decode cX2_after 1 = .ok (.aload_n 1, 1) := dk_43 (dk_at dksX2_after_0 1 rfl rfl)
theorem dX2_after_2 : decode cX2_after 2 = .ok (.invokevirtual 122, 3) := dk_182 0 122 (dk_at dksX2_after_0 2 rfl rfl)
theorem dX2_after_5 : decode cX2_after 5 = .ok (.aload_n 0, 1) := dk_42 (dk_at dksX2_after_0 5 rfl rfl)
theorem dX2_after_6 : decode cX2_after 6 = .ok (.iload_n 2, 1) := dk_28 (dk_at dksX2_after_0 6 rfl rfl)
theorem dX2_after_7 : decode cX2_after 7 = .ok (.iload_n 3, 1) := dk_29 (dk_at dksX2_after_0 7 rfl rfl)
theorem dX2_after_8 : decode cX2_after 8 = .ok (.invokevirtual 126, 3) := dk_182 0 126 (dk_at dksX2_after_0 8 rfl rfl)
theorem dX2_after_11 : decode cX2_after 11 = .ok (.ireturn, 1) := dk_172 (dk_at dksX2_after_0 11 rfl rfl)
abbrev cX2_must : ByteArray := prog_10_method_8_code
def yX2_must : MethodName := ⟨RX2, "must", "(Ljava/lang/String;)V"⟩
def dkwX2_must_0 : List UInt8 := [42, 43, 182, 0, 78, 154, 0, 9, 42, 4, 182, 0, 82, 191, 177]
abbrev dktX2_must_0 : List UInt8 := dkwX2_must_0 ++ []
theorem dksX2_must_0 : cX2_must.data.toList.drop 0 = dktX2_must_0 := by decide +kernel
theorem dX2_must_0 : decode cX2_must 0 = .ok (.aload_n 0, 1) := dk_42 (dk_at dksX2_must_0 0 rfl rfl)
theorem dX2_must_1 : decode cX2_must 1 = .ok (.aload_n 1, 1) := dk_43 (dk_at dksX2_must_0 1 rfl rfl)
theorem dX2_must_2 : decode cX2_must 2 = .ok (.invokevirtual 78, 3) := dk_182 0 78 (dk_at dksX2_must_0 2 rfl rfl)
theorem dX2_must_5 : decode cX2_must 5 = .ok (.ifCond .ne 9, 3) := dk_154 0 9 (dk_at dksX2_must_0 5 rfl rfl)
theorem dX2_must_8 : decode cX2_must 8 = .ok (.aload_n 0, 1) := dk_42 (dk_at dksX2_must_0 8 rfl rfl)
theorem dX2_must_9 : decode cX2_must 9 = .ok (.iconst 1, 1) := dk_4 (dk_at dksX2_must_0 9 rfl rfl)
theorem dX2_must_10 : decode cX2_must 10 = .ok (.invokevirtual 82, 3) := dk_182 0 82 (dk_at dksX2_must_0 10 rfl rfl)
theorem dX2_must_13 : decode cX2_must 13 = .ok (.athrow, 1) := dk_191 (dk_at dksX2_must_0 13 rfl rfl)
theorem dX2_must_14 : decode cX2_must 14 = .ok (.return_, 1) := dk_177 (dk_at dksX2_must_0 14 rfl rfl)
abbrev cX2_takes : ByteArray := prog_10_method_7_code
def yX2_takes : MethodName := ⟨RX2, "takes", "(Ljava/lang/String;)Z"⟩
def dkwX2_takes_1 : List UInt8 := [182, 0, 75, 4, 172]
abbrev dktX2_takes_1 : List UInt8 := dkwX2_takes_1 ++ []
def dkwX2_takes_0 : List UInt8 := [42, 180, 0, 47, 5, 160, 0, 14, 42, 180, 0, 61, 43, 182, 0, 71, 154, 0, 5, 3, 172, 42]
abbrev dktX2_takes_0 : List UInt8 := dkwX2_takes_0 ++ dktX2_takes_1
theorem dksX2_takes_0 : cX2_takes.data.toList.drop 0 = dktX2_takes_0 := by decide +kernel
theorem dksX2_takes_1 : cX2_takes.data.toList.drop 22 = dktX2_takes_1 := dk_seg dksX2_takes_0 22 rfl rfl
theorem dX2_takes_0 : decode cX2_takes 0 = .ok (.aload_n 0, 1) := dk_42 (dk_at dksX2_takes_0 0 rfl rfl)
theorem dX2_takes_1 : decode cX2_takes 1 = .ok (.getfield 47, 3) := dk_180 0 47 (dk_at dksX2_takes_0 1 rfl rfl)
theorem dX2_takes_4 : decode cX2_takes 4 = .ok (.iconst 2, 1) := dk_5 (dk_at dksX2_takes_0 4 rfl rfl)
theorem dX2_takes_5 : decode cX2_takes 5 = .ok (.if_icmp .ne 14, 3) := dk_160 0 14 (dk_at dksX2_takes_0 5 rfl rfl)
theorem dX2_takes_8 : decode cX2_takes 8 = .ok (.aload_n 0, 1) := dk_42 (dk_at dksX2_takes_0 8 rfl rfl)
theorem dX2_takes_9 : decode cX2_takes 9 = .ok (.getfield 61, 3) := dk_180 0 61 (dk_at dksX2_takes_0 9 rfl rfl)
theorem dX2_takes_12 : decode cX2_takes 12 = .ok (.aload_n 1, 1) := dk_43 (dk_at dksX2_takes_0 12 rfl rfl)
theorem dX2_takes_13 : decode cX2_takes 13 = .ok (.invokevirtual 71, 3) := dk_182 0 71 (dk_at dksX2_takes_0 13 rfl rfl)
theorem dX2_takes_16 : decode cX2_takes 16 = .ok (.ifCond .ne 5, 3) := dk_154 0 5 (dk_at dksX2_takes_0 16 rfl rfl)
theorem dX2_takes_19 : decode cX2_takes 19 = .ok (.iconst 0, 1) := dk_3 (dk_at dksX2_takes_0 19 rfl rfl)
theorem dX2_takes_20 : decode cX2_takes 20 = .ok (.ireturn, 1) := dk_172 (dk_at dksX2_takes_0 20 rfl rfl)
theorem dX2_takes_21 : decode cX2_takes 21 = .ok (.aload_n 0, 1) := dk_42 (dk_at dksX2_takes_0 21 rfl rfl)
theorem dX2_takes_22 : decode cX2_takes 22 = .ok (.invokevirtual 75, 3) := dk_182 0 75 (dk_at dksX2_takes_1 0 rfl rfl)
theorem dX2_takes_25 : decode cX2_takes 25 = .ok (.iconst 1, 1) := dk_4 (dk_at dksX2_takes_1 3 rfl rfl)
theorem dX2_takes_26 : decode cX2_takes 26 = .ok (.ireturn, 1) := dk_172 (dk_at dksX2_takes_1 4 rfl rfl)
abbrev cX2_number : ByteArray := prog_10_method_12_code
def yX2_number : MethodName := ⟨RX2, "number", "(II)I"⟩
def dkwX2_number_1 : List UInt8 := [154, 0, 9, 42, 7, 182, 0, 82, 191, 42, 180, 0, 68, 62, 42, 182, 0, 75, 29, 172]
abbrev dktX2_number_1 : List UInt8 := dkwX2_number_1 ++ []
def dkwX2_number_0 : List UInt8 := [42, 180, 0, 47, 6, 159, 0, 9, 42, 4, 182, 0, 82, 191, 42, 180, 0, 68, 27, 28, 184, 0, 36]
abbrev dktX2_number_0 : List UInt8 := dkwX2_number_0 ++ dktX2_number_1
theorem dksX2_number_0 : cX2_number.data.toList.drop 0 = dktX2_number_0 := by decide +kernel
theorem dksX2_number_1 : cX2_number.data.toList.drop 23 = dktX2_number_1 := dk_seg dksX2_number_0 23 rfl rfl
theorem dX2_number_0 : decode cX2_number 0 = .ok (.aload_n 0, 1) := dk_42 (dk_at dksX2_number_0 0 rfl rfl)
theorem dX2_number_1 : decode cX2_number 1 = .ok (.getfield 47, 3) := dk_180 0 47 (dk_at dksX2_number_0 1 rfl rfl)
theorem dX2_number_4 : decode cX2_number 4 = .ok (.iconst 3, 1) := dk_6 (dk_at dksX2_number_0 4 rfl rfl)
theorem dX2_number_5 : decode cX2_number 5 = .ok (.if_icmp .eq 9, 3) := dk_159 0 9 (dk_at dksX2_number_0 5 rfl rfl)
theorem dX2_number_8 : decode cX2_number 8 = .ok (.aload_n 0, 1) := dk_42 (dk_at dksX2_number_0 8 rfl rfl)
theorem dX2_number_9 : decode cX2_number 9 = .ok (.iconst 1, 1) := dk_4 (dk_at dksX2_number_0 9 rfl rfl)
theorem dX2_number_10 : decode cX2_number 10 = .ok (.invokevirtual 82, 3) := dk_182 0 82 (dk_at dksX2_number_0 10 rfl rfl)
theorem dX2_number_13 : decode cX2_number 13 = .ok (.athrow, 1) := dk_191 (dk_at dksX2_number_0 13 rfl rfl)
theorem dX2_number_14 : decode cX2_number 14 = .ok (.aload_n 0, 1) := dk_42 (dk_at dksX2_number_0 14 rfl rfl)
theorem dX2_number_15 : decode cX2_number 15 = .ok (.getfield 68, 3) := dk_180 0 68 (dk_at dksX2_number_0 15 rfl rfl)
theorem dX2_number_18 : decode cX2_number 18 = .ok (.iload_n 1, 1) := dk_27 (dk_at dksX2_number_0 18 rfl rfl)
theorem dX2_number_19 : decode cX2_number 19 = .ok (.iload_n 2, 1) := dk_28 (dk_at dksX2_number_0 19 rfl rfl)
theorem dX2_number_20 : decode cX2_number 20 = .ok (.invokestatic 36, 3) := dk_184 0 36 (dk_at dksX2_number_0 20 rfl rfl)
theorem dX2_number_23 : decode cX2_number 23 = .ok (.ifCond .ne 9, 3) := dk_154 0 9 (dk_at dksX2_number_1 0 rfl rfl)
theorem dX2_number_26 : decode cX2_number 26 = .ok (.aload_n 0, 1) := dk_42 (dk_at dksX2_number_1 3 rfl rfl)
theorem dX2_number_27 : decode cX2_number 27 = .ok (.iconst 4, 1) := dk_7 (dk_at dksX2_number_1 4 rfl rfl)
theorem dX2_number_28 : decode cX2_number 28 = .ok (.invokevirtual 82, 3) := dk_182 0 82 (dk_at dksX2_number_1 5 rfl rfl)
theorem dX2_number_31 : decode cX2_number 31 = .ok (.athrow, 1) := dk_191 (dk_at dksX2_number_1 8 rfl rfl)
theorem dX2_number_32 : decode cX2_number 32 = .ok (.aload_n 0, 1) := dk_42 (dk_at dksX2_number_1 9 rfl rfl)
theorem dX2_number_33 : decode cX2_number 33 = .ok (.getfield 68, 3) := dk_180 0 68 (dk_at dksX2_number_1 10 rfl rfl)
theorem dX2_number_36 : decode cX2_number 36 = .ok (.istore_n 3, 1) := dk_62 (dk_at dksX2_number_1 13 rfl rfl)
theorem dX2_number_37 : decode cX2_number 37 = .ok (.aload_n 0, 1) := dk_42 (dk_at dksX2_number_1 14 rfl rfl)
theorem dX2_number_38 : decode cX2_number 38 = .ok (.invokevirtual 75, 3) := dk_182 0 75 (dk_at dksX2_number_1 15 rfl rfl)
theorem dX2_number_41 : decode cX2_number 41 = .ok (.iload_n 3, 1) := dk_29 (dk_at dksX2_number_1 18 rfl rfl)
theorem dX2_number_42 : decode cX2_number 42 = .ok (.ireturn, 1) := dk_172 (dk_at dksX2_number_1 19 rfl rfl)
abbrev cX2_rain : ByteArray := prog_10_method_19_code
def yX2_rain : MethodName := ⟨RX2, "rain", "()V"⟩
def dkwX2_rain_4 : List UInt8 := [83, 42, 180, 0, 111, 89, 180, 0, 169, 4, 96, 181, 0, 169, 177]
abbrev dktX2_rain_4 : List UInt8 := dkwX2_rain_4 ++ []
def dkwX2_rain_3 : List UInt8 := [180, 0, 169, 187, 0, 189, 89, 27, 28, 29, 21, 4, 42, 18, 191, 3, 16, 100, 182, 0, 165, 183, 0, 193]
abbrev dktX2_rain_3 : List UInt8 := dkwX2_rain_3 ++ dktX2_rain_4
def dkwX2_rain_2 : List UInt8 := [182, 0, 182, 62, 42, 3, 16, 9, 182, 0, 126, 54, 4, 42, 180, 0, 111, 180, 0, 185, 42, 180, 0, 111]
abbrev dktX2_rain_2 : List UInt8 := dkwX2_rain_2 ++ dktX2_rain_3
def dkwX2_rain_1 : List UInt8 := [3, 16, 9, 182, 0, 165, 60, 42, 18, 178, 4, 16, 9, 182, 0, 165, 61, 42, 18, 180, 182, 0, 122, 42]
abbrev dktX2_rain_1 : List UInt8 := dkwX2_rain_1 ++ dktX2_rain_2
def dkwX2_rain_0 : List UInt8 := [42, 42, 180, 0, 111, 180, 0, 169, 16, 6, 162, 0, 7, 4, 167, 0, 4, 3, 182, 0, 172, 42, 18, 176]
abbrev dktX2_rain_0 : List UInt8 := dkwX2_rain_0 ++ dktX2_rain_1
theorem dksX2_rain_0 : cX2_rain.data.toList.drop 0 = dktX2_rain_0 := by decide +kernel
theorem dksX2_rain_1 : cX2_rain.data.toList.drop 24 = dktX2_rain_1 := dk_seg dksX2_rain_0 24 rfl rfl
theorem dksX2_rain_2 : cX2_rain.data.toList.drop 48 = dktX2_rain_2 := dk_seg dksX2_rain_1 24 rfl rfl
theorem dksX2_rain_3 : cX2_rain.data.toList.drop 72 = dktX2_rain_3 := dk_seg dksX2_rain_2 24 rfl rfl
theorem dksX2_rain_4 : cX2_rain.data.toList.drop 96 = dktX2_rain_4 := dk_seg dksX2_rain_3 24 rfl rfl
theorem dX2_rain_0 : decode cX2_rain 0 = .ok (.aload_n 0, 1) := dk_42 (dk_at dksX2_rain_0 0 rfl rfl)
theorem dX2_rain_1 : decode cX2_rain 1 = .ok (.aload_n 0, 1) := dk_42 (dk_at dksX2_rain_0 1 rfl rfl)
theorem dX2_rain_2 : decode cX2_rain 2 = .ok (.getfield 111, 3) := dk_180 0 111 (dk_at dksX2_rain_0 2 rfl rfl)
theorem dX2_rain_5 : decode cX2_rain 5 = .ok (.getfield 169, 3) := dk_180 0 169 (dk_at dksX2_rain_0 5 rfl rfl)
theorem dX2_rain_8 : decode cX2_rain 8 = .ok (.bipush 6, 2) := dk_16 6 (dk_at dksX2_rain_0 8 rfl rfl)
theorem dX2_rain_10 : decode cX2_rain 10 = .ok (.if_icmp .ge 7, 3) := dk_162 0 7 (dk_at dksX2_rain_0 10 rfl rfl)
theorem dX2_rain_13 : decode cX2_rain 13 = .ok (.iconst 1, 1) := dk_4 (dk_at dksX2_rain_0 13 rfl rfl)
theorem dX2_rain_14 : decode cX2_rain 14 = .ok (.goto 4, 3) := dk_167 0 4 (dk_at dksX2_rain_0 14 rfl rfl)
theorem dX2_rain_17 : decode cX2_rain 17 = .ok (.iconst 0, 1) := dk_3 (dk_at dksX2_rain_0 17 rfl rfl)
theorem dX2_rain_18 : decode cX2_rain 18 = .ok (.invokevirtual 172, 3) := dk_182 0 172 (dk_at dksX2_rain_0 18 rfl rfl)
theorem dX2_rain_21 : decode cX2_rain 21 = .ok (.aload_n 0, 1) := dk_42 (dk_at dksX2_rain_0 21 rfl rfl)
theorem dX2_rain_22 : decode cX2_rain 22 = .ok (.ldc 176, 2) := dk_18 176 (dk_at dksX2_rain_0 22 rfl rfl)
theorem dX2_rain_24 : decode cX2_rain 24 = .ok (.iconst 0, 1) := dk_3 (dk_at dksX2_rain_1 0 rfl rfl)
theorem dX2_rain_25 : decode cX2_rain 25 = .ok (.bipush 9, 2) := dk_16 9 (dk_at dksX2_rain_1 1 rfl rfl)
theorem dX2_rain_27 : decode cX2_rain 27 = .ok (.invokevirtual 165, 3) := dk_182 0 165 (dk_at dksX2_rain_1 3 rfl rfl)
theorem dX2_rain_30 : decode cX2_rain 30 = .ok (.istore_n 1, 1) := dk_60 (dk_at dksX2_rain_1 6 rfl rfl)
theorem dX2_rain_31 : decode cX2_rain 31 = .ok (.aload_n 0, 1) := dk_42 (dk_at dksX2_rain_1 7 rfl rfl)
theorem dX2_rain_32 : decode cX2_rain 32 = .ok (.ldc 178, 2) := dk_18 178 (dk_at dksX2_rain_1 8 rfl rfl)
theorem dX2_rain_34 : decode cX2_rain 34 = .ok (.iconst 1, 1) := dk_4 (dk_at dksX2_rain_1 10 rfl rfl)
theorem dX2_rain_35 : decode cX2_rain 35 = .ok (.bipush 9, 2) := dk_16 9 (dk_at dksX2_rain_1 11 rfl rfl)
theorem dX2_rain_37 : decode cX2_rain 37 = .ok (.invokevirtual 165, 3) := dk_182 0 165 (dk_at dksX2_rain_1 13 rfl rfl)
theorem dX2_rain_40 : decode cX2_rain 40 = .ok (.istore_n 2, 1) := dk_61 (dk_at dksX2_rain_1 16 rfl rfl)
theorem dX2_rain_41 : decode cX2_rain 41 = .ok (.aload_n 0, 1) := dk_42 (dk_at dksX2_rain_1 17 rfl rfl)
theorem dX2_rain_42 : decode cX2_rain 42 = .ok (.ldc 180, 2) := dk_18 180 (dk_at dksX2_rain_1 18 rfl rfl)
theorem dX2_rain_44 : decode cX2_rain 44 = .ok (.invokevirtual 122, 3) := dk_182 0 122 (dk_at dksX2_rain_1 20 rfl rfl)
theorem dX2_rain_47 : decode cX2_rain 47 = .ok (.aload_n 0, 1) := dk_42 (dk_at dksX2_rain_1 23 rfl rfl)
theorem dX2_rain_48 : decode cX2_rain 48 = .ok (.invokevirtual 182, 3) := dk_182 0 182 (dk_at dksX2_rain_2 0 rfl rfl)
theorem dX2_rain_51 : decode cX2_rain 51 = .ok (.istore_n 3, 1) := dk_62 (dk_at dksX2_rain_2 3 rfl rfl)
theorem dX2_rain_52 : decode cX2_rain 52 = .ok (.aload_n 0, 1) := dk_42 (dk_at dksX2_rain_2 4 rfl rfl)
theorem dX2_rain_53 : decode cX2_rain 53 = .ok (.iconst 0, 1) := dk_3 (dk_at dksX2_rain_2 5 rfl rfl)
theorem dX2_rain_54 : decode cX2_rain 54 = .ok (.bipush 9, 2) := dk_16 9 (dk_at dksX2_rain_2 6 rfl rfl)
theorem dX2_rain_56 : decode cX2_rain 56 = .ok (.invokevirtual 126, 3) := dk_182 0 126 (dk_at dksX2_rain_2 8 rfl rfl)
theorem dX2_rain_59 : decode cX2_rain 59 = .ok (.istore 4, 2) := dk_54 4 (dk_at dksX2_rain_2 11 rfl rfl)
theorem dX2_rain_61 : decode cX2_rain 61 = .ok (.aload_n 0, 1) := dk_42 (dk_at dksX2_rain_2 13 rfl rfl)
theorem dX2_rain_62 : decode cX2_rain 62 = .ok (.getfield 111, 3) := dk_180 0 111 (dk_at dksX2_rain_2 14 rfl rfl)
theorem dX2_rain_65 : decode cX2_rain 65 = .ok (.getfield 185, 3) := dk_180 0 185 (dk_at dksX2_rain_2 17 rfl rfl)
theorem dX2_rain_68 : decode cX2_rain 68 = .ok (.aload_n 0, 1) := dk_42 (dk_at dksX2_rain_2 20 rfl rfl)
theorem dX2_rain_69 : decode cX2_rain 69 = .ok (.getfield 111, 3) := dk_180 0 111 (dk_at dksX2_rain_2 21 rfl rfl)
theorem dX2_rain_72 : decode cX2_rain 72 = .ok (.getfield 169, 3) := dk_180 0 169 (dk_at dksX2_rain_3 0 rfl rfl)
theorem dX2_rain_75 : decode cX2_rain 75 = .ok (.new 189, 3) := dk_187 0 189 (dk_at dksX2_rain_3 3 rfl rfl)
theorem dX2_rain_78 : decode cX2_rain 78 = .ok (.dup, 1) := dk_89 (dk_at dksX2_rain_3 6 rfl rfl)
theorem dX2_rain_79 : decode cX2_rain 79 = .ok (.iload_n 1, 1) := dk_27 (dk_at dksX2_rain_3 7 rfl rfl)
theorem dX2_rain_80 : decode cX2_rain 80 = .ok (.iload_n 2, 1) := dk_28 (dk_at dksX2_rain_3 8 rfl rfl)
theorem dX2_rain_81 : decode cX2_rain 81 = .ok (.iload_n 3, 1) := dk_29 (dk_at dksX2_rain_3 9 rfl rfl)
theorem dX2_rain_82 : decode cX2_rain 82 = .ok (.iload 4, 2) := dk_21 4 (dk_at dksX2_rain_3 10 rfl rfl)
theorem dX2_rain_84 : decode cX2_rain 84 = .ok (.aload_n 0, 1) := dk_42 (dk_at dksX2_rain_3 12 rfl rfl)
theorem dX2_rain_85 : decode cX2_rain 85 = .ok (.ldc 191, 2) := dk_18 191 (dk_at dksX2_rain_3 13 rfl rfl)
theorem dX2_rain_87 : decode cX2_rain 87 = .ok (.iconst 0, 1) := dk_3 (dk_at dksX2_rain_3 15 rfl rfl)
theorem dX2_rain_88 : decode cX2_rain 88 = .ok (.bipush 100, 2) := dk_16 100 (dk_at dksX2_rain_3 16 rfl rfl)
theorem dX2_rain_90 : decode cX2_rain 90 = .ok (.invokevirtual 165, 3) := dk_182 0 165 (dk_at dksX2_rain_3 18 rfl rfl)
theorem dX2_rain_93 : decode cX2_rain 93 = .ok (.invokespecial 193, 3) := dk_183 0 193 (dk_at dksX2_rain_3 21 rfl rfl)
theorem dX2_rain_96 : decode cX2_rain 96 = .ok (.aastore, 1) := dk_83 (dk_at dksX2_rain_4 0 rfl rfl)
theorem dX2_rain_97 : decode cX2_rain 97 = .ok (.aload_n 0, 1) := dk_42 (dk_at dksX2_rain_4 1 rfl rfl)
theorem dX2_rain_98 : decode cX2_rain 98 = .ok (.getfield 111, 3) := dk_180 0 111 (dk_at dksX2_rain_4 2 rfl rfl)
theorem dX2_rain_101 : decode cX2_rain 101 = .ok (.dup, 1) := dk_89 (dk_at dksX2_rain_4 5 rfl rfl)
theorem dX2_rain_102 : decode cX2_rain 102 = .ok (.getfield 169, 3) := dk_180 0 169 (dk_at dksX2_rain_4 6 rfl rfl)
theorem dX2_rain_105 : decode cX2_rain 105 = .ok (.iconst 1, 1) := dk_4 (dk_at dksX2_rain_4 9 rfl rfl)
theorem dX2_rain_106 : decode cX2_rain 106 = .ok (.iadd, 1) := dk_96 (dk_at dksX2_rain_4 10 rfl rfl)
theorem dX2_rain_107 : decode cX2_rain 107 = .ok (.putfield 169, 3) := dk_181 0 169 (dk_at dksX2_rain_4 11 rfl rfl)
theorem dX2_rain_110 : decode cX2_rain 110 = .ok (.return_, 1) := dk_177 (dk_at dksX2_rain_4 14 rfl rfl)
abbrev cX2_begins : ByteArray := prog_10_method_15_code
def yX2_begins : MethodName := ⟨RX2, "begins", "(Z)V"⟩
def dkwX2_begins_1 : List UInt8 := [182, 0, 82, 191, 42, 182, 0, 75, 177]
abbrev dktX2_begins_1 : List UInt8 := dkwX2_begins_1 ++ []
def dkwX2_begins_0 : List UInt8 := [27, 154, 0, 9, 42, 8, 182, 0, 82, 191, 42, 180, 0, 111, 180, 0, 138, 154, 0, 10, 42, 16, 6]
abbrev dktX2_begins_0 : List UInt8 := dkwX2_begins_0 ++ dktX2_begins_1
theorem dksX2_begins_0 : cX2_begins.data.toList.drop 0 = dktX2_begins_0 := by decide +kernel
theorem dksX2_begins_1 : cX2_begins.data.toList.drop 23 = dktX2_begins_1 := dk_seg dksX2_begins_0 23 rfl rfl
theorem dX2_begins_0 : decode cX2_begins 0 = .ok (.iload_n 1, 1) := dk_27 (dk_at dksX2_begins_0 0 rfl rfl)
theorem dX2_begins_1 : decode cX2_begins 1 = .ok (.ifCond .ne 9, 3) := dk_154 0 9 (dk_at dksX2_begins_0 1 rfl rfl)
theorem dX2_begins_4 : decode cX2_begins 4 = .ok (.aload_n 0, 1) := dk_42 (dk_at dksX2_begins_0 4 rfl rfl)
theorem dX2_begins_5 : decode cX2_begins 5 = .ok (.iconst 5, 1) := dk_8 (dk_at dksX2_begins_0 5 rfl rfl)
theorem dX2_begins_6 : decode cX2_begins 6 = .ok (.invokevirtual 82, 3) := dk_182 0 82 (dk_at dksX2_begins_0 6 rfl rfl)
theorem dX2_begins_9 : decode cX2_begins 9 = .ok (.athrow, 1) := dk_191 (dk_at dksX2_begins_0 9 rfl rfl)
theorem dX2_begins_10 : decode cX2_begins 10 = .ok (.aload_n 0, 1) := dk_42 (dk_at dksX2_begins_0 10 rfl rfl)
theorem dX2_begins_11 : decode cX2_begins 11 = .ok (.getfield 111, 3) := dk_180 0 111 (dk_at dksX2_begins_0 11 rfl rfl)
theorem dX2_begins_14 : decode cX2_begins 14 = .ok (.getfield 138, 3) := dk_180 0 138 (dk_at dksX2_begins_0 14 rfl rfl)
theorem dX2_begins_17 : decode cX2_begins 17 = .ok (.ifCond .ne 10, 3) := dk_154 0 10 (dk_at dksX2_begins_0 17 rfl rfl)
theorem dX2_begins_20 : decode cX2_begins 20 = .ok (.aload_n 0, 1) := dk_42 (dk_at dksX2_begins_0 20 rfl rfl)
theorem dX2_begins_21 : decode cX2_begins 21 = .ok (.bipush 6, 2) := dk_16 6 (dk_at dksX2_begins_0 21 rfl rfl)
theorem dX2_begins_23 : decode cX2_begins 23 = .ok (.invokevirtual 82, 3) := dk_182 0 82 (dk_at dksX2_begins_1 0 rfl rfl)
theorem dX2_begins_26 : decode cX2_begins 26 = .ok (.athrow, 1) := dk_191 (dk_at dksX2_begins_1 3 rfl rfl)
theorem dX2_begins_27 : decode cX2_begins 27 = .ok (.aload_n 0, 1) := dk_42 (dk_at dksX2_begins_1 4 rfl rfl)
theorem dX2_begins_28 : decode cX2_begins 28 = .ok (.invokevirtual 75, 3) := dk_182 0 75 (dk_at dksX2_begins_1 5 rfl rfl)
theorem dX2_begins_31 : decode cX2_begins 31 = .ok (.return_, 1) := dk_177 (dk_at dksX2_begins_1 8 rfl rfl)
abbrev cX2_side : ByteArray := prog_10_method_14_code
def yX2_side : MethodName := ⟨RX2, "side", "()I"⟩
def dkwX2_side_3 : List UInt8 := [6, 167, 0, 4, 2, 60, 27, 2, 160, 0, 9, 42, 4, 182, 0, 82, 191, 42, 182, 0, 75, 27, 172]
abbrev dktX2_side_3 : List UInt8 := dkwX2_side_3 ++ []
def dkwX2_side_2 : List UInt8 := [18, 134, 182, 0, 71, 153, 0, 7, 5, 167, 0, 20, 42, 180, 0, 61, 18, 136, 182, 0, 71, 153, 0, 7]
abbrev dktX2_side_2 : List UInt8 := dkwX2_side_2 ++ dktX2_side_3
def dkwX2_side_1 : List UInt8 := [3, 167, 0, 52, 42, 180, 0, 61, 18, 132, 182, 0, 71, 153, 0, 7, 4, 167, 0, 36, 42, 180, 0, 61]
abbrev dktX2_side_1 : List UInt8 := dkwX2_side_1 ++ dktX2_side_2
def dkwX2_side_0 : List UInt8 := [42, 180, 0, 47, 5, 159, 0, 7, 2, 167, 0, 68, 42, 180, 0, 61, 18, 130, 182, 0, 71, 153, 0, 7]
abbrev dktX2_side_0 : List UInt8 := dkwX2_side_0 ++ dktX2_side_1
theorem dksX2_side_0 : cX2_side.data.toList.drop 0 = dktX2_side_0 := by decide +kernel
theorem dksX2_side_1 : cX2_side.data.toList.drop 24 = dktX2_side_1 := dk_seg dksX2_side_0 24 rfl rfl
theorem dksX2_side_2 : cX2_side.data.toList.drop 48 = dktX2_side_2 := dk_seg dksX2_side_1 24 rfl rfl
theorem dksX2_side_3 : cX2_side.data.toList.drop 72 = dktX2_side_3 := dk_seg dksX2_side_2 24 rfl rfl
theorem dX2_side_0 : decode cX2_side 0 = .ok (.aload_n 0, 1) := dk_42 (dk_at dksX2_side_0 0 rfl rfl)
theorem dX2_side_1 : decode cX2_side 1 = .ok (.getfield 47, 3) := dk_180 0 47 (dk_at dksX2_side_0 1 rfl rfl)
theorem dX2_side_4 : decode cX2_side 4 = .ok (.iconst 2, 1) := dk_5 (dk_at dksX2_side_0 4 rfl rfl)
theorem dX2_side_5 : decode cX2_side 5 = .ok (.if_icmp .eq 7, 3) := dk_159 0 7 (dk_at dksX2_side_0 5 rfl rfl)
theorem dX2_side_8 : decode cX2_side 8 = .ok (.iconst (-1), 1) := dk_2 (dk_at dksX2_side_0 8 rfl rfl)
theorem dX2_side_9 : decode cX2_side 9 = .ok (.goto 68, 3) := dk_167 0 68 (dk_at dksX2_side_0 9 rfl rfl)
theorem dX2_side_12 : decode cX2_side 12 = .ok (.aload_n 0, 1) := dk_42 (dk_at dksX2_side_0 12 rfl rfl)
theorem dX2_side_13 : decode cX2_side 13 = .ok (.getfield 61, 3) := dk_180 0 61 (dk_at dksX2_side_0 13 rfl rfl)
theorem dX2_side_16 : decode cX2_side 16 = .ok (.ldc 130, 2) := dk_18 130 (dk_at dksX2_side_0 16 rfl rfl)
theorem dX2_side_18 : decode cX2_side 18 = .ok (.invokevirtual 71, 3) := dk_182 0 71 (dk_at dksX2_side_0 18 rfl rfl)
theorem dX2_side_21 : decode cX2_side 21 = .ok (.ifCond .eq 7, 3) := dk_153 0 7 (dk_at dksX2_side_0 21 rfl rfl)
theorem dX2_side_24 : decode cX2_side 24 = .ok (.iconst 0, 1) := dk_3 (dk_at dksX2_side_1 0 rfl rfl)
theorem dX2_side_25 : decode cX2_side 25 = .ok (.goto 52, 3) := dk_167 0 52 (dk_at dksX2_side_1 1 rfl rfl)
theorem dX2_side_28 : decode cX2_side 28 = .ok (.aload_n 0, 1) := dk_42 (dk_at dksX2_side_1 4 rfl rfl)
theorem dX2_side_29 : decode cX2_side 29 = .ok (.getfield 61, 3) := dk_180 0 61 (dk_at dksX2_side_1 5 rfl rfl)
theorem dX2_side_32 : decode cX2_side 32 = .ok (.ldc 132, 2) := dk_18 132 (dk_at dksX2_side_1 8 rfl rfl)
theorem dX2_side_34 : decode cX2_side 34 = .ok (.invokevirtual 71, 3) := dk_182 0 71 (dk_at dksX2_side_1 10 rfl rfl)
theorem dX2_side_37 : decode cX2_side 37 = .ok (.ifCond .eq 7, 3) := dk_153 0 7 (dk_at dksX2_side_1 13 rfl rfl)
theorem dX2_side_40 : decode cX2_side 40 = .ok (.iconst 1, 1) := dk_4 (dk_at dksX2_side_1 16 rfl rfl)
theorem dX2_side_41 : decode cX2_side 41 = .ok (.goto 36, 3) := dk_167 0 36 (dk_at dksX2_side_1 17 rfl rfl)
theorem dX2_side_44 : decode cX2_side 44 = .ok (.aload_n 0, 1) := dk_42 (dk_at dksX2_side_1 20 rfl rfl)
theorem dX2_side_45 : decode cX2_side 45 = .ok (.getfield 61, 3) := dk_180 0 61 (dk_at dksX2_side_1 21 rfl rfl)
theorem dX2_side_48 : decode cX2_side 48 = .ok (.ldc 134, 2) := dk_18 134 (dk_at dksX2_side_2 0 rfl rfl)
theorem dX2_side_50 : decode cX2_side 50 = .ok (.invokevirtual 71, 3) := dk_182 0 71 (dk_at dksX2_side_2 2 rfl rfl)
theorem dX2_side_53 : decode cX2_side 53 = .ok (.ifCond .eq 7, 3) := dk_153 0 7 (dk_at dksX2_side_2 5 rfl rfl)
theorem dX2_side_56 : decode cX2_side 56 = .ok (.iconst 2, 1) := dk_5 (dk_at dksX2_side_2 8 rfl rfl)
theorem dX2_side_57 : decode cX2_side 57 = .ok (.goto 20, 3) := dk_167 0 20 (dk_at dksX2_side_2 9 rfl rfl)
theorem dX2_side_60 : decode cX2_side 60 = .ok (.aload_n 0, 1) := dk_42 (dk_at dksX2_side_2 12 rfl rfl)
theorem dX2_side_61 : decode cX2_side 61 = .ok (.getfield 61, 3) := dk_180 0 61 (dk_at dksX2_side_2 13 rfl rfl)
theorem dX2_side_64 : decode cX2_side 64 = .ok (.ldc 136, 2) := dk_18 136 (dk_at dksX2_side_2 16 rfl rfl)
theorem dX2_side_66 : decode cX2_side 66 = .ok (.invokevirtual 71, 3) := dk_182 0 71 (dk_at dksX2_side_2 18 rfl rfl)
theorem dX2_side_69 : decode cX2_side 69 = .ok (.ifCond .eq 7, 3) := dk_153 0 7 (dk_at dksX2_side_2 21 rfl rfl)
theorem dX2_side_72 : decode cX2_side 72 = .ok (.iconst 3, 1) := dk_6 (dk_at dksX2_side_3 0 rfl rfl)
theorem dX2_side_73 : decode cX2_side 73 = .ok (.goto 4, 3) := dk_167 0 4 (dk_at dksX2_side_3 1 rfl rfl)
theorem dX2_side_76 : decode cX2_side 76 = .ok (.iconst (-1), 1) := dk_2 (dk_at dksX2_side_3 4 rfl rfl)
theorem dX2_side_77 : decode cX2_side 77 = .ok (.istore_n 1, 1) := dk_60 (dk_at dksX2_side_3 5 rfl rfl)
theorem dX2_side_78 : decode cX2_side 78 = .ok (.iload_n 1, 1) := dk_27 (dk_at dksX2_side_3 6 rfl rfl)
theorem dX2_side_79 : decode cX2_side 79 = .ok (.iconst (-1), 1) := dk_2 (dk_at dksX2_side_3 7 rfl rfl)
theorem dX2_side_80 : decode cX2_side 80 = .ok (.if_icmp .ne 9, 3) := dk_160 0 9 (dk_at dksX2_side_3 8 rfl rfl)
theorem dX2_side_83 : decode cX2_side 83 = .ok (.aload_n 0, 1) := dk_42 (dk_at dksX2_side_3 11 rfl rfl)
theorem dX2_side_84 : decode cX2_side 84 = .ok (.iconst 1, 1) := dk_4 (dk_at dksX2_side_3 12 rfl rfl)
theorem dX2_side_85 : decode cX2_side 85 = .ok (.invokevirtual 82, 3) := dk_182 0 82 (dk_at dksX2_side_3 13 rfl rfl)
theorem dX2_side_88 : decode cX2_side 88 = .ok (.athrow, 1) := dk_191 (dk_at dksX2_side_3 16 rfl rfl)
theorem dX2_side_89 : decode cX2_side 89 = .ok (.aload_n 0, 1) := dk_42 (dk_at dksX2_side_3 17 rfl rfl)
theorem dX2_side_90 : decode cX2_side 90 = .ok (.invokevirtual 75, 3) := dk_182 0 75 (dk_at dksX2_side_3 18 rfl rfl)
theorem dX2_side_93 : decode cX2_side 93 = .ok (.iload_n 1, 1) := dk_27 (dk_at dksX2_side_3 21 rfl rfl)
theorem dX2_side_94 : decode cX2_side 94 = .ok (.ireturn, 1) := dk_172 (dk_at dksX2_side_3 22 rfl rfl)
abbrev cX2_place : ByteArray := prog_10_method_20_code
def yX2_place : MethodName := ⟨RX2, "place", "()V"⟩
def dkwX2_place_4 : List UInt8 := [180, 0, 145, 43, 83, 42, 180, 0, 111, 89, 180, 0, 145, 4, 96, 181, 0, 145, 177]
abbrev dktX2_place_4 : List UInt8 := dkwX2_place_4 ++ []
def dkwX2_place_3 : List UInt8 := [182, 0, 126, 181, 0, 207, 43, 4, 181, 0, 210, 42, 180, 0, 111, 180, 0, 213, 42, 180, 0, 111]
abbrev dktX2_place_3 : List UInt8 := dkwX2_place_3 ++ dktX2_place_4
def dkwX2_place_2 : List UInt8 := [181, 0, 203, 43, 180, 0, 203, 154, 0, 28, 42, 18, 104, 182, 0, 78, 153, 0, 19, 43, 42, 3, 16, 9]
abbrev dktX2_place_2 : List UInt8 := dkwX2_place_2 ++ dktX2_place_3
def dkwX2_place_1 : List UInt8 := [89, 42, 182, 0, 196, 42, 180, 0, 111, 180, 0, 145, 183, 0, 200, 76, 43, 42, 18, 102, 182, 0, 78]
abbrev dktX2_place_1 : List UInt8 := dkwX2_place_1 ++ dktX2_place_2
def dkwX2_place_0 : List UInt8 := [42, 42, 180, 0, 111, 180, 0, 145, 16, 8, 162, 0, 7, 4, 167, 0, 4, 3, 182, 0, 172, 187, 0, 120]
abbrev dktX2_place_0 : List UInt8 := dkwX2_place_0 ++ dktX2_place_1
theorem dksX2_place_0 : cX2_place.data.toList.drop 0 = dktX2_place_0 := by decide +kernel
theorem dksX2_place_1 : cX2_place.data.toList.drop 24 = dktX2_place_1 := dk_seg dksX2_place_0 24 rfl rfl
theorem dksX2_place_2 : cX2_place.data.toList.drop 47 = dktX2_place_2 := dk_seg dksX2_place_1 23 rfl rfl
theorem dksX2_place_3 : cX2_place.data.toList.drop 71 = dktX2_place_3 := dk_seg dksX2_place_2 24 rfl rfl
theorem dksX2_place_4 : cX2_place.data.toList.drop 93 = dktX2_place_4 := dk_seg dksX2_place_3 22 rfl rfl
theorem dX2_place_0 : decode cX2_place 0 = .ok (.aload_n 0, 1) := dk_42 (dk_at dksX2_place_0 0 rfl rfl)
theorem dX2_place_1 : decode cX2_place 1 = .ok (.aload_n 0, 1) := dk_42 (dk_at dksX2_place_0 1 rfl rfl)
theorem dX2_place_2 : decode cX2_place 2 = .ok (.getfield 111, 3) := dk_180 0 111 (dk_at dksX2_place_0 2 rfl rfl)
theorem dX2_place_5 : decode cX2_place 5 = .ok (.getfield 145, 3) := dk_180 0 145 (dk_at dksX2_place_0 5 rfl rfl)
theorem dX2_place_8 : decode cX2_place 8 = .ok (.bipush 8, 2) := dk_16 8 (dk_at dksX2_place_0 8 rfl rfl)
theorem dX2_place_10 : decode cX2_place 10 = .ok (.if_icmp .ge 7, 3) := dk_162 0 7 (dk_at dksX2_place_0 10 rfl rfl)
theorem dX2_place_13 : decode cX2_place 13 = .ok (.iconst 1, 1) := dk_4 (dk_at dksX2_place_0 13 rfl rfl)
theorem dX2_place_14 : decode cX2_place 14 = .ok (.goto 4, 3) := dk_167 0 4 (dk_at dksX2_place_0 14 rfl rfl)
theorem dX2_place_17 : decode cX2_place 17 = .ok (.iconst 0, 1) := dk_3 (dk_at dksX2_place_0 17 rfl rfl)
theorem dX2_place_18 : decode cX2_place 18 = .ok (.invokevirtual 172, 3) := dk_182 0 172 (dk_at dksX2_place_0 18 rfl rfl)
theorem dX2_place_21 : decode cX2_place 21 = .ok (.new 120, 3) := dk_187 0 120 (dk_at dksX2_place_0 21 rfl rfl)
theorem dX2_place_24 : decode cX2_place 24 = .ok (.dup, 1) := dk_89 (dk_at dksX2_place_1 0 rfl rfl)
theorem dX2_place_25 : decode cX2_place 25 = .ok (.aload_n 0, 1) := dk_42 (dk_at dksX2_place_1 1 rfl rfl)
theorem dX2_place_26 : decode cX2_place 26 = .ok (.invokevirtual 196, 3) := dk_182 0 196 (dk_at dksX2_place_1 2 rfl rfl)
theorem dX2_place_29 : decode cX2_place 29 = .ok (.aload_n 0, 1) := dk_42 (dk_at dksX2_place_1 5 rfl rfl)
theorem dX2_place_30 : decode cX2_place 30 = .ok (.getfield 111, 3) := dk_180 0 111 (dk_at dksX2_place_1 6 rfl rfl)
theorem dX2_place_33 : decode cX2_place 33 = .ok (.getfield 145, 3) := dk_180 0 145 (dk_at dksX2_place_1 9 rfl rfl)
theorem dX2_place_36 : decode cX2_place 36 = .ok (.invokespecial 200, 3) := dk_183 0 200 (dk_at dksX2_place_1 12 rfl rfl)
theorem dX2_place_39 : decode cX2_place 39 = .ok (.astore_n 1, 1) := dk_76 (dk_at dksX2_place_1 15 rfl rfl)
theorem dX2_place_40 : decode cX2_place 40 = .ok (.aload_n 1, 1) := dk_43 (dk_at dksX2_place_1 16 rfl rfl)
theorem dX2_place_41 : decode cX2_place 41 = .ok (.aload_n 0, 1) := dk_42 (dk_at dksX2_place_1 17 rfl rfl)
theorem dX2_place_42 : decode cX2_place 42 = .ok (.ldc 102, 2) := dk_18 102 (dk_at dksX2_place_1 18 rfl rfl)
theorem dX2_place_44 : decode cX2_place 44 = .ok (.invokevirtual 78, 3) := dk_182 0 78 (dk_at dksX2_place_1 20 rfl rfl)
theorem dX2_place_47 : decode cX2_place 47 = .ok (.putfield 203, 3) := dk_181 0 203 (dk_at dksX2_place_2 0 rfl rfl)
theorem dX2_place_50 : decode cX2_place 50 = .ok (.aload_n 1, 1) := dk_43 (dk_at dksX2_place_2 3 rfl rfl)
theorem dX2_place_51 : decode cX2_place 51 = .ok (.getfield 203, 3) := dk_180 0 203 (dk_at dksX2_place_2 4 rfl rfl)
theorem dX2_place_54 : decode cX2_place 54 = .ok (.ifCond .ne 28, 3) := dk_154 0 28 (dk_at dksX2_place_2 7 rfl rfl)
theorem dX2_place_57 : decode cX2_place 57 = .ok (.aload_n 0, 1) := dk_42 (dk_at dksX2_place_2 10 rfl rfl)
theorem dX2_place_58 : decode cX2_place 58 = .ok (.ldc 104, 2) := dk_18 104 (dk_at dksX2_place_2 11 rfl rfl)
theorem dX2_place_60 : decode cX2_place 60 = .ok (.invokevirtual 78, 3) := dk_182 0 78 (dk_at dksX2_place_2 13 rfl rfl)
theorem dX2_place_63 : decode cX2_place 63 = .ok (.ifCond .eq 19, 3) := dk_153 0 19 (dk_at dksX2_place_2 16 rfl rfl)
theorem dX2_place_66 : decode cX2_place 66 = .ok (.aload_n 1, 1) := dk_43 (dk_at dksX2_place_2 19 rfl rfl)
theorem dX2_place_67 : decode cX2_place 67 = .ok (.aload_n 0, 1) := dk_42 (dk_at dksX2_place_2 20 rfl rfl)
theorem dX2_place_68 : decode cX2_place 68 = .ok (.iconst 0, 1) := dk_3 (dk_at dksX2_place_2 21 rfl rfl)
theorem dX2_place_69 : decode cX2_place 69 = .ok (.bipush 9, 2) := dk_16 9 (dk_at dksX2_place_2 22 rfl rfl)
theorem dX2_place_71 : decode cX2_place 71 = .ok (.invokevirtual 126, 3) := dk_182 0 126 (dk_at dksX2_place_3 0 rfl rfl)
theorem dX2_place_74 : decode cX2_place 74 = .ok (.putfield 207, 3) := dk_181 0 207 (dk_at dksX2_place_3 3 rfl rfl)
theorem dX2_place_77 : decode cX2_place 77 = .ok (.aload_n 1, 1) := dk_43 (dk_at dksX2_place_3 6 rfl rfl)
theorem dX2_place_78 : decode cX2_place 78 = .ok (.iconst 1, 1) := dk_4 (dk_at dksX2_place_3 7 rfl rfl)
theorem dX2_place_79 : decode cX2_place 79 = .ok (.putfield 210, 3) := dk_181 0 210 (dk_at dksX2_place_3 8 rfl rfl)
theorem dX2_place_82 : decode cX2_place 82 = .ok (.aload_n 0, 1) := dk_42 (dk_at dksX2_place_3 11 rfl rfl)
theorem dX2_place_83 : decode cX2_place 83 = .ok (.getfield 111, 3) := dk_180 0 111 (dk_at dksX2_place_3 12 rfl rfl)
theorem dX2_place_86 : decode cX2_place 86 = .ok (.getfield 213, 3) := dk_180 0 213 (dk_at dksX2_place_3 15 rfl rfl)
theorem dX2_place_89 : decode cX2_place 89 = .ok (.aload_n 0, 1) := dk_42 (dk_at dksX2_place_3 18 rfl rfl)
theorem dX2_place_90 : decode cX2_place 90 = .ok (.getfield 111, 3) := dk_180 0 111 (dk_at dksX2_place_3 19 rfl rfl)
theorem dX2_place_93 : decode cX2_place 93 = .ok (.getfield 145, 3) := dk_180 0 145 (dk_at dksX2_place_4 0 rfl rfl)
theorem dX2_place_96 : decode cX2_place 96 = .ok (.aload_n 1, 1) := dk_43 (dk_at dksX2_place_4 3 rfl rfl)
theorem dX2_place_97 : decode cX2_place 97 = .ok (.aastore, 1) := dk_83 (dk_at dksX2_place_4 4 rfl rfl)
theorem dX2_place_98 : decode cX2_place 98 = .ok (.aload_n 0, 1) := dk_42 (dk_at dksX2_place_4 5 rfl rfl)
theorem dX2_place_99 : decode cX2_place 99 = .ok (.getfield 111, 3) := dk_180 0 111 (dk_at dksX2_place_4 6 rfl rfl)
theorem dX2_place_102 : decode cX2_place 102 = .ok (.dup, 1) := dk_89 (dk_at dksX2_place_4 9 rfl rfl)
theorem dX2_place_103 : decode cX2_place 103 = .ok (.getfield 145, 3) := dk_180 0 145 (dk_at dksX2_place_4 10 rfl rfl)
theorem dX2_place_106 : decode cX2_place 106 = .ok (.iconst 1, 1) := dk_4 (dk_at dksX2_place_4 13 rfl rfl)
theorem dX2_place_107 : decode cX2_place 107 = .ok (.iadd, 1) := dk_96 (dk_at dksX2_place_4 14 rfl rfl)
theorem dX2_place_108 : decode cX2_place 108 = .ok (.putfield 145, 3) := dk_181 0 145 (dk_at dksX2_place_4 15 rfl rfl)
theorem dX2_place_111 : decode cX2_place 111 = .ok (.return_, 1) := dk_177 (dk_at dksX2_place_4 18 rfl rfl)
abbrev cX2_newName : ByteArray := prog_10_method_10_code
def yX2_newName : MethodName := ⟨RX2, "newName", "()Ljava/lang/String;"⟩
def dkwX2_newName_1 : List UInt8 := [42, 180, 0, 61, 76, 42, 182, 0, 75, 43, 176]
abbrev dktX2_newName_1 : List UInt8 := dkwX2_newName_1 ++ []
def dkwX2_newName_0 : List UInt8 := [42, 182, 0, 108, 42, 180, 0, 111, 42, 180, 0, 61, 182, 0, 114, 198, 0, 9, 42, 6, 182, 0, 82, 191]
abbrev dktX2_newName_0 : List UInt8 := dkwX2_newName_0 ++ dktX2_newName_1
theorem dksX2_newName_0 : cX2_newName.data.toList.drop 0 = dktX2_newName_0 := by decide +kernel
theorem dksX2_newName_1 : cX2_newName.data.toList.drop 24 = dktX2_newName_1 := dk_seg dksX2_newName_0 24 rfl rfl
theorem dX2_newName_0 : decode cX2_newName 0 = .ok (.aload_n 0, 1) := dk_42 (dk_at dksX2_newName_0 0 rfl rfl)
theorem dX2_newName_1 : decode cX2_newName 1 = .ok (.invokevirtual 108, 3) := dk_182 0 108 (dk_at dksX2_newName_0 1 rfl rfl)
theorem dX2_newName_4 : decode cX2_newName 4 = .ok (.aload_n 0, 1) := dk_42 (dk_at dksX2_newName_0 4 rfl rfl)
theorem dX2_newName_5 : decode cX2_newName 5 = .ok (.getfield 111, 3) := dk_180 0 111 (dk_at dksX2_newName_0 5 rfl rfl)
theorem dX2_newName_8 : decode cX2_newName 8 = .ok (.aload_n 0, 1) := dk_42 (dk_at dksX2_newName_0 8 rfl rfl)
theorem dX2_newName_9 : decode cX2_newName 9 = .ok (.getfield 61, 3) := dk_180 0 61 (dk_at dksX2_newName_0 9 rfl rfl)
theorem dX2_newName_12 : decode cX2_newName 12 = .ok (.invokevirtual 114, 3) := dk_182 0 114 (dk_at dksX2_newName_0 12 rfl rfl)
theorem dX2_newName_15 : decode cX2_newName 15 = .ok (.ifnull 9, 3) := dk_198 0 9 (dk_at dksX2_newName_0 15 rfl rfl)
theorem dX2_newName_18 : decode cX2_newName 18 = .ok (.aload_n 0, 1) := dk_42 (dk_at dksX2_newName_0 18 rfl rfl)
theorem dX2_newName_19 : decode cX2_newName 19 = .ok (.iconst 3, 1) := dk_6 (dk_at dksX2_newName_0 19 rfl rfl)
theorem dX2_newName_20 : decode cX2_newName 20 = .ok (.invokevirtual 82, 3) := dk_182 0 82 (dk_at dksX2_newName_0 20 rfl rfl)
theorem dX2_newName_23 : decode cX2_newName 23 = .ok (.athrow, 1) := dk_191 (dk_at dksX2_newName_0 23 rfl rfl)
theorem dX2_newName_24 : decode cX2_newName 24 = .ok (.aload_n 0, 1) := dk_42 (dk_at dksX2_newName_1 0 rfl rfl)
theorem dX2_newName_25 : decode cX2_newName 25 = .ok (.getfield 61, 3) := dk_180 0 61 (dk_at dksX2_newName_1 1 rfl rfl)
theorem dX2_newName_28 : decode cX2_newName 28 = .ok (.astore_n 1, 1) := dk_76 (dk_at dksX2_newName_1 4 rfl rfl)
theorem dX2_newName_29 : decode cX2_newName 29 = .ok (.aload_n 0, 1) := dk_42 (dk_at dksX2_newName_1 5 rfl rfl)
theorem dX2_newName_30 : decode cX2_newName 30 = .ok (.invokevirtual 75, 3) := dk_182 0 75 (dk_at dksX2_newName_1 6 rfl rfl)
theorem dX2_newName_33 : decode cX2_newName 33 = .ok (.aload_n 1, 1) := dk_43 (dk_at dksX2_newName_1 9 rfl rfl)
theorem dX2_newName_34 : decode cX2_newName 34 = .ok (.areturn, 1) := dk_176 (dk_at dksX2_newName_1 10 rfl rfl)
abbrev cX2_mustName : ByteArray := prog_10_method_9_code
def yX2_mustName : MethodName := ⟨RX2, "mustName", "()V"⟩
def dkwX2_mustName_10 : List UInt8 := [42, 4, 182, 0, 82, 191, 177]
abbrev dktX2_mustName_10 : List UInt8 := dkwX2_mustName_10 ++ []
def dkwX2_mustName_9 : List UInt8 := [170, 0, 0, 0, 55, 0, 0, 0, 0, 0, 0, 0, 8, 0, 0, 0, 49, 0, 0, 0, 49, 0, 0, 0, 49, 0, 0, 0, 49, 0, 0, 0, 49, 0, 0, 0, 49, 0, 0, 0, 49, 0, 0, 0, 49, 0, 0, 0, 49]
abbrev dktX2_mustName_9 : List UInt8 := dkwX2_mustName_9 ++ dktX2_mustName_10
def dkwX2_mustName_8 : List UInt8 := [182, 0, 71, 153, 0, 6, 16, 8, 61, 28]
abbrev dktX2_mustName_8 : List UInt8 := dkwX2_mustName_8 ++ dktX2_mustName_9
def dkwX2_mustName_7 : List UInt8 := [61, 167, 0, 30, 43, 18, 104, 182, 0, 71, 153, 0, 21, 16, 7, 61, 167, 0, 15, 43, 18, 106]
abbrev dktX2_mustName_7 : List UInt8 := dkwX2_mustName_7 ++ dktX2_mustName_8
def dkwX2_mustName_6 : List UInt8 := [18, 100, 182, 0, 71, 153, 0, 50, 8, 61, 167, 0, 45, 43, 18, 102, 182, 0, 71, 153, 0, 36, 16, 6]
abbrev dktX2_mustName_6 : List UInt8 := dkwX2_mustName_6 ++ dktX2_mustName_7
def dkwX2_mustName_5 : List UInt8 := [153, 0, 78, 6, 61, 167, 0, 73, 43, 18, 98, 182, 0, 71, 153, 0, 64, 7, 61, 167, 0, 59, 43]
abbrev dktX2_mustName_5 : List UInt8 := dkwX2_mustName_5 ++ dktX2_mustName_6
def dkwX2_mustName_4 : List UInt8 := [61, 167, 0, 101, 43, 18, 94, 182, 0, 71, 153, 0, 92, 5, 61, 167, 0, 87, 43, 18, 96, 182, 0, 71]
abbrev dktX2_mustName_4 : List UInt8 := dkwX2_mustName_4 ++ dktX2_mustName_5
def dkwX2_mustName_3 : List UInt8 := [43, 18, 90, 182, 0, 71, 153, 0, 120, 3, 61, 167, 0, 115, 43, 18, 92, 182, 0, 71, 153, 0, 106, 4]
abbrev dktX2_mustName_3 : List UInt8 := dkwX2_mustName_3 ++ dktX2_mustName_4
def dkwX2_mustName_2 : List UInt8 := [171, 0, 0, 0, 0, 0, 209, 0, 0, 0, 9, 172, 70, 153, 234, 0, 0, 0, 197, 208, 154, 80, 54, 0, 0, 0, 139, 0, 1, 151, 233, 0, 0, 0, 167, 0, 53, 75, 148, 0, 0, 0, 97, 0, 53, 127, 32, 0, 0, 0, 125, 0, 53, 206, 123, 0, 0, 0, 153, 0, 54, 115, 158, 0, 0, 0, 182, 6, 92, 217, 7, 0, 0, 0, 111, 6, 193, 27, 146, 0, 0, 0, 83]
abbrev dktX2_mustName_2 : List UInt8 := dkwX2_mustName_2 ++ dktX2_mustName_3
def dkwX2_mustName_1 : List UInt8 := [182, 0, 86]
abbrev dktX2_mustName_1 : List UInt8 := dkwX2_mustName_1 ++ dktX2_mustName_2
def dkwX2_mustName_0 : List UInt8 := [42, 180, 0, 47, 5, 159, 0, 9, 42, 4, 182, 0, 82, 191, 42, 180, 0, 61, 76, 2, 61, 43]
abbrev dktX2_mustName_0 : List UInt8 := dkwX2_mustName_0 ++ dktX2_mustName_1
theorem dksX2_mustName_0 : cX2_mustName.data.toList.drop 0 = dktX2_mustName_0 := by decide +kernel
theorem dksX2_mustName_1 : cX2_mustName.data.toList.drop 22 = dktX2_mustName_1 := dk_seg dksX2_mustName_0 22 rfl rfl
theorem dksX2_mustName_2 : cX2_mustName.data.toList.drop 25 = dktX2_mustName_2 := dk_seg dksX2_mustName_1 3 rfl rfl
theorem dksX2_mustName_3 : cX2_mustName.data.toList.drop 108 = dktX2_mustName_3 := dk_seg dksX2_mustName_2 83 rfl rfl
theorem dksX2_mustName_4 : cX2_mustName.data.toList.drop 132 = dktX2_mustName_4 := dk_seg dksX2_mustName_3 24 rfl rfl
theorem dksX2_mustName_5 : cX2_mustName.data.toList.drop 156 = dktX2_mustName_5 := dk_seg dksX2_mustName_4 24 rfl rfl
theorem dksX2_mustName_6 : cX2_mustName.data.toList.drop 179 = dktX2_mustName_6 := dk_seg dksX2_mustName_5 23 rfl rfl
theorem dksX2_mustName_7 : cX2_mustName.data.toList.drop 203 = dktX2_mustName_7 := dk_seg dksX2_mustName_6 24 rfl rfl
theorem dksX2_mustName_8 : cX2_mustName.data.toList.drop 225 = dktX2_mustName_8 := dk_seg dksX2_mustName_7 22 rfl rfl
theorem dksX2_mustName_9 : cX2_mustName.data.toList.drop 235 = dktX2_mustName_9 := dk_seg dksX2_mustName_8 10 rfl rfl
theorem dksX2_mustName_10 : cX2_mustName.data.toList.drop 284 = dktX2_mustName_10 := dk_seg dksX2_mustName_9 49 rfl rfl
theorem dX2_mustName_0 : decode cX2_mustName 0 = .ok (.aload_n 0, 1) := dk_42 (dk_at dksX2_mustName_0 0 rfl rfl)
theorem dX2_mustName_1 : decode cX2_mustName 1 = .ok (.getfield 47, 3) := dk_180 0 47 (dk_at dksX2_mustName_0 1 rfl rfl)
theorem dX2_mustName_4 : decode cX2_mustName 4 = .ok (.iconst 2, 1) := dk_5 (dk_at dksX2_mustName_0 4 rfl rfl)
theorem dX2_mustName_5 : decode cX2_mustName 5 = .ok (.if_icmp .eq 9, 3) := dk_159 0 9 (dk_at dksX2_mustName_0 5 rfl rfl)
theorem dX2_mustName_8 : decode cX2_mustName 8 = .ok (.aload_n 0, 1) := dk_42 (dk_at dksX2_mustName_0 8 rfl rfl)
theorem dX2_mustName_9 : decode cX2_mustName 9 = .ok (.iconst 1, 1) := dk_4 (dk_at dksX2_mustName_0 9 rfl rfl)
theorem dX2_mustName_10 : decode cX2_mustName 10 = .ok (.invokevirtual 82, 3) := dk_182 0 82 (dk_at dksX2_mustName_0 10 rfl rfl)
theorem dX2_mustName_13 : decode cX2_mustName 13 = .ok (.athrow, 1) := dk_191 (dk_at dksX2_mustName_0 13 rfl rfl)
theorem dX2_mustName_14 : decode cX2_mustName 14 = .ok (.aload_n 0, 1) := dk_42 (dk_at dksX2_mustName_0 14 rfl rfl)
theorem dX2_mustName_15 : decode cX2_mustName 15 = .ok (.getfield 61, 3) := dk_180 0 61 (dk_at dksX2_mustName_0 15 rfl rfl)
theorem dX2_mustName_18 : decode cX2_mustName 18 = .ok (.astore_n 1, 1) := dk_76 (dk_at dksX2_mustName_0 18 rfl rfl)
theorem dX2_mustName_19 : decode cX2_mustName 19 = .ok (.iconst (-1), 1) := dk_2 (dk_at dksX2_mustName_0 19 rfl rfl)
theorem dX2_mustName_20 : decode cX2_mustName 20 = .ok (.istore_n 2, 1) := dk_61 (dk_at dksX2_mustName_0 20 rfl rfl)
theorem dX2_mustName_21 : decode cX2_mustName 21 = .ok (.aload_n 1, 1) := dk_43 (dk_at dksX2_mustName_0 21 rfl rfl)
theorem dX2_mustName_22 : decode cX2_mustName 22 = .ok (.invokevirtual 86, 3) := dk_182 0 86 (dk_at dksX2_mustName_1 0 rfl rfl)
theorem dX2_mustName_25 : decode cX2_mustName 25 = .ok (.lookupswitch 209 #[(-1404659222, 197), (-795193290, 139), (104425, 167), (3492756, 97), (3505952, 125), (3526267, 153), (3568542, 182), (106748167, 111), (113318802, 83)], 83) := by decide +kernel
theorem dX2_mustName_108 : decode cX2_mustName 108 = .ok (.aload_n 1, 1) := dk_43 (dk_at dksX2_mustName_3 0 rfl rfl)
theorem dX2_mustName_109 : decode cX2_mustName 109 = .ok (.ldc 90, 2) := dk_18 90 (dk_at dksX2_mustName_3 1 rfl rfl)
theorem dX2_mustName_111 : decode cX2_mustName 111 = .ok (.invokevirtual 71, 3) := dk_182 0 71 (dk_at dksX2_mustName_3 3 rfl rfl)
theorem dX2_mustName_114 : decode cX2_mustName 114 = .ok (.ifCond .eq 120, 3) := dk_153 0 120 (dk_at dksX2_mustName_3 6 rfl rfl)
theorem dX2_mustName_117 : decode cX2_mustName 117 = .ok (.iconst 0, 1) := dk_3 (dk_at dksX2_mustName_3 9 rfl rfl)
theorem dX2_mustName_118 : decode cX2_mustName 118 = .ok (.istore_n 2, 1) := dk_61 (dk_at dksX2_mustName_3 10 rfl rfl)
theorem dX2_mustName_119 : decode cX2_mustName 119 = .ok (.goto 115, 3) := dk_167 0 115 (dk_at dksX2_mustName_3 11 rfl rfl)
theorem dX2_mustName_122 : decode cX2_mustName 122 = .ok (.aload_n 1, 1) := dk_43 (dk_at dksX2_mustName_3 14 rfl rfl)
theorem dX2_mustName_123 : decode cX2_mustName 123 = .ok (.ldc 92, 2) := dk_18 92 (dk_at dksX2_mustName_3 15 rfl rfl)
theorem dX2_mustName_125 : decode cX2_mustName 125 = .ok (.invokevirtual 71, 3) := dk_182 0 71 (dk_at dksX2_mustName_3 17 rfl rfl)
theorem dX2_mustName_128 : decode cX2_mustName 128 = .ok (.ifCond .eq 106, 3) := dk_153 0 106 (dk_at dksX2_mustName_3 20 rfl rfl)
theorem dX2_mustName_131 : decode cX2_mustName 131 = .ok (.iconst 1, 1) := dk_4 (dk_at dksX2_mustName_3 23 rfl rfl)
theorem dX2_mustName_132 : decode cX2_mustName 132 = .ok (.istore_n 2, 1) := dk_61 (dk_at dksX2_mustName_4 0 rfl rfl)
theorem dX2_mustName_133 : decode cX2_mustName 133 = .ok (.goto 101, 3) := dk_167 0 101 (dk_at dksX2_mustName_4 1 rfl rfl)
theorem dX2_mustName_136 : decode cX2_mustName 136 = .ok (.aload_n 1, 1) := dk_43 (dk_at dksX2_mustName_4 4 rfl rfl)
theorem dX2_mustName_137 : decode cX2_mustName 137 = .ok (.ldc 94, 2) := dk_18 94 (dk_at dksX2_mustName_4 5 rfl rfl)
theorem dX2_mustName_139 : decode cX2_mustName 139 = .ok (.invokevirtual 71, 3) := dk_182 0 71 (dk_at dksX2_mustName_4 7 rfl rfl)
theorem dX2_mustName_142 : decode cX2_mustName 142 = .ok (.ifCond .eq 92, 3) := dk_153 0 92 (dk_at dksX2_mustName_4 10 rfl rfl)
theorem dX2_mustName_145 : decode cX2_mustName 145 = .ok (.iconst 2, 1) := dk_5 (dk_at dksX2_mustName_4 13 rfl rfl)
theorem dX2_mustName_146 : decode cX2_mustName 146 = .ok (.istore_n 2, 1) := dk_61 (dk_at dksX2_mustName_4 14 rfl rfl)
theorem dX2_mustName_147 : decode cX2_mustName 147 = .ok (.goto 87, 3) := dk_167 0 87 (dk_at dksX2_mustName_4 15 rfl rfl)
theorem dX2_mustName_150 : decode cX2_mustName 150 = .ok (.aload_n 1, 1) := dk_43 (dk_at dksX2_mustName_4 18 rfl rfl)
theorem dX2_mustName_151 : decode cX2_mustName 151 = .ok (.ldc 96, 2) := dk_18 96 (dk_at dksX2_mustName_4 19 rfl rfl)
theorem dX2_mustName_153 : decode cX2_mustName 153 = .ok (.invokevirtual 71, 3) := dk_182 0 71 (dk_at dksX2_mustName_4 21 rfl rfl)
theorem dX2_mustName_156 : decode cX2_mustName 156 = .ok (.ifCond .eq 78, 3) := dk_153 0 78 (dk_at dksX2_mustName_5 0 rfl rfl)
theorem dX2_mustName_159 : decode cX2_mustName 159 = .ok (.iconst 3, 1) := dk_6 (dk_at dksX2_mustName_5 3 rfl rfl)
theorem dX2_mustName_160 : decode cX2_mustName 160 = .ok (.istore_n 2, 1) := dk_61 (dk_at dksX2_mustName_5 4 rfl rfl)
theorem dX2_mustName_161 : decode cX2_mustName 161 = .ok (.goto 73, 3) := dk_167 0 73 (dk_at dksX2_mustName_5 5 rfl rfl)
theorem dX2_mustName_164 : decode cX2_mustName 164 = .ok (.aload_n 1, 1) := dk_43 (dk_at dksX2_mustName_5 8 rfl rfl)
theorem dX2_mustName_165 : decode cX2_mustName 165 = .ok (.ldc 98, 2) := dk_18 98 (dk_at dksX2_mustName_5 9 rfl rfl)
theorem dX2_mustName_167 : decode cX2_mustName 167 = .ok (.invokevirtual 71, 3) := dk_182 0 71 (dk_at dksX2_mustName_5 11 rfl rfl)
theorem dX2_mustName_170 : decode cX2_mustName 170 = .ok (.ifCond .eq 64, 3) := dk_153 0 64 (dk_at dksX2_mustName_5 14 rfl rfl)
theorem dX2_mustName_173 : decode cX2_mustName 173 = .ok (.iconst 4, 1) := dk_7 (dk_at dksX2_mustName_5 17 rfl rfl)
theorem dX2_mustName_174 : decode cX2_mustName 174 = .ok (.istore_n 2, 1) := dk_61 (dk_at dksX2_mustName_5 18 rfl rfl)
theorem dX2_mustName_175 : decode cX2_mustName 175 = .ok (.goto 59, 3) := dk_167 0 59 (dk_at dksX2_mustName_5 19 rfl rfl)
theorem dX2_mustName_178 : decode cX2_mustName 178 = .ok (.aload_n 1, 1) := dk_43 (dk_at dksX2_mustName_5 22 rfl rfl)
theorem dX2_mustName_179 : decode cX2_mustName 179 = .ok (.ldc 100, 2) := dk_18 100 (dk_at dksX2_mustName_6 0 rfl rfl)
theorem dX2_mustName_181 : decode cX2_mustName 181 = .ok (.invokevirtual 71, 3) := dk_182 0 71 (dk_at dksX2_mustName_6 2 rfl rfl)
theorem dX2_mustName_184 : decode cX2_mustName 184 = .ok (.ifCond .eq 50, 3) := dk_153 0 50 (dk_at dksX2_mustName_6 5 rfl rfl)
theorem dX2_mustName_187 : decode cX2_mustName 187 = .ok (.iconst 5, 1) := dk_8 (dk_at dksX2_mustName_6 8 rfl rfl)
theorem dX2_mustName_188 : decode cX2_mustName 188 = .ok (.istore_n 2, 1) := dk_61 (dk_at dksX2_mustName_6 9 rfl rfl)
theorem dX2_mustName_189 : decode cX2_mustName 189 = .ok (.goto 45, 3) := dk_167 0 45 (dk_at dksX2_mustName_6 10 rfl rfl)
theorem dX2_mustName_192 : decode cX2_mustName 192 = .ok (.aload_n 1, 1) := dk_43 (dk_at dksX2_mustName_6 13 rfl rfl)
theorem dX2_mustName_193 : decode cX2_mustName 193 = .ok (.ldc 102, 2) := dk_18 102 (dk_at dksX2_mustName_6 14 rfl rfl)
theorem dX2_mustName_195 : decode cX2_mustName 195 = .ok (.invokevirtual 71, 3) := dk_182 0 71 (dk_at dksX2_mustName_6 16 rfl rfl)
theorem dX2_mustName_198 : decode cX2_mustName 198 = .ok (.ifCond .eq 36, 3) := dk_153 0 36 (dk_at dksX2_mustName_6 19 rfl rfl)
theorem dX2_mustName_201 : decode cX2_mustName 201 = .ok (.bipush 6, 2) := dk_16 6 (dk_at dksX2_mustName_6 22 rfl rfl)
theorem dX2_mustName_203 : decode cX2_mustName 203 = .ok (.istore_n 2, 1) := dk_61 (dk_at dksX2_mustName_7 0 rfl rfl)
theorem dX2_mustName_204 : decode cX2_mustName 204 = .ok (.goto 30, 3) := dk_167 0 30 (dk_at dksX2_mustName_7 1 rfl rfl)
theorem dX2_mustName_207 : decode cX2_mustName 207 = .ok (.aload_n 1, 1) := dk_43 (dk_at dksX2_mustName_7 4 rfl rfl)
theorem dX2_mustName_208 : decode cX2_mustName 208 = .ok (.ldc 104, 2) := dk_18 104 (dk_at dksX2_mustName_7 5 rfl rfl)
theorem dX2_mustName_210 : decode cX2_mustName 210 = .ok (.invokevirtual 71, 3) := dk_182 0 71 (dk_at dksX2_mustName_7 7 rfl rfl)
theorem dX2_mustName_213 : decode cX2_mustName 213 = .ok (.ifCond .eq 21, 3) := dk_153 0 21 (dk_at dksX2_mustName_7 10 rfl rfl)
theorem dX2_mustName_216 : decode cX2_mustName 216 = .ok (.bipush 7, 2) := dk_16 7 (dk_at dksX2_mustName_7 13 rfl rfl)
theorem dX2_mustName_218 : decode cX2_mustName 218 = .ok (.istore_n 2, 1) := dk_61 (dk_at dksX2_mustName_7 15 rfl rfl)
theorem dX2_mustName_219 : decode cX2_mustName 219 = .ok (.goto 15, 3) := dk_167 0 15 (dk_at dksX2_mustName_7 16 rfl rfl)
theorem dX2_mustName_222 : decode cX2_mustName 222 = .ok (.aload_n 1, 1) := dk_43 (dk_at dksX2_mustName_7 19 rfl rfl)
theorem dX2_mustName_223 : decode cX2_mustName 223 = .ok (.ldc 106, 2) := dk_18 106 (dk_at dksX2_mustName_7 20 rfl rfl)
theorem dX2_mustName_225 : decode cX2_mustName 225 = .ok (.invokevirtual 71, 3) := dk_182 0 71 (dk_at dksX2_mustName_8 0 rfl rfl)
theorem dX2_mustName_228 : decode cX2_mustName 228 = .ok (.ifCond .eq 6, 3) := dk_153 0 6 (dk_at dksX2_mustName_8 3 rfl rfl)
theorem dX2_mustName_231 : decode cX2_mustName 231 = .ok (.bipush 8, 2) := dk_16 8 (dk_at dksX2_mustName_8 6 rfl rfl)
theorem dX2_mustName_233 : decode cX2_mustName 233 = .ok (.istore_n 2, 1) := dk_61 (dk_at dksX2_mustName_8 8 rfl rfl)
theorem dX2_mustName_234 : decode cX2_mustName 234 = .ok (.iload_n 2, 1) := dk_28 (dk_at dksX2_mustName_8 9 rfl rfl)
theorem dX2_mustName_235 : decode cX2_mustName 235 = .ok (.tableswitch 55 0 8 #[49, 49, 49, 49, 49, 49, 49, 49, 49], 49) := by decide +kernel
theorem dX2_mustName_284 : decode cX2_mustName 284 = .ok (.aload_n 0, 1) := dk_42 (dk_at dksX2_mustName_10 0 rfl rfl)
theorem dX2_mustName_285 : decode cX2_mustName 285 = .ok (.iconst 1, 1) := dk_4 (dk_at dksX2_mustName_10 1 rfl rfl)
theorem dX2_mustName_286 : decode cX2_mustName 286 = .ok (.invokevirtual 82, 3) := dk_182 0 82 (dk_at dksX2_mustName_10 2 rfl rfl)
theorem dX2_mustName_289 : decode cX2_mustName 289 = .ok (.athrow, 1) := dk_191 (dk_at dksX2_mustName_10 5 rfl rfl)
theorem dX2_mustName_290 : decode cX2_mustName 290 = .ok (.return_, 1) := dk_177 (dk_at dksX2_mustName_10 6 rfl rfl)
abbrev cX2_road : ByteArray := prog_10_method_21_code
def yX2_road : MethodName := ⟨RX2, "road", "()V"⟩
def dkwX2_road_5 : List UInt8 := [180, 0, 111, 180, 0, 217, 25, 5, 83, 42, 180, 0, 111, 89, 180, 0, 217, 4, 96, 181, 0, 217, 177]
abbrev dktX2_road_5 : List UInt8 := dkwX2_road_5 ++ []
def dkwX2_road_4 : List UInt8 := [153, 0, 14, 25, 5, 42, 3, 29, 182, 0, 126, 181, 0, 231, 42, 180, 0, 111, 180, 0, 233, 42]
abbrev dktX2_road_4 : List UInt8 := dkwX2_road_4 ++ dktX2_road_5
def dkwX2_road_3 : List UInt8 := [89, 43, 180, 0, 226, 28, 29, 25, 4, 180, 0, 226, 183, 0, 228, 58, 5, 42, 18, 106, 182, 0, 78]
abbrev dktX2_road_3 : List UInt8 := dkwX2_road_3 ++ dktX2_road_4
def dkwX2_road_2 : List UInt8 := [182, 0, 220, 58, 4, 25, 4, 43, 166, 0, 9, 42, 6, 182, 0, 82, 191, 42, 182, 0, 75, 187, 0, 224]
abbrev dktX2_road_2 : List UInt8 := dkwX2_road_2 ++ dktX2_road_3
def dkwX2_road_1 : List UInt8 := [182, 0, 220, 76, 42, 182, 0, 75, 42, 182, 0, 182, 61, 42, 4, 16, 60, 182, 0, 126, 62, 42]
abbrev dktX2_road_1 : List UInt8 := dkwX2_road_1 ++ dktX2_road_2
def dkwX2_road_0 : List UInt8 := [42, 42, 180, 0, 111, 180, 0, 217, 16, 12, 162, 0, 7, 4, 167, 0, 4, 3, 182, 0, 172, 42]
abbrev dktX2_road_0 : List UInt8 := dkwX2_road_0 ++ dktX2_road_1
theorem dksX2_road_0 : cX2_road.data.toList.drop 0 = dktX2_road_0 := by decide +kernel
theorem dksX2_road_1 : cX2_road.data.toList.drop 22 = dktX2_road_1 := dk_seg dksX2_road_0 22 rfl rfl
theorem dksX2_road_2 : cX2_road.data.toList.drop 44 = dktX2_road_2 := dk_seg dksX2_road_1 22 rfl rfl
theorem dksX2_road_3 : cX2_road.data.toList.drop 68 = dktX2_road_3 := dk_seg dksX2_road_2 24 rfl rfl
theorem dksX2_road_4 : cX2_road.data.toList.drop 91 = dktX2_road_4 := dk_seg dksX2_road_3 23 rfl rfl
theorem dksX2_road_5 : cX2_road.data.toList.drop 113 = dktX2_road_5 := dk_seg dksX2_road_4 22 rfl rfl
theorem dX2_road_0 : decode cX2_road 0 = .ok (.aload_n 0, 1) := dk_42 (dk_at dksX2_road_0 0 rfl rfl)
theorem dX2_road_1 : decode cX2_road 1 = .ok (.aload_n 0, 1) := dk_42 (dk_at dksX2_road_0 1 rfl rfl)
theorem dX2_road_2 : decode cX2_road 2 = .ok (.getfield 111, 3) := dk_180 0 111 (dk_at dksX2_road_0 2 rfl rfl)
theorem dX2_road_5 : decode cX2_road 5 = .ok (.getfield 217, 3) := dk_180 0 217 (dk_at dksX2_road_0 5 rfl rfl)
theorem dX2_road_8 : decode cX2_road 8 = .ok (.bipush 12, 2) := dk_16 12 (dk_at dksX2_road_0 8 rfl rfl)
theorem dX2_road_10 : decode cX2_road 10 = .ok (.if_icmp .ge 7, 3) := dk_162 0 7 (dk_at dksX2_road_0 10 rfl rfl)
theorem dX2_road_13 : decode cX2_road 13 = .ok (.iconst 1, 1) := dk_4 (dk_at dksX2_road_0 13 rfl rfl)
theorem dX2_road_14 : decode cX2_road 14 = .ok (.goto 4, 3) := dk_167 0 4 (dk_at dksX2_road_0 14 rfl rfl)
theorem dX2_road_17 : decode cX2_road 17 = .ok (.iconst 0, 1) := dk_3 (dk_at dksX2_road_0 17 rfl rfl)
theorem dX2_road_18 : decode cX2_road 18 = .ok (.invokevirtual 172, 3) := dk_182 0 172 (dk_at dksX2_road_0 18 rfl rfl)
theorem dX2_road_21 : decode cX2_road 21 = .ok (.aload_n 0, 1) := dk_42 (dk_at dksX2_road_0 21 rfl rfl)
theorem dX2_road_22 : decode cX2_road 22 = .ok (.invokevirtual 220, 3) := dk_182 0 220 (dk_at dksX2_road_1 0 rfl rfl)
theorem dX2_road_25 : decode cX2_road 25 = .ok (.astore_n 1, 1) := dk_76 (dk_at dksX2_road_1 3 rfl rfl)
theorem dX2_road_26 : decode cX2_road 26 = .ok (.aload_n 0, 1) := dk_42 (dk_at dksX2_road_1 4 rfl rfl)
theorem dX2_road_27 : decode cX2_road 27 = .ok (.invokevirtual 75, 3) := dk_182 0 75 (dk_at dksX2_road_1 5 rfl rfl)
theorem dX2_road_30 : decode cX2_road 30 = .ok (.aload_n 0, 1) := dk_42 (dk_at dksX2_road_1 8 rfl rfl)
theorem dX2_road_31 : decode cX2_road 31 = .ok (.invokevirtual 182, 3) := dk_182 0 182 (dk_at dksX2_road_1 9 rfl rfl)
theorem dX2_road_34 : decode cX2_road 34 = .ok (.istore_n 2, 1) := dk_61 (dk_at dksX2_road_1 12 rfl rfl)
theorem dX2_road_35 : decode cX2_road 35 = .ok (.aload_n 0, 1) := dk_42 (dk_at dksX2_road_1 13 rfl rfl)
theorem dX2_road_36 : decode cX2_road 36 = .ok (.iconst 1, 1) := dk_4 (dk_at dksX2_road_1 14 rfl rfl)
theorem dX2_road_37 : decode cX2_road 37 = .ok (.bipush 60, 2) := dk_16 60 (dk_at dksX2_road_1 15 rfl rfl)
theorem dX2_road_39 : decode cX2_road 39 = .ok (.invokevirtual 126, 3) := dk_182 0 126 (dk_at dksX2_road_1 17 rfl rfl)
theorem dX2_road_42 : decode cX2_road 42 = .ok (.istore_n 3, 1) := dk_62 (dk_at dksX2_road_1 20 rfl rfl)
theorem dX2_road_43 : decode cX2_road 43 = .ok (.aload_n 0, 1) := dk_42 (dk_at dksX2_road_1 21 rfl rfl)
theorem dX2_road_44 : decode cX2_road 44 = .ok (.invokevirtual 220, 3) := dk_182 0 220 (dk_at dksX2_road_2 0 rfl rfl)
theorem dX2_road_47 : decode cX2_road 47 = .ok (.astore 4, 2) := dk_58 4 (dk_at dksX2_road_2 3 rfl rfl)
theorem dX2_road_49 : decode cX2_road 49 = .ok (.aload 4, 2) := dk_25 4 (dk_at dksX2_road_2 5 rfl rfl)
theorem dX2_road_51 : decode cX2_road 51 = .ok (.aload_n 1, 1) := dk_43 (dk_at dksX2_road_2 7 rfl rfl)
theorem dX2_road_52 : decode cX2_road 52 = .ok (.if_acmp .ne 9, 3) := dk_166 0 9 (dk_at dksX2_road_2 8 rfl rfl)
theorem dX2_road_55 : decode cX2_road 55 = .ok (.aload_n 0, 1) := dk_42 (dk_at dksX2_road_2 11 rfl rfl)
theorem dX2_road_56 : decode cX2_road 56 = .ok (.iconst 3, 1) := dk_6 (dk_at dksX2_road_2 12 rfl rfl)
theorem dX2_road_57 : decode cX2_road 57 = .ok (.invokevirtual 82, 3) := dk_182 0 82 (dk_at dksX2_road_2 13 rfl rfl)
theorem dX2_road_60 : decode cX2_road 60 = .ok (.athrow, 1) := dk_191 (dk_at dksX2_road_2 16 rfl rfl)
theorem dX2_road_61 : decode cX2_road 61 = .ok (.aload_n 0, 1) := dk_42 (dk_at dksX2_road_2 17 rfl rfl)
theorem dX2_road_62 : decode cX2_road 62 = .ok (.invokevirtual 75, 3) := dk_182 0 75 (dk_at dksX2_road_2 18 rfl rfl)
theorem dX2_road_65 : decode cX2_road 65 = .ok (.new 224, 3) := dk_187 0 224 (dk_at dksX2_road_2 21 rfl rfl)
theorem dX2_road_68 : decode cX2_road 68 = .ok (.dup, 1) := dk_89 (dk_at dksX2_road_3 0 rfl rfl)
theorem dX2_road_69 : decode cX2_road 69 = .ok (.aload_n 1, 1) := dk_43 (dk_at dksX2_road_3 1 rfl rfl)
theorem dX2_road_70 : decode cX2_road 70 = .ok (.getfield 226, 3) := dk_180 0 226 (dk_at dksX2_road_3 2 rfl rfl)
theorem dX2_road_73 : decode cX2_road 73 = .ok (.iload_n 2, 1) := dk_28 (dk_at dksX2_road_3 5 rfl rfl)
theorem dX2_road_74 : decode cX2_road 74 = .ok (.iload_n 3, 1) := dk_29 (dk_at dksX2_road_3 6 rfl rfl)
theorem dX2_road_75 : decode cX2_road 75 = .ok (.aload 4, 2) := dk_25 4 (dk_at dksX2_road_3 7 rfl rfl)
theorem dX2_road_77 : decode cX2_road 77 = .ok (.getfield 226, 3) := dk_180 0 226 (dk_at dksX2_road_3 9 rfl rfl)
theorem dX2_road_80 : decode cX2_road 80 = .ok (.invokespecial 228, 3) := dk_183 0 228 (dk_at dksX2_road_3 12 rfl rfl)
theorem dX2_road_83 : decode cX2_road 83 = .ok (.astore 5, 2) := dk_58 5 (dk_at dksX2_road_3 15 rfl rfl)
theorem dX2_road_85 : decode cX2_road 85 = .ok (.aload_n 0, 1) := dk_42 (dk_at dksX2_road_3 17 rfl rfl)
theorem dX2_road_86 : decode cX2_road 86 = .ok (.ldc 106, 2) := dk_18 106 (dk_at dksX2_road_3 18 rfl rfl)
theorem dX2_road_88 : decode cX2_road 88 = .ok (.invokevirtual 78, 3) := dk_182 0 78 (dk_at dksX2_road_3 20 rfl rfl)
theorem dX2_road_91 : decode cX2_road 91 = .ok (.ifCond .eq 14, 3) := dk_153 0 14 (dk_at dksX2_road_4 0 rfl rfl)
theorem dX2_road_94 : decode cX2_road 94 = .ok (.aload 5, 2) := dk_25 5 (dk_at dksX2_road_4 3 rfl rfl)
theorem dX2_road_96 : decode cX2_road 96 = .ok (.aload_n 0, 1) := dk_42 (dk_at dksX2_road_4 5 rfl rfl)
theorem dX2_road_97 : decode cX2_road 97 = .ok (.iconst 0, 1) := dk_3 (dk_at dksX2_road_4 6 rfl rfl)
theorem dX2_road_98 : decode cX2_road 98 = .ok (.iload_n 3, 1) := dk_29 (dk_at dksX2_road_4 7 rfl rfl)
theorem dX2_road_99 : decode cX2_road 99 = .ok (.invokevirtual 126, 3) := dk_182 0 126 (dk_at dksX2_road_4 8 rfl rfl)
theorem dX2_road_102 : decode cX2_road 102 = .ok (.putfield 231, 3) := dk_181 0 231 (dk_at dksX2_road_4 11 rfl rfl)
theorem dX2_road_105 : decode cX2_road 105 = .ok (.aload_n 0, 1) := dk_42 (dk_at dksX2_road_4 14 rfl rfl)
theorem dX2_road_106 : decode cX2_road 106 = .ok (.getfield 111, 3) := dk_180 0 111 (dk_at dksX2_road_4 15 rfl rfl)
theorem dX2_road_109 : decode cX2_road 109 = .ok (.getfield 233, 3) := dk_180 0 233 (dk_at dksX2_road_4 18 rfl rfl)
theorem dX2_road_112 : decode cX2_road 112 = .ok (.aload_n 0, 1) := dk_42 (dk_at dksX2_road_4 21 rfl rfl)
theorem dX2_road_113 : decode cX2_road 113 = .ok (.getfield 111, 3) := dk_180 0 111 (dk_at dksX2_road_5 0 rfl rfl)
theorem dX2_road_116 : decode cX2_road 116 = .ok (.getfield 217, 3) := dk_180 0 217 (dk_at dksX2_road_5 3 rfl rfl)
theorem dX2_road_119 : decode cX2_road 119 = .ok (.aload 5, 2) := dk_25 5 (dk_at dksX2_road_5 6 rfl rfl)
theorem dX2_road_121 : decode cX2_road 121 = .ok (.aastore, 1) := dk_83 (dk_at dksX2_road_5 8 rfl rfl)
theorem dX2_road_122 : decode cX2_road 122 = .ok (.aload_n 0, 1) := dk_42 (dk_at dksX2_road_5 9 rfl rfl)
theorem dX2_road_123 : decode cX2_road 123 = .ok (.getfield 111, 3) := dk_180 0 111 (dk_at dksX2_road_5 10 rfl rfl)
theorem dX2_road_126 : decode cX2_road 126 = .ok (.dup, 1) := dk_89 (dk_at dksX2_road_5 13 rfl rfl)
theorem dX2_road_127 : decode cX2_road 127 = .ok (.getfield 217, 3) := dk_180 0 217 (dk_at dksX2_road_5 14 rfl rfl)
theorem dX2_road_130 : decode cX2_road 130 = .ok (.iconst 1, 1) := dk_4 (dk_at dksX2_road_5 17 rfl rfl)
theorem dX2_road_131 : decode cX2_road 131 = .ok (.iadd, 1) := dk_96 (dk_at dksX2_road_5 18 rfl rfl)
theorem dX2_road_132 : decode cX2_road 132 = .ok (.putfield 217, 3) := dk_181 0 217 (dk_at dksX2_road_5 19 rfl rfl)
theorem dX2_road_135 : decode cX2_road 135 = .ok (.return_, 1) := dk_177 (dk_at dksX2_road_5 22 rfl rfl)
abbrev cX2_placeHere : ByteArray := prog_10_method_11_code
def yX2_placeHere : MethodName := ⟨RX2, "placeHere", "()LRainWalk$Place;"⟩
def dkwX2_placeHere_1 : List UInt8 := [5, 182, 0, 82, 191, 43, 192, 0, 120, 176]
abbrev dktX2_placeHere_1 : List UInt8 := dkwX2_placeHere_1 ++ []
def dkwX2_placeHere_0 : List UInt8 := [42, 182, 0, 108, 42, 180, 0, 111, 42, 180, 0, 61, 182, 0, 114, 76, 43, 193, 0, 120, 154, 0, 9, 42]
abbrev dktX2_placeHere_0 : List UInt8 := dkwX2_placeHere_0 ++ dktX2_placeHere_1
theorem dksX2_placeHere_0 : cX2_placeHere.data.toList.drop 0 = dktX2_placeHere_0 := by decide +kernel
theorem dksX2_placeHere_1 : cX2_placeHere.data.toList.drop 24 = dktX2_placeHere_1 := dk_seg dksX2_placeHere_0 24 rfl rfl
theorem dX2_placeHere_0 : decode cX2_placeHere 0 = .ok (.aload_n 0, 1) := dk_42 (dk_at dksX2_placeHere_0 0 rfl rfl)
theorem dX2_placeHere_1 : decode cX2_placeHere 1 = .ok (.invokevirtual 108, 3) := dk_182 0 108 (dk_at dksX2_placeHere_0 1 rfl rfl)
theorem dX2_placeHere_4 : decode cX2_placeHere 4 = .ok (.aload_n 0, 1) := dk_42 (dk_at dksX2_placeHere_0 4 rfl rfl)
theorem dX2_placeHere_5 : decode cX2_placeHere 5 = .ok (.getfield 111, 3) := dk_180 0 111 (dk_at dksX2_placeHere_0 5 rfl rfl)
theorem dX2_placeHere_8 : decode cX2_placeHere 8 = .ok (.aload_n 0, 1) := dk_42 (dk_at dksX2_placeHere_0 8 rfl rfl)
theorem dX2_placeHere_9 : decode cX2_placeHere 9 = .ok (.getfield 61, 3) := dk_180 0 61 (dk_at dksX2_placeHere_0 9 rfl rfl)
theorem dX2_placeHere_12 : decode cX2_placeHere 12 = .ok (.invokevirtual 114, 3) := dk_182 0 114 (dk_at dksX2_placeHere_0 12 rfl rfl)
theorem dX2_placeHere_15 : decode cX2_placeHere 15 = .ok (.astore_n 1, 1) := dk_76 (dk_at dksX2_placeHere_0 15 rfl rfl)
theorem dX2_placeHere_16 : decode cX2_placeHere 16 = .ok (.aload_n 1, 1) := dk_43 (dk_at dksX2_placeHere_0 16 rfl rfl)
theorem dX2_placeHere_17 : decode cX2_placeHere 17 = .ok (.instanceof 120, 3) := dk_193 0 120 (dk_at dksX2_placeHere_0 17 rfl rfl)
theorem dX2_placeHere_20 : decode cX2_placeHere 20 = .ok (.ifCond .ne 9, 3) := dk_154 0 9 (dk_at dksX2_placeHere_0 20 rfl rfl)
theorem dX2_placeHere_23 : decode cX2_placeHere 23 = .ok (.aload_n 0, 1) := dk_42 (dk_at dksX2_placeHere_0 23 rfl rfl)
theorem dX2_placeHere_24 : decode cX2_placeHere 24 = .ok (.iconst 2, 1) := dk_5 (dk_at dksX2_placeHere_1 0 rfl rfl)
theorem dX2_placeHere_25 : decode cX2_placeHere 25 = .ok (.invokevirtual 82, 3) := dk_182 0 82 (dk_at dksX2_placeHere_1 1 rfl rfl)
theorem dX2_placeHere_28 : decode cX2_placeHere 28 = .ok (.athrow, 1) := dk_191 (dk_at dksX2_placeHere_1 4 rfl rfl)
theorem dX2_placeHere_29 : decode cX2_placeHere 29 = .ok (.aload_n 1, 1) := dk_43 (dk_at dksX2_placeHere_1 5 rfl rfl)
theorem dX2_placeHere_30 : decode cX2_placeHere 30 = .ok (.checkcast 120, 3) := dk_192 0 120 (dk_at dksX2_placeHere_1 6 rfl rfl)
theorem dX2_placeHere_33 : decode cX2_placeHere 33 = .ok (.areturn, 1) := dk_176 (dk_at dksX2_placeHere_1 9 rfl rfl)
abbrev cX2_walker : ByteArray := prog_10_method_23_code
def yX2_walker : MethodName := ⟨RX2, "walker", "()V"⟩
def dkwX2_walker_6 : List UInt8 := [180, 0, 148, 4, 96, 181, 0, 148, 177]
abbrev dktX2_walker_6 : List UInt8 := dkwX2_walker_6 ++ []
def dkwX2_walker_5 : List UInt8 := [181, 1, 30, 42, 180, 0, 111, 180, 1, 33, 42, 180, 0, 111, 180, 0, 148, 43, 83, 42, 180, 0, 111, 89]
abbrev dktX2_walker_5 : List UInt8 := dkwX2_walker_5 ++ dktX2_walker_6
def dkwX2_walker_4 : List UInt8 := [16, 9, 182, 0, 165, 181, 1, 25, 43, 42, 19, 1, 28, 43, 180, 1, 25, 16, 9, 182, 0, 165]
abbrev dktX2_walker_4 : List UInt8 := dkwX2_walker_4 ++ dktX2_walker_5
def dkwX2_walker_3 : List UInt8 := [19, 1, 17, 43, 182, 1, 19, 4, 96, 16, 9, 182, 0, 165, 181, 1, 21, 43, 42, 19, 1, 23, 4]
abbrev dktX2_walker_3 : List UInt8 := dkwX2_walker_3 ++ dktX2_walker_4
def dkwX2_walker_2 : List UInt8 := [182, 0, 165, 181, 1, 9, 43, 42, 19, 1, 13, 4, 16, 9, 182, 0, 165, 181, 1, 15, 43, 42]
abbrev dktX2_walker_2 : List UInt8 := dkwX2_walker_2 ++ dktX2_walker_3
def dkwX2_walker_1 : List UInt8 := [182, 0, 196, 42, 180, 0, 111, 180, 0, 148, 182, 1, 3, 76, 43, 42, 19, 1, 7, 4, 16, 9]
abbrev dktX2_walker_1 : List UInt8 := dkwX2_walker_1 ++ dktX2_walker_2
def dkwX2_walker_0 : List UInt8 := [42, 42, 180, 0, 111, 180, 0, 148, 7, 162, 0, 7, 4, 167, 0, 4, 3, 182, 0, 172, 42, 42]
abbrev dktX2_walker_0 : List UInt8 := dkwX2_walker_0 ++ dktX2_walker_1
theorem dksX2_walker_0 : cX2_walker.data.toList.drop 0 = dktX2_walker_0 := by decide +kernel
theorem dksX2_walker_1 : cX2_walker.data.toList.drop 22 = dktX2_walker_1 := dk_seg dksX2_walker_0 22 rfl rfl
theorem dksX2_walker_2 : cX2_walker.data.toList.drop 44 = dktX2_walker_2 := dk_seg dksX2_walker_1 22 rfl rfl
theorem dksX2_walker_3 : cX2_walker.data.toList.drop 66 = dktX2_walker_3 := dk_seg dksX2_walker_2 22 rfl rfl
theorem dksX2_walker_4 : cX2_walker.data.toList.drop 89 = dktX2_walker_4 := dk_seg dksX2_walker_3 23 rfl rfl
theorem dksX2_walker_5 : cX2_walker.data.toList.drop 111 = dktX2_walker_5 := dk_seg dksX2_walker_4 22 rfl rfl
theorem dksX2_walker_6 : cX2_walker.data.toList.drop 135 = dktX2_walker_6 := dk_seg dksX2_walker_5 24 rfl rfl
theorem dX2_walker_0 : decode cX2_walker 0 = .ok (.aload_n 0, 1) := dk_42 (dk_at dksX2_walker_0 0 rfl rfl)
theorem dX2_walker_1 : decode cX2_walker 1 = .ok (.aload_n 0, 1) := dk_42 (dk_at dksX2_walker_0 1 rfl rfl)
theorem dX2_walker_2 : decode cX2_walker 2 = .ok (.getfield 111, 3) := dk_180 0 111 (dk_at dksX2_walker_0 2 rfl rfl)
theorem dX2_walker_5 : decode cX2_walker 5 = .ok (.getfield 148, 3) := dk_180 0 148 (dk_at dksX2_walker_0 5 rfl rfl)
theorem dX2_walker_8 : decode cX2_walker 8 = .ok (.iconst 4, 1) := dk_7 (dk_at dksX2_walker_0 8 rfl rfl)
theorem dX2_walker_9 : decode cX2_walker 9 = .ok (.if_icmp .ge 7, 3) := dk_162 0 7 (dk_at dksX2_walker_0 9 rfl rfl)
theorem dX2_walker_12 : decode cX2_walker 12 = .ok (.iconst 1, 1) := dk_4 (dk_at dksX2_walker_0 12 rfl rfl)
theorem dX2_walker_13 : decode cX2_walker 13 = .ok (.goto 4, 3) := dk_167 0 4 (dk_at dksX2_walker_0 13 rfl rfl)
theorem dX2_walker_16 : decode cX2_walker 16 = .ok (.iconst 0, 1) := dk_3 (dk_at dksX2_walker_0 16 rfl rfl)
theorem dX2_walker_17 : decode cX2_walker 17 = .ok (.invokevirtual 172, 3) := dk_182 0 172 (dk_at dksX2_walker_0 17 rfl rfl)
theorem dX2_walker_20 : decode cX2_walker 20 = .ok (.aload_n 0, 1) := dk_42 (dk_at dksX2_walker_0 20 rfl rfl)
theorem dX2_walker_21 : decode cX2_walker 21 = .ok (.aload_n 0, 1) := dk_42 (dk_at dksX2_walker_0 21 rfl rfl)
theorem dX2_walker_22 : decode cX2_walker 22 = .ok (.invokevirtual 196, 3) := dk_182 0 196 (dk_at dksX2_walker_1 0 rfl rfl)
theorem dX2_walker_25 : decode cX2_walker 25 = .ok (.aload_n 0, 1) := dk_42 (dk_at dksX2_walker_1 3 rfl rfl)
theorem dX2_walker_26 : decode cX2_walker 26 = .ok (.getfield 111, 3) := dk_180 0 111 (dk_at dksX2_walker_1 4 rfl rfl)
theorem dX2_walker_29 : decode cX2_walker 29 = .ok (.getfield 148, 3) := dk_180 0 148 (dk_at dksX2_walker_1 7 rfl rfl)
theorem dX2_walker_32 : decode cX2_walker 32 = .ok (.invokevirtual 259, 3) := dk_182 1 3 (dk_at dksX2_walker_1 10 rfl rfl)
theorem dX2_walker_35 : decode cX2_walker 35 = .ok (.astore_n 1, 1) := dk_76 (dk_at dksX2_walker_1 13 rfl rfl)
theorem dX2_walker_36 : decode cX2_walker 36 = .ok (.aload_n 1, 1) := dk_43 (dk_at dksX2_walker_1 14 rfl rfl)
theorem dX2_walker_37 : decode cX2_walker 37 = .ok (.aload_n 0, 1) := dk_42 (dk_at dksX2_walker_1 15 rfl rfl)
theorem dX2_walker_38 : decode cX2_walker 38 = .ok (.ldc_w 263, 3) := dk_19 1 7 (dk_at dksX2_walker_1 16 rfl rfl)
theorem dX2_walker_41 : decode cX2_walker 41 = .ok (.iconst 1, 1) := dk_4 (dk_at dksX2_walker_1 19 rfl rfl)
theorem dX2_walker_42 : decode cX2_walker 42 = .ok (.bipush 9, 2) := dk_16 9 (dk_at dksX2_walker_1 20 rfl rfl)
theorem dX2_walker_44 : decode cX2_walker 44 = .ok (.invokevirtual 165, 3) := dk_182 0 165 (dk_at dksX2_walker_2 0 rfl rfl)
theorem dX2_walker_47 : decode cX2_walker 47 = .ok (.putfield 265, 3) := dk_181 1 9 (dk_at dksX2_walker_2 3 rfl rfl)
theorem dX2_walker_50 : decode cX2_walker 50 = .ok (.aload_n 1, 1) := dk_43 (dk_at dksX2_walker_2 6 rfl rfl)
theorem dX2_walker_51 : decode cX2_walker 51 = .ok (.aload_n 0, 1) := dk_42 (dk_at dksX2_walker_2 7 rfl rfl)
theorem dX2_walker_52 : decode cX2_walker 52 = .ok (.ldc_w 269, 3) := dk_19 1 13 (dk_at dksX2_walker_2 8 rfl rfl)
theorem dX2_walker_55 : decode cX2_walker 55 = .ok (.iconst 1, 1) := dk_4 (dk_at dksX2_walker_2 11 rfl rfl)
theorem dX2_walker_56 : decode cX2_walker 56 = .ok (.bipush 9, 2) := dk_16 9 (dk_at dksX2_walker_2 12 rfl rfl)
theorem dX2_walker_58 : decode cX2_walker 58 = .ok (.invokevirtual 165, 3) := dk_182 0 165 (dk_at dksX2_walker_2 14 rfl rfl)
theorem dX2_walker_61 : decode cX2_walker 61 = .ok (.putfield 271, 3) := dk_181 1 15 (dk_at dksX2_walker_2 17 rfl rfl)
theorem dX2_walker_64 : decode cX2_walker 64 = .ok (.aload_n 1, 1) := dk_43 (dk_at dksX2_walker_2 20 rfl rfl)
theorem dX2_walker_65 : decode cX2_walker 65 = .ok (.aload_n 0, 1) := dk_42 (dk_at dksX2_walker_2 21 rfl rfl)
theorem dX2_walker_66 : decode cX2_walker 66 = .ok (.ldc_w 273, 3) := dk_19 1 17 (dk_at dksX2_walker_3 0 rfl rfl)
theorem dX2_walker_69 : decode cX2_walker 69 = .ok (.aload_n 1, 1) := dk_43 (dk_at dksX2_walker_3 3 rfl rfl)
theorem dX2_walker_70 : decode cX2_walker 70 = .ok (.invokevirtual 275, 3) := dk_182 1 19 (dk_at dksX2_walker_3 4 rfl rfl)
theorem dX2_walker_73 : decode cX2_walker 73 = .ok (.iconst 1, 1) := dk_4 (dk_at dksX2_walker_3 7 rfl rfl)
theorem dX2_walker_74 : decode cX2_walker 74 = .ok (.iadd, 1) := dk_96 (dk_at dksX2_walker_3 8 rfl rfl)
theorem dX2_walker_75 : decode cX2_walker 75 = .ok (.bipush 9, 2) := dk_16 9 (dk_at dksX2_walker_3 9 rfl rfl)
theorem dX2_walker_77 : decode cX2_walker 77 = .ok (.invokevirtual 165, 3) := dk_182 0 165 (dk_at dksX2_walker_3 11 rfl rfl)
theorem dX2_walker_80 : decode cX2_walker 80 = .ok (.putfield 277, 3) := dk_181 1 21 (dk_at dksX2_walker_3 14 rfl rfl)
theorem dX2_walker_83 : decode cX2_walker 83 = .ok (.aload_n 1, 1) := dk_43 (dk_at dksX2_walker_3 17 rfl rfl)
theorem dX2_walker_84 : decode cX2_walker 84 = .ok (.aload_n 0, 1) := dk_42 (dk_at dksX2_walker_3 18 rfl rfl)
theorem dX2_walker_85 : decode cX2_walker 85 = .ok (.ldc_w 279, 3) := dk_19 1 23 (dk_at dksX2_walker_3 19 rfl rfl)
theorem dX2_walker_88 : decode cX2_walker 88 = .ok (.iconst 1, 1) := dk_4 (dk_at dksX2_walker_3 22 rfl rfl)
theorem dX2_walker_89 : decode cX2_walker 89 = .ok (.bipush 9, 2) := dk_16 9 (dk_at dksX2_walker_4 0 rfl rfl)
theorem dX2_walker_91 : decode cX2_walker 91 = .ok (.invokevirtual 165, 3) := dk_182 0 165 (dk_at dksX2_walker_4 2 rfl rfl)
theorem dX2_walker_94 : decode cX2_walker 94 = .ok (.putfield 281, 3) := dk_181 1 25 (dk_at dksX2_walker_4 5 rfl rfl)
theorem dX2_walker_97 : decode cX2_walker 97 = .ok (.aload_n 1, 1) := dk_43 (dk_at dksX2_walker_4 8 rfl rfl)
theorem dX2_walker_98 : decode cX2_walker 98 = .ok (.aload_n 0, 1) := dk_42 (dk_at dksX2_walker_4 9 rfl rfl)
theorem dX2_walker_99 : decode cX2_walker 99 = .ok (.ldc_w 284, 3) := dk_19 1 28 (dk_at dksX2_walker_4 10 rfl rfl)
theorem dX2_walker_102 : decode cX2_walker 102 = .ok (.aload_n 1, 1) := dk_43 (dk_at dksX2_walker_4 13 rfl rfl)
theorem dX2_walker_103 : decode cX2_walker 103 = .ok (.getfield 281, 3) := dk_180 1 25 (dk_at dksX2_walker_4 14 rfl rfl)
theorem dX2_walker_106 : decode cX2_walker 106 = .ok (.bipush 9, 2) := dk_16 9 (dk_at dksX2_walker_4 17 rfl rfl)
theorem dX2_walker_108 : decode cX2_walker 108 = .ok (.invokevirtual 165, 3) := dk_182 0 165 (dk_at dksX2_walker_4 19 rfl rfl)
theorem dX2_walker_111 : decode cX2_walker 111 = .ok (.putfield 286, 3) := dk_181 1 30 (dk_at dksX2_walker_5 0 rfl rfl)
theorem dX2_walker_114 : decode cX2_walker 114 = .ok (.aload_n 0, 1) := dk_42 (dk_at dksX2_walker_5 3 rfl rfl)
theorem dX2_walker_115 : decode cX2_walker 115 = .ok (.getfield 111, 3) := dk_180 0 111 (dk_at dksX2_walker_5 4 rfl rfl)
theorem dX2_walker_118 : decode cX2_walker 118 = .ok (.getfield 289, 3) := dk_180 1 33 (dk_at dksX2_walker_5 7 rfl rfl)
theorem dX2_walker_121 : decode cX2_walker 121 = .ok (.aload_n 0, 1) := dk_42 (dk_at dksX2_walker_5 10 rfl rfl)
theorem dX2_walker_122 : decode cX2_walker 122 = .ok (.getfield 111, 3) := dk_180 0 111 (dk_at dksX2_walker_5 11 rfl rfl)
theorem dX2_walker_125 : decode cX2_walker 125 = .ok (.getfield 148, 3) := dk_180 0 148 (dk_at dksX2_walker_5 14 rfl rfl)
theorem dX2_walker_128 : decode cX2_walker 128 = .ok (.aload_n 1, 1) := dk_43 (dk_at dksX2_walker_5 17 rfl rfl)
theorem dX2_walker_129 : decode cX2_walker 129 = .ok (.aastore, 1) := dk_83 (dk_at dksX2_walker_5 18 rfl rfl)
theorem dX2_walker_130 : decode cX2_walker 130 = .ok (.aload_n 0, 1) := dk_42 (dk_at dksX2_walker_5 19 rfl rfl)
theorem dX2_walker_131 : decode cX2_walker 131 = .ok (.getfield 111, 3) := dk_180 0 111 (dk_at dksX2_walker_5 20 rfl rfl)
theorem dX2_walker_134 : decode cX2_walker 134 = .ok (.dup, 1) := dk_89 (dk_at dksX2_walker_5 23 rfl rfl)
theorem dX2_walker_135 : decode cX2_walker 135 = .ok (.getfield 148, 3) := dk_180 0 148 (dk_at dksX2_walker_6 0 rfl rfl)
theorem dX2_walker_138 : decode cX2_walker 138 = .ok (.iconst 1, 1) := dk_4 (dk_at dksX2_walker_6 3 rfl rfl)
theorem dX2_walker_139 : decode cX2_walker 139 = .ok (.iadd, 1) := dk_96 (dk_at dksX2_walker_6 4 rfl rfl)
theorem dX2_walker_140 : decode cX2_walker 140 = .ok (.putfield 148, 3) := dk_181 0 148 (dk_at dksX2_walker_6 5 rfl rfl)
theorem dX2_walker_143 : decode cX2_walker 143 = .ok (.return_, 1) := dk_177 (dk_at dksX2_walker_6 8 rfl rfl)
abbrev cX2_walkerOf : ByteArray := prog_10_method_22_code
def yX2_walkerOf : MethodName := ⟨RX2, "walkerOf", "(Ljava/lang/String;I)LRainWalk$Walker;"⟩
def dkwX2_walkerOf_4 : List UInt8 := [183, 1, 2, 176]
abbrev dktX2_walkerOf_4 : List UInt8 := dkwX2_walkerOf_4 ++ []
def dkwX2_walkerOf_3 : List UInt8 := [183, 0, 253, 176, 42, 18, 254, 182, 0, 122, 187, 1, 0, 89, 43, 28, 42, 4, 16, 99, 182, 0, 126]
abbrev dktX2_walkerOf_3 : List UInt8 := dkwX2_walkerOf_3 ++ dktX2_walkerOf_4
def dkwX2_walkerOf_2 : List UInt8 := [18, 249, 182, 0, 78, 153, 0, 21, 187, 0, 251, 89, 43, 28, 42, 3, 17, 3, 231, 182, 0, 126]
abbrev dktX2_walkerOf_2 : List UInt8 := dkwX2_walkerOf_2 ++ dktX2_walkerOf_3
def dkwX2_walkerOf_1 : List UInt8 := [182, 0, 78, 153, 0, 20, 187, 0, 244, 89, 43, 28, 42, 4, 16, 8, 182, 0, 126, 183, 0, 246, 176, 42]
abbrev dktX2_walkerOf_1 : List UInt8 := dkwX2_walkerOf_1 ++ dktX2_walkerOf_2
def dkwX2_walkerOf_0 : List UInt8 := [42, 18, 237, 182, 0, 78, 153, 0, 13, 187, 0, 239, 89, 43, 28, 183, 0, 241, 176, 42, 18, 242]
abbrev dktX2_walkerOf_0 : List UInt8 := dkwX2_walkerOf_0 ++ dktX2_walkerOf_1
theorem dksX2_walkerOf_0 : cX2_walkerOf.data.toList.drop 0 = dktX2_walkerOf_0 := by decide +kernel
theorem dksX2_walkerOf_1 : cX2_walkerOf.data.toList.drop 22 = dktX2_walkerOf_1 := dk_seg dksX2_walkerOf_0 22 rfl rfl
theorem dksX2_walkerOf_2 : cX2_walkerOf.data.toList.drop 46 = dktX2_walkerOf_2 := dk_seg dksX2_walkerOf_1 24 rfl rfl
theorem dksX2_walkerOf_3 : cX2_walkerOf.data.toList.drop 68 = dktX2_walkerOf_3 := dk_seg dksX2_walkerOf_2 22 rfl rfl
theorem dksX2_walkerOf_4 : cX2_walkerOf.data.toList.drop 91 = dktX2_walkerOf_4 := dk_seg dksX2_walkerOf_3 23 rfl rfl
theorem dX2_walkerOf_0 : decode cX2_walkerOf 0 = .ok (.aload_n 0, 1) := dk_42 (dk_at dksX2_walkerOf_0 0 rfl rfl)
theorem dX2_walkerOf_1 : decode cX2_walkerOf 1 = .ok (.ldc 237, 2) := dk_18 237 (dk_at dksX2_walkerOf_0 1 rfl rfl)
theorem dX2_walkerOf_3 : decode cX2_walkerOf 3 = .ok (.invokevirtual 78, 3) := dk_182 0 78 (dk_at dksX2_walkerOf_0 3 rfl rfl)
theorem dX2_walkerOf_6 : decode cX2_walkerOf 6 = .ok (.ifCond .eq 13, 3) := dk_153 0 13 (dk_at dksX2_walkerOf_0 6 rfl rfl)
theorem dX2_walkerOf_9 : decode cX2_walkerOf 9 = .ok (.new 239, 3) := dk_187 0 239 (dk_at dksX2_walkerOf_0 9 rfl rfl)
theorem dX2_walkerOf_12 : decode cX2_walkerOf 12 = .ok (.dup, 1) := dk_89 (dk_at dksX2_walkerOf_0 12 rfl rfl)
theorem dX2_walkerOf_13 : decode cX2_walkerOf 13 = .ok (.aload_n 1, 1) := dk_43 (dk_at dksX2_walkerOf_0 13 rfl rfl)
theorem dX2_walkerOf_14 : decode cX2_walkerOf 14 = .ok (.iload_n 2, 1) := dk_28 (dk_at dksX2_walkerOf_0 14 rfl rfl)
theorem dX2_walkerOf_15 : decode cX2_walkerOf 15 = .ok (.invokespecial 241, 3) := dk_183 0 241 (dk_at dksX2_walkerOf_0 15 rfl rfl)
theorem dX2_walkerOf_18 : decode cX2_walkerOf 18 = .ok (.areturn, 1) := dk_176 (dk_at dksX2_walkerOf_0 18 rfl rfl)
theorem dX2_walkerOf_19 : decode cX2_walkerOf 19 = .ok (.aload_n 0, 1) := dk_42 (dk_at dksX2_walkerOf_0 19 rfl rfl)
theorem dX2_walkerOf_20 : decode cX2_walkerOf 20 = .ok (.ldc 242, 2) := dk_18 242 (dk_at dksX2_walkerOf_0 20 rfl rfl)
theorem dX2_walkerOf_22 : decode cX2_walkerOf 22 = .ok (.invokevirtual 78, 3) := dk_182 0 78 (dk_at dksX2_walkerOf_1 0 rfl rfl)
theorem dX2_walkerOf_25 : decode cX2_walkerOf 25 = .ok (.ifCond .eq 20, 3) := dk_153 0 20 (dk_at dksX2_walkerOf_1 3 rfl rfl)
theorem dX2_walkerOf_28 : decode cX2_walkerOf 28 = .ok (.new 244, 3) := dk_187 0 244 (dk_at dksX2_walkerOf_1 6 rfl rfl)
theorem dX2_walkerOf_31 : decode cX2_walkerOf 31 = .ok (.dup, 1) := dk_89 (dk_at dksX2_walkerOf_1 9 rfl rfl)
theorem dX2_walkerOf_32 : decode cX2_walkerOf 32 = .ok (.aload_n 1, 1) := dk_43 (dk_at dksX2_walkerOf_1 10 rfl rfl)
theorem dX2_walkerOf_33 : decode cX2_walkerOf 33 = .ok (.iload_n 2, 1) := dk_28 (dk_at dksX2_walkerOf_1 11 rfl rfl)
theorem dX2_walkerOf_34 : decode cX2_walkerOf 34 = .ok (.aload_n 0, 1) := dk_42 (dk_at dksX2_walkerOf_1 12 rfl rfl)
theorem dX2_walkerOf_35 : decode cX2_walkerOf 35 = .ok (.iconst 1, 1) := dk_4 (dk_at dksX2_walkerOf_1 13 rfl rfl)
theorem dX2_walkerOf_36 : decode cX2_walkerOf 36 = .ok (.bipush 8, 2) := dk_16 8 (dk_at dksX2_walkerOf_1 14 rfl rfl)
theorem dX2_walkerOf_38 : decode cX2_walkerOf 38 = .ok (.invokevirtual 126, 3) := dk_182 0 126 (dk_at dksX2_walkerOf_1 16 rfl rfl)
theorem dX2_walkerOf_41 : decode cX2_walkerOf 41 = .ok (.invokespecial 246, 3) := dk_183 0 246 (dk_at dksX2_walkerOf_1 19 rfl rfl)
theorem dX2_walkerOf_44 : decode cX2_walkerOf 44 = .ok (.areturn, 1) := dk_176 (dk_at dksX2_walkerOf_1 22 rfl rfl)
theorem dX2_walkerOf_45 : decode cX2_walkerOf 45 = .ok (.aload_n 0, 1) := dk_42 (dk_at dksX2_walkerOf_1 23 rfl rfl)
theorem dX2_walkerOf_46 : decode cX2_walkerOf 46 = .ok (.ldc 249, 2) := dk_18 249 (dk_at dksX2_walkerOf_2 0 rfl rfl)
theorem dX2_walkerOf_48 : decode cX2_walkerOf 48 = .ok (.invokevirtual 78, 3) := dk_182 0 78 (dk_at dksX2_walkerOf_2 2 rfl rfl)
theorem dX2_walkerOf_51 : decode cX2_walkerOf 51 = .ok (.ifCond .eq 21, 3) := dk_153 0 21 (dk_at dksX2_walkerOf_2 5 rfl rfl)
theorem dX2_walkerOf_54 : decode cX2_walkerOf 54 = .ok (.new 251, 3) := dk_187 0 251 (dk_at dksX2_walkerOf_2 8 rfl rfl)
theorem dX2_walkerOf_57 : decode cX2_walkerOf 57 = .ok (.dup, 1) := dk_89 (dk_at dksX2_walkerOf_2 11 rfl rfl)
theorem dX2_walkerOf_58 : decode cX2_walkerOf 58 = .ok (.aload_n 1, 1) := dk_43 (dk_at dksX2_walkerOf_2 12 rfl rfl)
theorem dX2_walkerOf_59 : decode cX2_walkerOf 59 = .ok (.iload_n 2, 1) := dk_28 (dk_at dksX2_walkerOf_2 13 rfl rfl)
theorem dX2_walkerOf_60 : decode cX2_walkerOf 60 = .ok (.aload_n 0, 1) := dk_42 (dk_at dksX2_walkerOf_2 14 rfl rfl)
theorem dX2_walkerOf_61 : decode cX2_walkerOf 61 = .ok (.iconst 0, 1) := dk_3 (dk_at dksX2_walkerOf_2 15 rfl rfl)
theorem dX2_walkerOf_62 : decode cX2_walkerOf 62 = .ok (.sipush 999, 3) := dk_17 3 231 (dk_at dksX2_walkerOf_2 16 rfl rfl)
theorem dX2_walkerOf_65 : decode cX2_walkerOf 65 = .ok (.invokevirtual 126, 3) := dk_182 0 126 (dk_at dksX2_walkerOf_2 19 rfl rfl)
theorem dX2_walkerOf_68 : decode cX2_walkerOf 68 = .ok (.invokespecial 253, 3) := dk_183 0 253 (dk_at dksX2_walkerOf_3 0 rfl rfl)
theorem dX2_walkerOf_71 : decode cX2_walkerOf 71 = .ok (.areturn, 1) := dk_176 (dk_at dksX2_walkerOf_3 3 rfl rfl)
theorem dX2_walkerOf_72 : decode cX2_walkerOf 72 = .ok (.aload_n 0, 1) := dk_42 (dk_at dksX2_walkerOf_3 4 rfl rfl)
theorem dX2_walkerOf_73 : decode cX2_walkerOf 73 = .ok (.ldc 254, 2) := dk_18 254 (dk_at dksX2_walkerOf_3 5 rfl rfl)
theorem dX2_walkerOf_75 : decode cX2_walkerOf 75 = .ok (.invokevirtual 122, 3) := dk_182 0 122 (dk_at dksX2_walkerOf_3 7 rfl rfl)
theorem dX2_walkerOf_78 : decode cX2_walkerOf 78 = .ok (.new 256, 3) := dk_187 1 0 (dk_at dksX2_walkerOf_3 10 rfl rfl)
theorem dX2_walkerOf_81 : decode cX2_walkerOf 81 = .ok (.dup, 1) := dk_89 (dk_at dksX2_walkerOf_3 13 rfl rfl)
theorem dX2_walkerOf_82 : decode cX2_walkerOf 82 = .ok (.aload_n 1, 1) := dk_43 (dk_at dksX2_walkerOf_3 14 rfl rfl)
theorem dX2_walkerOf_83 : decode cX2_walkerOf 83 = .ok (.iload_n 2, 1) := dk_28 (dk_at dksX2_walkerOf_3 15 rfl rfl)
theorem dX2_walkerOf_84 : decode cX2_walkerOf 84 = .ok (.aload_n 0, 1) := dk_42 (dk_at dksX2_walkerOf_3 16 rfl rfl)
theorem dX2_walkerOf_85 : decode cX2_walkerOf 85 = .ok (.iconst 1, 1) := dk_4 (dk_at dksX2_walkerOf_3 17 rfl rfl)
theorem dX2_walkerOf_86 : decode cX2_walkerOf 86 = .ok (.bipush 99, 2) := dk_16 99 (dk_at dksX2_walkerOf_3 18 rfl rfl)
theorem dX2_walkerOf_88 : decode cX2_walkerOf 88 = .ok (.invokevirtual 126, 3) := dk_182 0 126 (dk_at dksX2_walkerOf_3 20 rfl rfl)
theorem dX2_walkerOf_91 : decode cX2_walkerOf 91 = .ok (.invokespecial 258, 3) := dk_183 1 2 (dk_at dksX2_walkerOf_4 0 rfl rfl)
theorem dX2_walkerOf_94 : decode cX2_walkerOf 94 = .ok (.areturn, 1) := dk_176 (dk_at dksX2_walkerOf_4 3 rfl rfl)
abbrev cX2_seen : ByteArray := prog_10_method_24_code
def yX2_seen : MethodName := ⟨RX2, "seen", "()V"⟩
def dkwX2_seen_6 : List UInt8 := [96, 181, 1, 37, 177]
abbrev dktX2_seen_6 : List UInt8 := dkwX2_seen_6 ++ []
def dkwX2_seen_5 : List UInt8 := [180, 0, 111, 180, 1, 52, 42, 180, 0, 111, 180, 1, 37, 44, 83, 42, 180, 0, 111, 89, 180, 1, 37, 4]
abbrev dktX2_seen_5 : List UInt8 := dkwX2_seen_5 ++ dktX2_seen_6
def dkwX2_seen_4 : List UInt8 := [182, 0, 75, 44, 180, 1, 48, 29, 42, 3, 17, 3, 231, 182, 0, 126, 79, 132, 3, 1, 167, 255, 211, 42]
abbrev dktX2_seen_4 : List UInt8 := dkwX2_seen_4 ++ dktX2_seen_5
def dkwX2_seen_3 : List UInt8 := [8, 162, 0, 46, 29, 158, 0, 22, 42, 180, 0, 47, 16, 44, 159, 0, 9, 42, 4, 182, 0, 82, 191, 42]
abbrev dktX2_seen_3 : List UInt8 := dkwX2_seen_3 ++ dktX2_seen_4
def dkwX2_seen_2 : List UInt8 := [191, 42, 182, 0, 75, 187, 1, 40, 89, 183, 1, 42, 77, 44, 43, 180, 1, 43, 181, 1, 46, 3, 62, 29]
abbrev dktX2_seen_2 : List UInt8 := dkwX2_seen_2 ++ dktX2_seen_3
def dkwX2_seen_1 : List UInt8 := [42, 180, 0, 111, 42, 180, 0, 61, 182, 0, 114, 76, 43, 193, 1, 10, 154, 0, 9, 42, 5, 182, 0, 82]
abbrev dktX2_seen_1 : List UInt8 := dkwX2_seen_1 ++ dktX2_seen_2
def dkwX2_seen_0 : List UInt8 := [42, 42, 180, 0, 111, 180, 1, 37, 7, 162, 0, 7, 4, 167, 0, 4, 3, 182, 0, 172, 42, 182, 0, 108]
abbrev dktX2_seen_0 : List UInt8 := dkwX2_seen_0 ++ dktX2_seen_1
theorem dksX2_seen_0 : cX2_seen.data.toList.drop 0 = dktX2_seen_0 := by decide +kernel
theorem dksX2_seen_1 : cX2_seen.data.toList.drop 24 = dktX2_seen_1 := dk_seg dksX2_seen_0 24 rfl rfl
theorem dksX2_seen_2 : cX2_seen.data.toList.drop 48 = dktX2_seen_2 := dk_seg dksX2_seen_1 24 rfl rfl
theorem dksX2_seen_3 : cX2_seen.data.toList.drop 72 = dktX2_seen_3 := dk_seg dksX2_seen_2 24 rfl rfl
theorem dksX2_seen_4 : cX2_seen.data.toList.drop 96 = dktX2_seen_4 := dk_seg dksX2_seen_3 24 rfl rfl
theorem dksX2_seen_5 : cX2_seen.data.toList.drop 120 = dktX2_seen_5 := dk_seg dksX2_seen_4 24 rfl rfl
theorem dksX2_seen_6 : cX2_seen.data.toList.drop 144 = dktX2_seen_6 := dk_seg dksX2_seen_5 24 rfl rfl
theorem dX2_seen_0 : decode cX2_seen 0 = .ok (.aload_n 0, 1) := dk_42 (dk_at dksX2_seen_0 0 rfl rfl)
theorem dX2_seen_1 : decode cX2_seen 1 = .ok (.aload_n 0, 1) := dk_42 (dk_at dksX2_seen_0 1 rfl rfl)
theorem dX2_seen_2 : decode cX2_seen 2 = .ok (.getfield 111, 3) := dk_180 0 111 (dk_at dksX2_seen_0 2 rfl rfl)
theorem dX2_seen_5 : decode cX2_seen 5 = .ok (.getfield 293, 3) := dk_180 1 37 (dk_at dksX2_seen_0 5 rfl rfl)
theorem dX2_seen_8 : decode cX2_seen 8 = .ok (.iconst 4, 1) := dk_7 (dk_at dksX2_seen_0 8 rfl rfl)
theorem dX2_seen_9 : decode cX2_seen 9 = .ok (.if_icmp .ge 7, 3) := dk_162 0 7 (dk_at dksX2_seen_0 9 rfl rfl)
theorem dX2_seen_12 : decode cX2_seen 12 = .ok (.iconst 1, 1) := dk_4 (dk_at dksX2_seen_0 12 rfl rfl)
theorem dX2_seen_13 : decode cX2_seen 13 = .ok (.goto 4, 3) := dk_167 0 4 (dk_at dksX2_seen_0 13 rfl rfl)
theorem dX2_seen_16 : decode cX2_seen 16 = .ok (.iconst 0, 1) := dk_3 (dk_at dksX2_seen_0 16 rfl rfl)
theorem dX2_seen_17 : decode cX2_seen 17 = .ok (.invokevirtual 172, 3) := dk_182 0 172 (dk_at dksX2_seen_0 17 rfl rfl)
theorem dX2_seen_20 : decode cX2_seen 20 = .ok (.aload_n 0, 1) := dk_42 (dk_at dksX2_seen_0 20 rfl rfl)
theorem dX2_seen_21 : decode cX2_seen 21 = .ok (.invokevirtual 108, 3) := dk_182 0 108 (dk_at dksX2_seen_0 21 rfl rfl)
theorem dX2_seen_24 : decode cX2_seen 24 = .ok (.aload_n 0, 1) := dk_42 (dk_at dksX2_seen_1 0 rfl rfl)
theorem dX2_seen_25 : decode cX2_seen 25 = .ok (.getfield 111, 3) := dk_180 0 111 (dk_at dksX2_seen_1 1 rfl rfl)
theorem dX2_seen_28 : decode cX2_seen 28 = .ok (.aload_n 0, 1) := dk_42 (dk_at dksX2_seen_1 4 rfl rfl)
theorem dX2_seen_29 : decode cX2_seen 29 = .ok (.getfield 61, 3) := dk_180 0 61 (dk_at dksX2_seen_1 5 rfl rfl)
theorem dX2_seen_32 : decode cX2_seen 32 = .ok (.invokevirtual 114, 3) := dk_182 0 114 (dk_at dksX2_seen_1 8 rfl rfl)
theorem dX2_seen_35 : decode cX2_seen 35 = .ok (.astore_n 1, 1) := dk_76 (dk_at dksX2_seen_1 11 rfl rfl)
theorem dX2_seen_36 : decode cX2_seen 36 = .ok (.aload_n 1, 1) := dk_43 (dk_at dksX2_seen_1 12 rfl rfl)
theorem dX2_seen_37 : decode cX2_seen 37 = .ok (.instanceof 266, 3) := dk_193 1 10 (dk_at dksX2_seen_1 13 rfl rfl)
theorem dX2_seen_40 : decode cX2_seen 40 = .ok (.ifCond .ne 9, 3) := dk_154 0 9 (dk_at dksX2_seen_1 16 rfl rfl)
theorem dX2_seen_43 : decode cX2_seen 43 = .ok (.aload_n 0, 1) := dk_42 (dk_at dksX2_seen_1 19 rfl rfl)
theorem dX2_seen_44 : decode cX2_seen 44 = .ok (.iconst 2, 1) := dk_5 (dk_at dksX2_seen_1 20 rfl rfl)
theorem dX2_seen_45 : decode cX2_seen 45 = .ok (.invokevirtual 82, 3) := dk_182 0 82 (dk_at dksX2_seen_1 21 rfl rfl)
theorem dX2_seen_48 : decode cX2_seen 48 = .ok (.athrow, 1) := dk_191 (dk_at dksX2_seen_2 0 rfl rfl)
theorem dX2_seen_49 : decode cX2_seen 49 = .ok (.aload_n 0, 1) := dk_42 (dk_at dksX2_seen_2 1 rfl rfl)
theorem dX2_seen_50 : decode cX2_seen 50 = .ok (.invokevirtual 75, 3) := dk_182 0 75 (dk_at dksX2_seen_2 2 rfl rfl)
theorem dX2_seen_53 : decode cX2_seen 53 = .ok (.new 296, 3) := dk_187 1 40 (dk_at dksX2_seen_2 5 rfl rfl)
theorem dX2_seen_56 : decode cX2_seen 56 = .ok (.dup, 1) := dk_89 (dk_at dksX2_seen_2 8 rfl rfl)
theorem dX2_seen_57 : decode cX2_seen 57 = .ok (.invokespecial 298, 3) := dk_183 1 42 (dk_at dksX2_seen_2 9 rfl rfl)
theorem dX2_seen_60 : decode cX2_seen 60 = .ok (.astore_n 2, 1) := dk_77 (dk_at dksX2_seen_2 12 rfl rfl)
theorem dX2_seen_61 : decode cX2_seen 61 = .ok (.aload_n 2, 1) := dk_44 (dk_at dksX2_seen_2 13 rfl rfl)
theorem dX2_seen_62 : decode cX2_seen 62 = .ok (.aload_n 1, 1) := dk_43 (dk_at dksX2_seen_2 14 rfl rfl)
theorem dX2_seen_63 : decode cX2_seen 63 = .ok (.getfield 299, 3) := dk_180 1 43 (dk_at dksX2_seen_2 15 rfl rfl)
theorem dX2_seen_66 : decode cX2_seen 66 = .ok (.putfield 302, 3) := dk_181 1 46 (dk_at dksX2_seen_2 18 rfl rfl)
theorem dX2_seen_69 : decode cX2_seen 69 = .ok (.iconst 0, 1) := dk_3 (dk_at dksX2_seen_2 21 rfl rfl)
theorem dX2_seen_70 : decode cX2_seen 70 = .ok (.istore_n 3, 1) := dk_62 (dk_at dksX2_seen_2 22 rfl rfl)
theorem dX2_seen_71 : decode cX2_seen 71 = .ok (.iload_n 3, 1) := dk_29 (dk_at dksX2_seen_2 23 rfl rfl)
theorem dX2_seen_72 : decode cX2_seen 72 = .ok (.iconst 5, 1) := dk_8 (dk_at dksX2_seen_3 0 rfl rfl)
theorem dX2_seen_73 : decode cX2_seen 73 = .ok (.if_icmp .ge 46, 3) := dk_162 0 46 (dk_at dksX2_seen_3 1 rfl rfl)
theorem dX2_seen_76 : decode cX2_seen 76 = .ok (.iload_n 3, 1) := dk_29 (dk_at dksX2_seen_3 4 rfl rfl)
theorem dX2_seen_77 : decode cX2_seen 77 = .ok (.ifCond .le 22, 3) := dk_158 0 22 (dk_at dksX2_seen_3 5 rfl rfl)
theorem dX2_seen_80 : decode cX2_seen 80 = .ok (.aload_n 0, 1) := dk_42 (dk_at dksX2_seen_3 8 rfl rfl)
theorem dX2_seen_81 : decode cX2_seen 81 = .ok (.getfield 47, 3) := dk_180 0 47 (dk_at dksX2_seen_3 9 rfl rfl)
theorem dX2_seen_84 : decode cX2_seen 84 = .ok (.bipush 44, 2) := dk_16 44 (dk_at dksX2_seen_3 12 rfl rfl)
theorem dX2_seen_86 : decode cX2_seen 86 = .ok (.if_icmp .eq 9, 3) := dk_159 0 9 (dk_at dksX2_seen_3 14 rfl rfl)
theorem dX2_seen_89 : decode cX2_seen 89 = .ok (.aload_n 0, 1) := dk_42 (dk_at dksX2_seen_3 17 rfl rfl)
theorem dX2_seen_90 : decode cX2_seen 90 = .ok (.iconst 1, 1) := dk_4 (dk_at dksX2_seen_3 18 rfl rfl)
theorem dX2_seen_91 : decode cX2_seen 91 = .ok (.invokevirtual 82, 3) := dk_182 0 82 (dk_at dksX2_seen_3 19 rfl rfl)
theorem dX2_seen_94 : decode cX2_seen 94 = .ok (.athrow, 1) := dk_191 (dk_at dksX2_seen_3 22 rfl rfl)
theorem dX2_seen_95 : decode cX2_seen 95 = .ok (.aload_n 0, 1) := dk_42 (dk_at dksX2_seen_3 23 rfl rfl)
theorem dX2_seen_96 : decode cX2_seen 96 = .ok (.invokevirtual 75, 3) := dk_182 0 75 (dk_at dksX2_seen_4 0 rfl rfl)
theorem dX2_seen_99 : decode cX2_seen 99 = .ok (.aload_n 2, 1) := dk_44 (dk_at dksX2_seen_4 3 rfl rfl)
theorem dX2_seen_100 : decode cX2_seen 100 = .ok (.getfield 304, 3) := dk_180 1 48 (dk_at dksX2_seen_4 4 rfl rfl)
theorem dX2_seen_103 : decode cX2_seen 103 = .ok (.iload_n 3, 1) := dk_29 (dk_at dksX2_seen_4 7 rfl rfl)
theorem dX2_seen_104 : decode cX2_seen 104 = .ok (.aload_n 0, 1) := dk_42 (dk_at dksX2_seen_4 8 rfl rfl)
theorem dX2_seen_105 : decode cX2_seen 105 = .ok (.iconst 0, 1) := dk_3 (dk_at dksX2_seen_4 9 rfl rfl)
theorem dX2_seen_106 : decode cX2_seen 106 = .ok (.sipush 999, 3) := dk_17 3 231 (dk_at dksX2_seen_4 10 rfl rfl)
theorem dX2_seen_109 : decode cX2_seen 109 = .ok (.invokevirtual 126, 3) := dk_182 0 126 (dk_at dksX2_seen_4 13 rfl rfl)
theorem dX2_seen_112 : decode cX2_seen 112 = .ok (.iastore, 1) := dk_79 (dk_at dksX2_seen_4 16 rfl rfl)
theorem dX2_seen_113 : decode cX2_seen 113 = .ok (.iinc 3 1, 3) := dk_132 3 1 (dk_at dksX2_seen_4 17 rfl rfl)
theorem dX2_seen_116 : decode cX2_seen 116 = .ok (.goto (-45), 3) := dk_167 255 211 (dk_at dksX2_seen_4 20 rfl rfl)
theorem dX2_seen_119 : decode cX2_seen 119 = .ok (.aload_n 0, 1) := dk_42 (dk_at dksX2_seen_4 23 rfl rfl)
theorem dX2_seen_120 : decode cX2_seen 120 = .ok (.getfield 111, 3) := dk_180 0 111 (dk_at dksX2_seen_5 0 rfl rfl)
theorem dX2_seen_123 : decode cX2_seen 123 = .ok (.getfield 308, 3) := dk_180 1 52 (dk_at dksX2_seen_5 3 rfl rfl)
theorem dX2_seen_126 : decode cX2_seen 126 = .ok (.aload_n 0, 1) := dk_42 (dk_at dksX2_seen_5 6 rfl rfl)
theorem dX2_seen_127 : decode cX2_seen 127 = .ok (.getfield 111, 3) := dk_180 0 111 (dk_at dksX2_seen_5 7 rfl rfl)
theorem dX2_seen_130 : decode cX2_seen 130 = .ok (.getfield 293, 3) := dk_180 1 37 (dk_at dksX2_seen_5 10 rfl rfl)
theorem dX2_seen_133 : decode cX2_seen 133 = .ok (.aload_n 2, 1) := dk_44 (dk_at dksX2_seen_5 13 rfl rfl)
theorem dX2_seen_134 : decode cX2_seen 134 = .ok (.aastore, 1) := dk_83 (dk_at dksX2_seen_5 14 rfl rfl)
theorem dX2_seen_135 : decode cX2_seen 135 = .ok (.aload_n 0, 1) := dk_42 (dk_at dksX2_seen_5 15 rfl rfl)
theorem dX2_seen_136 : decode cX2_seen 136 = .ok (.getfield 111, 3) := dk_180 0 111 (dk_at dksX2_seen_5 16 rfl rfl)
theorem dX2_seen_139 : decode cX2_seen 139 = .ok (.dup, 1) := dk_89 (dk_at dksX2_seen_5 19 rfl rfl)
theorem dX2_seen_140 : decode cX2_seen 140 = .ok (.getfield 293, 3) := dk_180 1 37 (dk_at dksX2_seen_5 20 rfl rfl)
theorem dX2_seen_143 : decode cX2_seen 143 = .ok (.iconst 1, 1) := dk_4 (dk_at dksX2_seen_5 23 rfl rfl)
theorem dX2_seen_144 : decode cX2_seen 144 = .ok (.iadd, 1) := dk_96 (dk_at dksX2_seen_6 0 rfl rfl)
theorem dX2_seen_145 : decode cX2_seen 145 = .ok (.putfield 293, 3) := dk_181 1 37 (dk_at dksX2_seen_6 1 rfl rfl)
theorem dX2_seen_148 : decode cX2_seen 148 = .ok (.return_, 1) := dk_177 (dk_at dksX2_seen_6 4 rfl rfl)
theorem q113 : (Jvm.Cond.initialized "RainWalk$Reader") ∈ lw_all := lw_g (lw_at lw_m1 2 rfl) rfl
theorem q151 : (Jvm.Cond.instantiable "RainWalk$Reader" (10 : Nat)) ∈ lw_all := lw_g (lw_at lw_m1 40 rfl) rfl
theorem q153 : (Jvm.Cond.instanceMethod ({ cls := "RainWalk$Reader", name := "<init>", desc := "([B)V" } : Jvm.MethodName)) ∈ lw_all := lw_g (lw_at lw_m1 42 rfl) rfl
theorem q154 : (Jvm.Cond.code ({ cls := "RainWalk$Reader", name := "<init>", desc := "([B)V" } : Jvm.MethodName) prog_10_method_1_code (2 : Nat) (Option.none : Option Jvm.ClassFile.FieldType)) ∈ lw_all := lw_g (lw_at lw_m1 43 rfl) rfl
theorem q155 : (Jvm.Cond.methodLink "RainWalk$Reader" (3 : Nat) ({ cls := "java/lang/Object", name := "<init>", desc := "()V" } : Jvm.MethodName)) ∈ lw_all := lw_g (lw_at lw_m1 44 rfl) rfl
theorem q156 : (Jvm.Cond.classLink "RainWalk$Reader" (9 : Nat) "RainWalk$Refused") ∈ lw_all := lw_g (lw_at lw_m1 45 rfl) rfl
theorem q196 : (Jvm.Cond.methodLink "RainWalk$Reader" (11 : Nat) ({ cls := "RainWalk$Refused", name := "<init>", desc := "()V" } : Jvm.MethodName)) ∈ lw_all := lw_g (lw_at lw_m1 85 rfl) rfl
theorem q230 : (Jvm.Cond.fieldLink "RainWalk$Reader" (12 : Nat) "RainWalk$Reader" "wrong" "LRainWalk$Refused;") ∈ lw_all := lw_g (lw_at lw_m1 119 rfl) rfl
theorem q231 : (Jvm.Cond.fieldLink "RainWalk$Reader" (22 : Nat) "RainWalk$Reader" "text" "[B") ∈ lw_all := lw_g (lw_at lw_m1 120 rfl) rfl
theorem q232 : (Jvm.Cond.fieldLink "RainWalk$Reader" (18 : Nat) "RainWalk$Reader" "letters" "[C") ∈ lw_all := lw_g (lw_at lw_m1 121 rfl) rfl
theorem q233 : (Jvm.Cond.fieldLink "RainWalk$Reader" (33 : Nat) "RainWalk$Reader" "size" "I") ∈ lw_all := lw_g (lw_at lw_m1 122 rfl) rfl
theorem q234 : (Jvm.Cond.fieldLink "RainWalk$Reader" (40 : Nat) "RainWalk$Reader" "end" "I") ∈ lw_all := lw_g (lw_at lw_m1 123 rfl) rfl
theorem q235 : (Jvm.Cond.fieldLink "RainWalk$Reader" (47 : Nat) "RainWalk$Reader" "token" "I") ∈ lw_all := lw_g (lw_at lw_m1 124 rfl) rfl
theorem q236 : (Jvm.Cond.fieldLink "RainWalk$Reader" (26 : Nat) "RainWalk$Reader" "at" "I") ∈ lw_all := lw_g (lw_at lw_m1 125 rfl) rfl
theorem q237 : (Jvm.Cond.fieldLink "RainWalk$Reader" (68 : Nat) "RainWalk$Reader" "whole" "I") ∈ lw_all := lw_g (lw_at lw_m1 126 rfl) rfl
theorem q238 : (Jvm.Cond.fieldLink "RainWalk$Reader" (61 : Nat) "RainWalk$Reader" "word" "Ljava/lang/String;") ∈ lw_all := lw_g (lw_at lw_m1 127 rfl) rfl
theorem q239 : (Jvm.Cond.fieldLink "RainWalk$Reader" (111 : Nat) "RainWalk$Reader" "world" "LRainWalk$World;") ∈ lw_all := lw_g (lw_at lw_m1 128 rfl) rfl
theorem q240 : (Jvm.Cond.laysFinal "RainWalk$Reader" "RainWalk$Reader" "wrong" "LRainWalk$Refused;") ∈ lw_all := lw_g (lw_at lw_m1 129 rfl) rfl
theorem q241 : (Jvm.Cond.soleField "RainWalk$Reader" "wrong") ∈ lw_all := lw_g (lw_at lw_m1 130 rfl) rfl
theorem q242 : (Jvm.Cond.laysFinal "RainWalk$Reader" "RainWalk$Reader" "text" "[B") ∈ lw_all := lw_g (lw_at lw_m1 131 rfl) rfl
theorem q243 : (Jvm.Cond.soleField "RainWalk$Reader" "text") ∈ lw_all := lw_g (lw_at lw_m1 132 rfl) rfl
theorem q244 : (Jvm.Cond.laysFinal "RainWalk$Reader" "RainWalk$Reader" "letters" "[C") ∈ lw_all := lw_g (lw_at lw_m1 133 rfl) rfl
theorem q245 : (Jvm.Cond.soleField "RainWalk$Reader" "letters") ∈ lw_all := lw_g (lw_at lw_m1 134 rfl) rfl
theorem q246 : (Jvm.Cond.lays "RainWalk$Reader" "RainWalk$Reader" "size" "I") ∈ lw_all := lw_g (lw_at lw_m1 135 rfl) rfl
theorem q247 : (Jvm.Cond.soleField "RainWalk$Reader" "size") ∈ lw_all := lw_g (lw_at lw_m1 136 rfl) rfl
theorem q248 : (Jvm.Cond.lays "RainWalk$Reader" "RainWalk$Reader" "end" "I") ∈ lw_all := lw_g (lw_at lw_m1 137 rfl) rfl
theorem q249 : (Jvm.Cond.soleField "RainWalk$Reader" "end") ∈ lw_all := lw_g (lw_at lw_m1 138 rfl) rfl
theorem q250 : (Jvm.Cond.lays "RainWalk$Reader" "RainWalk$Reader" "token" "I") ∈ lw_all := lw_g (lw_at lw_m1 139 rfl) rfl
theorem q251 : (Jvm.Cond.soleField "RainWalk$Reader" "token") ∈ lw_all := lw_g (lw_at lw_m1 140 rfl) rfl
theorem q252 : (Jvm.Cond.lays "RainWalk$Reader" "RainWalk$Reader" "at" "I") ∈ lw_all := lw_g (lw_at lw_m1 141 rfl) rfl
theorem q253 : (Jvm.Cond.soleField "RainWalk$Reader" "at") ∈ lw_all := lw_g (lw_at lw_m1 142 rfl) rfl
theorem q254 : (Jvm.Cond.lays "RainWalk$Reader" "RainWalk$Reader" "whole" "I") ∈ lw_all := lw_g (lw_at lw_m1 143 rfl) rfl
theorem q255 : (Jvm.Cond.soleField "RainWalk$Reader" "whole") ∈ lw_all := lw_g (lw_at lw_m1 144 rfl) rfl
theorem q256 : (Jvm.Cond.lays "RainWalk$Reader" "RainWalk$Reader" "word" "Ljava/lang/String;") ∈ lw_all := lw_g (lw_at lw_m1 145 rfl) rfl
theorem q257 : (Jvm.Cond.soleField "RainWalk$Reader" "word") ∈ lw_all := lw_g (lw_at lw_m1 146 rfl) rfl
theorem q258 : (Jvm.Cond.lays "RainWalk$Reader" "RainWalk$Reader" "world" "LRainWalk$World;") ∈ lw_all := lw_g (lw_at lw_m1 147 rfl) rfl
theorem q259 : (Jvm.Cond.soleField "RainWalk$Reader" "world") ∈ lw_all := lw_g (lw_at lw_m1 148 rfl) rfl
theorem q260 : (Jvm.Cond.superclass "RainWalk$Reader" "java/lang/Object") ∈ lw_all := lw_g (lw_at lw_m1 149 rfl) rfl
theorem q423 : (Jvm.Cond.instanceMethod ({ cls := "RainWalk$Reader", name := "read", desc := "(I)LRainWalk$World;" } : Jvm.MethodName)) ∈ lw_all := lw_g (lw_at lw_m2 72 rfl) rfl
theorem q424 : (Jvm.Cond.selects "RainWalk$Reader" ({ cls := "RainWalk$Reader", name := "read", desc := "(I)LRainWalk$World;" } : Jvm.MethodName) ({ cls := "RainWalk$Reader", name := "read", desc := "(I)LRainWalk$World;" } : Jvm.MethodName)) ∈ lw_all := lw_g (lw_at lw_m2 73 rfl) rfl
theorem q425 : (Jvm.Cond.code ({ cls := "RainWalk$Reader", name := "read", desc := "(I)LRainWalk$World;" } : Jvm.MethodName) prog_10_method_16_code (2 : Nat) (Option.some (Jvm.ClassFile.FieldType.object "RainWalk$World"))) ∈ lw_all := lw_g (lw_at lw_m2 74 rfl) rfl
theorem q426 : (Jvm.Cond.classLink "RainWalk$Reader" (115 : Nat) "RainWalk$World") ∈ lw_all := lw_g (lw_at lw_m2 75 rfl) rfl
theorem q428 : (Jvm.Cond.methodLinkNest "RainWalk$Reader" (141 : Nat) ({ cls := "RainWalk$World", name := "<init>", desc := "()V" } : Jvm.MethodName) "RainWalk") ∈ lw_tbl := lw_at lw_m2 77 rfl
theorem q445 : (Jvm.Cond.fieldLink "RainWalk$Reader" (185 : Nat) "RainWalk$World" "hours" "[LRainWalk$Rain;") ∈ lw_all := lw_g (lw_at lw_m2 94 rfl) rfl
theorem q448 : (Jvm.Cond.fieldLink "RainWalk$Reader" (213 : Nat) "RainWalk$World" "places" "[LRainWalk$Place;") ∈ lw_all := lw_g (lw_at lw_m2 97 rfl) rfl
theorem q453 : (Jvm.Cond.fieldLink "RainWalk$Reader" (233 : Nat) "RainWalk$World" "roads" "[LRainWalk$Road;") ∈ lw_all := lw_g (lw_at lw_m2 102 rfl) rfl
theorem q456 : (Jvm.Cond.fieldLink "RainWalk$Reader" (289 : Nat) "RainWalk$World" "walkers" "[LRainWalk$Walker;") ∈ lw_all := lw_g (lw_at lw_m2 105 rfl) rfl
theorem q458 : (Jvm.Cond.fieldLink "RainWalk$Reader" (308 : Nat) "RainWalk$World" "seen" "[LRainWalk$Seen;") ∈ lw_all := lw_g (lw_at lw_m2 107 rfl) rfl
theorem q461 : (Jvm.Cond.fieldLink "RainWalk$Reader" (138 : Nat) "RainWalk$World" "hour" "I") ∈ lw_all := lw_g (lw_at lw_m2 110 rfl) rfl
theorem q466 : (Jvm.Cond.fieldLink "RainWalk$Reader" (169 : Nat) "RainWalk$World" "hourMany" "I") ∈ lw_all := lw_g (lw_at lw_m2 115 rfl) rfl
theorem q470 : (Jvm.Cond.fieldLink "RainWalk$Reader" (145 : Nat) "RainWalk$World" "placeMany" "I") ∈ lw_all := lw_g (lw_at lw_m2 119 rfl) rfl
theorem q473 : (Jvm.Cond.fieldLink "RainWalk$Reader" (217 : Nat) "RainWalk$World" "roadMany" "I") ∈ lw_all := lw_g (lw_at lw_m2 122 rfl) rfl
theorem q476 : (Jvm.Cond.fieldLink "RainWalk$Reader" (148 : Nat) "RainWalk$World" "walkerMany" "I") ∈ lw_all := lw_g (lw_at lw_m2 125 rfl) rfl
theorem q477 : (Jvm.Cond.fieldLink "RainWalk$Reader" (293 : Nat) "RainWalk$World" "seenMany" "I") ∈ lw_all := lw_g (lw_at lw_m2 126 rfl) rfl
theorem q502 : (Jvm.Cond.methodLink "RainWalk$Reader" (75 : Nat) ({ cls := "RainWalk$Reader", name := "next", desc := "()V" } : Jvm.MethodName)) ∈ lw_all := lw_g (lw_at lw_m2 151 rfl) rfl
theorem q503 : (Jvm.Cond.privateMethod ({ cls := "RainWalk$Reader", name := "next", desc := "()V" } : Jvm.MethodName)) ∈ lw_tbl := lw_at lw_m2 152 rfl
theorem q504 : (Jvm.Cond.instanceMethod ({ cls := "RainWalk$Reader", name := "next", desc := "()V" } : Jvm.MethodName)) ∈ lw_all := lw_g (lw_at lw_m2 153 rfl) rfl
theorem q505 : (Jvm.Cond.code ({ cls := "RainWalk$Reader", name := "next", desc := "()V" } : Jvm.MethodName) prog_10_method_6_code (3 : Nat) (Option.none : Option Jvm.ClassFile.FieldType)) ∈ lw_all := lw_g (lw_at lw_m2 154 rfl) rfl
theorem q506 : (Jvm.Cond.methodLink "RainWalk$Reader" (43 : Nat) ({ cls := "RainWalk$Reader", name := "see", desc := "(I)I" } : Jvm.MethodName)) ∈ lw_all := lw_g (lw_at lw_m2 155 rfl) rfl
theorem q507 : (Jvm.Cond.privateMethod ({ cls := "RainWalk$Reader", name := "see", desc := "(I)I" } : Jvm.MethodName)) ∈ lw_tbl := lw_at lw_m2 156 rfl
theorem q508 : (Jvm.Cond.instanceMethod ({ cls := "RainWalk$Reader", name := "see", desc := "(I)I" } : Jvm.MethodName)) ∈ lw_all := lw_g (lw_at lw_m2 157 rfl) rfl
theorem q509 : (Jvm.Cond.code ({ cls := "RainWalk$Reader", name := "see", desc := "(I)I" } : Jvm.MethodName) prog_10_method_3_code (2 : Nat) (Option.some Jvm.ClassFile.FieldType.int)) ∈ lw_all := lw_g (lw_at lw_m2 158 rfl) rfl
theorem q510 : (Jvm.Cond.methodLink "RainWalk$Reader" (50 : Nat) ({ cls := "RainWalk$Reader", name := "isSmall", desc := "(I)Z" } : Jvm.MethodName)) ∈ lw_all := lw_g (lw_at lw_m2 159 rfl) rfl
theorem q511 : (Jvm.Cond.static ({ cls := "RainWalk$Reader", name := "isSmall", desc := "(I)Z" } : Jvm.MethodName)) ∈ lw_all := lw_g (lw_at lw_m2 160 rfl) rfl
theorem q512 : (Jvm.Cond.code ({ cls := "RainWalk$Reader", name := "isSmall", desc := "(I)Z" } : Jvm.MethodName) prog_10_method_4_code (1 : Nat) (Option.some Jvm.ClassFile.FieldType.boolean)) ∈ lw_all := lw_g (lw_at lw_m2 161 rfl) rfl
theorem q513 : (Jvm.Cond.methodLinkNest "RainWalk$Reader" (36 : Nat) ({ cls := "RainWalk", name := "in", desc := "(III)Z" } : Jvm.MethodName) "RainWalk") ∈ lw_tbl := lw_at lw_m2 162 rfl
theorem q514 : (Jvm.Cond.classLink "RainWalk$Reader" (54 : Nat) "java/lang/String") ∈ lw_all := lw_g (lw_at lw_m2 163 rfl) rfl
theorem q516 : (Jvm.Cond.methodLink "RainWalk$Reader" (56 : Nat) ({ cls := "java/lang/String", name := "<init>", desc := "([CII)V" } : Jvm.MethodName)) ∈ lw_all := lw_g (lw_at lw_m2 165 rfl) rfl
theorem q592 : (Jvm.Cond.stringRef "RainWalk$Reader" (59 : Nat) "") ∈ lw_tbl := lw_at lw_m3 1 rfl
theorem q593 : (Jvm.Cond.methodLink "RainWalk$Reader" (65 : Nat) ({ cls := "RainWalk$Reader", name := "isDigit", desc := "(I)Z" } : Jvm.MethodName)) ∈ lw_all := lw_g (lw_at lw_m3 2 rfl) rfl
theorem q594 : (Jvm.Cond.static ({ cls := "RainWalk$Reader", name := "isDigit", desc := "(I)Z" } : Jvm.MethodName)) ∈ lw_all := lw_g (lw_at lw_m3 3 rfl) rfl
theorem q595 : (Jvm.Cond.code ({ cls := "RainWalk$Reader", name := "isDigit", desc := "(I)Z" } : Jvm.MethodName) prog_10_method_5_code (1 : Nat) (Option.some Jvm.ClassFile.FieldType.boolean)) ∈ lw_all := lw_g (lw_at lw_m3 4 rfl) rfl
theorem q596 : (Jvm.Cond.methodLink "RainWalk$Reader" (142 : Nat) ({ cls := "RainWalk$Reader", name := "line", desc := "()V" } : Jvm.MethodName)) ∈ lw_all := lw_g (lw_at lw_m3 5 rfl) rfl
theorem q597 : (Jvm.Cond.privateMethod ({ cls := "RainWalk$Reader", name := "line", desc := "()V" } : Jvm.MethodName)) ∈ lw_tbl := lw_at lw_m3 6 rfl
theorem q598 : (Jvm.Cond.instanceMethod ({ cls := "RainWalk$Reader", name := "line", desc := "()V" } : Jvm.MethodName)) ∈ lw_all := lw_g (lw_at lw_m3 7 rfl) rfl
theorem q599 : (Jvm.Cond.code ({ cls := "RainWalk$Reader", name := "line", desc := "()V" } : Jvm.MethodName) prog_10_method_17_code (3 : Nat) (Option.none : Option Jvm.ClassFile.FieldType)) ∈ lw_all := lw_g (lw_at lw_m3 8 rfl) rfl
theorem q600 : (Jvm.Cond.methodLink "RainWalk$Reader" (82 : Nat) ({ cls := "RainWalk$Reader", name := "fail", desc := "(I)LRainWalk$Refused;" } : Jvm.MethodName)) ∈ lw_all := lw_g (lw_at lw_m3 9 rfl) rfl
theorem q601 : (Jvm.Cond.privateMethod ({ cls := "RainWalk$Reader", name := "fail", desc := "(I)LRainWalk$Refused;" } : Jvm.MethodName)) ∈ lw_tbl := lw_at lw_m3 10 rfl
theorem q602 : (Jvm.Cond.instanceMethod ({ cls := "RainWalk$Reader", name := "fail", desc := "(I)LRainWalk$Refused;" } : Jvm.MethodName)) ∈ lw_all := lw_g (lw_at lw_m3 11 rfl) rfl
theorem q603 : (Jvm.Cond.code ({ cls := "RainWalk$Reader", name := "fail", desc := "(I)LRainWalk$Refused;" } : Jvm.MethodName) prog_10_method_2_code (2 : Nat) (Option.some (Jvm.ClassFile.FieldType.object "RainWalk$Refused"))) ∈ lw_all := lw_g (lw_at lw_m3 12 rfl) rfl
theorem q604 : (Jvm.Cond.methodLink "RainWalk$Reader" (30 : Nat) ({ cls := "RainWalk$Refused", name := "at", desc := "(II)LRainWalk$Refused;" } : Jvm.MethodName)) ∈ lw_all := lw_g (lw_at lw_m3 13 rfl) rfl
theorem q608 : (Jvm.Cond.methodLink "RainWalk$Reader" (86 : Nat) ({ cls := "java/lang/String", name := "hashCode", desc := "()I" } : Jvm.MethodName)) ∈ lw_all := lw_g (lw_at lw_m3 17 rfl) rfl
theorem q661 : (Jvm.Cond.stringRef "RainWalk$Reader" (90 : Nat) "world") ∈ lw_tbl := lw_at lw_m3 70 rfl
theorem q662 : (Jvm.Cond.methodLink "RainWalk$Reader" (71 : Nat) ({ cls := "java/lang/String", name := "equals", desc := "(Ljava/lang/Object;)Z" } : Jvm.MethodName)) ∈ lw_all := lw_g (lw_at lw_m3 71 rfl) rfl
theorem q670 : (Jvm.Cond.stringRef "RainWalk$Reader" (92 : Nat) "rain") ∈ lw_tbl := lw_at lw_m3 79 rfl
theorem q671 : (Jvm.Cond.stringRef "RainWalk$Reader" (94 : Nat) "place") ∈ lw_tbl := lw_at lw_m3 80 rfl
theorem q672 : (Jvm.Cond.stringRef "RainWalk$Reader" (96 : Nat) "road") ∈ lw_tbl := lw_at lw_m3 81 rfl
theorem q673 : (Jvm.Cond.stringRef "RainWalk$Reader" (98 : Nat) "walker") ∈ lw_tbl := lw_at lw_m3 82 rfl
theorem q674 : (Jvm.Cond.stringRef "RainWalk$Reader" (100 : Nat) "seen") ∈ lw_tbl := lw_at lw_m3 83 rfl
theorem q675 : (Jvm.Cond.methodLink "RainWalk$Reader" (151 : Nat) ({ cls := "RainWalk$Reader", name := "worldLine", desc := "()V" } : Jvm.MethodName)) ∈ lw_all := lw_g (lw_at lw_m3 84 rfl) rfl
theorem q676 : (Jvm.Cond.privateMethod ({ cls := "RainWalk$Reader", name := "worldLine", desc := "()V" } : Jvm.MethodName)) ∈ lw_tbl := lw_at lw_m3 85 rfl
theorem q677 : (Jvm.Cond.instanceMethod ({ cls := "RainWalk$Reader", name := "worldLine", desc := "()V" } : Jvm.MethodName)) ∈ lw_all := lw_g (lw_at lw_m3 86 rfl) rfl
theorem q678 : (Jvm.Cond.code ({ cls := "RainWalk$Reader", name := "worldLine", desc := "()V" } : Jvm.MethodName) prog_10_method_18_code (1 : Nat) (Option.none : Option Jvm.ClassFile.FieldType)) ∈ lw_all := lw_g (lw_at lw_m3 87 rfl) rfl
theorem q679 : (Jvm.Cond.stringRef "RainWalk$Reader" (164 : Nat) "hour") ∈ lw_tbl := lw_at lw_m3 88 rfl
theorem q680 : (Jvm.Cond.methodLink "RainWalk$Reader" (165 : Nat) ({ cls := "RainWalk$Reader", name := "after", desc := "(Ljava/lang/String;II)I" } : Jvm.MethodName)) ∈ lw_all := lw_g (lw_at lw_m3 89 rfl) rfl
theorem q681 : (Jvm.Cond.privateMethod ({ cls := "RainWalk$Reader", name := "after", desc := "(Ljava/lang/String;II)I" } : Jvm.MethodName)) ∈ lw_tbl := lw_at lw_m3 90 rfl
theorem q682 : (Jvm.Cond.instanceMethod ({ cls := "RainWalk$Reader", name := "after", desc := "(Ljava/lang/String;II)I" } : Jvm.MethodName)) ∈ lw_all := lw_g (lw_at lw_m3 91 rfl) rfl
theorem q683 : (Jvm.Cond.code ({ cls := "RainWalk$Reader", name := "after", desc := "(Ljava/lang/String;II)I" } : Jvm.MethodName) prog_10_method_13_code (4 : Nat) (Option.some Jvm.ClassFile.FieldType.int)) ∈ lw_all := lw_g (lw_at lw_m3 92 rfl) rfl
theorem q684 : (Jvm.Cond.methodLink "RainWalk$Reader" (122 : Nat) ({ cls := "RainWalk$Reader", name := "must", desc := "(Ljava/lang/String;)V" } : Jvm.MethodName)) ∈ lw_all := lw_g (lw_at lw_m3 93 rfl) rfl
theorem q685 : (Jvm.Cond.privateMethod ({ cls := "RainWalk$Reader", name := "must", desc := "(Ljava/lang/String;)V" } : Jvm.MethodName)) ∈ lw_tbl := lw_at lw_m3 94 rfl
theorem q686 : (Jvm.Cond.instanceMethod ({ cls := "RainWalk$Reader", name := "must", desc := "(Ljava/lang/String;)V" } : Jvm.MethodName)) ∈ lw_all := lw_g (lw_at lw_m3 95 rfl) rfl
theorem q687 : (Jvm.Cond.code ({ cls := "RainWalk$Reader", name := "must", desc := "(Ljava/lang/String;)V" } : Jvm.MethodName) prog_10_method_8_code (2 : Nat) (Option.none : Option Jvm.ClassFile.FieldType)) ∈ lw_all := lw_g (lw_at lw_m3 96 rfl) rfl
theorem q688 : (Jvm.Cond.methodLink "RainWalk$Reader" (78 : Nat) ({ cls := "RainWalk$Reader", name := "takes", desc := "(Ljava/lang/String;)Z" } : Jvm.MethodName)) ∈ lw_all := lw_g (lw_at lw_m3 97 rfl) rfl
theorem q689 : (Jvm.Cond.privateMethod ({ cls := "RainWalk$Reader", name := "takes", desc := "(Ljava/lang/String;)Z" } : Jvm.MethodName)) ∈ lw_tbl := lw_at lw_m3 98 rfl
theorem q690 : (Jvm.Cond.instanceMethod ({ cls := "RainWalk$Reader", name := "takes", desc := "(Ljava/lang/String;)Z" } : Jvm.MethodName)) ∈ lw_all := lw_g (lw_at lw_m3 99 rfl) rfl
theorem q691 : (Jvm.Cond.code ({ cls := "RainWalk$Reader", name := "takes", desc := "(Ljava/lang/String;)Z" } : Jvm.MethodName) prog_10_method_7_code (2 : Nat) (Option.some Jvm.ClassFile.FieldType.boolean)) ∈ lw_all := lw_g (lw_at lw_m3 100 rfl) rfl
theorem q692 : (Jvm.Cond.methodLink "RainWalk$Reader" (126 : Nat) ({ cls := "RainWalk$Reader", name := "number", desc := "(II)I" } : Jvm.MethodName)) ∈ lw_all := lw_g (lw_at lw_m3 101 rfl) rfl
theorem q693 : (Jvm.Cond.privateMethod ({ cls := "RainWalk$Reader", name := "number", desc := "(II)I" } : Jvm.MethodName)) ∈ lw_tbl := lw_at lw_m3 102 rfl
theorem q694 : (Jvm.Cond.instanceMethod ({ cls := "RainWalk$Reader", name := "number", desc := "(II)I" } : Jvm.MethodName)) ∈ lw_all := lw_g (lw_at lw_m3 103 rfl) rfl
theorem q695 : (Jvm.Cond.code ({ cls := "RainWalk$Reader", name := "number", desc := "(II)I" } : Jvm.MethodName) prog_10_method_12_code (4 : Nat) (Option.some Jvm.ClassFile.FieldType.int)) ∈ lw_all := lw_g (lw_at lw_m3 104 rfl) rfl
theorem q696 : (Jvm.Cond.methodLink "RainWalk$Reader" (154 : Nat) ({ cls := "RainWalk$Reader", name := "rain", desc := "()V" } : Jvm.MethodName)) ∈ lw_all := lw_g (lw_at lw_m3 105 rfl) rfl
theorem q697 : (Jvm.Cond.privateMethod ({ cls := "RainWalk$Reader", name := "rain", desc := "()V" } : Jvm.MethodName)) ∈ lw_tbl := lw_at lw_m3 106 rfl
theorem q698 : (Jvm.Cond.instanceMethod ({ cls := "RainWalk$Reader", name := "rain", desc := "()V" } : Jvm.MethodName)) ∈ lw_all := lw_g (lw_at lw_m3 107 rfl) rfl
theorem q699 : (Jvm.Cond.code ({ cls := "RainWalk$Reader", name := "rain", desc := "()V" } : Jvm.MethodName) prog_10_method_19_code (5 : Nat) (Option.none : Option Jvm.ClassFile.FieldType)) ∈ lw_all := lw_g (lw_at lw_m3 108 rfl) rfl
theorem q700 : (Jvm.Cond.methodLink "RainWalk$Reader" (172 : Nat) ({ cls := "RainWalk$Reader", name := "begins", desc := "(Z)V" } : Jvm.MethodName)) ∈ lw_all := lw_g (lw_at lw_m3 109 rfl) rfl
theorem q701 : (Jvm.Cond.privateMethod ({ cls := "RainWalk$Reader", name := "begins", desc := "(Z)V" } : Jvm.MethodName)) ∈ lw_tbl := lw_at lw_m3 110 rfl
theorem q702 : (Jvm.Cond.instanceMethod ({ cls := "RainWalk$Reader", name := "begins", desc := "(Z)V" } : Jvm.MethodName)) ∈ lw_all := lw_g (lw_at lw_m3 111 rfl) rfl
theorem q703 : (Jvm.Cond.code ({ cls := "RainWalk$Reader", name := "begins", desc := "(Z)V" } : Jvm.MethodName) prog_10_method_15_code (2 : Nat) (Option.none : Option Jvm.ClassFile.FieldType)) ∈ lw_all := lw_g (lw_at lw_m3 112 rfl) rfl
theorem q704 : (Jvm.Cond.stringRef "RainWalk$Reader" (176 : Nat) "drops") ∈ lw_tbl := lw_at lw_m3 113 rfl
theorem q705 : (Jvm.Cond.stringRef "RainWalk$Reader" (178 : Nat) "down") ∈ lw_tbl := lw_at lw_m3 114 rfl
theorem q706 : (Jvm.Cond.stringRef "RainWalk$Reader" (180 : Nat) "wind") ∈ lw_tbl := lw_at lw_m3 115 rfl
theorem q707 : (Jvm.Cond.methodLink "RainWalk$Reader" (182 : Nat) ({ cls := "RainWalk$Reader", name := "side", desc := "()I" } : Jvm.MethodName)) ∈ lw_all := lw_g (lw_at lw_m3 116 rfl) rfl
theorem q708 : (Jvm.Cond.privateMethod ({ cls := "RainWalk$Reader", name := "side", desc := "()I" } : Jvm.MethodName)) ∈ lw_tbl := lw_at lw_m3 117 rfl
theorem q709 : (Jvm.Cond.instanceMethod ({ cls := "RainWalk$Reader", name := "side", desc := "()I" } : Jvm.MethodName)) ∈ lw_all := lw_g (lw_at lw_m3 118 rfl) rfl
theorem q710 : (Jvm.Cond.code ({ cls := "RainWalk$Reader", name := "side", desc := "()I" } : Jvm.MethodName) prog_10_method_14_code (2 : Nat) (Option.some Jvm.ClassFile.FieldType.int)) ∈ lw_all := lw_g (lw_at lw_m3 119 rfl) rfl
theorem q711 : (Jvm.Cond.stringRef "RainWalk$Reader" (130 : Nat) "north") ∈ lw_tbl := lw_at lw_m3 120 rfl
theorem q712 : (Jvm.Cond.stringRef "RainWalk$Reader" (132 : Nat) "east") ∈ lw_tbl := lw_at lw_m3 121 rfl
theorem q713 : (Jvm.Cond.stringRef "RainWalk$Reader" (134 : Nat) "south") ∈ lw_tbl := lw_at lw_m3 122 rfl
theorem q714 : (Jvm.Cond.stringRef "RainWalk$Reader" (136 : Nat) "west") ∈ lw_tbl := lw_at lw_m3 123 rfl
theorem q715 : (Jvm.Cond.classLink "RainWalk$Reader" (189 : Nat) "RainWalk$Rain") ∈ lw_all := lw_g (lw_at lw_m3 124 rfl) rfl
theorem q717 : (Jvm.Cond.stringRef "RainWalk$Reader" (191 : Nat) "chance") ∈ lw_tbl := lw_at lw_m3 126 rfl
theorem q718 : (Jvm.Cond.methodLink "RainWalk$Reader" (193 : Nat) ({ cls := "RainWalk$Rain", name := "<init>", desc := "(IIIII)V" } : Jvm.MethodName)) ∈ lw_all := lw_g (lw_at lw_m3 127 rfl) rfl
theorem q743 : (Jvm.Cond.methodLink "RainWalk$Reader" (156 : Nat) ({ cls := "RainWalk$Reader", name := "place", desc := "()V" } : Jvm.MethodName)) ∈ lw_all := lw_g (lw_at lw_m3 152 rfl) rfl
theorem q744 : (Jvm.Cond.privateMethod ({ cls := "RainWalk$Reader", name := "place", desc := "()V" } : Jvm.MethodName)) ∈ lw_tbl := lw_at lw_m3 153 rfl
theorem q745 : (Jvm.Cond.instanceMethod ({ cls := "RainWalk$Reader", name := "place", desc := "()V" } : Jvm.MethodName)) ∈ lw_all := lw_g (lw_at lw_m3 154 rfl) rfl
theorem q746 : (Jvm.Cond.code ({ cls := "RainWalk$Reader", name := "place", desc := "()V" } : Jvm.MethodName) prog_10_method_20_code (2 : Nat) (Option.none : Option Jvm.ClassFile.FieldType)) ∈ lw_all := lw_g (lw_at lw_m3 155 rfl) rfl
theorem q747 : (Jvm.Cond.classLink "RainWalk$Reader" (120 : Nat) "RainWalk$Place") ∈ lw_all := lw_g (lw_at lw_m3 156 rfl) rfl
theorem q749 : (Jvm.Cond.methodLink "RainWalk$Reader" (196 : Nat) ({ cls := "RainWalk$Reader", name := "newName", desc := "()Ljava/lang/String;" } : Jvm.MethodName)) ∈ lw_all := lw_g (lw_at lw_m3 158 rfl) rfl
theorem q750 : (Jvm.Cond.privateMethod ({ cls := "RainWalk$Reader", name := "newName", desc := "()Ljava/lang/String;" } : Jvm.MethodName)) ∈ lw_tbl := lw_at lw_m3 159 rfl
theorem q751 : (Jvm.Cond.instanceMethod ({ cls := "RainWalk$Reader", name := "newName", desc := "()Ljava/lang/String;" } : Jvm.MethodName)) ∈ lw_all := lw_g (lw_at lw_m3 160 rfl) rfl
theorem q752 : (Jvm.Cond.code ({ cls := "RainWalk$Reader", name := "newName", desc := "()Ljava/lang/String;" } : Jvm.MethodName) prog_10_method_10_code (2 : Nat) (Option.some (Jvm.ClassFile.FieldType.object "java/lang/String"))) ∈ lw_all := lw_g (lw_at lw_m3 161 rfl) rfl
theorem q753 : (Jvm.Cond.methodLink "RainWalk$Reader" (108 : Nat) ({ cls := "RainWalk$Reader", name := "mustName", desc := "()V" } : Jvm.MethodName)) ∈ lw_all := lw_g (lw_at lw_m3 162 rfl) rfl
theorem q754 : (Jvm.Cond.privateMethod ({ cls := "RainWalk$Reader", name := "mustName", desc := "()V" } : Jvm.MethodName)) ∈ lw_tbl := lw_at lw_m3 163 rfl
theorem q755 : (Jvm.Cond.instanceMethod ({ cls := "RainWalk$Reader", name := "mustName", desc := "()V" } : Jvm.MethodName)) ∈ lw_all := lw_g (lw_at lw_m3 164 rfl) rfl
theorem q756 : (Jvm.Cond.code ({ cls := "RainWalk$Reader", name := "mustName", desc := "()V" } : Jvm.MethodName) prog_10_method_9_code (3 : Nat) (Option.none : Option Jvm.ClassFile.FieldType)) ∈ lw_all := lw_g (lw_at lw_m3 165 rfl) rfl
theorem q757 : (Jvm.Cond.stringRef "RainWalk$Reader" (102 : Nat) "inn") ∈ lw_tbl := lw_at lw_m3 166 rfl
theorem q758 : (Jvm.Cond.stringRef "RainWalk$Reader" (104 : Nat) "tree") ∈ lw_tbl := lw_at lw_m3 167 rfl
theorem q759 : (Jvm.Cond.stringRef "RainWalk$Reader" (106 : Nat) "awning") ∈ lw_tbl := lw_at lw_m3 168 rfl
theorem q760 : (Jvm.Cond.methodLink "RainWalk$Reader" (114 : Nat) ({ cls := "RainWalk$World", name := "find", desc := "(Ljava/lang/String;)LRainWalk$Named;" } : Jvm.MethodName)) ∈ lw_all := lw_g (lw_at lw_m3 169 rfl) rfl
theorem q768 : (Jvm.Cond.methodLink "RainWalk$Reader" (200 : Nat) ({ cls := "RainWalk$Place", name := "<init>", desc := "(Ljava/lang/String;I)V" } : Jvm.MethodName)) ∈ lw_all := lw_g (lw_at lw_m3 177 rfl) rfl
theorem q776 : (Jvm.Cond.fieldLink "RainWalk$Reader" (203 : Nat) "RainWalk$Place" "isInn" "Z") ∈ lw_all := lw_g (lw_at lw_m3 185 rfl) rfl
theorem q778 : (Jvm.Cond.fieldLink "RainWalk$Reader" (210 : Nat) "RainWalk$Place" "isTree" "Z") ∈ lw_all := lw_g (lw_at lw_m3 187 rfl) rfl
theorem q780 : (Jvm.Cond.fieldLink "RainWalk$Reader" (207 : Nat) "RainWalk$Place" "drips" "I") ∈ lw_all := lw_g (lw_at lw_m3 189 rfl) rfl
theorem q785 : (Jvm.Cond.fieldLink "RainWalk$Reader" (226 : Nat) "RainWalk$Place" "number" "I") ∈ lw_all := lw_g (lw_at lw_m3 194 rfl) rfl
theorem q787 : (Jvm.Cond.fieldLink "RainWalk$Reader" (299 : Nat) "RainWalk$Named" "number" "I") ∈ lw_all := lw_g (lw_at lw_m3 196 rfl) rfl
theorem q799 : (Jvm.Cond.methodLink "RainWalk$Reader" (158 : Nat) ({ cls := "RainWalk$Reader", name := "road", desc := "()V" } : Jvm.MethodName)) ∈ lw_all := lw_g (lw_at lw_m3 208 rfl) rfl
theorem q800 : (Jvm.Cond.privateMethod ({ cls := "RainWalk$Reader", name := "road", desc := "()V" } : Jvm.MethodName)) ∈ lw_tbl := lw_at lw_m3 209 rfl
theorem q801 : (Jvm.Cond.instanceMethod ({ cls := "RainWalk$Reader", name := "road", desc := "()V" } : Jvm.MethodName)) ∈ lw_all := lw_g (lw_at lw_m3 210 rfl) rfl
theorem q802 : (Jvm.Cond.code ({ cls := "RainWalk$Reader", name := "road", desc := "()V" } : Jvm.MethodName) prog_10_method_21_code (6 : Nat) (Option.none : Option Jvm.ClassFile.FieldType)) ∈ lw_all := lw_g (lw_at lw_m3 211 rfl) rfl
theorem q803 : (Jvm.Cond.methodLink "RainWalk$Reader" (220 : Nat) ({ cls := "RainWalk$Reader", name := "placeHere", desc := "()LRainWalk$Place;" } : Jvm.MethodName)) ∈ lw_all := lw_g (lw_at lw_m3 212 rfl) rfl
theorem q804 : (Jvm.Cond.privateMethod ({ cls := "RainWalk$Reader", name := "placeHere", desc := "()LRainWalk$Place;" } : Jvm.MethodName)) ∈ lw_tbl := lw_at lw_m3 213 rfl
theorem q805 : (Jvm.Cond.instanceMethod ({ cls := "RainWalk$Reader", name := "placeHere", desc := "()LRainWalk$Place;" } : Jvm.MethodName)) ∈ lw_all := lw_g (lw_at lw_m3 214 rfl) rfl
theorem q806 : (Jvm.Cond.code ({ cls := "RainWalk$Reader", name := "placeHere", desc := "()LRainWalk$Place;" } : Jvm.MethodName) prog_10_method_11_code (2 : Nat) (Option.some (Jvm.ClassFile.FieldType.object "RainWalk$Place"))) ∈ lw_all := lw_g (lw_at lw_m3 215 rfl) rfl
theorem q807 : (Jvm.Cond.classLink "RainWalk$Reader" (224 : Nat) "RainWalk$Road") ∈ lw_all := lw_g (lw_at lw_m3 216 rfl) rfl
theorem q809 : (Jvm.Cond.methodLink "RainWalk$Reader" (228 : Nat) ({ cls := "RainWalk$Road", name := "<init>", desc := "(IIII)V" } : Jvm.MethodName)) ∈ lw_all := lw_g (lw_at lw_m3 218 rfl) rfl
theorem q822 : (Jvm.Cond.fieldLink "RainWalk$Reader" (231 : Nat) "RainWalk$Road" "awning" "I") ∈ lw_all := lw_g (lw_at lw_m3 231 rfl) rfl
theorem q835 : (Jvm.Cond.methodLink "RainWalk$Reader" (160 : Nat) ({ cls := "RainWalk$Reader", name := "walker", desc := "()V" } : Jvm.MethodName)) ∈ lw_all := lw_g (lw_at lw_m4 4 rfl) rfl
theorem q836 : (Jvm.Cond.privateMethod ({ cls := "RainWalk$Reader", name := "walker", desc := "()V" } : Jvm.MethodName)) ∈ lw_tbl := lw_at lw_m4 5 rfl
theorem q837 : (Jvm.Cond.instanceMethod ({ cls := "RainWalk$Reader", name := "walker", desc := "()V" } : Jvm.MethodName)) ∈ lw_all := lw_g (lw_at lw_m4 6 rfl) rfl
theorem q838 : (Jvm.Cond.code ({ cls := "RainWalk$Reader", name := "walker", desc := "()V" } : Jvm.MethodName) prog_10_method_23_code (2 : Nat) (Option.none : Option Jvm.ClassFile.FieldType)) ∈ lw_all := lw_g (lw_at lw_m4 7 rfl) rfl
theorem q839 : (Jvm.Cond.methodLink "RainWalk$Reader" (259 : Nat) ({ cls := "RainWalk$Reader", name := "walkerOf", desc := "(Ljava/lang/String;I)LRainWalk$Walker;" } : Jvm.MethodName)) ∈ lw_all := lw_g (lw_at lw_m4 8 rfl) rfl
theorem q840 : (Jvm.Cond.privateMethod ({ cls := "RainWalk$Reader", name := "walkerOf", desc := "(Ljava/lang/String;I)LRainWalk$Walker;" } : Jvm.MethodName)) ∈ lw_tbl := lw_at lw_m4 9 rfl
theorem q841 : (Jvm.Cond.instanceMethod ({ cls := "RainWalk$Reader", name := "walkerOf", desc := "(Ljava/lang/String;I)LRainWalk$Walker;" } : Jvm.MethodName)) ∈ lw_all := lw_g (lw_at lw_m4 10 rfl) rfl
theorem q842 : (Jvm.Cond.code ({ cls := "RainWalk$Reader", name := "walkerOf", desc := "(Ljava/lang/String;I)LRainWalk$Walker;" } : Jvm.MethodName) prog_10_method_22_code (3 : Nat) (Option.some (Jvm.ClassFile.FieldType.object "RainWalk$Walker"))) ∈ lw_all := lw_g (lw_at lw_m4 11 rfl) rfl
theorem q843 : (Jvm.Cond.stringRef "RainWalk$Reader" (237 : Nat) "plain") ∈ lw_tbl := lw_at lw_m4 12 rfl
theorem q844 : (Jvm.Cond.classLink "RainWalk$Reader" (239 : Nat) "RainWalk$Plain") ∈ lw_all := lw_g (lw_at lw_m4 13 rfl) rfl
theorem q846 : (Jvm.Cond.methodLink "RainWalk$Reader" (241 : Nat) ({ cls := "RainWalk$Plain", name := "<init>", desc := "(Ljava/lang/String;I)V" } : Jvm.MethodName)) ∈ lw_all := lw_g (lw_at lw_m4 15 rfl) rfl
theorem q862 : (Jvm.Cond.fieldLink "RainWalk$Reader" (265 : Nat) "RainWalk$Walker" "broad" "I") ∈ lw_all := lw_g (lw_at lw_m4 31 rfl) rfl
theorem q864 : (Jvm.Cond.fieldLink "RainWalk$Reader" (271 : Nat) "RainWalk$Walker" "deep" "I") ∈ lw_all := lw_g (lw_at lw_m4 33 rfl) rfl
theorem q866 : (Jvm.Cond.fieldLink "RainWalk$Reader" (277 : Nat) "RainWalk$Walker" "high" "I") ∈ lw_all := lw_g (lw_at lw_m4 35 rfl) rfl
theorem q869 : (Jvm.Cond.fieldLink "RainWalk$Reader" (281 : Nat) "RainWalk$Walker" "slowest" "I") ∈ lw_all := lw_g (lw_at lw_m4 38 rfl) rfl
theorem q873 : (Jvm.Cond.fieldLink "RainWalk$Reader" (286 : Nat) "RainWalk$Walker" "fastest" "I") ∈ lw_all := lw_g (lw_at lw_m4 42 rfl) rfl
theorem q890 : (Jvm.Cond.stringRef "RainWalk$Reader" (242 : Nat) "bent") ∈ lw_tbl := lw_at lw_m4 59 rfl
theorem q891 : (Jvm.Cond.classLink "RainWalk$Reader" (244 : Nat) "RainWalk$Bent") ∈ lw_all := lw_g (lw_at lw_m4 60 rfl) rfl
theorem q893 : (Jvm.Cond.methodLink "RainWalk$Reader" (246 : Nat) ({ cls := "RainWalk$Bent", name := "<init>", desc := "(Ljava/lang/String;II)V" } : Jvm.MethodName)) ∈ lw_all := lw_g (lw_at lw_m4 62 rfl) rfl
theorem q906 : (Jvm.Cond.stringRef "RainWalk$Reader" (249 : Nat) "coat") ∈ lw_tbl := lw_at lw_m4 75 rfl
theorem q907 : (Jvm.Cond.classLink "RainWalk$Reader" (251 : Nat) "RainWalk$Coated") ∈ lw_all := lw_g (lw_at lw_m4 76 rfl) rfl
theorem q909 : (Jvm.Cond.methodLink "RainWalk$Reader" (253 : Nat) ({ cls := "RainWalk$Coated", name := "<init>", desc := "(Ljava/lang/String;II)V" } : Jvm.MethodName)) ∈ lw_all := lw_g (lw_at lw_m4 78 rfl) rfl
theorem q922 : (Jvm.Cond.stringRef "RainWalk$Reader" (254 : Nat) "shield") ∈ lw_tbl := lw_at lw_m4 91 rfl
theorem q923 : (Jvm.Cond.classLink "RainWalk$Reader" (256 : Nat) "RainWalk$Shielded") ∈ lw_all := lw_g (lw_at lw_m4 92 rfl) rfl
theorem q925 : (Jvm.Cond.methodLink "RainWalk$Reader" (258 : Nat) ({ cls := "RainWalk$Shielded", name := "<init>", desc := "(Ljava/lang/String;II)V" } : Jvm.MethodName)) ∈ lw_all := lw_g (lw_at lw_m4 94 rfl) rfl
theorem q938 : (Jvm.Cond.stringRef "RainWalk$Reader" (263 : Nat) "broad") ∈ lw_tbl := lw_at lw_m4 107 rfl
theorem q939 : (Jvm.Cond.stringRef "RainWalk$Reader" (269 : Nat) "deep") ∈ lw_tbl := lw_at lw_m4 108 rfl
theorem q940 : (Jvm.Cond.stringRef "RainWalk$Reader" (273 : Nat) "high") ∈ lw_tbl := lw_at lw_m4 109 rfl
theorem q941 : (Jvm.Cond.methodLink "RainWalk$Reader" (275 : Nat) ({ cls := "RainWalk$Walker", name := "bent", desc := "()I" } : Jvm.MethodName)) ∈ lw_all := lw_g (lw_at lw_m4 110 rfl) rfl
theorem q951 : (Jvm.Cond.stringRef "RainWalk$Reader" (279 : Nat) "from") ∈ lw_tbl := lw_at lw_m4 120 rfl
theorem q952 : (Jvm.Cond.stringRef "RainWalk$Reader" (284 : Nat) "to") ∈ lw_tbl := lw_at lw_m4 121 rfl
theorem q953 : (Jvm.Cond.methodLink "RainWalk$Reader" (162 : Nat) ({ cls := "RainWalk$Reader", name := "seen", desc := "()V" } : Jvm.MethodName)) ∈ lw_all := lw_g (lw_at lw_m4 122 rfl) rfl
theorem q954 : (Jvm.Cond.privateMethod ({ cls := "RainWalk$Reader", name := "seen", desc := "()V" } : Jvm.MethodName)) ∈ lw_tbl := lw_at lw_m4 123 rfl
theorem q955 : (Jvm.Cond.instanceMethod ({ cls := "RainWalk$Reader", name := "seen", desc := "()V" } : Jvm.MethodName)) ∈ lw_all := lw_g (lw_at lw_m4 124 rfl) rfl
theorem q956 : (Jvm.Cond.code ({ cls := "RainWalk$Reader", name := "seen", desc := "()V" } : Jvm.MethodName) prog_10_method_24_code (4 : Nat) (Option.none : Option Jvm.ClassFile.FieldType)) ∈ lw_all := lw_g (lw_at lw_m4 125 rfl) rfl
theorem q957 : (Jvm.Cond.classLink "RainWalk$Reader" (266 : Nat) "RainWalk$Walker") ∈ lw_all := lw_g (lw_at lw_m4 126 rfl) rfl
theorem q958 : (Jvm.Cond.classLink "RainWalk$Reader" (296 : Nat) "RainWalk$Seen") ∈ lw_all := lw_g (lw_at lw_m4 127 rfl) rfl
theorem q960 : (Jvm.Cond.methodLinkNest "RainWalk$Reader" (298 : Nat) ({ cls := "RainWalk$Seen", name := "<init>", desc := "()V" } : Jvm.MethodName) "RainWalk") ∈ lw_tbl := lw_at lw_m4 129 rfl
theorem q965 : (Jvm.Cond.fieldLink "RainWalk$Reader" (304 : Nat) "RainWalk$Seen" "faces" "[I") ∈ lw_all := lw_g (lw_at lw_m4 134 rfl) rfl
theorem q967 : (Jvm.Cond.fieldLink "RainWalk$Reader" (302 : Nat) "RainWalk$Seen" "walker" "I") ∈ lw_all := lw_g (lw_at lw_m4 136 rfl) rfl
theorem q2215 : (Jvm.Cond.castable "RainWalk$Reader" "java/lang/Object") ∈ lw_tbl := lw_at lw_m9 184 rfl
theorem in_X2 : ∀ w ∈ wsX20, w ∈ lw_all := lw_in wsX20 [240, 242, 244, 246, 248, 250, 252, 254, 256, 258] (by decide +kernel) (by decide +kernel)
/-! RainWalk$Refused -/
set_option maxRecDepth 100000
def RX3 : String := "RainWalk$Refused"
def TX3 : u_T := fun k => match k with
  | 0 => ("java/lang/Throwable", "cause", "Ljava/lang/Throwable;", false)
  | 1 => ("java/lang/Throwable", "stackTrace", "[Ljava/lang/StackTraceElement;", false)
  | 2 => ("java/lang/Throwable", "suppressedExceptions", "Ljava/util/List;", false)
  | 3 => ("java/lang/Throwable", "detailMessage", "Ljava/lang/String;", false)
  | 4 => ("java/lang/Throwable", "backtrace", "Ljava/lang/Object;", false)
  | 5 => ("java/lang/Throwable", "depth", "I", false)
  | 6 => ("RainWalk$Refused", "fault", "I", false)
  | _ => ("RainWalk$Refused", "place", "I", false)
def tyX3 : Nat → FieldType := fun k => match k with
  | 0 => .object "java/lang/Throwable"
  | 1 => .array (.object "java/lang/StackTraceElement")
  | 2 => .object "java/util/List"
  | 3 => .object "java/lang/String"
  | 4 => .object "java/lang/Object"
  | 5 => .int
  | 6 => .int
  | _ => .int
abbrev wsX30 : List Cond := u_ws RX3 TX3 8
theorem nmX3 : ∀ a, a < 8 → ∀ b, b < 8 → a ≠ b → (TX3 a).2.1 ≠ (TX3 b).2.1 := by decide +kernel
theorem tyX3_ok : ∀ k, k < 8 → parseFieldDescriptor (TX3 k).2.2.1 = some (tyX3 k) := by decide +kernel
abbrev cX3_init : ByteArray := prog_11_method_1_code
def yX3_init : MethodName := ⟨RX3, "<init>", "()V"⟩
def dkwX3_init_0 : List UInt8 := [42, 1, 1, 3, 3, 183, 0, 3, 42, 2, 181, 0, 9, 177]
abbrev dktX3_init_0 : List UInt8 := dkwX3_init_0 ++ []
theorem dksX3_init_0 : cX3_init.data.toList.drop 0 = dktX3_init_0 := by decide +kernel
theorem dX3_init_0 : decode cX3_init 0 = .ok (.aload_n 0, 1) := dk_42 (dk_at dksX3_init_0 0 rfl rfl)
theorem dX3_init_1 : decode cX3_init 1 = .ok (.aconst_null, 1) := dk_1 (dk_at dksX3_init_0 1 rfl rfl)
theorem dX3_init_2 : decode cX3_init 2 = .ok (.aconst_null, 1) := dk_1 (dk_at dksX3_init_0 2 rfl rfl)
theorem dX3_init_3 : decode cX3_init 3 = .ok (.iconst 0, 1) := dk_3 (dk_at dksX3_init_0 3 rfl rfl)
theorem dX3_init_4 : decode cX3_init 4 = .ok (.iconst 0, 1) := dk_3 (dk_at dksX3_init_0 4 rfl rfl)
theorem dX3_init_5 : decode cX3_init 5 = .ok (.invokespecial 3, 3) := dk_183 0 3 (dk_at dksX3_init_0 5 rfl rfl)
theorem dX3_init_8 : decode cX3_init 8 = .ok (.aload_n 0, 1) := dk_42 (dk_at dksX3_init_0 8 rfl rfl)
theorem dX3_init_9 : decode cX3_init 9 = .ok (.iconst (-1), 1) := dk_2 (dk_at dksX3_init_0 9 rfl rfl)
theorem dX3_init_10 : decode cX3_init 10 = .ok (.putfield 9, 3) := dk_181 0 9 (dk_at dksX3_init_0 10 rfl rfl)
theorem dX3_init_13 : decode cX3_init 13 = .ok (.return_, 1) := dk_177 (dk_at dksX3_init_0 13 rfl rfl)
abbrev cX3_at : ByteArray := prog_11_method_2_code
def yX3_at : MethodName := ⟨RX3, "at", "(II)LRainWalk$Refused;"⟩
def dkwX3_at_0 : List UInt8 := [42, 27, 181, 0, 15, 42, 28, 181, 0, 9, 42, 176]
abbrev dktX3_at_0 : List UInt8 := dkwX3_at_0 ++ []
theorem dksX3_at_0 : cX3_at.data.toList.drop 0 = dktX3_at_0 := by decide +kernel
theorem dX3_at_0 : decode cX3_at 0 = .ok (.aload_n 0, 1) := dk_42 (dk_at dksX3_at_0 0 rfl rfl)
theorem dX3_at_1 : decode cX3_at 1 = .ok (.iload_n 1, 1) := dk_27 (dk_at dksX3_at_0 1 rfl rfl)
theorem dX3_at_2 : decode cX3_at 2 = .ok (.putfield 15, 3) := dk_181 0 15 (dk_at dksX3_at_0 2 rfl rfl)
theorem dX3_at_5 : decode cX3_at 5 = .ok (.aload_n 0, 1) := dk_42 (dk_at dksX3_at_0 5 rfl rfl)
theorem dX3_at_6 : decode cX3_at 6 = .ok (.iload_n 2, 1) := dk_28 (dk_at dksX3_at_0 6 rfl rfl)
theorem dX3_at_7 : decode cX3_at 7 = .ok (.putfield 9, 3) := dk_181 0 9 (dk_at dksX3_at_0 7 rfl rfl)
theorem dX3_at_10 : decode cX3_at 10 = .ok (.aload_n 0, 1) := dk_42 (dk_at dksX3_at_0 10 rfl rfl)
theorem dX3_at_11 : decode cX3_at 11 = .ok (.areturn, 1) := dk_176 (dk_at dksX3_at_0 11 rfl rfl)
theorem q117 : (Jvm.Cond.initialized "RainWalk$Refused") ∈ lw_all := lw_g (lw_at lw_m1 6 rfl) rfl
theorem q157 : (Jvm.Cond.instantiable "RainWalk$Refused" (8 : Nat)) ∈ lw_all := lw_g (lw_at lw_m1 46 rfl) rfl
theorem q158 : (Jvm.Cond.castable "RainWalk$Refused" "RainWalk$Refused") ∈ lw_tbl := lw_at lw_m1 47 rfl
theorem q165 : (Jvm.Cond.selects "RainWalk$Refused" ({ cls := "java/lang/Throwable", name := "fillInStackTrace", desc := "(I)Ljava/lang/Throwable;" } : Jvm.MethodName) ({ cls := "java/lang/Throwable", name := "fillInStackTrace", desc := "(I)Ljava/lang/Throwable;" } : Jvm.MethodName)) ∈ lw_all := lw_g (lw_at lw_m1 54 rfl) rfl
theorem q166 : (Jvm.Cond.selects "RainWalk$Refused" ({ cls := "java/lang/Throwable", name := "fillInStackTrace", desc := "()Ljava/lang/Throwable;" } : Jvm.MethodName) ({ cls := "java/lang/Throwable", name := "fillInStackTrace", desc := "()Ljava/lang/Throwable;" } : Jvm.MethodName)) ∈ lw_all := lw_g (lw_at lw_m1 55 rfl) rfl
theorem q167 : (Jvm.Cond.lays "RainWalk$Refused" "java/lang/Throwable" "cause" "Ljava/lang/Throwable;") ∈ lw_all := lw_g (lw_at lw_m1 56 rfl) rfl
theorem q169 : (Jvm.Cond.lays "RainWalk$Refused" "java/lang/Throwable" "stackTrace" "[Ljava/lang/StackTraceElement;") ∈ lw_all := lw_g (lw_at lw_m1 58 rfl) rfl
theorem q171 : (Jvm.Cond.lays "RainWalk$Refused" "java/lang/Throwable" "suppressedExceptions" "Ljava/util/List;") ∈ lw_all := lw_g (lw_at lw_m1 60 rfl) rfl
theorem q173 : (Jvm.Cond.lays "RainWalk$Refused" "java/lang/Throwable" "detailMessage" "Ljava/lang/String;") ∈ lw_all := lw_g (lw_at lw_m1 62 rfl) rfl
theorem q175 : (Jvm.Cond.lays "RainWalk$Refused" "java/lang/Throwable" "backtrace" "Ljava/lang/Object;") ∈ lw_all := lw_g (lw_at lw_m1 64 rfl) rfl
theorem q197 : (Jvm.Cond.instanceMethod ({ cls := "RainWalk$Refused", name := "<init>", desc := "()V" } : Jvm.MethodName)) ∈ lw_all := lw_g (lw_at lw_m1 86 rfl) rfl
theorem q198 : (Jvm.Cond.code ({ cls := "RainWalk$Refused", name := "<init>", desc := "()V" } : Jvm.MethodName) prog_11_method_1_code (1 : Nat) (Option.none : Option Jvm.ClassFile.FieldType)) ∈ lw_all := lw_g (lw_at lw_m1 87 rfl) rfl
theorem q199 : (Jvm.Cond.methodLink "RainWalk$Refused" (3 : Nat) ({ cls := "java/lang/RuntimeException", name := "<init>", desc := "(Ljava/lang/String;Ljava/lang/Throwable;ZZ)V" } : Jvm.MethodName)) ∈ lw_all := lw_g (lw_at lw_m1 88 rfl) rfl
theorem q208 : (Jvm.Cond.fieldLink "RainWalk$Refused" (15 : Nat) "RainWalk$Refused" "fault" "I") ∈ lw_all := lw_g (lw_at lw_m1 97 rfl) rfl
theorem q210 : (Jvm.Cond.fieldLink "RainWalk$Refused" (9 : Nat) "RainWalk$Refused" "place" "I") ∈ lw_all := lw_g (lw_at lw_m1 99 rfl) rfl
theorem q217 : (Jvm.Cond.lays "RainWalk$Refused" "RainWalk$Refused" "fault" "I") ∈ lw_all := lw_g (lw_at lw_m1 106 rfl) rfl
theorem q218 : (Jvm.Cond.soleField "RainWalk$Refused" "fault") ∈ lw_all := lw_g (lw_at lw_m1 107 rfl) rfl
theorem q219 : (Jvm.Cond.lays "RainWalk$Refused" "RainWalk$Refused" "place" "I") ∈ lw_all := lw_g (lw_at lw_m1 108 rfl) rfl
theorem q220 : (Jvm.Cond.soleField "RainWalk$Refused" "place") ∈ lw_all := lw_g (lw_at lw_m1 109 rfl) rfl
theorem q225 : (Jvm.Cond.lays "RainWalk$Refused" "java/lang/Throwable" "depth" "I") ∈ lw_all := lw_g (lw_at lw_m1 114 rfl) rfl
theorem q228 : (Jvm.Cond.superclass "RainWalk$Refused" "java/lang/RuntimeException") ∈ lw_all := lw_g (lw_at lw_m1 117 rfl) rfl
theorem q605 : (Jvm.Cond.instanceMethod ({ cls := "RainWalk$Refused", name := "at", desc := "(II)LRainWalk$Refused;" } : Jvm.MethodName)) ∈ lw_all := lw_g (lw_at lw_m3 14 rfl) rfl
theorem q606 : (Jvm.Cond.selects "RainWalk$Refused" ({ cls := "RainWalk$Refused", name := "at", desc := "(II)LRainWalk$Refused;" } : Jvm.MethodName) ({ cls := "RainWalk$Refused", name := "at", desc := "(II)LRainWalk$Refused;" } : Jvm.MethodName)) ∈ lw_all := lw_g (lw_at lw_m3 15 rfl) rfl
theorem q607 : (Jvm.Cond.code ({ cls := "RainWalk$Refused", name := "at", desc := "(II)LRainWalk$Refused;" } : Jvm.MethodName) prog_11_method_2_code (3 : Nat) (Option.some (Jvm.ClassFile.FieldType.object "RainWalk$Refused"))) ∈ lw_all := lw_g (lw_at lw_m3 16 rfl) rfl
theorem q2216 : (Jvm.Cond.castable "RainWalk$Refused" "java/lang/Object") ∈ lw_tbl := lw_at lw_m9 185 rfl
theorem in_X3 : ∀ w ∈ wsX30, w ∈ lw_all := lw_in wsX30 [167, 169, 171, 173, 175, 225, 217, 219] (by decide +kernel) (by decide +kernel)
/-! RainWalk$Leg -/
set_option maxRecDepth 100000
def RX4 : String := "RainWalk$Leg"
def TX4 : u_T := fun k => match k with
  | 0 => ("RainWalk$Leg", "faces", "[J", true)
  | 1 => ("RainWalk$Leg", "isForward", "Z", false)
  | 2 => ("RainWalk$Leg", "rain", "LRainWalk$Rain;", false)
  | 3 => ("RainWalk$Leg", "air", "I", false)
  | 4 => ("RainWalk$Leg", "open", "J", false)
  | _ => ("RainWalk$Leg", "speed", "I", false)
def tyX4 : Nat → FieldType := fun k => match k with
  | 0 => .array .long
  | 1 => .boolean
  | 2 => .object "RainWalk$Rain"
  | 3 => .int
  | 4 => .long
  | _ => .int
abbrev wsX40 : List Cond := u_ws RX4 TX4 6
theorem nmX4 : ∀ a, a < 6 → ∀ b, b < 6 → a ≠ b → (TX4 a).2.1 ≠ (TX4 b).2.1 := by decide +kernel
theorem tyX4_ok : ∀ k, k < 6 → parseFieldDescriptor (TX4 k).2.2.1 = some (tyX4 k) := by decide +kernel
abbrev cX4_init : ByteArray := prog_5_method_1_code
def yX4_init : MethodName := ⟨RX4, "<init>", "()V"⟩
def dkwX4_init_0 : List UInt8 := [42, 183, 0, 3, 42, 8, 188, 11, 181, 0, 9, 177]
abbrev dktX4_init_0 : List UInt8 := dkwX4_init_0 ++ []
theorem dksX4_init_0 : cX4_init.data.toList.drop 0 = dktX4_init_0 := by decide +kernel
theorem dX4_init_0 : decode cX4_init 0 = .ok (.aload_n 0, 1) := dk_42 (dk_at dksX4_init_0 0 rfl rfl)
theorem dX4_init_1 : decode cX4_init 1 = .ok (.invokespecial 3, 3) := dk_183 0 3 (dk_at dksX4_init_0 1 rfl rfl)
theorem dX4_init_4 : decode cX4_init 4 = .ok (.aload_n 0, 1) := dk_42 (dk_at dksX4_init_0 4 rfl rfl)
theorem dX4_init_5 : decode cX4_init 5 = .ok (.iconst 5, 1) := dk_8 (dk_at dksX4_init_0 5 rfl rfl)
theorem dX4_init_6 : decode cX4_init 6 = .ok (.newarray .long, 2) := dk_188_11 (dk_at dksX4_init_0 6 rfl rfl)
theorem dX4_init_8 : decode cX4_init 8 = .ok (.putfield 9, 3) := dk_181 0 9 (dk_at dksX4_init_0 8 rfl rfl)
theorem dX4_init_11 : decode cX4_init 11 = .ok (.return_, 1) := dk_177 (dk_at dksX4_init_0 11 rfl rfl)
abbrev cX4_lay : ByteArray := prog_5_method_2_code
def yX4_lay : MethodName := ⟨RX4, "lay", "(LRainWalk$Walker;LRainWalk$Road;ILRainWalk$Rain;I)V"⟩
def dkwX4_lay_9 : List UInt8 := [25, 4, 180, 0, 75, 133, 105, 25, 4, 180, 0, 78, 133, 105, 43, 182, 0, 81, 133, 105, 80, 177]
abbrev dktX4_lay_9 : List UInt8 := dkwX4_lay_9 ++ []
def dkwX4_lay_8 : List UInt8 := [43, 182, 0, 56, 182, 0, 72, 80, 21, 6, 2, 159, 0, 34, 42, 180, 0, 9, 21, 6, 42, 180, 0, 41]
abbrev dktX4_lay_8 : List UInt8 := dkwX4_lay_8 ++ dktX4_lay_9
def dkwX4_lay_7 : List UInt8 := [153, 0, 10, 43, 182, 0, 65, 167, 0, 7, 43, 182, 0, 56, 182, 0, 59, 80, 42, 180, 0, 9, 5, 42]
abbrev dktX4_lay_7 : List UInt8 := dkwX4_lay_7 ++ dktX4_lay_8
def dkwX4_lay_6 : List UInt8 := [182, 0, 62, 167, 0, 7, 43, 182, 0, 47, 182, 0, 53, 80, 42, 180, 0, 9, 4, 42, 42, 180, 0, 68]
abbrev dktX4_lay_6 : List UInt8 := dkwX4_lay_6 ++ dktX4_lay_7
def dkwX4_lay_5 : List UInt8 := [21, 11, 9, 80, 132, 11, 1, 167, 255, 239, 42, 180, 0, 9, 3, 42, 42, 180, 0, 68, 153, 0, 10, 43]
abbrev dktX4_lay_5 : List UInt8 := dkwX4_lay_5 ++ dktX4_lay_6
def dkwX4_lay_4 : List UInt8 := [156, 0, 7, 4, 167, 0, 4, 3, 181, 0, 68, 3, 54, 11, 21, 11, 8, 162, 0, 17, 42, 180, 0, 9]
abbrev dktX4_lay_4 : List UInt8 := dkwX4_lay_4 ++ dktX4_lay_5
def dkwX4_lay_3 : List UInt8 := [182, 0, 62, 182, 0, 53, 42, 43, 182, 0, 65, 182, 0, 59, 97, 55, 9, 42, 22, 9, 22, 7, 148]
abbrev dktX4_lay_3 : List UInt8 := dkwX4_lay_3 ++ dktX4_lay_4
def dkwX4_lay_2 : List UInt8 := [54, 6, 42, 43, 182, 0, 47, 182, 0, 53, 42, 43, 182, 0, 56, 182, 0, 59, 97, 55, 7, 42, 43]
abbrev dktX4_lay_2 : List UInt8 := dkwX4_lay_2 ++ dktX4_lay_3
def dkwX4_lay_1 : List UInt8 := [181, 0, 34, 42, 44, 21, 5, 182, 0, 37, 181, 0, 41, 25, 4, 44, 29, 182, 0, 23, 182, 0, 44]
abbrev dktX4_lay_1 : List UInt8 := dkwX4_lay_1 ++ dktX4_lay_2
def dkwX4_lay_0 : List UInt8 := [42, 25, 4, 181, 0, 15, 42, 21, 5, 181, 0, 19, 42, 25, 4, 44, 29, 182, 0, 23, 182, 0, 29]
abbrev dktX4_lay_0 : List UInt8 := dkwX4_lay_0 ++ dktX4_lay_1
theorem dksX4_lay_0 : cX4_lay.data.toList.drop 0 = dktX4_lay_0 := by decide +kernel
theorem dksX4_lay_1 : cX4_lay.data.toList.drop 23 = dktX4_lay_1 := dk_seg dksX4_lay_0 23 rfl rfl
theorem dksX4_lay_2 : cX4_lay.data.toList.drop 46 = dktX4_lay_2 := dk_seg dksX4_lay_1 23 rfl rfl
theorem dksX4_lay_3 : cX4_lay.data.toList.drop 69 = dktX4_lay_3 := dk_seg dksX4_lay_2 23 rfl rfl
theorem dksX4_lay_4 : cX4_lay.data.toList.drop 92 = dktX4_lay_4 := dk_seg dksX4_lay_3 23 rfl rfl
theorem dksX4_lay_5 : cX4_lay.data.toList.drop 116 = dktX4_lay_5 := dk_seg dksX4_lay_4 24 rfl rfl
theorem dksX4_lay_6 : cX4_lay.data.toList.drop 140 = dktX4_lay_6 := dk_seg dksX4_lay_5 24 rfl rfl
theorem dksX4_lay_7 : cX4_lay.data.toList.drop 164 = dktX4_lay_7 := dk_seg dksX4_lay_6 24 rfl rfl
theorem dksX4_lay_8 : cX4_lay.data.toList.drop 188 = dktX4_lay_8 := dk_seg dksX4_lay_7 24 rfl rfl
theorem dksX4_lay_9 : cX4_lay.data.toList.drop 212 = dktX4_lay_9 := dk_seg dksX4_lay_8 24 rfl rfl
theorem dX4_lay_0 : decode cX4_lay 0 = .ok (.aload_n 0, 1) := dk_42 (dk_at dksX4_lay_0 0 rfl rfl)
theorem dX4_lay_1 : decode cX4_lay 1 = .ok (.aload 4, 2) := dk_25 4 (dk_at dksX4_lay_0 1 rfl rfl)
theorem dX4_lay_3 : decode cX4_lay 3 = .ok (.putfield 15, 3) := dk_181 0 15 (dk_at dksX4_lay_0 3 rfl rfl)
theorem dX4_lay_6 : decode cX4_lay 6 = .ok (.aload_n 0, 1) := dk_42 (dk_at dksX4_lay_0 6 rfl rfl)
theorem dX4_lay_7 : decode cX4_lay 7 = .ok (.iload 5, 2) := dk_21 5 (dk_at dksX4_lay_0 7 rfl rfl)
theorem dX4_lay_9 : decode cX4_lay 9 = .ok (.putfield 19, 3) := dk_181 0 19 (dk_at dksX4_lay_0 9 rfl rfl)
theorem dX4_lay_12 : decode cX4_lay 12 = .ok (.aload_n 0, 1) := dk_42 (dk_at dksX4_lay_0 12 rfl rfl)
theorem dX4_lay_13 : decode cX4_lay 13 = .ok (.aload 4, 2) := dk_25 4 (dk_at dksX4_lay_0 13 rfl rfl)
theorem dX4_lay_15 : decode cX4_lay 15 = .ok (.aload_n 2, 1) := dk_44 (dk_at dksX4_lay_0 15 rfl rfl)
theorem dX4_lay_16 : decode cX4_lay 16 = .ok (.iload_n 3, 1) := dk_29 (dk_at dksX4_lay_0 16 rfl rfl)
theorem dX4_lay_17 : decode cX4_lay 17 = .ok (.invokevirtual 23, 3) := dk_182 0 23 (dk_at dksX4_lay_0 17 rfl rfl)
theorem dX4_lay_20 : decode cX4_lay 20 = .ok (.invokevirtual 29, 3) := dk_182 0 29 (dk_at dksX4_lay_0 20 rfl rfl)
theorem dX4_lay_23 : decode cX4_lay 23 = .ok (.putfield 34, 3) := dk_181 0 34 (dk_at dksX4_lay_1 0 rfl rfl)
theorem dX4_lay_26 : decode cX4_lay 26 = .ok (.aload_n 0, 1) := dk_42 (dk_at dksX4_lay_1 3 rfl rfl)
theorem dX4_lay_27 : decode cX4_lay 27 = .ok (.aload_n 2, 1) := dk_44 (dk_at dksX4_lay_1 4 rfl rfl)
theorem dX4_lay_28 : decode cX4_lay 28 = .ok (.iload 5, 2) := dk_21 5 (dk_at dksX4_lay_1 5 rfl rfl)
theorem dX4_lay_30 : decode cX4_lay 30 = .ok (.invokevirtual 37, 3) := dk_182 0 37 (dk_at dksX4_lay_1 7 rfl rfl)
theorem dX4_lay_33 : decode cX4_lay 33 = .ok (.putfield 41, 3) := dk_181 0 41 (dk_at dksX4_lay_1 10 rfl rfl)
theorem dX4_lay_36 : decode cX4_lay 36 = .ok (.aload 4, 2) := dk_25 4 (dk_at dksX4_lay_1 13 rfl rfl)
theorem dX4_lay_38 : decode cX4_lay 38 = .ok (.aload_n 2, 1) := dk_44 (dk_at dksX4_lay_1 15 rfl rfl)
theorem dX4_lay_39 : decode cX4_lay 39 = .ok (.iload_n 3, 1) := dk_29 (dk_at dksX4_lay_1 16 rfl rfl)
theorem dX4_lay_40 : decode cX4_lay 40 = .ok (.invokevirtual 23, 3) := dk_182 0 23 (dk_at dksX4_lay_1 17 rfl rfl)
theorem dX4_lay_43 : decode cX4_lay 43 = .ok (.invokevirtual 44, 3) := dk_182 0 44 (dk_at dksX4_lay_1 20 rfl rfl)
theorem dX4_lay_46 : decode cX4_lay 46 = .ok (.istore 6, 2) := dk_54 6 (dk_at dksX4_lay_2 0 rfl rfl)
theorem dX4_lay_48 : decode cX4_lay 48 = .ok (.aload_n 0, 1) := dk_42 (dk_at dksX4_lay_2 2 rfl rfl)
theorem dX4_lay_49 : decode cX4_lay 49 = .ok (.aload_n 1, 1) := dk_43 (dk_at dksX4_lay_2 3 rfl rfl)
theorem dX4_lay_50 : decode cX4_lay 50 = .ok (.invokevirtual 47, 3) := dk_182 0 47 (dk_at dksX4_lay_2 4 rfl rfl)
theorem dX4_lay_53 : decode cX4_lay 53 = .ok (.invokevirtual 53, 3) := dk_182 0 53 (dk_at dksX4_lay_2 7 rfl rfl)
theorem dX4_lay_56 : decode cX4_lay 56 = .ok (.aload_n 0, 1) := dk_42 (dk_at dksX4_lay_2 10 rfl rfl)
theorem dX4_lay_57 : decode cX4_lay 57 = .ok (.aload_n 1, 1) := dk_43 (dk_at dksX4_lay_2 11 rfl rfl)
theorem dX4_lay_58 : decode cX4_lay 58 = .ok (.invokevirtual 56, 3) := dk_182 0 56 (dk_at dksX4_lay_2 12 rfl rfl)
theorem dX4_lay_61 : decode cX4_lay 61 = .ok (.invokevirtual 59, 3) := dk_182 0 59 (dk_at dksX4_lay_2 15 rfl rfl)
theorem dX4_lay_64 : decode cX4_lay 64 = .ok (.ladd, 1) := dk_97 (dk_at dksX4_lay_2 18 rfl rfl)
theorem dX4_lay_65 : decode cX4_lay 65 = .ok (.lstore 7, 2) := dk_55 7 (dk_at dksX4_lay_2 19 rfl rfl)
theorem dX4_lay_67 : decode cX4_lay 67 = .ok (.aload_n 0, 1) := dk_42 (dk_at dksX4_lay_2 21 rfl rfl)
theorem dX4_lay_68 : decode cX4_lay 68 = .ok (.aload_n 1, 1) := dk_43 (dk_at dksX4_lay_2 22 rfl rfl)
theorem dX4_lay_69 : decode cX4_lay 69 = .ok (.invokevirtual 62, 3) := dk_182 0 62 (dk_at dksX4_lay_3 0 rfl rfl)
theorem dX4_lay_72 : decode cX4_lay 72 = .ok (.invokevirtual 53, 3) := dk_182 0 53 (dk_at dksX4_lay_3 3 rfl rfl)
theorem dX4_lay_75 : decode cX4_lay 75 = .ok (.aload_n 0, 1) := dk_42 (dk_at dksX4_lay_3 6 rfl rfl)
theorem dX4_lay_76 : decode cX4_lay 76 = .ok (.aload_n 1, 1) := dk_43 (dk_at dksX4_lay_3 7 rfl rfl)
theorem dX4_lay_77 : decode cX4_lay 77 = .ok (.invokevirtual 65, 3) := dk_182 0 65 (dk_at dksX4_lay_3 8 rfl rfl)
theorem dX4_lay_80 : decode cX4_lay 80 = .ok (.invokevirtual 59, 3) := dk_182 0 59 (dk_at dksX4_lay_3 11 rfl rfl)
theorem dX4_lay_83 : decode cX4_lay 83 = .ok (.ladd, 1) := dk_97 (dk_at dksX4_lay_3 14 rfl rfl)
theorem dX4_lay_84 : decode cX4_lay 84 = .ok (.lstore 9, 2) := dk_55 9 (dk_at dksX4_lay_3 15 rfl rfl)
theorem dX4_lay_86 : decode cX4_lay 86 = .ok (.aload_n 0, 1) := dk_42 (dk_at dksX4_lay_3 17 rfl rfl)
theorem dX4_lay_87 : decode cX4_lay 87 = .ok (.lload 9, 2) := dk_22 9 (dk_at dksX4_lay_3 18 rfl rfl)
theorem dX4_lay_89 : decode cX4_lay 89 = .ok (.lload 7, 2) := dk_22 7 (dk_at dksX4_lay_3 20 rfl rfl)
theorem dX4_lay_91 : decode cX4_lay 91 = .ok (.lcmp, 1) := dk_148 (dk_at dksX4_lay_3 22 rfl rfl)
theorem dX4_lay_92 : decode cX4_lay 92 = .ok (.ifCond .ge 7, 3) := dk_156 0 7 (dk_at dksX4_lay_4 0 rfl rfl)
theorem dX4_lay_95 : decode cX4_lay 95 = .ok (.iconst 1, 1) := dk_4 (dk_at dksX4_lay_4 3 rfl rfl)
theorem dX4_lay_96 : decode cX4_lay 96 = .ok (.goto 4, 3) := dk_167 0 4 (dk_at dksX4_lay_4 4 rfl rfl)
theorem dX4_lay_99 : decode cX4_lay 99 = .ok (.iconst 0, 1) := dk_3 (dk_at dksX4_lay_4 7 rfl rfl)
theorem dX4_lay_100 : decode cX4_lay 100 = .ok (.putfield 68, 3) := dk_181 0 68 (dk_at dksX4_lay_4 8 rfl rfl)
theorem dX4_lay_103 : decode cX4_lay 103 = .ok (.iconst 0, 1) := dk_3 (dk_at dksX4_lay_4 11 rfl rfl)
theorem dX4_lay_104 : decode cX4_lay 104 = .ok (.istore 11, 2) := dk_54 11 (dk_at dksX4_lay_4 12 rfl rfl)
theorem dX4_lay_106 : decode cX4_lay 106 = .ok (.iload 11, 2) := dk_21 11 (dk_at dksX4_lay_4 14 rfl rfl)
theorem dX4_lay_108 : decode cX4_lay 108 = .ok (.iconst 5, 1) := dk_8 (dk_at dksX4_lay_4 16 rfl rfl)
theorem dX4_lay_109 : decode cX4_lay 109 = .ok (.if_icmp .ge 17, 3) := dk_162 0 17 (dk_at dksX4_lay_4 17 rfl rfl)
theorem dX4_lay_112 : decode cX4_lay 112 = .ok (.aload_n 0, 1) := dk_42 (dk_at dksX4_lay_4 20 rfl rfl)
theorem dX4_lay_113 : decode cX4_lay 113 = .ok (.getfield 9, 3) := dk_180 0 9 (dk_at dksX4_lay_4 21 rfl rfl)
theorem dX4_lay_116 : decode cX4_lay 116 = .ok (.iload 11, 2) := dk_21 11 (dk_at dksX4_lay_5 0 rfl rfl)
theorem dX4_lay_118 : decode cX4_lay 118 = .ok (.lconst 0, 1) := dk_9 (dk_at dksX4_lay_5 2 rfl rfl)
theorem dX4_lay_119 : decode cX4_lay 119 = .ok (.lastore, 1) := dk_80 (dk_at dksX4_lay_5 3 rfl rfl)
theorem dX4_lay_120 : decode cX4_lay 120 = .ok (.iinc 11 1, 3) := dk_132 11 1 (dk_at dksX4_lay_5 4 rfl rfl)
theorem dX4_lay_123 : decode cX4_lay 123 = .ok (.goto (-17), 3) := dk_167 255 239 (dk_at dksX4_lay_5 7 rfl rfl)
theorem dX4_lay_126 : decode cX4_lay 126 = .ok (.aload_n 0, 1) := dk_42 (dk_at dksX4_lay_5 10 rfl rfl)
theorem dX4_lay_127 : decode cX4_lay 127 = .ok (.getfield 9, 3) := dk_180 0 9 (dk_at dksX4_lay_5 11 rfl rfl)
theorem dX4_lay_130 : decode cX4_lay 130 = .ok (.iconst 0, 1) := dk_3 (dk_at dksX4_lay_5 14 rfl rfl)
theorem dX4_lay_131 : decode cX4_lay 131 = .ok (.aload_n 0, 1) := dk_42 (dk_at dksX4_lay_5 15 rfl rfl)
theorem dX4_lay_132 : decode cX4_lay 132 = .ok (.aload_n 0, 1) := dk_42 (dk_at dksX4_lay_5 16 rfl rfl)
theorem dX4_lay_133 : decode cX4_lay 133 = .ok (.getfield 68, 3) := dk_180 0 68 (dk_at dksX4_lay_5 17 rfl rfl)
theorem dX4_lay_136 : decode cX4_lay 136 = .ok (.ifCond .eq 10, 3) := dk_153 0 10 (dk_at dksX4_lay_5 20 rfl rfl)
theorem dX4_lay_139 : decode cX4_lay 139 = .ok (.aload_n 1, 1) := dk_43 (dk_at dksX4_lay_5 23 rfl rfl)
theorem dX4_lay_140 : decode cX4_lay 140 = .ok (.invokevirtual 62, 3) := dk_182 0 62 (dk_at dksX4_lay_6 0 rfl rfl)
theorem dX4_lay_143 : decode cX4_lay 143 = .ok (.goto 7, 3) := dk_167 0 7 (dk_at dksX4_lay_6 3 rfl rfl)
theorem dX4_lay_146 : decode cX4_lay 146 = .ok (.aload_n 1, 1) := dk_43 (dk_at dksX4_lay_6 6 rfl rfl)
theorem dX4_lay_147 : decode cX4_lay 147 = .ok (.invokevirtual 47, 3) := dk_182 0 47 (dk_at dksX4_lay_6 7 rfl rfl)
theorem dX4_lay_150 : decode cX4_lay 150 = .ok (.invokevirtual 53, 3) := dk_182 0 53 (dk_at dksX4_lay_6 10 rfl rfl)
theorem dX4_lay_153 : decode cX4_lay 153 = .ok (.lastore, 1) := dk_80 (dk_at dksX4_lay_6 13 rfl rfl)
theorem dX4_lay_154 : decode cX4_lay 154 = .ok (.aload_n 0, 1) := dk_42 (dk_at dksX4_lay_6 14 rfl rfl)
theorem dX4_lay_155 : decode cX4_lay 155 = .ok (.getfield 9, 3) := dk_180 0 9 (dk_at dksX4_lay_6 15 rfl rfl)
theorem dX4_lay_158 : decode cX4_lay 158 = .ok (.iconst 1, 1) := dk_4 (dk_at dksX4_lay_6 18 rfl rfl)
theorem dX4_lay_159 : decode cX4_lay 159 = .ok (.aload_n 0, 1) := dk_42 (dk_at dksX4_lay_6 19 rfl rfl)
theorem dX4_lay_160 : decode cX4_lay 160 = .ok (.aload_n 0, 1) := dk_42 (dk_at dksX4_lay_6 20 rfl rfl)
theorem dX4_lay_161 : decode cX4_lay 161 = .ok (.getfield 68, 3) := dk_180 0 68 (dk_at dksX4_lay_6 21 rfl rfl)
theorem dX4_lay_164 : decode cX4_lay 164 = .ok (.ifCond .eq 10, 3) := dk_153 0 10 (dk_at dksX4_lay_7 0 rfl rfl)
theorem dX4_lay_167 : decode cX4_lay 167 = .ok (.aload_n 1, 1) := dk_43 (dk_at dksX4_lay_7 3 rfl rfl)
theorem dX4_lay_168 : decode cX4_lay 168 = .ok (.invokevirtual 65, 3) := dk_182 0 65 (dk_at dksX4_lay_7 4 rfl rfl)
theorem dX4_lay_171 : decode cX4_lay 171 = .ok (.goto 7, 3) := dk_167 0 7 (dk_at dksX4_lay_7 7 rfl rfl)
theorem dX4_lay_174 : decode cX4_lay 174 = .ok (.aload_n 1, 1) := dk_43 (dk_at dksX4_lay_7 10 rfl rfl)
theorem dX4_lay_175 : decode cX4_lay 175 = .ok (.invokevirtual 56, 3) := dk_182 0 56 (dk_at dksX4_lay_7 11 rfl rfl)
theorem dX4_lay_178 : decode cX4_lay 178 = .ok (.invokevirtual 59, 3) := dk_182 0 59 (dk_at dksX4_lay_7 14 rfl rfl)
theorem dX4_lay_181 : decode cX4_lay 181 = .ok (.lastore, 1) := dk_80 (dk_at dksX4_lay_7 17 rfl rfl)
theorem dX4_lay_182 : decode cX4_lay 182 = .ok (.aload_n 0, 1) := dk_42 (dk_at dksX4_lay_7 18 rfl rfl)
theorem dX4_lay_183 : decode cX4_lay 183 = .ok (.getfield 9, 3) := dk_180 0 9 (dk_at dksX4_lay_7 19 rfl rfl)
theorem dX4_lay_186 : decode cX4_lay 186 = .ok (.iconst 2, 1) := dk_5 (dk_at dksX4_lay_7 22 rfl rfl)
theorem dX4_lay_187 : decode cX4_lay 187 = .ok (.aload_n 0, 1) := dk_42 (dk_at dksX4_lay_7 23 rfl rfl)
theorem dX4_lay_188 : decode cX4_lay 188 = .ok (.aload_n 1, 1) := dk_43 (dk_at dksX4_lay_8 0 rfl rfl)
theorem dX4_lay_189 : decode cX4_lay 189 = .ok (.invokevirtual 56, 3) := dk_182 0 56 (dk_at dksX4_lay_8 1 rfl rfl)
theorem dX4_lay_192 : decode cX4_lay 192 = .ok (.invokevirtual 72, 3) := dk_182 0 72 (dk_at dksX4_lay_8 4 rfl rfl)
theorem dX4_lay_195 : decode cX4_lay 195 = .ok (.lastore, 1) := dk_80 (dk_at dksX4_lay_8 7 rfl rfl)
theorem dX4_lay_196 : decode cX4_lay 196 = .ok (.iload 6, 2) := dk_21 6 (dk_at dksX4_lay_8 8 rfl rfl)
theorem dX4_lay_198 : decode cX4_lay 198 = .ok (.iconst (-1), 1) := dk_2 (dk_at dksX4_lay_8 10 rfl rfl)
theorem dX4_lay_199 : decode cX4_lay 199 = .ok (.if_icmp .eq 34, 3) := dk_159 0 34 (dk_at dksX4_lay_8 11 rfl rfl)
theorem dX4_lay_202 : decode cX4_lay 202 = .ok (.aload_n 0, 1) := dk_42 (dk_at dksX4_lay_8 14 rfl rfl)
theorem dX4_lay_203 : decode cX4_lay 203 = .ok (.getfield 9, 3) := dk_180 0 9 (dk_at dksX4_lay_8 15 rfl rfl)
theorem dX4_lay_206 : decode cX4_lay 206 = .ok (.iload 6, 2) := dk_21 6 (dk_at dksX4_lay_8 18 rfl rfl)
theorem dX4_lay_208 : decode cX4_lay 208 = .ok (.aload_n 0, 1) := dk_42 (dk_at dksX4_lay_8 20 rfl rfl)
theorem dX4_lay_209 : decode cX4_lay 209 = .ok (.getfield 41, 3) := dk_180 0 41 (dk_at dksX4_lay_8 21 rfl rfl)
theorem dX4_lay_212 : decode cX4_lay 212 = .ok (.aload 4, 2) := dk_25 4 (dk_at dksX4_lay_9 0 rfl rfl)
theorem dX4_lay_214 : decode cX4_lay 214 = .ok (.getfield 75, 3) := dk_180 0 75 (dk_at dksX4_lay_9 2 rfl rfl)
theorem dX4_lay_217 : decode cX4_lay 217 = .ok (.i2l, 1) := dk_133 (dk_at dksX4_lay_9 5 rfl rfl)
theorem dX4_lay_218 : decode cX4_lay 218 = .ok (.lmul, 1) := dk_105 (dk_at dksX4_lay_9 6 rfl rfl)
theorem dX4_lay_219 : decode cX4_lay 219 = .ok (.aload 4, 2) := dk_25 4 (dk_at dksX4_lay_9 7 rfl rfl)
theorem dX4_lay_221 : decode cX4_lay 221 = .ok (.getfield 78, 3) := dk_180 0 78 (dk_at dksX4_lay_9 9 rfl rfl)
theorem dX4_lay_224 : decode cX4_lay 224 = .ok (.i2l, 1) := dk_133 (dk_at dksX4_lay_9 12 rfl rfl)
theorem dX4_lay_225 : decode cX4_lay 225 = .ok (.lmul, 1) := dk_105 (dk_at dksX4_lay_9 13 rfl rfl)
theorem dX4_lay_226 : decode cX4_lay 226 = .ok (.aload_n 1, 1) := dk_43 (dk_at dksX4_lay_9 14 rfl rfl)
theorem dX4_lay_227 : decode cX4_lay 227 = .ok (.invokevirtual 81, 3) := dk_182 0 81 (dk_at dksX4_lay_9 15 rfl rfl)
theorem dX4_lay_230 : decode cX4_lay 230 = .ok (.i2l, 1) := dk_133 (dk_at dksX4_lay_9 18 rfl rfl)
theorem dX4_lay_231 : decode cX4_lay 231 = .ok (.lmul, 1) := dk_105 (dk_at dksX4_lay_9 19 rfl rfl)
theorem dX4_lay_232 : decode cX4_lay 232 = .ok (.lastore, 1) := dk_80 (dk_at dksX4_lay_9 20 rfl rfl)
theorem dX4_lay_233 : decode cX4_lay 233 = .ok (.return_, 1) := dk_177 (dk_at dksX4_lay_9 21 rfl rfl)
abbrev cX4_byTop : ByteArray := prog_5_method_3_code
def yX4_byTop : MethodName := ⟨RX4, "byTop", "(I)J"⟩
def dkwX4_byTop_1 : List UInt8 := [105, 173]
abbrev dktX4_byTop_1 : List UInt8 := dkwX4_byTop_1 ++ []
def dkwX4_byTop_0 : List UInt8 := [42, 180, 0, 41, 42, 180, 0, 15, 180, 0, 75, 133, 105, 42, 180, 0, 15, 180, 0, 84, 133, 105, 27, 133]
abbrev dktX4_byTop_0 : List UInt8 := dkwX4_byTop_0 ++ dktX4_byTop_1
theorem dksX4_byTop_0 : cX4_byTop.data.toList.drop 0 = dktX4_byTop_0 := by decide +kernel
theorem dksX4_byTop_1 : cX4_byTop.data.toList.drop 24 = dktX4_byTop_1 := dk_seg dksX4_byTop_0 24 rfl rfl
theorem dX4_byTop_0 : decode cX4_byTop 0 = .ok (.aload_n 0, 1) := dk_42 (dk_at dksX4_byTop_0 0 rfl rfl)
theorem dX4_byTop_1 : decode cX4_byTop 1 = .ok (.getfield 41, 3) := dk_180 0 41 (dk_at dksX4_byTop_0 1 rfl rfl)
theorem dX4_byTop_4 : decode cX4_byTop 4 = .ok (.aload_n 0, 1) := dk_42 (dk_at dksX4_byTop_0 4 rfl rfl)
theorem dX4_byTop_5 : decode cX4_byTop 5 = .ok (.getfield 15, 3) := dk_180 0 15 (dk_at dksX4_byTop_0 5 rfl rfl)
theorem dX4_byTop_8 : decode cX4_byTop 8 = .ok (.getfield 75, 3) := dk_180 0 75 (dk_at dksX4_byTop_0 8 rfl rfl)
theorem dX4_byTop_11 : decode cX4_byTop 11 = .ok (.i2l, 1) := dk_133 (dk_at dksX4_byTop_0 11 rfl rfl)
theorem dX4_byTop_12 : decode cX4_byTop 12 = .ok (.lmul, 1) := dk_105 (dk_at dksX4_byTop_0 12 rfl rfl)
theorem dX4_byTop_13 : decode cX4_byTop 13 = .ok (.aload_n 0, 1) := dk_42 (dk_at dksX4_byTop_0 13 rfl rfl)
theorem dX4_byTop_14 : decode cX4_byTop 14 = .ok (.getfield 15, 3) := dk_180 0 15 (dk_at dksX4_byTop_0 14 rfl rfl)
theorem dX4_byTop_17 : decode cX4_byTop 17 = .ok (.getfield 84, 3) := dk_180 0 84 (dk_at dksX4_byTop_0 17 rfl rfl)
theorem dX4_byTop_20 : decode cX4_byTop 20 = .ok (.i2l, 1) := dk_133 (dk_at dksX4_byTop_0 20 rfl rfl)
theorem dX4_byTop_21 : decode cX4_byTop 21 = .ok (.lmul, 1) := dk_105 (dk_at dksX4_byTop_0 21 rfl rfl)
theorem dX4_byTop_22 : decode cX4_byTop 22 = .ok (.iload_n 1, 1) := dk_27 (dk_at dksX4_byTop_0 22 rfl rfl)
theorem dX4_byTop_23 : decode cX4_byTop 23 = .ok (.i2l, 1) := dk_133 (dk_at dksX4_byTop_0 23 rfl rfl)
theorem dX4_byTop_24 : decode cX4_byTop 24 = .ok (.lmul, 1) := dk_105 (dk_at dksX4_byTop_1 0 rfl rfl)
theorem dX4_byTop_25 : decode cX4_byTop 25 = .ok (.lreturn, 1) := dk_173 (dk_at dksX4_byTop_1 1 rfl rfl)
abbrev cX4_byFront : ByteArray := prog_5_method_4_code
def yX4_byFront : MethodName := ⟨RX4, "byFront", "(I)J"⟩
def dkwX4_byFront_1 : List UInt8 := [42, 180, 0, 19, 42, 180, 0, 34, 100, 133, 105, 27, 133, 105, 167, 0, 4, 9, 173]
abbrev dktX4_byFront_1 : List UInt8 := dkwX4_byFront_1 ++ []
def dkwX4_byFront_0 : List UInt8 := [42, 180, 0, 19, 42, 180, 0, 34, 164, 0, 33, 42, 180, 0, 41, 42, 180, 0, 15, 180, 0, 75, 133, 105]
abbrev dktX4_byFront_0 : List UInt8 := dkwX4_byFront_0 ++ dktX4_byFront_1
theorem dksX4_byFront_0 : cX4_byFront.data.toList.drop 0 = dktX4_byFront_0 := by decide +kernel
theorem dksX4_byFront_1 : cX4_byFront.data.toList.drop 24 = dktX4_byFront_1 := dk_seg dksX4_byFront_0 24 rfl rfl
theorem dX4_byFront_0 : decode cX4_byFront 0 = .ok (.aload_n 0, 1) := dk_42 (dk_at dksX4_byFront_0 0 rfl rfl)
theorem dX4_byFront_1 : decode cX4_byFront 1 = .ok (.getfield 19, 3) := dk_180 0 19 (dk_at dksX4_byFront_0 1 rfl rfl)
theorem dX4_byFront_4 : decode cX4_byFront 4 = .ok (.aload_n 0, 1) := dk_42 (dk_at dksX4_byFront_0 4 rfl rfl)
theorem dX4_byFront_5 : decode cX4_byFront 5 = .ok (.getfield 34, 3) := dk_180 0 34 (dk_at dksX4_byFront_0 5 rfl rfl)
theorem dX4_byFront_8 : decode cX4_byFront 8 = .ok (.if_icmp .le 33, 3) := dk_164 0 33 (dk_at dksX4_byFront_0 8 rfl rfl)
theorem dX4_byFront_11 : decode cX4_byFront 11 = .ok (.aload_n 0, 1) := dk_42 (dk_at dksX4_byFront_0 11 rfl rfl)
theorem dX4_byFront_12 : decode cX4_byFront 12 = .ok (.getfield 41, 3) := dk_180 0 41 (dk_at dksX4_byFront_0 12 rfl rfl)
theorem dX4_byFront_15 : decode cX4_byFront 15 = .ok (.aload_n 0, 1) := dk_42 (dk_at dksX4_byFront_0 15 rfl rfl)
theorem dX4_byFront_16 : decode cX4_byFront 16 = .ok (.getfield 15, 3) := dk_180 0 15 (dk_at dksX4_byFront_0 16 rfl rfl)
theorem dX4_byFront_19 : decode cX4_byFront 19 = .ok (.getfield 75, 3) := dk_180 0 75 (dk_at dksX4_byFront_0 19 rfl rfl)
theorem dX4_byFront_22 : decode cX4_byFront 22 = .ok (.i2l, 1) := dk_133 (dk_at dksX4_byFront_0 22 rfl rfl)
theorem dX4_byFront_23 : decode cX4_byFront 23 = .ok (.lmul, 1) := dk_105 (dk_at dksX4_byFront_0 23 rfl rfl)
theorem dX4_byFront_24 : decode cX4_byFront 24 = .ok (.aload_n 0, 1) := dk_42 (dk_at dksX4_byFront_1 0 rfl rfl)
theorem dX4_byFront_25 : decode cX4_byFront 25 = .ok (.getfield 19, 3) := dk_180 0 19 (dk_at dksX4_byFront_1 1 rfl rfl)
theorem dX4_byFront_28 : decode cX4_byFront 28 = .ok (.aload_n 0, 1) := dk_42 (dk_at dksX4_byFront_1 4 rfl rfl)
theorem dX4_byFront_29 : decode cX4_byFront 29 = .ok (.getfield 34, 3) := dk_180 0 34 (dk_at dksX4_byFront_1 5 rfl rfl)
theorem dX4_byFront_32 : decode cX4_byFront 32 = .ok (.isub, 1) := dk_100 (dk_at dksX4_byFront_1 8 rfl rfl)
theorem dX4_byFront_33 : decode cX4_byFront 33 = .ok (.i2l, 1) := dk_133 (dk_at dksX4_byFront_1 9 rfl rfl)
theorem dX4_byFront_34 : decode cX4_byFront 34 = .ok (.lmul, 1) := dk_105 (dk_at dksX4_byFront_1 10 rfl rfl)
theorem dX4_byFront_35 : decode cX4_byFront 35 = .ok (.iload_n 1, 1) := dk_27 (dk_at dksX4_byFront_1 11 rfl rfl)
theorem dX4_byFront_36 : decode cX4_byFront 36 = .ok (.i2l, 1) := dk_133 (dk_at dksX4_byFront_1 12 rfl rfl)
theorem dX4_byFront_37 : decode cX4_byFront 37 = .ok (.lmul, 1) := dk_105 (dk_at dksX4_byFront_1 13 rfl rfl)
theorem dX4_byFront_38 : decode cX4_byFront 38 = .ok (.goto 4, 3) := dk_167 0 4 (dk_at dksX4_byFront_1 14 rfl rfl)
theorem dX4_byFront_41 : decode cX4_byFront 41 = .ok (.lconst 0, 1) := dk_9 (dk_at dksX4_byFront_1 17 rfl rfl)
theorem dX4_byFront_42 : decode cX4_byFront 42 = .ok (.lreturn, 1) := dk_173 (dk_at dksX4_byFront_1 18 rfl rfl)
abbrev cX4_byBack : ByteArray := prog_5_method_5_code
def yX4_byBack : MethodName := ⟨RX4, "byBack", "(I)J"⟩
def dkwX4_byBack_1 : List UInt8 := [42, 180, 0, 34, 42, 180, 0, 19, 100, 133, 105, 27, 133, 105, 167, 0, 4, 9, 173]
abbrev dktX4_byBack_1 : List UInt8 := dkwX4_byBack_1 ++ []
def dkwX4_byBack_0 : List UInt8 := [42, 180, 0, 19, 42, 180, 0, 34, 162, 0, 33, 42, 180, 0, 41, 42, 180, 0, 15, 180, 0, 75, 133, 105]
abbrev dktX4_byBack_0 : List UInt8 := dkwX4_byBack_0 ++ dktX4_byBack_1
theorem dksX4_byBack_0 : cX4_byBack.data.toList.drop 0 = dktX4_byBack_0 := by decide +kernel
theorem dksX4_byBack_1 : cX4_byBack.data.toList.drop 24 = dktX4_byBack_1 := dk_seg dksX4_byBack_0 24 rfl rfl
theorem dX4_byBack_0 : decode cX4_byBack 0 = .ok (.aload_n 0, 1) := dk_42 (dk_at dksX4_byBack_0 0 rfl rfl)
theorem dX4_byBack_1 : decode cX4_byBack 1 = .ok (.getfield 19, 3) := dk_180 0 19 (dk_at dksX4_byBack_0 1 rfl rfl)
theorem dX4_byBack_4 : decode cX4_byBack 4 = .ok (.aload_n 0, 1) := dk_42 (dk_at dksX4_byBack_0 4 rfl rfl)
theorem dX4_byBack_5 : decode cX4_byBack 5 = .ok (.getfield 34, 3) := dk_180 0 34 (dk_at dksX4_byBack_0 5 rfl rfl)
theorem dX4_byBack_8 : decode cX4_byBack 8 = .ok (.if_icmp .ge 33, 3) := dk_162 0 33 (dk_at dksX4_byBack_0 8 rfl rfl)
theorem dX4_byBack_11 : decode cX4_byBack 11 = .ok (.aload_n 0, 1) := dk_42 (dk_at dksX4_byBack_0 11 rfl rfl)
theorem dX4_byBack_12 : decode cX4_byBack 12 = .ok (.getfield 41, 3) := dk_180 0 41 (dk_at dksX4_byBack_0 12 rfl rfl)
theorem dX4_byBack_15 : decode cX4_byBack 15 = .ok (.aload_n 0, 1) := dk_42 (dk_at dksX4_byBack_0 15 rfl rfl)
theorem dX4_byBack_16 : decode cX4_byBack 16 = .ok (.getfield 15, 3) := dk_180 0 15 (dk_at dksX4_byBack_0 16 rfl rfl)
theorem dX4_byBack_19 : decode cX4_byBack 19 = .ok (.getfield 75, 3) := dk_180 0 75 (dk_at dksX4_byBack_0 19 rfl rfl)
theorem dX4_byBack_22 : decode cX4_byBack 22 = .ok (.i2l, 1) := dk_133 (dk_at dksX4_byBack_0 22 rfl rfl)
theorem dX4_byBack_23 : decode cX4_byBack 23 = .ok (.lmul, 1) := dk_105 (dk_at dksX4_byBack_0 23 rfl rfl)
theorem dX4_byBack_24 : decode cX4_byBack 24 = .ok (.aload_n 0, 1) := dk_42 (dk_at dksX4_byBack_1 0 rfl rfl)
theorem dX4_byBack_25 : decode cX4_byBack 25 = .ok (.getfield 34, 3) := dk_180 0 34 (dk_at dksX4_byBack_1 1 rfl rfl)
theorem dX4_byBack_28 : decode cX4_byBack 28 = .ok (.aload_n 0, 1) := dk_42 (dk_at dksX4_byBack_1 4 rfl rfl)
theorem dX4_byBack_29 : decode cX4_byBack 29 = .ok (.getfield 19, 3) := dk_180 0 19 (dk_at dksX4_byBack_1 5 rfl rfl)
theorem dX4_byBack_32 : decode cX4_byBack 32 = .ok (.isub, 1) := dk_100 (dk_at dksX4_byBack_1 8 rfl rfl)
theorem dX4_byBack_33 : decode cX4_byBack 33 = .ok (.i2l, 1) := dk_133 (dk_at dksX4_byBack_1 9 rfl rfl)
theorem dX4_byBack_34 : decode cX4_byBack 34 = .ok (.lmul, 1) := dk_105 (dk_at dksX4_byBack_1 10 rfl rfl)
theorem dX4_byBack_35 : decode cX4_byBack 35 = .ok (.iload_n 1, 1) := dk_27 (dk_at dksX4_byBack_1 11 rfl rfl)
theorem dX4_byBack_36 : decode cX4_byBack 36 = .ok (.i2l, 1) := dk_133 (dk_at dksX4_byBack_1 12 rfl rfl)
theorem dX4_byBack_37 : decode cX4_byBack 37 = .ok (.lmul, 1) := dk_105 (dk_at dksX4_byBack_1 13 rfl rfl)
theorem dX4_byBack_38 : decode cX4_byBack 38 = .ok (.goto 4, 3) := dk_167 0 4 (dk_at dksX4_byBack_1 14 rfl rfl)
theorem dX4_byBack_41 : decode cX4_byBack 41 = .ok (.lconst 0, 1) := dk_9 (dk_at dksX4_byBack_1 17 rfl rfl)
theorem dX4_byBack_42 : decode cX4_byBack 42 = .ok (.lreturn, 1) := dk_173 (dk_at dksX4_byBack_1 18 rfl rfl)
abbrev cX4_wet : ByteArray := prog_5_method_7_code
def yX4_wet : MethodName := ⟨RX4, "wet", "()J"⟩
def dkwX4_wet_1 : List UInt8 := [31, 173]
abbrev dktX4_wet_1 : List UInt8 := dkwX4_wet_1 ++ []
def dkwX4_wet_0 : List UInt8 := [9, 64, 3, 62, 29, 8, 162, 0, 18, 31, 42, 180, 0, 9, 29, 47, 97, 64, 132, 3, 1, 167, 255, 239]
abbrev dktX4_wet_0 : List UInt8 := dkwX4_wet_0 ++ dktX4_wet_1
theorem dksX4_wet_0 : cX4_wet.data.toList.drop 0 = dktX4_wet_0 := by decide +kernel
theorem dksX4_wet_1 : cX4_wet.data.toList.drop 24 = dktX4_wet_1 := dk_seg dksX4_wet_0 24 rfl rfl
theorem dX4_wet_0 : decode cX4_wet 0 = .ok (.lconst 0, 1) := dk_9 (dk_at dksX4_wet_0 0 rfl rfl)
theorem dX4_wet_1 : decode cX4_wet 1 = .ok (.lstore_n 1, 1) := dk_64 (dk_at dksX4_wet_0 1 rfl rfl)
theorem dX4_wet_2 : decode cX4_wet 2 = .ok (.iconst 0, 1) := dk_3 (dk_at dksX4_wet_0 2 rfl rfl)
theorem dX4_wet_3 : decode cX4_wet 3 = .ok (.istore_n 3, 1) := dk_62 (dk_at dksX4_wet_0 3 rfl rfl)
theorem dX4_wet_4 : decode cX4_wet 4 = .ok (.iload_n 3, 1) := dk_29 (dk_at dksX4_wet_0 4 rfl rfl)
theorem dX4_wet_5 : decode cX4_wet 5 = .ok (.iconst 5, 1) := dk_8 (dk_at dksX4_wet_0 5 rfl rfl)
theorem dX4_wet_6 : decode cX4_wet 6 = .ok (.if_icmp .ge 18, 3) := dk_162 0 18 (dk_at dksX4_wet_0 6 rfl rfl)
theorem dX4_wet_9 : decode cX4_wet 9 = .ok (.lload_n 1, 1) := dk_31 (dk_at dksX4_wet_0 9 rfl rfl)
theorem dX4_wet_10 : decode cX4_wet 10 = .ok (.aload_n 0, 1) := dk_42 (dk_at dksX4_wet_0 10 rfl rfl)
theorem dX4_wet_11 : decode cX4_wet 11 = .ok (.getfield 9, 3) := dk_180 0 9 (dk_at dksX4_wet_0 11 rfl rfl)
theorem dX4_wet_14 : decode cX4_wet 14 = .ok (.iload_n 3, 1) := dk_29 (dk_at dksX4_wet_0 14 rfl rfl)
theorem dX4_wet_15 : decode cX4_wet 15 = .ok (.laload, 1) := dk_47 (dk_at dksX4_wet_0 15 rfl rfl)
theorem dX4_wet_16 : decode cX4_wet 16 = .ok (.ladd, 1) := dk_97 (dk_at dksX4_wet_0 16 rfl rfl)
theorem dX4_wet_17 : decode cX4_wet 17 = .ok (.lstore_n 1, 1) := dk_64 (dk_at dksX4_wet_0 17 rfl rfl)
theorem dX4_wet_18 : decode cX4_wet 18 = .ok (.iinc 3 1, 3) := dk_132 3 1 (dk_at dksX4_wet_0 18 rfl rfl)
theorem dX4_wet_21 : decode cX4_wet 21 = .ok (.goto (-17), 3) := dk_167 255 239 (dk_at dksX4_wet_0 21 rfl rfl)
theorem dX4_wet_24 : decode cX4_wet 24 = .ok (.lload_n 1, 1) := dk_31 (dk_at dksX4_wet_1 0 rfl rfl)
theorem dX4_wet_25 : decode cX4_wet 25 = .ok (.lreturn, 1) := dk_173 (dk_at dksX4_wet_1 1 rfl rfl)
abbrev cX4_inLee : ByteArray := prog_5_method_6_code
def yX4_inLee : MethodName := ⟨RX4, "inLee", "(LRainWalk$Walker;LRainWalk$Walker;Z)V"⟩
def dkwX4_inLee_2 : List UInt8 := [180, 0, 9, 5, 42, 3, 43, 182, 0, 56, 44, 182, 0, 56, 100, 184, 0, 87, 182, 0, 72, 80, 177]
abbrev dktX4_inLee_2 : List UInt8 := dkwX4_inLee_2 ++ []
def dkwX4_inLee_1 : List UInt8 := [167, 0, 7, 43, 182, 0, 56, 44, 182, 0, 56, 100, 184, 0, 87, 182, 0, 59, 80, 167, 0, 26, 42]
abbrev dktX4_inLee_1 : List UInt8 := dkwX4_inLee_1 ++ dktX4_inLee_2
def dkwX4_inLee_0 : List UInt8 := [29, 153, 0, 43, 42, 180, 0, 9, 4, 42, 3, 42, 180, 0, 68, 153, 0, 10, 43, 182, 0, 65]
abbrev dktX4_inLee_0 : List UInt8 := dkwX4_inLee_0 ++ dktX4_inLee_1
theorem dksX4_inLee_0 : cX4_inLee.data.toList.drop 0 = dktX4_inLee_0 := by decide +kernel
theorem dksX4_inLee_1 : cX4_inLee.data.toList.drop 22 = dktX4_inLee_1 := dk_seg dksX4_inLee_0 22 rfl rfl
theorem dksX4_inLee_2 : cX4_inLee.data.toList.drop 45 = dktX4_inLee_2 := dk_seg dksX4_inLee_1 23 rfl rfl
theorem dX4_inLee_0 : decode cX4_inLee 0 = .ok (.iload_n 3, 1) := dk_29 (dk_at dksX4_inLee_0 0 rfl rfl)
theorem dX4_inLee_1 : decode cX4_inLee 1 = .ok (.ifCond .eq 43, 3) := dk_153 0 43 (dk_at dksX4_inLee_0 1 rfl rfl)
theorem dX4_inLee_4 : decode cX4_inLee 4 = .ok (.aload_n 0, 1) := dk_42 (dk_at dksX4_inLee_0 4 rfl rfl)
theorem dX4_inLee_5 : decode cX4_inLee 5 = .ok (.getfield 9, 3) := dk_180 0 9 (dk_at dksX4_inLee_0 5 rfl rfl)
theorem dX4_inLee_8 : decode cX4_inLee 8 = .ok (.iconst 1, 1) := dk_4 (dk_at dksX4_inLee_0 8 rfl rfl)
theorem dX4_inLee_9 : decode cX4_inLee 9 = .ok (.aload_n 0, 1) := dk_42 (dk_at dksX4_inLee_0 9 rfl rfl)
theorem dX4_inLee_10 : decode cX4_inLee 10 = .ok (.iconst 0, 1) := dk_3 (dk_at dksX4_inLee_0 10 rfl rfl)
theorem dX4_inLee_11 : decode cX4_inLee 11 = .ok (.aload_n 0, 1) := dk_42 (dk_at dksX4_inLee_0 11 rfl rfl)
theorem dX4_inLee_12 : decode cX4_inLee 12 = .ok (.getfield 68, 3) := dk_180 0 68 (dk_at dksX4_inLee_0 12 rfl rfl)
theorem dX4_inLee_15 : decode cX4_inLee 15 = .ok (.ifCond .eq 10, 3) := dk_153 0 10 (dk_at dksX4_inLee_0 15 rfl rfl)
theorem dX4_inLee_18 : decode cX4_inLee 18 = .ok (.aload_n 1, 1) := dk_43 (dk_at dksX4_inLee_0 18 rfl rfl)
theorem dX4_inLee_19 : decode cX4_inLee 19 = .ok (.invokevirtual 65, 3) := dk_182 0 65 (dk_at dksX4_inLee_0 19 rfl rfl)
theorem dX4_inLee_22 : decode cX4_inLee 22 = .ok (.goto 7, 3) := dk_167 0 7 (dk_at dksX4_inLee_1 0 rfl rfl)
theorem dX4_inLee_25 : decode cX4_inLee 25 = .ok (.aload_n 1, 1) := dk_43 (dk_at dksX4_inLee_1 3 rfl rfl)
theorem dX4_inLee_26 : decode cX4_inLee 26 = .ok (.invokevirtual 56, 3) := dk_182 0 56 (dk_at dksX4_inLee_1 4 rfl rfl)
theorem dX4_inLee_29 : decode cX4_inLee 29 = .ok (.aload_n 2, 1) := dk_44 (dk_at dksX4_inLee_1 7 rfl rfl)
theorem dX4_inLee_30 : decode cX4_inLee 30 = .ok (.invokevirtual 56, 3) := dk_182 0 56 (dk_at dksX4_inLee_1 8 rfl rfl)
theorem dX4_inLee_33 : decode cX4_inLee 33 = .ok (.isub, 1) := dk_100 (dk_at dksX4_inLee_1 11 rfl rfl)
theorem dX4_inLee_34 : decode cX4_inLee 34 = .ok (.invokestatic 87, 3) := dk_184 0 87 (dk_at dksX4_inLee_1 12 rfl rfl)
theorem dX4_inLee_37 : decode cX4_inLee 37 = .ok (.invokevirtual 59, 3) := dk_182 0 59 (dk_at dksX4_inLee_1 15 rfl rfl)
theorem dX4_inLee_40 : decode cX4_inLee 40 = .ok (.lastore, 1) := dk_80 (dk_at dksX4_inLee_1 18 rfl rfl)
theorem dX4_inLee_41 : decode cX4_inLee 41 = .ok (.goto 26, 3) := dk_167 0 26 (dk_at dksX4_inLee_1 19 rfl rfl)
theorem dX4_inLee_44 : decode cX4_inLee 44 = .ok (.aload_n 0, 1) := dk_42 (dk_at dksX4_inLee_1 22 rfl rfl)
theorem dX4_inLee_45 : decode cX4_inLee 45 = .ok (.getfield 9, 3) := dk_180 0 9 (dk_at dksX4_inLee_2 0 rfl rfl)
theorem dX4_inLee_48 : decode cX4_inLee 48 = .ok (.iconst 2, 1) := dk_5 (dk_at dksX4_inLee_2 3 rfl rfl)
theorem dX4_inLee_49 : decode cX4_inLee 49 = .ok (.aload_n 0, 1) := dk_42 (dk_at dksX4_inLee_2 4 rfl rfl)
theorem dX4_inLee_50 : decode cX4_inLee 50 = .ok (.iconst 0, 1) := dk_3 (dk_at dksX4_inLee_2 5 rfl rfl)
theorem dX4_inLee_51 : decode cX4_inLee 51 = .ok (.aload_n 1, 1) := dk_43 (dk_at dksX4_inLee_2 6 rfl rfl)
theorem dX4_inLee_52 : decode cX4_inLee 52 = .ok (.invokevirtual 56, 3) := dk_182 0 56 (dk_at dksX4_inLee_2 7 rfl rfl)
theorem dX4_inLee_55 : decode cX4_inLee 55 = .ok (.aload_n 2, 1) := dk_44 (dk_at dksX4_inLee_2 10 rfl rfl)
theorem dX4_inLee_56 : decode cX4_inLee 56 = .ok (.invokevirtual 56, 3) := dk_182 0 56 (dk_at dksX4_inLee_2 11 rfl rfl)
theorem dX4_inLee_59 : decode cX4_inLee 59 = .ok (.isub, 1) := dk_100 (dk_at dksX4_inLee_2 14 rfl rfl)
theorem dX4_inLee_60 : decode cX4_inLee 60 = .ok (.invokestatic 87, 3) := dk_184 0 87 (dk_at dksX4_inLee_2 15 rfl rfl)
theorem dX4_inLee_63 : decode cX4_inLee 63 = .ok (.invokevirtual 72, 3) := dk_182 0 72 (dk_at dksX4_inLee_2 18 rfl rfl)
theorem dX4_inLee_66 : decode cX4_inLee 66 = .ok (.lastore, 1) := dk_80 (dk_at dksX4_inLee_2 21 rfl rfl)
theorem dX4_inLee_67 : decode cX4_inLee 67 = .ok (.return_, 1) := dk_177 (dk_at dksX4_inLee_2 22 rfl rfl)
theorem q118 : (Jvm.Cond.initialized "RainWalk$Leg") ∈ lw_all := lw_g (lw_at lw_m1 7 rfl) rfl
theorem q263 : (Jvm.Cond.instantiable "RainWalk$Leg" (6 : Nat)) ∈ lw_all := lw_g (lw_at lw_m1 152 rfl) rfl
theorem q265 : (Jvm.Cond.instanceMethod ({ cls := "RainWalk$Leg", name := "<init>", desc := "()V" } : Jvm.MethodName)) ∈ lw_all := lw_g (lw_at lw_m1 154 rfl) rfl
theorem q266 : (Jvm.Cond.code ({ cls := "RainWalk$Leg", name := "<init>", desc := "()V" } : Jvm.MethodName) prog_5_method_1_code (1 : Nat) (Option.none : Option Jvm.ClassFile.FieldType)) ∈ lw_all := lw_g (lw_at lw_m1 155 rfl) rfl
theorem q267 : (Jvm.Cond.methodLink "RainWalk$Leg" (3 : Nat) ({ cls := "java/lang/Object", name := "<init>", desc := "()V" } : Jvm.MethodName)) ∈ lw_all := lw_g (lw_at lw_m1 156 rfl) rfl
theorem q268 : (Jvm.Cond.fieldLink "RainWalk$Leg" (9 : Nat) "RainWalk$Leg" "faces" "[J") ∈ lw_all := lw_g (lw_at lw_m1 157 rfl) rfl
theorem q270 : (Jvm.Cond.fieldLink "RainWalk$Leg" (68 : Nat) "RainWalk$Leg" "isForward" "Z") ∈ lw_all := lw_g (lw_at lw_m1 159 rfl) rfl
theorem q272 : (Jvm.Cond.fieldLink "RainWalk$Leg" (15 : Nat) "RainWalk$Leg" "rain" "LRainWalk$Rain;") ∈ lw_all := lw_g (lw_at lw_m1 161 rfl) rfl
theorem q273 : (Jvm.Cond.fieldLink "RainWalk$Leg" (34 : Nat) "RainWalk$Leg" "air" "I") ∈ lw_all := lw_g (lw_at lw_m1 162 rfl) rfl
theorem q274 : (Jvm.Cond.fieldLink "RainWalk$Leg" (41 : Nat) "RainWalk$Leg" "open" "J") ∈ lw_all := lw_g (lw_at lw_m1 163 rfl) rfl
theorem q275 : (Jvm.Cond.fieldLink "RainWalk$Leg" (19 : Nat) "RainWalk$Leg" "speed" "I") ∈ lw_all := lw_g (lw_at lw_m1 164 rfl) rfl
theorem q276 : (Jvm.Cond.laysFinal "RainWalk$Leg" "RainWalk$Leg" "faces" "[J") ∈ lw_all := lw_g (lw_at lw_m1 165 rfl) rfl
theorem q277 : (Jvm.Cond.soleField "RainWalk$Leg" "faces") ∈ lw_all := lw_g (lw_at lw_m1 166 rfl) rfl
theorem q278 : (Jvm.Cond.lays "RainWalk$Leg" "RainWalk$Leg" "isForward" "Z") ∈ lw_all := lw_g (lw_at lw_m1 167 rfl) rfl
theorem q279 : (Jvm.Cond.soleField "RainWalk$Leg" "isForward") ∈ lw_all := lw_g (lw_at lw_m1 168 rfl) rfl
theorem q280 : (Jvm.Cond.lays "RainWalk$Leg" "RainWalk$Leg" "rain" "LRainWalk$Rain;") ∈ lw_all := lw_g (lw_at lw_m1 169 rfl) rfl
theorem q281 : (Jvm.Cond.soleField "RainWalk$Leg" "rain") ∈ lw_all := lw_g (lw_at lw_m1 170 rfl) rfl
theorem q282 : (Jvm.Cond.lays "RainWalk$Leg" "RainWalk$Leg" "air" "I") ∈ lw_all := lw_g (lw_at lw_m1 171 rfl) rfl
theorem q283 : (Jvm.Cond.soleField "RainWalk$Leg" "air") ∈ lw_all := lw_g (lw_at lw_m1 172 rfl) rfl
theorem q284 : (Jvm.Cond.lays "RainWalk$Leg" "RainWalk$Leg" "open" "J") ∈ lw_all := lw_g (lw_at lw_m1 173 rfl) rfl
theorem q285 : (Jvm.Cond.soleField "RainWalk$Leg" "open") ∈ lw_all := lw_g (lw_at lw_m1 174 rfl) rfl
theorem q286 : (Jvm.Cond.lays "RainWalk$Leg" "RainWalk$Leg" "speed" "I") ∈ lw_all := lw_g (lw_at lw_m1 175 rfl) rfl
theorem q287 : (Jvm.Cond.soleField "RainWalk$Leg" "speed") ∈ lw_all := lw_g (lw_at lw_m1 176 rfl) rfl
theorem q288 : (Jvm.Cond.superclass "RainWalk$Leg" "java/lang/Object") ∈ lw_all := lw_g (lw_at lw_m1 177 rfl) rfl
theorem q723 : (Jvm.Cond.fieldLink "RainWalk$Leg" (75 : Nat) "RainWalk$Rain" "drops" "I") ∈ lw_all := lw_g (lw_at lw_m3 132 rfl) rfl
theorem q725 : (Jvm.Cond.fieldLink "RainWalk$Leg" (84 : Nat) "RainWalk$Rain" "down" "I") ∈ lw_all := lw_g (lw_at lw_m3 134 rfl) rfl
theorem q727 : (Jvm.Cond.fieldLink "RainWalk$Leg" (78 : Nat) "RainWalk$Rain" "wind" "I") ∈ lw_all := lw_g (lw_at lw_m3 136 rfl) rfl
theorem q1013 : (Jvm.Cond.instanceMethod ({ cls := "RainWalk$Leg", name := "lay", desc := "(LRainWalk$Walker;LRainWalk$Road;ILRainWalk$Rain;I)V" } : Jvm.MethodName)) ∈ lw_all := lw_g (lw_at lw_m4 182 rfl) rfl
theorem q1014 : (Jvm.Cond.selects "RainWalk$Leg" ({ cls := "RainWalk$Leg", name := "lay", desc := "(LRainWalk$Walker;LRainWalk$Road;ILRainWalk$Rain;I)V" } : Jvm.MethodName) ({ cls := "RainWalk$Leg", name := "lay", desc := "(LRainWalk$Walker;LRainWalk$Road;ILRainWalk$Rain;I)V" } : Jvm.MethodName)) ∈ lw_all := lw_g (lw_at lw_m4 183 rfl) rfl
theorem q1015 : (Jvm.Cond.code ({ cls := "RainWalk$Leg", name := "lay", desc := "(LRainWalk$Walker;LRainWalk$Road;ILRainWalk$Rain;I)V" } : Jvm.MethodName) prog_5_method_2_code (12 : Nat) (Option.none : Option Jvm.ClassFile.FieldType)) ∈ lw_all := lw_g (lw_at lw_m4 184 rfl) rfl
theorem q1016 : (Jvm.Cond.methodLink "RainWalk$Leg" (23 : Nat) ({ cls := "RainWalk$Road", name := "toSide", desc := "(I)I" } : Jvm.MethodName)) ∈ lw_all := lw_g (lw_at lw_m4 185 rfl) rfl
theorem q1020 : (Jvm.Cond.methodLink "RainWalk$Leg" (29 : Nat) ({ cls := "RainWalk$Rain", name := "along", desc := "(I)I" } : Jvm.MethodName)) ∈ lw_all := lw_g (lw_at lw_m4 189 rfl) rfl
theorem q1024 : (Jvm.Cond.methodLink "RainWalk$Leg" (37 : Nat) ({ cls := "RainWalk$Road", name := "open", desc := "(I)J" } : Jvm.MethodName)) ∈ lw_all := lw_g (lw_at lw_m4 193 rfl) rfl
theorem q1028 : (Jvm.Cond.methodLink "RainWalk$Leg" (44 : Nat) ({ cls := "RainWalk$Rain", name := "aside", desc := "(I)I" } : Jvm.MethodName)) ∈ lw_all := lw_g (lw_at lw_m4 197 rfl) rfl
theorem q1032 : (Jvm.Cond.methodLink "RainWalk$Leg" (47 : Nat) ({ cls := "RainWalk$Walker", name := "topLeft", desc := "()I" } : Jvm.MethodName)) ∈ lw_all := lw_g (lw_at lw_m4 201 rfl) rfl
theorem q1062 : (Jvm.Cond.methodLink "RainWalk$Leg" (53 : Nat) ({ cls := "RainWalk$Leg", name := "byTop", desc := "(I)J" } : Jvm.MethodName)) ∈ lw_all := lw_g (lw_at lw_m4 231 rfl) rfl
theorem q1063 : (Jvm.Cond.privateMethod ({ cls := "RainWalk$Leg", name := "byTop", desc := "(I)J" } : Jvm.MethodName)) ∈ lw_tbl := lw_at lw_m4 232 rfl
theorem q1064 : (Jvm.Cond.instanceMethod ({ cls := "RainWalk$Leg", name := "byTop", desc := "(I)J" } : Jvm.MethodName)) ∈ lw_all := lw_g (lw_at lw_m4 233 rfl) rfl
theorem q1065 : (Jvm.Cond.code ({ cls := "RainWalk$Leg", name := "byTop", desc := "(I)J" } : Jvm.MethodName) prog_5_method_3_code (2 : Nat) (Option.some Jvm.ClassFile.FieldType.long)) ∈ lw_all := lw_g (lw_at lw_m4 234 rfl) rfl
theorem q1066 : (Jvm.Cond.methodLink "RainWalk$Leg" (56 : Nat) ({ cls := "RainWalk$Walker", name := "front", desc := "()I" } : Jvm.MethodName)) ∈ lw_all := lw_g (lw_at lw_m4 235 rfl) rfl
theorem q1074 : (Jvm.Cond.methodLink "RainWalk$Leg" (59 : Nat) ({ cls := "RainWalk$Leg", name := "byFront", desc := "(I)J" } : Jvm.MethodName)) ∈ lw_all := lw_g (lw_at lw_m5 3 rfl) rfl
theorem q1075 : (Jvm.Cond.privateMethod ({ cls := "RainWalk$Leg", name := "byFront", desc := "(I)J" } : Jvm.MethodName)) ∈ lw_tbl := lw_at lw_m5 4 rfl
theorem q1076 : (Jvm.Cond.instanceMethod ({ cls := "RainWalk$Leg", name := "byFront", desc := "(I)J" } : Jvm.MethodName)) ∈ lw_all := lw_g (lw_at lw_m5 5 rfl) rfl
theorem q1077 : (Jvm.Cond.code ({ cls := "RainWalk$Leg", name := "byFront", desc := "(I)J" } : Jvm.MethodName) prog_5_method_4_code (2 : Nat) (Option.some Jvm.ClassFile.FieldType.long)) ∈ lw_all := lw_g (lw_at lw_m5 6 rfl) rfl
theorem q1078 : (Jvm.Cond.methodLink "RainWalk$Leg" (62 : Nat) ({ cls := "RainWalk$Walker", name := "top", desc := "()I" } : Jvm.MethodName)) ∈ lw_all := lw_g (lw_at lw_m5 7 rfl) rfl
theorem q1079 : (Jvm.Cond.methodLink "RainWalk$Leg" (65 : Nat) ({ cls := "RainWalk$Walker", name := "frontLeft", desc := "()I" } : Jvm.MethodName)) ∈ lw_all := lw_g (lw_at lw_m5 8 rfl) rfl
theorem q1088 : (Jvm.Cond.methodLink "RainWalk$Leg" (72 : Nat) ({ cls := "RainWalk$Leg", name := "byBack", desc := "(I)J" } : Jvm.MethodName)) ∈ lw_all := lw_g (lw_at lw_m5 17 rfl) rfl
theorem q1089 : (Jvm.Cond.privateMethod ({ cls := "RainWalk$Leg", name := "byBack", desc := "(I)J" } : Jvm.MethodName)) ∈ lw_tbl := lw_at lw_m5 18 rfl
theorem q1090 : (Jvm.Cond.instanceMethod ({ cls := "RainWalk$Leg", name := "byBack", desc := "(I)J" } : Jvm.MethodName)) ∈ lw_all := lw_g (lw_at lw_m5 19 rfl) rfl
theorem q1091 : (Jvm.Cond.code ({ cls := "RainWalk$Leg", name := "byBack", desc := "(I)J" } : Jvm.MethodName) prog_5_method_5_code (2 : Nat) (Option.some Jvm.ClassFile.FieldType.long)) ∈ lw_all := lw_g (lw_at lw_m5 20 rfl) rfl
theorem q1092 : (Jvm.Cond.methodLink "RainWalk$Leg" (81 : Nat) ({ cls := "RainWalk$Walker", name := "side", desc := "()I" } : Jvm.MethodName)) ∈ lw_all := lw_g (lw_at lw_m5 21 rfl) rfl
theorem q1112 : (Jvm.Cond.instanceMethod ({ cls := "RainWalk$Leg", name := "wet", desc := "()J" } : Jvm.MethodName)) ∈ lw_all := lw_g (lw_at lw_m5 41 rfl) rfl
theorem q1113 : (Jvm.Cond.selects "RainWalk$Leg" ({ cls := "RainWalk$Leg", name := "wet", desc := "()J" } : Jvm.MethodName) ({ cls := "RainWalk$Leg", name := "wet", desc := "()J" } : Jvm.MethodName)) ∈ lw_all := lw_g (lw_at lw_m5 42 rfl) rfl
theorem q1114 : (Jvm.Cond.code ({ cls := "RainWalk$Leg", name := "wet", desc := "()J" } : Jvm.MethodName) prog_5_method_7_code (4 : Nat) (Option.some Jvm.ClassFile.FieldType.long)) ∈ lw_all := lw_g (lw_at lw_m5 43 rfl) rfl
theorem q1188 : (Jvm.Cond.instanceMethod ({ cls := "RainWalk$Leg", name := "inLee", desc := "(LRainWalk$Walker;LRainWalk$Walker;Z)V" } : Jvm.MethodName)) ∈ lw_all := lw_g (lw_at lw_m5 117 rfl) rfl
theorem q1189 : (Jvm.Cond.selects "RainWalk$Leg" ({ cls := "RainWalk$Leg", name := "inLee", desc := "(LRainWalk$Walker;LRainWalk$Walker;Z)V" } : Jvm.MethodName) ({ cls := "RainWalk$Leg", name := "inLee", desc := "(LRainWalk$Walker;LRainWalk$Walker;Z)V" } : Jvm.MethodName)) ∈ lw_all := lw_g (lw_at lw_m5 118 rfl) rfl
theorem q1190 : (Jvm.Cond.code ({ cls := "RainWalk$Leg", name := "inLee", desc := "(LRainWalk$Walker;LRainWalk$Walker;Z)V" } : Jvm.MethodName) prog_5_method_6_code (4 : Nat) (Option.none : Option Jvm.ClassFile.FieldType)) ∈ lw_all := lw_g (lw_at lw_m5 119 rfl) rfl
theorem q1191 : (Jvm.Cond.methodLink "RainWalk$Leg" (87 : Nat) ({ cls := "java/lang/Math", name := "max", desc := "(II)I" } : Jvm.MethodName)) ∈ lw_all := lw_g (lw_at lw_m5 120 rfl) rfl
theorem q2217 : (Jvm.Cond.castable "RainWalk$Leg" "java/lang/Object") ∈ lw_tbl := lw_at lw_m9 186 rfl
theorem in_X4 : ∀ w ∈ wsX40, w ∈ lw_all := lw_in wsX40 [276, 278, 280, 282, 284, 286] (by decide +kernel) (by decide +kernel)
/-! RainWalk$Ways -/
set_option maxRecDepth 100000
def RX5 : String := "RainWalk$Ways"
def TX5 : u_T := fun k => match k with
  | 0 => ("RainWalk$Ways", "least", "[J", true)
  | 1 => ("RainWalk$Ways", "means", "[J", true)
  | 2 => ("RainWalk$Ways", "leg", "LRainWalk$Leg;", true)
  | 3 => ("RainWalk$Ways", "world", "LRainWalk$World;", false)
  | 4 => ("RainWalk$Ways", "walker", "LRainWalk$Walker;", false)
  | 5 => ("RainWalk$Ways", "till", "I", false)
  | 6 => ("RainWalk$Ways", "place", "I", false)
  | _ => ("RainWalk$Ways", "minute", "I", false)
def tyX5 : Nat → FieldType := fun k => match k with
  | 0 => .array .long
  | 1 => .array .long
  | 2 => .object "RainWalk$Leg"
  | 3 => .object "RainWalk$World"
  | 4 => .object "RainWalk$Walker"
  | 5 => .int
  | 6 => .int
  | _ => .int
abbrev wsX50 : List Cond := u_ws RX5 TX5 8
theorem nmX5 : ∀ a, a < 8 → ∀ b, b < 8 → a ≠ b → (TX5 a).2.1 ≠ (TX5 b).2.1 := by decide +kernel
theorem tyX5_ok : ∀ k, k < 8 → parseFieldDescriptor (TX5 k).2.2.1 = some (tyX5 k) := by decide +kernel
abbrev cX5_init : ByteArray := prog_16_method_1_code
def yX5_init : MethodName := ⟨RX5, "<init>", "()V"⟩
def dkwX5_init_1 : List UInt8 := [187, 0, 18, 89, 183, 0, 20, 181, 0, 21, 177]
abbrev dktX5_init_1 : List UInt8 := dkwX5_init_1 ++ []
def dkwX5_init_0 : List UInt8 := [42, 183, 0, 3, 42, 17, 12, 136, 188, 11, 181, 0, 9, 42, 17, 5, 160, 188, 11, 181, 0, 15, 42]
abbrev dktX5_init_0 : List UInt8 := dkwX5_init_0 ++ dktX5_init_1
theorem dksX5_init_0 : cX5_init.data.toList.drop 0 = dktX5_init_0 := by decide +kernel
theorem dksX5_init_1 : cX5_init.data.toList.drop 23 = dktX5_init_1 := dk_seg dksX5_init_0 23 rfl rfl
theorem dX5_init_0 : decode cX5_init 0 = .ok (.aload_n 0, 1) := dk_42 (dk_at dksX5_init_0 0 rfl rfl)
theorem dX5_init_1 : decode cX5_init 1 = .ok (.invokespecial 3, 3) := dk_183 0 3 (dk_at dksX5_init_0 1 rfl rfl)
theorem dX5_init_4 : decode cX5_init 4 = .ok (.aload_n 0, 1) := dk_42 (dk_at dksX5_init_0 4 rfl rfl)
theorem dX5_init_5 : decode cX5_init 5 = .ok (.sipush 3208, 3) := dk_17 12 136 (dk_at dksX5_init_0 5 rfl rfl)
theorem dX5_init_8 : decode cX5_init 8 = .ok (.newarray .long, 2) := dk_188_11 (dk_at dksX5_init_0 8 rfl rfl)
theorem dX5_init_10 : decode cX5_init 10 = .ok (.putfield 9, 3) := dk_181 0 9 (dk_at dksX5_init_0 10 rfl rfl)
theorem dX5_init_13 : decode cX5_init 13 = .ok (.aload_n 0, 1) := dk_42 (dk_at dksX5_init_0 13 rfl rfl)
theorem dX5_init_14 : decode cX5_init 14 = .ok (.sipush 1440, 3) := dk_17 5 160 (dk_at dksX5_init_0 14 rfl rfl)
theorem dX5_init_17 : decode cX5_init 17 = .ok (.newarray .long, 2) := dk_188_11 (dk_at dksX5_init_0 17 rfl rfl)
theorem dX5_init_19 : decode cX5_init 19 = .ok (.putfield 15, 3) := dk_181 0 15 (dk_at dksX5_init_0 19 rfl rfl)
theorem dX5_init_22 : decode cX5_init 22 = .ok (.aload_n 0, 1) := dk_42 (dk_at dksX5_init_0 22 rfl rfl)
theorem dX5_init_23 : decode cX5_init 23 = .ok (.new 18, 3) := dk_187 0 18 (dk_at dksX5_init_1 0 rfl rfl)
theorem dX5_init_26 : decode cX5_init 26 = .ok (.dup, 1) := dk_89 (dk_at dksX5_init_1 3 rfl rfl)
theorem dX5_init_27 : decode cX5_init 27 = .ok (.invokespecial 20, 3) := dk_183 0 20 (dk_at dksX5_init_1 4 rfl rfl)
theorem dX5_init_30 : decode cX5_init 30 = .ok (.putfield 21, 3) := dk_181 0 21 (dk_at dksX5_init_1 7 rfl rfl)
theorem dX5_init_33 : decode cX5_init 33 = .ok (.return_, 1) := dk_177 (dk_at dksX5_init_1 10 rfl rfl)
abbrev cX5_lay : ByteArray := prog_16_method_3_code
def yX5_lay : MethodName := ⟨RX5, "lay", "(LRainWalk$World;LRainWalk$Walker;II)V"⟩
def dkwX5_lay_7 : List UInt8 := [132, 6, 1, 167, 255, 218, 132, 5, 255, 167, 255, 159, 177]
abbrev dktX5_lay_7 : List UInt8 := dkwX5_lay_7 ++ []
def dkwX5_lay_6 : List UInt8 := [29, 159, 0, 23, 42, 180, 0, 9, 21, 6, 21, 5, 184, 0, 52, 42, 21, 6, 21, 5, 182, 0, 58, 80]
abbrev dktX5_lay_6 : List UInt8 := dkwX5_lay_6 ++ dktX5_lay_7
def dkwX5_lay_5 : List UInt8 := [20, 0, 56, 80, 132, 6, 1, 167, 255, 217, 3, 54, 6, 21, 6, 43, 180, 0, 49, 162, 0, 35, 21, 6]
abbrev dktX5_lay_5 : List UInt8 := dkwX5_lay_5 ++ dktX5_lay_6
def dkwX5_lay_4 : List UInt8 := [180, 0, 9, 21, 6, 21, 5, 184, 0, 52, 21, 6, 29, 160, 0, 9, 21, 5, 133, 167, 0, 6]
abbrev dktX5_lay_4 : List UInt8 := dkwX5_lay_4 ++ dktX5_lay_5
def dkwX5_lay_3 : List UInt8 := [21, 4, 54, 5, 21, 5, 155, 0, 98, 3, 54, 6, 21, 6, 43, 180, 0, 49, 162, 0, 36, 42]
abbrev dktX5_lay_3 : List UInt8 := dkwX5_lay_3 ++ dktX5_lay_4
def dkwX5_lay_2 : List UInt8 := [21, 6, 5, 112, 21, 6, 5, 108, 182, 0, 45, 132, 6, 1, 167, 255, 228, 132, 5, 1, 167, 255, 210]
abbrev dktX5_lay_2 : List UInt8 := dkwX5_lay_2 ++ dktX5_lay_3
def dkwX5_lay_1 : List UInt8 := [180, 0, 37, 162, 0, 43, 3, 54, 6, 21, 6, 5, 43, 180, 0, 42, 104, 162, 0, 23, 42, 21, 5]
abbrev dktX5_lay_1 : List UInt8 := dkwX5_lay_1 ++ dktX5_lay_2
def dkwX5_lay_0 : List UInt8 := [42, 43, 181, 0, 25, 42, 44, 181, 0, 29, 42, 21, 4, 181, 0, 33, 3, 54, 5, 21, 5, 43]
abbrev dktX5_lay_0 : List UInt8 := dkwX5_lay_0 ++ dktX5_lay_1
theorem dksX5_lay_0 : cX5_lay.data.toList.drop 0 = dktX5_lay_0 := by decide +kernel
theorem dksX5_lay_1 : cX5_lay.data.toList.drop 22 = dktX5_lay_1 := dk_seg dksX5_lay_0 22 rfl rfl
theorem dksX5_lay_2 : cX5_lay.data.toList.drop 45 = dktX5_lay_2 := dk_seg dksX5_lay_1 23 rfl rfl
theorem dksX5_lay_3 : cX5_lay.data.toList.drop 68 = dktX5_lay_3 := dk_seg dksX5_lay_2 23 rfl rfl
theorem dksX5_lay_4 : cX5_lay.data.toList.drop 90 = dktX5_lay_4 := dk_seg dksX5_lay_3 22 rfl rfl
theorem dksX5_lay_5 : cX5_lay.data.toList.drop 112 = dktX5_lay_5 := dk_seg dksX5_lay_4 22 rfl rfl
theorem dksX5_lay_6 : cX5_lay.data.toList.drop 136 = dktX5_lay_6 := dk_seg dksX5_lay_5 24 rfl rfl
theorem dksX5_lay_7 : cX5_lay.data.toList.drop 160 = dktX5_lay_7 := dk_seg dksX5_lay_6 24 rfl rfl
theorem dX5_lay_0 : decode cX5_lay 0 = .ok (.aload_n 0, 1) := dk_42 (dk_at dksX5_lay_0 0 rfl rfl)
theorem dX5_lay_1 : decode cX5_lay 1 = .ok (.aload_n 1, 1) := dk_43 (dk_at dksX5_lay_0 1 rfl rfl)
theorem dX5_lay_2 : decode cX5_lay 2 = .ok (.putfield 25, 3) := dk_181 0 25 (dk_at dksX5_lay_0 2 rfl rfl)
theorem dX5_lay_5 : decode cX5_lay 5 = .ok (.aload_n 0, 1) := dk_42 (dk_at dksX5_lay_0 5 rfl rfl)
theorem dX5_lay_6 : decode cX5_lay 6 = .ok (.aload_n 2, 1) := dk_44 (dk_at dksX5_lay_0 6 rfl rfl)
theorem dX5_lay_7 : decode cX5_lay 7 = .ok (.putfield 29, 3) := dk_181 0 29 (dk_at dksX5_lay_0 7 rfl rfl)
theorem dX5_lay_10 : decode cX5_lay 10 = .ok (.aload_n 0, 1) := dk_42 (dk_at dksX5_lay_0 10 rfl rfl)
theorem dX5_lay_11 : decode cX5_lay 11 = .ok (.iload 4, 2) := dk_21 4 (dk_at dksX5_lay_0 11 rfl rfl)
theorem dX5_lay_13 : decode cX5_lay 13 = .ok (.putfield 33, 3) := dk_181 0 33 (dk_at dksX5_lay_0 13 rfl rfl)
theorem dX5_lay_16 : decode cX5_lay 16 = .ok (.iconst 0, 1) := dk_3 (dk_at dksX5_lay_0 16 rfl rfl)
theorem dX5_lay_17 : decode cX5_lay 17 = .ok (.istore 5, 2) := dk_54 5 (dk_at dksX5_lay_0 17 rfl rfl)
theorem dX5_lay_19 : decode cX5_lay 19 = .ok (.iload 5, 2) := dk_21 5 (dk_at dksX5_lay_0 19 rfl rfl)
theorem dX5_lay_21 : decode cX5_lay 21 = .ok (.aload_n 1, 1) := dk_43 (dk_at dksX5_lay_0 21 rfl rfl)
theorem dX5_lay_22 : decode cX5_lay 22 = .ok (.getfield 37, 3) := dk_180 0 37 (dk_at dksX5_lay_1 0 rfl rfl)
theorem dX5_lay_25 : decode cX5_lay 25 = .ok (.if_icmp .ge 43, 3) := dk_162 0 43 (dk_at dksX5_lay_1 3 rfl rfl)
theorem dX5_lay_28 : decode cX5_lay 28 = .ok (.iconst 0, 1) := dk_3 (dk_at dksX5_lay_1 6 rfl rfl)
theorem dX5_lay_29 : decode cX5_lay 29 = .ok (.istore 6, 2) := dk_54 6 (dk_at dksX5_lay_1 7 rfl rfl)
theorem dX5_lay_31 : decode cX5_lay 31 = .ok (.iload 6, 2) := dk_21 6 (dk_at dksX5_lay_1 9 rfl rfl)
theorem dX5_lay_33 : decode cX5_lay 33 = .ok (.iconst 2, 1) := dk_5 (dk_at dksX5_lay_1 11 rfl rfl)
theorem dX5_lay_34 : decode cX5_lay 34 = .ok (.aload_n 1, 1) := dk_43 (dk_at dksX5_lay_1 12 rfl rfl)
theorem dX5_lay_35 : decode cX5_lay 35 = .ok (.getfield 42, 3) := dk_180 0 42 (dk_at dksX5_lay_1 13 rfl rfl)
theorem dX5_lay_38 : decode cX5_lay 38 = .ok (.imul, 1) := dk_104 (dk_at dksX5_lay_1 16 rfl rfl)
theorem dX5_lay_39 : decode cX5_lay 39 = .ok (.if_icmp .ge 23, 3) := dk_162 0 23 (dk_at dksX5_lay_1 17 rfl rfl)
theorem dX5_lay_42 : decode cX5_lay 42 = .ok (.aload_n 0, 1) := dk_42 (dk_at dksX5_lay_1 20 rfl rfl)
theorem dX5_lay_43 : decode cX5_lay 43 = .ok (.iload 5, 2) := dk_21 5 (dk_at dksX5_lay_1 21 rfl rfl)
theorem dX5_lay_45 : decode cX5_lay 45 = .ok (.iload 6, 2) := dk_21 6 (dk_at dksX5_lay_2 0 rfl rfl)
theorem dX5_lay_47 : decode cX5_lay 47 = .ok (.iconst 2, 1) := dk_5 (dk_at dksX5_lay_2 2 rfl rfl)
theorem dX5_lay_48 : decode cX5_lay 48 = .ok (.irem, 1) := dk_112 (dk_at dksX5_lay_2 3 rfl rfl)
theorem dX5_lay_49 : decode cX5_lay 49 = .ok (.iload 6, 2) := dk_21 6 (dk_at dksX5_lay_2 4 rfl rfl)
theorem dX5_lay_51 : decode cX5_lay 51 = .ok (.iconst 2, 1) := dk_5 (dk_at dksX5_lay_2 6 rfl rfl)
theorem dX5_lay_52 : decode cX5_lay 52 = .ok (.idiv, 1) := dk_108 (dk_at dksX5_lay_2 7 rfl rfl)
theorem dX5_lay_53 : decode cX5_lay 53 = .ok (.invokevirtual 45, 3) := dk_182 0 45 (dk_at dksX5_lay_2 8 rfl rfl)
theorem dX5_lay_56 : decode cX5_lay 56 = .ok (.iinc 6 1, 3) := dk_132 6 1 (dk_at dksX5_lay_2 11 rfl rfl)
theorem dX5_lay_59 : decode cX5_lay 59 = .ok (.goto (-28), 3) := dk_167 255 228 (dk_at dksX5_lay_2 14 rfl rfl)
theorem dX5_lay_62 : decode cX5_lay 62 = .ok (.iinc 5 1, 3) := dk_132 5 1 (dk_at dksX5_lay_2 17 rfl rfl)
theorem dX5_lay_65 : decode cX5_lay 65 = .ok (.goto (-46), 3) := dk_167 255 210 (dk_at dksX5_lay_2 20 rfl rfl)
theorem dX5_lay_68 : decode cX5_lay 68 = .ok (.iload 4, 2) := dk_21 4 (dk_at dksX5_lay_3 0 rfl rfl)
theorem dX5_lay_70 : decode cX5_lay 70 = .ok (.istore 5, 2) := dk_54 5 (dk_at dksX5_lay_3 2 rfl rfl)
theorem dX5_lay_72 : decode cX5_lay 72 = .ok (.iload 5, 2) := dk_21 5 (dk_at dksX5_lay_3 4 rfl rfl)
theorem dX5_lay_74 : decode cX5_lay 74 = .ok (.ifCond .lt 98, 3) := dk_155 0 98 (dk_at dksX5_lay_3 6 rfl rfl)
theorem dX5_lay_77 : decode cX5_lay 77 = .ok (.iconst 0, 1) := dk_3 (dk_at dksX5_lay_3 9 rfl rfl)
theorem dX5_lay_78 : decode cX5_lay 78 = .ok (.istore 6, 2) := dk_54 6 (dk_at dksX5_lay_3 10 rfl rfl)
theorem dX5_lay_80 : decode cX5_lay 80 = .ok (.iload 6, 2) := dk_21 6 (dk_at dksX5_lay_3 12 rfl rfl)
theorem dX5_lay_82 : decode cX5_lay 82 = .ok (.aload_n 1, 1) := dk_43 (dk_at dksX5_lay_3 14 rfl rfl)
theorem dX5_lay_83 : decode cX5_lay 83 = .ok (.getfield 49, 3) := dk_180 0 49 (dk_at dksX5_lay_3 15 rfl rfl)
theorem dX5_lay_86 : decode cX5_lay 86 = .ok (.if_icmp .ge 36, 3) := dk_162 0 36 (dk_at dksX5_lay_3 18 rfl rfl)
theorem dX5_lay_89 : decode cX5_lay 89 = .ok (.aload_n 0, 1) := dk_42 (dk_at dksX5_lay_3 21 rfl rfl)
theorem dX5_lay_90 : decode cX5_lay 90 = .ok (.getfield 9, 3) := dk_180 0 9 (dk_at dksX5_lay_4 0 rfl rfl)
theorem dX5_lay_93 : decode cX5_lay 93 = .ok (.iload 6, 2) := dk_21 6 (dk_at dksX5_lay_4 3 rfl rfl)
theorem dX5_lay_95 : decode cX5_lay 95 = .ok (.iload 5, 2) := dk_21 5 (dk_at dksX5_lay_4 5 rfl rfl)
theorem dX5_lay_97 : decode cX5_lay 97 = .ok (.invokestatic 52, 3) := dk_184 0 52 (dk_at dksX5_lay_4 7 rfl rfl)
theorem dX5_lay_100 : decode cX5_lay 100 = .ok (.iload 6, 2) := dk_21 6 (dk_at dksX5_lay_4 10 rfl rfl)
theorem dX5_lay_102 : decode cX5_lay 102 = .ok (.iload_n 3, 1) := dk_29 (dk_at dksX5_lay_4 12 rfl rfl)
theorem dX5_lay_103 : decode cX5_lay 103 = .ok (.if_icmp .ne 9, 3) := dk_160 0 9 (dk_at dksX5_lay_4 13 rfl rfl)
theorem dX5_lay_106 : decode cX5_lay 106 = .ok (.iload 5, 2) := dk_21 5 (dk_at dksX5_lay_4 16 rfl rfl)
theorem dX5_lay_108 : decode cX5_lay 108 = .ok (.i2l, 1) := dk_133 (dk_at dksX5_lay_4 18 rfl rfl)
theorem dX5_lay_109 : decode cX5_lay 109 = .ok (.goto 6, 3) := dk_167 0 6 (dk_at dksX5_lay_4 19 rfl rfl)
theorem dX5_lay_112 : decode cX5_lay 112 = .ok (.ldc2_w 56, 3) := dk_20 0 56 (dk_at dksX5_lay_5 0 rfl rfl)
theorem dX5_lay_115 : decode cX5_lay 115 = .ok (.lastore, 1) := dk_80 (dk_at dksX5_lay_5 3 rfl rfl)
theorem dX5_lay_116 : decode cX5_lay 116 = .ok (.iinc 6 1, 3) := dk_132 6 1 (dk_at dksX5_lay_5 4 rfl rfl)
theorem dX5_lay_119 : decode cX5_lay 119 = .ok (.goto (-39), 3) := dk_167 255 217 (dk_at dksX5_lay_5 7 rfl rfl)
theorem dX5_lay_122 : decode cX5_lay 122 = .ok (.iconst 0, 1) := dk_3 (dk_at dksX5_lay_5 10 rfl rfl)
theorem dX5_lay_123 : decode cX5_lay 123 = .ok (.istore 6, 2) := dk_54 6 (dk_at dksX5_lay_5 11 rfl rfl)
theorem dX5_lay_125 : decode cX5_lay 125 = .ok (.iload 6, 2) := dk_21 6 (dk_at dksX5_lay_5 13 rfl rfl)
theorem dX5_lay_127 : decode cX5_lay 127 = .ok (.aload_n 1, 1) := dk_43 (dk_at dksX5_lay_5 15 rfl rfl)
theorem dX5_lay_128 : decode cX5_lay 128 = .ok (.getfield 49, 3) := dk_180 0 49 (dk_at dksX5_lay_5 16 rfl rfl)
theorem dX5_lay_131 : decode cX5_lay 131 = .ok (.if_icmp .ge 35, 3) := dk_162 0 35 (dk_at dksX5_lay_5 19 rfl rfl)
theorem dX5_lay_134 : decode cX5_lay 134 = .ok (.iload 6, 2) := dk_21 6 (dk_at dksX5_lay_5 22 rfl rfl)
theorem dX5_lay_136 : decode cX5_lay 136 = .ok (.iload_n 3, 1) := dk_29 (dk_at dksX5_lay_6 0 rfl rfl)
theorem dX5_lay_137 : decode cX5_lay 137 = .ok (.if_icmp .eq 23, 3) := dk_159 0 23 (dk_at dksX5_lay_6 1 rfl rfl)
theorem dX5_lay_140 : decode cX5_lay 140 = .ok (.aload_n 0, 1) := dk_42 (dk_at dksX5_lay_6 4 rfl rfl)
theorem dX5_lay_141 : decode cX5_lay 141 = .ok (.getfield 9, 3) := dk_180 0 9 (dk_at dksX5_lay_6 5 rfl rfl)
theorem dX5_lay_144 : decode cX5_lay 144 = .ok (.iload 6, 2) := dk_21 6 (dk_at dksX5_lay_6 8 rfl rfl)
theorem dX5_lay_146 : decode cX5_lay 146 = .ok (.iload 5, 2) := dk_21 5 (dk_at dksX5_lay_6 10 rfl rfl)
theorem dX5_lay_148 : decode cX5_lay 148 = .ok (.invokestatic 52, 3) := dk_184 0 52 (dk_at dksX5_lay_6 12 rfl rfl)
theorem dX5_lay_151 : decode cX5_lay 151 = .ok (.aload_n 0, 1) := dk_42 (dk_at dksX5_lay_6 15 rfl rfl)
theorem dX5_lay_152 : decode cX5_lay 152 = .ok (.iload 6, 2) := dk_21 6 (dk_at dksX5_lay_6 16 rfl rfl)
theorem dX5_lay_154 : decode cX5_lay 154 = .ok (.iload 5, 2) := dk_21 5 (dk_at dksX5_lay_6 18 rfl rfl)
theorem dX5_lay_156 : decode cX5_lay 156 = .ok (.invokevirtual 58, 3) := dk_182 0 58 (dk_at dksX5_lay_6 20 rfl rfl)
theorem dX5_lay_159 : decode cX5_lay 159 = .ok (.lastore, 1) := dk_80 (dk_at dksX5_lay_6 23 rfl rfl)
theorem dX5_lay_160 : decode cX5_lay 160 = .ok (.iinc 6 1, 3) := dk_132 6 1 (dk_at dksX5_lay_7 0 rfl rfl)
theorem dX5_lay_163 : decode cX5_lay 163 = .ok (.goto (-38), 3) := dk_167 255 218 (dk_at dksX5_lay_7 3 rfl rfl)
theorem dX5_lay_166 : decode cX5_lay 166 = .ok (.iinc 5 (-1), 3) := dk_132 5 255 (dk_at dksX5_lay_7 6 rfl rfl)
theorem dX5_lay_169 : decode cX5_lay 169 = .ok (.goto (-97), 3) := dk_167 255 159 (dk_at dksX5_lay_7 9 rfl rfl)
theorem dX5_lay_172 : decode cX5_lay 172 = .ok (.return_, 1) := dk_177 (dk_at dksX5_lay_7 12 rfl rfl)
abbrev cX5_layMeans : ByteArray := prog_16_method_4_code
def yX5_layMeans : MethodName := ⟨RX5, "layMeans", "(III)V"⟩
def dkwX5_layMeans_3 : List UInt8 := [180, 0, 21, 182, 0, 86, 25, 4, 180, 0, 90, 133, 105, 80, 132, 5, 1, 167, 255, 189, 177]
abbrev dktX5_layMeans_3 : List UInt8 := dkwX5_layMeans_3 ++ []
def dkwX5_layMeans_2 : List UInt8 := [27, 50, 28, 25, 4, 21, 5, 182, 0, 78, 42, 180, 0, 15, 27, 28, 29, 21, 5, 184, 0, 82, 42]
abbrev dktX5_layMeans_2 : List UInt8 := dkwX5_layMeans_2 ++ dktX5_layMeans_3
def dkwX5_layMeans_1 : List UInt8 := [180, 0, 29, 180, 0, 71, 163, 0, 61, 42, 180, 0, 21, 42, 180, 0, 29, 42, 180, 0, 25, 180, 0, 74]
abbrev dktX5_layMeans_1 : List UInt8 := dkwX5_layMeans_1 ++ dktX5_layMeans_2
def dkwX5_layMeans_0 : List UInt8 := [42, 180, 0, 25, 180, 0, 62, 29, 50, 58, 4, 42, 180, 0, 29, 180, 0, 66, 54, 5, 21, 5, 42]
abbrev dktX5_layMeans_0 : List UInt8 := dkwX5_layMeans_0 ++ dktX5_layMeans_1
theorem dksX5_layMeans_0 : cX5_layMeans.data.toList.drop 0 = dktX5_layMeans_0 := by decide +kernel
theorem dksX5_layMeans_1 : cX5_layMeans.data.toList.drop 23 = dktX5_layMeans_1 := dk_seg dksX5_layMeans_0 23 rfl rfl
theorem dksX5_layMeans_2 : cX5_layMeans.data.toList.drop 47 = dktX5_layMeans_2 := dk_seg dksX5_layMeans_1 24 rfl rfl
theorem dksX5_layMeans_3 : cX5_layMeans.data.toList.drop 70 = dktX5_layMeans_3 := dk_seg dksX5_layMeans_2 23 rfl rfl
theorem dX5_layMeans_0 : decode cX5_layMeans 0 = .ok (.aload_n 0, 1) := dk_42 (dk_at dksX5_layMeans_0 0 rfl rfl)
theorem dX5_layMeans_1 : decode cX5_layMeans 1 = .ok (.getfield 25, 3) := dk_180 0 25 (dk_at dksX5_layMeans_0 1 rfl rfl)
theorem dX5_layMeans_4 : decode cX5_layMeans 4 = .ok (.getfield 62, 3) := dk_180 0 62 (dk_at dksX5_layMeans_0 4 rfl rfl)
theorem dX5_layMeans_7 : decode cX5_layMeans 7 = .ok (.iload_n 3, 1) := dk_29 (dk_at dksX5_layMeans_0 7 rfl rfl)
theorem dX5_layMeans_8 : decode cX5_layMeans 8 = .ok (.aaload, 1) := dk_50 (dk_at dksX5_layMeans_0 8 rfl rfl)
theorem dX5_layMeans_9 : decode cX5_layMeans 9 = .ok (.astore 4, 2) := dk_58 4 (dk_at dksX5_layMeans_0 9 rfl rfl)
theorem dX5_layMeans_11 : decode cX5_layMeans 11 = .ok (.aload_n 0, 1) := dk_42 (dk_at dksX5_layMeans_0 11 rfl rfl)
theorem dX5_layMeans_12 : decode cX5_layMeans 12 = .ok (.getfield 29, 3) := dk_180 0 29 (dk_at dksX5_layMeans_0 12 rfl rfl)
theorem dX5_layMeans_15 : decode cX5_layMeans 15 = .ok (.getfield 66, 3) := dk_180 0 66 (dk_at dksX5_layMeans_0 15 rfl rfl)
theorem dX5_layMeans_18 : decode cX5_layMeans 18 = .ok (.istore 5, 2) := dk_54 5 (dk_at dksX5_layMeans_0 18 rfl rfl)
theorem dX5_layMeans_20 : decode cX5_layMeans 20 = .ok (.iload 5, 2) := dk_21 5 (dk_at dksX5_layMeans_0 20 rfl rfl)
theorem dX5_layMeans_22 : decode cX5_layMeans 22 = .ok (.aload_n 0, 1) := dk_42 (dk_at dksX5_layMeans_0 22 rfl rfl)
theorem dX5_layMeans_23 : decode cX5_layMeans 23 = .ok (.getfield 29, 3) := dk_180 0 29 (dk_at dksX5_layMeans_1 0 rfl rfl)
theorem dX5_layMeans_26 : decode cX5_layMeans 26 = .ok (.getfield 71, 3) := dk_180 0 71 (dk_at dksX5_layMeans_1 3 rfl rfl)
theorem dX5_layMeans_29 : decode cX5_layMeans 29 = .ok (.if_icmp .gt 61, 3) := dk_163 0 61 (dk_at dksX5_layMeans_1 6 rfl rfl)
theorem dX5_layMeans_32 : decode cX5_layMeans 32 = .ok (.aload_n 0, 1) := dk_42 (dk_at dksX5_layMeans_1 9 rfl rfl)
theorem dX5_layMeans_33 : decode cX5_layMeans 33 = .ok (.getfield 21, 3) := dk_180 0 21 (dk_at dksX5_layMeans_1 10 rfl rfl)
theorem dX5_layMeans_36 : decode cX5_layMeans 36 = .ok (.aload_n 0, 1) := dk_42 (dk_at dksX5_layMeans_1 13 rfl rfl)
theorem dX5_layMeans_37 : decode cX5_layMeans 37 = .ok (.getfield 29, 3) := dk_180 0 29 (dk_at dksX5_layMeans_1 14 rfl rfl)
theorem dX5_layMeans_40 : decode cX5_layMeans 40 = .ok (.aload_n 0, 1) := dk_42 (dk_at dksX5_layMeans_1 17 rfl rfl)
theorem dX5_layMeans_41 : decode cX5_layMeans 41 = .ok (.getfield 25, 3) := dk_180 0 25 (dk_at dksX5_layMeans_1 18 rfl rfl)
theorem dX5_layMeans_44 : decode cX5_layMeans 44 = .ok (.getfield 74, 3) := dk_180 0 74 (dk_at dksX5_layMeans_1 21 rfl rfl)
theorem dX5_layMeans_47 : decode cX5_layMeans 47 = .ok (.iload_n 1, 1) := dk_27 (dk_at dksX5_layMeans_2 0 rfl rfl)
theorem dX5_layMeans_48 : decode cX5_layMeans 48 = .ok (.aaload, 1) := dk_50 (dk_at dksX5_layMeans_2 1 rfl rfl)
theorem dX5_layMeans_49 : decode cX5_layMeans 49 = .ok (.iload_n 2, 1) := dk_28 (dk_at dksX5_layMeans_2 2 rfl rfl)
theorem dX5_layMeans_50 : decode cX5_layMeans 50 = .ok (.aload 4, 2) := dk_25 4 (dk_at dksX5_layMeans_2 3 rfl rfl)
theorem dX5_layMeans_52 : decode cX5_layMeans 52 = .ok (.iload 5, 2) := dk_21 5 (dk_at dksX5_layMeans_2 5 rfl rfl)
theorem dX5_layMeans_54 : decode cX5_layMeans 54 = .ok (.invokevirtual 78, 3) := dk_182 0 78 (dk_at dksX5_layMeans_2 7 rfl rfl)
theorem dX5_layMeans_57 : decode cX5_layMeans 57 = .ok (.aload_n 0, 1) := dk_42 (dk_at dksX5_layMeans_2 10 rfl rfl)
theorem dX5_layMeans_58 : decode cX5_layMeans 58 = .ok (.getfield 15, 3) := dk_180 0 15 (dk_at dksX5_layMeans_2 11 rfl rfl)
theorem dX5_layMeans_61 : decode cX5_layMeans 61 = .ok (.iload_n 1, 1) := dk_27 (dk_at dksX5_layMeans_2 14 rfl rfl)
theorem dX5_layMeans_62 : decode cX5_layMeans 62 = .ok (.iload_n 2, 1) := dk_28 (dk_at dksX5_layMeans_2 15 rfl rfl)
theorem dX5_layMeans_63 : decode cX5_layMeans 63 = .ok (.iload_n 3, 1) := dk_29 (dk_at dksX5_layMeans_2 16 rfl rfl)
theorem dX5_layMeans_64 : decode cX5_layMeans 64 = .ok (.iload 5, 2) := dk_21 5 (dk_at dksX5_layMeans_2 17 rfl rfl)
theorem dX5_layMeans_66 : decode cX5_layMeans 66 = .ok (.invokestatic 82, 3) := dk_184 0 82 (dk_at dksX5_layMeans_2 19 rfl rfl)
theorem dX5_layMeans_69 : decode cX5_layMeans 69 = .ok (.aload_n 0, 1) := dk_42 (dk_at dksX5_layMeans_2 22 rfl rfl)
theorem dX5_layMeans_70 : decode cX5_layMeans 70 = .ok (.getfield 21, 3) := dk_180 0 21 (dk_at dksX5_layMeans_3 0 rfl rfl)
theorem dX5_layMeans_73 : decode cX5_layMeans 73 = .ok (.invokevirtual 86, 3) := dk_182 0 86 (dk_at dksX5_layMeans_3 3 rfl rfl)
theorem dX5_layMeans_76 : decode cX5_layMeans 76 = .ok (.aload 4, 2) := dk_25 4 (dk_at dksX5_layMeans_3 6 rfl rfl)
theorem dX5_layMeans_78 : decode cX5_layMeans 78 = .ok (.getfield 90, 3) := dk_180 0 90 (dk_at dksX5_layMeans_3 8 rfl rfl)
theorem dX5_layMeans_81 : decode cX5_layMeans 81 = .ok (.i2l, 1) := dk_133 (dk_at dksX5_layMeans_3 11 rfl rfl)
theorem dX5_layMeans_82 : decode cX5_layMeans 82 = .ok (.lmul, 1) := dk_105 (dk_at dksX5_layMeans_3 12 rfl rfl)
theorem dX5_layMeans_83 : decode cX5_layMeans 83 = .ok (.lastore, 1) := dk_80 (dk_at dksX5_layMeans_3 13 rfl rfl)
theorem dX5_layMeans_84 : decode cX5_layMeans 84 = .ok (.iinc 5 1, 3) := dk_132 5 1 (dk_at dksX5_layMeans_3 14 rfl rfl)
theorem dX5_layMeans_87 : decode cX5_layMeans 87 = .ok (.goto (-67), 3) := dk_167 255 189 (dk_at dksX5_layMeans_3 17 rfl rfl)
theorem dX5_layMeans_90 : decode cX5_layMeans 90 = .ok (.return_, 1) := dk_177 (dk_at dksX5_layMeans_3 20 rfl rfl)
abbrev cX5_cell : ByteArray := prog_16_method_2_code
def yX5_cell : MethodName := ⟨RX5, "cell", "(IIII)I"⟩
def dkwX5_cell_0 : List UInt8 := [5, 26, 104, 27, 96, 16, 6, 104, 28, 96, 16, 10, 104, 29, 96, 172]
abbrev dktX5_cell_0 : List UInt8 := dkwX5_cell_0 ++ []
theorem dksX5_cell_0 : cX5_cell.data.toList.drop 0 = dktX5_cell_0 := by decide +kernel
theorem dX5_cell_0 : decode cX5_cell 0 = .ok (.iconst 2, 1) := dk_5 (dk_at dksX5_cell_0 0 rfl rfl)
theorem dX5_cell_1 : decode cX5_cell 1 = .ok (.iload_n 0, 1) := dk_26 (dk_at dksX5_cell_0 1 rfl rfl)
theorem dX5_cell_2 : decode cX5_cell 2 = .ok (.imul, 1) := dk_104 (dk_at dksX5_cell_0 2 rfl rfl)
theorem dX5_cell_3 : decode cX5_cell 3 = .ok (.iload_n 1, 1) := dk_27 (dk_at dksX5_cell_0 3 rfl rfl)
theorem dX5_cell_4 : decode cX5_cell 4 = .ok (.iadd, 1) := dk_96 (dk_at dksX5_cell_0 4 rfl rfl)
theorem dX5_cell_5 : decode cX5_cell 5 = .ok (.bipush 6, 2) := dk_16 6 (dk_at dksX5_cell_0 5 rfl rfl)
theorem dX5_cell_7 : decode cX5_cell 7 = .ok (.imul, 1) := dk_104 (dk_at dksX5_cell_0 7 rfl rfl)
theorem dX5_cell_8 : decode cX5_cell 8 = .ok (.iload_n 2, 1) := dk_28 (dk_at dksX5_cell_0 8 rfl rfl)
theorem dX5_cell_9 : decode cX5_cell 9 = .ok (.iadd, 1) := dk_96 (dk_at dksX5_cell_0 9 rfl rfl)
theorem dX5_cell_10 : decode cX5_cell 10 = .ok (.bipush 10, 2) := dk_16 10 (dk_at dksX5_cell_0 10 rfl rfl)
theorem dX5_cell_12 : decode cX5_cell 12 = .ok (.imul, 1) := dk_104 (dk_at dksX5_cell_0 12 rfl rfl)
theorem dX5_cell_13 : decode cX5_cell 13 = .ok (.iload_n 3, 1) := dk_29 (dk_at dksX5_cell_0 13 rfl rfl)
theorem dX5_cell_14 : decode cX5_cell 14 = .ok (.iadd, 1) := dk_96 (dk_at dksX5_cell_0 14 rfl rfl)
theorem dX5_cell_15 : decode cX5_cell 15 = .ok (.ireturn, 1) := dk_172 (dk_at dksX5_cell_0 15 rfl rfl)
abbrev cX5_at : ByteArray := prog_16_method_5_code
def yX5_at : MethodName := ⟨RX5, "at", "(II)I"⟩
def dkwX5_at_0 : List UInt8 := [17, 1, 145, 26, 104, 27, 96, 172]
abbrev dktX5_at_0 : List UInt8 := dkwX5_at_0 ++ []
theorem dksX5_at_0 : cX5_at.data.toList.drop 0 = dktX5_at_0 := by decide +kernel
theorem dX5_at_0 : decode cX5_at 0 = .ok (.sipush 401, 3) := dk_17 1 145 (dk_at dksX5_at_0 0 rfl rfl)
theorem dX5_at_3 : decode cX5_at 3 = .ok (.iload_n 0, 1) := dk_26 (dk_at dksX5_at_0 3 rfl rfl)
theorem dX5_at_4 : decode cX5_at 4 = .ok (.imul, 1) := dk_104 (dk_at dksX5_at_0 4 rfl rfl)
theorem dX5_at_5 : decode cX5_at 5 = .ok (.iload_n 1, 1) := dk_27 (dk_at dksX5_at_0 5 rfl rfl)
theorem dX5_at_6 : decode cX5_at 6 = .ok (.iadd, 1) := dk_96 (dk_at dksX5_at_0 6 rfl rfl)
theorem dX5_at_7 : decode cX5_at 7 = .ok (.ireturn, 1) := dk_172 (dk_at dksX5_at_0 7 rfl rfl)
abbrev cX5_best : ByteArray := prog_16_method_6_code
def yX5_best : MethodName := ⟨RX5, "best", "(II)J"⟩
def dkwX5_best_3 : List UInt8 := [132, 7, 1, 167, 255, 224, 132, 6, 1, 167, 255, 203, 132, 5, 1, 167, 255, 182, 33, 173]
abbrev dktX5_best_3 : List UInt8 := dkwX5_best_3 ++ []
def dkwX5_best_2 : List UInt8 := [180, 0, 71, 163, 0, 26, 33, 42, 27, 28, 21, 5, 21, 6, 21, 7, 182, 0, 98, 184, 0, 102, 66]
abbrev dktX5_best_2 : List UInt8 := dkwX5_best_2 ++ dktX5_best_3
def dkwX5_best_1 : List UInt8 := [54, 6, 21, 6, 5, 162, 0, 53, 42, 180, 0, 29, 180, 0, 66, 54, 7, 21, 7, 42, 180, 0, 29]
abbrev dktX5_best_1 : List UInt8 := dkwX5_best_1 ++ dktX5_best_2
def dkwX5_best_0 : List UInt8 := [42, 27, 28, 182, 0, 95, 66, 3, 54, 5, 21, 5, 42, 180, 0, 25, 180, 0, 37, 162, 0, 68, 3]
abbrev dktX5_best_0 : List UInt8 := dkwX5_best_0 ++ dktX5_best_1
theorem dksX5_best_0 : cX5_best.data.toList.drop 0 = dktX5_best_0 := by decide +kernel
theorem dksX5_best_1 : cX5_best.data.toList.drop 23 = dktX5_best_1 := dk_seg dksX5_best_0 23 rfl rfl
theorem dksX5_best_2 : cX5_best.data.toList.drop 46 = dktX5_best_2 := dk_seg dksX5_best_1 23 rfl rfl
theorem dksX5_best_3 : cX5_best.data.toList.drop 69 = dktX5_best_3 := dk_seg dksX5_best_2 23 rfl rfl
theorem dX5_best_0 : decode cX5_best 0 = .ok (.aload_n 0, 1) := dk_42 (dk_at dksX5_best_0 0 rfl rfl)
theorem dX5_best_1 : decode cX5_best 1 = .ok (.iload_n 1, 1) := dk_27 (dk_at dksX5_best_0 1 rfl rfl)
theorem dX5_best_2 : decode cX5_best 2 = .ok (.iload_n 2, 1) := dk_28 (dk_at dksX5_best_0 2 rfl rfl)
theorem dX5_best_3 : decode cX5_best 3 = .ok (.invokevirtual 95, 3) := dk_182 0 95 (dk_at dksX5_best_0 3 rfl rfl)
theorem dX5_best_6 : decode cX5_best 6 = .ok (.lstore_n 3, 1) := dk_66 (dk_at dksX5_best_0 6 rfl rfl)
theorem dX5_best_7 : decode cX5_best 7 = .ok (.iconst 0, 1) := dk_3 (dk_at dksX5_best_0 7 rfl rfl)
theorem dX5_best_8 : decode cX5_best 8 = .ok (.istore 5, 2) := dk_54 5 (dk_at dksX5_best_0 8 rfl rfl)
theorem dX5_best_10 : decode cX5_best 10 = .ok (.iload 5, 2) := dk_21 5 (dk_at dksX5_best_0 10 rfl rfl)
theorem dX5_best_12 : decode cX5_best 12 = .ok (.aload_n 0, 1) := dk_42 (dk_at dksX5_best_0 12 rfl rfl)
theorem dX5_best_13 : decode cX5_best 13 = .ok (.getfield 25, 3) := dk_180 0 25 (dk_at dksX5_best_0 13 rfl rfl)
theorem dX5_best_16 : decode cX5_best 16 = .ok (.getfield 37, 3) := dk_180 0 37 (dk_at dksX5_best_0 16 rfl rfl)
theorem dX5_best_19 : decode cX5_best 19 = .ok (.if_icmp .ge 68, 3) := dk_162 0 68 (dk_at dksX5_best_0 19 rfl rfl)
theorem dX5_best_22 : decode cX5_best 22 = .ok (.iconst 0, 1) := dk_3 (dk_at dksX5_best_0 22 rfl rfl)
theorem dX5_best_23 : decode cX5_best 23 = .ok (.istore 6, 2) := dk_54 6 (dk_at dksX5_best_1 0 rfl rfl)
theorem dX5_best_25 : decode cX5_best 25 = .ok (.iload 6, 2) := dk_21 6 (dk_at dksX5_best_1 2 rfl rfl)
theorem dX5_best_27 : decode cX5_best 27 = .ok (.iconst 2, 1) := dk_5 (dk_at dksX5_best_1 4 rfl rfl)
theorem dX5_best_28 : decode cX5_best 28 = .ok (.if_icmp .ge 53, 3) := dk_162 0 53 (dk_at dksX5_best_1 5 rfl rfl)
theorem dX5_best_31 : decode cX5_best 31 = .ok (.aload_n 0, 1) := dk_42 (dk_at dksX5_best_1 8 rfl rfl)
theorem dX5_best_32 : decode cX5_best 32 = .ok (.getfield 29, 3) := dk_180 0 29 (dk_at dksX5_best_1 9 rfl rfl)
theorem dX5_best_35 : decode cX5_best 35 = .ok (.getfield 66, 3) := dk_180 0 66 (dk_at dksX5_best_1 12 rfl rfl)
theorem dX5_best_38 : decode cX5_best 38 = .ok (.istore 7, 2) := dk_54 7 (dk_at dksX5_best_1 15 rfl rfl)
theorem dX5_best_40 : decode cX5_best 40 = .ok (.iload 7, 2) := dk_21 7 (dk_at dksX5_best_1 17 rfl rfl)
theorem dX5_best_42 : decode cX5_best 42 = .ok (.aload_n 0, 1) := dk_42 (dk_at dksX5_best_1 19 rfl rfl)
theorem dX5_best_43 : decode cX5_best 43 = .ok (.getfield 29, 3) := dk_180 0 29 (dk_at dksX5_best_1 20 rfl rfl)
theorem dX5_best_46 : decode cX5_best 46 = .ok (.getfield 71, 3) := dk_180 0 71 (dk_at dksX5_best_2 0 rfl rfl)
theorem dX5_best_49 : decode cX5_best 49 = .ok (.if_icmp .gt 26, 3) := dk_163 0 26 (dk_at dksX5_best_2 3 rfl rfl)
theorem dX5_best_52 : decode cX5_best 52 = .ok (.lload_n 3, 1) := dk_33 (dk_at dksX5_best_2 6 rfl rfl)
theorem dX5_best_53 : decode cX5_best 53 = .ok (.aload_n 0, 1) := dk_42 (dk_at dksX5_best_2 7 rfl rfl)
theorem dX5_best_54 : decode cX5_best 54 = .ok (.iload_n 1, 1) := dk_27 (dk_at dksX5_best_2 8 rfl rfl)
theorem dX5_best_55 : decode cX5_best 55 = .ok (.iload_n 2, 1) := dk_28 (dk_at dksX5_best_2 9 rfl rfl)
theorem dX5_best_56 : decode cX5_best 56 = .ok (.iload 5, 2) := dk_21 5 (dk_at dksX5_best_2 10 rfl rfl)
theorem dX5_best_58 : decode cX5_best 58 = .ok (.iload 6, 2) := dk_21 6 (dk_at dksX5_best_2 12 rfl rfl)
theorem dX5_best_60 : decode cX5_best 60 = .ok (.iload 7, 2) := dk_21 7 (dk_at dksX5_best_2 14 rfl rfl)
theorem dX5_best_62 : decode cX5_best 62 = .ok (.invokevirtual 98, 3) := dk_182 0 98 (dk_at dksX5_best_2 16 rfl rfl)
theorem dX5_best_65 : decode cX5_best 65 = .ok (.invokestatic 102, 3) := dk_184 0 102 (dk_at dksX5_best_2 19 rfl rfl)
theorem dX5_best_68 : decode cX5_best 68 = .ok (.lstore_n 3, 1) := dk_66 (dk_at dksX5_best_2 22 rfl rfl)
theorem dX5_best_69 : decode cX5_best 69 = .ok (.iinc 7 1, 3) := dk_132 7 1 (dk_at dksX5_best_3 0 rfl rfl)
theorem dX5_best_72 : decode cX5_best 72 = .ok (.goto (-32), 3) := dk_167 255 224 (dk_at dksX5_best_3 3 rfl rfl)
theorem dX5_best_75 : decode cX5_best 75 = .ok (.iinc 6 1, 3) := dk_132 6 1 (dk_at dksX5_best_3 6 rfl rfl)
theorem dX5_best_78 : decode cX5_best 78 = .ok (.goto (-53), 3) := dk_167 255 203 (dk_at dksX5_best_3 9 rfl rfl)
theorem dX5_best_81 : decode cX5_best 81 = .ok (.iinc 5 1, 3) := dk_132 5 1 (dk_at dksX5_best_3 12 rfl rfl)
theorem dX5_best_84 : decode cX5_best 84 = .ok (.goto (-74), 3) := dk_167 255 182 (dk_at dksX5_best_3 15 rfl rfl)
theorem dX5_best_87 : decode cX5_best 87 = .ok (.lload_n 3, 1) := dk_33 (dk_at dksX5_best_3 18 rfl rfl)
theorem dX5_best_88 : decode cX5_best 88 = .ok (.lreturn, 1) := dk_173 (dk_at dksX5_best_3 19 rfl rfl)
abbrev cX5_byWaiting : ByteArray := prog_16_method_8_code
def yX5_byWaiting : MethodName := ⟨RX5, "byWaiting", "(II)J"⟩
def dkwX5_byWaiting_5 : List UInt8 := [182, 0, 140, 133, 105, 97, 173]
abbrev dktX5_byWaiting_5 : List UInt8 := dkwX5_byWaiting_5 ++ []
def dkwX5_byWaiting_4 : List UInt8 := [21, 4, 50, 180, 0, 90, 133, 105, 20, 0, 135, 105, 45, 180, 0, 137, 133, 105, 42, 180, 0, 29]
abbrev dktX5_byWaiting_4 : List UInt8 := dkwX5_byWaiting_4 ++ dktX5_byWaiting_5
def dkwX5_byWaiting_3 : List UInt8 := [184, 0, 52, 47, 21, 4, 2, 160, 0, 7, 9, 167, 0, 40, 20, 0, 123, 42, 180, 0, 25, 180, 0, 62]
abbrev dktX5_byWaiting_3 : List UInt8 := dkwX5_byWaiting_3 ++ dktX5_byWaiting_4
def dkwX5_byWaiting_2 : List UInt8 := [20, 0, 56, 173, 42, 180, 0, 25, 28, 182, 0, 120, 54, 4, 42, 180, 0, 9, 27, 28, 4, 96]
abbrev dktX5_byWaiting_2 : List UInt8 := dkwX5_byWaiting_2 ++ dktX5_byWaiting_3
def dkwX5_byWaiting_1 : List UInt8 := [159, 0, 22, 42, 180, 0, 9, 27, 28, 4, 96, 184, 0, 52, 47, 20, 0, 56, 148, 154, 0, 7]
abbrev dktX5_byWaiting_1 : List UInt8 := dkwX5_byWaiting_1 ++ dktX5_byWaiting_2
def dkwX5_byWaiting_0 : List UInt8 := [42, 180, 0, 25, 180, 0, 125, 27, 50, 78, 45, 182, 0, 129, 153, 0, 30, 28, 42, 180, 0, 33]
abbrev dktX5_byWaiting_0 : List UInt8 := dkwX5_byWaiting_0 ++ dktX5_byWaiting_1
theorem dksX5_byWaiting_0 : cX5_byWaiting.data.toList.drop 0 = dktX5_byWaiting_0 := by decide +kernel
theorem dksX5_byWaiting_1 : cX5_byWaiting.data.toList.drop 22 = dktX5_byWaiting_1 := dk_seg dksX5_byWaiting_0 22 rfl rfl
theorem dksX5_byWaiting_2 : cX5_byWaiting.data.toList.drop 44 = dktX5_byWaiting_2 := dk_seg dksX5_byWaiting_1 22 rfl rfl
theorem dksX5_byWaiting_3 : cX5_byWaiting.data.toList.drop 66 = dktX5_byWaiting_3 := dk_seg dksX5_byWaiting_2 22 rfl rfl
theorem dksX5_byWaiting_4 : cX5_byWaiting.data.toList.drop 90 = dktX5_byWaiting_4 := dk_seg dksX5_byWaiting_3 24 rfl rfl
theorem dksX5_byWaiting_5 : cX5_byWaiting.data.toList.drop 112 = dktX5_byWaiting_5 := dk_seg dksX5_byWaiting_4 22 rfl rfl
theorem dX5_byWaiting_0 : decode cX5_byWaiting 0 = .ok (.aload_n 0, 1) := dk_42 (dk_at dksX5_byWaiting_0 0 rfl rfl)
theorem dX5_byWaiting_1 : decode cX5_byWaiting 1 = .ok (.getfield 25, 3) := dk_180 0 25 (dk_at dksX5_byWaiting_0 1 rfl rfl)
theorem dX5_byWaiting_4 : decode cX5_byWaiting 4 = .ok (.getfield 125, 3) := dk_180 0 125 (dk_at dksX5_byWaiting_0 4 rfl rfl)
theorem dX5_byWaiting_7 : decode cX5_byWaiting 7 = .ok (.iload_n 1, 1) := dk_27 (dk_at dksX5_byWaiting_0 7 rfl rfl)
theorem dX5_byWaiting_8 : decode cX5_byWaiting 8 = .ok (.aaload, 1) := dk_50 (dk_at dksX5_byWaiting_0 8 rfl rfl)
theorem dX5_byWaiting_9 : decode cX5_byWaiting 9 = .ok (.astore_n 3, 1) := dk_78 (dk_at dksX5_byWaiting_0 9 rfl rfl)
theorem dX5_byWaiting_10 : decode cX5_byWaiting 10 = .ok (.aload_n 3, 1) := dk_45 (dk_at dksX5_byWaiting_0 10 rfl rfl)
theorem dX5_byWaiting_11 : decode cX5_byWaiting 11 = .ok (.invokevirtual 129, 3) := dk_182 0 129 (dk_at dksX5_byWaiting_0 11 rfl rfl)
theorem dX5_byWaiting_14 : decode cX5_byWaiting 14 = .ok (.ifCond .eq 30, 3) := dk_153 0 30 (dk_at dksX5_byWaiting_0 14 rfl rfl)
theorem dX5_byWaiting_17 : decode cX5_byWaiting 17 = .ok (.iload_n 2, 1) := dk_28 (dk_at dksX5_byWaiting_0 17 rfl rfl)
theorem dX5_byWaiting_18 : decode cX5_byWaiting 18 = .ok (.aload_n 0, 1) := dk_42 (dk_at dksX5_byWaiting_0 18 rfl rfl)
theorem dX5_byWaiting_19 : decode cX5_byWaiting 19 = .ok (.getfield 33, 3) := dk_180 0 33 (dk_at dksX5_byWaiting_0 19 rfl rfl)
theorem dX5_byWaiting_22 : decode cX5_byWaiting 22 = .ok (.if_icmp .eq 22, 3) := dk_159 0 22 (dk_at dksX5_byWaiting_1 0 rfl rfl)
theorem dX5_byWaiting_25 : decode cX5_byWaiting 25 = .ok (.aload_n 0, 1) := dk_42 (dk_at dksX5_byWaiting_1 3 rfl rfl)
theorem dX5_byWaiting_26 : decode cX5_byWaiting 26 = .ok (.getfield 9, 3) := dk_180 0 9 (dk_at dksX5_byWaiting_1 4 rfl rfl)
theorem dX5_byWaiting_29 : decode cX5_byWaiting 29 = .ok (.iload_n 1, 1) := dk_27 (dk_at dksX5_byWaiting_1 7 rfl rfl)
theorem dX5_byWaiting_30 : decode cX5_byWaiting 30 = .ok (.iload_n 2, 1) := dk_28 (dk_at dksX5_byWaiting_1 8 rfl rfl)
theorem dX5_byWaiting_31 : decode cX5_byWaiting 31 = .ok (.iconst 1, 1) := dk_4 (dk_at dksX5_byWaiting_1 9 rfl rfl)
theorem dX5_byWaiting_32 : decode cX5_byWaiting 32 = .ok (.iadd, 1) := dk_96 (dk_at dksX5_byWaiting_1 10 rfl rfl)
theorem dX5_byWaiting_33 : decode cX5_byWaiting 33 = .ok (.invokestatic 52, 3) := dk_184 0 52 (dk_at dksX5_byWaiting_1 11 rfl rfl)
theorem dX5_byWaiting_36 : decode cX5_byWaiting 36 = .ok (.laload, 1) := dk_47 (dk_at dksX5_byWaiting_1 14 rfl rfl)
theorem dX5_byWaiting_37 : decode cX5_byWaiting 37 = .ok (.ldc2_w 56, 3) := dk_20 0 56 (dk_at dksX5_byWaiting_1 15 rfl rfl)
theorem dX5_byWaiting_40 : decode cX5_byWaiting 40 = .ok (.lcmp, 1) := dk_148 (dk_at dksX5_byWaiting_1 18 rfl rfl)
theorem dX5_byWaiting_41 : decode cX5_byWaiting 41 = .ok (.ifCond .ne 7, 3) := dk_154 0 7 (dk_at dksX5_byWaiting_1 19 rfl rfl)
theorem dX5_byWaiting_44 : decode cX5_byWaiting 44 = .ok (.ldc2_w 56, 3) := dk_20 0 56 (dk_at dksX5_byWaiting_2 0 rfl rfl)
theorem dX5_byWaiting_47 : decode cX5_byWaiting 47 = .ok (.lreturn, 1) := dk_173 (dk_at dksX5_byWaiting_2 3 rfl rfl)
theorem dX5_byWaiting_48 : decode cX5_byWaiting 48 = .ok (.aload_n 0, 1) := dk_42 (dk_at dksX5_byWaiting_2 4 rfl rfl)
theorem dX5_byWaiting_49 : decode cX5_byWaiting 49 = .ok (.getfield 25, 3) := dk_180 0 25 (dk_at dksX5_byWaiting_2 5 rfl rfl)
theorem dX5_byWaiting_52 : decode cX5_byWaiting 52 = .ok (.iload_n 2, 1) := dk_28 (dk_at dksX5_byWaiting_2 8 rfl rfl)
theorem dX5_byWaiting_53 : decode cX5_byWaiting 53 = .ok (.invokevirtual 120, 3) := dk_182 0 120 (dk_at dksX5_byWaiting_2 9 rfl rfl)
theorem dX5_byWaiting_56 : decode cX5_byWaiting 56 = .ok (.istore 4, 2) := dk_54 4 (dk_at dksX5_byWaiting_2 12 rfl rfl)
theorem dX5_byWaiting_58 : decode cX5_byWaiting 58 = .ok (.aload_n 0, 1) := dk_42 (dk_at dksX5_byWaiting_2 14 rfl rfl)
theorem dX5_byWaiting_59 : decode cX5_byWaiting 59 = .ok (.getfield 9, 3) := dk_180 0 9 (dk_at dksX5_byWaiting_2 15 rfl rfl)
theorem dX5_byWaiting_62 : decode cX5_byWaiting 62 = .ok (.iload_n 1, 1) := dk_27 (dk_at dksX5_byWaiting_2 18 rfl rfl)
theorem dX5_byWaiting_63 : decode cX5_byWaiting 63 = .ok (.iload_n 2, 1) := dk_28 (dk_at dksX5_byWaiting_2 19 rfl rfl)
theorem dX5_byWaiting_64 : decode cX5_byWaiting 64 = .ok (.iconst 1, 1) := dk_4 (dk_at dksX5_byWaiting_2 20 rfl rfl)
theorem dX5_byWaiting_65 : decode cX5_byWaiting 65 = .ok (.iadd, 1) := dk_96 (dk_at dksX5_byWaiting_2 21 rfl rfl)
theorem dX5_byWaiting_66 : decode cX5_byWaiting 66 = .ok (.invokestatic 52, 3) := dk_184 0 52 (dk_at dksX5_byWaiting_3 0 rfl rfl)
theorem dX5_byWaiting_69 : decode cX5_byWaiting 69 = .ok (.laload, 1) := dk_47 (dk_at dksX5_byWaiting_3 3 rfl rfl)
theorem dX5_byWaiting_70 : decode cX5_byWaiting 70 = .ok (.iload 4, 2) := dk_21 4 (dk_at dksX5_byWaiting_3 4 rfl rfl)
theorem dX5_byWaiting_72 : decode cX5_byWaiting 72 = .ok (.iconst (-1), 1) := dk_2 (dk_at dksX5_byWaiting_3 6 rfl rfl)
theorem dX5_byWaiting_73 : decode cX5_byWaiting 73 = .ok (.if_icmp .ne 7, 3) := dk_160 0 7 (dk_at dksX5_byWaiting_3 7 rfl rfl)
theorem dX5_byWaiting_76 : decode cX5_byWaiting 76 = .ok (.lconst 0, 1) := dk_9 (dk_at dksX5_byWaiting_3 10 rfl rfl)
theorem dX5_byWaiting_77 : decode cX5_byWaiting 77 = .ok (.goto 40, 3) := dk_167 0 40 (dk_at dksX5_byWaiting_3 11 rfl rfl)
theorem dX5_byWaiting_80 : decode cX5_byWaiting 80 = .ok (.ldc2_w 123, 3) := dk_20 0 123 (dk_at dksX5_byWaiting_3 14 rfl rfl)
theorem dX5_byWaiting_83 : decode cX5_byWaiting 83 = .ok (.aload_n 0, 1) := dk_42 (dk_at dksX5_byWaiting_3 17 rfl rfl)
theorem dX5_byWaiting_84 : decode cX5_byWaiting 84 = .ok (.getfield 25, 3) := dk_180 0 25 (dk_at dksX5_byWaiting_3 18 rfl rfl)
theorem dX5_byWaiting_87 : decode cX5_byWaiting 87 = .ok (.getfield 62, 3) := dk_180 0 62 (dk_at dksX5_byWaiting_3 21 rfl rfl)
theorem dX5_byWaiting_90 : decode cX5_byWaiting 90 = .ok (.iload 4, 2) := dk_21 4 (dk_at dksX5_byWaiting_4 0 rfl rfl)
theorem dX5_byWaiting_92 : decode cX5_byWaiting 92 = .ok (.aaload, 1) := dk_50 (dk_at dksX5_byWaiting_4 2 rfl rfl)
theorem dX5_byWaiting_93 : decode cX5_byWaiting 93 = .ok (.getfield 90, 3) := dk_180 0 90 (dk_at dksX5_byWaiting_4 3 rfl rfl)
theorem dX5_byWaiting_96 : decode cX5_byWaiting 96 = .ok (.i2l, 1) := dk_133 (dk_at dksX5_byWaiting_4 6 rfl rfl)
theorem dX5_byWaiting_97 : decode cX5_byWaiting 97 = .ok (.lmul, 1) := dk_105 (dk_at dksX5_byWaiting_4 7 rfl rfl)
theorem dX5_byWaiting_98 : decode cX5_byWaiting 98 = .ok (.ldc2_w 135, 3) := dk_20 0 135 (dk_at dksX5_byWaiting_4 8 rfl rfl)
theorem dX5_byWaiting_101 : decode cX5_byWaiting 101 = .ok (.lmul, 1) := dk_105 (dk_at dksX5_byWaiting_4 11 rfl rfl)
theorem dX5_byWaiting_102 : decode cX5_byWaiting 102 = .ok (.aload_n 3, 1) := dk_45 (dk_at dksX5_byWaiting_4 12 rfl rfl)
theorem dX5_byWaiting_103 : decode cX5_byWaiting 103 = .ok (.getfield 137, 3) := dk_180 0 137 (dk_at dksX5_byWaiting_4 13 rfl rfl)
theorem dX5_byWaiting_106 : decode cX5_byWaiting 106 = .ok (.i2l, 1) := dk_133 (dk_at dksX5_byWaiting_4 16 rfl rfl)
theorem dX5_byWaiting_107 : decode cX5_byWaiting 107 = .ok (.lmul, 1) := dk_105 (dk_at dksX5_byWaiting_4 17 rfl rfl)
theorem dX5_byWaiting_108 : decode cX5_byWaiting 108 = .ok (.aload_n 0, 1) := dk_42 (dk_at dksX5_byWaiting_4 18 rfl rfl)
theorem dX5_byWaiting_109 : decode cX5_byWaiting 109 = .ok (.getfield 29, 3) := dk_180 0 29 (dk_at dksX5_byWaiting_4 19 rfl rfl)
theorem dX5_byWaiting_112 : decode cX5_byWaiting 112 = .ok (.invokevirtual 140, 3) := dk_182 0 140 (dk_at dksX5_byWaiting_5 0 rfl rfl)
theorem dX5_byWaiting_115 : decode cX5_byWaiting 115 = .ok (.i2l, 1) := dk_133 (dk_at dksX5_byWaiting_5 3 rfl rfl)
theorem dX5_byWaiting_116 : decode cX5_byWaiting 116 = .ok (.lmul, 1) := dk_105 (dk_at dksX5_byWaiting_5 4 rfl rfl)
theorem dX5_byWaiting_117 : decode cX5_byWaiting 117 = .ok (.ladd, 1) := dk_97 (dk_at dksX5_byWaiting_5 5 rfl rfl)
theorem dX5_byWaiting_118 : decode cX5_byWaiting 118 = .ok (.lreturn, 1) := dk_173 (dk_at dksX5_byWaiting_5 6 rfl rfl)
abbrev cX5_byLeg : ByteArray := prog_16_method_7_code
def yX5_byLeg : MethodName := ⟨RX5, "byLeg", "(IIIII)J"⟩
def dkwX5_byLeg_5 : List UInt8 := [21, 8, 21, 5, 184, 0, 82, 47, 105, 97, 173]
abbrev dktX5_byLeg_5 : List UInt8 := dkwX5_byLeg_5 ++ []
def dkwX5_byLeg_4 : List UInt8 := [184, 0, 52, 47, 21, 8, 2, 160, 0, 7, 9, 167, 0, 22, 20, 0, 123, 42, 180, 0, 15, 29, 21, 4]
abbrev dktX5_byLeg_4 : List UInt8 := dkwX5_byLeg_4 ++ dktX5_byLeg_5
def dkwX5_byLeg_3 : List UInt8 := [180, 0, 25, 28, 182, 0, 120, 54, 8, 42, 180, 0, 9, 25, 6, 21, 4, 182, 0, 117, 21, 7]
abbrev dktX5_byLeg_3 : List UInt8 := dkwX5_byLeg_3 ++ dktX5_byLeg_4
def dkwX5_byLeg_2 : List UInt8 := [21, 4, 182, 0, 117, 21, 7, 184, 0, 52, 47, 20, 0, 56, 148, 154, 0, 7, 20, 0, 56, 173, 42]
abbrev dktX5_byLeg_2 : List UInt8 := dkwX5_byLeg_2 ++ dktX5_byLeg_3
def dkwX5_byLeg_1 : List UInt8 := [21, 4, 182, 0, 114, 27, 160, 0, 36, 21, 7, 42, 180, 0, 33, 163, 0, 27, 42, 180, 0, 9, 25, 6]
abbrev dktX5_byLeg_1 : List UInt8 := dkwX5_byLeg_1 ++ dktX5_byLeg_2
def dkwX5_byLeg_0 : List UInt8 := [42, 180, 0, 25, 180, 0, 74, 29, 50, 58, 6, 28, 25, 6, 21, 5, 182, 0, 108, 96, 54, 7, 25, 6]
abbrev dktX5_byLeg_0 : List UInt8 := dkwX5_byLeg_0 ++ dktX5_byLeg_1
theorem dksX5_byLeg_0 : cX5_byLeg.data.toList.drop 0 = dktX5_byLeg_0 := by decide +kernel
theorem dksX5_byLeg_1 : cX5_byLeg.data.toList.drop 24 = dktX5_byLeg_1 := dk_seg dksX5_byLeg_0 24 rfl rfl
theorem dksX5_byLeg_2 : cX5_byLeg.data.toList.drop 48 = dktX5_byLeg_2 := dk_seg dksX5_byLeg_1 24 rfl rfl
theorem dksX5_byLeg_3 : cX5_byLeg.data.toList.drop 71 = dktX5_byLeg_3 := dk_seg dksX5_byLeg_2 23 rfl rfl
theorem dksX5_byLeg_4 : cX5_byLeg.data.toList.drop 93 = dktX5_byLeg_4 := dk_seg dksX5_byLeg_3 22 rfl rfl
theorem dksX5_byLeg_5 : cX5_byLeg.data.toList.drop 117 = dktX5_byLeg_5 := dk_seg dksX5_byLeg_4 24 rfl rfl
theorem dX5_byLeg_0 : decode cX5_byLeg 0 = .ok (.aload_n 0, 1) := dk_42 (dk_at dksX5_byLeg_0 0 rfl rfl)
theorem dX5_byLeg_1 : decode cX5_byLeg 1 = .ok (.getfield 25, 3) := dk_180 0 25 (dk_at dksX5_byLeg_0 1 rfl rfl)
theorem dX5_byLeg_4 : decode cX5_byLeg 4 = .ok (.getfield 74, 3) := dk_180 0 74 (dk_at dksX5_byLeg_0 4 rfl rfl)
theorem dX5_byLeg_7 : decode cX5_byLeg 7 = .ok (.iload_n 3, 1) := dk_29 (dk_at dksX5_byLeg_0 7 rfl rfl)
theorem dX5_byLeg_8 : decode cX5_byLeg 8 = .ok (.aaload, 1) := dk_50 (dk_at dksX5_byLeg_0 8 rfl rfl)
theorem dX5_byLeg_9 : decode cX5_byLeg 9 = .ok (.astore 6, 2) := dk_58 6 (dk_at dksX5_byLeg_0 9 rfl rfl)
theorem dX5_byLeg_11 : decode cX5_byLeg 11 = .ok (.iload_n 2, 1) := dk_28 (dk_at dksX5_byLeg_0 11 rfl rfl)
theorem dX5_byLeg_12 : decode cX5_byLeg 12 = .ok (.aload 6, 2) := dk_25 6 (dk_at dksX5_byLeg_0 12 rfl rfl)
theorem dX5_byLeg_14 : decode cX5_byLeg 14 = .ok (.iload 5, 2) := dk_21 5 (dk_at dksX5_byLeg_0 14 rfl rfl)
theorem dX5_byLeg_16 : decode cX5_byLeg 16 = .ok (.invokevirtual 108, 3) := dk_182 0 108 (dk_at dksX5_byLeg_0 16 rfl rfl)
theorem dX5_byLeg_19 : decode cX5_byLeg 19 = .ok (.iadd, 1) := dk_96 (dk_at dksX5_byLeg_0 19 rfl rfl)
theorem dX5_byLeg_20 : decode cX5_byLeg 20 = .ok (.istore 7, 2) := dk_54 7 (dk_at dksX5_byLeg_0 20 rfl rfl)
theorem dX5_byLeg_22 : decode cX5_byLeg 22 = .ok (.aload 6, 2) := dk_25 6 (dk_at dksX5_byLeg_0 22 rfl rfl)
theorem dX5_byLeg_24 : decode cX5_byLeg 24 = .ok (.iload 4, 2) := dk_21 4 (dk_at dksX5_byLeg_1 0 rfl rfl)
theorem dX5_byLeg_26 : decode cX5_byLeg 26 = .ok (.invokevirtual 114, 3) := dk_182 0 114 (dk_at dksX5_byLeg_1 2 rfl rfl)
theorem dX5_byLeg_29 : decode cX5_byLeg 29 = .ok (.iload_n 1, 1) := dk_27 (dk_at dksX5_byLeg_1 5 rfl rfl)
theorem dX5_byLeg_30 : decode cX5_byLeg 30 = .ok (.if_icmp .ne 36, 3) := dk_160 0 36 (dk_at dksX5_byLeg_1 6 rfl rfl)
theorem dX5_byLeg_33 : decode cX5_byLeg 33 = .ok (.iload 7, 2) := dk_21 7 (dk_at dksX5_byLeg_1 9 rfl rfl)
theorem dX5_byLeg_35 : decode cX5_byLeg 35 = .ok (.aload_n 0, 1) := dk_42 (dk_at dksX5_byLeg_1 11 rfl rfl)
theorem dX5_byLeg_36 : decode cX5_byLeg 36 = .ok (.getfield 33, 3) := dk_180 0 33 (dk_at dksX5_byLeg_1 12 rfl rfl)
theorem dX5_byLeg_39 : decode cX5_byLeg 39 = .ok (.if_icmp .gt 27, 3) := dk_163 0 27 (dk_at dksX5_byLeg_1 15 rfl rfl)
theorem dX5_byLeg_42 : decode cX5_byLeg 42 = .ok (.aload_n 0, 1) := dk_42 (dk_at dksX5_byLeg_1 18 rfl rfl)
theorem dX5_byLeg_43 : decode cX5_byLeg 43 = .ok (.getfield 9, 3) := dk_180 0 9 (dk_at dksX5_byLeg_1 19 rfl rfl)
theorem dX5_byLeg_46 : decode cX5_byLeg 46 = .ok (.aload 6, 2) := dk_25 6 (dk_at dksX5_byLeg_1 22 rfl rfl)
theorem dX5_byLeg_48 : decode cX5_byLeg 48 = .ok (.iload 4, 2) := dk_21 4 (dk_at dksX5_byLeg_2 0 rfl rfl)
theorem dX5_byLeg_50 : decode cX5_byLeg 50 = .ok (.invokevirtual 117, 3) := dk_182 0 117 (dk_at dksX5_byLeg_2 2 rfl rfl)
theorem dX5_byLeg_53 : decode cX5_byLeg 53 = .ok (.iload 7, 2) := dk_21 7 (dk_at dksX5_byLeg_2 5 rfl rfl)
theorem dX5_byLeg_55 : decode cX5_byLeg 55 = .ok (.invokestatic 52, 3) := dk_184 0 52 (dk_at dksX5_byLeg_2 7 rfl rfl)
theorem dX5_byLeg_58 : decode cX5_byLeg 58 = .ok (.laload, 1) := dk_47 (dk_at dksX5_byLeg_2 10 rfl rfl)
theorem dX5_byLeg_59 : decode cX5_byLeg 59 = .ok (.ldc2_w 56, 3) := dk_20 0 56 (dk_at dksX5_byLeg_2 11 rfl rfl)
theorem dX5_byLeg_62 : decode cX5_byLeg 62 = .ok (.lcmp, 1) := dk_148 (dk_at dksX5_byLeg_2 14 rfl rfl)
theorem dX5_byLeg_63 : decode cX5_byLeg 63 = .ok (.ifCond .ne 7, 3) := dk_154 0 7 (dk_at dksX5_byLeg_2 15 rfl rfl)
theorem dX5_byLeg_66 : decode cX5_byLeg 66 = .ok (.ldc2_w 56, 3) := dk_20 0 56 (dk_at dksX5_byLeg_2 18 rfl rfl)
theorem dX5_byLeg_69 : decode cX5_byLeg 69 = .ok (.lreturn, 1) := dk_173 (dk_at dksX5_byLeg_2 21 rfl rfl)
theorem dX5_byLeg_70 : decode cX5_byLeg 70 = .ok (.aload_n 0, 1) := dk_42 (dk_at dksX5_byLeg_2 22 rfl rfl)
theorem dX5_byLeg_71 : decode cX5_byLeg 71 = .ok (.getfield 25, 3) := dk_180 0 25 (dk_at dksX5_byLeg_3 0 rfl rfl)
theorem dX5_byLeg_74 : decode cX5_byLeg 74 = .ok (.iload_n 2, 1) := dk_28 (dk_at dksX5_byLeg_3 3 rfl rfl)
theorem dX5_byLeg_75 : decode cX5_byLeg 75 = .ok (.invokevirtual 120, 3) := dk_182 0 120 (dk_at dksX5_byLeg_3 4 rfl rfl)
theorem dX5_byLeg_78 : decode cX5_byLeg 78 = .ok (.istore 8, 2) := dk_54 8 (dk_at dksX5_byLeg_3 7 rfl rfl)
theorem dX5_byLeg_80 : decode cX5_byLeg 80 = .ok (.aload_n 0, 1) := dk_42 (dk_at dksX5_byLeg_3 9 rfl rfl)
theorem dX5_byLeg_81 : decode cX5_byLeg 81 = .ok (.getfield 9, 3) := dk_180 0 9 (dk_at dksX5_byLeg_3 10 rfl rfl)
theorem dX5_byLeg_84 : decode cX5_byLeg 84 = .ok (.aload 6, 2) := dk_25 6 (dk_at dksX5_byLeg_3 13 rfl rfl)
theorem dX5_byLeg_86 : decode cX5_byLeg 86 = .ok (.iload 4, 2) := dk_21 4 (dk_at dksX5_byLeg_3 15 rfl rfl)
theorem dX5_byLeg_88 : decode cX5_byLeg 88 = .ok (.invokevirtual 117, 3) := dk_182 0 117 (dk_at dksX5_byLeg_3 17 rfl rfl)
theorem dX5_byLeg_91 : decode cX5_byLeg 91 = .ok (.iload 7, 2) := dk_21 7 (dk_at dksX5_byLeg_3 20 rfl rfl)
theorem dX5_byLeg_93 : decode cX5_byLeg 93 = .ok (.invokestatic 52, 3) := dk_184 0 52 (dk_at dksX5_byLeg_4 0 rfl rfl)
theorem dX5_byLeg_96 : decode cX5_byLeg 96 = .ok (.laload, 1) := dk_47 (dk_at dksX5_byLeg_4 3 rfl rfl)
theorem dX5_byLeg_97 : decode cX5_byLeg 97 = .ok (.iload 8, 2) := dk_21 8 (dk_at dksX5_byLeg_4 4 rfl rfl)
theorem dX5_byLeg_99 : decode cX5_byLeg 99 = .ok (.iconst (-1), 1) := dk_2 (dk_at dksX5_byLeg_4 6 rfl rfl)
theorem dX5_byLeg_100 : decode cX5_byLeg 100 = .ok (.if_icmp .ne 7, 3) := dk_160 0 7 (dk_at dksX5_byLeg_4 7 rfl rfl)
theorem dX5_byLeg_103 : decode cX5_byLeg 103 = .ok (.lconst 0, 1) := dk_9 (dk_at dksX5_byLeg_4 10 rfl rfl)
theorem dX5_byLeg_104 : decode cX5_byLeg 104 = .ok (.goto 22, 3) := dk_167 0 22 (dk_at dksX5_byLeg_4 11 rfl rfl)
theorem dX5_byLeg_107 : decode cX5_byLeg 107 = .ok (.ldc2_w 123, 3) := dk_20 0 123 (dk_at dksX5_byLeg_4 14 rfl rfl)
theorem dX5_byLeg_110 : decode cX5_byLeg 110 = .ok (.aload_n 0, 1) := dk_42 (dk_at dksX5_byLeg_4 17 rfl rfl)
theorem dX5_byLeg_111 : decode cX5_byLeg 111 = .ok (.getfield 15, 3) := dk_180 0 15 (dk_at dksX5_byLeg_4 18 rfl rfl)
theorem dX5_byLeg_114 : decode cX5_byLeg 114 = .ok (.iload_n 3, 1) := dk_29 (dk_at dksX5_byLeg_4 21 rfl rfl)
theorem dX5_byLeg_115 : decode cX5_byLeg 115 = .ok (.iload 4, 2) := dk_21 4 (dk_at dksX5_byLeg_4 22 rfl rfl)
theorem dX5_byLeg_117 : decode cX5_byLeg 117 = .ok (.iload 8, 2) := dk_21 8 (dk_at dksX5_byLeg_5 0 rfl rfl)
theorem dX5_byLeg_119 : decode cX5_byLeg 119 = .ok (.iload 5, 2) := dk_21 5 (dk_at dksX5_byLeg_5 2 rfl rfl)
theorem dX5_byLeg_121 : decode cX5_byLeg 121 = .ok (.invokestatic 82, 3) := dk_184 0 82 (dk_at dksX5_byLeg_5 4 rfl rfl)
theorem dX5_byLeg_124 : decode cX5_byLeg 124 = .ok (.laload, 1) := dk_47 (dk_at dksX5_byLeg_5 7 rfl rfl)
theorem dX5_byLeg_125 : decode cX5_byLeg 125 = .ok (.lmul, 1) := dk_105 (dk_at dksX5_byLeg_5 8 rfl rfl)
theorem dX5_byLeg_126 : decode cX5_byLeg 126 = .ok (.ladd, 1) := dk_97 (dk_at dksX5_byLeg_5 9 rfl rfl)
theorem dX5_byLeg_127 : decode cX5_byLeg 127 = .ok (.lreturn, 1) := dk_173 (dk_at dksX5_byLeg_5 10 rfl rfl)
abbrev cX5_hasWay : ByteArray := prog_16_method_9_code
def yX5_hasWay : MethodName := ⟨RX5, "hasWay", "(II)Z"⟩
def dkwX5_hasWay_0 : List UInt8 := [42, 180, 0, 9, 27, 28, 184, 0, 52, 47, 20, 0, 56, 148, 153, 0, 7, 4, 167, 0, 4, 3, 172]
abbrev dktX5_hasWay_0 : List UInt8 := dkwX5_hasWay_0 ++ []
theorem dksX5_hasWay_0 : cX5_hasWay.data.toList.drop 0 = dktX5_hasWay_0 := by decide +kernel
theorem dX5_hasWay_0 : decode cX5_hasWay 0 = .ok (.aload_n 0, 1) := dk_42 (dk_at dksX5_hasWay_0 0 rfl rfl)
theorem dX5_hasWay_1 : decode cX5_hasWay 1 = .ok (.getfield 9, 3) := dk_180 0 9 (dk_at dksX5_hasWay_0 1 rfl rfl)
theorem dX5_hasWay_4 : decode cX5_hasWay 4 = .ok (.iload_n 1, 1) := dk_27 (dk_at dksX5_hasWay_0 4 rfl rfl)
theorem dX5_hasWay_5 : decode cX5_hasWay 5 = .ok (.iload_n 2, 1) := dk_28 (dk_at dksX5_hasWay_0 5 rfl rfl)
theorem dX5_hasWay_6 : decode cX5_hasWay 6 = .ok (.invokestatic 52, 3) := dk_184 0 52 (dk_at dksX5_hasWay_0 6 rfl rfl)
theorem dX5_hasWay_9 : decode cX5_hasWay 9 = .ok (.laload, 1) := dk_47 (dk_at dksX5_hasWay_0 9 rfl rfl)
theorem dX5_hasWay_10 : decode cX5_hasWay 10 = .ok (.ldc2_w 56, 3) := dk_20 0 56 (dk_at dksX5_hasWay_0 10 rfl rfl)
theorem dX5_hasWay_13 : decode cX5_hasWay 13 = .ok (.lcmp, 1) := dk_148 (dk_at dksX5_hasWay_0 13 rfl rfl)
theorem dX5_hasWay_14 : decode cX5_hasWay 14 = .ok (.ifCond .eq 7, 3) := dk_153 0 7 (dk_at dksX5_hasWay_0 14 rfl rfl)
theorem dX5_hasWay_17 : decode cX5_hasWay 17 = .ok (.iconst 1, 1) := dk_4 (dk_at dksX5_hasWay_0 17 rfl rfl)
theorem dX5_hasWay_18 : decode cX5_hasWay 18 = .ok (.goto 4, 3) := dk_167 0 4 (dk_at dksX5_hasWay_0 18 rfl rfl)
theorem dX5_hasWay_21 : decode cX5_hasWay 21 = .ok (.iconst 0, 1) := dk_3 (dk_at dksX5_hasWay_0 21 rfl rfl)
theorem dX5_hasWay_22 : decode cX5_hasWay 22 = .ok (.ireturn, 1) := dk_172 (dk_at dksX5_hasWay_0 22 rfl rfl)
abbrev cX5_mean : ByteArray := prog_16_method_10_code
def yX5_mean : MethodName := ⟨RX5, "mean", "(II)J"⟩
def dkwX5_mean_0 : List UInt8 := [42, 180, 0, 9, 27, 28, 184, 0, 52, 47, 20, 0, 123, 109, 173]
abbrev dktX5_mean_0 : List UInt8 := dkwX5_mean_0 ++ []
theorem dksX5_mean_0 : cX5_mean.data.toList.drop 0 = dktX5_mean_0 := by decide +kernel
theorem dX5_mean_0 : decode cX5_mean 0 = .ok (.aload_n 0, 1) := dk_42 (dk_at dksX5_mean_0 0 rfl rfl)
theorem dX5_mean_1 : decode cX5_mean 1 = .ok (.getfield 9, 3) := dk_180 0 9 (dk_at dksX5_mean_0 1 rfl rfl)
theorem dX5_mean_4 : decode cX5_mean 4 = .ok (.iload_n 1, 1) := dk_27 (dk_at dksX5_mean_0 4 rfl rfl)
theorem dX5_mean_5 : decode cX5_mean 5 = .ok (.iload_n 2, 1) := dk_28 (dk_at dksX5_mean_0 5 rfl rfl)
theorem dX5_mean_6 : decode cX5_mean 6 = .ok (.invokestatic 52, 3) := dk_184 0 52 (dk_at dksX5_mean_0 6 rfl rfl)
theorem dX5_mean_9 : decode cX5_mean 9 = .ok (.laload, 1) := dk_47 (dk_at dksX5_mean_0 9 rfl rfl)
theorem dX5_mean_10 : decode cX5_mean 10 = .ok (.ldc2_w 123, 3) := dk_20 0 123 (dk_at dksX5_mean_0 10 rfl rfl)
theorem dX5_mean_13 : decode cX5_mean 13 = .ok (.ldiv, 1) := dk_109 (dk_at dksX5_mean_0 13 rfl rfl)
theorem dX5_mean_14 : decode cX5_mean 14 = .ok (.lreturn, 1) := dk_173 (dk_at dksX5_mean_0 14 rfl rfl)
abbrev cX5_there : ByteArray := prog_16_method_11_code
def yX5_there : MethodName := ⟨RX5, "there", "(II)I"⟩
def dkwX5_there_0 : List UInt8 := [42, 180, 0, 9, 27, 28, 184, 0, 52, 47, 20, 0, 123, 113, 136, 172]
abbrev dktX5_there_0 : List UInt8 := dkwX5_there_0 ++ []
theorem dksX5_there_0 : cX5_there.data.toList.drop 0 = dktX5_there_0 := by decide +kernel
theorem dX5_there_0 : decode cX5_there 0 = .ok (.aload_n 0, 1) := dk_42 (dk_at dksX5_there_0 0 rfl rfl)
theorem dX5_there_1 : decode cX5_there 1 = .ok (.getfield 9, 3) := dk_180 0 9 (dk_at dksX5_there_0 1 rfl rfl)
theorem dX5_there_4 : decode cX5_there 4 = .ok (.iload_n 1, 1) := dk_27 (dk_at dksX5_there_0 4 rfl rfl)
theorem dX5_there_5 : decode cX5_there 5 = .ok (.iload_n 2, 1) := dk_28 (dk_at dksX5_there_0 5 rfl rfl)
theorem dX5_there_6 : decode cX5_there 6 = .ok (.invokestatic 52, 3) := dk_184 0 52 (dk_at dksX5_there_0 6 rfl rfl)
theorem dX5_there_9 : decode cX5_there 9 = .ok (.laload, 1) := dk_47 (dk_at dksX5_there_0 9 rfl rfl)
theorem dX5_there_10 : decode cX5_there 10 = .ok (.ldc2_w 123, 3) := dk_20 0 123 (dk_at dksX5_there_0 10 rfl rfl)
theorem dX5_there_13 : decode cX5_there 13 = .ok (.lrem, 1) := dk_113 (dk_at dksX5_there_0 13 rfl rfl)
theorem dX5_there_14 : decode cX5_there 14 = .ok (.l2i, 1) := dk_136 (dk_at dksX5_there_0 14 rfl rfl)
theorem dX5_there_15 : decode cX5_there 15 = .ok (.ireturn, 1) := dk_172 (dk_at dksX5_there_0 15 rfl rfl)
abbrev cX5_steps : ByteArray := prog_16_method_13_code
def yX5_steps : MethodName := ⟨RX5, "steps", "(III)I"⟩
def dkwX5_steps_1 : List UInt8 := [182, 0, 150, 87, 132, 4, 1, 167, 255, 240, 21, 4, 172]
abbrev dktX5_steps_1 : List UInt8 := dkwX5_steps_1 ++ []
def dkwX5_steps_0 : List UInt8 := [42, 27, 181, 0, 144, 42, 28, 181, 0, 147, 3, 54, 4, 42, 180, 0, 144, 29, 159, 0, 14, 42]
abbrev dktX5_steps_0 : List UInt8 := dkwX5_steps_0 ++ dktX5_steps_1
theorem dksX5_steps_0 : cX5_steps.data.toList.drop 0 = dktX5_steps_0 := by decide +kernel
theorem dksX5_steps_1 : cX5_steps.data.toList.drop 22 = dktX5_steps_1 := dk_seg dksX5_steps_0 22 rfl rfl
theorem dX5_steps_0 : decode cX5_steps 0 = .ok (.aload_n 0, 1) := dk_42 (dk_at dksX5_steps_0 0 rfl rfl)
theorem dX5_steps_1 : decode cX5_steps 1 = .ok (.iload_n 1, 1) := dk_27 (dk_at dksX5_steps_0 1 rfl rfl)
theorem dX5_steps_2 : decode cX5_steps 2 = .ok (.putfield 144, 3) := dk_181 0 144 (dk_at dksX5_steps_0 2 rfl rfl)
theorem dX5_steps_5 : decode cX5_steps 5 = .ok (.aload_n 0, 1) := dk_42 (dk_at dksX5_steps_0 5 rfl rfl)
theorem dX5_steps_6 : decode cX5_steps 6 = .ok (.iload_n 2, 1) := dk_28 (dk_at dksX5_steps_0 6 rfl rfl)
theorem dX5_steps_7 : decode cX5_steps 7 = .ok (.putfield 147, 3) := dk_181 0 147 (dk_at dksX5_steps_0 7 rfl rfl)
theorem dX5_steps_10 : decode cX5_steps 10 = .ok (.iconst 0, 1) := dk_3 (dk_at dksX5_steps_0 10 rfl rfl)
theorem dX5_steps_11 : decode cX5_steps 11 = .ok (.istore 4, 2) := dk_54 4 (dk_at dksX5_steps_0 11 rfl rfl)
theorem dX5_steps_13 : decode cX5_steps 13 = .ok (.aload_n 0, 1) := dk_42 (dk_at dksX5_steps_0 13 rfl rfl)
theorem dX5_steps_14 : decode cX5_steps 14 = .ok (.getfield 144, 3) := dk_180 0 144 (dk_at dksX5_steps_0 14 rfl rfl)
theorem dX5_steps_17 : decode cX5_steps 17 = .ok (.iload_n 3, 1) := dk_29 (dk_at dksX5_steps_0 17 rfl rfl)
theorem dX5_steps_18 : decode cX5_steps 18 = .ok (.if_icmp .eq 14, 3) := dk_159 0 14 (dk_at dksX5_steps_0 18 rfl rfl)
theorem dX5_steps_21 : decode cX5_steps 21 = .ok (.aload_n 0, 1) := dk_42 (dk_at dksX5_steps_0 21 rfl rfl)
theorem dX5_steps_22 : decode cX5_steps 22 = .ok (.invokevirtual 150, 3) := dk_182 0 150 (dk_at dksX5_steps_1 0 rfl rfl)
theorem dX5_steps_25 : decode cX5_steps 25 = .ok (.pop, 1) := dk_87 (dk_at dksX5_steps_1 3 rfl rfl)
theorem dX5_steps_26 : decode cX5_steps 26 = .ok (.iinc 4 1, 3) := dk_132 4 1 (dk_at dksX5_steps_1 4 rfl rfl)
theorem dX5_steps_29 : decode cX5_steps 29 = .ok (.goto (-16), 3) := dk_167 255 240 (dk_at dksX5_steps_1 7 rfl rfl)
theorem dX5_steps_32 : decode cX5_steps 32 = .ok (.iload 4, 2) := dk_21 4 (dk_at dksX5_steps_1 10 rfl rfl)
theorem dX5_steps_34 : decode cX5_steps 34 = .ok (.ireturn, 1) := dk_172 (dk_at dksX5_steps_1 12 rfl rfl)
abbrev cX5_next : ByteArray := prog_16_method_12_code
def yX5_next : MethodName := ⟨RX5, "next", "()I"⟩
def dkwX5_next_7 : List UInt8 := [96, 181, 0, 147, 16, 254, 172]
abbrev dktX5_next_7 : List UInt8 := dkwX5_next_7 ++ []
def dkwX5_next_6 : List UInt8 := [132, 5, 1, 167, 255, 161, 132, 4, 1, 167, 255, 140, 132, 3, 1, 167, 255, 120, 42, 89, 180, 0, 147, 4]
abbrev dktX5_next_6 : List UInt8 := dkwX5_next_6 ++ dktX5_next_7
def dkwX5_next_5 : List UInt8 := [21, 4, 182, 0, 117, 181, 0, 144, 16, 100, 29, 104, 16, 10, 21, 4, 104, 96, 21, 5, 96, 172]
abbrev dktX5_next_5 : List UInt8 := dkwX5_next_5 ++ dktX5_next_6
def dkwX5_next_4 : List UInt8 := [180, 0, 74, 29, 50, 21, 5, 182, 0, 108, 96, 181, 0, 147, 42, 42, 180, 0, 25, 180, 0, 74, 29, 50]
abbrev dktX5_next_4 : List UInt8 := dkwX5_next_4 ++ dktX5_next_5
def dkwX5_next_3 : List UInt8 := [21, 5, 182, 0, 98, 31, 148, 153, 0, 6, 167, 0, 58, 42, 89, 180, 0, 147, 42, 180, 0, 25]
abbrev dktX5_next_3 : List UInt8 := dkwX5_next_3 ++ dktX5_next_4
def dkwX5_next_2 : List UInt8 := [21, 5, 42, 180, 0, 29, 180, 0, 71, 163, 0, 89, 42, 42, 180, 0, 144, 42, 180, 0, 147, 29, 21, 4]
abbrev dktX5_next_2 : List UInt8 := dkwX5_next_2 ++ dktX5_next_3
def dkwX5_next_1 : List UInt8 := [180, 0, 37, 162, 0, 131, 3, 54, 4, 21, 4, 5, 162, 0, 116, 42, 180, 0, 29, 180, 0, 66, 54, 5]
abbrev dktX5_next_1 : List UInt8 := dkwX5_next_1 ++ dktX5_next_2
def dkwX5_next_0 : List UInt8 := [42, 180, 0, 9, 42, 180, 0, 144, 42, 180, 0, 147, 184, 0, 52, 47, 64, 3, 62, 29, 42, 180, 0, 25]
abbrev dktX5_next_0 : List UInt8 := dkwX5_next_0 ++ dktX5_next_1
theorem dksX5_next_0 : cX5_next.data.toList.drop 0 = dktX5_next_0 := by decide +kernel
theorem dksX5_next_1 : cX5_next.data.toList.drop 24 = dktX5_next_1 := dk_seg dksX5_next_0 24 rfl rfl
theorem dksX5_next_2 : cX5_next.data.toList.drop 48 = dktX5_next_2 := dk_seg dksX5_next_1 24 rfl rfl
theorem dksX5_next_3 : cX5_next.data.toList.drop 72 = dktX5_next_3 := dk_seg dksX5_next_2 24 rfl rfl
theorem dksX5_next_4 : cX5_next.data.toList.drop 94 = dktX5_next_4 := dk_seg dksX5_next_3 22 rfl rfl
theorem dksX5_next_5 : cX5_next.data.toList.drop 118 = dktX5_next_5 := dk_seg dksX5_next_4 24 rfl rfl
theorem dksX5_next_6 : cX5_next.data.toList.drop 140 = dktX5_next_6 := dk_seg dksX5_next_5 22 rfl rfl
theorem dksX5_next_7 : cX5_next.data.toList.drop 164 = dktX5_next_7 := dk_seg dksX5_next_6 24 rfl rfl
theorem dX5_next_0 : decode cX5_next 0 = .ok (.aload_n 0, 1) := dk_42 (dk_at dksX5_next_0 0 rfl rfl)
theorem dX5_next_1 : decode cX5_next 1 = .ok (.getfield 9, 3) := dk_180 0 9 (dk_at dksX5_next_0 1 rfl rfl)
theorem dX5_next_4 : decode cX5_next 4 = .ok (.aload_n 0, 1) := dk_42 (dk_at dksX5_next_0 4 rfl rfl)
theorem dX5_next_5 : decode cX5_next 5 = .ok (.getfield 144, 3) := dk_180 0 144 (dk_at dksX5_next_0 5 rfl rfl)
theorem dX5_next_8 : decode cX5_next 8 = .ok (.aload_n 0, 1) := dk_42 (dk_at dksX5_next_0 8 rfl rfl)
theorem dX5_next_9 : decode cX5_next 9 = .ok (.getfield 147, 3) := dk_180 0 147 (dk_at dksX5_next_0 9 rfl rfl)
theorem dX5_next_12 : decode cX5_next 12 = .ok (.invokestatic 52, 3) := dk_184 0 52 (dk_at dksX5_next_0 12 rfl rfl)
theorem dX5_next_15 : decode cX5_next 15 = .ok (.laload, 1) := dk_47 (dk_at dksX5_next_0 15 rfl rfl)
theorem dX5_next_16 : decode cX5_next 16 = .ok (.lstore_n 1, 1) := dk_64 (dk_at dksX5_next_0 16 rfl rfl)
theorem dX5_next_17 : decode cX5_next 17 = .ok (.iconst 0, 1) := dk_3 (dk_at dksX5_next_0 17 rfl rfl)
theorem dX5_next_18 : decode cX5_next 18 = .ok (.istore_n 3, 1) := dk_62 (dk_at dksX5_next_0 18 rfl rfl)
theorem dX5_next_19 : decode cX5_next 19 = .ok (.iload_n 3, 1) := dk_29 (dk_at dksX5_next_0 19 rfl rfl)
theorem dX5_next_20 : decode cX5_next 20 = .ok (.aload_n 0, 1) := dk_42 (dk_at dksX5_next_0 20 rfl rfl)
theorem dX5_next_21 : decode cX5_next 21 = .ok (.getfield 25, 3) := dk_180 0 25 (dk_at dksX5_next_0 21 rfl rfl)
theorem dX5_next_24 : decode cX5_next 24 = .ok (.getfield 37, 3) := dk_180 0 37 (dk_at dksX5_next_1 0 rfl rfl)
theorem dX5_next_27 : decode cX5_next 27 = .ok (.if_icmp .ge 131, 3) := dk_162 0 131 (dk_at dksX5_next_1 3 rfl rfl)
theorem dX5_next_30 : decode cX5_next 30 = .ok (.iconst 0, 1) := dk_3 (dk_at dksX5_next_1 6 rfl rfl)
theorem dX5_next_31 : decode cX5_next 31 = .ok (.istore 4, 2) := dk_54 4 (dk_at dksX5_next_1 7 rfl rfl)
theorem dX5_next_33 : decode cX5_next 33 = .ok (.iload 4, 2) := dk_21 4 (dk_at dksX5_next_1 9 rfl rfl)
theorem dX5_next_35 : decode cX5_next 35 = .ok (.iconst 2, 1) := dk_5 (dk_at dksX5_next_1 11 rfl rfl)
theorem dX5_next_36 : decode cX5_next 36 = .ok (.if_icmp .ge 116, 3) := dk_162 0 116 (dk_at dksX5_next_1 12 rfl rfl)
theorem dX5_next_39 : decode cX5_next 39 = .ok (.aload_n 0, 1) := dk_42 (dk_at dksX5_next_1 15 rfl rfl)
theorem dX5_next_40 : decode cX5_next 40 = .ok (.getfield 29, 3) := dk_180 0 29 (dk_at dksX5_next_1 16 rfl rfl)
theorem dX5_next_43 : decode cX5_next 43 = .ok (.getfield 66, 3) := dk_180 0 66 (dk_at dksX5_next_1 19 rfl rfl)
theorem dX5_next_46 : decode cX5_next 46 = .ok (.istore 5, 2) := dk_54 5 (dk_at dksX5_next_1 22 rfl rfl)
theorem dX5_next_48 : decode cX5_next 48 = .ok (.iload 5, 2) := dk_21 5 (dk_at dksX5_next_2 0 rfl rfl)
theorem dX5_next_50 : decode cX5_next 50 = .ok (.aload_n 0, 1) := dk_42 (dk_at dksX5_next_2 2 rfl rfl)
theorem dX5_next_51 : decode cX5_next 51 = .ok (.getfield 29, 3) := dk_180 0 29 (dk_at dksX5_next_2 3 rfl rfl)
theorem dX5_next_54 : decode cX5_next 54 = .ok (.getfield 71, 3) := dk_180 0 71 (dk_at dksX5_next_2 6 rfl rfl)
theorem dX5_next_57 : decode cX5_next 57 = .ok (.if_icmp .gt 89, 3) := dk_163 0 89 (dk_at dksX5_next_2 9 rfl rfl)
theorem dX5_next_60 : decode cX5_next 60 = .ok (.aload_n 0, 1) := dk_42 (dk_at dksX5_next_2 12 rfl rfl)
theorem dX5_next_61 : decode cX5_next 61 = .ok (.aload_n 0, 1) := dk_42 (dk_at dksX5_next_2 13 rfl rfl)
theorem dX5_next_62 : decode cX5_next 62 = .ok (.getfield 144, 3) := dk_180 0 144 (dk_at dksX5_next_2 14 rfl rfl)
theorem dX5_next_65 : decode cX5_next 65 = .ok (.aload_n 0, 1) := dk_42 (dk_at dksX5_next_2 17 rfl rfl)
theorem dX5_next_66 : decode cX5_next 66 = .ok (.getfield 147, 3) := dk_180 0 147 (dk_at dksX5_next_2 18 rfl rfl)
theorem dX5_next_69 : decode cX5_next 69 = .ok (.iload_n 3, 1) := dk_29 (dk_at dksX5_next_2 21 rfl rfl)
theorem dX5_next_70 : decode cX5_next 70 = .ok (.iload 4, 2) := dk_21 4 (dk_at dksX5_next_2 22 rfl rfl)
theorem dX5_next_72 : decode cX5_next 72 = .ok (.iload 5, 2) := dk_21 5 (dk_at dksX5_next_3 0 rfl rfl)
theorem dX5_next_74 : decode cX5_next 74 = .ok (.invokevirtual 98, 3) := dk_182 0 98 (dk_at dksX5_next_3 2 rfl rfl)
theorem dX5_next_77 : decode cX5_next 77 = .ok (.lload_n 1, 1) := dk_31 (dk_at dksX5_next_3 5 rfl rfl)
theorem dX5_next_78 : decode cX5_next 78 = .ok (.lcmp, 1) := dk_148 (dk_at dksX5_next_3 6 rfl rfl)
theorem dX5_next_79 : decode cX5_next 79 = .ok (.ifCond .eq 6, 3) := dk_153 0 6 (dk_at dksX5_next_3 7 rfl rfl)
theorem dX5_next_82 : decode cX5_next 82 = .ok (.goto 58, 3) := dk_167 0 58 (dk_at dksX5_next_3 10 rfl rfl)
theorem dX5_next_85 : decode cX5_next 85 = .ok (.aload_n 0, 1) := dk_42 (dk_at dksX5_next_3 13 rfl rfl)
theorem dX5_next_86 : decode cX5_next 86 = .ok (.dup, 1) := dk_89 (dk_at dksX5_next_3 14 rfl rfl)
theorem dX5_next_87 : decode cX5_next 87 = .ok (.getfield 147, 3) := dk_180 0 147 (dk_at dksX5_next_3 15 rfl rfl)
theorem dX5_next_90 : decode cX5_next 90 = .ok (.aload_n 0, 1) := dk_42 (dk_at dksX5_next_3 18 rfl rfl)
theorem dX5_next_91 : decode cX5_next 91 = .ok (.getfield 25, 3) := dk_180 0 25 (dk_at dksX5_next_3 19 rfl rfl)
theorem dX5_next_94 : decode cX5_next 94 = .ok (.getfield 74, 3) := dk_180 0 74 (dk_at dksX5_next_4 0 rfl rfl)
theorem dX5_next_97 : decode cX5_next 97 = .ok (.iload_n 3, 1) := dk_29 (dk_at dksX5_next_4 3 rfl rfl)
theorem dX5_next_98 : decode cX5_next 98 = .ok (.aaload, 1) := dk_50 (dk_at dksX5_next_4 4 rfl rfl)
theorem dX5_next_99 : decode cX5_next 99 = .ok (.iload 5, 2) := dk_21 5 (dk_at dksX5_next_4 5 rfl rfl)
theorem dX5_next_101 : decode cX5_next 101 = .ok (.invokevirtual 108, 3) := dk_182 0 108 (dk_at dksX5_next_4 7 rfl rfl)
theorem dX5_next_104 : decode cX5_next 104 = .ok (.iadd, 1) := dk_96 (dk_at dksX5_next_4 10 rfl rfl)
theorem dX5_next_105 : decode cX5_next 105 = .ok (.putfield 147, 3) := dk_181 0 147 (dk_at dksX5_next_4 11 rfl rfl)
theorem dX5_next_108 : decode cX5_next 108 = .ok (.aload_n 0, 1) := dk_42 (dk_at dksX5_next_4 14 rfl rfl)
theorem dX5_next_109 : decode cX5_next 109 = .ok (.aload_n 0, 1) := dk_42 (dk_at dksX5_next_4 15 rfl rfl)
theorem dX5_next_110 : decode cX5_next 110 = .ok (.getfield 25, 3) := dk_180 0 25 (dk_at dksX5_next_4 16 rfl rfl)
theorem dX5_next_113 : decode cX5_next 113 = .ok (.getfield 74, 3) := dk_180 0 74 (dk_at dksX5_next_4 19 rfl rfl)
theorem dX5_next_116 : decode cX5_next 116 = .ok (.iload_n 3, 1) := dk_29 (dk_at dksX5_next_4 22 rfl rfl)
theorem dX5_next_117 : decode cX5_next 117 = .ok (.aaload, 1) := dk_50 (dk_at dksX5_next_4 23 rfl rfl)
theorem dX5_next_118 : decode cX5_next 118 = .ok (.iload 4, 2) := dk_21 4 (dk_at dksX5_next_5 0 rfl rfl)
theorem dX5_next_120 : decode cX5_next 120 = .ok (.invokevirtual 117, 3) := dk_182 0 117 (dk_at dksX5_next_5 2 rfl rfl)
theorem dX5_next_123 : decode cX5_next 123 = .ok (.putfield 144, 3) := dk_181 0 144 (dk_at dksX5_next_5 5 rfl rfl)
theorem dX5_next_126 : decode cX5_next 126 = .ok (.bipush 100, 2) := dk_16 100 (dk_at dksX5_next_5 8 rfl rfl)
theorem dX5_next_128 : decode cX5_next 128 = .ok (.iload_n 3, 1) := dk_29 (dk_at dksX5_next_5 10 rfl rfl)
theorem dX5_next_129 : decode cX5_next 129 = .ok (.imul, 1) := dk_104 (dk_at dksX5_next_5 11 rfl rfl)
theorem dX5_next_130 : decode cX5_next 130 = .ok (.bipush 10, 2) := dk_16 10 (dk_at dksX5_next_5 12 rfl rfl)
theorem dX5_next_132 : decode cX5_next 132 = .ok (.iload 4, 2) := dk_21 4 (dk_at dksX5_next_5 14 rfl rfl)
theorem dX5_next_134 : decode cX5_next 134 = .ok (.imul, 1) := dk_104 (dk_at dksX5_next_5 16 rfl rfl)
theorem dX5_next_135 : decode cX5_next 135 = .ok (.iadd, 1) := dk_96 (dk_at dksX5_next_5 17 rfl rfl)
theorem dX5_next_136 : decode cX5_next 136 = .ok (.iload 5, 2) := dk_21 5 (dk_at dksX5_next_5 18 rfl rfl)
theorem dX5_next_138 : decode cX5_next 138 = .ok (.iadd, 1) := dk_96 (dk_at dksX5_next_5 20 rfl rfl)
theorem dX5_next_139 : decode cX5_next 139 = .ok (.ireturn, 1) := dk_172 (dk_at dksX5_next_5 21 rfl rfl)
theorem dX5_next_140 : decode cX5_next 140 = .ok (.iinc 5 1, 3) := dk_132 5 1 (dk_at dksX5_next_6 0 rfl rfl)
theorem dX5_next_143 : decode cX5_next 143 = .ok (.goto (-95), 3) := dk_167 255 161 (dk_at dksX5_next_6 3 rfl rfl)
theorem dX5_next_146 : decode cX5_next 146 = .ok (.iinc 4 1, 3) := dk_132 4 1 (dk_at dksX5_next_6 6 rfl rfl)
theorem dX5_next_149 : decode cX5_next 149 = .ok (.goto (-116), 3) := dk_167 255 140 (dk_at dksX5_next_6 9 rfl rfl)
theorem dX5_next_152 : decode cX5_next 152 = .ok (.iinc 3 1, 3) := dk_132 3 1 (dk_at dksX5_next_6 12 rfl rfl)
theorem dX5_next_155 : decode cX5_next 155 = .ok (.goto (-136), 3) := dk_167 255 120 (dk_at dksX5_next_6 15 rfl rfl)
theorem dX5_next_158 : decode cX5_next 158 = .ok (.aload_n 0, 1) := dk_42 (dk_at dksX5_next_6 18 rfl rfl)
theorem dX5_next_159 : decode cX5_next 159 = .ok (.dup, 1) := dk_89 (dk_at dksX5_next_6 19 rfl rfl)
theorem dX5_next_160 : decode cX5_next 160 = .ok (.getfield 147, 3) := dk_180 0 147 (dk_at dksX5_next_6 20 rfl rfl)
theorem dX5_next_163 : decode cX5_next 163 = .ok (.iconst 1, 1) := dk_4 (dk_at dksX5_next_6 23 rfl rfl)
theorem dX5_next_164 : decode cX5_next 164 = .ok (.iadd, 1) := dk_96 (dk_at dksX5_next_7 0 rfl rfl)
theorem dX5_next_165 : decode cX5_next 165 = .ok (.putfield 147, 3) := dk_181 0 147 (dk_at dksX5_next_7 1 rfl rfl)
theorem dX5_next_168 : decode cX5_next 168 = .ok (.bipush (-2), 2) := dk_16 254 (dk_at dksX5_next_7 4 rfl rfl)
theorem dX5_next_170 : decode cX5_next 170 = .ok (.ireturn, 1) := dk_172 (dk_at dksX5_next_7 6 rfl rfl)
abbrev cX5_step : ByteArray := prog_16_method_14_code
def yX5_step : MethodName := ⟨RX5, "step", "(III)I"⟩
def dkwX5_step_1 : List UInt8 := [182, 0, 150, 54, 4, 132, 5, 1, 167, 255, 241, 21, 4, 172]
abbrev dktX5_step_1 : List UInt8 := dkwX5_step_1 ++ []
def dkwX5_step_0 : List UInt8 := [42, 27, 181, 0, 144, 42, 28, 181, 0, 147, 16, 254, 54, 4, 3, 54, 5, 21, 5, 29, 163, 0, 15, 42]
abbrev dktX5_step_0 : List UInt8 := dkwX5_step_0 ++ dktX5_step_1
theorem dksX5_step_0 : cX5_step.data.toList.drop 0 = dktX5_step_0 := by decide +kernel
theorem dksX5_step_1 : cX5_step.data.toList.drop 24 = dktX5_step_1 := dk_seg dksX5_step_0 24 rfl rfl
theorem dX5_step_0 : decode cX5_step 0 = .ok (.aload_n 0, 1) := dk_42 (dk_at dksX5_step_0 0 rfl rfl)
theorem dX5_step_1 : decode cX5_step 1 = .ok (.iload_n 1, 1) := dk_27 (dk_at dksX5_step_0 1 rfl rfl)
theorem dX5_step_2 : decode cX5_step 2 = .ok (.putfield 144, 3) := dk_181 0 144 (dk_at dksX5_step_0 2 rfl rfl)
theorem dX5_step_5 : decode cX5_step 5 = .ok (.aload_n 0, 1) := dk_42 (dk_at dksX5_step_0 5 rfl rfl)
theorem dX5_step_6 : decode cX5_step 6 = .ok (.iload_n 2, 1) := dk_28 (dk_at dksX5_step_0 6 rfl rfl)
theorem dX5_step_7 : decode cX5_step 7 = .ok (.putfield 147, 3) := dk_181 0 147 (dk_at dksX5_step_0 7 rfl rfl)
theorem dX5_step_10 : decode cX5_step 10 = .ok (.bipush (-2), 2) := dk_16 254 (dk_at dksX5_step_0 10 rfl rfl)
theorem dX5_step_12 : decode cX5_step 12 = .ok (.istore 4, 2) := dk_54 4 (dk_at dksX5_step_0 12 rfl rfl)
theorem dX5_step_14 : decode cX5_step 14 = .ok (.iconst 0, 1) := dk_3 (dk_at dksX5_step_0 14 rfl rfl)
theorem dX5_step_15 : decode cX5_step 15 = .ok (.istore 5, 2) := dk_54 5 (dk_at dksX5_step_0 15 rfl rfl)
theorem dX5_step_17 : decode cX5_step 17 = .ok (.iload 5, 2) := dk_21 5 (dk_at dksX5_step_0 17 rfl rfl)
theorem dX5_step_19 : decode cX5_step 19 = .ok (.iload_n 3, 1) := dk_29 (dk_at dksX5_step_0 19 rfl rfl)
theorem dX5_step_20 : decode cX5_step 20 = .ok (.if_icmp .gt 15, 3) := dk_163 0 15 (dk_at dksX5_step_0 20 rfl rfl)
theorem dX5_step_23 : decode cX5_step 23 = .ok (.aload_n 0, 1) := dk_42 (dk_at dksX5_step_0 23 rfl rfl)
theorem dX5_step_24 : decode cX5_step 24 = .ok (.invokevirtual 150, 3) := dk_182 0 150 (dk_at dksX5_step_1 0 rfl rfl)
theorem dX5_step_27 : decode cX5_step 27 = .ok (.istore 4, 2) := dk_54 4 (dk_at dksX5_step_1 3 rfl rfl)
theorem dX5_step_29 : decode cX5_step 29 = .ok (.iinc 5 1, 3) := dk_132 5 1 (dk_at dksX5_step_1 5 rfl rfl)
theorem dX5_step_32 : decode cX5_step 32 = .ok (.goto (-15), 3) := dk_167 255 241 (dk_at dksX5_step_1 8 rfl rfl)
theorem dX5_step_35 : decode cX5_step 35 = .ok (.iload 4, 2) := dk_21 4 (dk_at dksX5_step_1 11 rfl rfl)
theorem dX5_step_37 : decode cX5_step 37 = .ok (.ireturn, 1) := dk_172 (dk_at dksX5_step_1 13 rfl rfl)
theorem q119 : (Jvm.Cond.initialized "RainWalk$Ways") ∈ lw_all := lw_g (lw_at lw_m1 8 rfl) rfl
theorem q291 : (Jvm.Cond.instantiable "RainWalk$Ways" (8 : Nat)) ∈ lw_all := lw_g (lw_at lw_m1 180 rfl) rfl
theorem q293 : (Jvm.Cond.instanceMethod ({ cls := "RainWalk$Ways", name := "<init>", desc := "()V" } : Jvm.MethodName)) ∈ lw_all := lw_g (lw_at lw_m1 182 rfl) rfl
theorem q294 : (Jvm.Cond.code ({ cls := "RainWalk$Ways", name := "<init>", desc := "()V" } : Jvm.MethodName) prog_16_method_1_code (1 : Nat) (Option.none : Option Jvm.ClassFile.FieldType)) ∈ lw_all := lw_g (lw_at lw_m1 183 rfl) rfl
theorem q295 : (Jvm.Cond.methodLink "RainWalk$Ways" (3 : Nat) ({ cls := "java/lang/Object", name := "<init>", desc := "()V" } : Jvm.MethodName)) ∈ lw_all := lw_g (lw_at lw_m1 184 rfl) rfl
theorem q296 : (Jvm.Cond.classLink "RainWalk$Ways" (18 : Nat) "RainWalk$Leg") ∈ lw_all := lw_g (lw_at lw_m1 185 rfl) rfl
theorem q297 : (Jvm.Cond.methodLinkNest "RainWalk$Ways" (20 : Nat) ({ cls := "RainWalk$Leg", name := "<init>", desc := "()V" } : Jvm.MethodName) "RainWalk") ∈ lw_tbl := lw_at lw_m1 186 rfl
theorem q298 : (Jvm.Cond.fieldLink "RainWalk$Ways" (9 : Nat) "RainWalk$Ways" "least" "[J") ∈ lw_all := lw_g (lw_at lw_m1 187 rfl) rfl
theorem q299 : (Jvm.Cond.fieldLink "RainWalk$Ways" (15 : Nat) "RainWalk$Ways" "means" "[J") ∈ lw_all := lw_g (lw_at lw_m1 188 rfl) rfl
theorem q300 : (Jvm.Cond.fieldLink "RainWalk$Ways" (21 : Nat) "RainWalk$Ways" "leg" "LRainWalk$Leg;") ∈ lw_all := lw_g (lw_at lw_m1 189 rfl) rfl
theorem q301 : (Jvm.Cond.fieldLink "RainWalk$Ways" (25 : Nat) "RainWalk$Ways" "world" "LRainWalk$World;") ∈ lw_all := lw_g (lw_at lw_m1 190 rfl) rfl
theorem q302 : (Jvm.Cond.fieldLink "RainWalk$Ways" (29 : Nat) "RainWalk$Ways" "walker" "LRainWalk$Walker;") ∈ lw_all := lw_g (lw_at lw_m1 191 rfl) rfl
theorem q303 : (Jvm.Cond.fieldLink "RainWalk$Ways" (33 : Nat) "RainWalk$Ways" "till" "I") ∈ lw_all := lw_g (lw_at lw_m1 192 rfl) rfl
theorem q304 : (Jvm.Cond.fieldLink "RainWalk$Ways" (144 : Nat) "RainWalk$Ways" "place" "I") ∈ lw_all := lw_g (lw_at lw_m1 193 rfl) rfl
theorem q305 : (Jvm.Cond.fieldLink "RainWalk$Ways" (147 : Nat) "RainWalk$Ways" "minute" "I") ∈ lw_all := lw_g (lw_at lw_m1 194 rfl) rfl
theorem q306 : (Jvm.Cond.laysFinal "RainWalk$Ways" "RainWalk$Ways" "least" "[J") ∈ lw_all := lw_g (lw_at lw_m1 195 rfl) rfl
theorem q307 : (Jvm.Cond.soleField "RainWalk$Ways" "least") ∈ lw_all := lw_g (lw_at lw_m1 196 rfl) rfl
theorem q308 : (Jvm.Cond.laysFinal "RainWalk$Ways" "RainWalk$Ways" "means" "[J") ∈ lw_all := lw_g (lw_at lw_m1 197 rfl) rfl
theorem q309 : (Jvm.Cond.soleField "RainWalk$Ways" "means") ∈ lw_all := lw_g (lw_at lw_m1 198 rfl) rfl
theorem q310 : (Jvm.Cond.laysFinal "RainWalk$Ways" "RainWalk$Ways" "leg" "LRainWalk$Leg;") ∈ lw_all := lw_g (lw_at lw_m1 199 rfl) rfl
theorem q311 : (Jvm.Cond.soleField "RainWalk$Ways" "leg") ∈ lw_all := lw_g (lw_at lw_m1 200 rfl) rfl
theorem q312 : (Jvm.Cond.lays "RainWalk$Ways" "RainWalk$Ways" "world" "LRainWalk$World;") ∈ lw_all := lw_g (lw_at lw_m1 201 rfl) rfl
theorem q313 : (Jvm.Cond.soleField "RainWalk$Ways" "world") ∈ lw_all := lw_g (lw_at lw_m1 202 rfl) rfl
theorem q314 : (Jvm.Cond.lays "RainWalk$Ways" "RainWalk$Ways" "walker" "LRainWalk$Walker;") ∈ lw_all := lw_g (lw_at lw_m1 203 rfl) rfl
theorem q315 : (Jvm.Cond.soleField "RainWalk$Ways" "walker") ∈ lw_all := lw_g (lw_at lw_m1 204 rfl) rfl
theorem q316 : (Jvm.Cond.lays "RainWalk$Ways" "RainWalk$Ways" "till" "I") ∈ lw_all := lw_g (lw_at lw_m1 205 rfl) rfl
theorem q317 : (Jvm.Cond.soleField "RainWalk$Ways" "till") ∈ lw_all := lw_g (lw_at lw_m1 206 rfl) rfl
theorem q318 : (Jvm.Cond.lays "RainWalk$Ways" "RainWalk$Ways" "place" "I") ∈ lw_all := lw_g (lw_at lw_m1 207 rfl) rfl
theorem q319 : (Jvm.Cond.soleField "RainWalk$Ways" "place") ∈ lw_all := lw_g (lw_at lw_m1 208 rfl) rfl
theorem q320 : (Jvm.Cond.lays "RainWalk$Ways" "RainWalk$Ways" "minute" "I") ∈ lw_all := lw_g (lw_at lw_m1 209 rfl) rfl
theorem q321 : (Jvm.Cond.soleField "RainWalk$Ways" "minute") ∈ lw_all := lw_g (lw_at lw_m1 210 rfl) rfl
theorem q322 : (Jvm.Cond.superclass "RainWalk$Ways" "java/lang/Object") ∈ lw_all := lw_g (lw_at lw_m1 211 rfl) rfl
theorem q443 : (Jvm.Cond.fieldLink "RainWalk$Ways" (62 : Nat) "RainWalk$World" "hours" "[LRainWalk$Rain;") ∈ lw_all := lw_g (lw_at lw_m2 92 rfl) rfl
theorem q447 : (Jvm.Cond.fieldLink "RainWalk$Ways" (125 : Nat) "RainWalk$World" "places" "[LRainWalk$Place;") ∈ lw_all := lw_g (lw_at lw_m2 96 rfl) rfl
theorem q451 : (Jvm.Cond.fieldLink "RainWalk$Ways" (74 : Nat) "RainWalk$World" "roads" "[LRainWalk$Road;") ∈ lw_all := lw_g (lw_at lw_m2 100 rfl) rfl
theorem q463 : (Jvm.Cond.fieldLink "RainWalk$Ways" (42 : Nat) "RainWalk$World" "hourMany" "I") ∈ lw_all := lw_g (lw_at lw_m2 112 rfl) rfl
theorem q468 : (Jvm.Cond.fieldLink "RainWalk$Ways" (49 : Nat) "RainWalk$World" "placeMany" "I") ∈ lw_all := lw_g (lw_at lw_m2 117 rfl) rfl
theorem q471 : (Jvm.Cond.fieldLink "RainWalk$Ways" (37 : Nat) "RainWalk$World" "roadMany" "I") ∈ lw_all := lw_g (lw_at lw_m2 120 rfl) rfl
theorem q730 : (Jvm.Cond.fieldLink "RainWalk$Ways" (90 : Nat) "RainWalk$Rain" "chance" "I") ∈ lw_all := lw_g (lw_at lw_m3 139 rfl) rfl
theorem q779 : (Jvm.Cond.fieldLink "RainWalk$Ways" (137 : Nat) "RainWalk$Place" "drips" "I") ∈ lw_all := lw_g (lw_at lw_m3 188 rfl) rfl
theorem q867 : (Jvm.Cond.fieldLink "RainWalk$Ways" (66 : Nat) "RainWalk$Walker" "slowest" "I") ∈ lw_all := lw_g (lw_at lw_m4 36 rfl) rfl
theorem q871 : (Jvm.Cond.fieldLink "RainWalk$Ways" (71 : Nat) "RainWalk$Walker" "fastest" "I") ∈ lw_all := lw_g (lw_at lw_m4 40 rfl) rfl
theorem q1209 : (Jvm.Cond.instanceMethod ({ cls := "RainWalk$Ways", name := "lay", desc := "(LRainWalk$World;LRainWalk$Walker;II)V" } : Jvm.MethodName)) ∈ lw_all := lw_g (lw_at lw_m5 138 rfl) rfl
theorem q1210 : (Jvm.Cond.selects "RainWalk$Ways" ({ cls := "RainWalk$Ways", name := "lay", desc := "(LRainWalk$World;LRainWalk$Walker;II)V" } : Jvm.MethodName) ({ cls := "RainWalk$Ways", name := "lay", desc := "(LRainWalk$World;LRainWalk$Walker;II)V" } : Jvm.MethodName)) ∈ lw_all := lw_g (lw_at lw_m5 139 rfl) rfl
theorem q1211 : (Jvm.Cond.code ({ cls := "RainWalk$Ways", name := "lay", desc := "(LRainWalk$World;LRainWalk$Walker;II)V" } : Jvm.MethodName) prog_16_method_3_code (7 : Nat) (Option.none : Option Jvm.ClassFile.FieldType)) ∈ lw_all := lw_g (lw_at lw_m5 140 rfl) rfl
theorem q1212 : (Jvm.Cond.methodLink "RainWalk$Ways" (45 : Nat) ({ cls := "RainWalk$Ways", name := "layMeans", desc := "(III)V" } : Jvm.MethodName)) ∈ lw_all := lw_g (lw_at lw_m5 141 rfl) rfl
theorem q1213 : (Jvm.Cond.privateMethod ({ cls := "RainWalk$Ways", name := "layMeans", desc := "(III)V" } : Jvm.MethodName)) ∈ lw_tbl := lw_at lw_m5 142 rfl
theorem q1214 : (Jvm.Cond.instanceMethod ({ cls := "RainWalk$Ways", name := "layMeans", desc := "(III)V" } : Jvm.MethodName)) ∈ lw_all := lw_g (lw_at lw_m5 143 rfl) rfl
theorem q1215 : (Jvm.Cond.code ({ cls := "RainWalk$Ways", name := "layMeans", desc := "(III)V" } : Jvm.MethodName) prog_16_method_4_code (6 : Nat) (Option.none : Option Jvm.ClassFile.FieldType)) ∈ lw_all := lw_g (lw_at lw_m5 144 rfl) rfl
theorem q1216 : (Jvm.Cond.methodLink "RainWalk$Ways" (78 : Nat) ({ cls := "RainWalk$Leg", name := "lay", desc := "(LRainWalk$Walker;LRainWalk$Road;ILRainWalk$Rain;I)V" } : Jvm.MethodName)) ∈ lw_all := lw_g (lw_at lw_m5 145 rfl) rfl
theorem q1217 : (Jvm.Cond.methodLink "RainWalk$Ways" (82 : Nat) ({ cls := "RainWalk$Ways", name := "cell", desc := "(IIII)I" } : Jvm.MethodName)) ∈ lw_all := lw_g (lw_at lw_m5 146 rfl) rfl
theorem q1218 : (Jvm.Cond.static ({ cls := "RainWalk$Ways", name := "cell", desc := "(IIII)I" } : Jvm.MethodName)) ∈ lw_all := lw_g (lw_at lw_m5 147 rfl) rfl
theorem q1219 : (Jvm.Cond.code ({ cls := "RainWalk$Ways", name := "cell", desc := "(IIII)I" } : Jvm.MethodName) prog_16_method_2_code (4 : Nat) (Option.some Jvm.ClassFile.FieldType.int)) ∈ lw_all := lw_g (lw_at lw_m5 148 rfl) rfl
theorem q1220 : (Jvm.Cond.methodLink "RainWalk$Ways" (86 : Nat) ({ cls := "RainWalk$Leg", name := "wet", desc := "()J" } : Jvm.MethodName)) ∈ lw_all := lw_g (lw_at lw_m5 149 rfl) rfl
theorem q1221 : (Jvm.Cond.methodLink "RainWalk$Ways" (52 : Nat) ({ cls := "RainWalk$Ways", name := "at", desc := "(II)I" } : Jvm.MethodName)) ∈ lw_all := lw_g (lw_at lw_m5 150 rfl) rfl
theorem q1222 : (Jvm.Cond.static ({ cls := "RainWalk$Ways", name := "at", desc := "(II)I" } : Jvm.MethodName)) ∈ lw_all := lw_g (lw_at lw_m5 151 rfl) rfl
theorem q1223 : (Jvm.Cond.code ({ cls := "RainWalk$Ways", name := "at", desc := "(II)I" } : Jvm.MethodName) prog_16_method_5_code (2 : Nat) (Option.some Jvm.ClassFile.FieldType.int)) ∈ lw_all := lw_g (lw_at lw_m5 152 rfl) rfl
theorem q1224 : (Jvm.Cond.constantLong "RainWalk$Ways" (56 : Nat) (1000000000000000000 : Int64)) ∈ lw_all := lw_g (lw_at lw_m5 153 rfl) rfl
theorem q1225 : (Jvm.Cond.methodLink "RainWalk$Ways" (58 : Nat) ({ cls := "RainWalk$Ways", name := "best", desc := "(II)J" } : Jvm.MethodName)) ∈ lw_all := lw_g (lw_at lw_m5 154 rfl) rfl
theorem q1226 : (Jvm.Cond.privateMethod ({ cls := "RainWalk$Ways", name := "best", desc := "(II)J" } : Jvm.MethodName)) ∈ lw_tbl := lw_at lw_m5 155 rfl
theorem q1227 : (Jvm.Cond.instanceMethod ({ cls := "RainWalk$Ways", name := "best", desc := "(II)J" } : Jvm.MethodName)) ∈ lw_all := lw_g (lw_at lw_m5 156 rfl) rfl
theorem q1228 : (Jvm.Cond.code ({ cls := "RainWalk$Ways", name := "best", desc := "(II)J" } : Jvm.MethodName) prog_16_method_6_code (8 : Nat) (Option.some Jvm.ClassFile.FieldType.long)) ∈ lw_all := lw_g (lw_at lw_m5 157 rfl) rfl
theorem q1229 : (Jvm.Cond.methodLink "RainWalk$Ways" (95 : Nat) ({ cls := "RainWalk$Ways", name := "byWaiting", desc := "(II)J" } : Jvm.MethodName)) ∈ lw_all := lw_g (lw_at lw_m5 158 rfl) rfl
theorem q1230 : (Jvm.Cond.privateMethod ({ cls := "RainWalk$Ways", name := "byWaiting", desc := "(II)J" } : Jvm.MethodName)) ∈ lw_tbl := lw_at lw_m5 159 rfl
theorem q1231 : (Jvm.Cond.instanceMethod ({ cls := "RainWalk$Ways", name := "byWaiting", desc := "(II)J" } : Jvm.MethodName)) ∈ lw_all := lw_g (lw_at lw_m5 160 rfl) rfl
theorem q1232 : (Jvm.Cond.code ({ cls := "RainWalk$Ways", name := "byWaiting", desc := "(II)J" } : Jvm.MethodName) prog_16_method_8_code (5 : Nat) (Option.some Jvm.ClassFile.FieldType.long)) ∈ lw_all := lw_g (lw_at lw_m5 161 rfl) rfl
theorem q1233 : (Jvm.Cond.methodLink "RainWalk$Ways" (129 : Nat) ({ cls := "RainWalk$Place", name := "isShelter", desc := "()Z" } : Jvm.MethodName)) ∈ lw_all := lw_g (lw_at lw_m5 162 rfl) rfl
theorem q1237 : (Jvm.Cond.methodLink "RainWalk$Ways" (120 : Nat) ({ cls := "RainWalk$World", name := "hourOf", desc := "(I)I" } : Jvm.MethodName)) ∈ lw_all := lw_g (lw_at lw_m5 166 rfl) rfl
theorem q1241 : (Jvm.Cond.constantLong "RainWalk$Ways" (123 : Nat) (1000 : Int64)) ∈ lw_all := lw_g (lw_at lw_m5 170 rfl) rfl
theorem q1242 : (Jvm.Cond.constantLong "RainWalk$Ways" (135 : Nat) (2520 : Int64)) ∈ lw_all := lw_g (lw_at lw_m5 171 rfl) rfl
theorem q1243 : (Jvm.Cond.methodLink "RainWalk$Ways" (140 : Nat) ({ cls := "RainWalk$Walker", name := "topLeft", desc := "()I" } : Jvm.MethodName)) ∈ lw_all := lw_g (lw_at lw_m5 172 rfl) rfl
theorem q1244 : (Jvm.Cond.methodLink "RainWalk$Ways" (98 : Nat) ({ cls := "RainWalk$Ways", name := "byLeg", desc := "(IIIII)J" } : Jvm.MethodName)) ∈ lw_all := lw_g (lw_at lw_m5 173 rfl) rfl
theorem q1245 : (Jvm.Cond.privateMethod ({ cls := "RainWalk$Ways", name := "byLeg", desc := "(IIIII)J" } : Jvm.MethodName)) ∈ lw_tbl := lw_at lw_m5 174 rfl
theorem q1246 : (Jvm.Cond.instanceMethod ({ cls := "RainWalk$Ways", name := "byLeg", desc := "(IIIII)J" } : Jvm.MethodName)) ∈ lw_all := lw_g (lw_at lw_m5 175 rfl) rfl
theorem q1247 : (Jvm.Cond.code ({ cls := "RainWalk$Ways", name := "byLeg", desc := "(IIIII)J" } : Jvm.MethodName) prog_16_method_7_code (9 : Nat) (Option.some Jvm.ClassFile.FieldType.long)) ∈ lw_all := lw_g (lw_at lw_m5 176 rfl) rfl
theorem q1248 : (Jvm.Cond.methodLink "RainWalk$Ways" (108 : Nat) ({ cls := "RainWalk$Road", name := "minutes", desc := "(I)I" } : Jvm.MethodName)) ∈ lw_all := lw_g (lw_at lw_m5 177 rfl) rfl
theorem q1249 : (Jvm.Cond.methodLink "RainWalk$Ways" (114 : Nat) ({ cls := "RainWalk$Road", name := "begin", desc := "(I)I" } : Jvm.MethodName)) ∈ lw_all := lw_g (lw_at lw_m5 178 rfl) rfl
theorem q1253 : (Jvm.Cond.methodLink "RainWalk$Ways" (117 : Nat) ({ cls := "RainWalk$Road", name := "end", desc := "(I)I" } : Jvm.MethodName)) ∈ lw_all := lw_g (lw_at lw_m5 182 rfl) rfl
theorem q1257 : (Jvm.Cond.methodLink "RainWalk$Ways" (102 : Nat) ({ cls := "java/lang/Math", name := "min", desc := "(JJ)J" } : Jvm.MethodName)) ∈ lw_all := lw_g (lw_at lw_m5 186 rfl) rfl
theorem q1261 : (Jvm.Cond.instanceMethod ({ cls := "RainWalk$Ways", name := "hasWay", desc := "(II)Z" } : Jvm.MethodName)) ∈ lw_all := lw_g (lw_at lw_m5 190 rfl) rfl
theorem q1262 : (Jvm.Cond.selects "RainWalk$Ways" ({ cls := "RainWalk$Ways", name := "hasWay", desc := "(II)Z" } : Jvm.MethodName) ({ cls := "RainWalk$Ways", name := "hasWay", desc := "(II)Z" } : Jvm.MethodName)) ∈ lw_all := lw_g (lw_at lw_m5 191 rfl) rfl
theorem q1263 : (Jvm.Cond.code ({ cls := "RainWalk$Ways", name := "hasWay", desc := "(II)Z" } : Jvm.MethodName) prog_16_method_9_code (3 : Nat) (Option.some Jvm.ClassFile.FieldType.boolean)) ∈ lw_all := lw_g (lw_at lw_m5 192 rfl) rfl
theorem q1265 : (Jvm.Cond.instanceMethod ({ cls := "RainWalk$Ways", name := "mean", desc := "(II)J" } : Jvm.MethodName)) ∈ lw_all := lw_g (lw_at lw_m5 194 rfl) rfl
theorem q1266 : (Jvm.Cond.selects "RainWalk$Ways" ({ cls := "RainWalk$Ways", name := "mean", desc := "(II)J" } : Jvm.MethodName) ({ cls := "RainWalk$Ways", name := "mean", desc := "(II)J" } : Jvm.MethodName)) ∈ lw_all := lw_g (lw_at lw_m5 195 rfl) rfl
theorem q1267 : (Jvm.Cond.code ({ cls := "RainWalk$Ways", name := "mean", desc := "(II)J" } : Jvm.MethodName) prog_16_method_10_code (3 : Nat) (Option.some Jvm.ClassFile.FieldType.long)) ∈ lw_all := lw_g (lw_at lw_m5 196 rfl) rfl
theorem q1273 : (Jvm.Cond.instanceMethod ({ cls := "RainWalk$Ways", name := "there", desc := "(II)I" } : Jvm.MethodName)) ∈ lw_all := lw_g (lw_at lw_m5 202 rfl) rfl
theorem q1274 : (Jvm.Cond.selects "RainWalk$Ways" ({ cls := "RainWalk$Ways", name := "there", desc := "(II)I" } : Jvm.MethodName) ({ cls := "RainWalk$Ways", name := "there", desc := "(II)I" } : Jvm.MethodName)) ∈ lw_all := lw_g (lw_at lw_m5 203 rfl) rfl
theorem q1275 : (Jvm.Cond.code ({ cls := "RainWalk$Ways", name := "there", desc := "(II)I" } : Jvm.MethodName) prog_16_method_11_code (3 : Nat) (Option.some Jvm.ClassFile.FieldType.int)) ∈ lw_all := lw_g (lw_at lw_m5 204 rfl) rfl
theorem q1281 : (Jvm.Cond.instanceMethod ({ cls := "RainWalk$Ways", name := "steps", desc := "(III)I" } : Jvm.MethodName)) ∈ lw_all := lw_g (lw_at lw_m5 210 rfl) rfl
theorem q1282 : (Jvm.Cond.selects "RainWalk$Ways" ({ cls := "RainWalk$Ways", name := "steps", desc := "(III)I" } : Jvm.MethodName) ({ cls := "RainWalk$Ways", name := "steps", desc := "(III)I" } : Jvm.MethodName)) ∈ lw_all := lw_g (lw_at lw_m5 211 rfl) rfl
theorem q1283 : (Jvm.Cond.code ({ cls := "RainWalk$Ways", name := "steps", desc := "(III)I" } : Jvm.MethodName) prog_16_method_13_code (5 : Nat) (Option.some Jvm.ClassFile.FieldType.int)) ∈ lw_all := lw_g (lw_at lw_m5 212 rfl) rfl
theorem q1284 : (Jvm.Cond.methodLink "RainWalk$Ways" (150 : Nat) ({ cls := "RainWalk$Ways", name := "next", desc := "()I" } : Jvm.MethodName)) ∈ lw_all := lw_g (lw_at lw_m5 213 rfl) rfl
theorem q1285 : (Jvm.Cond.privateMethod ({ cls := "RainWalk$Ways", name := "next", desc := "()I" } : Jvm.MethodName)) ∈ lw_tbl := lw_at lw_m5 214 rfl
theorem q1286 : (Jvm.Cond.instanceMethod ({ cls := "RainWalk$Ways", name := "next", desc := "()I" } : Jvm.MethodName)) ∈ lw_all := lw_g (lw_at lw_m5 215 rfl) rfl
theorem q1287 : (Jvm.Cond.code ({ cls := "RainWalk$Ways", name := "next", desc := "()I" } : Jvm.MethodName) prog_16_method_12_code (6 : Nat) (Option.some Jvm.ClassFile.FieldType.int)) ∈ lw_all := lw_g (lw_at lw_m5 216 rfl) rfl
theorem q1293 : (Jvm.Cond.instanceMethod ({ cls := "RainWalk$Ways", name := "step", desc := "(III)I" } : Jvm.MethodName)) ∈ lw_all := lw_g (lw_at lw_m5 222 rfl) rfl
theorem q1294 : (Jvm.Cond.selects "RainWalk$Ways" ({ cls := "RainWalk$Ways", name := "step", desc := "(III)I" } : Jvm.MethodName) ({ cls := "RainWalk$Ways", name := "step", desc := "(III)I" } : Jvm.MethodName)) ∈ lw_all := lw_g (lw_at lw_m5 223 rfl) rfl
theorem q1295 : (Jvm.Cond.code ({ cls := "RainWalk$Ways", name := "step", desc := "(III)I" } : Jvm.MethodName) prog_16_method_14_code (6 : Nat) (Option.some Jvm.ClassFile.FieldType.int)) ∈ lw_all := lw_g (lw_at lw_m5 224 rfl) rfl
theorem q2218 : (Jvm.Cond.castable "RainWalk$Ways" "java/lang/Object") ∈ lw_tbl := lw_at lw_m9 187 rfl
theorem in_X5 : ∀ w ∈ wsX50, w ∈ lw_all := lw_in wsX50 [306, 308, 310, 312, 314, 316, 318, 320] (by decide +kernel) (by decide +kernel)
/-! RainWalk$Day -/
set_option maxRecDepth 100000
def RX6 : String := "RainWalk$Day"
def TX6 : u_T := fun k => match k with
  | 0 => ("RainWalk$Day", "got", "[J", true)
  | 1 => ("RainWalk$Day", "place", "I", false)
  | _ => ("RainWalk$Day", "minute", "I", false)
def tyX6 : Nat → FieldType := fun k => match k with
  | 0 => .array .long
  | 1 => .int
  | _ => .int
abbrev wsX60 : List Cond := u_ws RX6 TX6 3
theorem nmX6 : ∀ a, a < 3 → ∀ b, b < 3 → a ≠ b → (TX6 a).2.1 ≠ (TX6 b).2.1 := by decide +kernel
theorem tyX6_ok : ∀ k, k < 3 → parseFieldDescriptor (TX6 k).2.2.1 = some (tyX6 k) := by decide +kernel
abbrev cX6_init : ByteArray := prog_4_method_1_code
def yX6_init : MethodName := ⟨RX6, "<init>", "()V"⟩
def dkwX6_init_0 : List UInt8 := [42, 183, 0, 3, 42, 8, 188, 11, 181, 0, 9, 177]
abbrev dktX6_init_0 : List UInt8 := dkwX6_init_0 ++ []
theorem dksX6_init_0 : cX6_init.data.toList.drop 0 = dktX6_init_0 := by decide +kernel
theorem dX6_init_0 : decode cX6_init 0 = .ok (.aload_n 0, 1) := dk_42 (dk_at dksX6_init_0 0 rfl rfl)
theorem dX6_init_1 : decode cX6_init 1 = .ok (.invokespecial 3, 3) := dk_183 0 3 (dk_at dksX6_init_0 1 rfl rfl)
theorem dX6_init_4 : decode cX6_init 4 = .ok (.aload_n 0, 1) := dk_42 (dk_at dksX6_init_0 4 rfl rfl)
theorem dX6_init_5 : decode cX6_init 5 = .ok (.iconst 5, 1) := dk_8 (dk_at dksX6_init_0 5 rfl rfl)
theorem dX6_init_6 : decode cX6_init 6 = .ok (.newarray .long, 2) := dk_188_11 (dk_at dksX6_init_0 6 rfl rfl)
theorem dX6_init_8 : decode cX6_init 8 = .ok (.putfield 9, 3) := dk_181 0 9 (dk_at dksX6_init_0 8 rfl rfl)
theorem dX6_init_11 : decode cX6_init 11 = .ok (.return_, 1) := dk_177 (dk_at dksX6_init_0 11 rfl rfl)
abbrev cX6_become : ByteArray := prog_4_method_2_code
def yX6_become : MethodName := ⟨RX6, "become", "(LRainWalk$Day;)V"⟩
def dkwX6_become_1 : List UInt8 := [180, 0, 9, 3, 8, 184, 0, 22, 177]
abbrev dktX6_become_1 : List UInt8 := dkwX6_become_1 ++ []
def dkwX6_become_0 : List UInt8 := [42, 43, 180, 0, 15, 181, 0, 15, 42, 43, 180, 0, 19, 181, 0, 19, 43, 180, 0, 9, 3, 42]
abbrev dktX6_become_0 : List UInt8 := dkwX6_become_0 ++ dktX6_become_1
theorem dksX6_become_0 : cX6_become.data.toList.drop 0 = dktX6_become_0 := by decide +kernel
theorem dksX6_become_1 : cX6_become.data.toList.drop 22 = dktX6_become_1 := dk_seg dksX6_become_0 22 rfl rfl
theorem dX6_become_0 : decode cX6_become 0 = .ok (.aload_n 0, 1) := dk_42 (dk_at dksX6_become_0 0 rfl rfl)
theorem dX6_become_1 : decode cX6_become 1 = .ok (.aload_n 1, 1) := dk_43 (dk_at dksX6_become_0 1 rfl rfl)
theorem dX6_become_2 : decode cX6_become 2 = .ok (.getfield 15, 3) := dk_180 0 15 (dk_at dksX6_become_0 2 rfl rfl)
theorem dX6_become_5 : decode cX6_become 5 = .ok (.putfield 15, 3) := dk_181 0 15 (dk_at dksX6_become_0 5 rfl rfl)
theorem dX6_become_8 : decode cX6_become 8 = .ok (.aload_n 0, 1) := dk_42 (dk_at dksX6_become_0 8 rfl rfl)
theorem dX6_become_9 : decode cX6_become 9 = .ok (.aload_n 1, 1) := dk_43 (dk_at dksX6_become_0 9 rfl rfl)
theorem dX6_become_10 : decode cX6_become 10 = .ok (.getfield 19, 3) := dk_180 0 19 (dk_at dksX6_become_0 10 rfl rfl)
theorem dX6_become_13 : decode cX6_become 13 = .ok (.putfield 19, 3) := dk_181 0 19 (dk_at dksX6_become_0 13 rfl rfl)
theorem dX6_become_16 : decode cX6_become 16 = .ok (.aload_n 1, 1) := dk_43 (dk_at dksX6_become_0 16 rfl rfl)
theorem dX6_become_17 : decode cX6_become 17 = .ok (.getfield 9, 3) := dk_180 0 9 (dk_at dksX6_become_0 17 rfl rfl)
theorem dX6_become_20 : decode cX6_become 20 = .ok (.iconst 0, 1) := dk_3 (dk_at dksX6_become_0 20 rfl rfl)
theorem dX6_become_21 : decode cX6_become 21 = .ok (.aload_n 0, 1) := dk_42 (dk_at dksX6_become_0 21 rfl rfl)
theorem dX6_become_22 : decode cX6_become 22 = .ok (.getfield 9, 3) := dk_180 0 9 (dk_at dksX6_become_1 0 rfl rfl)
theorem dX6_become_25 : decode cX6_become 25 = .ok (.iconst 0, 1) := dk_3 (dk_at dksX6_become_1 3 rfl rfl)
theorem dX6_become_26 : decode cX6_become 26 = .ok (.iconst 5, 1) := dk_8 (dk_at dksX6_become_1 4 rfl rfl)
theorem dX6_become_27 : decode cX6_become 27 = .ok (.invokestatic 22, 3) := dk_184 0 22 (dk_at dksX6_become_1 5 rfl rfl)
theorem dX6_become_30 : decode cX6_become 30 = .ok (.return_, 1) := dk_177 (dk_at dksX6_become_1 8 rfl rfl)
abbrev cX6_all : ByteArray := prog_4_method_3_code
def yX6_all : MethodName := ⟨RX6, "all", "()J"⟩
def dkwX6_all_1 : List UInt8 := [31, 173]
abbrev dktX6_all_1 : List UInt8 := dkwX6_all_1 ++ []
def dkwX6_all_0 : List UInt8 := [9, 64, 3, 62, 29, 8, 162, 0, 18, 31, 42, 180, 0, 9, 29, 47, 97, 64, 132, 3, 1, 167, 255, 239]
abbrev dktX6_all_0 : List UInt8 := dkwX6_all_0 ++ dktX6_all_1
theorem dksX6_all_0 : cX6_all.data.toList.drop 0 = dktX6_all_0 := by decide +kernel
theorem dksX6_all_1 : cX6_all.data.toList.drop 24 = dktX6_all_1 := dk_seg dksX6_all_0 24 rfl rfl
theorem dX6_all_0 : decode cX6_all 0 = .ok (.lconst 0, 1) := dk_9 (dk_at dksX6_all_0 0 rfl rfl)
theorem dX6_all_1 : decode cX6_all 1 = .ok (.lstore_n 1, 1) := dk_64 (dk_at dksX6_all_0 1 rfl rfl)
theorem dX6_all_2 : decode cX6_all 2 = .ok (.iconst 0, 1) := dk_3 (dk_at dksX6_all_0 2 rfl rfl)
theorem dX6_all_3 : decode cX6_all 3 = .ok (.istore_n 3, 1) := dk_62 (dk_at dksX6_all_0 3 rfl rfl)
theorem dX6_all_4 : decode cX6_all 4 = .ok (.iload_n 3, 1) := dk_29 (dk_at dksX6_all_0 4 rfl rfl)
theorem dX6_all_5 : decode cX6_all 5 = .ok (.iconst 5, 1) := dk_8 (dk_at dksX6_all_0 5 rfl rfl)
theorem dX6_all_6 : decode cX6_all 6 = .ok (.if_icmp .ge 18, 3) := dk_162 0 18 (dk_at dksX6_all_0 6 rfl rfl)
theorem dX6_all_9 : decode cX6_all 9 = .ok (.lload_n 1, 1) := dk_31 (dk_at dksX6_all_0 9 rfl rfl)
theorem dX6_all_10 : decode cX6_all 10 = .ok (.aload_n 0, 1) := dk_42 (dk_at dksX6_all_0 10 rfl rfl)
theorem dX6_all_11 : decode cX6_all 11 = .ok (.getfield 9, 3) := dk_180 0 9 (dk_at dksX6_all_0 11 rfl rfl)
theorem dX6_all_14 : decode cX6_all 14 = .ok (.iload_n 3, 1) := dk_29 (dk_at dksX6_all_0 14 rfl rfl)
theorem dX6_all_15 : decode cX6_all 15 = .ok (.laload, 1) := dk_47 (dk_at dksX6_all_0 15 rfl rfl)
theorem dX6_all_16 : decode cX6_all 16 = .ok (.ladd, 1) := dk_97 (dk_at dksX6_all_0 16 rfl rfl)
theorem dX6_all_17 : decode cX6_all 17 = .ok (.lstore_n 1, 1) := dk_64 (dk_at dksX6_all_0 17 rfl rfl)
theorem dX6_all_18 : decode cX6_all 18 = .ok (.iinc 3 1, 3) := dk_132 3 1 (dk_at dksX6_all_0 18 rfl rfl)
theorem dX6_all_21 : decode cX6_all 21 = .ok (.goto (-17), 3) := dk_167 255 239 (dk_at dksX6_all_0 21 rfl rfl)
theorem dX6_all_24 : decode cX6_all 24 = .ok (.lload_n 1, 1) := dk_31 (dk_at dksX6_all_1 0 rfl rfl)
theorem dX6_all_25 : decode cX6_all 25 = .ok (.lreturn, 1) := dk_173 (dk_at dksX6_all_1 1 rfl rfl)
theorem q120 : (Jvm.Cond.initialized "RainWalk$Day") ∈ lw_all := lw_g (lw_at lw_m1 9 rfl) rfl
theorem q324 : (Jvm.Cond.instantiable "RainWalk$Day" (3 : Nat)) ∈ lw_all := lw_g (lw_at lw_m1 213 rfl) rfl
theorem q326 : (Jvm.Cond.instanceMethod ({ cls := "RainWalk$Day", name := "<init>", desc := "()V" } : Jvm.MethodName)) ∈ lw_all := lw_g (lw_at lw_m1 215 rfl) rfl
theorem q327 : (Jvm.Cond.code ({ cls := "RainWalk$Day", name := "<init>", desc := "()V" } : Jvm.MethodName) prog_4_method_1_code (1 : Nat) (Option.none : Option Jvm.ClassFile.FieldType)) ∈ lw_all := lw_g (lw_at lw_m1 216 rfl) rfl
theorem q328 : (Jvm.Cond.methodLink "RainWalk$Day" (3 : Nat) ({ cls := "java/lang/Object", name := "<init>", desc := "()V" } : Jvm.MethodName)) ∈ lw_all := lw_g (lw_at lw_m1 217 rfl) rfl
theorem q329 : (Jvm.Cond.fieldLink "RainWalk$Day" (9 : Nat) "RainWalk$Day" "got" "[J") ∈ lw_all := lw_g (lw_at lw_m1 218 rfl) rfl
theorem q331 : (Jvm.Cond.fieldLink "RainWalk$Day" (15 : Nat) "RainWalk$Day" "place" "I") ∈ lw_all := lw_g (lw_at lw_m1 220 rfl) rfl
theorem q333 : (Jvm.Cond.fieldLink "RainWalk$Day" (19 : Nat) "RainWalk$Day" "minute" "I") ∈ lw_all := lw_g (lw_at lw_m1 222 rfl) rfl
theorem q335 : (Jvm.Cond.laysFinal "RainWalk$Day" "RainWalk$Day" "got" "[J") ∈ lw_all := lw_g (lw_at lw_m1 224 rfl) rfl
theorem q336 : (Jvm.Cond.soleField "RainWalk$Day" "got") ∈ lw_all := lw_g (lw_at lw_m1 225 rfl) rfl
theorem q337 : (Jvm.Cond.lays "RainWalk$Day" "RainWalk$Day" "place" "I") ∈ lw_all := lw_g (lw_at lw_m1 226 rfl) rfl
theorem q338 : (Jvm.Cond.soleField "RainWalk$Day" "place") ∈ lw_all := lw_g (lw_at lw_m1 227 rfl) rfl
theorem q339 : (Jvm.Cond.lays "RainWalk$Day" "RainWalk$Day" "minute" "I") ∈ lw_all := lw_g (lw_at lw_m1 228 rfl) rfl
theorem q340 : (Jvm.Cond.soleField "RainWalk$Day" "minute") ∈ lw_all := lw_g (lw_at lw_m1 229 rfl) rfl
theorem q341 : (Jvm.Cond.superclass "RainWalk$Day" "java/lang/Object") ∈ lw_all := lw_g (lw_at lw_m1 230 rfl) rfl
theorem q1346 : (Jvm.Cond.instanceMethod ({ cls := "RainWalk$Day", name := "become", desc := "(LRainWalk$Day;)V" } : Jvm.MethodName)) ∈ lw_all := lw_g (lw_at lw_m6 35 rfl) rfl
theorem q1347 : (Jvm.Cond.selects "RainWalk$Day" ({ cls := "RainWalk$Day", name := "become", desc := "(LRainWalk$Day;)V" } : Jvm.MethodName) ({ cls := "RainWalk$Day", name := "become", desc := "(LRainWalk$Day;)V" } : Jvm.MethodName)) ∈ lw_all := lw_g (lw_at lw_m6 36 rfl) rfl
theorem q1348 : (Jvm.Cond.code ({ cls := "RainWalk$Day", name := "become", desc := "(LRainWalk$Day;)V" } : Jvm.MethodName) prog_4_method_2_code (2 : Nat) (Option.none : Option Jvm.ClassFile.FieldType)) ∈ lw_all := lw_g (lw_at lw_m6 37 rfl) rfl
theorem q1349 : (Jvm.Cond.methodLink "RainWalk$Day" (22 : Nat) ({ cls := "java/lang/System", name := "arraycopy", desc := "(Ljava/lang/Object;ILjava/lang/Object;II)V" } : Jvm.MethodName)) ∈ lw_all := lw_g (lw_at lw_m6 38 rfl) rfl
theorem q1395 : (Jvm.Cond.instanceMethod ({ cls := "RainWalk$Day", name := "all", desc := "()J" } : Jvm.MethodName)) ∈ lw_all := lw_g (lw_at lw_m6 84 rfl) rfl
theorem q1396 : (Jvm.Cond.selects "RainWalk$Day" ({ cls := "RainWalk$Day", name := "all", desc := "()J" } : Jvm.MethodName) ({ cls := "RainWalk$Day", name := "all", desc := "()J" } : Jvm.MethodName)) ∈ lw_all := lw_g (lw_at lw_m6 85 rfl) rfl
theorem q1397 : (Jvm.Cond.code ({ cls := "RainWalk$Day", name := "all", desc := "()J" } : Jvm.MethodName) prog_4_method_3_code (4 : Nat) (Option.some Jvm.ClassFile.FieldType.long)) ∈ lw_all := lw_g (lw_at lw_m6 86 rfl) rfl
theorem q2219 : (Jvm.Cond.castable "RainWalk$Day" "java/lang/Object") ∈ lw_tbl := lw_at lw_m9 188 rfl
theorem in_X6 : ∀ w ∈ wsX60, w ∈ lw_all := lw_in wsX60 [335, 337, 339] (by decide +kernel) (by decide +kernel)
/-! RainWalk$World -/
set_option maxRecDepth 100000
def RX8 : String := "RainWalk$World"
def TX8 : u_T := fun k => match k with
  | 0 => ("RainWalk$World", "hours", "[LRainWalk$Rain;", true)
  | 1 => ("RainWalk$World", "places", "[LRainWalk$Place;", true)
  | 2 => ("RainWalk$World", "roads", "[LRainWalk$Road;", true)
  | 3 => ("RainWalk$World", "walkers", "[LRainWalk$Walker;", true)
  | 4 => ("RainWalk$World", "seen", "[LRainWalk$Seen;", true)
  | 5 => ("RainWalk$World", "hour", "I", false)
  | 6 => ("RainWalk$World", "hourMany", "I", false)
  | 7 => ("RainWalk$World", "placeMany", "I", false)
  | 8 => ("RainWalk$World", "roadMany", "I", false)
  | 9 => ("RainWalk$World", "walkerMany", "I", false)
  | _ => ("RainWalk$World", "seenMany", "I", false)
def tyX8 : Nat → FieldType := fun k => match k with
  | 0 => .array (.object "RainWalk$Rain")
  | 1 => .array (.object "RainWalk$Place")
  | 2 => .array (.object "RainWalk$Road")
  | 3 => .array (.object "RainWalk$Walker")
  | 4 => .array (.object "RainWalk$Seen")
  | 5 => .int
  | 6 => .int
  | 7 => .int
  | 8 => .int
  | 9 => .int
  | _ => .int
abbrev wsX80 : List Cond := u_ws RX8 TX8 11
theorem nmX8 : ∀ a, a < 11 → ∀ b, b < 11 → a ≠ b → (TX8 a).2.1 ≠ (TX8 b).2.1 := by decide +kernel
theorem tyX8_ok : ∀ k, k < 11 → parseFieldDescriptor (TX8 k).2.2.1 = some (tyX8 k) := by decide +kernel
abbrev cX8_init : ByteArray := prog_17_method_1_code
def yX8_init : MethodName := ⟨RX8, "<init>", "()V"⟩
def dkwX8_init_2 : List UInt8 := [177]
abbrev dktX8_init_2 : List UInt8 := dkwX8_init_2 ++ []
def dkwX8_init_1 : List UInt8 := [16, 12, 189, 0, 23, 181, 0, 25, 42, 7, 189, 0, 29, 181, 0, 31, 42, 7, 189, 0, 35, 181, 0, 37]
abbrev dktX8_init_1 : List UInt8 := dkwX8_init_1 ++ dktX8_init_2
def dkwX8_init_0 : List UInt8 := [42, 183, 0, 3, 42, 16, 6, 189, 0, 9, 181, 0, 11, 42, 16, 8, 189, 0, 17, 181, 0, 19, 42]
abbrev dktX8_init_0 : List UInt8 := dkwX8_init_0 ++ dktX8_init_1
theorem dksX8_init_0 : cX8_init.data.toList.drop 0 = dktX8_init_0 := by decide +kernel
theorem dksX8_init_1 : cX8_init.data.toList.drop 23 = dktX8_init_1 := dk_seg dksX8_init_0 23 rfl rfl
theorem dksX8_init_2 : cX8_init.data.toList.drop 47 = dktX8_init_2 := dk_seg dksX8_init_1 24 rfl rfl
theorem dX8_init_0 : decode cX8_init 0 = .ok (.aload_n 0, 1) := dk_42 (dk_at dksX8_init_0 0 rfl rfl)
theorem dX8_init_1 : decode cX8_init 1 = .ok (.invokespecial 3, 3) := dk_183 0 3 (dk_at dksX8_init_0 1 rfl rfl)
theorem dX8_init_4 : decode cX8_init 4 = .ok (.aload_n 0, 1) := dk_42 (dk_at dksX8_init_0 4 rfl rfl)
theorem dX8_init_5 : decode cX8_init 5 = .ok (.bipush 6, 2) := dk_16 6 (dk_at dksX8_init_0 5 rfl rfl)
theorem dX8_init_7 : decode cX8_init 7 = .ok (.anewarray 9, 3) := dk_189 0 9 (dk_at dksX8_init_0 7 rfl rfl)
theorem dX8_init_10 : decode cX8_init 10 = .ok (.putfield 11, 3) := dk_181 0 11 (dk_at dksX8_init_0 10 rfl rfl)
theorem dX8_init_13 : decode cX8_init 13 = .ok (.aload_n 0, 1) := dk_42 (dk_at dksX8_init_0 13 rfl rfl)
theorem dX8_init_14 : decode cX8_init 14 = .ok (.bipush 8, 2) := dk_16 8 (dk_at dksX8_init_0 14 rfl rfl)
theorem dX8_init_16 : decode cX8_init 16 = .ok (.anewarray 17, 3) := dk_189 0 17 (dk_at dksX8_init_0 16 rfl rfl)
theorem dX8_init_19 : decode cX8_init 19 = .ok (.putfield 19, 3) := dk_181 0 19 (dk_at dksX8_init_0 19 rfl rfl)
theorem dX8_init_22 : decode cX8_init 22 = .ok (.aload_n 0, 1) := dk_42 (dk_at dksX8_init_0 22 rfl rfl)
theorem dX8_init_23 : decode cX8_init 23 = .ok (.bipush 12, 2) := dk_16 12 (dk_at dksX8_init_1 0 rfl rfl)
theorem dX8_init_25 : decode cX8_init 25 = .ok (.anewarray 23, 3) := dk_189 0 23 (dk_at dksX8_init_1 2 rfl rfl)
theorem dX8_init_28 : decode cX8_init 28 = .ok (.putfield 25, 3) := dk_181 0 25 (dk_at dksX8_init_1 5 rfl rfl)
theorem dX8_init_31 : decode cX8_init 31 = .ok (.aload_n 0, 1) := dk_42 (dk_at dksX8_init_1 8 rfl rfl)
theorem dX8_init_32 : decode cX8_init 32 = .ok (.iconst 4, 1) := dk_7 (dk_at dksX8_init_1 9 rfl rfl)
theorem dX8_init_33 : decode cX8_init 33 = .ok (.anewarray 29, 3) := dk_189 0 29 (dk_at dksX8_init_1 10 rfl rfl)
theorem dX8_init_36 : decode cX8_init 36 = .ok (.putfield 31, 3) := dk_181 0 31 (dk_at dksX8_init_1 13 rfl rfl)
theorem dX8_init_39 : decode cX8_init 39 = .ok (.aload_n 0, 1) := dk_42 (dk_at dksX8_init_1 16 rfl rfl)
theorem dX8_init_40 : decode cX8_init 40 = .ok (.iconst 4, 1) := dk_7 (dk_at dksX8_init_1 17 rfl rfl)
theorem dX8_init_41 : decode cX8_init 41 = .ok (.anewarray 35, 3) := dk_189 0 35 (dk_at dksX8_init_1 18 rfl rfl)
theorem dX8_init_44 : decode cX8_init 44 = .ok (.putfield 37, 3) := dk_181 0 37 (dk_at dksX8_init_1 21 rfl rfl)
theorem dX8_init_47 : decode cX8_init 47 = .ok (.return_, 1) := dk_177 (dk_at dksX8_init_2 0 rfl rfl)
abbrev cX8_find : ByteArray := prog_17_method_3_code
def yX8_find : MethodName := ⟨RX8, "find", "(Ljava/lang/String;)LRainWalk$Named;"⟩
def dkwX8_find_1 : List UInt8 := [180, 0, 61, 43, 184, 0, 57, 167, 0, 4, 44, 176]
abbrev dktX8_find_1 : List UInt8 := dkwX8_find_1 ++ []
def dkwX8_find_0 : List UInt8 := [42, 180, 0, 19, 42, 180, 0, 53, 43, 184, 0, 57, 77, 44, 199, 0, 18, 42, 180, 0, 31, 42]
abbrev dktX8_find_0 : List UInt8 := dkwX8_find_0 ++ dktX8_find_1
theorem dksX8_find_0 : cX8_find.data.toList.drop 0 = dktX8_find_0 := by decide +kernel
theorem dksX8_find_1 : cX8_find.data.toList.drop 22 = dktX8_find_1 := dk_seg dksX8_find_0 22 rfl rfl
theorem dX8_find_0 : decode cX8_find 0 = .ok (.aload_n 0, 1) := dk_42 (dk_at dksX8_find_0 0 rfl rfl)
theorem dX8_find_1 : decode cX8_find 1 = .ok (.getfield 19, 3) := dk_180 0 19 (dk_at dksX8_find_0 1 rfl rfl)
theorem dX8_find_4 : decode cX8_find 4 = .ok (.aload_n 0, 1) := dk_42 (dk_at dksX8_find_0 4 rfl rfl)
theorem dX8_find_5 : decode cX8_find 5 = .ok (.getfield 53, 3) := dk_180 0 53 (dk_at dksX8_find_0 5 rfl rfl)
theorem dX8_find_8 : decode cX8_find 8 = .ok (.aload_n 1, 1) := dk_43 (dk_at dksX8_find_0 8 rfl rfl)
theorem dX8_find_9 : decode cX8_find 9 = .ok (.invokestatic 57, 3) := dk_184 0 57 (dk_at dksX8_find_0 9 rfl rfl)
theorem dX8_find_12 : decode cX8_find 12 = .ok (.astore_n 2, 1) := dk_77 (dk_at dksX8_find_0 12 rfl rfl)
theorem dX8_find_13 : decode cX8_find 13 = .ok (.aload_n 2, 1) := dk_44 (dk_at dksX8_find_0 13 rfl rfl)
theorem dX8_find_14 : decode cX8_find 14 = .ok (.ifnonnull 18, 3) := dk_199 0 18 (dk_at dksX8_find_0 14 rfl rfl)
theorem dX8_find_17 : decode cX8_find 17 = .ok (.aload_n 0, 1) := dk_42 (dk_at dksX8_find_0 17 rfl rfl)
theorem dX8_find_18 : decode cX8_find 18 = .ok (.getfield 31, 3) := dk_180 0 31 (dk_at dksX8_find_0 18 rfl rfl)
theorem dX8_find_21 : decode cX8_find 21 = .ok (.aload_n 0, 1) := dk_42 (dk_at dksX8_find_0 21 rfl rfl)
theorem dX8_find_22 : decode cX8_find 22 = .ok (.getfield 61, 3) := dk_180 0 61 (dk_at dksX8_find_1 0 rfl rfl)
theorem dX8_find_25 : decode cX8_find 25 = .ok (.aload_n 1, 1) := dk_43 (dk_at dksX8_find_1 3 rfl rfl)
theorem dX8_find_26 : decode cX8_find 26 = .ok (.invokestatic 57, 3) := dk_184 0 57 (dk_at dksX8_find_1 4 rfl rfl)
theorem dX8_find_29 : decode cX8_find 29 = .ok (.goto 4, 3) := dk_167 0 4 (dk_at dksX8_find_1 7 rfl rfl)
theorem dX8_find_32 : decode cX8_find 32 = .ok (.aload_n 2, 1) := dk_44 (dk_at dksX8_find_1 10 rfl rfl)
theorem dX8_find_33 : decode cX8_find 33 = .ok (.areturn, 1) := dk_176 (dk_at dksX8_find_1 11 rfl rfl)
abbrev cX8_among : ByteArray := prog_17_method_2_code
def yX8_among : MethodName := ⟨RX8, "among", "([LRainWalk$Named;ILjava/lang/String;)LRainWalk$Named;"⟩
def dkwX8_among_1 : List UInt8 := [132, 3, 1, 167, 255, 231, 1, 176]
abbrev dktX8_among_1 : List UInt8 := dkwX8_among_1 ++ []
def dkwX8_among_0 : List UInt8 := [3, 62, 29, 27, 162, 0, 26, 42, 29, 50, 180, 0, 41, 44, 182, 0, 47, 153, 0, 7, 42, 29, 50, 176]
abbrev dktX8_among_0 : List UInt8 := dkwX8_among_0 ++ dktX8_among_1
theorem dksX8_among_0 : cX8_among.data.toList.drop 0 = dktX8_among_0 := by decide +kernel
theorem dksX8_among_1 : cX8_among.data.toList.drop 24 = dktX8_among_1 := dk_seg dksX8_among_0 24 rfl rfl
theorem dX8_among_0 : decode cX8_among 0 = .ok (.iconst 0, 1) := dk_3 (dk_at dksX8_among_0 0 rfl rfl)
theorem dX8_among_1 : decode cX8_among 1 = .ok (.istore_n 3, 1) := dk_62 (dk_at dksX8_among_0 1 rfl rfl)
theorem dX8_among_2 : decode cX8_among 2 = .ok (.iload_n 3, 1) := dk_29 (dk_at dksX8_among_0 2 rfl rfl)
theorem dX8_among_3 : decode cX8_among 3 = .ok (.iload_n 1, 1) := dk_27 (dk_at dksX8_among_0 3 rfl rfl)
theorem dX8_among_4 : decode cX8_among 4 = .ok (.if_icmp .ge 26, 3) := dk_162 0 26 (dk_at dksX8_among_0 4 rfl rfl)
theorem dX8_among_7 : decode cX8_among 7 = .ok (.aload_n 0, 1) := dk_42 (dk_at dksX8_among_0 7 rfl rfl)
theorem dX8_among_8 : decode cX8_among 8 = .ok (.iload_n 3, 1) := dk_29 (dk_at dksX8_among_0 8 rfl rfl)
theorem dX8_among_9 : decode cX8_among 9 = .ok (.aaload, 1) := dk_50 (dk_at dksX8_among_0 9 rfl rfl)
theorem dX8_among_10 : decode cX8_among 10 = .ok (.getfield 41, 3) := dk_180 0 41 (dk_at dksX8_among_0 10 rfl rfl)
theorem dX8_among_13 : decode cX8_among 13 = .ok (.aload_n 2, 1) := dk_44 (dk_at dksX8_among_0 13 rfl rfl)
theorem dX8_among_14 : decode cX8_among 14 = .ok (.invokevirtual 47, 3) := dk_182 0 47 (dk_at dksX8_among_0 14 rfl rfl)
theorem dX8_among_17 : decode cX8_among 17 = .ok (.ifCond .eq 7, 3) := dk_153 0 7 (dk_at dksX8_among_0 17 rfl rfl)
theorem dX8_among_20 : decode cX8_among 20 = .ok (.aload_n 0, 1) := dk_42 (dk_at dksX8_among_0 20 rfl rfl)
theorem dX8_among_21 : decode cX8_among 21 = .ok (.iload_n 3, 1) := dk_29 (dk_at dksX8_among_0 21 rfl rfl)
theorem dX8_among_22 : decode cX8_among 22 = .ok (.aaload, 1) := dk_50 (dk_at dksX8_among_0 22 rfl rfl)
theorem dX8_among_23 : decode cX8_among 23 = .ok (.areturn, 1) := dk_176 (dk_at dksX8_among_0 23 rfl rfl)
theorem dX8_among_24 : decode cX8_among 24 = .ok (.iinc 3 1, 3) := dk_132 3 1 (dk_at dksX8_among_1 0 rfl rfl)
theorem dX8_among_27 : decode cX8_among 27 = .ok (.goto (-25), 3) := dk_167 255 231 (dk_at dksX8_among_1 3 rfl rfl)
theorem dX8_among_30 : decode cX8_among 30 = .ok (.aconst_null, 1) := dk_1 (dk_at dksX8_among_1 6 rfl rfl)
theorem dX8_among_31 : decode cX8_among 31 = .ok (.areturn, 1) := dk_176 (dk_at dksX8_among_1 7 rfl rfl)
abbrev cX8_hourOf : ByteArray := prog_17_method_4_code
def yX8_hourOf : MethodName := ⟨RX8, "hourOf", "(I)I"⟩
def dkwX8_hourOf_0 : List UInt8 := [27, 42, 180, 0, 64, 108, 42, 180, 0, 67, 162, 0, 12, 27, 42, 180, 0, 64, 108, 167, 0, 4, 2, 172]
abbrev dktX8_hourOf_0 : List UInt8 := dkwX8_hourOf_0 ++ []
theorem dksX8_hourOf_0 : cX8_hourOf.data.toList.drop 0 = dktX8_hourOf_0 := by decide +kernel
theorem dX8_hourOf_0 : decode cX8_hourOf 0 = .ok (.iload_n 1, 1) := dk_27 (dk_at dksX8_hourOf_0 0 rfl rfl)
theorem dX8_hourOf_1 : decode cX8_hourOf 1 = .ok (.aload_n 0, 1) := dk_42 (dk_at dksX8_hourOf_0 1 rfl rfl)
theorem dX8_hourOf_2 : decode cX8_hourOf 2 = .ok (.getfield 64, 3) := dk_180 0 64 (dk_at dksX8_hourOf_0 2 rfl rfl)
theorem dX8_hourOf_5 : decode cX8_hourOf 5 = .ok (.idiv, 1) := dk_108 (dk_at dksX8_hourOf_0 5 rfl rfl)
theorem dX8_hourOf_6 : decode cX8_hourOf 6 = .ok (.aload_n 0, 1) := dk_42 (dk_at dksX8_hourOf_0 6 rfl rfl)
theorem dX8_hourOf_7 : decode cX8_hourOf 7 = .ok (.getfield 67, 3) := dk_180 0 67 (dk_at dksX8_hourOf_0 7 rfl rfl)
theorem dX8_hourOf_10 : decode cX8_hourOf 10 = .ok (.if_icmp .ge 12, 3) := dk_162 0 12 (dk_at dksX8_hourOf_0 10 rfl rfl)
theorem dX8_hourOf_13 : decode cX8_hourOf 13 = .ok (.iload_n 1, 1) := dk_27 (dk_at dksX8_hourOf_0 13 rfl rfl)
theorem dX8_hourOf_14 : decode cX8_hourOf 14 = .ok (.aload_n 0, 1) := dk_42 (dk_at dksX8_hourOf_0 14 rfl rfl)
theorem dX8_hourOf_15 : decode cX8_hourOf 15 = .ok (.getfield 64, 3) := dk_180 0 64 (dk_at dksX8_hourOf_0 15 rfl rfl)
theorem dX8_hourOf_18 : decode cX8_hourOf 18 = .ok (.idiv, 1) := dk_108 (dk_at dksX8_hourOf_0 18 rfl rfl)
theorem dX8_hourOf_19 : decode cX8_hourOf 19 = .ok (.goto 4, 3) := dk_167 0 4 (dk_at dksX8_hourOf_0 19 rfl rfl)
theorem dX8_hourOf_22 : decode cX8_hourOf 22 = .ok (.iconst (-1), 1) := dk_2 (dk_at dksX8_hourOf_0 22 rfl rfl)
theorem dX8_hourOf_23 : decode cX8_hourOf 23 = .ok (.ireturn, 1) := dk_172 (dk_at dksX8_hourOf_0 23 rfl rfl)
theorem q122 : (Jvm.Cond.initialized "RainWalk$World") ∈ lw_all := lw_g (lw_at lw_m1 11 rfl) rfl
theorem q427 : (Jvm.Cond.instantiable "RainWalk$World" (11 : Nat)) ∈ lw_all := lw_g (lw_at lw_m2 76 rfl) rfl
theorem q429 : (Jvm.Cond.instanceMethod ({ cls := "RainWalk$World", name := "<init>", desc := "()V" } : Jvm.MethodName)) ∈ lw_all := lw_g (lw_at lw_m2 78 rfl) rfl
theorem q430 : (Jvm.Cond.code ({ cls := "RainWalk$World", name := "<init>", desc := "()V" } : Jvm.MethodName) prog_17_method_1_code (1 : Nat) (Option.none : Option Jvm.ClassFile.FieldType)) ∈ lw_all := lw_g (lw_at lw_m2 79 rfl) rfl
theorem q431 : (Jvm.Cond.methodLink "RainWalk$World" (3 : Nat) ({ cls := "java/lang/Object", name := "<init>", desc := "()V" } : Jvm.MethodName)) ∈ lw_all := lw_g (lw_at lw_m2 80 rfl) rfl
theorem q432 : (Jvm.Cond.classLink "RainWalk$World" (9 : Nat) "RainWalk$Rain") ∈ lw_all := lw_g (lw_at lw_m2 81 rfl) rfl
theorem q434 : (Jvm.Cond.classLink "RainWalk$World" (17 : Nat) "RainWalk$Place") ∈ lw_all := lw_g (lw_at lw_m2 83 rfl) rfl
theorem q436 : (Jvm.Cond.classLink "RainWalk$World" (23 : Nat) "RainWalk$Road") ∈ lw_all := lw_g (lw_at lw_m2 85 rfl) rfl
theorem q438 : (Jvm.Cond.classLink "RainWalk$World" (29 : Nat) "RainWalk$Walker") ∈ lw_all := lw_g (lw_at lw_m2 87 rfl) rfl
theorem q440 : (Jvm.Cond.classLink "RainWalk$World" (35 : Nat) "RainWalk$Seen") ∈ lw_all := lw_g (lw_at lw_m2 89 rfl) rfl
theorem q442 : (Jvm.Cond.fieldLink "RainWalk$World" (11 : Nat) "RainWalk$World" "hours" "[LRainWalk$Rain;") ∈ lw_all := lw_g (lw_at lw_m2 91 rfl) rfl
theorem q446 : (Jvm.Cond.fieldLink "RainWalk$World" (19 : Nat) "RainWalk$World" "places" "[LRainWalk$Place;") ∈ lw_all := lw_g (lw_at lw_m2 95 rfl) rfl
theorem q450 : (Jvm.Cond.fieldLink "RainWalk$World" (25 : Nat) "RainWalk$World" "roads" "[LRainWalk$Road;") ∈ lw_all := lw_g (lw_at lw_m2 99 rfl) rfl
theorem q454 : (Jvm.Cond.fieldLink "RainWalk$World" (31 : Nat) "RainWalk$World" "walkers" "[LRainWalk$Walker;") ∈ lw_all := lw_g (lw_at lw_m2 103 rfl) rfl
theorem q457 : (Jvm.Cond.fieldLink "RainWalk$World" (37 : Nat) "RainWalk$World" "seen" "[LRainWalk$Seen;") ∈ lw_all := lw_g (lw_at lw_m2 106 rfl) rfl
theorem q460 : (Jvm.Cond.fieldLink "RainWalk$World" (64 : Nat) "RainWalk$World" "hour" "I") ∈ lw_all := lw_g (lw_at lw_m2 109 rfl) rfl
theorem q464 : (Jvm.Cond.fieldLink "RainWalk$World" (67 : Nat) "RainWalk$World" "hourMany" "I") ∈ lw_all := lw_g (lw_at lw_m2 113 rfl) rfl
theorem q467 : (Jvm.Cond.fieldLink "RainWalk$World" (53 : Nat) "RainWalk$World" "placeMany" "I") ∈ lw_all := lw_g (lw_at lw_m2 116 rfl) rfl
theorem q474 : (Jvm.Cond.fieldLink "RainWalk$World" (61 : Nat) "RainWalk$World" "walkerMany" "I") ∈ lw_all := lw_g (lw_at lw_m2 123 rfl) rfl
theorem q479 : (Jvm.Cond.laysFinal "RainWalk$World" "RainWalk$World" "hours" "[LRainWalk$Rain;") ∈ lw_all := lw_g (lw_at lw_m2 128 rfl) rfl
theorem q480 : (Jvm.Cond.soleField "RainWalk$World" "hours") ∈ lw_all := lw_g (lw_at lw_m2 129 rfl) rfl
theorem q481 : (Jvm.Cond.laysFinal "RainWalk$World" "RainWalk$World" "places" "[LRainWalk$Place;") ∈ lw_all := lw_g (lw_at lw_m2 130 rfl) rfl
theorem q482 : (Jvm.Cond.soleField "RainWalk$World" "places") ∈ lw_all := lw_g (lw_at lw_m2 131 rfl) rfl
theorem q483 : (Jvm.Cond.laysFinal "RainWalk$World" "RainWalk$World" "roads" "[LRainWalk$Road;") ∈ lw_all := lw_g (lw_at lw_m2 132 rfl) rfl
theorem q484 : (Jvm.Cond.soleField "RainWalk$World" "roads") ∈ lw_all := lw_g (lw_at lw_m2 133 rfl) rfl
theorem q485 : (Jvm.Cond.laysFinal "RainWalk$World" "RainWalk$World" "walkers" "[LRainWalk$Walker;") ∈ lw_all := lw_g (lw_at lw_m2 134 rfl) rfl
theorem q486 : (Jvm.Cond.soleField "RainWalk$World" "walkers") ∈ lw_all := lw_g (lw_at lw_m2 135 rfl) rfl
theorem q487 : (Jvm.Cond.laysFinal "RainWalk$World" "RainWalk$World" "seen" "[LRainWalk$Seen;") ∈ lw_all := lw_g (lw_at lw_m2 136 rfl) rfl
theorem q488 : (Jvm.Cond.soleField "RainWalk$World" "seen") ∈ lw_all := lw_g (lw_at lw_m2 137 rfl) rfl
theorem q489 : (Jvm.Cond.lays "RainWalk$World" "RainWalk$World" "hour" "I") ∈ lw_all := lw_g (lw_at lw_m2 138 rfl) rfl
theorem q490 : (Jvm.Cond.soleField "RainWalk$World" "hour") ∈ lw_all := lw_g (lw_at lw_m2 139 rfl) rfl
theorem q491 : (Jvm.Cond.lays "RainWalk$World" "RainWalk$World" "hourMany" "I") ∈ lw_all := lw_g (lw_at lw_m2 140 rfl) rfl
theorem q492 : (Jvm.Cond.soleField "RainWalk$World" "hourMany") ∈ lw_all := lw_g (lw_at lw_m2 141 rfl) rfl
theorem q493 : (Jvm.Cond.lays "RainWalk$World" "RainWalk$World" "placeMany" "I") ∈ lw_all := lw_g (lw_at lw_m2 142 rfl) rfl
theorem q494 : (Jvm.Cond.soleField "RainWalk$World" "placeMany") ∈ lw_all := lw_g (lw_at lw_m2 143 rfl) rfl
theorem q495 : (Jvm.Cond.lays "RainWalk$World" "RainWalk$World" "roadMany" "I") ∈ lw_all := lw_g (lw_at lw_m2 144 rfl) rfl
theorem q496 : (Jvm.Cond.soleField "RainWalk$World" "roadMany") ∈ lw_all := lw_g (lw_at lw_m2 145 rfl) rfl
theorem q497 : (Jvm.Cond.lays "RainWalk$World" "RainWalk$World" "walkerMany" "I") ∈ lw_all := lw_g (lw_at lw_m2 146 rfl) rfl
theorem q498 : (Jvm.Cond.soleField "RainWalk$World" "walkerMany") ∈ lw_all := lw_g (lw_at lw_m2 147 rfl) rfl
theorem q499 : (Jvm.Cond.lays "RainWalk$World" "RainWalk$World" "seenMany" "I") ∈ lw_all := lw_g (lw_at lw_m2 148 rfl) rfl
theorem q500 : (Jvm.Cond.soleField "RainWalk$World" "seenMany") ∈ lw_all := lw_g (lw_at lw_m2 149 rfl) rfl
theorem q501 : (Jvm.Cond.superclass "RainWalk$World" "java/lang/Object") ∈ lw_all := lw_g (lw_at lw_m2 150 rfl) rfl
theorem q761 : (Jvm.Cond.instanceMethod ({ cls := "RainWalk$World", name := "find", desc := "(Ljava/lang/String;)LRainWalk$Named;" } : Jvm.MethodName)) ∈ lw_all := lw_g (lw_at lw_m3 170 rfl) rfl
theorem q762 : (Jvm.Cond.selects "RainWalk$World" ({ cls := "RainWalk$World", name := "find", desc := "(Ljava/lang/String;)LRainWalk$Named;" } : Jvm.MethodName) ({ cls := "RainWalk$World", name := "find", desc := "(Ljava/lang/String;)LRainWalk$Named;" } : Jvm.MethodName)) ∈ lw_all := lw_g (lw_at lw_m3 171 rfl) rfl
theorem q763 : (Jvm.Cond.code ({ cls := "RainWalk$World", name := "find", desc := "(Ljava/lang/String;)LRainWalk$Named;" } : Jvm.MethodName) prog_17_method_3_code (3 : Nat) (Option.some (Jvm.ClassFile.FieldType.object "RainWalk$Named"))) ∈ lw_all := lw_g (lw_at lw_m3 172 rfl) rfl
theorem q764 : (Jvm.Cond.methodLink "RainWalk$World" (57 : Nat) ({ cls := "RainWalk$World", name := "among", desc := "([LRainWalk$Named;ILjava/lang/String;)LRainWalk$Named;" } : Jvm.MethodName)) ∈ lw_all := lw_g (lw_at lw_m3 173 rfl) rfl
theorem q765 : (Jvm.Cond.static ({ cls := "RainWalk$World", name := "among", desc := "([LRainWalk$Named;ILjava/lang/String;)LRainWalk$Named;" } : Jvm.MethodName)) ∈ lw_all := lw_g (lw_at lw_m3 174 rfl) rfl
theorem q766 : (Jvm.Cond.code ({ cls := "RainWalk$World", name := "among", desc := "([LRainWalk$Named;ILjava/lang/String;)LRainWalk$Named;" } : Jvm.MethodName) prog_17_method_2_code (4 : Nat) (Option.some (Jvm.ClassFile.FieldType.object "RainWalk$Named"))) ∈ lw_all := lw_g (lw_at lw_m3 175 rfl) rfl
theorem q767 : (Jvm.Cond.methodLink "RainWalk$World" (47 : Nat) ({ cls := "java/lang/String", name := "equals", desc := "(Ljava/lang/Object;)Z" } : Jvm.MethodName)) ∈ lw_all := lw_g (lw_at lw_m3 176 rfl) rfl
theorem q783 : (Jvm.Cond.fieldLink "RainWalk$World" (41 : Nat) "RainWalk$Named" "name" "Ljava/lang/String;") ∈ lw_all := lw_g (lw_at lw_m3 192 rfl) rfl
theorem q1238 : (Jvm.Cond.instanceMethod ({ cls := "RainWalk$World", name := "hourOf", desc := "(I)I" } : Jvm.MethodName)) ∈ lw_all := lw_g (lw_at lw_m5 167 rfl) rfl
theorem q1239 : (Jvm.Cond.selects "RainWalk$World" ({ cls := "RainWalk$World", name := "hourOf", desc := "(I)I" } : Jvm.MethodName) ({ cls := "RainWalk$World", name := "hourOf", desc := "(I)I" } : Jvm.MethodName)) ∈ lw_all := lw_g (lw_at lw_m5 168 rfl) rfl
theorem q1240 : (Jvm.Cond.code ({ cls := "RainWalk$World", name := "hourOf", desc := "(I)I" } : Jvm.MethodName) prog_17_method_4_code (2 : Nat) (Option.some Jvm.ClassFile.FieldType.int)) ∈ lw_all := lw_g (lw_at lw_m5 169 rfl) rfl
theorem q2221 : (Jvm.Cond.castable "RainWalk$World" "java/lang/Object") ∈ lw_tbl := lw_at lw_m9 190 rfl
theorem in_X8 : ∀ w ∈ wsX80, w ∈ lw_all := lw_in wsX80 [479, 481, 483, 485, 487, 489, 491, 493, 495, 497, 499] (by decide +kernel) (by decide +kernel)
/-! RainWalk$Rain -/
set_option maxRecDepth 100000
def RX9 : String := "RainWalk$Rain"
def TX9 : u_T := fun k => match k with
  | 0 => ("RainWalk$Rain", "drops", "I", true)
  | 1 => ("RainWalk$Rain", "down", "I", true)
  | 2 => ("RainWalk$Rain", "wind", "I", true)
  | 3 => ("RainWalk$Rain", "side", "I", true)
  | _ => ("RainWalk$Rain", "chance", "I", true)
def tyX9 : Nat → FieldType := fun k => match k with
  | 0 => .int
  | 1 => .int
  | 2 => .int
  | 3 => .int
  | _ => .int
abbrev wsX90 : List Cond := u_ws RX9 TX9 5
theorem nmX9 : ∀ a, a < 5 → ∀ b, b < 5 → a ≠ b → (TX9 a).2.1 ≠ (TX9 b).2.1 := by decide +kernel
theorem tyX9_ok : ∀ k, k < 5 → parseFieldDescriptor (TX9 k).2.2.1 = some (tyX9 k) := by decide +kernel
abbrev cX9_init : ByteArray := prog_9_method_1_code
def yX9_init : MethodName := ⟨RX9, "<init>", "(IIIII)V"⟩
def dkwX9_init_1 : List UInt8 := [181, 0, 21, 42, 21, 5, 181, 0, 24, 177]
abbrev dktX9_init_1 : List UInt8 := dkwX9_init_1 ++ []
def dkwX9_init_0 : List UInt8 := [42, 183, 0, 3, 42, 27, 181, 0, 9, 42, 28, 181, 0, 15, 42, 29, 181, 0, 18, 42, 21, 4]
abbrev dktX9_init_0 : List UInt8 := dkwX9_init_0 ++ dktX9_init_1
theorem dksX9_init_0 : cX9_init.data.toList.drop 0 = dktX9_init_0 := by decide +kernel
theorem dksX9_init_1 : cX9_init.data.toList.drop 22 = dktX9_init_1 := dk_seg dksX9_init_0 22 rfl rfl
theorem dX9_init_0 : decode cX9_init 0 = .ok (.aload_n 0, 1) := dk_42 (dk_at dksX9_init_0 0 rfl rfl)
theorem dX9_init_1 : decode cX9_init 1 = .ok (.invokespecial 3, 3) := dk_183 0 3 (dk_at dksX9_init_0 1 rfl rfl)
theorem dX9_init_4 : decode cX9_init 4 = .ok (.aload_n 0, 1) := dk_42 (dk_at dksX9_init_0 4 rfl rfl)
theorem dX9_init_5 : decode cX9_init 5 = .ok (.iload_n 1, 1) := dk_27 (dk_at dksX9_init_0 5 rfl rfl)
theorem dX9_init_6 : decode cX9_init 6 = .ok (.putfield 9, 3) := dk_181 0 9 (dk_at dksX9_init_0 6 rfl rfl)
theorem dX9_init_9 : decode cX9_init 9 = .ok (.aload_n 0, 1) := dk_42 (dk_at dksX9_init_0 9 rfl rfl)
theorem dX9_init_10 : decode cX9_init 10 = .ok (.iload_n 2, 1) := dk_28 (dk_at dksX9_init_0 10 rfl rfl)
theorem dX9_init_11 : decode cX9_init 11 = .ok (.putfield 15, 3) := dk_181 0 15 (dk_at dksX9_init_0 11 rfl rfl)
theorem dX9_init_14 : decode cX9_init 14 = .ok (.aload_n 0, 1) := dk_42 (dk_at dksX9_init_0 14 rfl rfl)
theorem dX9_init_15 : decode cX9_init 15 = .ok (.iload_n 3, 1) := dk_29 (dk_at dksX9_init_0 15 rfl rfl)
theorem dX9_init_16 : decode cX9_init 16 = .ok (.putfield 18, 3) := dk_181 0 18 (dk_at dksX9_init_0 16 rfl rfl)
theorem dX9_init_19 : decode cX9_init 19 = .ok (.aload_n 0, 1) := dk_42 (dk_at dksX9_init_0 19 rfl rfl)
theorem dX9_init_20 : decode cX9_init 20 = .ok (.iload 4, 2) := dk_21 4 (dk_at dksX9_init_0 20 rfl rfl)
theorem dX9_init_22 : decode cX9_init 22 = .ok (.putfield 21, 3) := dk_181 0 21 (dk_at dksX9_init_1 0 rfl rfl)
theorem dX9_init_25 : decode cX9_init 25 = .ok (.aload_n 0, 1) := dk_42 (dk_at dksX9_init_1 3 rfl rfl)
theorem dX9_init_26 : decode cX9_init 26 = .ok (.iload 5, 2) := dk_21 5 (dk_at dksX9_init_1 4 rfl rfl)
theorem dX9_init_28 : decode cX9_init 28 = .ok (.putfield 24, 3) := dk_181 0 24 (dk_at dksX9_init_1 6 rfl rfl)
theorem dX9_init_31 : decode cX9_init 31 = .ok (.return_, 1) := dk_177 (dk_at dksX9_init_1 9 rfl rfl)
abbrev cX9_along : ByteArray := prog_9_method_2_code
def yX9_along : MethodName := ⟨RX9, "along", "(I)I"⟩
def dkwX9_along_1 : List UInt8 := [160, 0, 11, 42, 180, 0, 21, 116, 167, 0, 4, 3, 172]
abbrev dktX9_along_1 : List UInt8 := dkwX9_along_1 ++ []
def dkwX9_along_0 : List UInt8 := [42, 180, 0, 18, 27, 160, 0, 10, 42, 180, 0, 21, 167, 0, 24, 42, 180, 0, 18, 27, 5, 96, 7, 112]
abbrev dktX9_along_0 : List UInt8 := dkwX9_along_0 ++ dktX9_along_1
theorem dksX9_along_0 : cX9_along.data.toList.drop 0 = dktX9_along_0 := by decide +kernel
theorem dksX9_along_1 : cX9_along.data.toList.drop 24 = dktX9_along_1 := dk_seg dksX9_along_0 24 rfl rfl
theorem dX9_along_0 : decode cX9_along 0 = .ok (.aload_n 0, 1) := dk_42 (dk_at dksX9_along_0 0 rfl rfl)
theorem dX9_along_1 : decode cX9_along 1 = .ok (.getfield 18, 3) := dk_180 0 18 (dk_at dksX9_along_0 1 rfl rfl)
theorem dX9_along_4 : decode cX9_along 4 = .ok (.iload_n 1, 1) := dk_27 (dk_at dksX9_along_0 4 rfl rfl)
theorem dX9_along_5 : decode cX9_along 5 = .ok (.if_icmp .ne 10, 3) := dk_160 0 10 (dk_at dksX9_along_0 5 rfl rfl)
theorem dX9_along_8 : decode cX9_along 8 = .ok (.aload_n 0, 1) := dk_42 (dk_at dksX9_along_0 8 rfl rfl)
theorem dX9_along_9 : decode cX9_along 9 = .ok (.getfield 21, 3) := dk_180 0 21 (dk_at dksX9_along_0 9 rfl rfl)
theorem dX9_along_12 : decode cX9_along 12 = .ok (.goto 24, 3) := dk_167 0 24 (dk_at dksX9_along_0 12 rfl rfl)
theorem dX9_along_15 : decode cX9_along 15 = .ok (.aload_n 0, 1) := dk_42 (dk_at dksX9_along_0 15 rfl rfl)
theorem dX9_along_16 : decode cX9_along 16 = .ok (.getfield 18, 3) := dk_180 0 18 (dk_at dksX9_along_0 16 rfl rfl)
theorem dX9_along_19 : decode cX9_along 19 = .ok (.iload_n 1, 1) := dk_27 (dk_at dksX9_along_0 19 rfl rfl)
theorem dX9_along_20 : decode cX9_along 20 = .ok (.iconst 2, 1) := dk_5 (dk_at dksX9_along_0 20 rfl rfl)
theorem dX9_along_21 : decode cX9_along 21 = .ok (.iadd, 1) := dk_96 (dk_at dksX9_along_0 21 rfl rfl)
theorem dX9_along_22 : decode cX9_along 22 = .ok (.iconst 4, 1) := dk_7 (dk_at dksX9_along_0 22 rfl rfl)
theorem dX9_along_23 : decode cX9_along 23 = .ok (.irem, 1) := dk_112 (dk_at dksX9_along_0 23 rfl rfl)
theorem dX9_along_24 : decode cX9_along 24 = .ok (.if_icmp .ne 11, 3) := dk_160 0 11 (dk_at dksX9_along_1 0 rfl rfl)
theorem dX9_along_27 : decode cX9_along 27 = .ok (.aload_n 0, 1) := dk_42 (dk_at dksX9_along_1 3 rfl rfl)
theorem dX9_along_28 : decode cX9_along 28 = .ok (.getfield 21, 3) := dk_180 0 21 (dk_at dksX9_along_1 4 rfl rfl)
theorem dX9_along_31 : decode cX9_along 31 = .ok (.ineg, 1) := dk_116 (dk_at dksX9_along_1 7 rfl rfl)
theorem dX9_along_32 : decode cX9_along 32 = .ok (.goto 4, 3) := dk_167 0 4 (dk_at dksX9_along_1 8 rfl rfl)
theorem dX9_along_35 : decode cX9_along 35 = .ok (.iconst 0, 1) := dk_3 (dk_at dksX9_along_1 11 rfl rfl)
theorem dX9_along_36 : decode cX9_along 36 = .ok (.ireturn, 1) := dk_172 (dk_at dksX9_along_1 12 rfl rfl)
abbrev cX9_aside : ByteArray := prog_9_method_3_code
def yX9_aside : MethodName := ⟨RX9, "aside", "(I)I"⟩
def dkwX9_aside_1 : List UInt8 := [112, 160, 0, 7, 7, 167, 0, 4, 2, 172]
abbrev dktX9_aside_1 : List UInt8 := dkwX9_aside_1 ++ []
def dkwX9_aside_0 : List UInt8 := [42, 180, 0, 18, 27, 4, 96, 7, 112, 160, 0, 7, 6, 167, 0, 20, 42, 180, 0, 18, 27, 6, 96, 7]
abbrev dktX9_aside_0 : List UInt8 := dkwX9_aside_0 ++ dktX9_aside_1
theorem dksX9_aside_0 : cX9_aside.data.toList.drop 0 = dktX9_aside_0 := by decide +kernel
theorem dksX9_aside_1 : cX9_aside.data.toList.drop 24 = dktX9_aside_1 := dk_seg dksX9_aside_0 24 rfl rfl
theorem dX9_aside_0 : decode cX9_aside 0 = .ok (.aload_n 0, 1) := dk_42 (dk_at dksX9_aside_0 0 rfl rfl)
theorem dX9_aside_1 : decode cX9_aside 1 = .ok (.getfield 18, 3) := dk_180 0 18 (dk_at dksX9_aside_0 1 rfl rfl)
theorem dX9_aside_4 : decode cX9_aside 4 = .ok (.iload_n 1, 1) := dk_27 (dk_at dksX9_aside_0 4 rfl rfl)
theorem dX9_aside_5 : decode cX9_aside 5 = .ok (.iconst 1, 1) := dk_4 (dk_at dksX9_aside_0 5 rfl rfl)
theorem dX9_aside_6 : decode cX9_aside 6 = .ok (.iadd, 1) := dk_96 (dk_at dksX9_aside_0 6 rfl rfl)
theorem dX9_aside_7 : decode cX9_aside 7 = .ok (.iconst 4, 1) := dk_7 (dk_at dksX9_aside_0 7 rfl rfl)
theorem dX9_aside_8 : decode cX9_aside 8 = .ok (.irem, 1) := dk_112 (dk_at dksX9_aside_0 8 rfl rfl)
theorem dX9_aside_9 : decode cX9_aside 9 = .ok (.if_icmp .ne 7, 3) := dk_160 0 7 (dk_at dksX9_aside_0 9 rfl rfl)
theorem dX9_aside_12 : decode cX9_aside 12 = .ok (.iconst 3, 1) := dk_6 (dk_at dksX9_aside_0 12 rfl rfl)
theorem dX9_aside_13 : decode cX9_aside 13 = .ok (.goto 20, 3) := dk_167 0 20 (dk_at dksX9_aside_0 13 rfl rfl)
theorem dX9_aside_16 : decode cX9_aside 16 = .ok (.aload_n 0, 1) := dk_42 (dk_at dksX9_aside_0 16 rfl rfl)
theorem dX9_aside_17 : decode cX9_aside 17 = .ok (.getfield 18, 3) := dk_180 0 18 (dk_at dksX9_aside_0 17 rfl rfl)
theorem dX9_aside_20 : decode cX9_aside 20 = .ok (.iload_n 1, 1) := dk_27 (dk_at dksX9_aside_0 20 rfl rfl)
theorem dX9_aside_21 : decode cX9_aside 21 = .ok (.iconst 3, 1) := dk_6 (dk_at dksX9_aside_0 21 rfl rfl)
theorem dX9_aside_22 : decode cX9_aside 22 = .ok (.iadd, 1) := dk_96 (dk_at dksX9_aside_0 22 rfl rfl)
theorem dX9_aside_23 : decode cX9_aside 23 = .ok (.iconst 4, 1) := dk_7 (dk_at dksX9_aside_0 23 rfl rfl)
theorem dX9_aside_24 : decode cX9_aside 24 = .ok (.irem, 1) := dk_112 (dk_at dksX9_aside_1 0 rfl rfl)
theorem dX9_aside_25 : decode cX9_aside 25 = .ok (.if_icmp .ne 7, 3) := dk_160 0 7 (dk_at dksX9_aside_1 1 rfl rfl)
theorem dX9_aside_28 : decode cX9_aside 28 = .ok (.iconst 4, 1) := dk_7 (dk_at dksX9_aside_1 4 rfl rfl)
theorem dX9_aside_29 : decode cX9_aside 29 = .ok (.goto 4, 3) := dk_167 0 4 (dk_at dksX9_aside_1 5 rfl rfl)
theorem dX9_aside_32 : decode cX9_aside 32 = .ok (.iconst (-1), 1) := dk_2 (dk_at dksX9_aside_1 8 rfl rfl)
theorem dX9_aside_33 : decode cX9_aside 33 = .ok (.ireturn, 1) := dk_172 (dk_at dksX9_aside_1 9 rfl rfl)
theorem q128 : (Jvm.Cond.initialized "RainWalk$Rain") ∈ lw_all := lw_g (lw_at lw_m1 17 rfl) rfl
theorem q716 : (Jvm.Cond.instantiable "RainWalk$Rain" (5 : Nat)) ∈ lw_all := lw_g (lw_at lw_m3 125 rfl) rfl
theorem q719 : (Jvm.Cond.instanceMethod ({ cls := "RainWalk$Rain", name := "<init>", desc := "(IIIII)V" } : Jvm.MethodName)) ∈ lw_all := lw_g (lw_at lw_m3 128 rfl) rfl
theorem q720 : (Jvm.Cond.code ({ cls := "RainWalk$Rain", name := "<init>", desc := "(IIIII)V" } : Jvm.MethodName) prog_9_method_1_code (6 : Nat) (Option.none : Option Jvm.ClassFile.FieldType)) ∈ lw_all := lw_g (lw_at lw_m3 129 rfl) rfl
theorem q721 : (Jvm.Cond.methodLink "RainWalk$Rain" (3 : Nat) ({ cls := "java/lang/Object", name := "<init>", desc := "()V" } : Jvm.MethodName)) ∈ lw_all := lw_g (lw_at lw_m3 130 rfl) rfl
theorem q722 : (Jvm.Cond.fieldLink "RainWalk$Rain" (9 : Nat) "RainWalk$Rain" "drops" "I") ∈ lw_all := lw_g (lw_at lw_m3 131 rfl) rfl
theorem q724 : (Jvm.Cond.fieldLink "RainWalk$Rain" (15 : Nat) "RainWalk$Rain" "down" "I") ∈ lw_all := lw_g (lw_at lw_m3 133 rfl) rfl
theorem q726 : (Jvm.Cond.fieldLink "RainWalk$Rain" (21 : Nat) "RainWalk$Rain" "wind" "I") ∈ lw_all := lw_g (lw_at lw_m3 135 rfl) rfl
theorem q728 : (Jvm.Cond.fieldLink "RainWalk$Rain" (18 : Nat) "RainWalk$Rain" "side" "I") ∈ lw_all := lw_g (lw_at lw_m3 137 rfl) rfl
theorem q729 : (Jvm.Cond.fieldLink "RainWalk$Rain" (24 : Nat) "RainWalk$Rain" "chance" "I") ∈ lw_all := lw_g (lw_at lw_m3 138 rfl) rfl
theorem q732 : (Jvm.Cond.laysFinal "RainWalk$Rain" "RainWalk$Rain" "drops" "I") ∈ lw_all := lw_g (lw_at lw_m3 141 rfl) rfl
theorem q733 : (Jvm.Cond.soleField "RainWalk$Rain" "drops") ∈ lw_all := lw_g (lw_at lw_m3 142 rfl) rfl
theorem q734 : (Jvm.Cond.laysFinal "RainWalk$Rain" "RainWalk$Rain" "down" "I") ∈ lw_all := lw_g (lw_at lw_m3 143 rfl) rfl
theorem q735 : (Jvm.Cond.soleField "RainWalk$Rain" "down") ∈ lw_all := lw_g (lw_at lw_m3 144 rfl) rfl
theorem q736 : (Jvm.Cond.laysFinal "RainWalk$Rain" "RainWalk$Rain" "wind" "I") ∈ lw_all := lw_g (lw_at lw_m3 145 rfl) rfl
theorem q737 : (Jvm.Cond.soleField "RainWalk$Rain" "wind") ∈ lw_all := lw_g (lw_at lw_m3 146 rfl) rfl
theorem q738 : (Jvm.Cond.laysFinal "RainWalk$Rain" "RainWalk$Rain" "side" "I") ∈ lw_all := lw_g (lw_at lw_m3 147 rfl) rfl
theorem q739 : (Jvm.Cond.soleField "RainWalk$Rain" "side") ∈ lw_all := lw_g (lw_at lw_m3 148 rfl) rfl
theorem q740 : (Jvm.Cond.laysFinal "RainWalk$Rain" "RainWalk$Rain" "chance" "I") ∈ lw_all := lw_g (lw_at lw_m3 149 rfl) rfl
theorem q741 : (Jvm.Cond.soleField "RainWalk$Rain" "chance") ∈ lw_all := lw_g (lw_at lw_m3 150 rfl) rfl
theorem q742 : (Jvm.Cond.superclass "RainWalk$Rain" "java/lang/Object") ∈ lw_all := lw_g (lw_at lw_m3 151 rfl) rfl
theorem q1021 : (Jvm.Cond.instanceMethod ({ cls := "RainWalk$Rain", name := "along", desc := "(I)I" } : Jvm.MethodName)) ∈ lw_all := lw_g (lw_at lw_m4 190 rfl) rfl
theorem q1022 : (Jvm.Cond.selects "RainWalk$Rain" ({ cls := "RainWalk$Rain", name := "along", desc := "(I)I" } : Jvm.MethodName) ({ cls := "RainWalk$Rain", name := "along", desc := "(I)I" } : Jvm.MethodName)) ∈ lw_all := lw_g (lw_at lw_m4 191 rfl) rfl
theorem q1023 : (Jvm.Cond.code ({ cls := "RainWalk$Rain", name := "along", desc := "(I)I" } : Jvm.MethodName) prog_9_method_2_code (2 : Nat) (Option.some Jvm.ClassFile.FieldType.int)) ∈ lw_all := lw_g (lw_at lw_m4 192 rfl) rfl
theorem q1029 : (Jvm.Cond.instanceMethod ({ cls := "RainWalk$Rain", name := "aside", desc := "(I)I" } : Jvm.MethodName)) ∈ lw_all := lw_g (lw_at lw_m4 198 rfl) rfl
theorem q1030 : (Jvm.Cond.selects "RainWalk$Rain" ({ cls := "RainWalk$Rain", name := "aside", desc := "(I)I" } : Jvm.MethodName) ({ cls := "RainWalk$Rain", name := "aside", desc := "(I)I" } : Jvm.MethodName)) ∈ lw_all := lw_g (lw_at lw_m4 199 rfl) rfl
theorem q1031 : (Jvm.Cond.code ({ cls := "RainWalk$Rain", name := "aside", desc := "(I)I" } : Jvm.MethodName) prog_9_method_3_code (2 : Nat) (Option.some Jvm.ClassFile.FieldType.int)) ∈ lw_all := lw_g (lw_at lw_m4 200 rfl) rfl
theorem q2224 : (Jvm.Cond.castable "RainWalk$Rain" "java/lang/Object") ∈ lw_tbl := lw_at lw_m9 193 rfl
theorem in_X9 : ∀ w ∈ wsX90, w ∈ lw_all := lw_in wsX90 [732, 734, 736, 738, 740] (by decide +kernel) (by decide +kernel)
/-! RainWalk$Named -/
set_option maxRecDepth 100000
def RX10 : String := "RainWalk$Named"
abbrev cX10_init : ByteArray := prog_6_method_1_code
def yX10_init : MethodName := ⟨RX10, "<init>", "(Ljava/lang/String;I)V"⟩
def dkwX10_init_0 : List UInt8 := [42, 183, 0, 1, 42, 43, 181, 0, 7, 42, 28, 181, 0, 13, 177]
abbrev dktX10_init_0 : List UInt8 := dkwX10_init_0 ++ []
theorem dksX10_init_0 : cX10_init.data.toList.drop 0 = dktX10_init_0 := by decide +kernel
theorem dX10_init_0 : decode cX10_init 0 = .ok (.aload_n 0, 1) := dk_42 (dk_at dksX10_init_0 0 rfl rfl)
theorem dX10_init_1 : decode cX10_init 1 = .ok (.invokespecial 1, 3) := dk_183 0 1 (dk_at dksX10_init_0 1 rfl rfl)
theorem dX10_init_4 : decode cX10_init 4 = .ok (.aload_n 0, 1) := dk_42 (dk_at dksX10_init_0 4 rfl rfl)
theorem dX10_init_5 : decode cX10_init 5 = .ok (.aload_n 1, 1) := dk_43 (dk_at dksX10_init_0 5 rfl rfl)
theorem dX10_init_6 : decode cX10_init 6 = .ok (.putfield 7, 3) := dk_181 0 7 (dk_at dksX10_init_0 6 rfl rfl)
theorem dX10_init_9 : decode cX10_init 9 = .ok (.aload_n 0, 1) := dk_42 (dk_at dksX10_init_0 9 rfl rfl)
theorem dX10_init_10 : decode cX10_init 10 = .ok (.iload_n 2, 1) := dk_28 (dk_at dksX10_init_0 10 rfl rfl)
theorem dX10_init_11 : decode cX10_init 11 = .ok (.putfield 13, 3) := dk_181 0 13 (dk_at dksX10_init_0 11 rfl rfl)
theorem dX10_init_14 : decode cX10_init 14 = .ok (.return_, 1) := dk_177 (dk_at dksX10_init_0 14 rfl rfl)
theorem q129 : (Jvm.Cond.initialized "RainWalk$Named") ∈ lw_all := lw_g (lw_at lw_m1 18 rfl) rfl
theorem q772 : (Jvm.Cond.instanceMethod ({ cls := "RainWalk$Named", name := "<init>", desc := "(Ljava/lang/String;I)V" } : Jvm.MethodName)) ∈ lw_all := lw_g (lw_at lw_m3 181 rfl) rfl
theorem q773 : (Jvm.Cond.code ({ cls := "RainWalk$Named", name := "<init>", desc := "(Ljava/lang/String;I)V" } : Jvm.MethodName) prog_6_method_1_code (3 : Nat) (Option.none : Option Jvm.ClassFile.FieldType)) ∈ lw_all := lw_g (lw_at lw_m3 182 rfl) rfl
theorem q774 : (Jvm.Cond.methodLink "RainWalk$Named" (1 : Nat) ({ cls := "java/lang/Object", name := "<init>", desc := "()V" } : Jvm.MethodName)) ∈ lw_all := lw_g (lw_at lw_m3 183 rfl) rfl
theorem q782 : (Jvm.Cond.fieldLink "RainWalk$Named" (7 : Nat) "RainWalk$Named" "name" "Ljava/lang/String;") ∈ lw_all := lw_g (lw_at lw_m3 191 rfl) rfl
theorem q784 : (Jvm.Cond.fieldLink "RainWalk$Named" (13 : Nat) "RainWalk$Named" "number" "I") ∈ lw_all := lw_g (lw_at lw_m3 193 rfl) rfl
theorem q795 : (Jvm.Cond.soleField "RainWalk$Named" "name") ∈ lw_all := lw_g (lw_at lw_m3 204 rfl) rfl
theorem q797 : (Jvm.Cond.soleField "RainWalk$Named" "number") ∈ lw_all := lw_g (lw_at lw_m3 206 rfl) rfl
/-! RainWalk$Place -/
set_option maxRecDepth 100000
def RX11 : String := "RainWalk$Place"
def TX11 : u_T := fun k => match k with
  | 0 => ("RainWalk$Named", "name", "Ljava/lang/String;", true)
  | 1 => ("RainWalk$Named", "number", "I", true)
  | 2 => ("RainWalk$Place", "isInn", "Z", false)
  | 3 => ("RainWalk$Place", "isTree", "Z", false)
  | _ => ("RainWalk$Place", "drips", "I", false)
def tyX11 : Nat → FieldType := fun k => match k with
  | 0 => .object "java/lang/String"
  | 1 => .int
  | 2 => .boolean
  | 3 => .boolean
  | _ => .int
abbrev wsX110 : List Cond := u_ws RX11 TX11 5
theorem nmX11 : ∀ a, a < 5 → ∀ b, b < 5 → a ≠ b → (TX11 a).2.1 ≠ (TX11 b).2.1 := by decide +kernel
theorem tyX11_ok : ∀ k, k < 5 → parseFieldDescriptor (TX11 k).2.2.1 = some (tyX11 k) := by decide +kernel
abbrev cX11_init : ByteArray := prog_7_method_1_code
def yX11_init : MethodName := ⟨RX11, "<init>", "(Ljava/lang/String;I)V"⟩
def dkwX11_init_0 : List UInt8 := [42, 43, 28, 183, 0, 1, 177]
abbrev dktX11_init_0 : List UInt8 := dkwX11_init_0 ++ []
theorem dksX11_init_0 : cX11_init.data.toList.drop 0 = dktX11_init_0 := by decide +kernel
theorem dX11_init_0 : decode cX11_init 0 = .ok (.aload_n 0, 1) := dk_42 (dk_at dksX11_init_0 0 rfl rfl)
theorem dX11_init_1 : decode cX11_init 1 = .ok (.aload_n 1, 1) := dk_43 (dk_at dksX11_init_0 1 rfl rfl)
theorem dX11_init_2 : decode cX11_init 2 = .ok (.iload_n 2, 1) := dk_28 (dk_at dksX11_init_0 2 rfl rfl)
theorem dX11_init_3 : decode cX11_init 3 = .ok (.invokespecial 1, 3) := dk_183 0 1 (dk_at dksX11_init_0 3 rfl rfl)
theorem dX11_init_6 : decode cX11_init 6 = .ok (.return_, 1) := dk_177 (dk_at dksX11_init_0 6 rfl rfl)
abbrev cX11_isShelter : ByteArray := prog_7_method_2_code
def yX11_isShelter : MethodName := ⟨RX11, "isShelter", "()Z"⟩
def dkwX11_isShelter_0 : List UInt8 := [42, 180, 0, 7, 154, 0, 10, 42, 180, 0, 13, 153, 0, 7, 4, 167, 0, 4, 3, 172]
abbrev dktX11_isShelter_0 : List UInt8 := dkwX11_isShelter_0 ++ []
theorem dksX11_isShelter_0 : cX11_isShelter.data.toList.drop 0 = dktX11_isShelter_0 := by decide +kernel
theorem dX11_isShelter_0 : decode cX11_isShelter 0 = .ok (.aload_n 0, 1) := dk_42 (dk_at dksX11_isShelter_0 0 rfl rfl)
theorem dX11_isShelter_1 : decode cX11_isShelter 1 = .ok (.getfield 7, 3) := dk_180 0 7 (dk_at dksX11_isShelter_0 1 rfl rfl)
theorem dX11_isShelter_4 : decode cX11_isShelter 4 = .ok (.ifCond .ne 10, 3) := dk_154 0 10 (dk_at dksX11_isShelter_0 4 rfl rfl)
theorem dX11_isShelter_7 : decode cX11_isShelter 7 = .ok (.aload_n 0, 1) := dk_42 (dk_at dksX11_isShelter_0 7 rfl rfl)
theorem dX11_isShelter_8 : decode cX11_isShelter 8 = .ok (.getfield 13, 3) := dk_180 0 13 (dk_at dksX11_isShelter_0 8 rfl rfl)
theorem dX11_isShelter_11 : decode cX11_isShelter 11 = .ok (.ifCond .eq 7, 3) := dk_153 0 7 (dk_at dksX11_isShelter_0 11 rfl rfl)
theorem dX11_isShelter_14 : decode cX11_isShelter 14 = .ok (.iconst 1, 1) := dk_4 (dk_at dksX11_isShelter_0 14 rfl rfl)
theorem dX11_isShelter_15 : decode cX11_isShelter 15 = .ok (.goto 4, 3) := dk_167 0 4 (dk_at dksX11_isShelter_0 15 rfl rfl)
theorem dX11_isShelter_18 : decode cX11_isShelter 18 = .ok (.iconst 0, 1) := dk_3 (dk_at dksX11_isShelter_0 18 rfl rfl)
theorem dX11_isShelter_19 : decode cX11_isShelter 19 = .ok (.ireturn, 1) := dk_172 (dk_at dksX11_isShelter_0 19 rfl rfl)
theorem q130 : (Jvm.Cond.initialized "RainWalk$Place") ∈ lw_all := lw_g (lw_at lw_m1 19 rfl) rfl
theorem q748 : (Jvm.Cond.instantiable "RainWalk$Place" (5 : Nat)) ∈ lw_all := lw_g (lw_at lw_m3 157 rfl) rfl
theorem q769 : (Jvm.Cond.instanceMethod ({ cls := "RainWalk$Place", name := "<init>", desc := "(Ljava/lang/String;I)V" } : Jvm.MethodName)) ∈ lw_all := lw_g (lw_at lw_m3 178 rfl) rfl
theorem q770 : (Jvm.Cond.code ({ cls := "RainWalk$Place", name := "<init>", desc := "(Ljava/lang/String;I)V" } : Jvm.MethodName) prog_7_method_1_code (3 : Nat) (Option.none : Option Jvm.ClassFile.FieldType)) ∈ lw_all := lw_g (lw_at lw_m3 179 rfl) rfl
theorem q771 : (Jvm.Cond.methodLink "RainWalk$Place" (1 : Nat) ({ cls := "RainWalk$Named", name := "<init>", desc := "(Ljava/lang/String;I)V" } : Jvm.MethodName)) ∈ lw_all := lw_g (lw_at lw_m3 180 rfl) rfl
theorem q775 : (Jvm.Cond.fieldLink "RainWalk$Place" (7 : Nat) "RainWalk$Place" "isInn" "Z") ∈ lw_all := lw_g (lw_at lw_m3 184 rfl) rfl
theorem q777 : (Jvm.Cond.fieldLink "RainWalk$Place" (13 : Nat) "RainWalk$Place" "isTree" "Z") ∈ lw_all := lw_g (lw_at lw_m3 186 rfl) rfl
theorem q786 : (Jvm.Cond.sameField "RainWalk$Place" "RainWalk$Named" "number" "I") ∈ lw_all := lw_g (lw_at lw_m3 195 rfl) rfl
theorem q788 : (Jvm.Cond.lays "RainWalk$Place" "RainWalk$Place" "isInn" "Z") ∈ lw_all := lw_g (lw_at lw_m3 197 rfl) rfl
theorem q789 : (Jvm.Cond.soleField "RainWalk$Place" "isInn") ∈ lw_all := lw_g (lw_at lw_m3 198 rfl) rfl
theorem q790 : (Jvm.Cond.lays "RainWalk$Place" "RainWalk$Place" "isTree" "Z") ∈ lw_all := lw_g (lw_at lw_m3 199 rfl) rfl
theorem q791 : (Jvm.Cond.soleField "RainWalk$Place" "isTree") ∈ lw_all := lw_g (lw_at lw_m3 200 rfl) rfl
theorem q792 : (Jvm.Cond.lays "RainWalk$Place" "RainWalk$Place" "drips" "I") ∈ lw_all := lw_g (lw_at lw_m3 201 rfl) rfl
theorem q793 : (Jvm.Cond.soleField "RainWalk$Place" "drips") ∈ lw_all := lw_g (lw_at lw_m3 202 rfl) rfl
theorem q794 : (Jvm.Cond.laysFinal "RainWalk$Place" "RainWalk$Named" "name" "Ljava/lang/String;") ∈ lw_all := lw_g (lw_at lw_m3 203 rfl) rfl
theorem q796 : (Jvm.Cond.laysFinal "RainWalk$Place" "RainWalk$Named" "number" "I") ∈ lw_all := lw_g (lw_at lw_m3 205 rfl) rfl
theorem q798 : (Jvm.Cond.superclass "RainWalk$Place" "RainWalk$Named") ∈ lw_all := lw_g (lw_at lw_m3 207 rfl) rfl
theorem q1234 : (Jvm.Cond.instanceMethod ({ cls := "RainWalk$Place", name := "isShelter", desc := "()Z" } : Jvm.MethodName)) ∈ lw_all := lw_g (lw_at lw_m5 163 rfl) rfl
theorem q1235 : (Jvm.Cond.selects "RainWalk$Place" ({ cls := "RainWalk$Place", name := "isShelter", desc := "()Z" } : Jvm.MethodName) ({ cls := "RainWalk$Place", name := "isShelter", desc := "()Z" } : Jvm.MethodName)) ∈ lw_all := lw_g (lw_at lw_m5 164 rfl) rfl
theorem q1236 : (Jvm.Cond.code ({ cls := "RainWalk$Place", name := "isShelter", desc := "()Z" } : Jvm.MethodName) prog_7_method_2_code (1 : Nat) (Option.some Jvm.ClassFile.FieldType.boolean)) ∈ lw_all := lw_g (lw_at lw_m5 165 rfl) rfl
theorem q2225 : (Jvm.Cond.castable "RainWalk$Place" "java/lang/Object") ∈ lw_tbl := lw_at lw_m9 194 rfl
theorem in_X11 : ∀ w ∈ wsX110, w ∈ lw_all := lw_in wsX110 [794, 796, 788, 790, 792] (by decide +kernel) (by decide +kernel)
/-! RainWalk$Road -/
set_option maxRecDepth 100000
def RX12 : String := "RainWalk$Road"
def TX12 : u_T := fun k => match k with
  | 0 => ("RainWalk$Road", "from", "I", true)
  | 1 => ("RainWalk$Road", "to", "I", true)
  | 2 => ("RainWalk$Road", "side", "I", true)
  | 3 => ("RainWalk$Road", "length", "I", true)
  | _ => ("RainWalk$Road", "awning", "I", false)
def tyX12 : Nat → FieldType := fun k => match k with
  | 0 => .int
  | 1 => .int
  | 2 => .int
  | 3 => .int
  | _ => .int
abbrev wsX120 : List Cond := u_ws RX12 TX12 5
theorem nmX12 : ∀ a, a < 5 → ∀ b, b < 5 → a ≠ b → (TX12 a).2.1 ≠ (TX12 b).2.1 := by decide +kernel
theorem tyX12_ok : ∀ k, k < 5 → parseFieldDescriptor (TX12 k).2.2.1 = some (tyX12 k) := by decide +kernel
abbrev cX12_init : ByteArray := prog_12_method_1_code
def yX12_init : MethodName := ⟨RX12, "<init>", "(IIII)V"⟩
def dkwX12_init_1 : List UInt8 := [181, 0, 21, 177]
abbrev dktX12_init_1 : List UInt8 := dkwX12_init_1 ++ []
def dkwX12_init_0 : List UInt8 := [42, 183, 0, 3, 42, 27, 181, 0, 9, 42, 28, 181, 0, 15, 42, 29, 181, 0, 18, 42, 21, 4]
abbrev dktX12_init_0 : List UInt8 := dkwX12_init_0 ++ dktX12_init_1
theorem dksX12_init_0 : cX12_init.data.toList.drop 0 = dktX12_init_0 := by decide +kernel
theorem dksX12_init_1 : cX12_init.data.toList.drop 22 = dktX12_init_1 := dk_seg dksX12_init_0 22 rfl rfl
theorem dX12_init_0 : decode cX12_init 0 = .ok (.aload_n 0, 1) := dk_42 (dk_at dksX12_init_0 0 rfl rfl)
theorem dX12_init_1 : decode cX12_init 1 = .ok (.invokespecial 3, 3) := dk_183 0 3 (dk_at dksX12_init_0 1 rfl rfl)
theorem dX12_init_4 : decode cX12_init 4 = .ok (.aload_n 0, 1) := dk_42 (dk_at dksX12_init_0 4 rfl rfl)
theorem dX12_init_5 : decode cX12_init 5 = .ok (.iload_n 1, 1) := dk_27 (dk_at dksX12_init_0 5 rfl rfl)
theorem dX12_init_6 : decode cX12_init 6 = .ok (.putfield 9, 3) := dk_181 0 9 (dk_at dksX12_init_0 6 rfl rfl)
theorem dX12_init_9 : decode cX12_init 9 = .ok (.aload_n 0, 1) := dk_42 (dk_at dksX12_init_0 9 rfl rfl)
theorem dX12_init_10 : decode cX12_init 10 = .ok (.iload_n 2, 1) := dk_28 (dk_at dksX12_init_0 10 rfl rfl)
theorem dX12_init_11 : decode cX12_init 11 = .ok (.putfield 15, 3) := dk_181 0 15 (dk_at dksX12_init_0 11 rfl rfl)
theorem dX12_init_14 : decode cX12_init 14 = .ok (.aload_n 0, 1) := dk_42 (dk_at dksX12_init_0 14 rfl rfl)
theorem dX12_init_15 : decode cX12_init 15 = .ok (.iload_n 3, 1) := dk_29 (dk_at dksX12_init_0 15 rfl rfl)
theorem dX12_init_16 : decode cX12_init 16 = .ok (.putfield 18, 3) := dk_181 0 18 (dk_at dksX12_init_0 16 rfl rfl)
theorem dX12_init_19 : decode cX12_init 19 = .ok (.aload_n 0, 1) := dk_42 (dk_at dksX12_init_0 19 rfl rfl)
theorem dX12_init_20 : decode cX12_init 20 = .ok (.iload 4, 2) := dk_21 4 (dk_at dksX12_init_0 20 rfl rfl)
theorem dX12_init_22 : decode cX12_init 22 = .ok (.putfield 21, 3) := dk_181 0 21 (dk_at dksX12_init_1 0 rfl rfl)
theorem dX12_init_25 : decode cX12_init 25 = .ok (.return_, 1) := dk_177 (dk_at dksX12_init_1 3 rfl rfl)
abbrev cX12_toSide : ByteArray := prog_12_method_4_code
def yX12_toSide : MethodName := ⟨RX12, "toSide", "(I)I"⟩
def dkwX12_toSide_0 : List UInt8 := [42, 180, 0, 15, 5, 27, 104, 96, 7, 112, 172]
abbrev dktX12_toSide_0 : List UInt8 := dkwX12_toSide_0 ++ []
theorem dksX12_toSide_0 : cX12_toSide.data.toList.drop 0 = dktX12_toSide_0 := by decide +kernel
theorem dX12_toSide_0 : decode cX12_toSide 0 = .ok (.aload_n 0, 1) := dk_42 (dk_at dksX12_toSide_0 0 rfl rfl)
theorem dX12_toSide_1 : decode cX12_toSide 1 = .ok (.getfield 15, 3) := dk_180 0 15 (dk_at dksX12_toSide_0 1 rfl rfl)
theorem dX12_toSide_4 : decode cX12_toSide 4 = .ok (.iconst 2, 1) := dk_5 (dk_at dksX12_toSide_0 4 rfl rfl)
theorem dX12_toSide_5 : decode cX12_toSide 5 = .ok (.iload_n 1, 1) := dk_27 (dk_at dksX12_toSide_0 5 rfl rfl)
theorem dX12_toSide_6 : decode cX12_toSide 6 = .ok (.imul, 1) := dk_104 (dk_at dksX12_toSide_0 6 rfl rfl)
theorem dX12_toSide_7 : decode cX12_toSide 7 = .ok (.iadd, 1) := dk_96 (dk_at dksX12_toSide_0 7 rfl rfl)
theorem dX12_toSide_8 : decode cX12_toSide 8 = .ok (.iconst 4, 1) := dk_7 (dk_at dksX12_toSide_0 8 rfl rfl)
theorem dX12_toSide_9 : decode cX12_toSide 9 = .ok (.irem, 1) := dk_112 (dk_at dksX12_toSide_0 9 rfl rfl)
theorem dX12_toSide_10 : decode cX12_toSide 10 = .ok (.ireturn, 1) := dk_172 (dk_at dksX12_toSide_0 10 rfl rfl)
abbrev cX12_open : ByteArray := prog_12_method_6_code
def yX12_open : MethodName := ⟨RX12, "open", "(I)J"⟩
def dkwX12_open_0 : List UInt8 := [42, 180, 0, 18, 42, 180, 0, 24, 100, 133, 17, 9, 216, 27, 108, 133, 105, 173]
abbrev dktX12_open_0 : List UInt8 := dkwX12_open_0 ++ []
theorem dksX12_open_0 : cX12_open.data.toList.drop 0 = dktX12_open_0 := by decide +kernel
theorem dX12_open_0 : decode cX12_open 0 = .ok (.aload_n 0, 1) := dk_42 (dk_at dksX12_open_0 0 rfl rfl)
theorem dX12_open_1 : decode cX12_open 1 = .ok (.getfield 18, 3) := dk_180 0 18 (dk_at dksX12_open_0 1 rfl rfl)
theorem dX12_open_4 : decode cX12_open 4 = .ok (.aload_n 0, 1) := dk_42 (dk_at dksX12_open_0 4 rfl rfl)
theorem dX12_open_5 : decode cX12_open 5 = .ok (.getfield 24, 3) := dk_180 0 24 (dk_at dksX12_open_0 5 rfl rfl)
theorem dX12_open_8 : decode cX12_open 8 = .ok (.isub, 1) := dk_100 (dk_at dksX12_open_0 8 rfl rfl)
theorem dX12_open_9 : decode cX12_open 9 = .ok (.i2l, 1) := dk_133 (dk_at dksX12_open_0 9 rfl rfl)
theorem dX12_open_10 : decode cX12_open 10 = .ok (.sipush 2520, 3) := dk_17 9 216 (dk_at dksX12_open_0 10 rfl rfl)
theorem dX12_open_13 : decode cX12_open 13 = .ok (.iload_n 1, 1) := dk_27 (dk_at dksX12_open_0 13 rfl rfl)
theorem dX12_open_14 : decode cX12_open 14 = .ok (.idiv, 1) := dk_108 (dk_at dksX12_open_0 14 rfl rfl)
theorem dX12_open_15 : decode cX12_open 15 = .ok (.i2l, 1) := dk_133 (dk_at dksX12_open_0 15 rfl rfl)
theorem dX12_open_16 : decode cX12_open 16 = .ok (.lmul, 1) := dk_105 (dk_at dksX12_open_0 16 rfl rfl)
theorem dX12_open_17 : decode cX12_open 17 = .ok (.lreturn, 1) := dk_173 (dk_at dksX12_open_0 17 rfl rfl)
abbrev cX12_minutes : ByteArray := prog_12_method_5_code
def yX12_minutes : MethodName := ⟨RX12, "minutes", "(I)I"⟩
def dkwX12_minutes_0 : List UInt8 := [42, 180, 0, 18, 27, 96, 4, 100, 27, 108, 172]
abbrev dktX12_minutes_0 : List UInt8 := dkwX12_minutes_0 ++ []
theorem dksX12_minutes_0 : cX12_minutes.data.toList.drop 0 = dktX12_minutes_0 := by decide +kernel
theorem dX12_minutes_0 : decode cX12_minutes 0 = .ok (.aload_n 0, 1) := dk_42 (dk_at dksX12_minutes_0 0 rfl rfl)
theorem dX12_minutes_1 : decode cX12_minutes 1 = .ok (.getfield 18, 3) := dk_180 0 18 (dk_at dksX12_minutes_0 1 rfl rfl)
theorem dX12_minutes_4 : decode cX12_minutes 4 = .ok (.iload_n 1, 1) := dk_27 (dk_at dksX12_minutes_0 4 rfl rfl)
theorem dX12_minutes_5 : decode cX12_minutes 5 = .ok (.iadd, 1) := dk_96 (dk_at dksX12_minutes_0 5 rfl rfl)
theorem dX12_minutes_6 : decode cX12_minutes 6 = .ok (.iconst 1, 1) := dk_4 (dk_at dksX12_minutes_0 6 rfl rfl)
theorem dX12_minutes_7 : decode cX12_minutes 7 = .ok (.isub, 1) := dk_100 (dk_at dksX12_minutes_0 7 rfl rfl)
theorem dX12_minutes_8 : decode cX12_minutes 8 = .ok (.iload_n 1, 1) := dk_27 (dk_at dksX12_minutes_0 8 rfl rfl)
theorem dX12_minutes_9 : decode cX12_minutes 9 = .ok (.idiv, 1) := dk_108 (dk_at dksX12_minutes_0 9 rfl rfl)
theorem dX12_minutes_10 : decode cX12_minutes 10 = .ok (.ireturn, 1) := dk_172 (dk_at dksX12_minutes_0 10 rfl rfl)
abbrev cX12_begin : ByteArray := prog_12_method_2_code
def yX12_begin : MethodName := ⟨RX12, "begin", "(I)I"⟩
def dkwX12_begin_0 : List UInt8 := [27, 154, 0, 10, 42, 180, 0, 9, 167, 0, 7, 42, 180, 0, 21, 172]
abbrev dktX12_begin_0 : List UInt8 := dkwX12_begin_0 ++ []
theorem dksX12_begin_0 : cX12_begin.data.toList.drop 0 = dktX12_begin_0 := by decide +kernel
theorem dX12_begin_0 : decode cX12_begin 0 = .ok (.iload_n 1, 1) := dk_27 (dk_at dksX12_begin_0 0 rfl rfl)
theorem dX12_begin_1 : decode cX12_begin 1 = .ok (.ifCond .ne 10, 3) := dk_154 0 10 (dk_at dksX12_begin_0 1 rfl rfl)
theorem dX12_begin_4 : decode cX12_begin 4 = .ok (.aload_n 0, 1) := dk_42 (dk_at dksX12_begin_0 4 rfl rfl)
theorem dX12_begin_5 : decode cX12_begin 5 = .ok (.getfield 9, 3) := dk_180 0 9 (dk_at dksX12_begin_0 5 rfl rfl)
theorem dX12_begin_8 : decode cX12_begin 8 = .ok (.goto 7, 3) := dk_167 0 7 (dk_at dksX12_begin_0 8 rfl rfl)
theorem dX12_begin_11 : decode cX12_begin 11 = .ok (.aload_n 0, 1) := dk_42 (dk_at dksX12_begin_0 11 rfl rfl)
theorem dX12_begin_12 : decode cX12_begin 12 = .ok (.getfield 21, 3) := dk_180 0 21 (dk_at dksX12_begin_0 12 rfl rfl)
theorem dX12_begin_15 : decode cX12_begin 15 = .ok (.ireturn, 1) := dk_172 (dk_at dksX12_begin_0 15 rfl rfl)
abbrev cX12_end : ByteArray := prog_12_method_3_code
def yX12_end : MethodName := ⟨RX12, "end", "(I)I"⟩
def dkwX12_end_0 : List UInt8 := [27, 154, 0, 10, 42, 180, 0, 21, 167, 0, 7, 42, 180, 0, 9, 172]
abbrev dktX12_end_0 : List UInt8 := dkwX12_end_0 ++ []
theorem dksX12_end_0 : cX12_end.data.toList.drop 0 = dktX12_end_0 := by decide +kernel
theorem dX12_end_0 : decode cX12_end 0 = .ok (.iload_n 1, 1) := dk_27 (dk_at dksX12_end_0 0 rfl rfl)
theorem dX12_end_1 : decode cX12_end 1 = .ok (.ifCond .ne 10, 3) := dk_154 0 10 (dk_at dksX12_end_0 1 rfl rfl)
theorem dX12_end_4 : decode cX12_end 4 = .ok (.aload_n 0, 1) := dk_42 (dk_at dksX12_end_0 4 rfl rfl)
theorem dX12_end_5 : decode cX12_end 5 = .ok (.getfield 21, 3) := dk_180 0 21 (dk_at dksX12_end_0 5 rfl rfl)
theorem dX12_end_8 : decode cX12_end 8 = .ok (.goto 7, 3) := dk_167 0 7 (dk_at dksX12_end_0 8 rfl rfl)
theorem dX12_end_11 : decode cX12_end 11 = .ok (.aload_n 0, 1) := dk_42 (dk_at dksX12_end_0 11 rfl rfl)
theorem dX12_end_12 : decode cX12_end 12 = .ok (.getfield 9, 3) := dk_180 0 9 (dk_at dksX12_end_0 12 rfl rfl)
theorem dX12_end_15 : decode cX12_end 15 = .ok (.ireturn, 1) := dk_172 (dk_at dksX12_end_0 15 rfl rfl)
theorem q131 : (Jvm.Cond.initialized "RainWalk$Road") ∈ lw_all := lw_g (lw_at lw_m1 20 rfl) rfl
theorem q808 : (Jvm.Cond.instantiable "RainWalk$Road" (5 : Nat)) ∈ lw_all := lw_g (lw_at lw_m3 217 rfl) rfl
theorem q810 : (Jvm.Cond.instanceMethod ({ cls := "RainWalk$Road", name := "<init>", desc := "(IIII)V" } : Jvm.MethodName)) ∈ lw_all := lw_g (lw_at lw_m3 219 rfl) rfl
theorem q811 : (Jvm.Cond.code ({ cls := "RainWalk$Road", name := "<init>", desc := "(IIII)V" } : Jvm.MethodName) prog_12_method_1_code (5 : Nat) (Option.none : Option Jvm.ClassFile.FieldType)) ∈ lw_all := lw_g (lw_at lw_m3 220 rfl) rfl
theorem q812 : (Jvm.Cond.methodLink "RainWalk$Road" (3 : Nat) ({ cls := "java/lang/Object", name := "<init>", desc := "()V" } : Jvm.MethodName)) ∈ lw_all := lw_g (lw_at lw_m3 221 rfl) rfl
theorem q813 : (Jvm.Cond.fieldLink "RainWalk$Road" (9 : Nat) "RainWalk$Road" "from" "I") ∈ lw_all := lw_g (lw_at lw_m3 222 rfl) rfl
theorem q815 : (Jvm.Cond.fieldLink "RainWalk$Road" (21 : Nat) "RainWalk$Road" "to" "I") ∈ lw_all := lw_g (lw_at lw_m3 224 rfl) rfl
theorem q817 : (Jvm.Cond.fieldLink "RainWalk$Road" (15 : Nat) "RainWalk$Road" "side" "I") ∈ lw_all := lw_g (lw_at lw_m3 226 rfl) rfl
theorem q819 : (Jvm.Cond.fieldLink "RainWalk$Road" (18 : Nat) "RainWalk$Road" "length" "I") ∈ lw_all := lw_g (lw_at lw_m3 228 rfl) rfl
theorem q821 : (Jvm.Cond.fieldLink "RainWalk$Road" (24 : Nat) "RainWalk$Road" "awning" "I") ∈ lw_all := lw_g (lw_at lw_m3 230 rfl) rfl
theorem q824 : (Jvm.Cond.laysFinal "RainWalk$Road" "RainWalk$Road" "from" "I") ∈ lw_all := lw_g (lw_at lw_m3 233 rfl) rfl
theorem q825 : (Jvm.Cond.soleField "RainWalk$Road" "from") ∈ lw_all := lw_g (lw_at lw_m3 234 rfl) rfl
theorem q826 : (Jvm.Cond.laysFinal "RainWalk$Road" "RainWalk$Road" "to" "I") ∈ lw_all := lw_g (lw_at lw_m3 235 rfl) rfl
theorem q827 : (Jvm.Cond.soleField "RainWalk$Road" "to") ∈ lw_all := lw_g (lw_at lw_m3 236 rfl) rfl
theorem q828 : (Jvm.Cond.laysFinal "RainWalk$Road" "RainWalk$Road" "side" "I") ∈ lw_all := lw_g (lw_at lw_m3 237 rfl) rfl
theorem q829 : (Jvm.Cond.soleField "RainWalk$Road" "side") ∈ lw_all := lw_g (lw_at lw_m3 238 rfl) rfl
theorem q830 : (Jvm.Cond.laysFinal "RainWalk$Road" "RainWalk$Road" "length" "I") ∈ lw_all := lw_g (lw_at lw_m3 239 rfl) rfl
theorem q831 : (Jvm.Cond.soleField "RainWalk$Road" "length") ∈ lw_all := lw_g (lw_at lw_m4 0 rfl) rfl
theorem q832 : (Jvm.Cond.lays "RainWalk$Road" "RainWalk$Road" "awning" "I") ∈ lw_all := lw_g (lw_at lw_m4 1 rfl) rfl
theorem q833 : (Jvm.Cond.soleField "RainWalk$Road" "awning") ∈ lw_all := lw_g (lw_at lw_m4 2 rfl) rfl
theorem q834 : (Jvm.Cond.superclass "RainWalk$Road" "java/lang/Object") ∈ lw_all := lw_g (lw_at lw_m4 3 rfl) rfl
theorem q1017 : (Jvm.Cond.instanceMethod ({ cls := "RainWalk$Road", name := "toSide", desc := "(I)I" } : Jvm.MethodName)) ∈ lw_all := lw_g (lw_at lw_m4 186 rfl) rfl
theorem q1018 : (Jvm.Cond.selects "RainWalk$Road" ({ cls := "RainWalk$Road", name := "toSide", desc := "(I)I" } : Jvm.MethodName) ({ cls := "RainWalk$Road", name := "toSide", desc := "(I)I" } : Jvm.MethodName)) ∈ lw_all := lw_g (lw_at lw_m4 187 rfl) rfl
theorem q1019 : (Jvm.Cond.code ({ cls := "RainWalk$Road", name := "toSide", desc := "(I)I" } : Jvm.MethodName) prog_12_method_4_code (2 : Nat) (Option.some Jvm.ClassFile.FieldType.int)) ∈ lw_all := lw_g (lw_at lw_m4 188 rfl) rfl
theorem q1025 : (Jvm.Cond.instanceMethod ({ cls := "RainWalk$Road", name := "open", desc := "(I)J" } : Jvm.MethodName)) ∈ lw_all := lw_g (lw_at lw_m4 194 rfl) rfl
theorem q1026 : (Jvm.Cond.selects "RainWalk$Road" ({ cls := "RainWalk$Road", name := "open", desc := "(I)J" } : Jvm.MethodName) ({ cls := "RainWalk$Road", name := "open", desc := "(I)J" } : Jvm.MethodName)) ∈ lw_all := lw_g (lw_at lw_m4 195 rfl) rfl
theorem q1027 : (Jvm.Cond.code ({ cls := "RainWalk$Road", name := "open", desc := "(I)J" } : Jvm.MethodName) prog_12_method_6_code (2 : Nat) (Option.some Jvm.ClassFile.FieldType.long)) ∈ lw_all := lw_g (lw_at lw_m4 196 rfl) rfl
theorem q1125 : (Jvm.Cond.instanceMethod ({ cls := "RainWalk$Road", name := "minutes", desc := "(I)I" } : Jvm.MethodName)) ∈ lw_all := lw_g (lw_at lw_m5 54 rfl) rfl
theorem q1126 : (Jvm.Cond.selects "RainWalk$Road" ({ cls := "RainWalk$Road", name := "minutes", desc := "(I)I" } : Jvm.MethodName) ({ cls := "RainWalk$Road", name := "minutes", desc := "(I)I" } : Jvm.MethodName)) ∈ lw_all := lw_g (lw_at lw_m5 55 rfl) rfl
theorem q1127 : (Jvm.Cond.code ({ cls := "RainWalk$Road", name := "minutes", desc := "(I)I" } : Jvm.MethodName) prog_12_method_5_code (2 : Nat) (Option.some Jvm.ClassFile.FieldType.int)) ∈ lw_all := lw_g (lw_at lw_m5 56 rfl) rfl
theorem q1250 : (Jvm.Cond.instanceMethod ({ cls := "RainWalk$Road", name := "begin", desc := "(I)I" } : Jvm.MethodName)) ∈ lw_all := lw_g (lw_at lw_m5 179 rfl) rfl
theorem q1251 : (Jvm.Cond.selects "RainWalk$Road" ({ cls := "RainWalk$Road", name := "begin", desc := "(I)I" } : Jvm.MethodName) ({ cls := "RainWalk$Road", name := "begin", desc := "(I)I" } : Jvm.MethodName)) ∈ lw_all := lw_g (lw_at lw_m5 180 rfl) rfl
theorem q1252 : (Jvm.Cond.code ({ cls := "RainWalk$Road", name := "begin", desc := "(I)I" } : Jvm.MethodName) prog_12_method_2_code (2 : Nat) (Option.some Jvm.ClassFile.FieldType.int)) ∈ lw_all := lw_g (lw_at lw_m5 181 rfl) rfl
theorem q1254 : (Jvm.Cond.instanceMethod ({ cls := "RainWalk$Road", name := "end", desc := "(I)I" } : Jvm.MethodName)) ∈ lw_all := lw_g (lw_at lw_m5 183 rfl) rfl
theorem q1255 : (Jvm.Cond.selects "RainWalk$Road" ({ cls := "RainWalk$Road", name := "end", desc := "(I)I" } : Jvm.MethodName) ({ cls := "RainWalk$Road", name := "end", desc := "(I)I" } : Jvm.MethodName)) ∈ lw_all := lw_g (lw_at lw_m5 184 rfl) rfl
theorem q1256 : (Jvm.Cond.code ({ cls := "RainWalk$Road", name := "end", desc := "(I)I" } : Jvm.MethodName) prog_12_method_3_code (2 : Nat) (Option.some Jvm.ClassFile.FieldType.int)) ∈ lw_all := lw_g (lw_at lw_m5 185 rfl) rfl
theorem q2226 : (Jvm.Cond.castable "RainWalk$Road" "java/lang/Object") ∈ lw_tbl := lw_at lw_m9 195 rfl
theorem in_X12 : ∀ w ∈ wsX120, w ∈ lw_all := lw_in wsX120 [824, 826, 828, 830, 832] (by decide +kernel) (by decide +kernel)
/-! RainWalk$Walker -/
set_option maxRecDepth 100000
def RX13 : String := "RainWalk$Walker"
abbrev cX13_init : ByteArray := prog_15_method_1_code
def yX13_init : MethodName := ⟨RX13, "<init>", "(Ljava/lang/String;II)V"⟩
def dkwX13_init_0 : List UInt8 := [42, 43, 28, 183, 0, 3, 42, 29, 181, 0, 9, 177]
abbrev dktX13_init_0 : List UInt8 := dkwX13_init_0 ++ []
theorem dksX13_init_0 : cX13_init.data.toList.drop 0 = dktX13_init_0 := by decide +kernel
theorem dX13_init_0 : decode cX13_init 0 = .ok (.aload_n 0, 1) := dk_42 (dk_at dksX13_init_0 0 rfl rfl)
theorem dX13_init_1 : decode cX13_init 1 = .ok (.aload_n 1, 1) := dk_43 (dk_at dksX13_init_0 1 rfl rfl)
theorem dX13_init_2 : decode cX13_init 2 = .ok (.iload_n 2, 1) := dk_28 (dk_at dksX13_init_0 2 rfl rfl)
theorem dX13_init_3 : decode cX13_init 3 = .ok (.invokespecial 3, 3) := dk_183 0 3 (dk_at dksX13_init_0 3 rfl rfl)
theorem dX13_init_6 : decode cX13_init 6 = .ok (.aload_n 0, 1) := dk_42 (dk_at dksX13_init_0 6 rfl rfl)
theorem dX13_init_7 : decode cX13_init 7 = .ok (.iload_n 3, 1) := dk_29 (dk_at dksX13_init_0 7 rfl rfl)
theorem dX13_init_8 : decode cX13_init 8 = .ok (.putfield 9, 3) := dk_181 0 9 (dk_at dksX13_init_0 8 rfl rfl)
theorem dX13_init_11 : decode cX13_init 11 = .ok (.return_, 1) := dk_177 (dk_at dksX13_init_0 11 rfl rfl)
abbrev cX13_bent : ByteArray := prog_15_method_3_code
def yX13_bent : MethodName := ⟨RX13, "bent", "()I"⟩
theorem dX13_bent_0 : decode cX13_bent 0 = .ok (.iconst 0, 1) := by decide +kernel
theorem dX13_bent_1 : decode cX13_bent 1 = .ok (.ireturn, 1) := by decide +kernel
abbrev cX13_hasSpeed : ByteArray := prog_15_method_11_code
def yX13_hasSpeed : MethodName := ⟨RX13, "hasSpeed", "(I)Z"⟩
def dkwX13_hasSpeed_0 : List UInt8 := [27, 42, 180, 0, 43, 42, 180, 0, 46, 184, 0, 49, 172]
abbrev dktX13_hasSpeed_0 : List UInt8 := dkwX13_hasSpeed_0 ++ []
theorem dksX13_hasSpeed_0 : cX13_hasSpeed.data.toList.drop 0 = dktX13_hasSpeed_0 := by decide +kernel
theorem dX13_hasSpeed_0 : decode cX13_hasSpeed 0 = .ok (.iload_n 1, 1) := dk_27 (dk_at dksX13_hasSpeed_0 0 rfl rfl)
theorem dX13_hasSpeed_1 : decode cX13_hasSpeed 1 = .ok (.aload_n 0, 1) := dk_42 (dk_at dksX13_hasSpeed_0 1 rfl rfl)
theorem dX13_hasSpeed_2 : decode cX13_hasSpeed 2 = .ok (.getfield 43, 3) := dk_180 0 43 (dk_at dksX13_hasSpeed_0 2 rfl rfl)
theorem dX13_hasSpeed_5 : decode cX13_hasSpeed 5 = .ok (.aload_n 0, 1) := dk_42 (dk_at dksX13_hasSpeed_0 5 rfl rfl)
theorem dX13_hasSpeed_6 : decode cX13_hasSpeed 6 = .ok (.getfield 46, 3) := dk_180 0 46 (dk_at dksX13_hasSpeed_0 6 rfl rfl)
theorem dX13_hasSpeed_9 : decode cX13_hasSpeed 9 = .ok (.invokestatic 49, 3) := dk_184 0 49 (dk_at dksX13_hasSpeed_0 9 rfl rfl)
theorem dX13_hasSpeed_12 : decode cX13_hasSpeed 12 = .ok (.ireturn, 1) := dk_172 (dk_at dksX13_hasSpeed_0 12 rfl rfl)
abbrev cX13_topLeft : ByteArray := prog_15_method_9_code
def yX13_topLeft : MethodName := ⟨RX13, "topLeft", "()I"⟩
def dkwX13_topLeft_0 : List UInt8 := [3, 42, 182, 0, 28, 42, 182, 0, 31, 100, 184, 0, 34, 172]
abbrev dktX13_topLeft_0 : List UInt8 := dkwX13_topLeft_0 ++ []
theorem dksX13_topLeft_0 : cX13_topLeft.data.toList.drop 0 = dktX13_topLeft_0 := by decide +kernel
theorem dX13_topLeft_0 : decode cX13_topLeft 0 = .ok (.iconst 0, 1) := dk_3 (dk_at dksX13_topLeft_0 0 rfl rfl)
theorem dX13_topLeft_1 : decode cX13_topLeft 1 = .ok (.aload_n 0, 1) := dk_42 (dk_at dksX13_topLeft_0 1 rfl rfl)
theorem dX13_topLeft_2 : decode cX13_topLeft 2 = .ok (.invokevirtual 28, 3) := dk_182 0 28 (dk_at dksX13_topLeft_0 2 rfl rfl)
theorem dX13_topLeft_5 : decode cX13_topLeft 5 = .ok (.aload_n 0, 1) := dk_42 (dk_at dksX13_topLeft_0 5 rfl rfl)
theorem dX13_topLeft_6 : decode cX13_topLeft 6 = .ok (.invokevirtual 31, 3) := dk_182 0 31 (dk_at dksX13_topLeft_0 6 rfl rfl)
theorem dX13_topLeft_9 : decode cX13_topLeft 9 = .ok (.isub, 1) := dk_100 (dk_at dksX13_topLeft_0 9 rfl rfl)
theorem dX13_topLeft_10 : decode cX13_topLeft 10 = .ok (.invokestatic 34, 3) := dk_184 0 34 (dk_at dksX13_topLeft_0 10 rfl rfl)
theorem dX13_topLeft_13 : decode cX13_topLeft 13 = .ok (.ireturn, 1) := dk_172 (dk_at dksX13_topLeft_0 13 rfl rfl)
abbrev cX13_top : ByteArray := prog_15_method_6_code
def yX13_top : MethodName := ⟨RX13, "top", "()I"⟩
def dkwX13_top_0 : List UInt8 := [42, 180, 0, 15, 42, 180, 0, 18, 42, 182, 0, 21, 96, 104, 172]
abbrev dktX13_top_0 : List UInt8 := dkwX13_top_0 ++ []
theorem dksX13_top_0 : cX13_top.data.toList.drop 0 = dktX13_top_0 := by decide +kernel
theorem dX13_top_0 : decode cX13_top 0 = .ok (.aload_n 0, 1) := dk_42 (dk_at dksX13_top_0 0 rfl rfl)
theorem dX13_top_1 : decode cX13_top 1 = .ok (.getfield 15, 3) := dk_180 0 15 (dk_at dksX13_top_0 1 rfl rfl)
theorem dX13_top_4 : decode cX13_top 4 = .ok (.aload_n 0, 1) := dk_42 (dk_at dksX13_top_0 4 rfl rfl)
theorem dX13_top_5 : decode cX13_top 5 = .ok (.getfield 18, 3) := dk_180 0 18 (dk_at dksX13_top_0 5 rfl rfl)
theorem dX13_top_8 : decode cX13_top 8 = .ok (.aload_n 0, 1) := dk_42 (dk_at dksX13_top_0 8 rfl rfl)
theorem dX13_top_9 : decode cX13_top 9 = .ok (.invokevirtual 21, 3) := dk_182 0 21 (dk_at dksX13_top_0 9 rfl rfl)
theorem dX13_top_12 : decode cX13_top 12 = .ok (.iadd, 1) := dk_96 (dk_at dksX13_top_0 12 rfl rfl)
theorem dX13_top_13 : decode cX13_top 13 = .ok (.imul, 1) := dk_104 (dk_at dksX13_top_0 13 rfl rfl)
theorem dX13_top_14 : decode cX13_top 14 = .ok (.ireturn, 1) := dk_172 (dk_at dksX13_top_0 14 rfl rfl)
abbrev cX13_shield : ByteArray := prog_15_method_5_code
def yX13_shield : MethodName := ⟨RX13, "shield", "()I"⟩
theorem dX13_shield_0 : decode cX13_shield 0 = .ok (.iconst 0, 1) := by decide +kernel
theorem dX13_shield_1 : decode cX13_shield 1 = .ok (.ireturn, 1) := by decide +kernel
abbrev cX13_front : ByteArray := prog_15_method_7_code
def yX13_front : MethodName := ⟨RX13, "front", "()I"⟩
def dkwX13_front_0 : List UInt8 := [42, 180, 0, 15, 42, 180, 0, 25, 42, 182, 0, 21, 100, 104, 172]
abbrev dktX13_front_0 : List UInt8 := dkwX13_front_0 ++ []
theorem dksX13_front_0 : cX13_front.data.toList.drop 0 = dktX13_front_0 := by decide +kernel
theorem dX13_front_0 : decode cX13_front 0 = .ok (.aload_n 0, 1) := dk_42 (dk_at dksX13_front_0 0 rfl rfl)
theorem dX13_front_1 : decode cX13_front 1 = .ok (.getfield 15, 3) := dk_180 0 15 (dk_at dksX13_front_0 1 rfl rfl)
theorem dX13_front_4 : decode cX13_front 4 = .ok (.aload_n 0, 1) := dk_42 (dk_at dksX13_front_0 4 rfl rfl)
theorem dX13_front_5 : decode cX13_front 5 = .ok (.getfield 25, 3) := dk_180 0 25 (dk_at dksX13_front_0 5 rfl rfl)
theorem dX13_front_8 : decode cX13_front 8 = .ok (.aload_n 0, 1) := dk_42 (dk_at dksX13_front_0 8 rfl rfl)
theorem dX13_front_9 : decode cX13_front 9 = .ok (.invokevirtual 21, 3) := dk_182 0 21 (dk_at dksX13_front_0 9 rfl rfl)
theorem dX13_front_12 : decode cX13_front 12 = .ok (.isub, 1) := dk_100 (dk_at dksX13_front_0 12 rfl rfl)
theorem dX13_front_13 : decode cX13_front 13 = .ok (.imul, 1) := dk_104 (dk_at dksX13_front_0 13 rfl rfl)
theorem dX13_front_14 : decode cX13_front 14 = .ok (.ireturn, 1) := dk_172 (dk_at dksX13_front_0 14 rfl rfl)
abbrev cX13_frontLeft : ByteArray := prog_15_method_10_code
def yX13_frontLeft : MethodName := ⟨RX13, "frontLeft", "()I"⟩
def dkwX13_frontLeft_0 : List UInt8 := [3, 42, 182, 0, 40, 42, 182, 0, 31, 100, 184, 0, 34, 172]
abbrev dktX13_frontLeft_0 : List UInt8 := dkwX13_frontLeft_0 ++ []
theorem dksX13_frontLeft_0 : cX13_frontLeft.data.toList.drop 0 = dktX13_frontLeft_0 := by decide +kernel
theorem dX13_frontLeft_0 : decode cX13_frontLeft 0 = .ok (.iconst 0, 1) := dk_3 (dk_at dksX13_frontLeft_0 0 rfl rfl)
theorem dX13_frontLeft_1 : decode cX13_frontLeft 1 = .ok (.aload_n 0, 1) := dk_42 (dk_at dksX13_frontLeft_0 1 rfl rfl)
theorem dX13_frontLeft_2 : decode cX13_frontLeft 2 = .ok (.invokevirtual 40, 3) := dk_182 0 40 (dk_at dksX13_frontLeft_0 2 rfl rfl)
theorem dX13_frontLeft_5 : decode cX13_frontLeft 5 = .ok (.aload_n 0, 1) := dk_42 (dk_at dksX13_frontLeft_0 5 rfl rfl)
theorem dX13_frontLeft_6 : decode cX13_frontLeft 6 = .ok (.invokevirtual 31, 3) := dk_182 0 31 (dk_at dksX13_frontLeft_0 6 rfl rfl)
theorem dX13_frontLeft_9 : decode cX13_frontLeft 9 = .ok (.isub, 1) := dk_100 (dk_at dksX13_frontLeft_0 9 rfl rfl)
theorem dX13_frontLeft_10 : decode cX13_frontLeft 10 = .ok (.invokestatic 34, 3) := dk_184 0 34 (dk_at dksX13_frontLeft_0 10 rfl rfl)
theorem dX13_frontLeft_13 : decode cX13_frontLeft 13 = .ok (.ireturn, 1) := dk_172 (dk_at dksX13_frontLeft_0 13 rfl rfl)
abbrev cX13_side : ByteArray := prog_15_method_8_code
def yX13_side : MethodName := ⟨RX13, "side", "()I"⟩
def dkwX13_side_0 : List UInt8 := [42, 180, 0, 18, 42, 182, 0, 21, 96, 42, 180, 0, 25, 42, 182, 0, 21, 100, 104, 172]
abbrev dktX13_side_0 : List UInt8 := dkwX13_side_0 ++ []
theorem dksX13_side_0 : cX13_side.data.toList.drop 0 = dktX13_side_0 := by decide +kernel
theorem dX13_side_0 : decode cX13_side 0 = .ok (.aload_n 0, 1) := dk_42 (dk_at dksX13_side_0 0 rfl rfl)
theorem dX13_side_1 : decode cX13_side 1 = .ok (.getfield 18, 3) := dk_180 0 18 (dk_at dksX13_side_0 1 rfl rfl)
theorem dX13_side_4 : decode cX13_side 4 = .ok (.aload_n 0, 1) := dk_42 (dk_at dksX13_side_0 4 rfl rfl)
theorem dX13_side_5 : decode cX13_side 5 = .ok (.invokevirtual 21, 3) := dk_182 0 21 (dk_at dksX13_side_0 5 rfl rfl)
theorem dX13_side_8 : decode cX13_side 8 = .ok (.iadd, 1) := dk_96 (dk_at dksX13_side_0 8 rfl rfl)
theorem dX13_side_9 : decode cX13_side 9 = .ok (.aload_n 0, 1) := dk_42 (dk_at dksX13_side_0 9 rfl rfl)
theorem dX13_side_10 : decode cX13_side 10 = .ok (.getfield 25, 3) := dk_180 0 25 (dk_at dksX13_side_0 10 rfl rfl)
theorem dX13_side_13 : decode cX13_side 13 = .ok (.aload_n 0, 1) := dk_42 (dk_at dksX13_side_0 13 rfl rfl)
theorem dX13_side_14 : decode cX13_side 14 = .ok (.invokevirtual 21, 3) := dk_182 0 21 (dk_at dksX13_side_0 14 rfl rfl)
theorem dX13_side_17 : decode cX13_side 17 = .ok (.isub, 1) := dk_100 (dk_at dksX13_side_0 17 rfl rfl)
theorem dX13_side_18 : decode cX13_side 18 = .ok (.imul, 1) := dk_104 (dk_at dksX13_side_0 18 rfl rfl)
theorem dX13_side_19 : decode cX13_side 19 = .ok (.ireturn, 1) := dk_172 (dk_at dksX13_side_0 19 rfl rfl)
abbrev cX13_holds : ByteArray := prog_15_method_4_code
def yX13_holds : MethodName := ⟨RX13, "holds", "()I"⟩
theorem dX13_holds_0 : decode cX13_holds 0 = .ok (.iconst (-1), 1) := by decide +kernel
theorem dX13_holds_1 : decode cX13_holds 1 = .ok (.ireturn, 1) := by decide +kernel
theorem q132 : (Jvm.Cond.initialized "RainWalk$Walker") ∈ lw_all := lw_g (lw_at lw_m1 21 rfl) rfl
theorem q850 : (Jvm.Cond.instanceMethod ({ cls := "RainWalk$Walker", name := "<init>", desc := "(Ljava/lang/String;II)V" } : Jvm.MethodName)) ∈ lw_all := lw_g (lw_at lw_m4 19 rfl) rfl
theorem q851 : (Jvm.Cond.code ({ cls := "RainWalk$Walker", name := "<init>", desc := "(Ljava/lang/String;II)V" } : Jvm.MethodName) prog_15_method_1_code (4 : Nat) (Option.none : Option Jvm.ClassFile.FieldType)) ∈ lw_all := lw_g (lw_at lw_m4 20 rfl) rfl
theorem q852 : (Jvm.Cond.methodLink "RainWalk$Walker" (3 : Nat) ({ cls := "RainWalk$Named", name := "<init>", desc := "(Ljava/lang/String;I)V" } : Jvm.MethodName)) ∈ lw_all := lw_g (lw_at lw_m4 21 rfl) rfl
theorem q853 : (Jvm.Cond.fieldLink "RainWalk$Walker" (9 : Nat) "RainWalk$Walker" "by" "I") ∈ lw_all := lw_g (lw_at lw_m4 22 rfl) rfl
theorem q861 : (Jvm.Cond.fieldLink "RainWalk$Walker" (15 : Nat) "RainWalk$Walker" "broad" "I") ∈ lw_all := lw_g (lw_at lw_m4 30 rfl) rfl
theorem q863 : (Jvm.Cond.fieldLink "RainWalk$Walker" (18 : Nat) "RainWalk$Walker" "deep" "I") ∈ lw_all := lw_g (lw_at lw_m4 32 rfl) rfl
theorem q865 : (Jvm.Cond.fieldLink "RainWalk$Walker" (25 : Nat) "RainWalk$Walker" "high" "I") ∈ lw_all := lw_g (lw_at lw_m4 34 rfl) rfl
theorem q868 : (Jvm.Cond.fieldLink "RainWalk$Walker" (43 : Nat) "RainWalk$Walker" "slowest" "I") ∈ lw_all := lw_g (lw_at lw_m4 37 rfl) rfl
theorem q872 : (Jvm.Cond.fieldLink "RainWalk$Walker" (46 : Nat) "RainWalk$Walker" "fastest" "I") ∈ lw_all := lw_g (lw_at lw_m4 41 rfl) rfl
theorem q876 : (Jvm.Cond.soleField "RainWalk$Walker" "by") ∈ lw_all := lw_g (lw_at lw_m4 45 rfl) rfl
theorem q878 : (Jvm.Cond.soleField "RainWalk$Walker" "broad") ∈ lw_all := lw_g (lw_at lw_m4 47 rfl) rfl
theorem q880 : (Jvm.Cond.soleField "RainWalk$Walker" "deep") ∈ lw_all := lw_g (lw_at lw_m4 49 rfl) rfl
theorem q882 : (Jvm.Cond.soleField "RainWalk$Walker" "high") ∈ lw_all := lw_g (lw_at lw_m4 51 rfl) rfl
theorem q884 : (Jvm.Cond.soleField "RainWalk$Walker" "slowest") ∈ lw_all := lw_g (lw_at lw_m4 53 rfl) rfl
theorem q886 : (Jvm.Cond.soleField "RainWalk$Walker" "fastest") ∈ lw_all := lw_g (lw_at lw_m4 55 rfl) rfl
theorem q942 : (Jvm.Cond.instanceMethod ({ cls := "RainWalk$Walker", name := "bent", desc := "()I" } : Jvm.MethodName)) ∈ lw_all := lw_g (lw_at lw_m4 111 rfl) rfl
theorem q943 : (Jvm.Cond.sameMethod "RainWalk$Walker" "RainWalk$Walker" "bent" "()I") ∈ lw_all := lw_g (lw_at lw_m4 112 rfl) rfl
theorem q950 : (Jvm.Cond.code ({ cls := "RainWalk$Walker", name := "bent", desc := "()I" } : Jvm.MethodName) prog_15_method_3_code (1 : Nat) (Option.some Jvm.ClassFile.FieldType.int)) ∈ lw_all := lw_g (lw_at lw_m4 119 rfl) rfl
theorem q1004 : (Jvm.Cond.instanceMethod ({ cls := "RainWalk$Walker", name := "hasSpeed", desc := "(I)Z" } : Jvm.MethodName)) ∈ lw_all := lw_g (lw_at lw_m4 173 rfl) rfl
theorem q1005 : (Jvm.Cond.sameMethod "RainWalk$Walker" "RainWalk$Walker" "hasSpeed" "(I)Z") ∈ lw_all := lw_g (lw_at lw_m4 174 rfl) rfl
theorem q1010 : (Jvm.Cond.code ({ cls := "RainWalk$Walker", name := "hasSpeed", desc := "(I)Z" } : Jvm.MethodName) prog_15_method_11_code (2 : Nat) (Option.some Jvm.ClassFile.FieldType.boolean)) ∈ lw_all := lw_g (lw_at lw_m4 179 rfl) rfl
theorem q1011 : (Jvm.Cond.methodLinkNest "RainWalk$Walker" (49 : Nat) ({ cls := "RainWalk", name := "in", desc := "(III)Z" } : Jvm.MethodName) "RainWalk") ∈ lw_tbl := lw_at lw_m4 180 rfl
theorem q1033 : (Jvm.Cond.instanceMethod ({ cls := "RainWalk$Walker", name := "topLeft", desc := "()I" } : Jvm.MethodName)) ∈ lw_all := lw_g (lw_at lw_m4 202 rfl) rfl
theorem q1034 : (Jvm.Cond.sameMethod "RainWalk$Walker" "RainWalk$Walker" "topLeft" "()I") ∈ lw_all := lw_g (lw_at lw_m4 203 rfl) rfl
theorem q1039 : (Jvm.Cond.code ({ cls := "RainWalk$Walker", name := "topLeft", desc := "()I" } : Jvm.MethodName) prog_15_method_9_code (1 : Nat) (Option.some Jvm.ClassFile.FieldType.int)) ∈ lw_all := lw_g (lw_at lw_m4 208 rfl) rfl
theorem q1040 : (Jvm.Cond.methodLink "RainWalk$Walker" (28 : Nat) ({ cls := "RainWalk$Walker", name := "top", desc := "()I" } : Jvm.MethodName)) ∈ lw_all := lw_g (lw_at lw_m4 209 rfl) rfl
theorem q1041 : (Jvm.Cond.instanceMethod ({ cls := "RainWalk$Walker", name := "top", desc := "()I" } : Jvm.MethodName)) ∈ lw_all := lw_g (lw_at lw_m4 210 rfl) rfl
theorem q1042 : (Jvm.Cond.sameMethod "RainWalk$Walker" "RainWalk$Walker" "top" "()I") ∈ lw_all := lw_g (lw_at lw_m4 211 rfl) rfl
theorem q1047 : (Jvm.Cond.code ({ cls := "RainWalk$Walker", name := "top", desc := "()I" } : Jvm.MethodName) prog_15_method_6_code (1 : Nat) (Option.some Jvm.ClassFile.FieldType.int)) ∈ lw_all := lw_g (lw_at lw_m4 216 rfl) rfl
theorem q1048 : (Jvm.Cond.methodLink "RainWalk$Walker" (21 : Nat) ({ cls := "RainWalk$Walker", name := "bent", desc := "()I" } : Jvm.MethodName)) ∈ lw_all := lw_g (lw_at lw_m4 217 rfl) rfl
theorem q1049 : (Jvm.Cond.methodLink "RainWalk$Walker" (31 : Nat) ({ cls := "RainWalk$Walker", name := "shield", desc := "()I" } : Jvm.MethodName)) ∈ lw_all := lw_g (lw_at lw_m4 218 rfl) rfl
theorem q1050 : (Jvm.Cond.instanceMethod ({ cls := "RainWalk$Walker", name := "shield", desc := "()I" } : Jvm.MethodName)) ∈ lw_all := lw_g (lw_at lw_m4 219 rfl) rfl
theorem q1051 : (Jvm.Cond.sameMethod "RainWalk$Walker" "RainWalk$Walker" "shield" "()I") ∈ lw_all := lw_g (lw_at lw_m4 220 rfl) rfl
theorem q1058 : (Jvm.Cond.code ({ cls := "RainWalk$Walker", name := "shield", desc := "()I" } : Jvm.MethodName) prog_15_method_5_code (1 : Nat) (Option.some Jvm.ClassFile.FieldType.int)) ∈ lw_all := lw_g (lw_at lw_m4 227 rfl) rfl
theorem q1059 : (Jvm.Cond.methodLink "RainWalk$Walker" (34 : Nat) ({ cls := "java/lang/Math", name := "max", desc := "(II)I" } : Jvm.MethodName)) ∈ lw_all := lw_g (lw_at lw_m4 228 rfl) rfl
theorem q1067 : (Jvm.Cond.instanceMethod ({ cls := "RainWalk$Walker", name := "front", desc := "()I" } : Jvm.MethodName)) ∈ lw_all := lw_g (lw_at lw_m4 236 rfl) rfl
theorem q1068 : (Jvm.Cond.sameMethod "RainWalk$Walker" "RainWalk$Walker" "front" "()I") ∈ lw_all := lw_g (lw_at lw_m4 237 rfl) rfl
theorem q1073 : (Jvm.Cond.code ({ cls := "RainWalk$Walker", name := "front", desc := "()I" } : Jvm.MethodName) prog_15_method_7_code (1 : Nat) (Option.some Jvm.ClassFile.FieldType.int)) ∈ lw_all := lw_g (lw_at lw_m5 2 rfl) rfl
theorem q1080 : (Jvm.Cond.instanceMethod ({ cls := "RainWalk$Walker", name := "frontLeft", desc := "()I" } : Jvm.MethodName)) ∈ lw_all := lw_g (lw_at lw_m5 9 rfl) rfl
theorem q1081 : (Jvm.Cond.sameMethod "RainWalk$Walker" "RainWalk$Walker" "frontLeft" "()I") ∈ lw_all := lw_g (lw_at lw_m5 10 rfl) rfl
theorem q1086 : (Jvm.Cond.code ({ cls := "RainWalk$Walker", name := "frontLeft", desc := "()I" } : Jvm.MethodName) prog_15_method_10_code (1 : Nat) (Option.some Jvm.ClassFile.FieldType.int)) ∈ lw_all := lw_g (lw_at lw_m5 15 rfl) rfl
theorem q1087 : (Jvm.Cond.methodLink "RainWalk$Walker" (40 : Nat) ({ cls := "RainWalk$Walker", name := "front", desc := "()I" } : Jvm.MethodName)) ∈ lw_all := lw_g (lw_at lw_m5 16 rfl) rfl
theorem q1093 : (Jvm.Cond.instanceMethod ({ cls := "RainWalk$Walker", name := "side", desc := "()I" } : Jvm.MethodName)) ∈ lw_all := lw_g (lw_at lw_m5 22 rfl) rfl
theorem q1094 : (Jvm.Cond.sameMethod "RainWalk$Walker" "RainWalk$Walker" "side" "()I") ∈ lw_all := lw_g (lw_at lw_m5 23 rfl) rfl
theorem q1099 : (Jvm.Cond.code ({ cls := "RainWalk$Walker", name := "side", desc := "()I" } : Jvm.MethodName) prog_15_method_8_code (1 : Nat) (Option.some Jvm.ClassFile.FieldType.int)) ∈ lw_all := lw_g (lw_at lw_m5 28 rfl) rfl
theorem q1384 : (Jvm.Cond.instanceMethod ({ cls := "RainWalk$Walker", name := "holds", desc := "()I" } : Jvm.MethodName)) ∈ lw_all := lw_g (lw_at lw_m6 73 rfl) rfl
theorem q1385 : (Jvm.Cond.sameMethod "RainWalk$Walker" "RainWalk$Walker" "holds" "()I") ∈ lw_all := lw_g (lw_at lw_m6 74 rfl) rfl
theorem q1392 : (Jvm.Cond.code ({ cls := "RainWalk$Walker", name := "holds", desc := "()I" } : Jvm.MethodName) prog_15_method_4_code (1 : Nat) (Option.some Jvm.ClassFile.FieldType.int)) ∈ lw_all := lw_g (lw_at lw_m6 81 rfl) rfl
theorem q1422 : (Jvm.Cond.declares ({ cls := "RainWalk$Walker", name := "kind", desc := "()I" } : Jvm.MethodName)) ∈ lw_tbl := lw_at lw_m6 111 rfl
theorem q1423 : (Jvm.Cond.sameMethod "RainWalk$Walker" "RainWalk$Walker" "kind" "()I") ∈ lw_all := lw_g (lw_at lw_m6 112 rfl) rfl
/-! RainWalk$Plain -/
set_option maxRecDepth 100000
def RX14 : String := "RainWalk$Plain"
def TX14 : u_T := fun k => match k with
  | 0 => ("RainWalk$Walker", "by", "I", true)
  | 1 => ("RainWalk$Walker", "broad", "I", false)
  | 2 => ("RainWalk$Walker", "deep", "I", false)
  | 3 => ("RainWalk$Walker", "high", "I", false)
  | 4 => ("RainWalk$Walker", "slowest", "I", false)
  | 5 => ("RainWalk$Walker", "fastest", "I", false)
  | 6 => ("RainWalk$Named", "name", "Ljava/lang/String;", true)
  | _ => ("RainWalk$Named", "number", "I", true)
def tyX14 : Nat → FieldType := fun k => match k with
  | 0 => .int
  | 1 => .int
  | 2 => .int
  | 3 => .int
  | 4 => .int
  | 5 => .int
  | 6 => .object "java/lang/String"
  | _ => .int
abbrev wsX140 : List Cond := u_ws RX14 TX14 8
theorem nmX14 : ∀ a, a < 8 → ∀ b, b < 8 → a ≠ b → (TX14 a).2.1 ≠ (TX14 b).2.1 := by decide +kernel
theorem tyX14_ok : ∀ k, k < 8 → parseFieldDescriptor (TX14 k).2.2.1 = some (tyX14 k) := by decide +kernel
abbrev cX14_init : ByteArray := prog_8_method_1_code
def yX14_init : MethodName := ⟨RX14, "<init>", "(Ljava/lang/String;I)V"⟩
def dkwX14_init_0 : List UInt8 := [42, 43, 28, 3, 183, 0, 1, 177]
abbrev dktX14_init_0 : List UInt8 := dkwX14_init_0 ++ []
theorem dksX14_init_0 : cX14_init.data.toList.drop 0 = dktX14_init_0 := by decide +kernel
theorem dX14_init_0 : decode cX14_init 0 = .ok (.aload_n 0, 1) := dk_42 (dk_at dksX14_init_0 0 rfl rfl)
theorem dX14_init_1 : decode cX14_init 1 = .ok (.aload_n 1, 1) := dk_43 (dk_at dksX14_init_0 1 rfl rfl)
theorem dX14_init_2 : decode cX14_init 2 = .ok (.iload_n 2, 1) := dk_28 (dk_at dksX14_init_0 2 rfl rfl)
theorem dX14_init_3 : decode cX14_init 3 = .ok (.iconst 0, 1) := dk_3 (dk_at dksX14_init_0 3 rfl rfl)
theorem dX14_init_4 : decode cX14_init 4 = .ok (.invokespecial 1, 3) := dk_183 0 1 (dk_at dksX14_init_0 4 rfl rfl)
theorem dX14_init_7 : decode cX14_init 7 = .ok (.return_, 1) := dk_177 (dk_at dksX14_init_0 7 rfl rfl)
abbrev cX14_kind : ByteArray := prog_8_method_2_code
def yX14_kind : MethodName := ⟨RX14, "kind", "()I"⟩
theorem dX14_kind_0 : decode cX14_kind 0 = .ok (.iconst 0, 1) := by decide +kernel
theorem dX14_kind_1 : decode cX14_kind 1 = .ok (.ireturn, 1) := by decide +kernel
theorem q133 : (Jvm.Cond.initialized "RainWalk$Plain") ∈ lw_all := lw_g (lw_at lw_m1 22 rfl) rfl
theorem q845 : (Jvm.Cond.instantiable "RainWalk$Plain" (8 : Nat)) ∈ lw_all := lw_g (lw_at lw_m4 14 rfl) rfl
theorem q847 : (Jvm.Cond.instanceMethod ({ cls := "RainWalk$Plain", name := "<init>", desc := "(Ljava/lang/String;I)V" } : Jvm.MethodName)) ∈ lw_all := lw_g (lw_at lw_m4 16 rfl) rfl
theorem q848 : (Jvm.Cond.code ({ cls := "RainWalk$Plain", name := "<init>", desc := "(Ljava/lang/String;I)V" } : Jvm.MethodName) prog_8_method_1_code (3 : Nat) (Option.none : Option Jvm.ClassFile.FieldType)) ∈ lw_all := lw_g (lw_at lw_m4 17 rfl) rfl
theorem q849 : (Jvm.Cond.methodLink "RainWalk$Plain" (1 : Nat) ({ cls := "RainWalk$Walker", name := "<init>", desc := "(Ljava/lang/String;II)V" } : Jvm.MethodName)) ∈ lw_all := lw_g (lw_at lw_m4 18 rfl) rfl
theorem q875 : (Jvm.Cond.laysFinal "RainWalk$Plain" "RainWalk$Walker" "by" "I") ∈ lw_all := lw_g (lw_at lw_m4 44 rfl) rfl
theorem q877 : (Jvm.Cond.lays "RainWalk$Plain" "RainWalk$Walker" "broad" "I") ∈ lw_all := lw_g (lw_at lw_m4 46 rfl) rfl
theorem q879 : (Jvm.Cond.lays "RainWalk$Plain" "RainWalk$Walker" "deep" "I") ∈ lw_all := lw_g (lw_at lw_m4 48 rfl) rfl
theorem q881 : (Jvm.Cond.lays "RainWalk$Plain" "RainWalk$Walker" "high" "I") ∈ lw_all := lw_g (lw_at lw_m4 50 rfl) rfl
theorem q883 : (Jvm.Cond.lays "RainWalk$Plain" "RainWalk$Walker" "slowest" "I") ∈ lw_all := lw_g (lw_at lw_m4 52 rfl) rfl
theorem q885 : (Jvm.Cond.lays "RainWalk$Plain" "RainWalk$Walker" "fastest" "I") ∈ lw_all := lw_g (lw_at lw_m4 54 rfl) rfl
theorem q887 : (Jvm.Cond.laysFinal "RainWalk$Plain" "RainWalk$Named" "name" "Ljava/lang/String;") ∈ lw_all := lw_g (lw_at lw_m4 56 rfl) rfl
theorem q888 : (Jvm.Cond.laysFinal "RainWalk$Plain" "RainWalk$Named" "number" "I") ∈ lw_all := lw_g (lw_at lw_m4 57 rfl) rfl
theorem q889 : (Jvm.Cond.superclass "RainWalk$Plain" "RainWalk$Walker") ∈ lw_all := lw_g (lw_at lw_m4 58 rfl) rfl
theorem q948 : (Jvm.Cond.selects "RainWalk$Plain" ({ cls := "RainWalk$Walker", name := "bent", desc := "()I" } : Jvm.MethodName) ({ cls := "RainWalk$Walker", name := "bent", desc := "()I" } : Jvm.MethodName)) ∈ lw_all := lw_g (lw_at lw_m4 117 rfl) rfl
theorem q1008 : (Jvm.Cond.selects "RainWalk$Plain" ({ cls := "RainWalk$Walker", name := "hasSpeed", desc := "(I)Z" } : Jvm.MethodName) ({ cls := "RainWalk$Walker", name := "hasSpeed", desc := "(I)Z" } : Jvm.MethodName)) ∈ lw_all := lw_g (lw_at lw_m4 177 rfl) rfl
theorem q1037 : (Jvm.Cond.selects "RainWalk$Plain" ({ cls := "RainWalk$Walker", name := "topLeft", desc := "()I" } : Jvm.MethodName) ({ cls := "RainWalk$Walker", name := "topLeft", desc := "()I" } : Jvm.MethodName)) ∈ lw_all := lw_g (lw_at lw_m4 206 rfl) rfl
theorem q1045 : (Jvm.Cond.selects "RainWalk$Plain" ({ cls := "RainWalk$Walker", name := "top", desc := "()I" } : Jvm.MethodName) ({ cls := "RainWalk$Walker", name := "top", desc := "()I" } : Jvm.MethodName)) ∈ lw_all := lw_g (lw_at lw_m4 214 rfl) rfl
theorem q1054 : (Jvm.Cond.selects "RainWalk$Plain" ({ cls := "RainWalk$Walker", name := "shield", desc := "()I" } : Jvm.MethodName) ({ cls := "RainWalk$Walker", name := "shield", desc := "()I" } : Jvm.MethodName)) ∈ lw_all := lw_g (lw_at lw_m4 223 rfl) rfl
theorem q1071 : (Jvm.Cond.selects "RainWalk$Plain" ({ cls := "RainWalk$Walker", name := "front", desc := "()I" } : Jvm.MethodName) ({ cls := "RainWalk$Walker", name := "front", desc := "()I" } : Jvm.MethodName)) ∈ lw_all := lw_g (lw_at lw_m5 0 rfl) rfl
theorem q1084 : (Jvm.Cond.selects "RainWalk$Plain" ({ cls := "RainWalk$Walker", name := "frontLeft", desc := "()I" } : Jvm.MethodName) ({ cls := "RainWalk$Walker", name := "frontLeft", desc := "()I" } : Jvm.MethodName)) ∈ lw_all := lw_g (lw_at lw_m5 13 rfl) rfl
theorem q1097 : (Jvm.Cond.selects "RainWalk$Plain" ({ cls := "RainWalk$Walker", name := "side", desc := "()I" } : Jvm.MethodName) ({ cls := "RainWalk$Walker", name := "side", desc := "()I" } : Jvm.MethodName)) ∈ lw_all := lw_g (lw_at lw_m5 26 rfl) rfl
theorem q1390 : (Jvm.Cond.selects "RainWalk$Plain" ({ cls := "RainWalk$Walker", name := "holds", desc := "()I" } : Jvm.MethodName) ({ cls := "RainWalk$Walker", name := "holds", desc := "()I" } : Jvm.MethodName)) ∈ lw_all := lw_g (lw_at lw_m6 79 rfl) rfl
theorem q1430 : (Jvm.Cond.selects "RainWalk$Plain" ({ cls := "RainWalk$Walker", name := "kind", desc := "()I" } : Jvm.MethodName) ({ cls := "RainWalk$Plain", name := "kind", desc := "()I" } : Jvm.MethodName)) ∈ lw_all := lw_g (lw_at lw_m6 119 rfl) rfl
theorem q1431 : (Jvm.Cond.instanceMethod ({ cls := "RainWalk$Plain", name := "kind", desc := "()I" } : Jvm.MethodName)) ∈ lw_all := lw_g (lw_at lw_m6 120 rfl) rfl
theorem q1432 : (Jvm.Cond.code ({ cls := "RainWalk$Plain", name := "kind", desc := "()I" } : Jvm.MethodName) prog_8_method_2_code (1 : Nat) (Option.some Jvm.ClassFile.FieldType.int)) ∈ lw_all := lw_g (lw_at lw_m6 121 rfl) rfl
theorem q2212 : (Jvm.Cond.castable "RainWalk$Plain" "RainWalk$Walker") ∈ lw_tbl := lw_at lw_m9 181 rfl
theorem q2227 : (Jvm.Cond.castable "RainWalk$Plain" "java/lang/Object") ∈ lw_tbl := lw_at lw_m9 196 rfl
theorem in_X14 : ∀ w ∈ wsX140, w ∈ lw_all := lw_in wsX140 [875, 877, 879, 881, 883, 885, 887, 888] (by decide +kernel) (by decide +kernel)
/-! RainWalk$Bent -/
set_option maxRecDepth 100000
def RX15 : String := "RainWalk$Bent"
def TX15 : u_T := fun k => match k with
  | 0 => ("RainWalk$Walker", "by", "I", true)
  | 1 => ("RainWalk$Walker", "broad", "I", false)
  | 2 => ("RainWalk$Walker", "deep", "I", false)
  | 3 => ("RainWalk$Walker", "high", "I", false)
  | 4 => ("RainWalk$Walker", "slowest", "I", false)
  | 5 => ("RainWalk$Walker", "fastest", "I", false)
  | 6 => ("RainWalk$Named", "name", "Ljava/lang/String;", true)
  | _ => ("RainWalk$Named", "number", "I", true)
def tyX15 : Nat → FieldType := fun k => match k with
  | 0 => .int
  | 1 => .int
  | 2 => .int
  | 3 => .int
  | 4 => .int
  | 5 => .int
  | 6 => .object "java/lang/String"
  | _ => .int
abbrev wsX150 : List Cond := u_ws RX15 TX15 8
theorem nmX15 : ∀ a, a < 8 → ∀ b, b < 8 → a ≠ b → (TX15 a).2.1 ≠ (TX15 b).2.1 := by decide +kernel
theorem tyX15_ok : ∀ k, k < 8 → parseFieldDescriptor (TX15 k).2.2.1 = some (tyX15 k) := by decide +kernel
abbrev cX15_init : ByteArray := prog_2_method_1_code
def yX15_init : MethodName := ⟨RX15, "<init>", "(Ljava/lang/String;II)V"⟩
def dkwX15_init_0 : List UInt8 := [42, 43, 28, 29, 183, 0, 1, 177]
abbrev dktX15_init_0 : List UInt8 := dkwX15_init_0 ++ []
theorem dksX15_init_0 : cX15_init.data.toList.drop 0 = dktX15_init_0 := by decide +kernel
theorem dX15_init_0 : decode cX15_init 0 = .ok (.aload_n 0, 1) := dk_42 (dk_at dksX15_init_0 0 rfl rfl)
theorem dX15_init_1 : decode cX15_init 1 = .ok (.aload_n 1, 1) := dk_43 (dk_at dksX15_init_0 1 rfl rfl)
theorem dX15_init_2 : decode cX15_init 2 = .ok (.iload_n 2, 1) := dk_28 (dk_at dksX15_init_0 2 rfl rfl)
theorem dX15_init_3 : decode cX15_init 3 = .ok (.iload_n 3, 1) := dk_29 (dk_at dksX15_init_0 3 rfl rfl)
theorem dX15_init_4 : decode cX15_init 4 = .ok (.invokespecial 1, 3) := dk_183 0 1 (dk_at dksX15_init_0 4 rfl rfl)
theorem dX15_init_7 : decode cX15_init 7 = .ok (.return_, 1) := dk_177 (dk_at dksX15_init_0 7 rfl rfl)
abbrev cX15_bent : ByteArray := prog_2_method_3_code
def yX15_bent : MethodName := ⟨RX15, "bent", "()I"⟩
theorem dX15_bent_0 : decode cX15_bent 0 = .ok (.aload_n 0, 1) := by decide +kernel
theorem dX15_bent_1 : decode cX15_bent 1 = .ok (.getfield 7, 3) := by decide +kernel
theorem dX15_bent_4 : decode cX15_bent 4 = .ok (.ireturn, 1) := by decide +kernel
abbrev cX15_kind : ByteArray := prog_2_method_2_code
def yX15_kind : MethodName := ⟨RX15, "kind", "()I"⟩
theorem dX15_kind_0 : decode cX15_kind 0 = .ok (.iconst 1, 1) := by decide +kernel
theorem dX15_kind_1 : decode cX15_kind 1 = .ok (.ireturn, 1) := by decide +kernel
theorem q134 : (Jvm.Cond.initialized "RainWalk$Bent") ∈ lw_all := lw_g (lw_at lw_m1 23 rfl) rfl
theorem q854 : (Jvm.Cond.fieldLink "RainWalk$Bent" (7 : Nat) "RainWalk$Bent" "by" "I") ∈ lw_all := lw_g (lw_at lw_m4 23 rfl) rfl
theorem q855 : (Jvm.Cond.sameField "RainWalk$Bent" "RainWalk$Walker" "by" "I") ∈ lw_all := lw_g (lw_at lw_m4 24 rfl) rfl
theorem q892 : (Jvm.Cond.instantiable "RainWalk$Bent" (8 : Nat)) ∈ lw_all := lw_g (lw_at lw_m4 61 rfl) rfl
theorem q894 : (Jvm.Cond.instanceMethod ({ cls := "RainWalk$Bent", name := "<init>", desc := "(Ljava/lang/String;II)V" } : Jvm.MethodName)) ∈ lw_all := lw_g (lw_at lw_m4 63 rfl) rfl
theorem q895 : (Jvm.Cond.code ({ cls := "RainWalk$Bent", name := "<init>", desc := "(Ljava/lang/String;II)V" } : Jvm.MethodName) prog_2_method_1_code (4 : Nat) (Option.none : Option Jvm.ClassFile.FieldType)) ∈ lw_all := lw_g (lw_at lw_m4 64 rfl) rfl
theorem q896 : (Jvm.Cond.methodLink "RainWalk$Bent" (1 : Nat) ({ cls := "RainWalk$Walker", name := "<init>", desc := "(Ljava/lang/String;II)V" } : Jvm.MethodName)) ∈ lw_all := lw_g (lw_at lw_m4 65 rfl) rfl
theorem q897 : (Jvm.Cond.laysFinal "RainWalk$Bent" "RainWalk$Walker" "by" "I") ∈ lw_all := lw_g (lw_at lw_m4 66 rfl) rfl
theorem q898 : (Jvm.Cond.lays "RainWalk$Bent" "RainWalk$Walker" "broad" "I") ∈ lw_all := lw_g (lw_at lw_m4 67 rfl) rfl
theorem q899 : (Jvm.Cond.lays "RainWalk$Bent" "RainWalk$Walker" "deep" "I") ∈ lw_all := lw_g (lw_at lw_m4 68 rfl) rfl
theorem q900 : (Jvm.Cond.lays "RainWalk$Bent" "RainWalk$Walker" "high" "I") ∈ lw_all := lw_g (lw_at lw_m4 69 rfl) rfl
theorem q901 : (Jvm.Cond.lays "RainWalk$Bent" "RainWalk$Walker" "slowest" "I") ∈ lw_all := lw_g (lw_at lw_m4 70 rfl) rfl
theorem q902 : (Jvm.Cond.lays "RainWalk$Bent" "RainWalk$Walker" "fastest" "I") ∈ lw_all := lw_g (lw_at lw_m4 71 rfl) rfl
theorem q903 : (Jvm.Cond.laysFinal "RainWalk$Bent" "RainWalk$Named" "name" "Ljava/lang/String;") ∈ lw_all := lw_g (lw_at lw_m4 72 rfl) rfl
theorem q904 : (Jvm.Cond.laysFinal "RainWalk$Bent" "RainWalk$Named" "number" "I") ∈ lw_all := lw_g (lw_at lw_m4 73 rfl) rfl
theorem q905 : (Jvm.Cond.superclass "RainWalk$Bent" "RainWalk$Walker") ∈ lw_all := lw_g (lw_at lw_m4 74 rfl) rfl
theorem q944 : (Jvm.Cond.selects "RainWalk$Bent" ({ cls := "RainWalk$Walker", name := "bent", desc := "()I" } : Jvm.MethodName) ({ cls := "RainWalk$Bent", name := "bent", desc := "()I" } : Jvm.MethodName)) ∈ lw_all := lw_g (lw_at lw_m4 113 rfl) rfl
theorem q945 : (Jvm.Cond.instanceMethod ({ cls := "RainWalk$Bent", name := "bent", desc := "()I" } : Jvm.MethodName)) ∈ lw_all := lw_g (lw_at lw_m4 114 rfl) rfl
theorem q946 : (Jvm.Cond.code ({ cls := "RainWalk$Bent", name := "bent", desc := "()I" } : Jvm.MethodName) prog_2_method_3_code (1 : Nat) (Option.some Jvm.ClassFile.FieldType.int)) ∈ lw_all := lw_g (lw_at lw_m4 115 rfl) rfl
theorem q1006 : (Jvm.Cond.selects "RainWalk$Bent" ({ cls := "RainWalk$Walker", name := "hasSpeed", desc := "(I)Z" } : Jvm.MethodName) ({ cls := "RainWalk$Walker", name := "hasSpeed", desc := "(I)Z" } : Jvm.MethodName)) ∈ lw_all := lw_g (lw_at lw_m4 175 rfl) rfl
theorem q1035 : (Jvm.Cond.selects "RainWalk$Bent" ({ cls := "RainWalk$Walker", name := "topLeft", desc := "()I" } : Jvm.MethodName) ({ cls := "RainWalk$Walker", name := "topLeft", desc := "()I" } : Jvm.MethodName)) ∈ lw_all := lw_g (lw_at lw_m4 204 rfl) rfl
theorem q1043 : (Jvm.Cond.selects "RainWalk$Bent" ({ cls := "RainWalk$Walker", name := "top", desc := "()I" } : Jvm.MethodName) ({ cls := "RainWalk$Walker", name := "top", desc := "()I" } : Jvm.MethodName)) ∈ lw_all := lw_g (lw_at lw_m4 212 rfl) rfl
theorem q1052 : (Jvm.Cond.selects "RainWalk$Bent" ({ cls := "RainWalk$Walker", name := "shield", desc := "()I" } : Jvm.MethodName) ({ cls := "RainWalk$Walker", name := "shield", desc := "()I" } : Jvm.MethodName)) ∈ lw_all := lw_g (lw_at lw_m4 221 rfl) rfl
theorem q1069 : (Jvm.Cond.selects "RainWalk$Bent" ({ cls := "RainWalk$Walker", name := "front", desc := "()I" } : Jvm.MethodName) ({ cls := "RainWalk$Walker", name := "front", desc := "()I" } : Jvm.MethodName)) ∈ lw_all := lw_g (lw_at lw_m4 238 rfl) rfl
theorem q1082 : (Jvm.Cond.selects "RainWalk$Bent" ({ cls := "RainWalk$Walker", name := "frontLeft", desc := "()I" } : Jvm.MethodName) ({ cls := "RainWalk$Walker", name := "frontLeft", desc := "()I" } : Jvm.MethodName)) ∈ lw_all := lw_g (lw_at lw_m5 11 rfl) rfl
theorem q1095 : (Jvm.Cond.selects "RainWalk$Bent" ({ cls := "RainWalk$Walker", name := "side", desc := "()I" } : Jvm.MethodName) ({ cls := "RainWalk$Walker", name := "side", desc := "()I" } : Jvm.MethodName)) ∈ lw_all := lw_g (lw_at lw_m5 24 rfl) rfl
theorem q1386 : (Jvm.Cond.selects "RainWalk$Bent" ({ cls := "RainWalk$Walker", name := "holds", desc := "()I" } : Jvm.MethodName) ({ cls := "RainWalk$Walker", name := "holds", desc := "()I" } : Jvm.MethodName)) ∈ lw_all := lw_g (lw_at lw_m6 75 rfl) rfl
theorem q1424 : (Jvm.Cond.selects "RainWalk$Bent" ({ cls := "RainWalk$Walker", name := "kind", desc := "()I" } : Jvm.MethodName) ({ cls := "RainWalk$Bent", name := "kind", desc := "()I" } : Jvm.MethodName)) ∈ lw_all := lw_g (lw_at lw_m6 113 rfl) rfl
theorem q1425 : (Jvm.Cond.instanceMethod ({ cls := "RainWalk$Bent", name := "kind", desc := "()I" } : Jvm.MethodName)) ∈ lw_all := lw_g (lw_at lw_m6 114 rfl) rfl
theorem q1426 : (Jvm.Cond.code ({ cls := "RainWalk$Bent", name := "kind", desc := "()I" } : Jvm.MethodName) prog_2_method_2_code (1 : Nat) (Option.some Jvm.ClassFile.FieldType.int)) ∈ lw_all := lw_g (lw_at lw_m6 115 rfl) rfl
theorem q2210 : (Jvm.Cond.castable "RainWalk$Bent" "RainWalk$Walker") ∈ lw_tbl := lw_at lw_m9 179 rfl
theorem q2228 : (Jvm.Cond.castable "RainWalk$Bent" "java/lang/Object") ∈ lw_tbl := lw_at lw_m9 197 rfl
theorem in_X15 : ∀ w ∈ wsX150, w ∈ lw_all := lw_in wsX150 [897, 898, 899, 900, 901, 902, 903, 904] (by decide +kernel) (by decide +kernel)
/-! RainWalk$Coated -/
set_option maxRecDepth 100000
def RX16 : String := "RainWalk$Coated"
def TX16 : u_T := fun k => match k with
  | 0 => ("RainWalk$Walker", "by", "I", true)
  | 1 => ("RainWalk$Walker", "broad", "I", false)
  | 2 => ("RainWalk$Walker", "deep", "I", false)
  | 3 => ("RainWalk$Walker", "high", "I", false)
  | 4 => ("RainWalk$Walker", "slowest", "I", false)
  | 5 => ("RainWalk$Walker", "fastest", "I", false)
  | 6 => ("RainWalk$Named", "name", "Ljava/lang/String;", true)
  | _ => ("RainWalk$Named", "number", "I", true)
def tyX16 : Nat → FieldType := fun k => match k with
  | 0 => .int
  | 1 => .int
  | 2 => .int
  | 3 => .int
  | 4 => .int
  | 5 => .int
  | 6 => .object "java/lang/String"
  | _ => .int
abbrev wsX160 : List Cond := u_ws RX16 TX16 8
theorem nmX16 : ∀ a, a < 8 → ∀ b, b < 8 → a ≠ b → (TX16 a).2.1 ≠ (TX16 b).2.1 := by decide +kernel
theorem tyX16_ok : ∀ k, k < 8 → parseFieldDescriptor (TX16 k).2.2.1 = some (tyX16 k) := by decide +kernel
abbrev cX16_init : ByteArray := prog_3_method_1_code
def yX16_init : MethodName := ⟨RX16, "<init>", "(Ljava/lang/String;II)V"⟩
def dkwX16_init_0 : List UInt8 := [42, 43, 28, 29, 183, 0, 1, 177]
abbrev dktX16_init_0 : List UInt8 := dkwX16_init_0 ++ []
theorem dksX16_init_0 : cX16_init.data.toList.drop 0 = dktX16_init_0 := by decide +kernel
theorem dX16_init_0 : decode cX16_init 0 = .ok (.aload_n 0, 1) := dk_42 (dk_at dksX16_init_0 0 rfl rfl)
theorem dX16_init_1 : decode cX16_init 1 = .ok (.aload_n 1, 1) := dk_43 (dk_at dksX16_init_0 1 rfl rfl)
theorem dX16_init_2 : decode cX16_init 2 = .ok (.iload_n 2, 1) := dk_28 (dk_at dksX16_init_0 2 rfl rfl)
theorem dX16_init_3 : decode cX16_init 3 = .ok (.iload_n 3, 1) := dk_29 (dk_at dksX16_init_0 3 rfl rfl)
theorem dX16_init_4 : decode cX16_init 4 = .ok (.invokespecial 1, 3) := dk_183 0 1 (dk_at dksX16_init_0 4 rfl rfl)
theorem dX16_init_7 : decode cX16_init 7 = .ok (.return_, 1) := dk_177 (dk_at dksX16_init_0 7 rfl rfl)
abbrev cX16_holds : ByteArray := prog_3_method_3_code
def yX16_holds : MethodName := ⟨RX16, "holds", "()I"⟩
theorem dX16_holds_0 : decode cX16_holds 0 = .ok (.aload_n 0, 1) := by decide +kernel
theorem dX16_holds_1 : decode cX16_holds 1 = .ok (.getfield 7, 3) := by decide +kernel
theorem dX16_holds_4 : decode cX16_holds 4 = .ok (.ireturn, 1) := by decide +kernel
abbrev cX16_kind : ByteArray := prog_3_method_2_code
def yX16_kind : MethodName := ⟨RX16, "kind", "()I"⟩
theorem dX16_kind_0 : decode cX16_kind 0 = .ok (.iconst 2, 1) := by decide +kernel
theorem dX16_kind_1 : decode cX16_kind 1 = .ok (.ireturn, 1) := by decide +kernel
theorem q135 : (Jvm.Cond.initialized "RainWalk$Coated") ∈ lw_all := lw_g (lw_at lw_m1 24 rfl) rfl
theorem q858 : (Jvm.Cond.fieldLink "RainWalk$Coated" (7 : Nat) "RainWalk$Coated" "by" "I") ∈ lw_all := lw_g (lw_at lw_m4 27 rfl) rfl
theorem q859 : (Jvm.Cond.sameField "RainWalk$Coated" "RainWalk$Walker" "by" "I") ∈ lw_all := lw_g (lw_at lw_m4 28 rfl) rfl
theorem q908 : (Jvm.Cond.instantiable "RainWalk$Coated" (8 : Nat)) ∈ lw_all := lw_g (lw_at lw_m4 77 rfl) rfl
theorem q910 : (Jvm.Cond.instanceMethod ({ cls := "RainWalk$Coated", name := "<init>", desc := "(Ljava/lang/String;II)V" } : Jvm.MethodName)) ∈ lw_all := lw_g (lw_at lw_m4 79 rfl) rfl
theorem q911 : (Jvm.Cond.code ({ cls := "RainWalk$Coated", name := "<init>", desc := "(Ljava/lang/String;II)V" } : Jvm.MethodName) prog_3_method_1_code (4 : Nat) (Option.none : Option Jvm.ClassFile.FieldType)) ∈ lw_all := lw_g (lw_at lw_m4 80 rfl) rfl
theorem q912 : (Jvm.Cond.methodLink "RainWalk$Coated" (1 : Nat) ({ cls := "RainWalk$Walker", name := "<init>", desc := "(Ljava/lang/String;II)V" } : Jvm.MethodName)) ∈ lw_all := lw_g (lw_at lw_m4 81 rfl) rfl
theorem q913 : (Jvm.Cond.laysFinal "RainWalk$Coated" "RainWalk$Walker" "by" "I") ∈ lw_all := lw_g (lw_at lw_m4 82 rfl) rfl
theorem q914 : (Jvm.Cond.lays "RainWalk$Coated" "RainWalk$Walker" "broad" "I") ∈ lw_all := lw_g (lw_at lw_m4 83 rfl) rfl
theorem q915 : (Jvm.Cond.lays "RainWalk$Coated" "RainWalk$Walker" "deep" "I") ∈ lw_all := lw_g (lw_at lw_m4 84 rfl) rfl
theorem q916 : (Jvm.Cond.lays "RainWalk$Coated" "RainWalk$Walker" "high" "I") ∈ lw_all := lw_g (lw_at lw_m4 85 rfl) rfl
theorem q917 : (Jvm.Cond.lays "RainWalk$Coated" "RainWalk$Walker" "slowest" "I") ∈ lw_all := lw_g (lw_at lw_m4 86 rfl) rfl
theorem q918 : (Jvm.Cond.lays "RainWalk$Coated" "RainWalk$Walker" "fastest" "I") ∈ lw_all := lw_g (lw_at lw_m4 87 rfl) rfl
theorem q919 : (Jvm.Cond.laysFinal "RainWalk$Coated" "RainWalk$Named" "name" "Ljava/lang/String;") ∈ lw_all := lw_g (lw_at lw_m4 88 rfl) rfl
theorem q920 : (Jvm.Cond.laysFinal "RainWalk$Coated" "RainWalk$Named" "number" "I") ∈ lw_all := lw_g (lw_at lw_m4 89 rfl) rfl
theorem q921 : (Jvm.Cond.superclass "RainWalk$Coated" "RainWalk$Walker") ∈ lw_all := lw_g (lw_at lw_m4 90 rfl) rfl
theorem q947 : (Jvm.Cond.selects "RainWalk$Coated" ({ cls := "RainWalk$Walker", name := "bent", desc := "()I" } : Jvm.MethodName) ({ cls := "RainWalk$Walker", name := "bent", desc := "()I" } : Jvm.MethodName)) ∈ lw_all := lw_g (lw_at lw_m4 116 rfl) rfl
theorem q1007 : (Jvm.Cond.selects "RainWalk$Coated" ({ cls := "RainWalk$Walker", name := "hasSpeed", desc := "(I)Z" } : Jvm.MethodName) ({ cls := "RainWalk$Walker", name := "hasSpeed", desc := "(I)Z" } : Jvm.MethodName)) ∈ lw_all := lw_g (lw_at lw_m4 176 rfl) rfl
theorem q1036 : (Jvm.Cond.selects "RainWalk$Coated" ({ cls := "RainWalk$Walker", name := "topLeft", desc := "()I" } : Jvm.MethodName) ({ cls := "RainWalk$Walker", name := "topLeft", desc := "()I" } : Jvm.MethodName)) ∈ lw_all := lw_g (lw_at lw_m4 205 rfl) rfl
theorem q1044 : (Jvm.Cond.selects "RainWalk$Coated" ({ cls := "RainWalk$Walker", name := "top", desc := "()I" } : Jvm.MethodName) ({ cls := "RainWalk$Walker", name := "top", desc := "()I" } : Jvm.MethodName)) ∈ lw_all := lw_g (lw_at lw_m4 213 rfl) rfl
theorem q1053 : (Jvm.Cond.selects "RainWalk$Coated" ({ cls := "RainWalk$Walker", name := "shield", desc := "()I" } : Jvm.MethodName) ({ cls := "RainWalk$Walker", name := "shield", desc := "()I" } : Jvm.MethodName)) ∈ lw_all := lw_g (lw_at lw_m4 222 rfl) rfl
theorem q1070 : (Jvm.Cond.selects "RainWalk$Coated" ({ cls := "RainWalk$Walker", name := "front", desc := "()I" } : Jvm.MethodName) ({ cls := "RainWalk$Walker", name := "front", desc := "()I" } : Jvm.MethodName)) ∈ lw_all := lw_g (lw_at lw_m4 239 rfl) rfl
theorem q1083 : (Jvm.Cond.selects "RainWalk$Coated" ({ cls := "RainWalk$Walker", name := "frontLeft", desc := "()I" } : Jvm.MethodName) ({ cls := "RainWalk$Walker", name := "frontLeft", desc := "()I" } : Jvm.MethodName)) ∈ lw_all := lw_g (lw_at lw_m5 12 rfl) rfl
theorem q1096 : (Jvm.Cond.selects "RainWalk$Coated" ({ cls := "RainWalk$Walker", name := "side", desc := "()I" } : Jvm.MethodName) ({ cls := "RainWalk$Walker", name := "side", desc := "()I" } : Jvm.MethodName)) ∈ lw_all := lw_g (lw_at lw_m5 25 rfl) rfl
theorem q1387 : (Jvm.Cond.selects "RainWalk$Coated" ({ cls := "RainWalk$Walker", name := "holds", desc := "()I" } : Jvm.MethodName) ({ cls := "RainWalk$Coated", name := "holds", desc := "()I" } : Jvm.MethodName)) ∈ lw_all := lw_g (lw_at lw_m6 76 rfl) rfl
theorem q1388 : (Jvm.Cond.instanceMethod ({ cls := "RainWalk$Coated", name := "holds", desc := "()I" } : Jvm.MethodName)) ∈ lw_all := lw_g (lw_at lw_m6 77 rfl) rfl
theorem q1389 : (Jvm.Cond.code ({ cls := "RainWalk$Coated", name := "holds", desc := "()I" } : Jvm.MethodName) prog_3_method_3_code (1 : Nat) (Option.some Jvm.ClassFile.FieldType.int)) ∈ lw_all := lw_g (lw_at lw_m6 78 rfl) rfl
theorem q1427 : (Jvm.Cond.selects "RainWalk$Coated" ({ cls := "RainWalk$Walker", name := "kind", desc := "()I" } : Jvm.MethodName) ({ cls := "RainWalk$Coated", name := "kind", desc := "()I" } : Jvm.MethodName)) ∈ lw_all := lw_g (lw_at lw_m6 116 rfl) rfl
theorem q1428 : (Jvm.Cond.instanceMethod ({ cls := "RainWalk$Coated", name := "kind", desc := "()I" } : Jvm.MethodName)) ∈ lw_all := lw_g (lw_at lw_m6 117 rfl) rfl
theorem q1429 : (Jvm.Cond.code ({ cls := "RainWalk$Coated", name := "kind", desc := "()I" } : Jvm.MethodName) prog_3_method_2_code (1 : Nat) (Option.some Jvm.ClassFile.FieldType.int)) ∈ lw_all := lw_g (lw_at lw_m6 118 rfl) rfl
theorem q2211 : (Jvm.Cond.castable "RainWalk$Coated" "RainWalk$Walker") ∈ lw_tbl := lw_at lw_m9 180 rfl
theorem q2229 : (Jvm.Cond.castable "RainWalk$Coated" "java/lang/Object") ∈ lw_tbl := lw_at lw_m9 198 rfl
theorem in_X16 : ∀ w ∈ wsX160, w ∈ lw_all := lw_in wsX160 [913, 914, 915, 916, 917, 918, 919, 920] (by decide +kernel) (by decide +kernel)
/-! RainWalk$Shielded -/
set_option maxRecDepth 100000
def RX17 : String := "RainWalk$Shielded"
def TX17 : u_T := fun k => match k with
  | 0 => ("RainWalk$Walker", "by", "I", true)
  | 1 => ("RainWalk$Walker", "broad", "I", false)
  | 2 => ("RainWalk$Walker", "deep", "I", false)
  | 3 => ("RainWalk$Walker", "high", "I", false)
  | 4 => ("RainWalk$Walker", "slowest", "I", false)
  | 5 => ("RainWalk$Walker", "fastest", "I", false)
  | 6 => ("RainWalk$Named", "name", "Ljava/lang/String;", true)
  | _ => ("RainWalk$Named", "number", "I", true)
def tyX17 : Nat → FieldType := fun k => match k with
  | 0 => .int
  | 1 => .int
  | 2 => .int
  | 3 => .int
  | 4 => .int
  | 5 => .int
  | 6 => .object "java/lang/String"
  | _ => .int
abbrev wsX170 : List Cond := u_ws RX17 TX17 8
theorem nmX17 : ∀ a, a < 8 → ∀ b, b < 8 → a ≠ b → (TX17 a).2.1 ≠ (TX17 b).2.1 := by decide +kernel
theorem tyX17_ok : ∀ k, k < 8 → parseFieldDescriptor (TX17 k).2.2.1 = some (tyX17 k) := by decide +kernel
abbrev cX17_init : ByteArray := prog_14_method_1_code
def yX17_init : MethodName := ⟨RX17, "<init>", "(Ljava/lang/String;II)V"⟩
def dkwX17_init_0 : List UInt8 := [42, 43, 28, 29, 183, 0, 1, 177]
abbrev dktX17_init_0 : List UInt8 := dkwX17_init_0 ++ []
theorem dksX17_init_0 : cX17_init.data.toList.drop 0 = dktX17_init_0 := by decide +kernel
theorem dX17_init_0 : decode cX17_init 0 = .ok (.aload_n 0, 1) := dk_42 (dk_at dksX17_init_0 0 rfl rfl)
theorem dX17_init_1 : decode cX17_init 1 = .ok (.aload_n 1, 1) := dk_43 (dk_at dksX17_init_0 1 rfl rfl)
theorem dX17_init_2 : decode cX17_init 2 = .ok (.iload_n 2, 1) := dk_28 (dk_at dksX17_init_0 2 rfl rfl)
theorem dX17_init_3 : decode cX17_init 3 = .ok (.iload_n 3, 1) := dk_29 (dk_at dksX17_init_0 3 rfl rfl)
theorem dX17_init_4 : decode cX17_init 4 = .ok (.invokespecial 1, 3) := dk_183 0 1 (dk_at dksX17_init_0 4 rfl rfl)
theorem dX17_init_7 : decode cX17_init 7 = .ok (.return_, 1) := dk_177 (dk_at dksX17_init_0 7 rfl rfl)
abbrev cX17_shield : ByteArray := prog_14_method_3_code
def yX17_shield : MethodName := ⟨RX17, "shield", "()I"⟩
theorem dX17_shield_0 : decode cX17_shield 0 = .ok (.aload_n 0, 1) := by decide +kernel
theorem dX17_shield_1 : decode cX17_shield 1 = .ok (.getfield 7, 3) := by decide +kernel
theorem dX17_shield_4 : decode cX17_shield 4 = .ok (.ireturn, 1) := by decide +kernel
abbrev cX17_kind : ByteArray := prog_14_method_2_code
def yX17_kind : MethodName := ⟨RX17, "kind", "()I"⟩
theorem dX17_kind_0 : decode cX17_kind 0 = .ok (.iconst 3, 1) := by decide +kernel
theorem dX17_kind_1 : decode cX17_kind 1 = .ok (.ireturn, 1) := by decide +kernel
theorem q136 : (Jvm.Cond.initialized "RainWalk$Shielded") ∈ lw_all := lw_g (lw_at lw_m1 25 rfl) rfl
theorem q856 : (Jvm.Cond.fieldLink "RainWalk$Shielded" (7 : Nat) "RainWalk$Shielded" "by" "I") ∈ lw_all := lw_g (lw_at lw_m4 25 rfl) rfl
theorem q857 : (Jvm.Cond.sameField "RainWalk$Shielded" "RainWalk$Walker" "by" "I") ∈ lw_all := lw_g (lw_at lw_m4 26 rfl) rfl
theorem q924 : (Jvm.Cond.instantiable "RainWalk$Shielded" (8 : Nat)) ∈ lw_all := lw_g (lw_at lw_m4 93 rfl) rfl
theorem q926 : (Jvm.Cond.instanceMethod ({ cls := "RainWalk$Shielded", name := "<init>", desc := "(Ljava/lang/String;II)V" } : Jvm.MethodName)) ∈ lw_all := lw_g (lw_at lw_m4 95 rfl) rfl
theorem q927 : (Jvm.Cond.code ({ cls := "RainWalk$Shielded", name := "<init>", desc := "(Ljava/lang/String;II)V" } : Jvm.MethodName) prog_14_method_1_code (4 : Nat) (Option.none : Option Jvm.ClassFile.FieldType)) ∈ lw_all := lw_g (lw_at lw_m4 96 rfl) rfl
theorem q928 : (Jvm.Cond.methodLink "RainWalk$Shielded" (1 : Nat) ({ cls := "RainWalk$Walker", name := "<init>", desc := "(Ljava/lang/String;II)V" } : Jvm.MethodName)) ∈ lw_all := lw_g (lw_at lw_m4 97 rfl) rfl
theorem q929 : (Jvm.Cond.laysFinal "RainWalk$Shielded" "RainWalk$Walker" "by" "I") ∈ lw_all := lw_g (lw_at lw_m4 98 rfl) rfl
theorem q930 : (Jvm.Cond.lays "RainWalk$Shielded" "RainWalk$Walker" "broad" "I") ∈ lw_all := lw_g (lw_at lw_m4 99 rfl) rfl
theorem q931 : (Jvm.Cond.lays "RainWalk$Shielded" "RainWalk$Walker" "deep" "I") ∈ lw_all := lw_g (lw_at lw_m4 100 rfl) rfl
theorem q932 : (Jvm.Cond.lays "RainWalk$Shielded" "RainWalk$Walker" "high" "I") ∈ lw_all := lw_g (lw_at lw_m4 101 rfl) rfl
theorem q933 : (Jvm.Cond.lays "RainWalk$Shielded" "RainWalk$Walker" "slowest" "I") ∈ lw_all := lw_g (lw_at lw_m4 102 rfl) rfl
theorem q934 : (Jvm.Cond.lays "RainWalk$Shielded" "RainWalk$Walker" "fastest" "I") ∈ lw_all := lw_g (lw_at lw_m4 103 rfl) rfl
theorem q935 : (Jvm.Cond.laysFinal "RainWalk$Shielded" "RainWalk$Named" "name" "Ljava/lang/String;") ∈ lw_all := lw_g (lw_at lw_m4 104 rfl) rfl
theorem q936 : (Jvm.Cond.laysFinal "RainWalk$Shielded" "RainWalk$Named" "number" "I") ∈ lw_all := lw_g (lw_at lw_m4 105 rfl) rfl
theorem q937 : (Jvm.Cond.superclass "RainWalk$Shielded" "RainWalk$Walker") ∈ lw_all := lw_g (lw_at lw_m4 106 rfl) rfl
theorem q949 : (Jvm.Cond.selects "RainWalk$Shielded" ({ cls := "RainWalk$Walker", name := "bent", desc := "()I" } : Jvm.MethodName) ({ cls := "RainWalk$Walker", name := "bent", desc := "()I" } : Jvm.MethodName)) ∈ lw_all := lw_g (lw_at lw_m4 118 rfl) rfl
theorem q1009 : (Jvm.Cond.selects "RainWalk$Shielded" ({ cls := "RainWalk$Walker", name := "hasSpeed", desc := "(I)Z" } : Jvm.MethodName) ({ cls := "RainWalk$Walker", name := "hasSpeed", desc := "(I)Z" } : Jvm.MethodName)) ∈ lw_all := lw_g (lw_at lw_m4 178 rfl) rfl
theorem q1038 : (Jvm.Cond.selects "RainWalk$Shielded" ({ cls := "RainWalk$Walker", name := "topLeft", desc := "()I" } : Jvm.MethodName) ({ cls := "RainWalk$Walker", name := "topLeft", desc := "()I" } : Jvm.MethodName)) ∈ lw_all := lw_g (lw_at lw_m4 207 rfl) rfl
theorem q1046 : (Jvm.Cond.selects "RainWalk$Shielded" ({ cls := "RainWalk$Walker", name := "top", desc := "()I" } : Jvm.MethodName) ({ cls := "RainWalk$Walker", name := "top", desc := "()I" } : Jvm.MethodName)) ∈ lw_all := lw_g (lw_at lw_m4 215 rfl) rfl
theorem q1055 : (Jvm.Cond.selects "RainWalk$Shielded" ({ cls := "RainWalk$Walker", name := "shield", desc := "()I" } : Jvm.MethodName) ({ cls := "RainWalk$Shielded", name := "shield", desc := "()I" } : Jvm.MethodName)) ∈ lw_all := lw_g (lw_at lw_m4 224 rfl) rfl
theorem q1056 : (Jvm.Cond.instanceMethod ({ cls := "RainWalk$Shielded", name := "shield", desc := "()I" } : Jvm.MethodName)) ∈ lw_all := lw_g (lw_at lw_m4 225 rfl) rfl
theorem q1057 : (Jvm.Cond.code ({ cls := "RainWalk$Shielded", name := "shield", desc := "()I" } : Jvm.MethodName) prog_14_method_3_code (1 : Nat) (Option.some Jvm.ClassFile.FieldType.int)) ∈ lw_all := lw_g (lw_at lw_m4 226 rfl) rfl
theorem q1072 : (Jvm.Cond.selects "RainWalk$Shielded" ({ cls := "RainWalk$Walker", name := "front", desc := "()I" } : Jvm.MethodName) ({ cls := "RainWalk$Walker", name := "front", desc := "()I" } : Jvm.MethodName)) ∈ lw_all := lw_g (lw_at lw_m5 1 rfl) rfl
theorem q1085 : (Jvm.Cond.selects "RainWalk$Shielded" ({ cls := "RainWalk$Walker", name := "frontLeft", desc := "()I" } : Jvm.MethodName) ({ cls := "RainWalk$Walker", name := "frontLeft", desc := "()I" } : Jvm.MethodName)) ∈ lw_all := lw_g (lw_at lw_m5 14 rfl) rfl
theorem q1098 : (Jvm.Cond.selects "RainWalk$Shielded" ({ cls := "RainWalk$Walker", name := "side", desc := "()I" } : Jvm.MethodName) ({ cls := "RainWalk$Walker", name := "side", desc := "()I" } : Jvm.MethodName)) ∈ lw_all := lw_g (lw_at lw_m5 27 rfl) rfl
theorem q1391 : (Jvm.Cond.selects "RainWalk$Shielded" ({ cls := "RainWalk$Walker", name := "holds", desc := "()I" } : Jvm.MethodName) ({ cls := "RainWalk$Walker", name := "holds", desc := "()I" } : Jvm.MethodName)) ∈ lw_all := lw_g (lw_at lw_m6 80 rfl) rfl
theorem q1433 : (Jvm.Cond.selects "RainWalk$Shielded" ({ cls := "RainWalk$Walker", name := "kind", desc := "()I" } : Jvm.MethodName) ({ cls := "RainWalk$Shielded", name := "kind", desc := "()I" } : Jvm.MethodName)) ∈ lw_all := lw_g (lw_at lw_m6 122 rfl) rfl
theorem q1434 : (Jvm.Cond.instanceMethod ({ cls := "RainWalk$Shielded", name := "kind", desc := "()I" } : Jvm.MethodName)) ∈ lw_all := lw_g (lw_at lw_m6 123 rfl) rfl
theorem q1435 : (Jvm.Cond.code ({ cls := "RainWalk$Shielded", name := "kind", desc := "()I" } : Jvm.MethodName) prog_14_method_2_code (1 : Nat) (Option.some Jvm.ClassFile.FieldType.int)) ∈ lw_all := lw_g (lw_at lw_m6 124 rfl) rfl
theorem q2213 : (Jvm.Cond.castable "RainWalk$Shielded" "RainWalk$Walker") ∈ lw_tbl := lw_at lw_m9 182 rfl
theorem q2230 : (Jvm.Cond.castable "RainWalk$Shielded" "java/lang/Object") ∈ lw_tbl := lw_at lw_m9 199 rfl
theorem in_X17 : ∀ w ∈ wsX170, w ∈ lw_all := lw_in wsX170 [929, 930, 931, 932, 933, 934, 935, 936] (by decide +kernel) (by decide +kernel)
/-! RainWalk$Seen -/
set_option maxRecDepth 100000
def RX18 : String := "RainWalk$Seen"
def TX18 : u_T := fun k => match k with
  | 0 => ("RainWalk$Seen", "faces", "[I", true)
  | _ => ("RainWalk$Seen", "walker", "I", false)
def tyX18 : Nat → FieldType := fun k => match k with
  | 0 => .array .int
  | _ => .int
abbrev wsX180 : List Cond := u_ws RX18 TX18 2
theorem nmX18 : ∀ a, a < 2 → ∀ b, b < 2 → a ≠ b → (TX18 a).2.1 ≠ (TX18 b).2.1 := by decide +kernel
theorem tyX18_ok : ∀ k, k < 2 → parseFieldDescriptor (TX18 k).2.2.1 = some (tyX18 k) := by decide +kernel
abbrev cX18_init : ByteArray := prog_13_method_1_code
def yX18_init : MethodName := ⟨RX18, "<init>", "()V"⟩
def dkwX18_init_0 : List UInt8 := [42, 183, 0, 3, 42, 8, 188, 10, 181, 0, 9, 177]
abbrev dktX18_init_0 : List UInt8 := dkwX18_init_0 ++ []
theorem dksX18_init_0 : cX18_init.data.toList.drop 0 = dktX18_init_0 := by decide +kernel
theorem dX18_init_0 : decode cX18_init 0 = .ok (.aload_n 0, 1) := dk_42 (dk_at dksX18_init_0 0 rfl rfl)
theorem dX18_init_1 : decode cX18_init 1 = .ok (.invokespecial 3, 3) := dk_183 0 3 (dk_at dksX18_init_0 1 rfl rfl)
theorem dX18_init_4 : decode cX18_init 4 = .ok (.aload_n 0, 1) := dk_42 (dk_at dksX18_init_0 4 rfl rfl)
theorem dX18_init_5 : decode cX18_init 5 = .ok (.iconst 5, 1) := dk_8 (dk_at dksX18_init_0 5 rfl rfl)
theorem dX18_init_6 : decode cX18_init 6 = .ok (.newarray .int, 2) := dk_188_10 (dk_at dksX18_init_0 6 rfl rfl)
theorem dX18_init_8 : decode cX18_init 8 = .ok (.putfield 9, 3) := dk_181 0 9 (dk_at dksX18_init_0 8 rfl rfl)
theorem dX18_init_11 : decode cX18_init 11 = .ok (.return_, 1) := dk_177 (dk_at dksX18_init_0 11 rfl rfl)
theorem q137 : (Jvm.Cond.initialized "RainWalk$Seen") ∈ lw_all := lw_g (lw_at lw_m1 26 rfl) rfl
theorem q959 : (Jvm.Cond.instantiable "RainWalk$Seen" (2 : Nat)) ∈ lw_all := lw_g (lw_at lw_m4 128 rfl) rfl
theorem q961 : (Jvm.Cond.instanceMethod ({ cls := "RainWalk$Seen", name := "<init>", desc := "()V" } : Jvm.MethodName)) ∈ lw_all := lw_g (lw_at lw_m4 130 rfl) rfl
theorem q962 : (Jvm.Cond.code ({ cls := "RainWalk$Seen", name := "<init>", desc := "()V" } : Jvm.MethodName) prog_13_method_1_code (1 : Nat) (Option.none : Option Jvm.ClassFile.FieldType)) ∈ lw_all := lw_g (lw_at lw_m4 131 rfl) rfl
theorem q963 : (Jvm.Cond.methodLink "RainWalk$Seen" (3 : Nat) ({ cls := "java/lang/Object", name := "<init>", desc := "()V" } : Jvm.MethodName)) ∈ lw_all := lw_g (lw_at lw_m4 132 rfl) rfl
theorem q964 : (Jvm.Cond.fieldLink "RainWalk$Seen" (9 : Nat) "RainWalk$Seen" "faces" "[I") ∈ lw_all := lw_g (lw_at lw_m4 133 rfl) rfl
theorem q969 : (Jvm.Cond.laysFinal "RainWalk$Seen" "RainWalk$Seen" "faces" "[I") ∈ lw_all := lw_g (lw_at lw_m4 138 rfl) rfl
theorem q970 : (Jvm.Cond.soleField "RainWalk$Seen" "faces") ∈ lw_all := lw_g (lw_at lw_m4 139 rfl) rfl
theorem q971 : (Jvm.Cond.lays "RainWalk$Seen" "RainWalk$Seen" "walker" "I") ∈ lw_all := lw_g (lw_at lw_m4 140 rfl) rfl
theorem q972 : (Jvm.Cond.soleField "RainWalk$Seen" "walker") ∈ lw_all := lw_g (lw_at lw_m4 141 rfl) rfl
theorem q973 : (Jvm.Cond.superclass "RainWalk$Seen" "java/lang/Object") ∈ lw_all := lw_g (lw_at lw_m4 142 rfl) rfl
theorem q2231 : (Jvm.Cond.castable "RainWalk$Seen" "java/lang/Object") ∈ lw_tbl := lw_at lw_m9 200 rfl
theorem in_X18 : ∀ w ∈ wsX180, w ∈ lw_all := lw_in wsX180 [969, 971] (by decide +kernel) (by decide +kernel)
/-! RainWalkModel$World -/
set_option maxRecDepth 100000
def RX19 : String := "RainWalkModel$World"
def TX19 : u_T := fun k => match k with
  | 0 => ("RainWalkModel$World", "hour", "I", false)
  | 1 => ("RainWalkModel$World", "hours", "I", false)
  | 2 => ("RainWalkModel$World", "places", "I", false)
  | 3 => ("RainWalkModel$World", "roads", "I", false)
  | 4 => ("RainWalkModel$World", "walkers", "I", false)
  | 5 => ("RainWalkModel$World", "seens", "I", false)
  | 6 => ("RainWalkModel$World", "names", "I", false)
  | 7 => ("RainWalkModel$World", "drops", "[I", true)
  | 8 => ("RainWalkModel$World", "down", "[I", true)
  | 9 => ("RainWalkModel$World", "windSide", "[I", true)
  | 10 => ("RainWalkModel$World", "wind", "[I", true)
  | 11 => ("RainWalkModel$World", "chance", "[I", true)
  | 12 => ("RainWalkModel$World", "tree", "[I", true)
  | 13 => ("RainWalkModel$World", "roadFrom", "[I", true)
  | 14 => ("RainWalkModel$World", "roadTo", "[I", true)
  | 15 => ("RainWalkModel$World", "roadSide", "[I", true)
  | 16 => ("RainWalkModel$World", "roadLong", "[I", true)
  | 17 => ("RainWalkModel$World", "awning", "[I", true)
  | 18 => ("RainWalkModel$World", "isInn", "[Z", true)
  | 19 => ("RainWalkModel$World", "kind", "[I", true)
  | 20 => ("RainWalkModel$World", "much", "[I", true)
  | 21 => ("RainWalkModel$World", "top", "[I", true)
  | 22 => ("RainWalkModel$World", "front", "[I", true)
  | 23 => ("RainWalkModel$World", "side", "[I", true)
  | 24 => ("RainWalkModel$World", "slowest", "[I", true)
  | 25 => ("RainWalkModel$World", "fastest", "[I", true)
  | 26 => ("RainWalkModel$World", "seenWho", "[I", true)
  | 27 => ("RainWalkModel$World", "seen", "[I", true)
  | 28 => ("RainWalkModel$World", "name", "[J", true)
  | 29 => ("RainWalkModel$World", "nameSort", "[I", true)
  | _ => ("RainWalkModel$World", "nameNumber", "[I", true)
def tyX19 : Nat → FieldType := fun k => match k with
  | 0 => .int
  | 1 => .int
  | 2 => .int
  | 3 => .int
  | 4 => .int
  | 5 => .int
  | 6 => .int
  | 7 => .array .int
  | 8 => .array .int
  | 9 => .array .int
  | 10 => .array .int
  | 11 => .array .int
  | 12 => .array .int
  | 13 => .array .int
  | 14 => .array .int
  | 15 => .array .int
  | 16 => .array .int
  | 17 => .array .int
  | 18 => .array .boolean
  | 19 => .array .int
  | 20 => .array .int
  | 21 => .array .int
  | 22 => .array .int
  | 23 => .array .int
  | 24 => .array .int
  | 25 => .array .int
  | 26 => .array .int
  | 27 => .array .int
  | 28 => .array .long
  | 29 => .array .int
  | _ => .array .int
abbrev wsX190 : List Cond := u_ws RX19 TX19 31
set_option maxRecDepth 100000 in
theorem nmX19 : ∀ a, a < 31 → ∀ b, b < 31 → a ≠ b → (TX19 a).2.1 ≠ (TX19 b).2.1 := by decide +kernel
set_option maxRecDepth 100000 in
theorem tyX19_ok : ∀ k, k < 31 → parseFieldDescriptor (TX19 k).2.2.1 = some (tyX19 k) := by decide +kernel
abbrev cX19_init : ByteArray := prog_20_method_1_code
def yX19_init : MethodName := ⟨RX19, "<init>", "()V"⟩
def dkwX19_init_7 : List UInt8 := [16, 12, 188, 11, 181, 0, 76, 42, 16, 12, 188, 10, 181, 0, 80, 42, 16, 12, 188, 10, 181, 0, 83, 177]
abbrev dktX19_init_7 : List UInt8 := dkwX19_init_7 ++ []
def dkwX19_init_6 : List UInt8 := [42, 7, 188, 10, 181, 0, 67, 42, 7, 188, 10, 181, 0, 70, 42, 16, 20, 188, 10, 181, 0, 73, 42]
abbrev dktX19_init_6 : List UInt8 := dkwX19_init_6 ++ dktX19_init_7
def dkwX19_init_5 : List UInt8 := [181, 0, 55, 42, 7, 188, 10, 181, 0, 58, 42, 7, 188, 10, 181, 0, 61, 42, 7, 188, 10, 181, 0, 64]
abbrev dktX19_init_5 : List UInt8 := dkwX19_init_5 ++ dktX19_init_6
def dkwX19_init_4 : List UInt8 := [188, 4, 181, 0, 45, 42, 7, 188, 10, 181, 0, 49, 42, 7, 188, 10, 181, 0, 52, 42, 7, 188, 10]
abbrev dktX19_init_4 : List UInt8 := dkwX19_init_4 ++ dktX19_init_5
def dkwX19_init_3 : List UInt8 := [188, 10, 181, 0, 36, 42, 16, 12, 188, 10, 181, 0, 39, 42, 16, 12, 188, 10, 181, 0, 42, 42, 16, 8]
abbrev dktX19_init_3 : List UInt8 := dkwX19_init_3 ++ dktX19_init_4
def dkwX19_init_2 : List UInt8 := [188, 10, 181, 0, 27, 42, 16, 12, 188, 10, 181, 0, 30, 42, 16, 12, 188, 10, 181, 0, 33, 42, 16, 12]
abbrev dktX19_init_2 : List UInt8 := dkwX19_init_2 ++ dktX19_init_3
def dkwX19_init_1 : List UInt8 := [188, 10, 181, 0, 18, 42, 16, 6, 188, 10, 181, 0, 21, 42, 16, 6, 188, 10, 181, 0, 24, 42, 16, 8]
abbrev dktX19_init_1 : List UInt8 := dkwX19_init_1 ++ dktX19_init_2
def dkwX19_init_0 : List UInt8 := [42, 183, 0, 3, 42, 16, 6, 188, 10, 181, 0, 9, 42, 16, 6, 188, 10, 181, 0, 15, 42, 16, 6]
abbrev dktX19_init_0 : List UInt8 := dkwX19_init_0 ++ dktX19_init_1
theorem dksX19_init_0 : cX19_init.data.toList.drop 0 = dktX19_init_0 := by decide +kernel
theorem dksX19_init_1 : cX19_init.data.toList.drop 23 = dktX19_init_1 := dk_seg dksX19_init_0 23 rfl rfl
theorem dksX19_init_2 : cX19_init.data.toList.drop 47 = dktX19_init_2 := dk_seg dksX19_init_1 24 rfl rfl
theorem dksX19_init_3 : cX19_init.data.toList.drop 71 = dktX19_init_3 := dk_seg dksX19_init_2 24 rfl rfl
theorem dksX19_init_4 : cX19_init.data.toList.drop 95 = dktX19_init_4 := dk_seg dksX19_init_3 24 rfl rfl
theorem dksX19_init_5 : cX19_init.data.toList.drop 118 = dktX19_init_5 := dk_seg dksX19_init_4 23 rfl rfl
theorem dksX19_init_6 : cX19_init.data.toList.drop 142 = dktX19_init_6 := dk_seg dksX19_init_5 24 rfl rfl
theorem dksX19_init_7 : cX19_init.data.toList.drop 165 = dktX19_init_7 := dk_seg dksX19_init_6 23 rfl rfl
theorem dX19_init_0 : decode cX19_init 0 = .ok (.aload_n 0, 1) := dk_42 (dk_at dksX19_init_0 0 rfl rfl)
theorem dX19_init_1 : decode cX19_init 1 = .ok (.invokespecial 3, 3) := dk_183 0 3 (dk_at dksX19_init_0 1 rfl rfl)
theorem dX19_init_4 : decode cX19_init 4 = .ok (.aload_n 0, 1) := dk_42 (dk_at dksX19_init_0 4 rfl rfl)
theorem dX19_init_5 : decode cX19_init 5 = .ok (.bipush 6, 2) := dk_16 6 (dk_at dksX19_init_0 5 rfl rfl)
theorem dX19_init_7 : decode cX19_init 7 = .ok (.newarray .int, 2) := dk_188_10 (dk_at dksX19_init_0 7 rfl rfl)
theorem dX19_init_9 : decode cX19_init 9 = .ok (.putfield 9, 3) := dk_181 0 9 (dk_at dksX19_init_0 9 rfl rfl)
theorem dX19_init_12 : decode cX19_init 12 = .ok (.aload_n 0, 1) := dk_42 (dk_at dksX19_init_0 12 rfl rfl)
theorem dX19_init_13 : decode cX19_init 13 = .ok (.bipush 6, 2) := dk_16 6 (dk_at dksX19_init_0 13 rfl rfl)
theorem dX19_init_15 : decode cX19_init 15 = .ok (.newarray .int, 2) := dk_188_10 (dk_at dksX19_init_0 15 rfl rfl)
theorem dX19_init_17 : decode cX19_init 17 = .ok (.putfield 15, 3) := dk_181 0 15 (dk_at dksX19_init_0 17 rfl rfl)
theorem dX19_init_20 : decode cX19_init 20 = .ok (.aload_n 0, 1) := dk_42 (dk_at dksX19_init_0 20 rfl rfl)
theorem dX19_init_21 : decode cX19_init 21 = .ok (.bipush 6, 2) := dk_16 6 (dk_at dksX19_init_0 21 rfl rfl)
theorem dX19_init_23 : decode cX19_init 23 = .ok (.newarray .int, 2) := dk_188_10 (dk_at dksX19_init_1 0 rfl rfl)
theorem dX19_init_25 : decode cX19_init 25 = .ok (.putfield 18, 3) := dk_181 0 18 (dk_at dksX19_init_1 2 rfl rfl)
theorem dX19_init_28 : decode cX19_init 28 = .ok (.aload_n 0, 1) := dk_42 (dk_at dksX19_init_1 5 rfl rfl)
theorem dX19_init_29 : decode cX19_init 29 = .ok (.bipush 6, 2) := dk_16 6 (dk_at dksX19_init_1 6 rfl rfl)
theorem dX19_init_31 : decode cX19_init 31 = .ok (.newarray .int, 2) := dk_188_10 (dk_at dksX19_init_1 8 rfl rfl)
theorem dX19_init_33 : decode cX19_init 33 = .ok (.putfield 21, 3) := dk_181 0 21 (dk_at dksX19_init_1 10 rfl rfl)
theorem dX19_init_36 : decode cX19_init 36 = .ok (.aload_n 0, 1) := dk_42 (dk_at dksX19_init_1 13 rfl rfl)
theorem dX19_init_37 : decode cX19_init 37 = .ok (.bipush 6, 2) := dk_16 6 (dk_at dksX19_init_1 14 rfl rfl)
theorem dX19_init_39 : decode cX19_init 39 = .ok (.newarray .int, 2) := dk_188_10 (dk_at dksX19_init_1 16 rfl rfl)
theorem dX19_init_41 : decode cX19_init 41 = .ok (.putfield 24, 3) := dk_181 0 24 (dk_at dksX19_init_1 18 rfl rfl)
theorem dX19_init_44 : decode cX19_init 44 = .ok (.aload_n 0, 1) := dk_42 (dk_at dksX19_init_1 21 rfl rfl)
theorem dX19_init_45 : decode cX19_init 45 = .ok (.bipush 8, 2) := dk_16 8 (dk_at dksX19_init_1 22 rfl rfl)
theorem dX19_init_47 : decode cX19_init 47 = .ok (.newarray .int, 2) := dk_188_10 (dk_at dksX19_init_2 0 rfl rfl)
theorem dX19_init_49 : decode cX19_init 49 = .ok (.putfield 27, 3) := dk_181 0 27 (dk_at dksX19_init_2 2 rfl rfl)
theorem dX19_init_52 : decode cX19_init 52 = .ok (.aload_n 0, 1) := dk_42 (dk_at dksX19_init_2 5 rfl rfl)
theorem dX19_init_53 : decode cX19_init 53 = .ok (.bipush 12, 2) := dk_16 12 (dk_at dksX19_init_2 6 rfl rfl)
theorem dX19_init_55 : decode cX19_init 55 = .ok (.newarray .int, 2) := dk_188_10 (dk_at dksX19_init_2 8 rfl rfl)
theorem dX19_init_57 : decode cX19_init 57 = .ok (.putfield 30, 3) := dk_181 0 30 (dk_at dksX19_init_2 10 rfl rfl)
theorem dX19_init_60 : decode cX19_init 60 = .ok (.aload_n 0, 1) := dk_42 (dk_at dksX19_init_2 13 rfl rfl)
theorem dX19_init_61 : decode cX19_init 61 = .ok (.bipush 12, 2) := dk_16 12 (dk_at dksX19_init_2 14 rfl rfl)
theorem dX19_init_63 : decode cX19_init 63 = .ok (.newarray .int, 2) := dk_188_10 (dk_at dksX19_init_2 16 rfl rfl)
theorem dX19_init_65 : decode cX19_init 65 = .ok (.putfield 33, 3) := dk_181 0 33 (dk_at dksX19_init_2 18 rfl rfl)
theorem dX19_init_68 : decode cX19_init 68 = .ok (.aload_n 0, 1) := dk_42 (dk_at dksX19_init_2 21 rfl rfl)
theorem dX19_init_69 : decode cX19_init 69 = .ok (.bipush 12, 2) := dk_16 12 (dk_at dksX19_init_2 22 rfl rfl)
theorem dX19_init_71 : decode cX19_init 71 = .ok (.newarray .int, 2) := dk_188_10 (dk_at dksX19_init_3 0 rfl rfl)
theorem dX19_init_73 : decode cX19_init 73 = .ok (.putfield 36, 3) := dk_181 0 36 (dk_at dksX19_init_3 2 rfl rfl)
theorem dX19_init_76 : decode cX19_init 76 = .ok (.aload_n 0, 1) := dk_42 (dk_at dksX19_init_3 5 rfl rfl)
theorem dX19_init_77 : decode cX19_init 77 = .ok (.bipush 12, 2) := dk_16 12 (dk_at dksX19_init_3 6 rfl rfl)
theorem dX19_init_79 : decode cX19_init 79 = .ok (.newarray .int, 2) := dk_188_10 (dk_at dksX19_init_3 8 rfl rfl)
theorem dX19_init_81 : decode cX19_init 81 = .ok (.putfield 39, 3) := dk_181 0 39 (dk_at dksX19_init_3 10 rfl rfl)
theorem dX19_init_84 : decode cX19_init 84 = .ok (.aload_n 0, 1) := dk_42 (dk_at dksX19_init_3 13 rfl rfl)
theorem dX19_init_85 : decode cX19_init 85 = .ok (.bipush 12, 2) := dk_16 12 (dk_at dksX19_init_3 14 rfl rfl)
theorem dX19_init_87 : decode cX19_init 87 = .ok (.newarray .int, 2) := dk_188_10 (dk_at dksX19_init_3 16 rfl rfl)
theorem dX19_init_89 : decode cX19_init 89 = .ok (.putfield 42, 3) := dk_181 0 42 (dk_at dksX19_init_3 18 rfl rfl)
theorem dX19_init_92 : decode cX19_init 92 = .ok (.aload_n 0, 1) := dk_42 (dk_at dksX19_init_3 21 rfl rfl)
theorem dX19_init_93 : decode cX19_init 93 = .ok (.bipush 8, 2) := dk_16 8 (dk_at dksX19_init_3 22 rfl rfl)
theorem dX19_init_95 : decode cX19_init 95 = .ok (.newarray .boolean, 2) := dk_188_4 (dk_at dksX19_init_4 0 rfl rfl)
theorem dX19_init_97 : decode cX19_init 97 = .ok (.putfield 45, 3) := dk_181 0 45 (dk_at dksX19_init_4 2 rfl rfl)
theorem dX19_init_100 : decode cX19_init 100 = .ok (.aload_n 0, 1) := dk_42 (dk_at dksX19_init_4 5 rfl rfl)
theorem dX19_init_101 : decode cX19_init 101 = .ok (.iconst 4, 1) := dk_7 (dk_at dksX19_init_4 6 rfl rfl)
theorem dX19_init_102 : decode cX19_init 102 = .ok (.newarray .int, 2) := dk_188_10 (dk_at dksX19_init_4 7 rfl rfl)
theorem dX19_init_104 : decode cX19_init 104 = .ok (.putfield 49, 3) := dk_181 0 49 (dk_at dksX19_init_4 9 rfl rfl)
theorem dX19_init_107 : decode cX19_init 107 = .ok (.aload_n 0, 1) := dk_42 (dk_at dksX19_init_4 12 rfl rfl)
theorem dX19_init_108 : decode cX19_init 108 = .ok (.iconst 4, 1) := dk_7 (dk_at dksX19_init_4 13 rfl rfl)
theorem dX19_init_109 : decode cX19_init 109 = .ok (.newarray .int, 2) := dk_188_10 (dk_at dksX19_init_4 14 rfl rfl)
theorem dX19_init_111 : decode cX19_init 111 = .ok (.putfield 52, 3) := dk_181 0 52 (dk_at dksX19_init_4 16 rfl rfl)
theorem dX19_init_114 : decode cX19_init 114 = .ok (.aload_n 0, 1) := dk_42 (dk_at dksX19_init_4 19 rfl rfl)
theorem dX19_init_115 : decode cX19_init 115 = .ok (.iconst 4, 1) := dk_7 (dk_at dksX19_init_4 20 rfl rfl)
theorem dX19_init_116 : decode cX19_init 116 = .ok (.newarray .int, 2) := dk_188_10 (dk_at dksX19_init_4 21 rfl rfl)
theorem dX19_init_118 : decode cX19_init 118 = .ok (.putfield 55, 3) := dk_181 0 55 (dk_at dksX19_init_5 0 rfl rfl)
theorem dX19_init_121 : decode cX19_init 121 = .ok (.aload_n 0, 1) := dk_42 (dk_at dksX19_init_5 3 rfl rfl)
theorem dX19_init_122 : decode cX19_init 122 = .ok (.iconst 4, 1) := dk_7 (dk_at dksX19_init_5 4 rfl rfl)
theorem dX19_init_123 : decode cX19_init 123 = .ok (.newarray .int, 2) := dk_188_10 (dk_at dksX19_init_5 5 rfl rfl)
theorem dX19_init_125 : decode cX19_init 125 = .ok (.putfield 58, 3) := dk_181 0 58 (dk_at dksX19_init_5 7 rfl rfl)
theorem dX19_init_128 : decode cX19_init 128 = .ok (.aload_n 0, 1) := dk_42 (dk_at dksX19_init_5 10 rfl rfl)
theorem dX19_init_129 : decode cX19_init 129 = .ok (.iconst 4, 1) := dk_7 (dk_at dksX19_init_5 11 rfl rfl)
theorem dX19_init_130 : decode cX19_init 130 = .ok (.newarray .int, 2) := dk_188_10 (dk_at dksX19_init_5 12 rfl rfl)
theorem dX19_init_132 : decode cX19_init 132 = .ok (.putfield 61, 3) := dk_181 0 61 (dk_at dksX19_init_5 14 rfl rfl)
theorem dX19_init_135 : decode cX19_init 135 = .ok (.aload_n 0, 1) := dk_42 (dk_at dksX19_init_5 17 rfl rfl)
theorem dX19_init_136 : decode cX19_init 136 = .ok (.iconst 4, 1) := dk_7 (dk_at dksX19_init_5 18 rfl rfl)
theorem dX19_init_137 : decode cX19_init 137 = .ok (.newarray .int, 2) := dk_188_10 (dk_at dksX19_init_5 19 rfl rfl)
theorem dX19_init_139 : decode cX19_init 139 = .ok (.putfield 64, 3) := dk_181 0 64 (dk_at dksX19_init_5 21 rfl rfl)
theorem dX19_init_142 : decode cX19_init 142 = .ok (.aload_n 0, 1) := dk_42 (dk_at dksX19_init_6 0 rfl rfl)
theorem dX19_init_143 : decode cX19_init 143 = .ok (.iconst 4, 1) := dk_7 (dk_at dksX19_init_6 1 rfl rfl)
theorem dX19_init_144 : decode cX19_init 144 = .ok (.newarray .int, 2) := dk_188_10 (dk_at dksX19_init_6 2 rfl rfl)
theorem dX19_init_146 : decode cX19_init 146 = .ok (.putfield 67, 3) := dk_181 0 67 (dk_at dksX19_init_6 4 rfl rfl)
theorem dX19_init_149 : decode cX19_init 149 = .ok (.aload_n 0, 1) := dk_42 (dk_at dksX19_init_6 7 rfl rfl)
theorem dX19_init_150 : decode cX19_init 150 = .ok (.iconst 4, 1) := dk_7 (dk_at dksX19_init_6 8 rfl rfl)
theorem dX19_init_151 : decode cX19_init 151 = .ok (.newarray .int, 2) := dk_188_10 (dk_at dksX19_init_6 9 rfl rfl)
theorem dX19_init_153 : decode cX19_init 153 = .ok (.putfield 70, 3) := dk_181 0 70 (dk_at dksX19_init_6 11 rfl rfl)
theorem dX19_init_156 : decode cX19_init 156 = .ok (.aload_n 0, 1) := dk_42 (dk_at dksX19_init_6 14 rfl rfl)
theorem dX19_init_157 : decode cX19_init 157 = .ok (.bipush 20, 2) := dk_16 20 (dk_at dksX19_init_6 15 rfl rfl)
theorem dX19_init_159 : decode cX19_init 159 = .ok (.newarray .int, 2) := dk_188_10 (dk_at dksX19_init_6 17 rfl rfl)
theorem dX19_init_161 : decode cX19_init 161 = .ok (.putfield 73, 3) := dk_181 0 73 (dk_at dksX19_init_6 19 rfl rfl)
theorem dX19_init_164 : decode cX19_init 164 = .ok (.aload_n 0, 1) := dk_42 (dk_at dksX19_init_6 22 rfl rfl)
theorem dX19_init_165 : decode cX19_init 165 = .ok (.bipush 12, 2) := dk_16 12 (dk_at dksX19_init_7 0 rfl rfl)
theorem dX19_init_167 : decode cX19_init 167 = .ok (.newarray .long, 2) := dk_188_11 (dk_at dksX19_init_7 2 rfl rfl)
theorem dX19_init_169 : decode cX19_init 169 = .ok (.putfield 76, 3) := dk_181 0 76 (dk_at dksX19_init_7 4 rfl rfl)
theorem dX19_init_172 : decode cX19_init 172 = .ok (.aload_n 0, 1) := dk_42 (dk_at dksX19_init_7 7 rfl rfl)
theorem dX19_init_173 : decode cX19_init 173 = .ok (.bipush 12, 2) := dk_16 12 (dk_at dksX19_init_7 8 rfl rfl)
theorem dX19_init_175 : decode cX19_init 175 = .ok (.newarray .int, 2) := dk_188_10 (dk_at dksX19_init_7 10 rfl rfl)
theorem dX19_init_177 : decode cX19_init 177 = .ok (.putfield 80, 3) := dk_181 0 80 (dk_at dksX19_init_7 12 rfl rfl)
theorem dX19_init_180 : decode cX19_init 180 = .ok (.aload_n 0, 1) := dk_42 (dk_at dksX19_init_7 15 rfl rfl)
theorem dX19_init_181 : decode cX19_init 181 = .ok (.bipush 12, 2) := dk_16 12 (dk_at dksX19_init_7 16 rfl rfl)
theorem dX19_init_183 : decode cX19_init 183 = .ok (.newarray .int, 2) := dk_188_10 (dk_at dksX19_init_7 18 rfl rfl)
theorem dX19_init_185 : decode cX19_init 185 = .ok (.putfield 83, 3) := dk_181 0 83 (dk_at dksX19_init_7 20 rfl rfl)
theorem dX19_init_188 : decode cX19_init 188 = .ok (.return_, 1) := dk_177 (dk_at dksX19_init_7 23 rfl rfl)
abbrev cX19_find : ByteArray := prog_20_method_2_code
def yX19_find : MethodName := ⟨RX19, "find", "(J)I"⟩
def dkwX19_find_1 : List UInt8 := [132, 3, 1, 167, 255, 232, 2, 172]
abbrev dktX19_find_1 : List UInt8 := dkwX19_find_1 ++ []
def dkwX19_find_0 : List UInt8 := [3, 62, 29, 42, 180, 0, 86, 162, 0, 22, 42, 180, 0, 76, 29, 47, 31, 148, 154, 0, 5, 29, 172]
abbrev dktX19_find_0 : List UInt8 := dkwX19_find_0 ++ dktX19_find_1
theorem dksX19_find_0 : cX19_find.data.toList.drop 0 = dktX19_find_0 := by decide +kernel
theorem dksX19_find_1 : cX19_find.data.toList.drop 23 = dktX19_find_1 := dk_seg dksX19_find_0 23 rfl rfl
theorem dX19_find_0 : decode cX19_find 0 = .ok (.iconst 0, 1) := dk_3 (dk_at dksX19_find_0 0 rfl rfl)
theorem dX19_find_1 : decode cX19_find 1 = .ok (.istore_n 3, 1) := dk_62 (dk_at dksX19_find_0 1 rfl rfl)
theorem dX19_find_2 : decode cX19_find 2 = .ok (.iload_n 3, 1) := dk_29 (dk_at dksX19_find_0 2 rfl rfl)
theorem dX19_find_3 : decode cX19_find 3 = .ok (.aload_n 0, 1) := dk_42 (dk_at dksX19_find_0 3 rfl rfl)
theorem dX19_find_4 : decode cX19_find 4 = .ok (.getfield 86, 3) := dk_180 0 86 (dk_at dksX19_find_0 4 rfl rfl)
theorem dX19_find_7 : decode cX19_find 7 = .ok (.if_icmp .ge 22, 3) := dk_162 0 22 (dk_at dksX19_find_0 7 rfl rfl)
theorem dX19_find_10 : decode cX19_find 10 = .ok (.aload_n 0, 1) := dk_42 (dk_at dksX19_find_0 10 rfl rfl)
theorem dX19_find_11 : decode cX19_find 11 = .ok (.getfield 76, 3) := dk_180 0 76 (dk_at dksX19_find_0 11 rfl rfl)
theorem dX19_find_14 : decode cX19_find 14 = .ok (.iload_n 3, 1) := dk_29 (dk_at dksX19_find_0 14 rfl rfl)
theorem dX19_find_15 : decode cX19_find 15 = .ok (.laload, 1) := dk_47 (dk_at dksX19_find_0 15 rfl rfl)
theorem dX19_find_16 : decode cX19_find 16 = .ok (.lload_n 1, 1) := dk_31 (dk_at dksX19_find_0 16 rfl rfl)
theorem dX19_find_17 : decode cX19_find 17 = .ok (.lcmp, 1) := dk_148 (dk_at dksX19_find_0 17 rfl rfl)
theorem dX19_find_18 : decode cX19_find 18 = .ok (.ifCond .ne 5, 3) := dk_154 0 5 (dk_at dksX19_find_0 18 rfl rfl)
theorem dX19_find_21 : decode cX19_find 21 = .ok (.iload_n 3, 1) := dk_29 (dk_at dksX19_find_0 21 rfl rfl)
theorem dX19_find_22 : decode cX19_find 22 = .ok (.ireturn, 1) := dk_172 (dk_at dksX19_find_0 22 rfl rfl)
theorem dX19_find_23 : decode cX19_find 23 = .ok (.iinc 3 1, 3) := dk_132 3 1 (dk_at dksX19_find_1 0 rfl rfl)
theorem dX19_find_26 : decode cX19_find 26 = .ok (.goto (-24), 3) := dk_167 255 232 (dk_at dksX19_find_1 3 rfl rfl)
theorem dX19_find_29 : decode cX19_find 29 = .ok (.iconst (-1), 1) := dk_2 (dk_at dksX19_find_1 6 rfl rfl)
theorem dX19_find_30 : decode cX19_find 30 = .ok (.ireturn, 1) := dk_172 (dk_at dksX19_find_1 7 rfl rfl)
abbrev cX19_air : ByteArray := prog_20_method_8_code
def yX19_air : MethodName := ⟨RX19, "air", "(III)I"⟩
def dkwX19_air_2 : List UInt8 := [3, 172]
abbrev dktX19_air_2 : List UInt8 := dkwX19_air_2 ++ []
def dkwX19_air_1 : List UInt8 := [180, 0, 21, 29, 46, 167, 0, 20, 21, 4, 5, 160, 0, 13, 42, 180, 0, 21, 29, 46, 116, 167, 0, 4]
abbrev dktX19_air_1 : List UInt8 := dkwX19_air_1 ++ dktX19_air_2
def dkwX19_air_0 : List UInt8 := [42, 180, 0, 18, 29, 46, 42, 27, 28, 182, 0, 90, 100, 6, 126, 54, 4, 21, 4, 154, 0, 12, 42]
abbrev dktX19_air_0 : List UInt8 := dkwX19_air_0 ++ dktX19_air_1
theorem dksX19_air_0 : cX19_air.data.toList.drop 0 = dktX19_air_0 := by decide +kernel
theorem dksX19_air_1 : cX19_air.data.toList.drop 23 = dktX19_air_1 := dk_seg dksX19_air_0 23 rfl rfl
theorem dksX19_air_2 : cX19_air.data.toList.drop 47 = dktX19_air_2 := dk_seg dksX19_air_1 24 rfl rfl
theorem dX19_air_0 : decode cX19_air 0 = .ok (.aload_n 0, 1) := dk_42 (dk_at dksX19_air_0 0 rfl rfl)
theorem dX19_air_1 : decode cX19_air 1 = .ok (.getfield 18, 3) := dk_180 0 18 (dk_at dksX19_air_0 1 rfl rfl)
theorem dX19_air_4 : decode cX19_air 4 = .ok (.iload_n 3, 1) := dk_29 (dk_at dksX19_air_0 4 rfl rfl)
theorem dX19_air_5 : decode cX19_air 5 = .ok (.iaload, 1) := dk_46 (dk_at dksX19_air_0 5 rfl rfl)
theorem dX19_air_6 : decode cX19_air 6 = .ok (.aload_n 0, 1) := dk_42 (dk_at dksX19_air_0 6 rfl rfl)
theorem dX19_air_7 : decode cX19_air 7 = .ok (.iload_n 1, 1) := dk_27 (dk_at dksX19_air_0 7 rfl rfl)
theorem dX19_air_8 : decode cX19_air 8 = .ok (.iload_n 2, 1) := dk_28 (dk_at dksX19_air_0 8 rfl rfl)
theorem dX19_air_9 : decode cX19_air 9 = .ok (.invokevirtual 90, 3) := dk_182 0 90 (dk_at dksX19_air_0 9 rfl rfl)
theorem dX19_air_12 : decode cX19_air 12 = .ok (.isub, 1) := dk_100 (dk_at dksX19_air_0 12 rfl rfl)
theorem dX19_air_13 : decode cX19_air 13 = .ok (.iconst 3, 1) := dk_6 (dk_at dksX19_air_0 13 rfl rfl)
theorem dX19_air_14 : decode cX19_air 14 = .ok (.iand, 1) := dk_126 (dk_at dksX19_air_0 14 rfl rfl)
theorem dX19_air_15 : decode cX19_air 15 = .ok (.istore 4, 2) := dk_54 4 (dk_at dksX19_air_0 15 rfl rfl)
theorem dX19_air_17 : decode cX19_air 17 = .ok (.iload 4, 2) := dk_21 4 (dk_at dksX19_air_0 17 rfl rfl)
theorem dX19_air_19 : decode cX19_air 19 = .ok (.ifCond .ne 12, 3) := dk_154 0 12 (dk_at dksX19_air_0 19 rfl rfl)
theorem dX19_air_22 : decode cX19_air 22 = .ok (.aload_n 0, 1) := dk_42 (dk_at dksX19_air_0 22 rfl rfl)
theorem dX19_air_23 : decode cX19_air 23 = .ok (.getfield 21, 3) := dk_180 0 21 (dk_at dksX19_air_1 0 rfl rfl)
theorem dX19_air_26 : decode cX19_air 26 = .ok (.iload_n 3, 1) := dk_29 (dk_at dksX19_air_1 3 rfl rfl)
theorem dX19_air_27 : decode cX19_air 27 = .ok (.iaload, 1) := dk_46 (dk_at dksX19_air_1 4 rfl rfl)
theorem dX19_air_28 : decode cX19_air 28 = .ok (.goto 20, 3) := dk_167 0 20 (dk_at dksX19_air_1 5 rfl rfl)
theorem dX19_air_31 : decode cX19_air 31 = .ok (.iload 4, 2) := dk_21 4 (dk_at dksX19_air_1 8 rfl rfl)
theorem dX19_air_33 : decode cX19_air 33 = .ok (.iconst 2, 1) := dk_5 (dk_at dksX19_air_1 10 rfl rfl)
theorem dX19_air_34 : decode cX19_air 34 = .ok (.if_icmp .ne 13, 3) := dk_160 0 13 (dk_at dksX19_air_1 11 rfl rfl)
theorem dX19_air_37 : decode cX19_air 37 = .ok (.aload_n 0, 1) := dk_42 (dk_at dksX19_air_1 14 rfl rfl)
theorem dX19_air_38 : decode cX19_air 38 = .ok (.getfield 21, 3) := dk_180 0 21 (dk_at dksX19_air_1 15 rfl rfl)
theorem dX19_air_41 : decode cX19_air 41 = .ok (.iload_n 3, 1) := dk_29 (dk_at dksX19_air_1 18 rfl rfl)
theorem dX19_air_42 : decode cX19_air 42 = .ok (.iaload, 1) := dk_46 (dk_at dksX19_air_1 19 rfl rfl)
theorem dX19_air_43 : decode cX19_air 43 = .ok (.ineg, 1) := dk_116 (dk_at dksX19_air_1 20 rfl rfl)
theorem dX19_air_44 : decode cX19_air 44 = .ok (.goto 4, 3) := dk_167 0 4 (dk_at dksX19_air_1 21 rfl rfl)
theorem dX19_air_47 : decode cX19_air 47 = .ok (.iconst 0, 1) := dk_3 (dk_at dksX19_air_2 0 rfl rfl)
theorem dX19_air_48 : decode cX19_air 48 = .ok (.ireturn, 1) := dk_172 (dk_at dksX19_air_2 1 rfl rfl)
abbrev cX19_facing : ByteArray := prog_20_method_6_code
def yX19_facing : MethodName := ⟨RX19, "facing", "(II)I"⟩
def dkwX19_facing_0 : List UInt8 := [28, 154, 0, 12, 42, 180, 0, 36, 27, 46, 167, 0, 13, 42, 180, 0, 36, 27, 46, 5, 96, 6, 126, 172]
abbrev dktX19_facing_0 : List UInt8 := dkwX19_facing_0 ++ []
theorem dksX19_facing_0 : cX19_facing.data.toList.drop 0 = dktX19_facing_0 := by decide +kernel
theorem dX19_facing_0 : decode cX19_facing 0 = .ok (.iload_n 2, 1) := dk_28 (dk_at dksX19_facing_0 0 rfl rfl)
theorem dX19_facing_1 : decode cX19_facing 1 = .ok (.ifCond .ne 12, 3) := dk_154 0 12 (dk_at dksX19_facing_0 1 rfl rfl)
theorem dX19_facing_4 : decode cX19_facing 4 = .ok (.aload_n 0, 1) := dk_42 (dk_at dksX19_facing_0 4 rfl rfl)
theorem dX19_facing_5 : decode cX19_facing 5 = .ok (.getfield 36, 3) := dk_180 0 36 (dk_at dksX19_facing_0 5 rfl rfl)
theorem dX19_facing_8 : decode cX19_facing 8 = .ok (.iload_n 1, 1) := dk_27 (dk_at dksX19_facing_0 8 rfl rfl)
theorem dX19_facing_9 : decode cX19_facing 9 = .ok (.iaload, 1) := dk_46 (dk_at dksX19_facing_0 9 rfl rfl)
theorem dX19_facing_10 : decode cX19_facing 10 = .ok (.goto 13, 3) := dk_167 0 13 (dk_at dksX19_facing_0 10 rfl rfl)
theorem dX19_facing_13 : decode cX19_facing 13 = .ok (.aload_n 0, 1) := dk_42 (dk_at dksX19_facing_0 13 rfl rfl)
theorem dX19_facing_14 : decode cX19_facing 14 = .ok (.getfield 36, 3) := dk_180 0 36 (dk_at dksX19_facing_0 14 rfl rfl)
theorem dX19_facing_17 : decode cX19_facing 17 = .ok (.iload_n 1, 1) := dk_27 (dk_at dksX19_facing_0 17 rfl rfl)
theorem dX19_facing_18 : decode cX19_facing 18 = .ok (.iaload, 1) := dk_46 (dk_at dksX19_facing_0 18 rfl rfl)
theorem dX19_facing_19 : decode cX19_facing 19 = .ok (.iconst 2, 1) := dk_5 (dk_at dksX19_facing_0 19 rfl rfl)
theorem dX19_facing_20 : decode cX19_facing 20 = .ok (.iadd, 1) := dk_96 (dk_at dksX19_facing_0 20 rfl rfl)
theorem dX19_facing_21 : decode cX19_facing 21 = .ok (.iconst 3, 1) := dk_6 (dk_at dksX19_facing_0 21 rfl rfl)
theorem dX19_facing_22 : decode cX19_facing 22 = .ok (.iand, 1) := dk_126 (dk_at dksX19_facing_0 22 rfl rfl)
theorem dX19_facing_23 : decode cX19_facing 23 = .ok (.ireturn, 1) := dk_172 (dk_at dksX19_facing_0 23 rfl rfl)
abbrev cX19_across : ByteArray := prog_20_method_9_code
def yX19_across : MethodName := ⟨RX19, "across", "(III)I"⟩
def dkwX19_across_2 : List UInt8 := [3, 172]
abbrev dktX19_across_2 : List UInt8 := dkwX19_across_2 ++ []
def dkwX19_across_1 : List UInt8 := [180, 0, 21, 29, 46, 167, 0, 20, 21, 4, 6, 160, 0, 13, 42, 180, 0, 21, 29, 46, 116, 167, 0, 4]
abbrev dktX19_across_1 : List UInt8 := dkwX19_across_1 ++ dktX19_across_2
def dkwX19_across_0 : List UInt8 := [42, 180, 0, 18, 29, 46, 42, 27, 28, 182, 0, 90, 100, 6, 126, 54, 4, 21, 4, 4, 160, 0, 12, 42]
abbrev dktX19_across_0 : List UInt8 := dkwX19_across_0 ++ dktX19_across_1
theorem dksX19_across_0 : cX19_across.data.toList.drop 0 = dktX19_across_0 := by decide +kernel
theorem dksX19_across_1 : cX19_across.data.toList.drop 24 = dktX19_across_1 := dk_seg dksX19_across_0 24 rfl rfl
theorem dksX19_across_2 : cX19_across.data.toList.drop 48 = dktX19_across_2 := dk_seg dksX19_across_1 24 rfl rfl
theorem dX19_across_0 : decode cX19_across 0 = .ok (.aload_n 0, 1) := dk_42 (dk_at dksX19_across_0 0 rfl rfl)
theorem dX19_across_1 : decode cX19_across 1 = .ok (.getfield 18, 3) := dk_180 0 18 (dk_at dksX19_across_0 1 rfl rfl)
theorem dX19_across_4 : decode cX19_across 4 = .ok (.iload_n 3, 1) := dk_29 (dk_at dksX19_across_0 4 rfl rfl)
theorem dX19_across_5 : decode cX19_across 5 = .ok (.iaload, 1) := dk_46 (dk_at dksX19_across_0 5 rfl rfl)
theorem dX19_across_6 : decode cX19_across 6 = .ok (.aload_n 0, 1) := dk_42 (dk_at dksX19_across_0 6 rfl rfl)
theorem dX19_across_7 : decode cX19_across 7 = .ok (.iload_n 1, 1) := dk_27 (dk_at dksX19_across_0 7 rfl rfl)
theorem dX19_across_8 : decode cX19_across 8 = .ok (.iload_n 2, 1) := dk_28 (dk_at dksX19_across_0 8 rfl rfl)
theorem dX19_across_9 : decode cX19_across 9 = .ok (.invokevirtual 90, 3) := dk_182 0 90 (dk_at dksX19_across_0 9 rfl rfl)
theorem dX19_across_12 : decode cX19_across 12 = .ok (.isub, 1) := dk_100 (dk_at dksX19_across_0 12 rfl rfl)
theorem dX19_across_13 : decode cX19_across 13 = .ok (.iconst 3, 1) := dk_6 (dk_at dksX19_across_0 13 rfl rfl)
theorem dX19_across_14 : decode cX19_across 14 = .ok (.iand, 1) := dk_126 (dk_at dksX19_across_0 14 rfl rfl)
theorem dX19_across_15 : decode cX19_across 15 = .ok (.istore 4, 2) := dk_54 4 (dk_at dksX19_across_0 15 rfl rfl)
theorem dX19_across_17 : decode cX19_across 17 = .ok (.iload 4, 2) := dk_21 4 (dk_at dksX19_across_0 17 rfl rfl)
theorem dX19_across_19 : decode cX19_across 19 = .ok (.iconst 1, 1) := dk_4 (dk_at dksX19_across_0 19 rfl rfl)
theorem dX19_across_20 : decode cX19_across 20 = .ok (.if_icmp .ne 12, 3) := dk_160 0 12 (dk_at dksX19_across_0 20 rfl rfl)
theorem dX19_across_23 : decode cX19_across 23 = .ok (.aload_n 0, 1) := dk_42 (dk_at dksX19_across_0 23 rfl rfl)
theorem dX19_across_24 : decode cX19_across 24 = .ok (.getfield 21, 3) := dk_180 0 21 (dk_at dksX19_across_1 0 rfl rfl)
theorem dX19_across_27 : decode cX19_across 27 = .ok (.iload_n 3, 1) := dk_29 (dk_at dksX19_across_1 3 rfl rfl)
theorem dX19_across_28 : decode cX19_across 28 = .ok (.iaload, 1) := dk_46 (dk_at dksX19_across_1 4 rfl rfl)
theorem dX19_across_29 : decode cX19_across 29 = .ok (.goto 20, 3) := dk_167 0 20 (dk_at dksX19_across_1 5 rfl rfl)
theorem dX19_across_32 : decode cX19_across 32 = .ok (.iload 4, 2) := dk_21 4 (dk_at dksX19_across_1 8 rfl rfl)
theorem dX19_across_34 : decode cX19_across 34 = .ok (.iconst 3, 1) := dk_6 (dk_at dksX19_across_1 10 rfl rfl)
theorem dX19_across_35 : decode cX19_across 35 = .ok (.if_icmp .ne 13, 3) := dk_160 0 13 (dk_at dksX19_across_1 11 rfl rfl)
theorem dX19_across_38 : decode cX19_across 38 = .ok (.aload_n 0, 1) := dk_42 (dk_at dksX19_across_1 14 rfl rfl)
theorem dX19_across_39 : decode cX19_across 39 = .ok (.getfield 21, 3) := dk_180 0 21 (dk_at dksX19_across_1 15 rfl rfl)
theorem dX19_across_42 : decode cX19_across 42 = .ok (.iload_n 3, 1) := dk_29 (dk_at dksX19_across_1 18 rfl rfl)
theorem dX19_across_43 : decode cX19_across 43 = .ok (.iaload, 1) := dk_46 (dk_at dksX19_across_1 19 rfl rfl)
theorem dX19_across_44 : decode cX19_across 44 = .ok (.ineg, 1) := dk_116 (dk_at dksX19_across_1 20 rfl rfl)
theorem dX19_across_45 : decode cX19_across 45 = .ok (.goto 4, 3) := dk_167 0 4 (dk_at dksX19_across_1 21 rfl rfl)
theorem dX19_across_48 : decode cX19_across 48 = .ok (.iconst 0, 1) := dk_3 (dk_at dksX19_across_2 0 rfl rfl)
theorem dX19_across_49 : decode cX19_across 49 = .ok (.ireturn, 1) := dk_172 (dk_at dksX19_across_2 1 rfl rfl)
abbrev cX19_shield : ByteArray := prog_20_method_3_code
def yX19_shield : MethodName := ⟨RX19, "shield", "(I)I"⟩
def dkwX19_shield_0 : List UInt8 := [42, 180, 0, 49, 27, 46, 6, 160, 0, 12, 42, 180, 0, 52, 27, 46, 167, 0, 4, 3, 172]
abbrev dktX19_shield_0 : List UInt8 := dkwX19_shield_0 ++ []
theorem dksX19_shield_0 : cX19_shield.data.toList.drop 0 = dktX19_shield_0 := by decide +kernel
theorem dX19_shield_0 : decode cX19_shield 0 = .ok (.aload_n 0, 1) := dk_42 (dk_at dksX19_shield_0 0 rfl rfl)
theorem dX19_shield_1 : decode cX19_shield 1 = .ok (.getfield 49, 3) := dk_180 0 49 (dk_at dksX19_shield_0 1 rfl rfl)
theorem dX19_shield_4 : decode cX19_shield 4 = .ok (.iload_n 1, 1) := dk_27 (dk_at dksX19_shield_0 4 rfl rfl)
theorem dX19_shield_5 : decode cX19_shield 5 = .ok (.iaload, 1) := dk_46 (dk_at dksX19_shield_0 5 rfl rfl)
theorem dX19_shield_6 : decode cX19_shield 6 = .ok (.iconst 3, 1) := dk_6 (dk_at dksX19_shield_0 6 rfl rfl)
theorem dX19_shield_7 : decode cX19_shield 7 = .ok (.if_icmp .ne 12, 3) := dk_160 0 12 (dk_at dksX19_shield_0 7 rfl rfl)
theorem dX19_shield_10 : decode cX19_shield 10 = .ok (.aload_n 0, 1) := dk_42 (dk_at dksX19_shield_0 10 rfl rfl)
theorem dX19_shield_11 : decode cX19_shield 11 = .ok (.getfield 52, 3) := dk_180 0 52 (dk_at dksX19_shield_0 11 rfl rfl)
theorem dX19_shield_14 : decode cX19_shield 14 = .ok (.iload_n 1, 1) := dk_27 (dk_at dksX19_shield_0 14 rfl rfl)
theorem dX19_shield_15 : decode cX19_shield 15 = .ok (.iaload, 1) := dk_46 (dk_at dksX19_shield_0 15 rfl rfl)
theorem dX19_shield_16 : decode cX19_shield 16 = .ok (.goto 4, 3) := dk_167 0 4 (dk_at dksX19_shield_0 16 rfl rfl)
theorem dX19_shield_19 : decode cX19_shield 19 = .ok (.iconst 0, 1) := dk_3 (dk_at dksX19_shield_0 19 rfl rfl)
theorem dX19_shield_20 : decode cX19_shield 20 = .ok (.ireturn, 1) := dk_172 (dk_at dksX19_shield_0 20 rfl rfl)
abbrev cX19_minutes : ByteArray := prog_20_method_7_code
def yX19_minutes : MethodName := ⟨RX19, "minutes", "(II)I"⟩
def dkwX19_minutes_0 : List UInt8 := [42, 180, 0, 39, 27, 46, 28, 96, 4, 100, 28, 108, 172]
abbrev dktX19_minutes_0 : List UInt8 := dkwX19_minutes_0 ++ []
theorem dksX19_minutes_0 : cX19_minutes.data.toList.drop 0 = dktX19_minutes_0 := by decide +kernel
theorem dX19_minutes_0 : decode cX19_minutes 0 = .ok (.aload_n 0, 1) := dk_42 (dk_at dksX19_minutes_0 0 rfl rfl)
theorem dX19_minutes_1 : decode cX19_minutes 1 = .ok (.getfield 39, 3) := dk_180 0 39 (dk_at dksX19_minutes_0 1 rfl rfl)
theorem dX19_minutes_4 : decode cX19_minutes 4 = .ok (.iload_n 1, 1) := dk_27 (dk_at dksX19_minutes_0 4 rfl rfl)
theorem dX19_minutes_5 : decode cX19_minutes 5 = .ok (.iaload, 1) := dk_46 (dk_at dksX19_minutes_0 5 rfl rfl)
theorem dX19_minutes_6 : decode cX19_minutes 6 = .ok (.iload_n 2, 1) := dk_28 (dk_at dksX19_minutes_0 6 rfl rfl)
theorem dX19_minutes_7 : decode cX19_minutes 7 = .ok (.iadd, 1) := dk_96 (dk_at dksX19_minutes_0 7 rfl rfl)
theorem dX19_minutes_8 : decode cX19_minutes 8 = .ok (.iconst 1, 1) := dk_4 (dk_at dksX19_minutes_0 8 rfl rfl)
theorem dX19_minutes_9 : decode cX19_minutes 9 = .ok (.isub, 1) := dk_100 (dk_at dksX19_minutes_0 9 rfl rfl)
theorem dX19_minutes_10 : decode cX19_minutes 10 = .ok (.iload_n 2, 1) := dk_28 (dk_at dksX19_minutes_0 10 rfl rfl)
theorem dX19_minutes_11 : decode cX19_minutes 11 = .ok (.idiv, 1) := dk_108 (dk_at dksX19_minutes_0 11 rfl rfl)
theorem dX19_minutes_12 : decode cX19_minutes 12 = .ok (.ireturn, 1) := dk_172 (dk_at dksX19_minutes_0 12 rfl rfl)
abbrev cX19_begins : ByteArray := prog_20_method_4_code
def yX19_begins : MethodName := ⟨RX19, "begins", "(II)I"⟩
def dkwX19_begins_0 : List UInt8 := [28, 154, 0, 12, 42, 180, 0, 30, 27, 46, 167, 0, 9, 42, 180, 0, 33, 27, 46, 172]
abbrev dktX19_begins_0 : List UInt8 := dkwX19_begins_0 ++ []
theorem dksX19_begins_0 : cX19_begins.data.toList.drop 0 = dktX19_begins_0 := by decide +kernel
theorem dX19_begins_0 : decode cX19_begins 0 = .ok (.iload_n 2, 1) := dk_28 (dk_at dksX19_begins_0 0 rfl rfl)
theorem dX19_begins_1 : decode cX19_begins 1 = .ok (.ifCond .ne 12, 3) := dk_154 0 12 (dk_at dksX19_begins_0 1 rfl rfl)
theorem dX19_begins_4 : decode cX19_begins 4 = .ok (.aload_n 0, 1) := dk_42 (dk_at dksX19_begins_0 4 rfl rfl)
theorem dX19_begins_5 : decode cX19_begins 5 = .ok (.getfield 30, 3) := dk_180 0 30 (dk_at dksX19_begins_0 5 rfl rfl)
theorem dX19_begins_8 : decode cX19_begins 8 = .ok (.iload_n 1, 1) := dk_27 (dk_at dksX19_begins_0 8 rfl rfl)
theorem dX19_begins_9 : decode cX19_begins 9 = .ok (.iaload, 1) := dk_46 (dk_at dksX19_begins_0 9 rfl rfl)
theorem dX19_begins_10 : decode cX19_begins 10 = .ok (.goto 9, 3) := dk_167 0 9 (dk_at dksX19_begins_0 10 rfl rfl)
theorem dX19_begins_13 : decode cX19_begins 13 = .ok (.aload_n 0, 1) := dk_42 (dk_at dksX19_begins_0 13 rfl rfl)
theorem dX19_begins_14 : decode cX19_begins 14 = .ok (.getfield 33, 3) := dk_180 0 33 (dk_at dksX19_begins_0 14 rfl rfl)
theorem dX19_begins_17 : decode cX19_begins 17 = .ok (.iload_n 1, 1) := dk_27 (dk_at dksX19_begins_0 17 rfl rfl)
theorem dX19_begins_18 : decode cX19_begins 18 = .ok (.iaload, 1) := dk_46 (dk_at dksX19_begins_0 18 rfl rfl)
theorem dX19_begins_19 : decode cX19_begins 19 = .ok (.ireturn, 1) := dk_172 (dk_at dksX19_begins_0 19 rfl rfl)
abbrev cX19_ends : ByteArray := prog_20_method_5_code
def yX19_ends : MethodName := ⟨RX19, "ends", "(II)I"⟩
def dkwX19_ends_0 : List UInt8 := [28, 154, 0, 12, 42, 180, 0, 33, 27, 46, 167, 0, 9, 42, 180, 0, 30, 27, 46, 172]
abbrev dktX19_ends_0 : List UInt8 := dkwX19_ends_0 ++ []
theorem dksX19_ends_0 : cX19_ends.data.toList.drop 0 = dktX19_ends_0 := by decide +kernel
theorem dX19_ends_0 : decode cX19_ends 0 = .ok (.iload_n 2, 1) := dk_28 (dk_at dksX19_ends_0 0 rfl rfl)
theorem dX19_ends_1 : decode cX19_ends 1 = .ok (.ifCond .ne 12, 3) := dk_154 0 12 (dk_at dksX19_ends_0 1 rfl rfl)
theorem dX19_ends_4 : decode cX19_ends 4 = .ok (.aload_n 0, 1) := dk_42 (dk_at dksX19_ends_0 4 rfl rfl)
theorem dX19_ends_5 : decode cX19_ends 5 = .ok (.getfield 33, 3) := dk_180 0 33 (dk_at dksX19_ends_0 5 rfl rfl)
theorem dX19_ends_8 : decode cX19_ends 8 = .ok (.iload_n 1, 1) := dk_27 (dk_at dksX19_ends_0 8 rfl rfl)
theorem dX19_ends_9 : decode cX19_ends 9 = .ok (.iaload, 1) := dk_46 (dk_at dksX19_ends_0 9 rfl rfl)
theorem dX19_ends_10 : decode cX19_ends 10 = .ok (.goto 9, 3) := dk_167 0 9 (dk_at dksX19_ends_0 10 rfl rfl)
theorem dX19_ends_13 : decode cX19_ends 13 = .ok (.aload_n 0, 1) := dk_42 (dk_at dksX19_ends_0 13 rfl rfl)
theorem dX19_ends_14 : decode cX19_ends 14 = .ok (.getfield 30, 3) := dk_180 0 30 (dk_at dksX19_ends_0 14 rfl rfl)
theorem dX19_ends_17 : decode cX19_ends 17 = .ok (.iload_n 1, 1) := dk_27 (dk_at dksX19_ends_0 17 rfl rfl)
theorem dX19_ends_18 : decode cX19_ends 18 = .ok (.iaload, 1) := dk_46 (dk_at dksX19_ends_0 18 rfl rfl)
theorem dX19_ends_19 : decode cX19_ends 19 = .ok (.ireturn, 1) := dk_172 (dk_at dksX19_ends_0 19 rfl rfl)
theorem q138 : (Jvm.Cond.initialized "RainWalkModel$World") ∈ lw_all := lw_g (lw_at lw_m1 27 rfl) rfl
theorem q1582 : (Jvm.Cond.instantiable "RainWalkModel$World" (31 : Nat)) ∈ lw_all := lw_g (lw_at lw_m7 31 rfl) rfl
theorem q1584 : (Jvm.Cond.instanceMethod ({ cls := "RainWalkModel$World", name := "<init>", desc := "()V" } : Jvm.MethodName)) ∈ lw_all := lw_g (lw_at lw_m7 33 rfl) rfl
theorem q1585 : (Jvm.Cond.code ({ cls := "RainWalkModel$World", name := "<init>", desc := "()V" } : Jvm.MethodName) prog_20_method_1_code (1 : Nat) (Option.none : Option Jvm.ClassFile.FieldType)) ∈ lw_all := lw_g (lw_at lw_m7 34 rfl) rfl
theorem q1586 : (Jvm.Cond.methodLink "RainWalkModel$World" (3 : Nat) ({ cls := "java/lang/Object", name := "<init>", desc := "()V" } : Jvm.MethodName)) ∈ lw_all := lw_g (lw_at lw_m7 35 rfl) rfl
theorem q1593 : (Jvm.Cond.fieldLink "RainWalkModel$World" (86 : Nat) "RainWalkModel$World" "names" "I") ∈ lw_all := lw_g (lw_at lw_m7 42 rfl) rfl
theorem q1595 : (Jvm.Cond.fieldLink "RainWalkModel$World" (9 : Nat) "RainWalkModel$World" "drops" "[I") ∈ lw_all := lw_g (lw_at lw_m7 44 rfl) rfl
theorem q1597 : (Jvm.Cond.fieldLink "RainWalkModel$World" (15 : Nat) "RainWalkModel$World" "down" "[I") ∈ lw_all := lw_g (lw_at lw_m7 46 rfl) rfl
theorem q1599 : (Jvm.Cond.fieldLink "RainWalkModel$World" (18 : Nat) "RainWalkModel$World" "windSide" "[I") ∈ lw_all := lw_g (lw_at lw_m7 48 rfl) rfl
theorem q1601 : (Jvm.Cond.fieldLink "RainWalkModel$World" (21 : Nat) "RainWalkModel$World" "wind" "[I") ∈ lw_all := lw_g (lw_at lw_m7 50 rfl) rfl
theorem q1603 : (Jvm.Cond.fieldLink "RainWalkModel$World" (24 : Nat) "RainWalkModel$World" "chance" "[I") ∈ lw_all := lw_g (lw_at lw_m7 52 rfl) rfl
theorem q1605 : (Jvm.Cond.fieldLink "RainWalkModel$World" (27 : Nat) "RainWalkModel$World" "tree" "[I") ∈ lw_all := lw_g (lw_at lw_m7 54 rfl) rfl
theorem q1607 : (Jvm.Cond.fieldLink "RainWalkModel$World" (30 : Nat) "RainWalkModel$World" "roadFrom" "[I") ∈ lw_all := lw_g (lw_at lw_m7 56 rfl) rfl
theorem q1609 : (Jvm.Cond.fieldLink "RainWalkModel$World" (33 : Nat) "RainWalkModel$World" "roadTo" "[I") ∈ lw_all := lw_g (lw_at lw_m7 58 rfl) rfl
theorem q1611 : (Jvm.Cond.fieldLink "RainWalkModel$World" (36 : Nat) "RainWalkModel$World" "roadSide" "[I") ∈ lw_all := lw_g (lw_at lw_m7 60 rfl) rfl
theorem q1613 : (Jvm.Cond.fieldLink "RainWalkModel$World" (39 : Nat) "RainWalkModel$World" "roadLong" "[I") ∈ lw_all := lw_g (lw_at lw_m7 62 rfl) rfl
theorem q1615 : (Jvm.Cond.fieldLink "RainWalkModel$World" (42 : Nat) "RainWalkModel$World" "awning" "[I") ∈ lw_all := lw_g (lw_at lw_m7 64 rfl) rfl
theorem q1617 : (Jvm.Cond.fieldLink "RainWalkModel$World" (45 : Nat) "RainWalkModel$World" "isInn" "[Z") ∈ lw_all := lw_g (lw_at lw_m7 66 rfl) rfl
theorem q1619 : (Jvm.Cond.fieldLink "RainWalkModel$World" (49 : Nat) "RainWalkModel$World" "kind" "[I") ∈ lw_all := lw_g (lw_at lw_m7 68 rfl) rfl
theorem q1621 : (Jvm.Cond.fieldLink "RainWalkModel$World" (52 : Nat) "RainWalkModel$World" "much" "[I") ∈ lw_all := lw_g (lw_at lw_m7 70 rfl) rfl
theorem q1623 : (Jvm.Cond.fieldLink "RainWalkModel$World" (55 : Nat) "RainWalkModel$World" "top" "[I") ∈ lw_all := lw_g (lw_at lw_m7 72 rfl) rfl
theorem q1625 : (Jvm.Cond.fieldLink "RainWalkModel$World" (58 : Nat) "RainWalkModel$World" "front" "[I") ∈ lw_all := lw_g (lw_at lw_m7 74 rfl) rfl
theorem q1627 : (Jvm.Cond.fieldLink "RainWalkModel$World" (61 : Nat) "RainWalkModel$World" "side" "[I") ∈ lw_all := lw_g (lw_at lw_m7 76 rfl) rfl
theorem q1629 : (Jvm.Cond.fieldLink "RainWalkModel$World" (64 : Nat) "RainWalkModel$World" "slowest" "[I") ∈ lw_all := lw_g (lw_at lw_m7 78 rfl) rfl
theorem q1631 : (Jvm.Cond.fieldLink "RainWalkModel$World" (67 : Nat) "RainWalkModel$World" "fastest" "[I") ∈ lw_all := lw_g (lw_at lw_m7 80 rfl) rfl
theorem q1633 : (Jvm.Cond.fieldLink "RainWalkModel$World" (70 : Nat) "RainWalkModel$World" "seenWho" "[I") ∈ lw_all := lw_g (lw_at lw_m7 82 rfl) rfl
theorem q1635 : (Jvm.Cond.fieldLink "RainWalkModel$World" (73 : Nat) "RainWalkModel$World" "seen" "[I") ∈ lw_all := lw_g (lw_at lw_m7 84 rfl) rfl
theorem q1637 : (Jvm.Cond.fieldLink "RainWalkModel$World" (76 : Nat) "RainWalkModel$World" "name" "[J") ∈ lw_all := lw_g (lw_at lw_m7 86 rfl) rfl
theorem q1639 : (Jvm.Cond.fieldLink "RainWalkModel$World" (80 : Nat) "RainWalkModel$World" "nameSort" "[I") ∈ lw_all := lw_g (lw_at lw_m7 88 rfl) rfl
theorem q1641 : (Jvm.Cond.fieldLink "RainWalkModel$World" (83 : Nat) "RainWalkModel$World" "nameNumber" "[I") ∈ lw_all := lw_g (lw_at lw_m7 90 rfl) rfl
theorem q1643 : (Jvm.Cond.lays "RainWalkModel$World" "RainWalkModel$World" "hour" "I") ∈ lw_all := lw_g (lw_at lw_m7 92 rfl) rfl
theorem q1644 : (Jvm.Cond.soleField "RainWalkModel$World" "hour") ∈ lw_all := lw_g (lw_at lw_m7 93 rfl) rfl
theorem q1645 : (Jvm.Cond.lays "RainWalkModel$World" "RainWalkModel$World" "hours" "I") ∈ lw_all := lw_g (lw_at lw_m7 94 rfl) rfl
theorem q1646 : (Jvm.Cond.soleField "RainWalkModel$World" "hours") ∈ lw_all := lw_g (lw_at lw_m7 95 rfl) rfl
theorem q1647 : (Jvm.Cond.lays "RainWalkModel$World" "RainWalkModel$World" "places" "I") ∈ lw_all := lw_g (lw_at lw_m7 96 rfl) rfl
theorem q1648 : (Jvm.Cond.soleField "RainWalkModel$World" "places") ∈ lw_all := lw_g (lw_at lw_m7 97 rfl) rfl
theorem q1649 : (Jvm.Cond.lays "RainWalkModel$World" "RainWalkModel$World" "roads" "I") ∈ lw_all := lw_g (lw_at lw_m7 98 rfl) rfl
theorem q1650 : (Jvm.Cond.soleField "RainWalkModel$World" "roads") ∈ lw_all := lw_g (lw_at lw_m7 99 rfl) rfl
theorem q1651 : (Jvm.Cond.lays "RainWalkModel$World" "RainWalkModel$World" "walkers" "I") ∈ lw_all := lw_g (lw_at lw_m7 100 rfl) rfl
theorem q1652 : (Jvm.Cond.soleField "RainWalkModel$World" "walkers") ∈ lw_all := lw_g (lw_at lw_m7 101 rfl) rfl
theorem q1653 : (Jvm.Cond.lays "RainWalkModel$World" "RainWalkModel$World" "seens" "I") ∈ lw_all := lw_g (lw_at lw_m7 102 rfl) rfl
theorem q1654 : (Jvm.Cond.soleField "RainWalkModel$World" "seens") ∈ lw_all := lw_g (lw_at lw_m7 103 rfl) rfl
theorem q1655 : (Jvm.Cond.lays "RainWalkModel$World" "RainWalkModel$World" "names" "I") ∈ lw_all := lw_g (lw_at lw_m7 104 rfl) rfl
theorem q1656 : (Jvm.Cond.soleField "RainWalkModel$World" "names") ∈ lw_all := lw_g (lw_at lw_m7 105 rfl) rfl
theorem q1657 : (Jvm.Cond.laysFinal "RainWalkModel$World" "RainWalkModel$World" "drops" "[I") ∈ lw_all := lw_g (lw_at lw_m7 106 rfl) rfl
theorem q1658 : (Jvm.Cond.soleField "RainWalkModel$World" "drops") ∈ lw_all := lw_g (lw_at lw_m7 107 rfl) rfl
theorem q1659 : (Jvm.Cond.laysFinal "RainWalkModel$World" "RainWalkModel$World" "down" "[I") ∈ lw_all := lw_g (lw_at lw_m7 108 rfl) rfl
theorem q1660 : (Jvm.Cond.soleField "RainWalkModel$World" "down") ∈ lw_all := lw_g (lw_at lw_m7 109 rfl) rfl
theorem q1661 : (Jvm.Cond.laysFinal "RainWalkModel$World" "RainWalkModel$World" "windSide" "[I") ∈ lw_all := lw_g (lw_at lw_m7 110 rfl) rfl
theorem q1662 : (Jvm.Cond.soleField "RainWalkModel$World" "windSide") ∈ lw_all := lw_g (lw_at lw_m7 111 rfl) rfl
theorem q1663 : (Jvm.Cond.laysFinal "RainWalkModel$World" "RainWalkModel$World" "wind" "[I") ∈ lw_all := lw_g (lw_at lw_m7 112 rfl) rfl
theorem q1664 : (Jvm.Cond.soleField "RainWalkModel$World" "wind") ∈ lw_all := lw_g (lw_at lw_m7 113 rfl) rfl
theorem q1665 : (Jvm.Cond.laysFinal "RainWalkModel$World" "RainWalkModel$World" "chance" "[I") ∈ lw_all := lw_g (lw_at lw_m7 114 rfl) rfl
theorem q1666 : (Jvm.Cond.soleField "RainWalkModel$World" "chance") ∈ lw_all := lw_g (lw_at lw_m7 115 rfl) rfl
theorem q1667 : (Jvm.Cond.laysFinal "RainWalkModel$World" "RainWalkModel$World" "tree" "[I") ∈ lw_all := lw_g (lw_at lw_m7 116 rfl) rfl
theorem q1668 : (Jvm.Cond.soleField "RainWalkModel$World" "tree") ∈ lw_all := lw_g (lw_at lw_m7 117 rfl) rfl
theorem q1669 : (Jvm.Cond.laysFinal "RainWalkModel$World" "RainWalkModel$World" "roadFrom" "[I") ∈ lw_all := lw_g (lw_at lw_m7 118 rfl) rfl
theorem q1670 : (Jvm.Cond.soleField "RainWalkModel$World" "roadFrom") ∈ lw_all := lw_g (lw_at lw_m7 119 rfl) rfl
theorem q1671 : (Jvm.Cond.laysFinal "RainWalkModel$World" "RainWalkModel$World" "roadTo" "[I") ∈ lw_all := lw_g (lw_at lw_m7 120 rfl) rfl
theorem q1672 : (Jvm.Cond.soleField "RainWalkModel$World" "roadTo") ∈ lw_all := lw_g (lw_at lw_m7 121 rfl) rfl
theorem q1673 : (Jvm.Cond.laysFinal "RainWalkModel$World" "RainWalkModel$World" "roadSide" "[I") ∈ lw_all := lw_g (lw_at lw_m7 122 rfl) rfl
theorem q1674 : (Jvm.Cond.soleField "RainWalkModel$World" "roadSide") ∈ lw_all := lw_g (lw_at lw_m7 123 rfl) rfl
theorem q1675 : (Jvm.Cond.laysFinal "RainWalkModel$World" "RainWalkModel$World" "roadLong" "[I") ∈ lw_all := lw_g (lw_at lw_m7 124 rfl) rfl
theorem q1676 : (Jvm.Cond.soleField "RainWalkModel$World" "roadLong") ∈ lw_all := lw_g (lw_at lw_m7 125 rfl) rfl
theorem q1677 : (Jvm.Cond.laysFinal "RainWalkModel$World" "RainWalkModel$World" "awning" "[I") ∈ lw_all := lw_g (lw_at lw_m7 126 rfl) rfl
theorem q1678 : (Jvm.Cond.soleField "RainWalkModel$World" "awning") ∈ lw_all := lw_g (lw_at lw_m7 127 rfl) rfl
theorem q1679 : (Jvm.Cond.laysFinal "RainWalkModel$World" "RainWalkModel$World" "isInn" "[Z") ∈ lw_all := lw_g (lw_at lw_m7 128 rfl) rfl
theorem q1680 : (Jvm.Cond.soleField "RainWalkModel$World" "isInn") ∈ lw_all := lw_g (lw_at lw_m7 129 rfl) rfl
theorem q1681 : (Jvm.Cond.laysFinal "RainWalkModel$World" "RainWalkModel$World" "kind" "[I") ∈ lw_all := lw_g (lw_at lw_m7 130 rfl) rfl
theorem q1682 : (Jvm.Cond.soleField "RainWalkModel$World" "kind") ∈ lw_all := lw_g (lw_at lw_m7 131 rfl) rfl
theorem q1683 : (Jvm.Cond.laysFinal "RainWalkModel$World" "RainWalkModel$World" "much" "[I") ∈ lw_all := lw_g (lw_at lw_m7 132 rfl) rfl
theorem q1684 : (Jvm.Cond.soleField "RainWalkModel$World" "much") ∈ lw_all := lw_g (lw_at lw_m7 133 rfl) rfl
theorem q1685 : (Jvm.Cond.laysFinal "RainWalkModel$World" "RainWalkModel$World" "top" "[I") ∈ lw_all := lw_g (lw_at lw_m7 134 rfl) rfl
theorem q1686 : (Jvm.Cond.soleField "RainWalkModel$World" "top") ∈ lw_all := lw_g (lw_at lw_m7 135 rfl) rfl
theorem q1687 : (Jvm.Cond.laysFinal "RainWalkModel$World" "RainWalkModel$World" "front" "[I") ∈ lw_all := lw_g (lw_at lw_m7 136 rfl) rfl
theorem q1688 : (Jvm.Cond.soleField "RainWalkModel$World" "front") ∈ lw_all := lw_g (lw_at lw_m7 137 rfl) rfl
theorem q1689 : (Jvm.Cond.laysFinal "RainWalkModel$World" "RainWalkModel$World" "side" "[I") ∈ lw_all := lw_g (lw_at lw_m7 138 rfl) rfl
theorem q1690 : (Jvm.Cond.soleField "RainWalkModel$World" "side") ∈ lw_all := lw_g (lw_at lw_m7 139 rfl) rfl
theorem q1691 : (Jvm.Cond.laysFinal "RainWalkModel$World" "RainWalkModel$World" "slowest" "[I") ∈ lw_all := lw_g (lw_at lw_m7 140 rfl) rfl
theorem q1692 : (Jvm.Cond.soleField "RainWalkModel$World" "slowest") ∈ lw_all := lw_g (lw_at lw_m7 141 rfl) rfl
theorem q1693 : (Jvm.Cond.laysFinal "RainWalkModel$World" "RainWalkModel$World" "fastest" "[I") ∈ lw_all := lw_g (lw_at lw_m7 142 rfl) rfl
theorem q1694 : (Jvm.Cond.soleField "RainWalkModel$World" "fastest") ∈ lw_all := lw_g (lw_at lw_m7 143 rfl) rfl
theorem q1695 : (Jvm.Cond.laysFinal "RainWalkModel$World" "RainWalkModel$World" "seenWho" "[I") ∈ lw_all := lw_g (lw_at lw_m7 144 rfl) rfl
theorem q1696 : (Jvm.Cond.soleField "RainWalkModel$World" "seenWho") ∈ lw_all := lw_g (lw_at lw_m7 145 rfl) rfl
theorem q1697 : (Jvm.Cond.laysFinal "RainWalkModel$World" "RainWalkModel$World" "seen" "[I") ∈ lw_all := lw_g (lw_at lw_m7 146 rfl) rfl
theorem q1698 : (Jvm.Cond.soleField "RainWalkModel$World" "seen") ∈ lw_all := lw_g (lw_at lw_m7 147 rfl) rfl
theorem q1699 : (Jvm.Cond.laysFinal "RainWalkModel$World" "RainWalkModel$World" "name" "[J") ∈ lw_all := lw_g (lw_at lw_m7 148 rfl) rfl
theorem q1700 : (Jvm.Cond.soleField "RainWalkModel$World" "name") ∈ lw_all := lw_g (lw_at lw_m7 149 rfl) rfl
theorem q1701 : (Jvm.Cond.laysFinal "RainWalkModel$World" "RainWalkModel$World" "nameSort" "[I") ∈ lw_all := lw_g (lw_at lw_m7 150 rfl) rfl
theorem q1702 : (Jvm.Cond.soleField "RainWalkModel$World" "nameSort") ∈ lw_all := lw_g (lw_at lw_m7 151 rfl) rfl
theorem q1703 : (Jvm.Cond.laysFinal "RainWalkModel$World" "RainWalkModel$World" "nameNumber" "[I") ∈ lw_all := lw_g (lw_at lw_m7 152 rfl) rfl
theorem q1704 : (Jvm.Cond.soleField "RainWalkModel$World" "nameNumber") ∈ lw_all := lw_g (lw_at lw_m7 153 rfl) rfl
theorem q1705 : (Jvm.Cond.superclass "RainWalkModel$World" "java/lang/Object") ∈ lw_all := lw_g (lw_at lw_m7 154 rfl) rfl
theorem q1831 : (Jvm.Cond.instanceMethod ({ cls := "RainWalkModel$World", name := "find", desc := "(J)I" } : Jvm.MethodName)) ∈ lw_all := lw_g (lw_at lw_m8 40 rfl) rfl
theorem q1832 : (Jvm.Cond.selects "RainWalkModel$World" ({ cls := "RainWalkModel$World", name := "find", desc := "(J)I" } : Jvm.MethodName) ({ cls := "RainWalkModel$World", name := "find", desc := "(J)I" } : Jvm.MethodName)) ∈ lw_all := lw_g (lw_at lw_m8 41 rfl) rfl
theorem q1833 : (Jvm.Cond.code ({ cls := "RainWalkModel$World", name := "find", desc := "(J)I" } : Jvm.MethodName) prog_20_method_2_code (4 : Nat) (Option.some Jvm.ClassFile.FieldType.int)) ∈ lw_all := lw_g (lw_at lw_m8 42 rfl) rfl
theorem q1916 : (Jvm.Cond.instanceMethod ({ cls := "RainWalkModel$World", name := "air", desc := "(III)I" } : Jvm.MethodName)) ∈ lw_all := lw_g (lw_at lw_m8 125 rfl) rfl
theorem q1917 : (Jvm.Cond.selects "RainWalkModel$World" ({ cls := "RainWalkModel$World", name := "air", desc := "(III)I" } : Jvm.MethodName) ({ cls := "RainWalkModel$World", name := "air", desc := "(III)I" } : Jvm.MethodName)) ∈ lw_all := lw_g (lw_at lw_m8 126 rfl) rfl
theorem q1918 : (Jvm.Cond.code ({ cls := "RainWalkModel$World", name := "air", desc := "(III)I" } : Jvm.MethodName) prog_20_method_8_code (5 : Nat) (Option.some Jvm.ClassFile.FieldType.int)) ∈ lw_all := lw_g (lw_at lw_m8 127 rfl) rfl
theorem q1919 : (Jvm.Cond.methodLink "RainWalkModel$World" (90 : Nat) ({ cls := "RainWalkModel$World", name := "facing", desc := "(II)I" } : Jvm.MethodName)) ∈ lw_all := lw_g (lw_at lw_m8 128 rfl) rfl
theorem q1920 : (Jvm.Cond.instanceMethod ({ cls := "RainWalkModel$World", name := "facing", desc := "(II)I" } : Jvm.MethodName)) ∈ lw_all := lw_g (lw_at lw_m8 129 rfl) rfl
theorem q1921 : (Jvm.Cond.selects "RainWalkModel$World" ({ cls := "RainWalkModel$World", name := "facing", desc := "(II)I" } : Jvm.MethodName) ({ cls := "RainWalkModel$World", name := "facing", desc := "(II)I" } : Jvm.MethodName)) ∈ lw_all := lw_g (lw_at lw_m8 130 rfl) rfl
theorem q1922 : (Jvm.Cond.code ({ cls := "RainWalkModel$World", name := "facing", desc := "(II)I" } : Jvm.MethodName) prog_20_method_6_code (3 : Nat) (Option.some Jvm.ClassFile.FieldType.int)) ∈ lw_all := lw_g (lw_at lw_m8 131 rfl) rfl
theorem q1924 : (Jvm.Cond.instanceMethod ({ cls := "RainWalkModel$World", name := "across", desc := "(III)I" } : Jvm.MethodName)) ∈ lw_all := lw_g (lw_at lw_m8 133 rfl) rfl
theorem q1925 : (Jvm.Cond.selects "RainWalkModel$World" ({ cls := "RainWalkModel$World", name := "across", desc := "(III)I" } : Jvm.MethodName) ({ cls := "RainWalkModel$World", name := "across", desc := "(III)I" } : Jvm.MethodName)) ∈ lw_all := lw_g (lw_at lw_m8 134 rfl) rfl
theorem q1926 : (Jvm.Cond.code ({ cls := "RainWalkModel$World", name := "across", desc := "(III)I" } : Jvm.MethodName) prog_20_method_9_code (5 : Nat) (Option.some Jvm.ClassFile.FieldType.int)) ∈ lw_all := lw_g (lw_at lw_m8 135 rfl) rfl
theorem q1932 : (Jvm.Cond.instanceMethod ({ cls := "RainWalkModel$World", name := "shield", desc := "(I)I" } : Jvm.MethodName)) ∈ lw_all := lw_g (lw_at lw_m8 141 rfl) rfl
theorem q1933 : (Jvm.Cond.selects "RainWalkModel$World" ({ cls := "RainWalkModel$World", name := "shield", desc := "(I)I" } : Jvm.MethodName) ({ cls := "RainWalkModel$World", name := "shield", desc := "(I)I" } : Jvm.MethodName)) ∈ lw_all := lw_g (lw_at lw_m8 142 rfl) rfl
theorem q1934 : (Jvm.Cond.code ({ cls := "RainWalkModel$World", name := "shield", desc := "(I)I" } : Jvm.MethodName) prog_20_method_3_code (2 : Nat) (Option.some Jvm.ClassFile.FieldType.int)) ∈ lw_all := lw_g (lw_at lw_m8 143 rfl) rfl
theorem q1961 : (Jvm.Cond.instanceMethod ({ cls := "RainWalkModel$World", name := "minutes", desc := "(II)I" } : Jvm.MethodName)) ∈ lw_all := lw_g (lw_at lw_m8 170 rfl) rfl
theorem q1962 : (Jvm.Cond.selects "RainWalkModel$World" ({ cls := "RainWalkModel$World", name := "minutes", desc := "(II)I" } : Jvm.MethodName) ({ cls := "RainWalkModel$World", name := "minutes", desc := "(II)I" } : Jvm.MethodName)) ∈ lw_all := lw_g (lw_at lw_m8 171 rfl) rfl
theorem q1963 : (Jvm.Cond.code ({ cls := "RainWalkModel$World", name := "minutes", desc := "(II)I" } : Jvm.MethodName) prog_20_method_7_code (3 : Nat) (Option.some Jvm.ClassFile.FieldType.int)) ∈ lw_all := lw_g (lw_at lw_m8 172 rfl) rfl
theorem q2049 : (Jvm.Cond.instanceMethod ({ cls := "RainWalkModel$World", name := "begins", desc := "(II)I" } : Jvm.MethodName)) ∈ lw_all := lw_g (lw_at lw_m9 18 rfl) rfl
theorem q2050 : (Jvm.Cond.selects "RainWalkModel$World" ({ cls := "RainWalkModel$World", name := "begins", desc := "(II)I" } : Jvm.MethodName) ({ cls := "RainWalkModel$World", name := "begins", desc := "(II)I" } : Jvm.MethodName)) ∈ lw_all := lw_g (lw_at lw_m9 19 rfl) rfl
theorem q2051 : (Jvm.Cond.code ({ cls := "RainWalkModel$World", name := "begins", desc := "(II)I" } : Jvm.MethodName) prog_20_method_4_code (3 : Nat) (Option.some Jvm.ClassFile.FieldType.int)) ∈ lw_all := lw_g (lw_at lw_m9 20 rfl) rfl
theorem q2053 : (Jvm.Cond.instanceMethod ({ cls := "RainWalkModel$World", name := "ends", desc := "(II)I" } : Jvm.MethodName)) ∈ lw_all := lw_g (lw_at lw_m9 22 rfl) rfl
theorem q2054 : (Jvm.Cond.selects "RainWalkModel$World" ({ cls := "RainWalkModel$World", name := "ends", desc := "(II)I" } : Jvm.MethodName) ({ cls := "RainWalkModel$World", name := "ends", desc := "(II)I" } : Jvm.MethodName)) ∈ lw_all := lw_g (lw_at lw_m9 23 rfl) rfl
theorem q2055 : (Jvm.Cond.code ({ cls := "RainWalkModel$World", name := "ends", desc := "(II)I" } : Jvm.MethodName) prog_20_method_5_code (3 : Nat) (Option.some Jvm.ClassFile.FieldType.int)) ∈ lw_all := lw_g (lw_at lw_m9 24 rfl) rfl
theorem q2232 : (Jvm.Cond.castable "RainWalkModel$World" "java/lang/Object") ∈ lw_tbl := lw_at lw_m9 201 rfl
theorem in_X19 : ∀ w ∈ wsX190, w ∈ lw_all := lw_in wsX190 [1643, 1645, 1647, 1649, 1651, 1653, 1655, 1657, 1659, 1661, 1663, 1665, 1667, 1669, 1671, 1673, 1675, 1677, 1679, 1681, 1683, 1685, 1687, 1689, 1691, 1693, 1695, 1697, 1699, 1701, 1703] (by decide +kernel) (by decide +kernel)
