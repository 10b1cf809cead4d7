/-! UmbrellaHeirLaw -/
set_option maxRecDepth 100000
def RX0 : String := "UmbrellaHeirLaw"
abbrev cX0_led : ByteArray := method_3_code
def yX0_led : MethodName := ⟨RX0, "led", "(LUmbrellaHeir;I[J)I"⟩
def dkwX0_led_0 : List UInt8 := [44, 3, 42, 27, 182, 0, 7, 133, 80, 167, 0, 6, 78, 4, 172, 3, 172]
abbrev dktX0_led_0 : List UInt8 := dkwX0_led_0 ++ []
theorem dksX0_led_0 : cX0_led.data.toList.drop 0 = dktX0_led_0 := by decide +kernel
theorem dX0_led_0 : decode cX0_led 0 = .ok (.aload_n 2, 1) := dk_44 (dk_at dksX0_led_0 0 rfl rfl)
theorem dX0_led_1 : decode cX0_led 1 = .ok (.iconst 0, 1) := dk_3 (dk_at dksX0_led_0 1 rfl rfl)
theorem dX0_led_2 : decode cX0_led 2 = .ok (.aload_n 0, 1) := dk_42 (dk_at dksX0_led_0 2 rfl rfl)
theorem dX0_led_3 : decode cX0_led 3 = .ok (.iload_n 1, 1) := dk_27 (dk_at dksX0_led_0 3 rfl rfl)
theorem dX0_led_4 : decode cX0_led 4 = .ok (.invokevirtual 7, 3) := dk_182 0 7 (dk_at dksX0_led_0 4 rfl rfl)
theorem dX0_led_7 : decode cX0_led 7 = .ok (.i2l, 1) := dk_133 (dk_at dksX0_led_0 7 rfl rfl)
theorem dX0_led_8 : decode cX0_led 8 = .ok (.lastore, 1) := dk_80 (dk_at dksX0_led_0 8 rfl rfl)
theorem dX0_led_9 : decode cX0_led 9 = .ok (.goto 6, 3) := dk_167 0 6 (dk_at dksX0_led_0 9 rfl rfl)
theorem dX0_led_12 : decode cX0_led 12 = .ok (.astore_n 3, 1) := dk_78 (dk_at dksX0_led_0 12 rfl rfl)
theorem dX0_led_13 : decode cX0_led 13 = .ok (.iconst 1, 1) := dk_4 (dk_at dksX0_led_0 13 rfl rfl)
theorem dX0_led_14 : decode cX0_led 14 = .ok (.ireturn, 1) := dk_172 (dk_at dksX0_led_0 14 rfl rfl)
theorem dX0_led_15 : decode cX0_led 15 = .ok (.iconst 0, 1) := dk_3 (dk_at dksX0_led_0 15 rfl rfl)
theorem dX0_led_16 : decode cX0_led 16 = .ok (.ireturn, 1) := dk_172 (dk_at dksX0_led_0 16 rfl rfl)
theorem q114 : (Jvm.Cond.initialized "UmbrellaHeirLaw") ∈ lw_all := lw_g (lw_at lw_m1 0 rfl) rfl
theorem q152 : (Jvm.Cond.classLink "UmbrellaHeirLaw" (8 : Nat) "UmbrellaHeir") ∈ lw_all := lw_g (lw_at lw_m1 38 rfl) rfl
theorem q154 : (Jvm.Cond.methodLink "UmbrellaHeirLaw" (15 : Nat) ({ cls := "UmbrellaHeir", name := "<init>", desc := "()V" } : Jvm.MethodName)) ∈ lw_all := lw_g (lw_at lw_m1 40 rfl) rfl
theorem q442 : (Jvm.Cond.methodLink "UmbrellaHeirLaw" (19 : Nat) ({ cls := "UmbrellaHeir", name := "feed", desc := "(IIIII)I" } : Jvm.MethodName)) ∈ lw_all := lw_g (lw_at lw_m2 88 rfl) rfl
theorem q450 : (Jvm.Cond.methodLink "UmbrellaHeirLaw" (24 : Nat) ({ cls := "UmbrellaHeir", name := "county", desc := "(I)I" } : Jvm.MethodName)) ∈ lw_all := lw_g (lw_at lw_m2 96 rfl) rfl
theorem q1130 : (Jvm.Cond.methodLink "UmbrellaHeirLaw" (28 : Nat) ({ cls := "UmbrellaHeir", name := "fault", desc := "()I" } : Jvm.MethodName)) ∈ lw_all := lw_g (lw_at lw_m5 56 rfl) rfl
theorem q1134 : (Jvm.Cond.methodLink "UmbrellaHeirLaw" (33 : Nat) ({ cls := "UmbrellaHeir", name := "where", desc := "()I" } : Jvm.MethodName)) ∈ lw_all := lw_g (lw_at lw_m5 60 rfl) rfl
theorem q1138 : (Jvm.Cond.methodLink "UmbrellaHeirLaw" (37 : Nat) ({ cls := "UmbrellaHeir", name := "umbrella", desc := "(II)I" } : Jvm.MethodName)) ∈ lw_all := lw_g (lw_at lw_m5 64 rfl) rfl
theorem q1161 : (Jvm.Cond.methodLink "UmbrellaHeirLaw" (42 : Nat) ({ cls := "UmbrellaHeir", name := "person", desc := "(II)I" } : Jvm.MethodName)) ∈ lw_all := lw_g (lw_at lw_m5 87 rfl) rfl
theorem q1186 : (Jvm.Cond.methodLink "UmbrellaHeirLaw" (46 : Nat) ({ cls := "UmbrellaHeir", name := "alike", desc := "(I)I" } : Jvm.MethodName)) ∈ lw_all := lw_g (lw_at lw_m5 112 rfl) rfl
theorem q1195 : (Jvm.Cond.methodLink "UmbrellaHeirLaw" (50 : Nat) ({ cls := "UmbrellaHeir", name := "right", desc := "()I" } : Jvm.MethodName)) ∈ lw_all := lw_g (lw_at lw_m5 121 rfl) rfl
theorem q1203 : (Jvm.Cond.methodLink "UmbrellaHeirLaw" (54 : Nat) ({ cls := "UmbrellaHeir", name := "richest", desc := "()I" } : Jvm.MethodName)) ∈ lw_all := lw_g (lw_at lw_m5 129 rfl) rfl
theorem q1207 : (Jvm.Cond.methodLink "UmbrellaHeirLaw" (58 : Nat) ({ cls := "UmbrellaHeir", name := "hasIt", desc := "(II)I" } : Jvm.MethodName)) ∈ lw_all := lw_g (lw_at lw_m5 133 rfl) rfl
theorem q1219 : (Jvm.Cond.methodLink "UmbrellaHeirLaw" (62 : Nat) ({ cls := "UmbrellaHeir", name := "titleOf", desc := "(II)I" } : Jvm.MethodName)) ∈ lw_all := lw_g (lw_at lw_m5 145 rfl) rfl
theorem q1227 : (Jvm.Cond.methodLink "UmbrellaHeirLaw" (66 : Nat) ({ cls := "UmbrellaHeir", name := "landsOf", desc := "(II)I" } : Jvm.MethodName)) ∈ lw_all := lw_g (lw_at lw_m5 153 rfl) rfl
theorem q1235 : (Jvm.Cond.methodLink "UmbrellaHeirLaw" (70 : Nat) ({ cls := "UmbrellaHeir", name := "lapsed", desc := "(I)I" } : Jvm.MethodName)) ∈ lw_all := lw_g (lw_at lw_m5 161 rfl) rfl
theorem q1239 : (Jvm.Cond.methodLink "UmbrellaHeirLaw" (74 : Nat) ({ cls := "UmbrellaHeir", name := "passed", desc := "(I)I" } : Jvm.MethodName)) ∈ lw_all := lw_g (lw_at lw_m5 165 rfl) rfl
theorem q1243 : (Jvm.Cond.methodLink "UmbrellaHeirLaw" (78 : Nat) ({ cls := "UmbrellaHeir", name := "judge", desc := "()I" } : Jvm.MethodName)) ∈ lw_all := lw_g (lw_at lw_m5 169 rfl) rfl
theorem q1252 : (Jvm.Cond.methodLink "UmbrellaHeirLaw" (82 : Nat) ({ cls := "UmbrellaHeir", name := "ways", desc := "()I" } : Jvm.MethodName)) ∈ lw_all := lw_g (lw_at lw_m5 178 rfl) rfl
theorem q1264 : (Jvm.Cond.methodLink "UmbrellaHeirLaw" (86 : Nat) ({ cls := "UmbrellaHeir", name := "wayAt", desc := "(I)I" } : Jvm.MethodName)) ∈ lw_all := lw_g (lw_at lw_m5 190 rfl) rfl
theorem q1268 : (Jvm.Cond.methodLink "UmbrellaHeirLaw" (90 : Nat) ({ cls := "UmbrellaHeir", name := "longest", desc := "(I)I" } : Jvm.MethodName)) ∈ lw_all := lw_g (lw_at lw_m5 194 rfl) rfl
theorem q1275 : (Jvm.Cond.methodLink "UmbrellaHeirLaw" (94 : Nat) ({ cls := "UmbrellaHeir", name := "worstDay", desc := "()I" } : Jvm.MethodName)) ∈ lw_all := lw_g (lw_at lw_m5 201 rfl) rfl
theorem q1279 : (Jvm.Cond.methodLink "UmbrellaHeirLaw" (98 : Nat) ({ cls := "UmbrellaHeir", name := "owing", desc := "(II)I" } : Jvm.MethodName)) ∈ lw_all := lw_g (lw_at lw_m5 205 rfl) rfl
theorem q1283 : (Jvm.Cond.methodLink "UmbrellaHeirLaw" (102 : Nat) ({ cls := "UmbrellaHeir", name := "change", desc := "(IZ)I" } : Jvm.MethodName)) ∈ lw_all := lw_g (lw_at lw_m5 209 rfl) rfl
theorem q1293 : (Jvm.Cond.methodLink "UmbrellaHeirLaw" (107 : Nat) ({ cls := "UmbrellaHeir", name := "lapsesIn", desc := "(I)I" } : Jvm.MethodName)) ∈ lw_all := lw_g (lw_at lw_m5 219 rfl) rfl
theorem q1297 : (Jvm.Cond.methodLink "UmbrellaHeirLaw" (111 : Nat) ({ cls := "UmbrellaHeir", name := "guest", desc := "(I)I" } : Jvm.MethodName)) ∈ lw_all := lw_g (lw_at lw_m5 223 rfl) rfl
theorem q1325 : (Jvm.Cond.methodLink "UmbrellaHeirLaw" (115 : Nat) ({ cls := "UmbrellaHeir", name := "putRight", desc := "()I" } : Jvm.MethodName)) ∈ lw_all := lw_g (lw_at lw_m6 11 rfl) rfl
theorem q1342 : (Jvm.Cond.methodLink "UmbrellaHeirLaw" (119 : Nat) ({ cls := "UmbrellaHeir", name := "exchanges", desc := "()I" } : Jvm.MethodName)) ∈ lw_all := lw_g (lw_at lw_m6 28 rfl) rfl
theorem q1346 : (Jvm.Cond.methodLink "UmbrellaHeirLaw" (123 : Nat) ({ cls := "UmbrellaHeir", name := "exchangeAt", desc := "(I)I" } : Jvm.MethodName)) ∈ lw_all := lw_g (lw_at lw_m6 32 rfl) rfl
theorem q1354 : (Jvm.Cond.methodLink "UmbrellaHeirLaw" (127 : Nat) ({ cls := "UmbrellaHeir", name := "party", desc := "(I)I" } : Jvm.MethodName)) ∈ lw_all := lw_g (lw_at lw_m6 40 rfl) rfl
theorem q1358 : (Jvm.Cond.methodLink "UmbrellaHeirLaw" (131 : Nat) ({ cls := "UmbrellaHeir", name := "partyOf", desc := "(II)I" } : Jvm.MethodName)) ∈ lw_all := lw_g (lw_at lw_m6 44 rfl) rfl
theorem q1366 : (Jvm.Cond.methodLink "UmbrellaHeirLaw" (135 : Nat) ({ cls := "UmbrellaHeir", name := "room", desc := "(I)I" } : Jvm.MethodName)) ∈ lw_all := lw_g (lw_at lw_m6 52 rfl) rfl
theorem q1374 : (Jvm.Cond.methodLink "UmbrellaHeirLaw" (139 : Nat) ({ cls := "UmbrellaHeir", name := "whole", desc := "(IIZ)J" } : Jvm.MethodName)) ∈ lw_all := lw_g (lw_at lw_m6 60 rfl) rfl
theorem q1400 : (Jvm.Cond.methodLink "UmbrellaHeirLaw" (144 : Nat) ({ cls := "UmbrellaHeir", name := "allWhole", desc := "(IIZ)J" } : Jvm.MethodName)) ∈ lw_all := lw_g (lw_at lw_m6 86 rfl) rfl
theorem q1404 : (Jvm.Cond.methodLink "UmbrellaHeirLaw" (148 : Nat) ({ cls := "UmbrellaHeir", name := "divided", desc := "(III)I" } : Jvm.MethodName)) ∈ lw_all := lw_g (lw_at lw_m6 90 rfl) rfl
theorem q1408 : (Jvm.Cond.methodLink "UmbrellaHeirLaw" (153 : Nat) ({ cls := "UmbrellaHeir", name := "heirs", desc := "(IIIZ)I" } : Jvm.MethodName)) ∈ lw_all := lw_g (lw_at lw_m6 94 rfl) rfl
theorem q1415 : (Jvm.Cond.methodLink "UmbrellaHeirLaw" (158 : Nat) ({ cls := "UmbrellaHeir", name := "rests", desc := "(I)I" } : Jvm.MethodName)) ∈ lw_all := lw_g (lw_at lw_m6 101 rfl) rfl
theorem q1430 : (Jvm.Cond.methodLink "UmbrellaHeirLaw" (162 : Nat) ({ cls := "UmbrellaHeir", name := "rest", desc := "(I)I" } : Jvm.MethodName)) ∈ lw_all := lw_g (lw_at lw_m6 116 rfl) rfl
theorem q1434 : (Jvm.Cond.methodLink "UmbrellaHeirLaw" (166 : Nat) ({ cls := "UmbrellaHeir", name := "most", desc := "(I)I" } : Jvm.MethodName)) ∈ lw_all := lw_g (lw_at lw_m6 120 rfl) rfl
theorem q1446 : (Jvm.Cond.methodLink "UmbrellaHeirLaw" (170 : Nat) ({ cls := "UmbrellaHeir", name := "mostLands", desc := "(I)I" } : Jvm.MethodName)) ∈ lw_all := lw_g (lw_at lw_m6 132 rfl) rfl
theorem q1450 : (Jvm.Cond.methodLink "UmbrellaHeirLaw" (174 : Nat) ({ cls := "UmbrellaHeir", name := "century", desc := "(III)I" } : Jvm.MethodName)) ∈ lw_all := lw_g (lw_at lw_m6 136 rfl) rfl
theorem q1460 : (Jvm.Cond.methodLink "UmbrellaHeirLaw" (178 : Nat) ({ cls := "UmbrellaHeir", name := "untitled", desc := "(II)I" } : Jvm.MethodName)) ∈ lw_all := lw_g (lw_at lw_m6 146 rfl) rfl
theorem q1464 : (Jvm.Cond.methodLink "UmbrellaHeirLaw" (182 : Nat) ({ cls := "UmbrellaHeir", name := "lend", desc := "(II)Z" } : Jvm.MethodName)) ∈ lw_all := lw_g (lw_at lw_m6 150 rfl) rfl
theorem q1480 : (Jvm.Cond.methodLink "UmbrellaHeirLaw" (187 : Nat) ({ cls := "UmbrellaHeir", name := "leave", desc := "(I)Z" } : Jvm.MethodName)) ∈ lw_all := lw_g (lw_at lw_m6 166 rfl) rfl
theorem q1484 : (Jvm.Cond.methodLink "UmbrellaHeirLaw" (192 : Nat) ({ cls := "UmbrellaHeir", name := "exchange", desc := "(II)Z" } : Jvm.MethodName)) ∈ lw_all := lw_g (lw_at lw_m6 170 rfl) rfl
theorem q1489 : (Jvm.Cond.methodLink "UmbrellaHeirLaw" (196 : Nat) ({ cls := "UmbrellaHeir", name := "day", desc := "(Z)I" } : Jvm.MethodName)) ∈ lw_all := lw_g (lw_at lw_m6 175 rfl) rfl
theorem q1493 : (Jvm.Cond.methodLink "UmbrellaHeirLaw" (201 : Nat) ({ cls := "UmbrellaHeir", name := "undo", desc := "()Z" } : Jvm.MethodName)) ∈ lw_all := lw_g (lw_at lw_m6 179 rfl) rfl
theorem q1497 : (Jvm.Cond.methodLink "UmbrellaHeirLaw" (206 : Nat) ({ cls := "UmbrellaHeir", name := "mark", desc := "()I" } : Jvm.MethodName)) ∈ lw_all := lw_g (lw_at lw_m6 183 rfl) rfl
theorem q1501 : (Jvm.Cond.methodLink "UmbrellaHeirLaw" (210 : Nat) ({ cls := "UmbrellaHeir", name := "back", desc := "(I)Z" } : Jvm.MethodName)) ∈ lw_all := lw_g (lw_at lw_m6 187 rfl) rfl
theorem q1505 : (Jvm.Cond.methodLink "UmbrellaHeirLaw" (223 : Nat) ({ cls := "UmbrellaHeir", name := "size", desc := "(I)I" } : Jvm.MethodName)) ∈ lw_all := lw_g (lw_at lw_m6 191 rfl) rfl
theorem q1509 : (Jvm.Cond.methodLink "UmbrellaHeirLaw" (227 : Nat) ({ cls := "UmbrellaHeir", name := "trouble", desc := "()I" } : Jvm.MethodName)) ∈ lw_all := lw_g (lw_at lw_m6 195 rfl) rfl
theorem q1513 : (Jvm.Cond.methodLink "UmbrellaHeirLaw" (214 : Nat) ({ cls := "UmbrellaHeirLaw", name := "led", desc := "(LUmbrellaHeir;I[J)I" } : Jvm.MethodName)) ∈ lw_all := lw_g (lw_at lw_m6 199 rfl) rfl
theorem q1514 : (Jvm.Cond.static ({ cls := "UmbrellaHeirLaw", name := "led", desc := "(LUmbrellaHeir;I[J)I" } : Jvm.MethodName)) ∈ lw_all := lw_g (lw_at lw_m6 200 rfl) rfl
theorem q1515 : (Jvm.Cond.codeWith ({ cls := "UmbrellaHeirLaw", name := "led", desc := "(LUmbrellaHeir;I[J)I" } : Jvm.MethodName) method_3_code (4 : Nat) (Option.some Jvm.ClassFile.FieldType.int) [((0 : Nat), (9 : Nat), (12 : Nat), (13 : Nat))]) ∈ lw_all := lw_g (lw_at lw_m6 201 rfl) rfl
theorem q1516 : (Jvm.Cond.classLink "UmbrellaHeirLaw" (13 : Nat) "java/util/NoSuchElementException") ∈ lw_all := lw_g (lw_at lw_m6 202 rfl) rfl
theorem q1517 : (Jvm.Cond.methodLink "UmbrellaHeirLaw" (7 : Nat) ({ cls := "UmbrellaHeir", name := "led", desc := "(I)I" } : Jvm.MethodName)) ∈ lw_all := lw_g (lw_at lw_m6 203 rfl) rfl
theorem q1542 : (Jvm.Cond.classLink "UmbrellaHeirLaw" (16 : Nat) "UmbrellaHeirModel") ∈ lw_all := lw_g (lw_at lw_m6 228 rfl) rfl
theorem q1544 : (Jvm.Cond.methodLink "UmbrellaHeirLaw" (18 : Nat) ({ cls := "UmbrellaHeirModel", name := "<init>", desc := "()V" } : Jvm.MethodName)) ∈ lw_all := lw_g (lw_at lw_m6 230 rfl) rfl
theorem q1645 : (Jvm.Cond.methodLink "UmbrellaHeirLaw" (220 : Nat) ({ cls := "UmbrellaHeirModel", name := "thrown", desc := "()I" } : Jvm.MethodName)) ∈ lw_all := lw_g (lw_at lw_m7 91 rfl) rfl
theorem q1649 : (Jvm.Cond.methodLink "UmbrellaHeirLaw" (23 : Nat) ({ cls := "UmbrellaHeirModel", name := "feed", desc := "(IIIII)I" } : Jvm.MethodName)) ∈ lw_all := lw_g (lw_at lw_m7 95 rfl) rfl
theorem q1653 : (Jvm.Cond.methodLink "UmbrellaHeirLaw" (27 : Nat) ({ cls := "UmbrellaHeirModel", name := "county", desc := "(I)I" } : Jvm.MethodName)) ∈ lw_all := lw_g (lw_at lw_m7 99 rfl) rfl
theorem q1933 : (Jvm.Cond.methodLink "UmbrellaHeirLaw" (32 : Nat) ({ cls := "UmbrellaHeirModel", name := "fault", desc := "()I" } : Jvm.MethodName)) ∈ lw_all := lw_g (lw_at lw_m8 139 rfl) rfl
theorem q1937 : (Jvm.Cond.methodLink "UmbrellaHeirLaw" (36 : Nat) ({ cls := "UmbrellaHeirModel", name := "where", desc := "()I" } : Jvm.MethodName)) ∈ lw_all := lw_g (lw_at lw_m8 143 rfl) rfl
theorem q1941 : (Jvm.Cond.methodLink "UmbrellaHeirLaw" (41 : Nat) ({ cls := "UmbrellaHeirModel", name := "umbrella", desc := "(II)I" } : Jvm.MethodName)) ∈ lw_all := lw_g (lw_at lw_m8 147 rfl) rfl
theorem q1949 : (Jvm.Cond.methodLink "UmbrellaHeirLaw" (45 : Nat) ({ cls := "UmbrellaHeirModel", name := "person", desc := "(II)I" } : Jvm.MethodName)) ∈ lw_all := lw_g (lw_at lw_m8 155 rfl) rfl
theorem q1965 : (Jvm.Cond.methodLink "UmbrellaHeirLaw" (49 : Nat) ({ cls := "UmbrellaHeirModel", name := "alike", desc := "(I)I" } : Jvm.MethodName)) ∈ lw_all := lw_g (lw_at lw_m8 171 rfl) rfl
theorem q1973 : (Jvm.Cond.methodLink "UmbrellaHeirLaw" (53 : Nat) ({ cls := "UmbrellaHeirModel", name := "right", desc := "()I" } : Jvm.MethodName)) ∈ lw_all := lw_g (lw_at lw_m8 179 rfl) rfl
theorem q1981 : (Jvm.Cond.methodLink "UmbrellaHeirLaw" (57 : Nat) ({ cls := "UmbrellaHeirModel", name := "richest", desc := "()I" } : Jvm.MethodName)) ∈ lw_all := lw_g (lw_at lw_m8 187 rfl) rfl
theorem q1985 : (Jvm.Cond.methodLink "UmbrellaHeirLaw" (61 : Nat) ({ cls := "UmbrellaHeirModel", name := "hasIt", desc := "(II)I" } : Jvm.MethodName)) ∈ lw_all := lw_g (lw_at lw_m8 191 rfl) rfl
theorem q2023 : (Jvm.Cond.methodLink "UmbrellaHeirLaw" (65 : Nat) ({ cls := "UmbrellaHeirModel", name := "titleOf", desc := "(II)I" } : Jvm.MethodName)) ∈ lw_all := lw_g (lw_at lw_m8 229 rfl) rfl
theorem q2027 : (Jvm.Cond.methodLink "UmbrellaHeirLaw" (69 : Nat) ({ cls := "UmbrellaHeirModel", name := "landsOf", desc := "(II)I" } : Jvm.MethodName)) ∈ lw_all := lw_g (lw_at lw_m8 233 rfl) rfl
theorem q2031 : (Jvm.Cond.methodLink "UmbrellaHeirLaw" (73 : Nat) ({ cls := "UmbrellaHeirModel", name := "lapsed", desc := "(I)I" } : Jvm.MethodName)) ∈ lw_all := lw_g (lw_at lw_m8 237 rfl) rfl
theorem q2035 : (Jvm.Cond.methodLink "UmbrellaHeirLaw" (77 : Nat) ({ cls := "UmbrellaHeirModel", name := "passed", desc := "(I)I" } : Jvm.MethodName)) ∈ lw_all := lw_g (lw_at lw_m9 1 rfl) rfl
theorem q2039 : (Jvm.Cond.methodLink "UmbrellaHeirLaw" (93 : Nat) ({ cls := "UmbrellaHeirModel", name := "longest", desc := "(I)I" } : Jvm.MethodName)) ∈ lw_all := lw_g (lw_at lw_m9 5 rfl) rfl
theorem q2043 : (Jvm.Cond.methodLink "UmbrellaHeirLaw" (97 : Nat) ({ cls := "UmbrellaHeirModel", name := "worstDay", desc := "()I" } : Jvm.MethodName)) ∈ lw_all := lw_g (lw_at lw_m9 9 rfl) rfl
theorem q2047 : (Jvm.Cond.methodLink "UmbrellaHeirLaw" (81 : Nat) ({ cls := "UmbrellaHeirModel", name := "judge", desc := "()I" } : Jvm.MethodName)) ∈ lw_all := lw_g (lw_at lw_m9 13 rfl) rfl
theorem q2055 : (Jvm.Cond.methodLink "UmbrellaHeirLaw" (85 : Nat) ({ cls := "UmbrellaHeirModel", name := "ways", desc := "()I" } : Jvm.MethodName)) ∈ lw_all := lw_g (lw_at lw_m9 21 rfl) rfl
theorem q2063 : (Jvm.Cond.methodLink "UmbrellaHeirLaw" (89 : Nat) ({ cls := "UmbrellaHeirModel", name := "wayAt", desc := "(I)I" } : Jvm.MethodName)) ∈ lw_all := lw_g (lw_at lw_m9 29 rfl) rfl
theorem q2067 : (Jvm.Cond.methodLink "UmbrellaHeirLaw" (101 : Nat) ({ cls := "UmbrellaHeirModel", name := "owing", desc := "(II)I" } : Jvm.MethodName)) ∈ lw_all := lw_g (lw_at lw_m9 33 rfl) rfl
theorem q2071 : (Jvm.Cond.methodLink "UmbrellaHeirLaw" (106 : Nat) ({ cls := "UmbrellaHeirModel", name := "change", desc := "(IZ)I" } : Jvm.MethodName)) ∈ lw_all := lw_g (lw_at lw_m9 37 rfl) rfl
theorem q2079 : (Jvm.Cond.methodLink "UmbrellaHeirLaw" (110 : Nat) ({ cls := "UmbrellaHeirModel", name := "lapsesIn", desc := "(I)I" } : Jvm.MethodName)) ∈ lw_all := lw_g (lw_at lw_m9 45 rfl) rfl
theorem q2083 : (Jvm.Cond.methodLink "UmbrellaHeirLaw" (118 : Nat) ({ cls := "UmbrellaHeirModel", name := "putRight", desc := "()I" } : Jvm.MethodName)) ∈ lw_all := lw_g (lw_at lw_m9 49 rfl) rfl
theorem q2107 : (Jvm.Cond.methodLink "UmbrellaHeirLaw" (122 : Nat) ({ cls := "UmbrellaHeirModel", name := "exchanges", desc := "()I" } : Jvm.MethodName)) ∈ lw_all := lw_g (lw_at lw_m9 73 rfl) rfl
theorem q2111 : (Jvm.Cond.methodLink "UmbrellaHeirLaw" (126 : Nat) ({ cls := "UmbrellaHeirModel", name := "exchangeAt", desc := "(I)I" } : Jvm.MethodName)) ∈ lw_all := lw_g (lw_at lw_m9 77 rfl) rfl
theorem q2115 : (Jvm.Cond.methodLink "UmbrellaHeirLaw" (130 : Nat) ({ cls := "UmbrellaHeirModel", name := "party", desc := "(I)I" } : Jvm.MethodName)) ∈ lw_all := lw_g (lw_at lw_m9 81 rfl) rfl
theorem q2142 : (Jvm.Cond.methodLink "UmbrellaHeirLaw" (134 : Nat) ({ cls := "UmbrellaHeirModel", name := "partyOf", desc := "(II)I" } : Jvm.MethodName)) ∈ lw_all := lw_g (lw_at lw_m9 108 rfl) rfl
theorem q2146 : (Jvm.Cond.methodLink "UmbrellaHeirLaw" (114 : Nat) ({ cls := "UmbrellaHeirModel", name := "guest", desc := "(I)I" } : Jvm.MethodName)) ∈ lw_all := lw_g (lw_at lw_m9 112 rfl) rfl
theorem q2150 : (Jvm.Cond.methodLink "UmbrellaHeirLaw" (138 : Nat) ({ cls := "UmbrellaHeirModel", name := "room", desc := "(I)I" } : Jvm.MethodName)) ∈ lw_all := lw_g (lw_at lw_m9 116 rfl) rfl
theorem q2154 : (Jvm.Cond.methodLink "UmbrellaHeirLaw" (143 : Nat) ({ cls := "UmbrellaHeirModel", name := "whole", desc := "(IIZ)J" } : Jvm.MethodName)) ∈ lw_all := lw_g (lw_at lw_m9 120 rfl) rfl
theorem q2173 : (Jvm.Cond.methodLink "UmbrellaHeirLaw" (147 : Nat) ({ cls := "UmbrellaHeirModel", name := "allWhole", desc := "(IIZ)J" } : Jvm.MethodName)) ∈ lw_all := lw_g (lw_at lw_m9 139 rfl) rfl
theorem q2177 : (Jvm.Cond.methodLink "UmbrellaHeirLaw" (152 : Nat) ({ cls := "UmbrellaHeirModel", name := "divided", desc := "(III)I" } : Jvm.MethodName)) ∈ lw_all := lw_g (lw_at lw_m9 143 rfl) rfl
theorem q2181 : (Jvm.Cond.methodLink "UmbrellaHeirLaw" (157 : Nat) ({ cls := "UmbrellaHeirModel", name := "heirs", desc := "(IIIZ)I" } : Jvm.MethodName)) ∈ lw_all := lw_g (lw_at lw_m9 147 rfl) rfl
theorem q2192 : (Jvm.Cond.methodLink "UmbrellaHeirLaw" (161 : Nat) ({ cls := "UmbrellaHeirModel", name := "rests", desc := "(I)I" } : Jvm.MethodName)) ∈ lw_all := lw_g (lw_at lw_m9 158 rfl) rfl
theorem q2203 : (Jvm.Cond.methodLink "UmbrellaHeirLaw" (165 : Nat) ({ cls := "UmbrellaHeirModel", name := "rest", desc := "(I)I" } : Jvm.MethodName)) ∈ lw_all := lw_g (lw_at lw_m9 169 rfl) rfl
theorem q2207 : (Jvm.Cond.methodLink "UmbrellaHeirLaw" (169 : Nat) ({ cls := "UmbrellaHeirModel", name := "most", desc := "(I)I" } : Jvm.MethodName)) ∈ lw_all := lw_g (lw_at lw_m9 173 rfl) rfl
theorem q2215 : (Jvm.Cond.methodLink "UmbrellaHeirLaw" (173 : Nat) ({ cls := "UmbrellaHeirModel", name := "mostLands", desc := "(I)I" } : Jvm.MethodName)) ∈ lw_all := lw_g (lw_at lw_m9 181 rfl) rfl
theorem q2219 : (Jvm.Cond.methodLink "UmbrellaHeirLaw" (177 : Nat) ({ cls := "UmbrellaHeirModel", name := "century", desc := "(III)I" } : Jvm.MethodName)) ∈ lw_all := lw_g (lw_at lw_m9 185 rfl) rfl
theorem q2235 : (Jvm.Cond.methodLink "UmbrellaHeirLaw" (181 : Nat) ({ cls := "UmbrellaHeirModel", name := "untitled", desc := "(II)I" } : Jvm.MethodName)) ∈ lw_all := lw_g (lw_at lw_m9 201 rfl) rfl
theorem q2239 : (Jvm.Cond.methodLink "UmbrellaHeirLaw" (186 : Nat) ({ cls := "UmbrellaHeirModel", name := "lend", desc := "(II)Z" } : Jvm.MethodName)) ∈ lw_all := lw_g (lw_at lw_m9 205 rfl) rfl
theorem q2255 : (Jvm.Cond.methodLink "UmbrellaHeirLaw" (191 : Nat) ({ cls := "UmbrellaHeirModel", name := "leave", desc := "(I)Z" } : Jvm.MethodName)) ∈ lw_all := lw_g (lw_at lw_m9 221 rfl) rfl
theorem q2259 : (Jvm.Cond.methodLink "UmbrellaHeirLaw" (195 : Nat) ({ cls := "UmbrellaHeirModel", name := "exchange", desc := "(II)Z" } : Jvm.MethodName)) ∈ lw_all := lw_g (lw_at lw_m9 225 rfl) rfl
theorem q2263 : (Jvm.Cond.methodLink "UmbrellaHeirLaw" (200 : Nat) ({ cls := "UmbrellaHeirModel", name := "day", desc := "(Z)I" } : Jvm.MethodName)) ∈ lw_all := lw_g (lw_at lw_m9 229 rfl) rfl
theorem q2267 : (Jvm.Cond.methodLink "UmbrellaHeirLaw" (205 : Nat) ({ cls := "UmbrellaHeirModel", name := "undo", desc := "()Z" } : Jvm.MethodName)) ∈ lw_all := lw_g (lw_at lw_m9 233 rfl) rfl
theorem q2271 : (Jvm.Cond.methodLink "UmbrellaHeirLaw" (209 : Nat) ({ cls := "UmbrellaHeirModel", name := "mark", desc := "()I" } : Jvm.MethodName)) ∈ lw_all := lw_g (lw_at lw_m9 237 rfl) rfl
theorem q2275 : (Jvm.Cond.methodLink "UmbrellaHeirLaw" (213 : Nat) ({ cls := "UmbrellaHeirModel", name := "back", desc := "(I)Z" } : Jvm.MethodName)) ∈ lw_all := lw_g (lw_at lw_m10 1 rfl) rfl
theorem q2279 : (Jvm.Cond.methodLink "UmbrellaHeirLaw" (219 : Nat) ({ cls := "UmbrellaHeirModel", name := "led", desc := "(I)I" } : Jvm.MethodName)) ∈ lw_all := lw_g (lw_at lw_m10 5 rfl) rfl
theorem q2283 : (Jvm.Cond.methodLink "UmbrellaHeirLaw" (226 : Nat) ({ cls := "UmbrellaHeirModel", name := "size", desc := "(I)I" } : Jvm.MethodName)) ∈ lw_all := lw_g (lw_at lw_m10 9 rfl) rfl
theorem q2287 : (Jvm.Cond.methodLink "UmbrellaHeirLaw" (230 : Nat) ({ cls := "UmbrellaHeirModel", name := "trouble", desc := "()I" } : Jvm.MethodName)) ∈ lw_all := lw_g (lw_at lw_m10 13 rfl) rfl
/-! UmbrellaHeir -/
set_option maxRecDepth 100000
def RX1 : String := "UmbrellaHeir"
def TX1 : u_T := fun k => match k with
  | 0 => ("UmbrellaHeir", "tape", "[B", true)
  | 1 => ("UmbrellaHeir", "taped", "I", false)
  | 2 => ("UmbrellaHeir", "reader", "LUmbrellaHeir$Reader;", true)
  | 3 => ("UmbrellaHeir", "county", "LUmbrellaHeir$County;", false)
  | 4 => ("UmbrellaHeir", "trouble", "I", false)
  | 5 => ("UmbrellaHeir", "fault", "I", false)
  | 6 => ("UmbrellaHeir", "where", "I", false)
  | 7 => ("UmbrellaHeir", "markMany", "I", false)
  | 8 => ("UmbrellaHeir", "undoMany", "I", false)
  | 9 => ("UmbrellaHeir", "hall", "LUmbrellaHeir$Hall;", true)
  | 10 => ("UmbrellaHeir", "was", "LUmbrellaHeir$Hall;", true)
  | 11 => ("UmbrellaHeir", "trial", "LUmbrellaHeir$Hall;", true)
  | 12 => ("UmbrellaHeir", "course", "LUmbrellaHeir$Course;", true)
  | 13 => ("UmbrellaHeir", "other", "LUmbrellaHeir$Course;", true)
  | 14 => ("UmbrellaHeir", "righting", "LUmbrellaHeir$Righting;", true)
  | 15 => ("UmbrellaHeir", "party", "LUmbrellaHeir$Party;", true)
  | 16 => ("UmbrellaHeir", "undone", "[LUmbrellaHeir$Hall;", true)
  | 17 => ("UmbrellaHeir", "marks", "[LUmbrellaHeir$Hall;", true)
  | 18 => ("UmbrellaHeir", "wayMany", "I", false)
  | 19 => ("UmbrellaHeir", "wayCode", "I", false)
  | _ => ("UmbrellaHeir", "firstRest", "I", false)
def tyX1 : Nat → FieldType := fun k => match k with
  | 0 => .array .byte
  | 1 => .int
  | 2 => .object "UmbrellaHeir$Reader"
  | 3 => .object "UmbrellaHeir$County"
  | 4 => .int
  | 5 => .int
  | 6 => .int
  | 7 => .int
  | 8 => .int
  | 9 => .object "UmbrellaHeir$Hall"
  | 10 => .object "UmbrellaHeir$Hall"
  | 11 => .object "UmbrellaHeir$Hall"
  | 12 => .object "UmbrellaHeir$Course"
  | 13 => .object "UmbrellaHeir$Course"
  | 14 => .object "UmbrellaHeir$Righting"
  | 15 => .object "UmbrellaHeir$Party"
  | 16 => .array (.object "UmbrellaHeir$Hall")
  | 17 => .array (.object "UmbrellaHeir$Hall")
  | 18 => .int
  | 19 => .int
  | _ => .int
abbrev wsX10 : List Cond := u_ws RX1 TX1 21
set_option maxRecDepth 100000 in
theorem nmX1 : ∀ a, a < 21 → ∀ b, b < 21 → a ≠ b → (TX1 a).2.1 ≠ (TX1 b).2.1 := by decide +kernel
set_option maxRecDepth 100000 in
theorem tyX1_ok : ∀ k, k < 21 → parseFieldDescriptor (TX1 k).2.2.1 = some (tyX1 k) := by decide +kernel
abbrev cX1_init : ByteArray := prog_1_method_6_code
def yX1_init : MethodName := ⟨RX1, "<init>", "()V"⟩
def dkwX1_init_7 : List UInt8 := [162, 0, 22, 42, 180, 0, 71, 27, 187, 0, 30, 89, 183, 0, 32, 83, 132, 1, 1, 167, 255, 235, 177]
abbrev dktX1_init_7 : List UInt8 := dkwX1_init_7 ++ []
def dkwX1_init_6 : List UInt8 := [180, 0, 67, 27, 187, 0, 30, 89, 183, 0, 32, 83, 132, 1, 1, 167, 255, 234, 3, 60, 27, 6]
abbrev dktX1_init_6 : List UInt8 := dkwX1_init_6 ++ dktX1_init_7
def dkwX1_init_5 : List UInt8 := [189, 0, 30, 181, 0, 67, 42, 6, 189, 0, 30, 181, 0, 71, 3, 60, 27, 16, 16, 162, 0, 22, 42]
abbrev dktX1_init_5 : List UInt8 := dkwX1_init_5 ++ dktX1_init_6
def dkwX1_init_4 : List UInt8 := [187, 0, 53, 89, 183, 0, 55, 181, 0, 56, 42, 187, 0, 60, 89, 183, 0, 62, 181, 0, 63, 42, 16, 16]
abbrev dktX1_init_4 : List UInt8 := dkwX1_init_4 ++ dktX1_init_5
def dkwX1_init_3 : List UInt8 := [187, 0, 43, 89, 183, 0, 45, 181, 0, 46, 42, 187, 0, 43, 89, 183, 0, 45, 181, 0, 50, 42]
abbrev dktX1_init_3 : List UInt8 := dkwX1_init_3 ++ dktX1_init_4
def dkwX1_init_2 : List UInt8 := [187, 0, 30, 89, 183, 0, 32, 181, 0, 37, 42, 187, 0, 30, 89, 183, 0, 32, 181, 0, 40, 42]
abbrev dktX1_init_2 : List UInt8 := dkwX1_init_2 ++ dktX1_init_3
def dkwX1_init_1 : List UInt8 := [183, 0, 19, 181, 0, 22, 42, 2, 181, 0, 26, 42, 187, 0, 30, 89, 183, 0, 32, 181, 0, 33, 42]
abbrev dktX1_init_1 : List UInt8 := dkwX1_init_1 ++ dktX1_init_2
def dkwX1_init_0 : List UInt8 := [42, 183, 0, 7, 42, 17, 3, 232, 188, 8, 181, 0, 13, 42, 187, 0, 17, 89, 42, 180, 0, 13]
abbrev dktX1_init_0 : List UInt8 := dkwX1_init_0 ++ dktX1_init_1
theorem dksX1_init_0 : cX1_init.data.toList.drop 0 = dktX1_init_0 := by decide +kernel
theorem dksX1_init_1 : cX1_init.data.toList.drop 22 = dktX1_init_1 := dk_seg dksX1_init_0 22 rfl rfl
theorem dksX1_init_2 : cX1_init.data.toList.drop 45 = dktX1_init_2 := dk_seg dksX1_init_1 23 rfl rfl
theorem dksX1_init_3 : cX1_init.data.toList.drop 67 = dktX1_init_3 := dk_seg dksX1_init_2 22 rfl rfl
theorem dksX1_init_4 : cX1_init.data.toList.drop 89 = dktX1_init_4 := dk_seg dksX1_init_3 22 rfl rfl
theorem dksX1_init_5 : cX1_init.data.toList.drop 113 = dktX1_init_5 := dk_seg dksX1_init_4 24 rfl rfl
theorem dksX1_init_6 : cX1_init.data.toList.drop 136 = dktX1_init_6 := dk_seg dksX1_init_5 23 rfl rfl
theorem dksX1_init_7 : cX1_init.data.toList.drop 158 = dktX1_init_7 := dk_seg dksX1_init_6 22 rfl rfl
theorem dX1_init_0 : decode cX1_init 0 = .ok (.aload_n 0, 1) := dk_42 (dk_at dksX1_init_0 0 rfl rfl)
theorem dX1_init_1 : decode cX1_init 1 = .ok (.invokespecial 7, 3) := dk_183 0 7 (dk_at dksX1_init_0 1 rfl rfl)
theorem dX1_init_4 : decode cX1_init 4 = .ok (.aload_n 0, 1) := dk_42 (dk_at dksX1_init_0 4 rfl rfl)
theorem dX1_init_5 : decode cX1_init 5 = .ok (.sipush 1000, 3) := dk_17 3 232 (dk_at dksX1_init_0 5 rfl rfl)
theorem dX1_init_8 : decode cX1_init 8 = .ok (.newarray .byte, 2) := dk_188_8 (dk_at dksX1_init_0 8 rfl rfl)
theorem dX1_init_10 : decode cX1_init 10 = .ok (.putfield 13, 3) := dk_181 0 13 (dk_at dksX1_init_0 10 rfl rfl)
theorem dX1_init_13 : decode cX1_init 13 = .ok (.aload_n 0, 1) := dk_42 (dk_at dksX1_init_0 13 rfl rfl)
theorem dX1_init_14 : decode cX1_init 14 = .ok (.new 17, 3) := dk_187 0 17 (dk_at dksX1_init_0 14 rfl rfl)
theorem dX1_init_17 : decode cX1_init 17 = .ok (.dup, 1) := dk_89 (dk_at dksX1_init_0 17 rfl rfl)
theorem dX1_init_18 : decode cX1_init 18 = .ok (.aload_n 0, 1) := dk_42 (dk_at dksX1_init_0 18 rfl rfl)
theorem dX1_init_19 : decode cX1_init 19 = .ok (.getfield 13, 3) := dk_180 0 13 (dk_at dksX1_init_0 19 rfl rfl)
theorem dX1_init_22 : decode cX1_init 22 = .ok (.invokespecial 19, 3) := dk_183 0 19 (dk_at dksX1_init_1 0 rfl rfl)
theorem dX1_init_25 : decode cX1_init 25 = .ok (.putfield 22, 3) := dk_181 0 22 (dk_at dksX1_init_1 3 rfl rfl)
theorem dX1_init_28 : decode cX1_init 28 = .ok (.aload_n 0, 1) := dk_42 (dk_at dksX1_init_1 6 rfl rfl)
theorem dX1_init_29 : decode cX1_init 29 = .ok (.iconst (-1), 1) := dk_2 (dk_at dksX1_init_1 7 rfl rfl)
theorem dX1_init_30 : decode cX1_init 30 = .ok (.putfield 26, 3) := dk_181 0 26 (dk_at dksX1_init_1 8 rfl rfl)
theorem dX1_init_33 : decode cX1_init 33 = .ok (.aload_n 0, 1) := dk_42 (dk_at dksX1_init_1 11 rfl rfl)
theorem dX1_init_34 : decode cX1_init 34 = .ok (.new 30, 3) := dk_187 0 30 (dk_at dksX1_init_1 12 rfl rfl)
theorem dX1_init_37 : decode cX1_init 37 = .ok (.dup, 1) := dk_89 (dk_at dksX1_init_1 15 rfl rfl)
theorem dX1_init_38 : decode cX1_init 38 = .ok (.invokespecial 32, 3) := dk_183 0 32 (dk_at dksX1_init_1 16 rfl rfl)
theorem dX1_init_41 : decode cX1_init 41 = .ok (.putfield 33, 3) := dk_181 0 33 (dk_at dksX1_init_1 19 rfl rfl)
theorem dX1_init_44 : decode cX1_init 44 = .ok (.aload_n 0, 1) := dk_42 (dk_at dksX1_init_1 22 rfl rfl)
theorem dX1_init_45 : decode cX1_init 45 = .ok (.new 30, 3) := dk_187 0 30 (dk_at dksX1_init_2 0 rfl rfl)
theorem dX1_init_48 : decode cX1_init 48 = .ok (.dup, 1) := dk_89 (dk_at dksX1_init_2 3 rfl rfl)
theorem dX1_init_49 : decode cX1_init 49 = .ok (.invokespecial 32, 3) := dk_183 0 32 (dk_at dksX1_init_2 4 rfl rfl)
theorem dX1_init_52 : decode cX1_init 52 = .ok (.putfield 37, 3) := dk_181 0 37 (dk_at dksX1_init_2 7 rfl rfl)
theorem dX1_init_55 : decode cX1_init 55 = .ok (.aload_n 0, 1) := dk_42 (dk_at dksX1_init_2 10 rfl rfl)
theorem dX1_init_56 : decode cX1_init 56 = .ok (.new 30, 3) := dk_187 0 30 (dk_at dksX1_init_2 11 rfl rfl)
theorem dX1_init_59 : decode cX1_init 59 = .ok (.dup, 1) := dk_89 (dk_at dksX1_init_2 14 rfl rfl)
theorem dX1_init_60 : decode cX1_init 60 = .ok (.invokespecial 32, 3) := dk_183 0 32 (dk_at dksX1_init_2 15 rfl rfl)
theorem dX1_init_63 : decode cX1_init 63 = .ok (.putfield 40, 3) := dk_181 0 40 (dk_at dksX1_init_2 18 rfl rfl)
theorem dX1_init_66 : decode cX1_init 66 = .ok (.aload_n 0, 1) := dk_42 (dk_at dksX1_init_2 21 rfl rfl)
theorem dX1_init_67 : decode cX1_init 67 = .ok (.new 43, 3) := dk_187 0 43 (dk_at dksX1_init_3 0 rfl rfl)
theorem dX1_init_70 : decode cX1_init 70 = .ok (.dup, 1) := dk_89 (dk_at dksX1_init_3 3 rfl rfl)
theorem dX1_init_71 : decode cX1_init 71 = .ok (.invokespecial 45, 3) := dk_183 0 45 (dk_at dksX1_init_3 4 rfl rfl)
theorem dX1_init_74 : decode cX1_init 74 = .ok (.putfield 46, 3) := dk_181 0 46 (dk_at dksX1_init_3 7 rfl rfl)
theorem dX1_init_77 : decode cX1_init 77 = .ok (.aload_n 0, 1) := dk_42 (dk_at dksX1_init_3 10 rfl rfl)
theorem dX1_init_78 : decode cX1_init 78 = .ok (.new 43, 3) := dk_187 0 43 (dk_at dksX1_init_3 11 rfl rfl)
theorem dX1_init_81 : decode cX1_init 81 = .ok (.dup, 1) := dk_89 (dk_at dksX1_init_3 14 rfl rfl)
theorem dX1_init_82 : decode cX1_init 82 = .ok (.invokespecial 45, 3) := dk_183 0 45 (dk_at dksX1_init_3 15 rfl rfl)
theorem dX1_init_85 : decode cX1_init 85 = .ok (.putfield 50, 3) := dk_181 0 50 (dk_at dksX1_init_3 18 rfl rfl)
theorem dX1_init_88 : decode cX1_init 88 = .ok (.aload_n 0, 1) := dk_42 (dk_at dksX1_init_3 21 rfl rfl)
theorem dX1_init_89 : decode cX1_init 89 = .ok (.new 53, 3) := dk_187 0 53 (dk_at dksX1_init_4 0 rfl rfl)
theorem dX1_init_92 : decode cX1_init 92 = .ok (.dup, 1) := dk_89 (dk_at dksX1_init_4 3 rfl rfl)
theorem dX1_init_93 : decode cX1_init 93 = .ok (.invokespecial 55, 3) := dk_183 0 55 (dk_at dksX1_init_4 4 rfl rfl)
theorem dX1_init_96 : decode cX1_init 96 = .ok (.putfield 56, 3) := dk_181 0 56 (dk_at dksX1_init_4 7 rfl rfl)
theorem dX1_init_99 : decode cX1_init 99 = .ok (.aload_n 0, 1) := dk_42 (dk_at dksX1_init_4 10 rfl rfl)
theorem dX1_init_100 : decode cX1_init 100 = .ok (.new 60, 3) := dk_187 0 60 (dk_at dksX1_init_4 11 rfl rfl)
theorem dX1_init_103 : decode cX1_init 103 = .ok (.dup, 1) := dk_89 (dk_at dksX1_init_4 14 rfl rfl)
theorem dX1_init_104 : decode cX1_init 104 = .ok (.invokespecial 62, 3) := dk_183 0 62 (dk_at dksX1_init_4 15 rfl rfl)
theorem dX1_init_107 : decode cX1_init 107 = .ok (.putfield 63, 3) := dk_181 0 63 (dk_at dksX1_init_4 18 rfl rfl)
theorem dX1_init_110 : decode cX1_init 110 = .ok (.aload_n 0, 1) := dk_42 (dk_at dksX1_init_4 21 rfl rfl)
theorem dX1_init_111 : decode cX1_init 111 = .ok (.bipush 16, 2) := dk_16 16 (dk_at dksX1_init_4 22 rfl rfl)
theorem dX1_init_113 : decode cX1_init 113 = .ok (.anewarray 30, 3) := dk_189 0 30 (dk_at dksX1_init_5 0 rfl rfl)
theorem dX1_init_116 : decode cX1_init 116 = .ok (.putfield 67, 3) := dk_181 0 67 (dk_at dksX1_init_5 3 rfl rfl)
theorem dX1_init_119 : decode cX1_init 119 = .ok (.aload_n 0, 1) := dk_42 (dk_at dksX1_init_5 6 rfl rfl)
theorem dX1_init_120 : decode cX1_init 120 = .ok (.iconst 3, 1) := dk_6 (dk_at dksX1_init_5 7 rfl rfl)
theorem dX1_init_121 : decode cX1_init 121 = .ok (.anewarray 30, 3) := dk_189 0 30 (dk_at dksX1_init_5 8 rfl rfl)
theorem dX1_init_124 : decode cX1_init 124 = .ok (.putfield 71, 3) := dk_181 0 71 (dk_at dksX1_init_5 11 rfl rfl)
theorem dX1_init_127 : decode cX1_init 127 = .ok (.iconst 0, 1) := dk_3 (dk_at dksX1_init_5 14 rfl rfl)
theorem dX1_init_128 : decode cX1_init 128 = .ok (.istore_n 1, 1) := dk_60 (dk_at dksX1_init_5 15 rfl rfl)
theorem dX1_init_129 : decode cX1_init 129 = .ok (.iload_n 1, 1) := dk_27 (dk_at dksX1_init_5 16 rfl rfl)
theorem dX1_init_130 : decode cX1_init 130 = .ok (.bipush 16, 2) := dk_16 16 (dk_at dksX1_init_5 17 rfl rfl)
theorem dX1_init_132 : decode cX1_init 132 = .ok (.if_icmp .ge 22, 3) := dk_162 0 22 (dk_at dksX1_init_5 19 rfl rfl)
theorem dX1_init_135 : decode cX1_init 135 = .ok (.aload_n 0, 1) := dk_42 (dk_at dksX1_init_5 22 rfl rfl)
theorem dX1_init_136 : decode cX1_init 136 = .ok (.getfield 67, 3) := dk_180 0 67 (dk_at dksX1_init_6 0 rfl rfl)
theorem dX1_init_139 : decode cX1_init 139 = .ok (.iload_n 1, 1) := dk_27 (dk_at dksX1_init_6 3 rfl rfl)
theorem dX1_init_140 : decode cX1_init 140 = .ok (.new 30, 3) := dk_187 0 30 (dk_at dksX1_init_6 4 rfl rfl)
theorem dX1_init_143 : decode cX1_init 143 = .ok (.dup, 1) := dk_89 (dk_at dksX1_init_6 7 rfl rfl)
theorem dX1_init_144 : decode cX1_init 144 = .ok (.invokespecial 32, 3) := dk_183 0 32 (dk_at dksX1_init_6 8 rfl rfl)
theorem dX1_init_147 : decode cX1_init 147 = .ok (.aastore, 1) := dk_83 (dk_at dksX1_init_6 11 rfl rfl)
theorem dX1_init_148 : decode cX1_init 148 = .ok (.iinc 1 1, 3) := dk_132 1 1 (dk_at dksX1_init_6 12 rfl rfl)
theorem dX1_init_151 : decode cX1_init 151 = .ok (.goto (-22), 3) := dk_167 255 234 (dk_at dksX1_init_6 15 rfl rfl)
theorem dX1_init_154 : decode cX1_init 154 = .ok (.iconst 0, 1) := dk_3 (dk_at dksX1_init_6 18 rfl rfl)
theorem dX1_init_155 : decode cX1_init 155 = .ok (.istore_n 1, 1) := dk_60 (dk_at dksX1_init_6 19 rfl rfl)
theorem dX1_init_156 : decode cX1_init 156 = .ok (.iload_n 1, 1) := dk_27 (dk_at dksX1_init_6 20 rfl rfl)
theorem dX1_init_157 : decode cX1_init 157 = .ok (.iconst 3, 1) := dk_6 (dk_at dksX1_init_6 21 rfl rfl)
theorem dX1_init_158 : decode cX1_init 158 = .ok (.if_icmp .ge 22, 3) := dk_162 0 22 (dk_at dksX1_init_7 0 rfl rfl)
theorem dX1_init_161 : decode cX1_init 161 = .ok (.aload_n 0, 1) := dk_42 (dk_at dksX1_init_7 3 rfl rfl)
theorem dX1_init_162 : decode cX1_init 162 = .ok (.getfield 71, 3) := dk_180 0 71 (dk_at dksX1_init_7 4 rfl rfl)
theorem dX1_init_165 : decode cX1_init 165 = .ok (.iload_n 1, 1) := dk_27 (dk_at dksX1_init_7 7 rfl rfl)
theorem dX1_init_166 : decode cX1_init 166 = .ok (.new 30, 3) := dk_187 0 30 (dk_at dksX1_init_7 8 rfl rfl)
theorem dX1_init_169 : decode cX1_init 169 = .ok (.dup, 1) := dk_89 (dk_at dksX1_init_7 11 rfl rfl)
theorem dX1_init_170 : decode cX1_init 170 = .ok (.invokespecial 32, 3) := dk_183 0 32 (dk_at dksX1_init_7 12 rfl rfl)
theorem dX1_init_173 : decode cX1_init 173 = .ok (.aastore, 1) := dk_83 (dk_at dksX1_init_7 15 rfl rfl)
theorem dX1_init_174 : decode cX1_init 174 = .ok (.iinc 1 1, 3) := dk_132 1 1 (dk_at dksX1_init_7 16 rfl rfl)
theorem dX1_init_177 : decode cX1_init 177 = .ok (.goto (-21), 3) := dk_167 255 235 (dk_at dksX1_init_7 19 rfl rfl)
theorem dX1_init_180 : decode cX1_init 180 = .ok (.return_, 1) := dk_177 (dk_at dksX1_init_7 22 rfl rfl)
abbrev cX1_feed : ByteArray := prog_1_method_10_code
def yX1_feed : MethodName := ⟨RX1, "feed", "(IIIII)I"⟩
def dkwX1_feed_2 : List UInt8 := [172]
abbrev dktX1_feed_2 : List UInt8 := dkwX1_feed_2 ++ []
def dkwX1_feed_1 : List UInt8 := [182, 0, 83, 42, 29, 182, 0, 83, 42, 21, 4, 182, 0, 83, 42, 21, 5, 182, 0, 83, 42, 180, 0, 80]
abbrev dktX1_feed_1 : List UInt8 := dkwX1_feed_1 ++ dktX1_feed_2
def dkwX1_feed_0 : List UInt8 := [42, 180, 0, 80, 16, 20, 96, 17, 3, 232, 164, 0, 5, 2, 172, 42, 27, 182, 0, 83, 42, 28]
abbrev dktX1_feed_0 : List UInt8 := dkwX1_feed_0 ++ dktX1_feed_1
theorem dksX1_feed_0 : cX1_feed.data.toList.drop 0 = dktX1_feed_0 := by decide +kernel
theorem dksX1_feed_1 : cX1_feed.data.toList.drop 22 = dktX1_feed_1 := dk_seg dksX1_feed_0 22 rfl rfl
theorem dksX1_feed_2 : cX1_feed.data.toList.drop 46 = dktX1_feed_2 := dk_seg dksX1_feed_1 24 rfl rfl
theorem dX1_feed_0 : decode cX1_feed 0 = .ok (.aload_n 0, 1) := dk_42 (dk_at dksX1_feed_0 0 rfl rfl)
theorem dX1_feed_1 : decode cX1_feed 1 = .ok (.getfield 80, 3) := dk_180 0 80 (dk_at dksX1_feed_0 1 rfl rfl)
theorem dX1_feed_4 : decode cX1_feed 4 = .ok (.bipush 20, 2) := dk_16 20 (dk_at dksX1_feed_0 4 rfl rfl)
theorem dX1_feed_6 : decode cX1_feed 6 = .ok (.iadd, 1) := dk_96 (dk_at dksX1_feed_0 6 rfl rfl)
theorem dX1_feed_7 : decode cX1_feed 7 = .ok (.sipush 1000, 3) := dk_17 3 232 (dk_at dksX1_feed_0 7 rfl rfl)
theorem dX1_feed_10 : decode cX1_feed 10 = .ok (.if_icmp .le 5, 3) := dk_164 0 5 (dk_at dksX1_feed_0 10 rfl rfl)
theorem dX1_feed_13 : decode cX1_feed 13 = .ok (.iconst (-1), 1) := dk_2 (dk_at dksX1_feed_0 13 rfl rfl)
theorem dX1_feed_14 : decode cX1_feed 14 = .ok (.ireturn, 1) := dk_172 (dk_at dksX1_feed_0 14 rfl rfl)
theorem dX1_feed_15 : decode cX1_feed 15 = .ok (.aload_n 0, 1) := dk_42 (dk_at dksX1_feed_0 15 rfl rfl)
theorem dX1_feed_16 : decode cX1_feed 16 = .ok (.iload_n 1, 1) := dk_27 (dk_at dksX1_feed_0 16 rfl rfl)
theorem dX1_feed_17 : decode cX1_feed 17 = .ok (.invokevirtual 83, 3) := dk_182 0 83 (dk_at dksX1_feed_0 17 rfl rfl)
theorem dX1_feed_20 : decode cX1_feed 20 = .ok (.aload_n 0, 1) := dk_42 (dk_at dksX1_feed_0 20 rfl rfl)
theorem dX1_feed_21 : decode cX1_feed 21 = .ok (.iload_n 2, 1) := dk_28 (dk_at dksX1_feed_0 21 rfl rfl)
theorem dX1_feed_22 : decode cX1_feed 22 = .ok (.invokevirtual 83, 3) := dk_182 0 83 (dk_at dksX1_feed_1 0 rfl rfl)
theorem dX1_feed_25 : decode cX1_feed 25 = .ok (.aload_n 0, 1) := dk_42 (dk_at dksX1_feed_1 3 rfl rfl)
theorem dX1_feed_26 : decode cX1_feed 26 = .ok (.iload_n 3, 1) := dk_29 (dk_at dksX1_feed_1 4 rfl rfl)
theorem dX1_feed_27 : decode cX1_feed 27 = .ok (.invokevirtual 83, 3) := dk_182 0 83 (dk_at dksX1_feed_1 5 rfl rfl)
theorem dX1_feed_30 : decode cX1_feed 30 = .ok (.aload_n 0, 1) := dk_42 (dk_at dksX1_feed_1 8 rfl rfl)
theorem dX1_feed_31 : decode cX1_feed 31 = .ok (.iload 4, 2) := dk_21 4 (dk_at dksX1_feed_1 9 rfl rfl)
theorem dX1_feed_33 : decode cX1_feed 33 = .ok (.invokevirtual 83, 3) := dk_182 0 83 (dk_at dksX1_feed_1 11 rfl rfl)
theorem dX1_feed_36 : decode cX1_feed 36 = .ok (.aload_n 0, 1) := dk_42 (dk_at dksX1_feed_1 14 rfl rfl)
theorem dX1_feed_37 : decode cX1_feed 37 = .ok (.iload 5, 2) := dk_21 5 (dk_at dksX1_feed_1 15 rfl rfl)
theorem dX1_feed_39 : decode cX1_feed 39 = .ok (.invokevirtual 83, 3) := dk_182 0 83 (dk_at dksX1_feed_1 17 rfl rfl)
theorem dX1_feed_42 : decode cX1_feed 42 = .ok (.aload_n 0, 1) := dk_42 (dk_at dksX1_feed_1 20 rfl rfl)
theorem dX1_feed_43 : decode cX1_feed 43 = .ok (.getfield 80, 3) := dk_180 0 80 (dk_at dksX1_feed_1 21 rfl rfl)
theorem dX1_feed_46 : decode cX1_feed 46 = .ok (.ireturn, 1) := dk_172 (dk_at dksX1_feed_2 0 rfl rfl)
abbrev cX1_bytes : ByteArray := prog_1_method_11_code
def yX1_bytes : MethodName := ⟨RX1, "bytes", "(I)V"⟩
def dkwX1_bytes_1 : List UInt8 := [180, 0, 80, 4, 96, 181, 0, 80, 132, 2, 248, 167, 255, 226, 177]
abbrev dktX1_bytes_1 : List UInt8 := dkwX1_bytes_1 ++ []
def dkwX1_bytes_0 : List UInt8 := [16, 24, 61, 28, 155, 0, 32, 42, 180, 0, 13, 42, 180, 0, 80, 27, 28, 122, 145, 84, 42, 89]
abbrev dktX1_bytes_0 : List UInt8 := dkwX1_bytes_0 ++ dktX1_bytes_1
theorem dksX1_bytes_0 : cX1_bytes.data.toList.drop 0 = dktX1_bytes_0 := by decide +kernel
theorem dksX1_bytes_1 : cX1_bytes.data.toList.drop 22 = dktX1_bytes_1 := dk_seg dksX1_bytes_0 22 rfl rfl
theorem dX1_bytes_0 : decode cX1_bytes 0 = .ok (.bipush 24, 2) := dk_16 24 (dk_at dksX1_bytes_0 0 rfl rfl)
theorem dX1_bytes_2 : decode cX1_bytes 2 = .ok (.istore_n 2, 1) := dk_61 (dk_at dksX1_bytes_0 2 rfl rfl)
theorem dX1_bytes_3 : decode cX1_bytes 3 = .ok (.iload_n 2, 1) := dk_28 (dk_at dksX1_bytes_0 3 rfl rfl)
theorem dX1_bytes_4 : decode cX1_bytes 4 = .ok (.ifCond .lt 32, 3) := dk_155 0 32 (dk_at dksX1_bytes_0 4 rfl rfl)
theorem dX1_bytes_7 : decode cX1_bytes 7 = .ok (.aload_n 0, 1) := dk_42 (dk_at dksX1_bytes_0 7 rfl rfl)
theorem dX1_bytes_8 : decode cX1_bytes 8 = .ok (.getfield 13, 3) := dk_180 0 13 (dk_at dksX1_bytes_0 8 rfl rfl)
theorem dX1_bytes_11 : decode cX1_bytes 11 = .ok (.aload_n 0, 1) := dk_42 (dk_at dksX1_bytes_0 11 rfl rfl)
theorem dX1_bytes_12 : decode cX1_bytes 12 = .ok (.getfield 80, 3) := dk_180 0 80 (dk_at dksX1_bytes_0 12 rfl rfl)
theorem dX1_bytes_15 : decode cX1_bytes 15 = .ok (.iload_n 1, 1) := dk_27 (dk_at dksX1_bytes_0 15 rfl rfl)
theorem dX1_bytes_16 : decode cX1_bytes 16 = .ok (.iload_n 2, 1) := dk_28 (dk_at dksX1_bytes_0 16 rfl rfl)
theorem dX1_bytes_17 : decode cX1_bytes 17 = .ok (.ishr, 1) := dk_122 (dk_at dksX1_bytes_0 17 rfl rfl)
theorem dX1_bytes_18 : decode cX1_bytes 18 = .ok (.i2b, 1) := dk_145 (dk_at dksX1_bytes_0 18 rfl rfl)
theorem dX1_bytes_19 : decode cX1_bytes 19 = .ok (.bastore, 1) := dk_84 (dk_at dksX1_bytes_0 19 rfl rfl)
theorem dX1_bytes_20 : decode cX1_bytes 20 = .ok (.aload_n 0, 1) := dk_42 (dk_at dksX1_bytes_0 20 rfl rfl)
theorem dX1_bytes_21 : decode cX1_bytes 21 = .ok (.dup, 1) := dk_89 (dk_at dksX1_bytes_0 21 rfl rfl)
theorem dX1_bytes_22 : decode cX1_bytes 22 = .ok (.getfield 80, 3) := dk_180 0 80 (dk_at dksX1_bytes_1 0 rfl rfl)
theorem dX1_bytes_25 : decode cX1_bytes 25 = .ok (.iconst 1, 1) := dk_4 (dk_at dksX1_bytes_1 3 rfl rfl)
theorem dX1_bytes_26 : decode cX1_bytes 26 = .ok (.iadd, 1) := dk_96 (dk_at dksX1_bytes_1 4 rfl rfl)
theorem dX1_bytes_27 : decode cX1_bytes 27 = .ok (.putfield 80, 3) := dk_181 0 80 (dk_at dksX1_bytes_1 5 rfl rfl)
theorem dX1_bytes_30 : decode cX1_bytes 30 = .ok (.iinc 2 (-8), 3) := dk_132 2 248 (dk_at dksX1_bytes_1 8 rfl rfl)
theorem dX1_bytes_33 : decode cX1_bytes 33 = .ok (.goto (-30), 3) := dk_167 255 226 (dk_at dksX1_bytes_1 11 rfl rfl)
theorem dX1_bytes_36 : decode cX1_bytes 36 = .ok (.return_, 1) := dk_177 (dk_at dksX1_bytes_1 14 rfl rfl)
abbrev cX1_county : ByteArray := prog_1_method_12_code
def yX1_county : MethodName := ⟨RX1, "county", "(I)I"⟩
def dkwX1_county_4 : List UInt8 := [42, 3, 181, 0, 120, 42, 3, 181, 0, 123, 42, 180, 0, 102, 180, 0, 126, 172]
abbrev dktX1_county_4 : List UInt8 := dkwX1_county_4 ++ []
def dkwX1_county_3 : List UInt8 := [180, 0, 33, 42, 180, 0, 102, 182, 0, 112, 42, 180, 0, 46, 42, 180, 0, 102, 2, 3, 3, 182, 0, 116]
abbrev dktX1_county_3 : List UInt8 := dkwX1_county_3 ++ dktX1_county_4
def dkwX1_county_2 : List UInt8 := [42, 44, 180, 0, 108, 181, 0, 95, 42, 44, 180, 0, 109, 181, 0, 26, 42, 7, 182, 0, 91, 172, 42]
abbrev dktX1_county_2 : List UInt8 := dkwX1_county_2 ++ dktX1_county_3
def dkwX1_county_1 : List UInt8 := [181, 0, 80, 42, 3, 181, 0, 95, 42, 42, 180, 0, 22, 27, 182, 0, 98, 181, 0, 102, 167, 0, 26, 77]
abbrev dktX1_county_1 : List UInt8 := dkwX1_county_1 ++ dktX1_county_2
def dkwX1_county_0 : List UInt8 := [42, 182, 0, 77, 27, 3, 42, 180, 0, 80, 184, 0, 87, 154, 0, 9, 42, 5, 182, 0, 91, 172, 42, 3]
abbrev dktX1_county_0 : List UInt8 := dkwX1_county_0 ++ dktX1_county_1
theorem dksX1_county_0 : cX1_county.data.toList.drop 0 = dktX1_county_0 := by decide +kernel
theorem dksX1_county_1 : cX1_county.data.toList.drop 24 = dktX1_county_1 := dk_seg dksX1_county_0 24 rfl rfl
theorem dksX1_county_2 : cX1_county.data.toList.drop 48 = dktX1_county_2 := dk_seg dksX1_county_1 24 rfl rfl
theorem dksX1_county_3 : cX1_county.data.toList.drop 71 = dktX1_county_3 := dk_seg dksX1_county_2 23 rfl rfl
theorem dksX1_county_4 : cX1_county.data.toList.drop 95 = dktX1_county_4 := dk_seg dksX1_county_3 24 rfl rfl
theorem dX1_county_0 : decode cX1_county 0 = .ok (.aload_n 0, 1) := dk_42 (dk_at dksX1_county_0 0 rfl rfl)
theorem dX1_county_1 : decode cX1_county 1 = .ok (.invokevirtual 77, 3) := dk_182 0 77 (dk_at dksX1_county_0 1 rfl rfl)
theorem dX1_county_4 : decode cX1_county 4 = .ok (.iload_n 1, 1) := dk_27 (dk_at dksX1_county_0 4 rfl rfl)
theorem dX1_county_5 : decode cX1_county 5 = .ok (.iconst 0, 1) := dk_3 (dk_at dksX1_county_0 5 rfl rfl)
theorem dX1_county_6 : decode cX1_county 6 = .ok (.aload_n 0, 1) := dk_42 (dk_at dksX1_county_0 6 rfl rfl)
theorem dX1_county_7 : decode cX1_county 7 = .ok (.getfield 80, 3) := dk_180 0 80 (dk_at dksX1_county_0 7 rfl rfl)
theorem dX1_county_10 : decode cX1_county 10 = .ok (.invokestatic 87, 3) := dk_184 0 87 (dk_at dksX1_county_0 10 rfl rfl)
theorem dX1_county_13 : decode cX1_county 13 = .ok (.ifCond .ne 9, 3) := dk_154 0 9 (dk_at dksX1_county_0 13 rfl rfl)
theorem dX1_county_16 : decode cX1_county 16 = .ok (.aload_n 0, 1) := dk_42 (dk_at dksX1_county_0 16 rfl rfl)
theorem dX1_county_17 : decode cX1_county 17 = .ok (.iconst 2, 1) := dk_5 (dk_at dksX1_county_0 17 rfl rfl)
theorem dX1_county_18 : decode cX1_county 18 = .ok (.invokevirtual 91, 3) := dk_182 0 91 (dk_at dksX1_county_0 18 rfl rfl)
theorem dX1_county_21 : decode cX1_county 21 = .ok (.ireturn, 1) := dk_172 (dk_at dksX1_county_0 21 rfl rfl)
theorem dX1_county_22 : decode cX1_county 22 = .ok (.aload_n 0, 1) := dk_42 (dk_at dksX1_county_0 22 rfl rfl)
theorem dX1_county_23 : decode cX1_county 23 = .ok (.iconst 0, 1) := dk_3 (dk_at dksX1_county_0 23 rfl rfl)
theorem dX1_county_24 : decode cX1_county 24 = .ok (.putfield 80, 3) := dk_181 0 80 (dk_at dksX1_county_1 0 rfl rfl)
theorem dX1_county_27 : decode cX1_county 27 = .ok (.aload_n 0, 1) := dk_42 (dk_at dksX1_county_1 3 rfl rfl)
theorem dX1_county_28 : decode cX1_county 28 = .ok (.iconst 0, 1) := dk_3 (dk_at dksX1_county_1 4 rfl rfl)
theorem dX1_county_29 : decode cX1_county 29 = .ok (.putfield 95, 3) := dk_181 0 95 (dk_at dksX1_county_1 5 rfl rfl)
theorem dX1_county_32 : decode cX1_county 32 = .ok (.aload_n 0, 1) := dk_42 (dk_at dksX1_county_1 8 rfl rfl)
theorem dX1_county_33 : decode cX1_county 33 = .ok (.aload_n 0, 1) := dk_42 (dk_at dksX1_county_1 9 rfl rfl)
theorem dX1_county_34 : decode cX1_county 34 = .ok (.getfield 22, 3) := dk_180 0 22 (dk_at dksX1_county_1 10 rfl rfl)
theorem dX1_county_37 : decode cX1_county 37 = .ok (.iload_n 1, 1) := dk_27 (dk_at dksX1_county_1 13 rfl rfl)
theorem dX1_county_38 : decode cX1_county 38 = .ok (.invokevirtual 98, 3) := dk_182 0 98 (dk_at dksX1_county_1 14 rfl rfl)
theorem dX1_county_41 : decode cX1_county 41 = .ok (.putfield 102, 3) := dk_181 0 102 (dk_at dksX1_county_1 17 rfl rfl)
theorem dX1_county_44 : decode cX1_county 44 = .ok (.goto 26, 3) := dk_167 0 26 (dk_at dksX1_county_1 20 rfl rfl)
theorem dX1_county_47 : decode cX1_county 47 = .ok (.astore_n 2, 1) := dk_77 (dk_at dksX1_county_1 23 rfl rfl)
theorem dX1_county_48 : decode cX1_county 48 = .ok (.aload_n 0, 1) := dk_42 (dk_at dksX1_county_2 0 rfl rfl)
theorem dX1_county_49 : decode cX1_county 49 = .ok (.aload_n 2, 1) := dk_44 (dk_at dksX1_county_2 1 rfl rfl)
theorem dX1_county_50 : decode cX1_county 50 = .ok (.getfield 108, 3) := dk_180 0 108 (dk_at dksX1_county_2 2 rfl rfl)
theorem dX1_county_53 : decode cX1_county 53 = .ok (.putfield 95, 3) := dk_181 0 95 (dk_at dksX1_county_2 5 rfl rfl)
theorem dX1_county_56 : decode cX1_county 56 = .ok (.aload_n 0, 1) := dk_42 (dk_at dksX1_county_2 8 rfl rfl)
theorem dX1_county_57 : decode cX1_county 57 = .ok (.aload_n 2, 1) := dk_44 (dk_at dksX1_county_2 9 rfl rfl)
theorem dX1_county_58 : decode cX1_county 58 = .ok (.getfield 109, 3) := dk_180 0 109 (dk_at dksX1_county_2 10 rfl rfl)
theorem dX1_county_61 : decode cX1_county 61 = .ok (.putfield 26, 3) := dk_181 0 26 (dk_at dksX1_county_2 13 rfl rfl)
theorem dX1_county_64 : decode cX1_county 64 = .ok (.aload_n 0, 1) := dk_42 (dk_at dksX1_county_2 16 rfl rfl)
theorem dX1_county_65 : decode cX1_county 65 = .ok (.iconst 4, 1) := dk_7 (dk_at dksX1_county_2 17 rfl rfl)
theorem dX1_county_66 : decode cX1_county 66 = .ok (.invokevirtual 91, 3) := dk_182 0 91 (dk_at dksX1_county_2 18 rfl rfl)
theorem dX1_county_69 : decode cX1_county 69 = .ok (.ireturn, 1) := dk_172 (dk_at dksX1_county_2 21 rfl rfl)
theorem dX1_county_70 : decode cX1_county 70 = .ok (.aload_n 0, 1) := dk_42 (dk_at dksX1_county_2 22 rfl rfl)
theorem dX1_county_71 : decode cX1_county 71 = .ok (.getfield 33, 3) := dk_180 0 33 (dk_at dksX1_county_3 0 rfl rfl)
theorem dX1_county_74 : decode cX1_county 74 = .ok (.aload_n 0, 1) := dk_42 (dk_at dksX1_county_3 3 rfl rfl)
theorem dX1_county_75 : decode cX1_county 75 = .ok (.getfield 102, 3) := dk_180 0 102 (dk_at dksX1_county_3 4 rfl rfl)
theorem dX1_county_78 : decode cX1_county 78 = .ok (.invokevirtual 112, 3) := dk_182 0 112 (dk_at dksX1_county_3 7 rfl rfl)
theorem dX1_county_81 : decode cX1_county 81 = .ok (.aload_n 0, 1) := dk_42 (dk_at dksX1_county_3 10 rfl rfl)
theorem dX1_county_82 : decode cX1_county 82 = .ok (.getfield 46, 3) := dk_180 0 46 (dk_at dksX1_county_3 11 rfl rfl)
theorem dX1_county_85 : decode cX1_county 85 = .ok (.aload_n 0, 1) := dk_42 (dk_at dksX1_county_3 14 rfl rfl)
theorem dX1_county_86 : decode cX1_county 86 = .ok (.getfield 102, 3) := dk_180 0 102 (dk_at dksX1_county_3 15 rfl rfl)
theorem dX1_county_89 : decode cX1_county 89 = .ok (.iconst (-1), 1) := dk_2 (dk_at dksX1_county_3 18 rfl rfl)
theorem dX1_county_90 : decode cX1_county 90 = .ok (.iconst 0, 1) := dk_3 (dk_at dksX1_county_3 19 rfl rfl)
theorem dX1_county_91 : decode cX1_county 91 = .ok (.iconst 0, 1) := dk_3 (dk_at dksX1_county_3 20 rfl rfl)
theorem dX1_county_92 : decode cX1_county 92 = .ok (.invokevirtual 116, 3) := dk_182 0 116 (dk_at dksX1_county_3 21 rfl rfl)
theorem dX1_county_95 : decode cX1_county 95 = .ok (.aload_n 0, 1) := dk_42 (dk_at dksX1_county_4 0 rfl rfl)
theorem dX1_county_96 : decode cX1_county 96 = .ok (.iconst 0, 1) := dk_3 (dk_at dksX1_county_4 1 rfl rfl)
theorem dX1_county_97 : decode cX1_county 97 = .ok (.putfield 120, 3) := dk_181 0 120 (dk_at dksX1_county_4 2 rfl rfl)
theorem dX1_county_100 : decode cX1_county 100 = .ok (.aload_n 0, 1) := dk_42 (dk_at dksX1_county_4 5 rfl rfl)
theorem dX1_county_101 : decode cX1_county 101 = .ok (.iconst 0, 1) := dk_3 (dk_at dksX1_county_4 6 rfl rfl)
theorem dX1_county_102 : decode cX1_county 102 = .ok (.putfield 123, 3) := dk_181 0 123 (dk_at dksX1_county_4 7 rfl rfl)
theorem dX1_county_105 : decode cX1_county 105 = .ok (.aload_n 0, 1) := dk_42 (dk_at dksX1_county_4 10 rfl rfl)
theorem dX1_county_106 : decode cX1_county 106 = .ok (.getfield 102, 3) := dk_180 0 102 (dk_at dksX1_county_4 11 rfl rfl)
theorem dX1_county_109 : decode cX1_county 109 = .ok (.getfield 126, 3) := dk_180 0 126 (dk_at dksX1_county_4 14 rfl rfl)
theorem dX1_county_112 : decode cX1_county 112 = .ok (.ireturn, 1) := dk_172 (dk_at dksX1_county_4 17 rfl rfl)
abbrev cX1_anew : ByteArray := prog_1_method_7_code
def yX1_anew : MethodName := ⟨RX1, "anew", "()V"⟩
def dkwX1_anew_0 : List UInt8 := [42, 3, 181, 0, 74, 42, 2, 181, 0, 26, 177]
abbrev dktX1_anew_0 : List UInt8 := dkwX1_anew_0 ++ []
theorem dksX1_anew_0 : cX1_anew.data.toList.drop 0 = dktX1_anew_0 := by decide +kernel
theorem dX1_anew_0 : decode cX1_anew 0 = .ok (.aload_n 0, 1) := dk_42 (dk_at dksX1_anew_0 0 rfl rfl)
theorem dX1_anew_1 : decode cX1_anew 1 = .ok (.iconst 0, 1) := dk_3 (dk_at dksX1_anew_0 1 rfl rfl)
theorem dX1_anew_2 : decode cX1_anew 2 = .ok (.putfield 74, 3) := dk_181 0 74 (dk_at dksX1_anew_0 2 rfl rfl)
theorem dX1_anew_5 : decode cX1_anew 5 = .ok (.aload_n 0, 1) := dk_42 (dk_at dksX1_anew_0 5 rfl rfl)
theorem dX1_anew_6 : decode cX1_anew 6 = .ok (.iconst (-1), 1) := dk_2 (dk_at dksX1_anew_0 6 rfl rfl)
theorem dX1_anew_7 : decode cX1_anew 7 = .ok (.putfield 26, 3) := dk_181 0 26 (dk_at dksX1_anew_0 7 rfl rfl)
theorem dX1_anew_10 : decode cX1_anew 10 = .ok (.return_, 1) := dk_177 (dk_at dksX1_anew_0 10 rfl rfl)
abbrev cX1_in : ByteArray := prog_1_method_1_code
def yX1_in : MethodName := ⟨RX1, "in", "(III)Z"⟩
def dkwX1_in_0 : List UInt8 := [26, 27, 161, 0, 12, 26, 28, 163, 0, 7, 4, 167, 0, 4, 3, 172]
abbrev dktX1_in_0 : List UInt8 := dkwX1_in_0 ++ []
theorem dksX1_in_0 : cX1_in.data.toList.drop 0 = dktX1_in_0 := by decide +kernel
theorem dX1_in_0 : decode cX1_in 0 = .ok (.iload_n 0, 1) := dk_26 (dk_at dksX1_in_0 0 rfl rfl)
theorem dX1_in_1 : decode cX1_in 1 = .ok (.iload_n 1, 1) := dk_27 (dk_at dksX1_in_0 1 rfl rfl)
theorem dX1_in_2 : decode cX1_in 2 = .ok (.if_icmp .lt 12, 3) := dk_161 0 12 (dk_at dksX1_in_0 2 rfl rfl)
theorem dX1_in_5 : decode cX1_in 5 = .ok (.iload_n 0, 1) := dk_26 (dk_at dksX1_in_0 5 rfl rfl)
theorem dX1_in_6 : decode cX1_in 6 = .ok (.iload_n 2, 1) := dk_28 (dk_at dksX1_in_0 6 rfl rfl)
theorem dX1_in_7 : decode cX1_in 7 = .ok (.if_icmp .gt 7, 3) := dk_163 0 7 (dk_at dksX1_in_0 7 rfl rfl)
theorem dX1_in_10 : decode cX1_in 10 = .ok (.iconst 1, 1) := dk_4 (dk_at dksX1_in_0 10 rfl rfl)
theorem dX1_in_11 : decode cX1_in 11 = .ok (.goto 4, 3) := dk_167 0 4 (dk_at dksX1_in_0 11 rfl rfl)
theorem dX1_in_14 : decode cX1_in 14 = .ok (.iconst 0, 1) := dk_3 (dk_at dksX1_in_0 14 rfl rfl)
theorem dX1_in_15 : decode cX1_in 15 = .ok (.ireturn, 1) := dk_172 (dk_at dksX1_in_0 15 rfl rfl)
abbrev cX1_no : ByteArray := prog_1_method_8_code
def yX1_no : MethodName := ⟨RX1, "no", "(I)I"⟩
def dkwX1_no_0 : List UInt8 := [42, 27, 181, 0, 74, 2, 172]
abbrev dktX1_no_0 : List UInt8 := dkwX1_no_0 ++ []
theorem dksX1_no_0 : cX1_no.data.toList.drop 0 = dktX1_no_0 := by decide +kernel
theorem dX1_no_0 : decode cX1_no 0 = .ok (.aload_n 0, 1) := dk_42 (dk_at dksX1_no_0 0 rfl rfl)
theorem dX1_no_1 : decode cX1_no 1 = .ok (.iload_n 1, 1) := dk_27 (dk_at dksX1_no_0 1 rfl rfl)
theorem dX1_no_2 : decode cX1_no 2 = .ok (.putfield 74, 3) := dk_181 0 74 (dk_at dksX1_no_0 2 rfl rfl)
theorem dX1_no_5 : decode cX1_no 5 = .ok (.iconst (-1), 1) := dk_2 (dk_at dksX1_no_0 5 rfl rfl)
theorem dX1_no_6 : decode cX1_no 6 = .ok (.ireturn, 1) := dk_172 (dk_at dksX1_no_0 6 rfl rfl)
abbrev cX1_ones : ByteArray := prog_1_method_3_code
def yX1_ones : MethodName := ⟨RX1, "ones", "(I)I"⟩
def dkwX1_ones_0 : List UInt8 := [3, 60, 26, 61, 28, 153, 0, 15, 132, 1, 1, 28, 28, 4, 100, 126, 61, 167, 255, 243, 27, 172]
abbrev dktX1_ones_0 : List UInt8 := dkwX1_ones_0 ++ []
theorem dksX1_ones_0 : cX1_ones.data.toList.drop 0 = dktX1_ones_0 := by decide +kernel
theorem dX1_ones_0 : decode cX1_ones 0 = .ok (.iconst 0, 1) := dk_3 (dk_at dksX1_ones_0 0 rfl rfl)
theorem dX1_ones_1 : decode cX1_ones 1 = .ok (.istore_n 1, 1) := dk_60 (dk_at dksX1_ones_0 1 rfl rfl)
theorem dX1_ones_2 : decode cX1_ones 2 = .ok (.iload_n 0, 1) := dk_26 (dk_at dksX1_ones_0 2 rfl rfl)
theorem dX1_ones_3 : decode cX1_ones 3 = .ok (.istore_n 2, 1) := dk_61 (dk_at dksX1_ones_0 3 rfl rfl)
theorem dX1_ones_4 : decode cX1_ones 4 = .ok (.iload_n 2, 1) := dk_28 (dk_at dksX1_ones_0 4 rfl rfl)
theorem dX1_ones_5 : decode cX1_ones 5 = .ok (.ifCond .eq 15, 3) := dk_153 0 15 (dk_at dksX1_ones_0 5 rfl rfl)
theorem dX1_ones_8 : decode cX1_ones 8 = .ok (.iinc 1 1, 3) := dk_132 1 1 (dk_at dksX1_ones_0 8 rfl rfl)
theorem dX1_ones_11 : decode cX1_ones 11 = .ok (.iload_n 2, 1) := dk_28 (dk_at dksX1_ones_0 11 rfl rfl)
theorem dX1_ones_12 : decode cX1_ones 12 = .ok (.iload_n 2, 1) := dk_28 (dk_at dksX1_ones_0 12 rfl rfl)
theorem dX1_ones_13 : decode cX1_ones 13 = .ok (.iconst 1, 1) := dk_4 (dk_at dksX1_ones_0 13 rfl rfl)
theorem dX1_ones_14 : decode cX1_ones 14 = .ok (.isub, 1) := dk_100 (dk_at dksX1_ones_0 14 rfl rfl)
theorem dX1_ones_15 : decode cX1_ones 15 = .ok (.iand, 1) := dk_126 (dk_at dksX1_ones_0 15 rfl rfl)
theorem dX1_ones_16 : decode cX1_ones 16 = .ok (.istore_n 2, 1) := dk_61 (dk_at dksX1_ones_0 16 rfl rfl)
theorem dX1_ones_17 : decode cX1_ones 17 = .ok (.goto (-13), 3) := dk_167 255 243 (dk_at dksX1_ones_0 17 rfl rfl)
theorem dX1_ones_20 : decode cX1_ones 20 = .ok (.iload_n 1, 1) := dk_27 (dk_at dksX1_ones_0 20 rfl rfl)
theorem dX1_ones_21 : decode cX1_ones 21 = .ok (.ireturn, 1) := dk_172 (dk_at dksX1_ones_0 21 rfl rfl)
abbrev cX1_has : ByteArray := prog_1_method_2_code
def yX1_has : MethodName := ⟨RX1, "has", "(II)Z"⟩
def dkwX1_has_0 : List UInt8 := [26, 27, 122, 4, 126, 4, 160, 0, 7, 4, 167, 0, 4, 3, 172]
abbrev dktX1_has_0 : List UInt8 := dkwX1_has_0 ++ []
theorem dksX1_has_0 : cX1_has.data.toList.drop 0 = dktX1_has_0 := by decide +kernel
theorem dX1_has_0 : decode cX1_has 0 = .ok (.iload_n 0, 1) := dk_26 (dk_at dksX1_has_0 0 rfl rfl)
theorem dX1_has_1 : decode cX1_has 1 = .ok (.iload_n 1, 1) := dk_27 (dk_at dksX1_has_0 1 rfl rfl)
theorem dX1_has_2 : decode cX1_has 2 = .ok (.ishr, 1) := dk_122 (dk_at dksX1_has_0 2 rfl rfl)
theorem dX1_has_3 : decode cX1_has 3 = .ok (.iconst 1, 1) := dk_4 (dk_at dksX1_has_0 3 rfl rfl)
theorem dX1_has_4 : decode cX1_has 4 = .ok (.iand, 1) := dk_126 (dk_at dksX1_has_0 4 rfl rfl)
theorem dX1_has_5 : decode cX1_has 5 = .ok (.iconst 1, 1) := dk_4 (dk_at dksX1_has_0 5 rfl rfl)
theorem dX1_has_6 : decode cX1_has 6 = .ok (.if_icmp .ne 7, 3) := dk_160 0 7 (dk_at dksX1_has_0 6 rfl rfl)
theorem dX1_has_9 : decode cX1_has 9 = .ok (.iconst 1, 1) := dk_4 (dk_at dksX1_has_0 9 rfl rfl)
theorem dX1_has_10 : decode cX1_has 10 = .ok (.goto 4, 3) := dk_167 0 4 (dk_at dksX1_has_0 10 rfl rfl)
theorem dX1_has_13 : decode cX1_has 13 = .ok (.iconst 0, 1) := dk_3 (dk_at dksX1_has_0 13 rfl rfl)
theorem dX1_has_14 : decode cX1_has 14 = .ok (.ireturn, 1) := dk_172 (dk_at dksX1_has_0 14 rfl rfl)
abbrev cX1_fault : ByteArray := prog_1_method_13_code
def yX1_fault : MethodName := ⟨RX1, "fault", "()I"⟩
theorem dX1_fault_0 : decode cX1_fault 0 = .ok (.aload_n 0, 1) := by decide +kernel
theorem dX1_fault_1 : decode cX1_fault 1 = .ok (.getfield 95, 3) := by decide +kernel
theorem dX1_fault_4 : decode cX1_fault 4 = .ok (.ireturn, 1) := by decide +kernel
abbrev cX1_where : ByteArray := prog_1_method_14_code
def yX1_where : MethodName := ⟨RX1, "where", "()I"⟩
def dkwX1_where_0 : List UInt8 := [42, 180, 0, 74, 7, 160, 0, 10, 42, 180, 0, 26, 167, 0, 4, 2, 172]
abbrev dktX1_where_0 : List UInt8 := dkwX1_where_0 ++ []
theorem dksX1_where_0 : cX1_where.data.toList.drop 0 = dktX1_where_0 := by decide +kernel
theorem dX1_where_0 : decode cX1_where 0 = .ok (.aload_n 0, 1) := dk_42 (dk_at dksX1_where_0 0 rfl rfl)
theorem dX1_where_1 : decode cX1_where 1 = .ok (.getfield 74, 3) := dk_180 0 74 (dk_at dksX1_where_0 1 rfl rfl)
theorem dX1_where_4 : decode cX1_where 4 = .ok (.iconst 4, 1) := dk_7 (dk_at dksX1_where_0 4 rfl rfl)
theorem dX1_where_5 : decode cX1_where 5 = .ok (.if_icmp .ne 10, 3) := dk_160 0 10 (dk_at dksX1_where_0 5 rfl rfl)
theorem dX1_where_8 : decode cX1_where 8 = .ok (.aload_n 0, 1) := dk_42 (dk_at dksX1_where_0 8 rfl rfl)
theorem dX1_where_9 : decode cX1_where 9 = .ok (.getfield 26, 3) := dk_180 0 26 (dk_at dksX1_where_0 9 rfl rfl)
theorem dX1_where_12 : decode cX1_where 12 = .ok (.goto 4, 3) := dk_167 0 4 (dk_at dksX1_where_0 12 rfl rfl)
theorem dX1_where_15 : decode cX1_where 15 = .ok (.iconst (-1), 1) := dk_2 (dk_at dksX1_where_0 15 rfl rfl)
theorem dX1_where_16 : decode cX1_where 16 = .ok (.ireturn, 1) := dk_172 (dk_at dksX1_where_0 16 rfl rfl)
abbrev cX1_umbrella : ByteArray := prog_1_method_17_code
def yX1_umbrella : MethodName := ⟨RX1, "umbrella", "(II)I"⟩
def dkwX1_umbrella_4 : List UInt8 := [172, 42, 180, 0, 33, 180, 0, 158, 27, 46, 172, 42, 4, 182, 0, 91, 172]
abbrev dktX1_umbrella_4 : List UInt8 := dkwX1_umbrella_4 ++ []
def dkwX1_umbrella_3 : List UInt8 := [45, 182, 0, 142, 172, 45, 180, 0, 148, 172, 45, 180, 0, 151, 172, 42, 180, 0, 33, 180, 0, 154, 27, 46]
abbrev dktX1_umbrella_3 : List UInt8 := dkwX1_umbrella_3 ++ dktX1_umbrella_4
def dkwX1_umbrella_2 : List UInt8 := [170, 0, 0, 0, 0, 0, 70, 0, 0, 0, 0, 0, 0, 0, 4, 0, 0, 0, 35, 0, 0, 0, 40, 0, 0, 0, 45, 0, 0, 0, 50, 0, 0, 0, 60]
abbrev dktX1_umbrella_2 : List UInt8 := dkwX1_umbrella_2 ++ dktX1_umbrella_3
def dkwX1_umbrella_1 : List UInt8 := [180, 0, 138, 27, 50, 78, 28]
abbrev dktX1_umbrella_1 : List UInt8 := dkwX1_umbrella_1 ++ dktX1_umbrella_2
def dkwX1_umbrella_0 : List UInt8 := [42, 182, 0, 77, 42, 27, 182, 0, 134, 154, 0, 9, 42, 4, 182, 0, 91, 172, 42, 180, 0, 102]
abbrev dktX1_umbrella_0 : List UInt8 := dkwX1_umbrella_0 ++ dktX1_umbrella_1
theorem dksX1_umbrella_0 : cX1_umbrella.data.toList.drop 0 = dktX1_umbrella_0 := by decide +kernel
theorem dksX1_umbrella_1 : cX1_umbrella.data.toList.drop 22 = dktX1_umbrella_1 := dk_seg dksX1_umbrella_0 22 rfl rfl
theorem dksX1_umbrella_2 : cX1_umbrella.data.toList.drop 29 = dktX1_umbrella_2 := dk_seg dksX1_umbrella_1 7 rfl rfl
theorem dksX1_umbrella_3 : cX1_umbrella.data.toList.drop 64 = dktX1_umbrella_3 := dk_seg dksX1_umbrella_2 35 rfl rfl
theorem dksX1_umbrella_4 : cX1_umbrella.data.toList.drop 88 = dktX1_umbrella_4 := dk_seg dksX1_umbrella_3 24 rfl rfl
theorem dX1_umbrella_0 : decode cX1_umbrella 0 = .ok (.aload_n 0, 1) := dk_42 (dk_at dksX1_umbrella_0 0 rfl rfl)
theorem dX1_umbrella_1 : decode cX1_umbrella 1 = .ok (.invokevirtual 77, 3) := dk_182 0 77 (dk_at dksX1_umbrella_0 1 rfl rfl)
theorem dX1_umbrella_4 : decode cX1_umbrella 4 = .ok (.aload_n 0, 1) := dk_42 (dk_at dksX1_umbrella_0 4 rfl rfl)
theorem dX1_umbrella_5 : decode cX1_umbrella 5 = .ok (.iload_n 1, 1) := dk_27 (dk_at dksX1_umbrella_0 5 rfl rfl)
theorem dX1_umbrella_6 : decode cX1_umbrella 6 = .ok (.invokevirtual 134, 3) := dk_182 0 134 (dk_at dksX1_umbrella_0 6 rfl rfl)
theorem dX1_umbrella_9 : decode cX1_umbrella 9 = .ok (.ifCond .ne 9, 3) := dk_154 0 9 (dk_at dksX1_umbrella_0 9 rfl rfl)
theorem dX1_umbrella_12 : decode cX1_umbrella 12 = .ok (.aload_n 0, 1) := dk_42 (dk_at dksX1_umbrella_0 12 rfl rfl)
theorem dX1_umbrella_13 : decode cX1_umbrella 13 = .ok (.iconst 1, 1) := dk_4 (dk_at dksX1_umbrella_0 13 rfl rfl)
theorem dX1_umbrella_14 : decode cX1_umbrella 14 = .ok (.invokevirtual 91, 3) := dk_182 0 91 (dk_at dksX1_umbrella_0 14 rfl rfl)
theorem dX1_umbrella_17 : decode cX1_umbrella 17 = .ok (.ireturn, 1) := dk_172 (dk_at dksX1_umbrella_0 17 rfl rfl)
theorem dX1_umbrella_18 : decode cX1_umbrella 18 = .ok (.aload_n 0, 1) := dk_42 (dk_at dksX1_umbrella_0 18 rfl rfl)
theorem dX1_umbrella_19 : decode cX1_umbrella 19 = .ok (.getfield 102, 3) := dk_180 0 102 (dk_at dksX1_umbrella_0 19 rfl rfl)
theorem dX1_umbrella_22 : decode cX1_umbrella 22 = .ok (.getfield 138, 3) := dk_180 0 138 (dk_at dksX1_umbrella_1 0 rfl rfl)
theorem dX1_umbrella_25 : decode cX1_umbrella 25 = .ok (.iload_n 1, 1) := dk_27 (dk_at dksX1_umbrella_1 3 rfl rfl)
theorem dX1_umbrella_26 : decode cX1_umbrella 26 = .ok (.aaload, 1) := dk_50 (dk_at dksX1_umbrella_1 4 rfl rfl)
theorem dX1_umbrella_27 : decode cX1_umbrella 27 = .ok (.astore_n 3, 1) := dk_78 (dk_at dksX1_umbrella_1 5 rfl rfl)
theorem dX1_umbrella_28 : decode cX1_umbrella 28 = .ok (.iload_n 2, 1) := dk_28 (dk_at dksX1_umbrella_1 6 rfl rfl)
theorem dX1_umbrella_29 : decode cX1_umbrella 29 = .ok (.tableswitch 70 0 4 #[35, 40, 45, 50, 60], 35) := by decide +kernel
theorem dX1_umbrella_64 : decode cX1_umbrella 64 = .ok (.aload_n 3, 1) := dk_45 (dk_at dksX1_umbrella_3 0 rfl rfl)
theorem dX1_umbrella_65 : decode cX1_umbrella 65 = .ok (.invokevirtual 142, 3) := dk_182 0 142 (dk_at dksX1_umbrella_3 1 rfl rfl)
theorem dX1_umbrella_68 : decode cX1_umbrella 68 = .ok (.ireturn, 1) := dk_172 (dk_at dksX1_umbrella_3 4 rfl rfl)
theorem dX1_umbrella_69 : decode cX1_umbrella 69 = .ok (.aload_n 3, 1) := dk_45 (dk_at dksX1_umbrella_3 5 rfl rfl)
theorem dX1_umbrella_70 : decode cX1_umbrella 70 = .ok (.getfield 148, 3) := dk_180 0 148 (dk_at dksX1_umbrella_3 6 rfl rfl)
theorem dX1_umbrella_73 : decode cX1_umbrella 73 = .ok (.ireturn, 1) := dk_172 (dk_at dksX1_umbrella_3 9 rfl rfl)
theorem dX1_umbrella_74 : decode cX1_umbrella 74 = .ok (.aload_n 3, 1) := dk_45 (dk_at dksX1_umbrella_3 10 rfl rfl)
theorem dX1_umbrella_75 : decode cX1_umbrella 75 = .ok (.getfield 151, 3) := dk_180 0 151 (dk_at dksX1_umbrella_3 11 rfl rfl)
theorem dX1_umbrella_78 : decode cX1_umbrella 78 = .ok (.ireturn, 1) := dk_172 (dk_at dksX1_umbrella_3 14 rfl rfl)
theorem dX1_umbrella_79 : decode cX1_umbrella 79 = .ok (.aload_n 0, 1) := dk_42 (dk_at dksX1_umbrella_3 15 rfl rfl)
theorem dX1_umbrella_80 : decode cX1_umbrella 80 = .ok (.getfield 33, 3) := dk_180 0 33 (dk_at dksX1_umbrella_3 16 rfl rfl)
theorem dX1_umbrella_83 : decode cX1_umbrella 83 = .ok (.getfield 154, 3) := dk_180 0 154 (dk_at dksX1_umbrella_3 19 rfl rfl)
theorem dX1_umbrella_86 : decode cX1_umbrella 86 = .ok (.iload_n 1, 1) := dk_27 (dk_at dksX1_umbrella_3 22 rfl rfl)
theorem dX1_umbrella_87 : decode cX1_umbrella 87 = .ok (.iaload, 1) := dk_46 (dk_at dksX1_umbrella_3 23 rfl rfl)
theorem dX1_umbrella_88 : decode cX1_umbrella 88 = .ok (.ireturn, 1) := dk_172 (dk_at dksX1_umbrella_4 0 rfl rfl)
theorem dX1_umbrella_89 : decode cX1_umbrella 89 = .ok (.aload_n 0, 1) := dk_42 (dk_at dksX1_umbrella_4 1 rfl rfl)
theorem dX1_umbrella_90 : decode cX1_umbrella 90 = .ok (.getfield 33, 3) := dk_180 0 33 (dk_at dksX1_umbrella_4 2 rfl rfl)
theorem dX1_umbrella_93 : decode cX1_umbrella 93 = .ok (.getfield 158, 3) := dk_180 0 158 (dk_at dksX1_umbrella_4 5 rfl rfl)
theorem dX1_umbrella_96 : decode cX1_umbrella 96 = .ok (.iload_n 1, 1) := dk_27 (dk_at dksX1_umbrella_4 8 rfl rfl)
theorem dX1_umbrella_97 : decode cX1_umbrella 97 = .ok (.iaload, 1) := dk_46 (dk_at dksX1_umbrella_4 9 rfl rfl)
theorem dX1_umbrella_98 : decode cX1_umbrella 98 = .ok (.ireturn, 1) := dk_172 (dk_at dksX1_umbrella_4 10 rfl rfl)
theorem dX1_umbrella_99 : decode cX1_umbrella 99 = .ok (.aload_n 0, 1) := dk_42 (dk_at dksX1_umbrella_4 11 rfl rfl)
theorem dX1_umbrella_100 : decode cX1_umbrella 100 = .ok (.iconst 1, 1) := dk_4 (dk_at dksX1_umbrella_4 12 rfl rfl)
theorem dX1_umbrella_101 : decode cX1_umbrella 101 = .ok (.invokevirtual 91, 3) := dk_182 0 91 (dk_at dksX1_umbrella_4 13 rfl rfl)
theorem dX1_umbrella_104 : decode cX1_umbrella 104 = .ok (.ireturn, 1) := dk_172 (dk_at dksX1_umbrella_4 16 rfl rfl)
abbrev cX1_isUmbrella : ByteArray := prog_1_method_15_code
def yX1_isUmbrella : MethodName := ⟨RX1, "isUmbrella", "(I)Z"⟩
def dkwX1_isUmbrella_1 : List UInt8 := [4, 167, 0, 4, 3, 172]
abbrev dktX1_isUmbrella_1 : List UInt8 := dkwX1_isUmbrella_1 ++ []
def dkwX1_isUmbrella_0 : List UInt8 := [42, 180, 0, 102, 198, 0, 24, 27, 3, 42, 180, 0, 102, 180, 0, 126, 4, 100, 184, 0, 87, 153, 0, 7]
abbrev dktX1_isUmbrella_0 : List UInt8 := dkwX1_isUmbrella_0 ++ dktX1_isUmbrella_1
theorem dksX1_isUmbrella_0 : cX1_isUmbrella.data.toList.drop 0 = dktX1_isUmbrella_0 := by decide +kernel
theorem dksX1_isUmbrella_1 : cX1_isUmbrella.data.toList.drop 24 = dktX1_isUmbrella_1 := dk_seg dksX1_isUmbrella_0 24 rfl rfl
theorem dX1_isUmbrella_0 : decode cX1_isUmbrella 0 = .ok (.aload_n 0, 1) := dk_42 (dk_at dksX1_isUmbrella_0 0 rfl rfl)
theorem dX1_isUmbrella_1 : decode cX1_isUmbrella 1 = .ok (.getfield 102, 3) := dk_180 0 102 (dk_at dksX1_isUmbrella_0 1 rfl rfl)
theorem dX1_isUmbrella_4 : decode cX1_isUmbrella 4 = .ok (.ifnull 24, 3) := dk_198 0 24 (dk_at dksX1_isUmbrella_0 4 rfl rfl)
theorem dX1_isUmbrella_7 : decode cX1_isUmbrella 7 = .ok (.iload_n 1, 1) := dk_27 (dk_at dksX1_isUmbrella_0 7 rfl rfl)
theorem dX1_isUmbrella_8 : decode cX1_isUmbrella 8 = .ok (.iconst 0, 1) := dk_3 (dk_at dksX1_isUmbrella_0 8 rfl rfl)
theorem dX1_isUmbrella_9 : decode cX1_isUmbrella 9 = .ok (.aload_n 0, 1) := dk_42 (dk_at dksX1_isUmbrella_0 9 rfl rfl)
theorem dX1_isUmbrella_10 : decode cX1_isUmbrella 10 = .ok (.getfield 102, 3) := dk_180 0 102 (dk_at dksX1_isUmbrella_0 10 rfl rfl)
theorem dX1_isUmbrella_13 : decode cX1_isUmbrella 13 = .ok (.getfield 126, 3) := dk_180 0 126 (dk_at dksX1_isUmbrella_0 13 rfl rfl)
theorem dX1_isUmbrella_16 : decode cX1_isUmbrella 16 = .ok (.iconst 1, 1) := dk_4 (dk_at dksX1_isUmbrella_0 16 rfl rfl)
theorem dX1_isUmbrella_17 : decode cX1_isUmbrella 17 = .ok (.isub, 1) := dk_100 (dk_at dksX1_isUmbrella_0 17 rfl rfl)
theorem dX1_isUmbrella_18 : decode cX1_isUmbrella 18 = .ok (.invokestatic 87, 3) := dk_184 0 87 (dk_at dksX1_isUmbrella_0 18 rfl rfl)
theorem dX1_isUmbrella_21 : decode cX1_isUmbrella 21 = .ok (.ifCond .eq 7, 3) := dk_153 0 7 (dk_at dksX1_isUmbrella_0 21 rfl rfl)
theorem dX1_isUmbrella_24 : decode cX1_isUmbrella 24 = .ok (.iconst 1, 1) := dk_4 (dk_at dksX1_isUmbrella_1 0 rfl rfl)
theorem dX1_isUmbrella_25 : decode cX1_isUmbrella 25 = .ok (.goto 4, 3) := dk_167 0 4 (dk_at dksX1_isUmbrella_1 1 rfl rfl)
theorem dX1_isUmbrella_28 : decode cX1_isUmbrella 28 = .ok (.iconst 0, 1) := dk_3 (dk_at dksX1_isUmbrella_1 4 rfl rfl)
theorem dX1_isUmbrella_29 : decode cX1_isUmbrella 29 = .ok (.ireturn, 1) := dk_172 (dk_at dksX1_isUmbrella_1 5 rfl rfl)
abbrev cX1_person : ByteArray := prog_1_method_18_code
def yX1_person : MethodName := ⟨RX1, "person", "(II)I"⟩
def dkwX1_person_3 : List UInt8 := [180, 0, 33, 27, 182, 0, 176, 172, 42, 4, 182, 0, 91, 172]
abbrev dktX1_person_3 : List UInt8 := dkwX1_person_3 ++ []
def dkwX1_person_2 : List UInt8 := [42, 180, 0, 102, 180, 0, 164, 27, 50, 182, 0, 168, 172, 42, 180, 0, 33, 27, 182, 0, 173, 172, 42]
abbrev dktX1_person_2 : List UInt8 := dkwX1_person_2 ++ dktX1_person_3
def dkwX1_person_1 : List UInt8 := [170, 0, 0, 0, 56, 0, 0, 0, 0, 0, 0, 0, 2, 0, 0, 0, 25, 0, 0, 0, 38, 0, 0, 0, 47]
abbrev dktX1_person_1 : List UInt8 := dkwX1_person_1 ++ dktX1_person_2
def dkwX1_person_0 : List UInt8 := [42, 182, 0, 77, 42, 27, 182, 0, 161, 154, 0, 9, 42, 4, 182, 0, 91, 172, 28]
abbrev dktX1_person_0 : List UInt8 := dkwX1_person_0 ++ dktX1_person_1
theorem dksX1_person_0 : cX1_person.data.toList.drop 0 = dktX1_person_0 := by decide +kernel
theorem dksX1_person_1 : cX1_person.data.toList.drop 19 = dktX1_person_1 := dk_seg dksX1_person_0 19 rfl rfl
theorem dksX1_person_2 : cX1_person.data.toList.drop 44 = dktX1_person_2 := dk_seg dksX1_person_1 25 rfl rfl
theorem dksX1_person_3 : cX1_person.data.toList.drop 67 = dktX1_person_3 := dk_seg dksX1_person_2 23 rfl rfl
theorem dX1_person_0 : decode cX1_person 0 = .ok (.aload_n 0, 1) := dk_42 (dk_at dksX1_person_0 0 rfl rfl)
theorem dX1_person_1 : decode cX1_person 1 = .ok (.invokevirtual 77, 3) := dk_182 0 77 (dk_at dksX1_person_0 1 rfl rfl)
theorem dX1_person_4 : decode cX1_person 4 = .ok (.aload_n 0, 1) := dk_42 (dk_at dksX1_person_0 4 rfl rfl)
theorem dX1_person_5 : decode cX1_person 5 = .ok (.iload_n 1, 1) := dk_27 (dk_at dksX1_person_0 5 rfl rfl)
theorem dX1_person_6 : decode cX1_person 6 = .ok (.invokevirtual 161, 3) := dk_182 0 161 (dk_at dksX1_person_0 6 rfl rfl)
theorem dX1_person_9 : decode cX1_person 9 = .ok (.ifCond .ne 9, 3) := dk_154 0 9 (dk_at dksX1_person_0 9 rfl rfl)
theorem dX1_person_12 : decode cX1_person 12 = .ok (.aload_n 0, 1) := dk_42 (dk_at dksX1_person_0 12 rfl rfl)
theorem dX1_person_13 : decode cX1_person 13 = .ok (.iconst 1, 1) := dk_4 (dk_at dksX1_person_0 13 rfl rfl)
theorem dX1_person_14 : decode cX1_person 14 = .ok (.invokevirtual 91, 3) := dk_182 0 91 (dk_at dksX1_person_0 14 rfl rfl)
theorem dX1_person_17 : decode cX1_person 17 = .ok (.ireturn, 1) := dk_172 (dk_at dksX1_person_0 17 rfl rfl)
theorem dX1_person_18 : decode cX1_person 18 = .ok (.iload_n 2, 1) := dk_28 (dk_at dksX1_person_0 18 rfl rfl)
theorem dX1_person_19 : decode cX1_person 19 = .ok (.tableswitch 56 0 2 #[25, 38, 47], 25) := by decide +kernel
theorem dX1_person_44 : decode cX1_person 44 = .ok (.aload_n 0, 1) := dk_42 (dk_at dksX1_person_2 0 rfl rfl)
theorem dX1_person_45 : decode cX1_person 45 = .ok (.getfield 102, 3) := dk_180 0 102 (dk_at dksX1_person_2 1 rfl rfl)
theorem dX1_person_48 : decode cX1_person 48 = .ok (.getfield 164, 3) := dk_180 0 164 (dk_at dksX1_person_2 4 rfl rfl)
theorem dX1_person_51 : decode cX1_person 51 = .ok (.iload_n 1, 1) := dk_27 (dk_at dksX1_person_2 7 rfl rfl)
theorem dX1_person_52 : decode cX1_person 52 = .ok (.aaload, 1) := dk_50 (dk_at dksX1_person_2 8 rfl rfl)
theorem dX1_person_53 : decode cX1_person 53 = .ok (.invokevirtual 168, 3) := dk_182 0 168 (dk_at dksX1_person_2 9 rfl rfl)
theorem dX1_person_56 : decode cX1_person 56 = .ok (.ireturn, 1) := dk_172 (dk_at dksX1_person_2 12 rfl rfl)
theorem dX1_person_57 : decode cX1_person 57 = .ok (.aload_n 0, 1) := dk_42 (dk_at dksX1_person_2 13 rfl rfl)
theorem dX1_person_58 : decode cX1_person 58 = .ok (.getfield 33, 3) := dk_180 0 33 (dk_at dksX1_person_2 14 rfl rfl)
theorem dX1_person_61 : decode cX1_person 61 = .ok (.iload_n 1, 1) := dk_27 (dk_at dksX1_person_2 17 rfl rfl)
theorem dX1_person_62 : decode cX1_person 62 = .ok (.invokevirtual 173, 3) := dk_182 0 173 (dk_at dksX1_person_2 18 rfl rfl)
theorem dX1_person_65 : decode cX1_person 65 = .ok (.ireturn, 1) := dk_172 (dk_at dksX1_person_2 21 rfl rfl)
theorem dX1_person_66 : decode cX1_person 66 = .ok (.aload_n 0, 1) := dk_42 (dk_at dksX1_person_2 22 rfl rfl)
theorem dX1_person_67 : decode cX1_person 67 = .ok (.getfield 33, 3) := dk_180 0 33 (dk_at dksX1_person_3 0 rfl rfl)
theorem dX1_person_70 : decode cX1_person 70 = .ok (.iload_n 1, 1) := dk_27 (dk_at dksX1_person_3 3 rfl rfl)
theorem dX1_person_71 : decode cX1_person 71 = .ok (.invokevirtual 176, 3) := dk_182 0 176 (dk_at dksX1_person_3 4 rfl rfl)
theorem dX1_person_74 : decode cX1_person 74 = .ok (.ireturn, 1) := dk_172 (dk_at dksX1_person_3 7 rfl rfl)
theorem dX1_person_75 : decode cX1_person 75 = .ok (.aload_n 0, 1) := dk_42 (dk_at dksX1_person_3 8 rfl rfl)
theorem dX1_person_76 : decode cX1_person 76 = .ok (.iconst 1, 1) := dk_4 (dk_at dksX1_person_3 9 rfl rfl)
theorem dX1_person_77 : decode cX1_person 77 = .ok (.invokevirtual 91, 3) := dk_182 0 91 (dk_at dksX1_person_3 10 rfl rfl)
theorem dX1_person_80 : decode cX1_person 80 = .ok (.ireturn, 1) := dk_172 (dk_at dksX1_person_3 13 rfl rfl)
abbrev cX1_isPerson : ByteArray := prog_1_method_16_code
def yX1_isPerson : MethodName := ⟨RX1, "isPerson", "(I)Z"⟩
def dkwX1_isPerson_1 : List UInt8 := [4, 167, 0, 4, 3, 172]
abbrev dktX1_isPerson_1 : List UInt8 := dkwX1_isPerson_1 ++ []
def dkwX1_isPerson_0 : List UInt8 := [42, 180, 0, 102, 198, 0, 24, 27, 3, 42, 180, 0, 102, 180, 0, 131, 4, 100, 184, 0, 87, 153, 0, 7]
abbrev dktX1_isPerson_0 : List UInt8 := dkwX1_isPerson_0 ++ dktX1_isPerson_1
theorem dksX1_isPerson_0 : cX1_isPerson.data.toList.drop 0 = dktX1_isPerson_0 := by decide +kernel
theorem dksX1_isPerson_1 : cX1_isPerson.data.toList.drop 24 = dktX1_isPerson_1 := dk_seg dksX1_isPerson_0 24 rfl rfl
theorem dX1_isPerson_0 : decode cX1_isPerson 0 = .ok (.aload_n 0, 1) := dk_42 (dk_at dksX1_isPerson_0 0 rfl rfl)
theorem dX1_isPerson_1 : decode cX1_isPerson 1 = .ok (.getfield 102, 3) := dk_180 0 102 (dk_at dksX1_isPerson_0 1 rfl rfl)
theorem dX1_isPerson_4 : decode cX1_isPerson 4 = .ok (.ifnull 24, 3) := dk_198 0 24 (dk_at dksX1_isPerson_0 4 rfl rfl)
theorem dX1_isPerson_7 : decode cX1_isPerson 7 = .ok (.iload_n 1, 1) := dk_27 (dk_at dksX1_isPerson_0 7 rfl rfl)
theorem dX1_isPerson_8 : decode cX1_isPerson 8 = .ok (.iconst 0, 1) := dk_3 (dk_at dksX1_isPerson_0 8 rfl rfl)
theorem dX1_isPerson_9 : decode cX1_isPerson 9 = .ok (.aload_n 0, 1) := dk_42 (dk_at dksX1_isPerson_0 9 rfl rfl)
theorem dX1_isPerson_10 : decode cX1_isPerson 10 = .ok (.getfield 102, 3) := dk_180 0 102 (dk_at dksX1_isPerson_0 10 rfl rfl)
theorem dX1_isPerson_13 : decode cX1_isPerson 13 = .ok (.getfield 131, 3) := dk_180 0 131 (dk_at dksX1_isPerson_0 13 rfl rfl)
theorem dX1_isPerson_16 : decode cX1_isPerson 16 = .ok (.iconst 1, 1) := dk_4 (dk_at dksX1_isPerson_0 16 rfl rfl)
theorem dX1_isPerson_17 : decode cX1_isPerson 17 = .ok (.isub, 1) := dk_100 (dk_at dksX1_isPerson_0 17 rfl rfl)
theorem dX1_isPerson_18 : decode cX1_isPerson 18 = .ok (.invokestatic 87, 3) := dk_184 0 87 (dk_at dksX1_isPerson_0 18 rfl rfl)
theorem dX1_isPerson_21 : decode cX1_isPerson 21 = .ok (.ifCond .eq 7, 3) := dk_153 0 7 (dk_at dksX1_isPerson_0 21 rfl rfl)
theorem dX1_isPerson_24 : decode cX1_isPerson 24 = .ok (.iconst 1, 1) := dk_4 (dk_at dksX1_isPerson_1 0 rfl rfl)
theorem dX1_isPerson_25 : decode cX1_isPerson 25 = .ok (.goto 4, 3) := dk_167 0 4 (dk_at dksX1_isPerson_1 1 rfl rfl)
theorem dX1_isPerson_28 : decode cX1_isPerson 28 = .ok (.iconst 0, 1) := dk_3 (dk_at dksX1_isPerson_1 4 rfl rfl)
theorem dX1_isPerson_29 : decode cX1_isPerson 29 = .ok (.ireturn, 1) := dk_172 (dk_at dksX1_isPerson_1 5 rfl rfl)
abbrev cX1_alike : ByteArray := prog_1_method_19_code
def yX1_alike : MethodName := ⟨RX1, "alike", "(I)I"⟩
def dkwX1_alike_2 : List UInt8 := [120, 167, 0, 4, 3, 128, 61, 132, 3, 1, 167, 255, 220, 28, 172]
abbrev dktX1_alike_2 : List UInt8 := dkwX1_alike_2 ++ []
def dkwX1_alike_1 : List UInt8 := [180, 0, 102, 180, 0, 126, 162, 0, 31, 28, 42, 180, 0, 102, 27, 29, 182, 0, 178, 153, 0, 9, 4, 29]
abbrev dktX1_alike_1 : List UInt8 := dkwX1_alike_1 ++ dktX1_alike_2
def dkwX1_alike_0 : List UInt8 := [42, 182, 0, 77, 42, 27, 182, 0, 134, 154, 0, 9, 42, 4, 182, 0, 91, 172, 3, 61, 3, 62, 29, 42]
abbrev dktX1_alike_0 : List UInt8 := dkwX1_alike_0 ++ dktX1_alike_1
theorem dksX1_alike_0 : cX1_alike.data.toList.drop 0 = dktX1_alike_0 := by decide +kernel
theorem dksX1_alike_1 : cX1_alike.data.toList.drop 24 = dktX1_alike_1 := dk_seg dksX1_alike_0 24 rfl rfl
theorem dksX1_alike_2 : cX1_alike.data.toList.drop 48 = dktX1_alike_2 := dk_seg dksX1_alike_1 24 rfl rfl
theorem dX1_alike_0 : decode cX1_alike 0 = .ok (.aload_n 0, 1) := dk_42 (dk_at dksX1_alike_0 0 rfl rfl)
theorem dX1_alike_1 : decode cX1_alike 1 = .ok (.invokevirtual 77, 3) := dk_182 0 77 (dk_at dksX1_alike_0 1 rfl rfl)
theorem dX1_alike_4 : decode cX1_alike 4 = .ok (.aload_n 0, 1) := dk_42 (dk_at dksX1_alike_0 4 rfl rfl)
theorem dX1_alike_5 : decode cX1_alike 5 = .ok (.iload_n 1, 1) := dk_27 (dk_at dksX1_alike_0 5 rfl rfl)
theorem dX1_alike_6 : decode cX1_alike 6 = .ok (.invokevirtual 134, 3) := dk_182 0 134 (dk_at dksX1_alike_0 6 rfl rfl)
theorem dX1_alike_9 : decode cX1_alike 9 = .ok (.ifCond .ne 9, 3) := dk_154 0 9 (dk_at dksX1_alike_0 9 rfl rfl)
theorem dX1_alike_12 : decode cX1_alike 12 = .ok (.aload_n 0, 1) := dk_42 (dk_at dksX1_alike_0 12 rfl rfl)
theorem dX1_alike_13 : decode cX1_alike 13 = .ok (.iconst 1, 1) := dk_4 (dk_at dksX1_alike_0 13 rfl rfl)
theorem dX1_alike_14 : decode cX1_alike 14 = .ok (.invokevirtual 91, 3) := dk_182 0 91 (dk_at dksX1_alike_0 14 rfl rfl)
theorem dX1_alike_17 : decode cX1_alike 17 = .ok (.ireturn, 1) := dk_172 (dk_at dksX1_alike_0 17 rfl rfl)
theorem dX1_alike_18 : decode cX1_alike 18 = .ok (.iconst 0, 1) := dk_3 (dk_at dksX1_alike_0 18 rfl rfl)
theorem dX1_alike_19 : decode cX1_alike 19 = .ok (.istore_n 2, 1) := dk_61 (dk_at dksX1_alike_0 19 rfl rfl)
theorem dX1_alike_20 : decode cX1_alike 20 = .ok (.iconst 0, 1) := dk_3 (dk_at dksX1_alike_0 20 rfl rfl)
theorem dX1_alike_21 : decode cX1_alike 21 = .ok (.istore_n 3, 1) := dk_62 (dk_at dksX1_alike_0 21 rfl rfl)
theorem dX1_alike_22 : decode cX1_alike 22 = .ok (.iload_n 3, 1) := dk_29 (dk_at dksX1_alike_0 22 rfl rfl)
theorem dX1_alike_23 : decode cX1_alike 23 = .ok (.aload_n 0, 1) := dk_42 (dk_at dksX1_alike_0 23 rfl rfl)
theorem dX1_alike_24 : decode cX1_alike 24 = .ok (.getfield 102, 3) := dk_180 0 102 (dk_at dksX1_alike_1 0 rfl rfl)
theorem dX1_alike_27 : decode cX1_alike 27 = .ok (.getfield 126, 3) := dk_180 0 126 (dk_at dksX1_alike_1 3 rfl rfl)
theorem dX1_alike_30 : decode cX1_alike 30 = .ok (.if_icmp .ge 31, 3) := dk_162 0 31 (dk_at dksX1_alike_1 6 rfl rfl)
theorem dX1_alike_33 : decode cX1_alike 33 = .ok (.iload_n 2, 1) := dk_28 (dk_at dksX1_alike_1 9 rfl rfl)
theorem dX1_alike_34 : decode cX1_alike 34 = .ok (.aload_n 0, 1) := dk_42 (dk_at dksX1_alike_1 10 rfl rfl)
theorem dX1_alike_35 : decode cX1_alike 35 = .ok (.getfield 102, 3) := dk_180 0 102 (dk_at dksX1_alike_1 11 rfl rfl)
theorem dX1_alike_38 : decode cX1_alike 38 = .ok (.iload_n 1, 1) := dk_27 (dk_at dksX1_alike_1 14 rfl rfl)
theorem dX1_alike_39 : decode cX1_alike 39 = .ok (.iload_n 3, 1) := dk_29 (dk_at dksX1_alike_1 15 rfl rfl)
theorem dX1_alike_40 : decode cX1_alike 40 = .ok (.invokevirtual 178, 3) := dk_182 0 178 (dk_at dksX1_alike_1 16 rfl rfl)
theorem dX1_alike_43 : decode cX1_alike 43 = .ok (.ifCond .eq 9, 3) := dk_153 0 9 (dk_at dksX1_alike_1 19 rfl rfl)
theorem dX1_alike_46 : decode cX1_alike 46 = .ok (.iconst 1, 1) := dk_4 (dk_at dksX1_alike_1 22 rfl rfl)
theorem dX1_alike_47 : decode cX1_alike 47 = .ok (.iload_n 3, 1) := dk_29 (dk_at dksX1_alike_1 23 rfl rfl)
theorem dX1_alike_48 : decode cX1_alike 48 = .ok (.ishl, 1) := dk_120 (dk_at dksX1_alike_2 0 rfl rfl)
theorem dX1_alike_49 : decode cX1_alike 49 = .ok (.goto 4, 3) := dk_167 0 4 (dk_at dksX1_alike_2 1 rfl rfl)
theorem dX1_alike_52 : decode cX1_alike 52 = .ok (.iconst 0, 1) := dk_3 (dk_at dksX1_alike_2 4 rfl rfl)
theorem dX1_alike_53 : decode cX1_alike 53 = .ok (.ior, 1) := dk_128 (dk_at dksX1_alike_2 5 rfl rfl)
theorem dX1_alike_54 : decode cX1_alike 54 = .ok (.istore_n 2, 1) := dk_61 (dk_at dksX1_alike_2 6 rfl rfl)
theorem dX1_alike_55 : decode cX1_alike 55 = .ok (.iinc 3 1, 3) := dk_132 3 1 (dk_at dksX1_alike_2 7 rfl rfl)
theorem dX1_alike_58 : decode cX1_alike 58 = .ok (.goto (-36), 3) := dk_167 255 220 (dk_at dksX1_alike_2 10 rfl rfl)
theorem dX1_alike_61 : decode cX1_alike 61 = .ok (.iload_n 2, 1) := dk_28 (dk_at dksX1_alike_2 13 rfl rfl)
theorem dX1_alike_62 : decode cX1_alike 62 = .ok (.ireturn, 1) := dk_172 (dk_at dksX1_alike_2 14 rfl rfl)
abbrev cX1_right : ByteArray := prog_1_method_20_code
def yX1_right : MethodName := ⟨RX1, "right", "()I"⟩
def dkwX1_right_1 : List UInt8 := [182, 0, 182, 172]
abbrev dktX1_right_1 : List UInt8 := dkwX1_right_1 ++ []
def dkwX1_right_0 : List UInt8 := [42, 182, 0, 77, 42, 180, 0, 102, 199, 0, 11, 42, 4, 182, 0, 91, 167, 0, 10, 42, 180, 0, 33]
abbrev dktX1_right_0 : List UInt8 := dkwX1_right_0 ++ dktX1_right_1
theorem dksX1_right_0 : cX1_right.data.toList.drop 0 = dktX1_right_0 := by decide +kernel
theorem dksX1_right_1 : cX1_right.data.toList.drop 23 = dktX1_right_1 := dk_seg dksX1_right_0 23 rfl rfl
theorem dX1_right_0 : decode cX1_right 0 = .ok (.aload_n 0, 1) := dk_42 (dk_at dksX1_right_0 0 rfl rfl)
theorem dX1_right_1 : decode cX1_right 1 = .ok (.invokevirtual 77, 3) := dk_182 0 77 (dk_at dksX1_right_0 1 rfl rfl)
theorem dX1_right_4 : decode cX1_right 4 = .ok (.aload_n 0, 1) := dk_42 (dk_at dksX1_right_0 4 rfl rfl)
theorem dX1_right_5 : decode cX1_right 5 = .ok (.getfield 102, 3) := dk_180 0 102 (dk_at dksX1_right_0 5 rfl rfl)
theorem dX1_right_8 : decode cX1_right 8 = .ok (.ifnonnull 11, 3) := dk_199 0 11 (dk_at dksX1_right_0 8 rfl rfl)
theorem dX1_right_11 : decode cX1_right 11 = .ok (.aload_n 0, 1) := dk_42 (dk_at dksX1_right_0 11 rfl rfl)
theorem dX1_right_12 : decode cX1_right 12 = .ok (.iconst 1, 1) := dk_4 (dk_at dksX1_right_0 12 rfl rfl)
theorem dX1_right_13 : decode cX1_right 13 = .ok (.invokevirtual 91, 3) := dk_182 0 91 (dk_at dksX1_right_0 13 rfl rfl)
theorem dX1_right_16 : decode cX1_right 16 = .ok (.goto 10, 3) := dk_167 0 10 (dk_at dksX1_right_0 16 rfl rfl)
theorem dX1_right_19 : decode cX1_right 19 = .ok (.aload_n 0, 1) := dk_42 (dk_at dksX1_right_0 19 rfl rfl)
theorem dX1_right_20 : decode cX1_right 20 = .ok (.getfield 33, 3) := dk_180 0 33 (dk_at dksX1_right_0 20 rfl rfl)
theorem dX1_right_23 : decode cX1_right 23 = .ok (.invokevirtual 182, 3) := dk_182 0 182 (dk_at dksX1_right_1 0 rfl rfl)
theorem dX1_right_26 : decode cX1_right 26 = .ok (.ireturn, 1) := dk_172 (dk_at dksX1_right_1 3 rfl rfl)
abbrev cX1_richest : ByteArray := prog_1_method_21_code
def yX1_richest : MethodName := ⟨RX1, "richest", "()I"⟩
def dkwX1_richest_2 : List UInt8 := [167, 0, 11, 42, 180, 0, 33, 27, 182, 0, 176, 164, 0, 5, 28, 60, 132, 2, 1, 167, 255, 211, 27, 172]
abbrev dktX1_richest_2 : List UInt8 := dkwX1_richest_2 ++ []
def dkwX1_richest_1 : List UInt8 := [180, 0, 102, 180, 0, 131, 162, 0, 40, 42, 180, 0, 33, 28, 182, 0, 176, 27, 16, 254, 160, 0, 7, 3]
abbrev dktX1_richest_1 : List UInt8 := dkwX1_richest_1 ++ dktX1_richest_2
def dkwX1_richest_0 : List UInt8 := [42, 182, 0, 77, 42, 180, 0, 102, 199, 0, 9, 42, 4, 182, 0, 91, 172, 16, 254, 60, 3, 61, 28, 42]
abbrev dktX1_richest_0 : List UInt8 := dkwX1_richest_0 ++ dktX1_richest_1
theorem dksX1_richest_0 : cX1_richest.data.toList.drop 0 = dktX1_richest_0 := by decide +kernel
theorem dksX1_richest_1 : cX1_richest.data.toList.drop 24 = dktX1_richest_1 := dk_seg dksX1_richest_0 24 rfl rfl
theorem dksX1_richest_2 : cX1_richest.data.toList.drop 48 = dktX1_richest_2 := dk_seg dksX1_richest_1 24 rfl rfl
theorem dX1_richest_0 : decode cX1_richest 0 = .ok (.aload_n 0, 1) := dk_42 (dk_at dksX1_richest_0 0 rfl rfl)
theorem dX1_richest_1 : decode cX1_richest 1 = .ok (.invokevirtual 77, 3) := dk_182 0 77 (dk_at dksX1_richest_0 1 rfl rfl)
theorem dX1_richest_4 : decode cX1_richest 4 = .ok (.aload_n 0, 1) := dk_42 (dk_at dksX1_richest_0 4 rfl rfl)
theorem dX1_richest_5 : decode cX1_richest 5 = .ok (.getfield 102, 3) := dk_180 0 102 (dk_at dksX1_richest_0 5 rfl rfl)
theorem dX1_richest_8 : decode cX1_richest 8 = .ok (.ifnonnull 9, 3) := dk_199 0 9 (dk_at dksX1_richest_0 8 rfl rfl)
theorem dX1_richest_11 : decode cX1_richest 11 = .ok (.aload_n 0, 1) := dk_42 (dk_at dksX1_richest_0 11 rfl rfl)
theorem dX1_richest_12 : decode cX1_richest 12 = .ok (.iconst 1, 1) := dk_4 (dk_at dksX1_richest_0 12 rfl rfl)
theorem dX1_richest_13 : decode cX1_richest 13 = .ok (.invokevirtual 91, 3) := dk_182 0 91 (dk_at dksX1_richest_0 13 rfl rfl)
theorem dX1_richest_16 : decode cX1_richest 16 = .ok (.ireturn, 1) := dk_172 (dk_at dksX1_richest_0 16 rfl rfl)
theorem dX1_richest_17 : decode cX1_richest 17 = .ok (.bipush (-2), 2) := dk_16 254 (dk_at dksX1_richest_0 17 rfl rfl)
theorem dX1_richest_19 : decode cX1_richest 19 = .ok (.istore_n 1, 1) := dk_60 (dk_at dksX1_richest_0 19 rfl rfl)
theorem dX1_richest_20 : decode cX1_richest 20 = .ok (.iconst 0, 1) := dk_3 (dk_at dksX1_richest_0 20 rfl rfl)
theorem dX1_richest_21 : decode cX1_richest 21 = .ok (.istore_n 2, 1) := dk_61 (dk_at dksX1_richest_0 21 rfl rfl)
theorem dX1_richest_22 : decode cX1_richest 22 = .ok (.iload_n 2, 1) := dk_28 (dk_at dksX1_richest_0 22 rfl rfl)
theorem dX1_richest_23 : decode cX1_richest 23 = .ok (.aload_n 0, 1) := dk_42 (dk_at dksX1_richest_0 23 rfl rfl)
theorem dX1_richest_24 : decode cX1_richest 24 = .ok (.getfield 102, 3) := dk_180 0 102 (dk_at dksX1_richest_1 0 rfl rfl)
theorem dX1_richest_27 : decode cX1_richest 27 = .ok (.getfield 131, 3) := dk_180 0 131 (dk_at dksX1_richest_1 3 rfl rfl)
theorem dX1_richest_30 : decode cX1_richest 30 = .ok (.if_icmp .ge 40, 3) := dk_162 0 40 (dk_at dksX1_richest_1 6 rfl rfl)
theorem dX1_richest_33 : decode cX1_richest 33 = .ok (.aload_n 0, 1) := dk_42 (dk_at dksX1_richest_1 9 rfl rfl)
theorem dX1_richest_34 : decode cX1_richest 34 = .ok (.getfield 33, 3) := dk_180 0 33 (dk_at dksX1_richest_1 10 rfl rfl)
theorem dX1_richest_37 : decode cX1_richest 37 = .ok (.iload_n 2, 1) := dk_28 (dk_at dksX1_richest_1 13 rfl rfl)
theorem dX1_richest_38 : decode cX1_richest 38 = .ok (.invokevirtual 176, 3) := dk_182 0 176 (dk_at dksX1_richest_1 14 rfl rfl)
theorem dX1_richest_41 : decode cX1_richest 41 = .ok (.iload_n 1, 1) := dk_27 (dk_at dksX1_richest_1 17 rfl rfl)
theorem dX1_richest_42 : decode cX1_richest 42 = .ok (.bipush (-2), 2) := dk_16 254 (dk_at dksX1_richest_1 18 rfl rfl)
theorem dX1_richest_44 : decode cX1_richest 44 = .ok (.if_icmp .ne 7, 3) := dk_160 0 7 (dk_at dksX1_richest_1 20 rfl rfl)
theorem dX1_richest_47 : decode cX1_richest 47 = .ok (.iconst 0, 1) := dk_3 (dk_at dksX1_richest_1 23 rfl rfl)
theorem dX1_richest_48 : decode cX1_richest 48 = .ok (.goto 11, 3) := dk_167 0 11 (dk_at dksX1_richest_2 0 rfl rfl)
theorem dX1_richest_51 : decode cX1_richest 51 = .ok (.aload_n 0, 1) := dk_42 (dk_at dksX1_richest_2 3 rfl rfl)
theorem dX1_richest_52 : decode cX1_richest 52 = .ok (.getfield 33, 3) := dk_180 0 33 (dk_at dksX1_richest_2 4 rfl rfl)
theorem dX1_richest_55 : decode cX1_richest 55 = .ok (.iload_n 1, 1) := dk_27 (dk_at dksX1_richest_2 7 rfl rfl)
theorem dX1_richest_56 : decode cX1_richest 56 = .ok (.invokevirtual 176, 3) := dk_182 0 176 (dk_at dksX1_richest_2 8 rfl rfl)
theorem dX1_richest_59 : decode cX1_richest 59 = .ok (.if_icmp .le 5, 3) := dk_164 0 5 (dk_at dksX1_richest_2 11 rfl rfl)
theorem dX1_richest_62 : decode cX1_richest 62 = .ok (.iload_n 2, 1) := dk_28 (dk_at dksX1_richest_2 14 rfl rfl)
theorem dX1_richest_63 : decode cX1_richest 63 = .ok (.istore_n 1, 1) := dk_60 (dk_at dksX1_richest_2 15 rfl rfl)
theorem dX1_richest_64 : decode cX1_richest 64 = .ok (.iinc 2 1, 3) := dk_132 2 1 (dk_at dksX1_richest_2 16 rfl rfl)
theorem dX1_richest_67 : decode cX1_richest 67 = .ok (.goto (-45), 3) := dk_167 255 211 (dk_at dksX1_richest_2 19 rfl rfl)
theorem dX1_richest_70 : decode cX1_richest 70 = .ok (.iload_n 1, 1) := dk_27 (dk_at dksX1_richest_2 22 rfl rfl)
theorem dX1_richest_71 : decode cX1_richest 71 = .ok (.ireturn, 1) := dk_172 (dk_at dksX1_richest_2 23 rfl rfl)
abbrev cX1_hasIt : ByteArray := prog_1_method_23_code
def yX1_hasIt : MethodName := ⟨RX1, "hasIt", "(II)I"⟩
def dkwX1_hasIt_1 : List UInt8 := [167, 0, 12, 42, 180, 0, 46, 27, 28, 182, 0, 189, 172]
abbrev dktX1_hasIt_1 : List UInt8 := dkwX1_hasIt_1 ++ []
def dkwX1_hasIt_0 : List UInt8 := [42, 182, 0, 77, 42, 42, 27, 182, 0, 134, 28, 182, 0, 185, 62, 29, 153, 0, 11, 42, 29, 182, 0, 91]
abbrev dktX1_hasIt_0 : List UInt8 := dkwX1_hasIt_0 ++ dktX1_hasIt_1
theorem dksX1_hasIt_0 : cX1_hasIt.data.toList.drop 0 = dktX1_hasIt_0 := by decide +kernel
theorem dksX1_hasIt_1 : cX1_hasIt.data.toList.drop 24 = dktX1_hasIt_1 := dk_seg dksX1_hasIt_0 24 rfl rfl
theorem dX1_hasIt_0 : decode cX1_hasIt 0 = .ok (.aload_n 0, 1) := dk_42 (dk_at dksX1_hasIt_0 0 rfl rfl)
theorem dX1_hasIt_1 : decode cX1_hasIt 1 = .ok (.invokevirtual 77, 3) := dk_182 0 77 (dk_at dksX1_hasIt_0 1 rfl rfl)
theorem dX1_hasIt_4 : decode cX1_hasIt 4 = .ok (.aload_n 0, 1) := dk_42 (dk_at dksX1_hasIt_0 4 rfl rfl)
theorem dX1_hasIt_5 : decode cX1_hasIt 5 = .ok (.aload_n 0, 1) := dk_42 (dk_at dksX1_hasIt_0 5 rfl rfl)
theorem dX1_hasIt_6 : decode cX1_hasIt 6 = .ok (.iload_n 1, 1) := dk_27 (dk_at dksX1_hasIt_0 6 rfl rfl)
theorem dX1_hasIt_7 : decode cX1_hasIt 7 = .ok (.invokevirtual 134, 3) := dk_182 0 134 (dk_at dksX1_hasIt_0 7 rfl rfl)
theorem dX1_hasIt_10 : decode cX1_hasIt 10 = .ok (.iload_n 2, 1) := dk_28 (dk_at dksX1_hasIt_0 10 rfl rfl)
theorem dX1_hasIt_11 : decode cX1_hasIt 11 = .ok (.invokevirtual 185, 3) := dk_182 0 185 (dk_at dksX1_hasIt_0 11 rfl rfl)
theorem dX1_hasIt_14 : decode cX1_hasIt 14 = .ok (.istore_n 3, 1) := dk_62 (dk_at dksX1_hasIt_0 14 rfl rfl)
theorem dX1_hasIt_15 : decode cX1_hasIt 15 = .ok (.iload_n 3, 1) := dk_29 (dk_at dksX1_hasIt_0 15 rfl rfl)
theorem dX1_hasIt_16 : decode cX1_hasIt 16 = .ok (.ifCond .eq 11, 3) := dk_153 0 11 (dk_at dksX1_hasIt_0 16 rfl rfl)
theorem dX1_hasIt_19 : decode cX1_hasIt 19 = .ok (.aload_n 0, 1) := dk_42 (dk_at dksX1_hasIt_0 19 rfl rfl)
theorem dX1_hasIt_20 : decode cX1_hasIt 20 = .ok (.iload_n 3, 1) := dk_29 (dk_at dksX1_hasIt_0 20 rfl rfl)
theorem dX1_hasIt_21 : decode cX1_hasIt 21 = .ok (.invokevirtual 91, 3) := dk_182 0 91 (dk_at dksX1_hasIt_0 21 rfl rfl)
theorem dX1_hasIt_24 : decode cX1_hasIt 24 = .ok (.goto 12, 3) := dk_167 0 12 (dk_at dksX1_hasIt_1 0 rfl rfl)
theorem dX1_hasIt_27 : decode cX1_hasIt 27 = .ok (.aload_n 0, 1) := dk_42 (dk_at dksX1_hasIt_1 3 rfl rfl)
theorem dX1_hasIt_28 : decode cX1_hasIt 28 = .ok (.getfield 46, 3) := dk_180 0 46 (dk_at dksX1_hasIt_1 4 rfl rfl)
theorem dX1_hasIt_31 : decode cX1_hasIt 31 = .ok (.iload_n 1, 1) := dk_27 (dk_at dksX1_hasIt_1 7 rfl rfl)
theorem dX1_hasIt_32 : decode cX1_hasIt 32 = .ok (.iload_n 2, 1) := dk_28 (dk_at dksX1_hasIt_1 8 rfl rfl)
theorem dX1_hasIt_33 : decode cX1_hasIt 33 = .ok (.invokevirtual 189, 3) := dk_182 0 189 (dk_at dksX1_hasIt_1 9 rfl rfl)
theorem dX1_hasIt_36 : decode cX1_hasIt 36 = .ok (.ireturn, 1) := dk_172 (dk_at dksX1_hasIt_1 12 rfl rfl)
abbrev cX1_dayWhy : ByteArray := prog_1_method_22_code
def yX1_dayWhy : MethodName := ⟨RX1, "dayWhy", "(ZI)I"⟩
def dkwX1_dayWhy_0 : List UInt8 := [27, 154, 0, 7, 4, 167, 0, 18, 28, 3, 16, 40, 184, 0, 87, 153, 0, 7, 3, 167, 0, 4, 5, 172]
abbrev dktX1_dayWhy_0 : List UInt8 := dkwX1_dayWhy_0 ++ []
theorem dksX1_dayWhy_0 : cX1_dayWhy.data.toList.drop 0 = dktX1_dayWhy_0 := by decide +kernel
theorem dX1_dayWhy_0 : decode cX1_dayWhy 0 = .ok (.iload_n 1, 1) := dk_27 (dk_at dksX1_dayWhy_0 0 rfl rfl)
theorem dX1_dayWhy_1 : decode cX1_dayWhy 1 = .ok (.ifCond .ne 7, 3) := dk_154 0 7 (dk_at dksX1_dayWhy_0 1 rfl rfl)
theorem dX1_dayWhy_4 : decode cX1_dayWhy 4 = .ok (.iconst 1, 1) := dk_4 (dk_at dksX1_dayWhy_0 4 rfl rfl)
theorem dX1_dayWhy_5 : decode cX1_dayWhy 5 = .ok (.goto 18, 3) := dk_167 0 18 (dk_at dksX1_dayWhy_0 5 rfl rfl)
theorem dX1_dayWhy_8 : decode cX1_dayWhy 8 = .ok (.iload_n 2, 1) := dk_28 (dk_at dksX1_dayWhy_0 8 rfl rfl)
theorem dX1_dayWhy_9 : decode cX1_dayWhy 9 = .ok (.iconst 0, 1) := dk_3 (dk_at dksX1_dayWhy_0 9 rfl rfl)
theorem dX1_dayWhy_10 : decode cX1_dayWhy 10 = .ok (.bipush 40, 2) := dk_16 40 (dk_at dksX1_dayWhy_0 10 rfl rfl)
theorem dX1_dayWhy_12 : decode cX1_dayWhy 12 = .ok (.invokestatic 87, 3) := dk_184 0 87 (dk_at dksX1_dayWhy_0 12 rfl rfl)
theorem dX1_dayWhy_15 : decode cX1_dayWhy 15 = .ok (.ifCond .eq 7, 3) := dk_153 0 7 (dk_at dksX1_dayWhy_0 15 rfl rfl)
theorem dX1_dayWhy_18 : decode cX1_dayWhy 18 = .ok (.iconst 0, 1) := dk_3 (dk_at dksX1_dayWhy_0 18 rfl rfl)
theorem dX1_dayWhy_19 : decode cX1_dayWhy 19 = .ok (.goto 4, 3) := dk_167 0 4 (dk_at dksX1_dayWhy_0 19 rfl rfl)
theorem dX1_dayWhy_22 : decode cX1_dayWhy 22 = .ok (.iconst 2, 1) := dk_5 (dk_at dksX1_dayWhy_0 22 rfl rfl)
theorem dX1_dayWhy_23 : decode cX1_dayWhy 23 = .ok (.ireturn, 1) := dk_172 (dk_at dksX1_dayWhy_0 23 rfl rfl)
abbrev cX1_titleOf : ByteArray := prog_1_method_24_code
def yX1_titleOf : MethodName := ⟨RX1, "titleOf", "(II)I"⟩
def dkwX1_titleOf_1 : List UInt8 := [167, 0, 12, 42, 180, 0, 46, 27, 28, 182, 0, 193, 172]
abbrev dktX1_titleOf_1 : List UInt8 := dkwX1_titleOf_1 ++ []
def dkwX1_titleOf_0 : List UInt8 := [42, 182, 0, 77, 42, 42, 27, 182, 0, 134, 28, 182, 0, 185, 62, 29, 153, 0, 11, 42, 29, 182, 0, 91]
abbrev dktX1_titleOf_0 : List UInt8 := dkwX1_titleOf_0 ++ dktX1_titleOf_1
theorem dksX1_titleOf_0 : cX1_titleOf.data.toList.drop 0 = dktX1_titleOf_0 := by decide +kernel
theorem dksX1_titleOf_1 : cX1_titleOf.data.toList.drop 24 = dktX1_titleOf_1 := dk_seg dksX1_titleOf_0 24 rfl rfl
theorem dX1_titleOf_0 : decode cX1_titleOf 0 = .ok (.aload_n 0, 1) := dk_42 (dk_at dksX1_titleOf_0 0 rfl rfl)
theorem dX1_titleOf_1 : decode cX1_titleOf 1 = .ok (.invokevirtual 77, 3) := dk_182 0 77 (dk_at dksX1_titleOf_0 1 rfl rfl)
theorem dX1_titleOf_4 : decode cX1_titleOf 4 = .ok (.aload_n 0, 1) := dk_42 (dk_at dksX1_titleOf_0 4 rfl rfl)
theorem dX1_titleOf_5 : decode cX1_titleOf 5 = .ok (.aload_n 0, 1) := dk_42 (dk_at dksX1_titleOf_0 5 rfl rfl)
theorem dX1_titleOf_6 : decode cX1_titleOf 6 = .ok (.iload_n 1, 1) := dk_27 (dk_at dksX1_titleOf_0 6 rfl rfl)
theorem dX1_titleOf_7 : decode cX1_titleOf 7 = .ok (.invokevirtual 134, 3) := dk_182 0 134 (dk_at dksX1_titleOf_0 7 rfl rfl)
theorem dX1_titleOf_10 : decode cX1_titleOf 10 = .ok (.iload_n 2, 1) := dk_28 (dk_at dksX1_titleOf_0 10 rfl rfl)
theorem dX1_titleOf_11 : decode cX1_titleOf 11 = .ok (.invokevirtual 185, 3) := dk_182 0 185 (dk_at dksX1_titleOf_0 11 rfl rfl)
theorem dX1_titleOf_14 : decode cX1_titleOf 14 = .ok (.istore_n 3, 1) := dk_62 (dk_at dksX1_titleOf_0 14 rfl rfl)
theorem dX1_titleOf_15 : decode cX1_titleOf 15 = .ok (.iload_n 3, 1) := dk_29 (dk_at dksX1_titleOf_0 15 rfl rfl)
theorem dX1_titleOf_16 : decode cX1_titleOf 16 = .ok (.ifCond .eq 11, 3) := dk_153 0 11 (dk_at dksX1_titleOf_0 16 rfl rfl)
theorem dX1_titleOf_19 : decode cX1_titleOf 19 = .ok (.aload_n 0, 1) := dk_42 (dk_at dksX1_titleOf_0 19 rfl rfl)
theorem dX1_titleOf_20 : decode cX1_titleOf 20 = .ok (.iload_n 3, 1) := dk_29 (dk_at dksX1_titleOf_0 20 rfl rfl)
theorem dX1_titleOf_21 : decode cX1_titleOf 21 = .ok (.invokevirtual 91, 3) := dk_182 0 91 (dk_at dksX1_titleOf_0 21 rfl rfl)
theorem dX1_titleOf_24 : decode cX1_titleOf 24 = .ok (.goto 12, 3) := dk_167 0 12 (dk_at dksX1_titleOf_1 0 rfl rfl)
theorem dX1_titleOf_27 : decode cX1_titleOf 27 = .ok (.aload_n 0, 1) := dk_42 (dk_at dksX1_titleOf_1 3 rfl rfl)
theorem dX1_titleOf_28 : decode cX1_titleOf 28 = .ok (.getfield 46, 3) := dk_180 0 46 (dk_at dksX1_titleOf_1 4 rfl rfl)
theorem dX1_titleOf_31 : decode cX1_titleOf 31 = .ok (.iload_n 1, 1) := dk_27 (dk_at dksX1_titleOf_1 7 rfl rfl)
theorem dX1_titleOf_32 : decode cX1_titleOf 32 = .ok (.iload_n 2, 1) := dk_28 (dk_at dksX1_titleOf_1 8 rfl rfl)
theorem dX1_titleOf_33 : decode cX1_titleOf 33 = .ok (.invokevirtual 193, 3) := dk_182 0 193 (dk_at dksX1_titleOf_1 9 rfl rfl)
theorem dX1_titleOf_36 : decode cX1_titleOf 36 = .ok (.ireturn, 1) := dk_172 (dk_at dksX1_titleOf_1 12 rfl rfl)
abbrev cX1_landsOf : ByteArray := prog_1_method_26_code
def yX1_landsOf : MethodName := ⟨RX1, "landsOf", "(II)I"⟩
def dkwX1_landsOf_1 : List UInt8 := [167, 0, 9, 42, 27, 28, 182, 0, 196, 172]
abbrev dktX1_landsOf_1 : List UInt8 := dkwX1_landsOf_1 ++ []
def dkwX1_landsOf_0 : List UInt8 := [42, 182, 0, 77, 42, 42, 27, 182, 0, 161, 28, 182, 0, 185, 62, 29, 153, 0, 11, 42, 29, 182, 0, 91]
abbrev dktX1_landsOf_0 : List UInt8 := dkwX1_landsOf_0 ++ dktX1_landsOf_1
theorem dksX1_landsOf_0 : cX1_landsOf.data.toList.drop 0 = dktX1_landsOf_0 := by decide +kernel
theorem dksX1_landsOf_1 : cX1_landsOf.data.toList.drop 24 = dktX1_landsOf_1 := dk_seg dksX1_landsOf_0 24 rfl rfl
theorem dX1_landsOf_0 : decode cX1_landsOf 0 = .ok (.aload_n 0, 1) := dk_42 (dk_at dksX1_landsOf_0 0 rfl rfl)
theorem dX1_landsOf_1 : decode cX1_landsOf 1 = .ok (.invokevirtual 77, 3) := dk_182 0 77 (dk_at dksX1_landsOf_0 1 rfl rfl)
theorem dX1_landsOf_4 : decode cX1_landsOf 4 = .ok (.aload_n 0, 1) := dk_42 (dk_at dksX1_landsOf_0 4 rfl rfl)
theorem dX1_landsOf_5 : decode cX1_landsOf 5 = .ok (.aload_n 0, 1) := dk_42 (dk_at dksX1_landsOf_0 5 rfl rfl)
theorem dX1_landsOf_6 : decode cX1_landsOf 6 = .ok (.iload_n 1, 1) := dk_27 (dk_at dksX1_landsOf_0 6 rfl rfl)
theorem dX1_landsOf_7 : decode cX1_landsOf 7 = .ok (.invokevirtual 161, 3) := dk_182 0 161 (dk_at dksX1_landsOf_0 7 rfl rfl)
theorem dX1_landsOf_10 : decode cX1_landsOf 10 = .ok (.iload_n 2, 1) := dk_28 (dk_at dksX1_landsOf_0 10 rfl rfl)
theorem dX1_landsOf_11 : decode cX1_landsOf 11 = .ok (.invokevirtual 185, 3) := dk_182 0 185 (dk_at dksX1_landsOf_0 11 rfl rfl)
theorem dX1_landsOf_14 : decode cX1_landsOf 14 = .ok (.istore_n 3, 1) := dk_62 (dk_at dksX1_landsOf_0 14 rfl rfl)
theorem dX1_landsOf_15 : decode cX1_landsOf 15 = .ok (.iload_n 3, 1) := dk_29 (dk_at dksX1_landsOf_0 15 rfl rfl)
theorem dX1_landsOf_16 : decode cX1_landsOf 16 = .ok (.ifCond .eq 11, 3) := dk_153 0 11 (dk_at dksX1_landsOf_0 16 rfl rfl)
theorem dX1_landsOf_19 : decode cX1_landsOf 19 = .ok (.aload_n 0, 1) := dk_42 (dk_at dksX1_landsOf_0 19 rfl rfl)
theorem dX1_landsOf_20 : decode cX1_landsOf 20 = .ok (.iload_n 3, 1) := dk_29 (dk_at dksX1_landsOf_0 20 rfl rfl)
theorem dX1_landsOf_21 : decode cX1_landsOf 21 = .ok (.invokevirtual 91, 3) := dk_182 0 91 (dk_at dksX1_landsOf_0 21 rfl rfl)
theorem dX1_landsOf_24 : decode cX1_landsOf 24 = .ok (.goto 9, 3) := dk_167 0 9 (dk_at dksX1_landsOf_1 0 rfl rfl)
theorem dX1_landsOf_27 : decode cX1_landsOf 27 = .ok (.aload_n 0, 1) := dk_42 (dk_at dksX1_landsOf_1 3 rfl rfl)
theorem dX1_landsOf_28 : decode cX1_landsOf 28 = .ok (.iload_n 1, 1) := dk_27 (dk_at dksX1_landsOf_1 4 rfl rfl)
theorem dX1_landsOf_29 : decode cX1_landsOf 29 = .ok (.iload_n 2, 1) := dk_28 (dk_at dksX1_landsOf_1 5 rfl rfl)
theorem dX1_landsOf_30 : decode cX1_landsOf 30 = .ok (.invokevirtual 196, 3) := dk_182 0 196 (dk_at dksX1_landsOf_1 6 rfl rfl)
theorem dX1_landsOf_33 : decode cX1_landsOf 33 = .ok (.ireturn, 1) := dk_172 (dk_at dksX1_landsOf_1 9 rfl rfl)
abbrev cX1_landsBy : ByteArray := prog_1_method_25_code
def yX1_landsBy : MethodName := ⟨RX1, "landsBy", "(II)I"⟩
def dkwX1_landsBy_2 : List UInt8 := [3, 96, 62, 132, 4, 1, 167, 255, 207, 29, 172]
abbrev dktX1_landsBy_2 : List UInt8 := dkwX1_landsBy_2 ++ []
def dkwX1_landsBy_1 : List UInt8 := [28, 182, 0, 193, 27, 160, 0, 19, 42, 180, 0, 102, 180, 0, 138, 21, 4, 50, 180, 0, 148, 167, 0, 4]
abbrev dktX1_landsBy_1 : List UInt8 := dkwX1_landsBy_1 ++ dktX1_landsBy_2
def dkwX1_landsBy_0 : List UInt8 := [3, 62, 3, 54, 4, 21, 4, 42, 180, 0, 102, 180, 0, 126, 162, 0, 43, 29, 42, 180, 0, 46, 21, 4]
abbrev dktX1_landsBy_0 : List UInt8 := dkwX1_landsBy_0 ++ dktX1_landsBy_1
theorem dksX1_landsBy_0 : cX1_landsBy.data.toList.drop 0 = dktX1_landsBy_0 := by decide +kernel
theorem dksX1_landsBy_1 : cX1_landsBy.data.toList.drop 24 = dktX1_landsBy_1 := dk_seg dksX1_landsBy_0 24 rfl rfl
theorem dksX1_landsBy_2 : cX1_landsBy.data.toList.drop 48 = dktX1_landsBy_2 := dk_seg dksX1_landsBy_1 24 rfl rfl
theorem dX1_landsBy_0 : decode cX1_landsBy 0 = .ok (.iconst 0, 1) := dk_3 (dk_at dksX1_landsBy_0 0 rfl rfl)
theorem dX1_landsBy_1 : decode cX1_landsBy 1 = .ok (.istore_n 3, 1) := dk_62 (dk_at dksX1_landsBy_0 1 rfl rfl)
theorem dX1_landsBy_2 : decode cX1_landsBy 2 = .ok (.iconst 0, 1) := dk_3 (dk_at dksX1_landsBy_0 2 rfl rfl)
theorem dX1_landsBy_3 : decode cX1_landsBy 3 = .ok (.istore 4, 2) := dk_54 4 (dk_at dksX1_landsBy_0 3 rfl rfl)
theorem dX1_landsBy_5 : decode cX1_landsBy 5 = .ok (.iload 4, 2) := dk_21 4 (dk_at dksX1_landsBy_0 5 rfl rfl)
theorem dX1_landsBy_7 : decode cX1_landsBy 7 = .ok (.aload_n 0, 1) := dk_42 (dk_at dksX1_landsBy_0 7 rfl rfl)
theorem dX1_landsBy_8 : decode cX1_landsBy 8 = .ok (.getfield 102, 3) := dk_180 0 102 (dk_at dksX1_landsBy_0 8 rfl rfl)
theorem dX1_landsBy_11 : decode cX1_landsBy 11 = .ok (.getfield 126, 3) := dk_180 0 126 (dk_at dksX1_landsBy_0 11 rfl rfl)
theorem dX1_landsBy_14 : decode cX1_landsBy 14 = .ok (.if_icmp .ge 43, 3) := dk_162 0 43 (dk_at dksX1_landsBy_0 14 rfl rfl)
theorem dX1_landsBy_17 : decode cX1_landsBy 17 = .ok (.iload_n 3, 1) := dk_29 (dk_at dksX1_landsBy_0 17 rfl rfl)
theorem dX1_landsBy_18 : decode cX1_landsBy 18 = .ok (.aload_n 0, 1) := dk_42 (dk_at dksX1_landsBy_0 18 rfl rfl)
theorem dX1_landsBy_19 : decode cX1_landsBy 19 = .ok (.getfield 46, 3) := dk_180 0 46 (dk_at dksX1_landsBy_0 19 rfl rfl)
theorem dX1_landsBy_22 : decode cX1_landsBy 22 = .ok (.iload 4, 2) := dk_21 4 (dk_at dksX1_landsBy_0 22 rfl rfl)
theorem dX1_landsBy_24 : decode cX1_landsBy 24 = .ok (.iload_n 2, 1) := dk_28 (dk_at dksX1_landsBy_1 0 rfl rfl)
theorem dX1_landsBy_25 : decode cX1_landsBy 25 = .ok (.invokevirtual 193, 3) := dk_182 0 193 (dk_at dksX1_landsBy_1 1 rfl rfl)
theorem dX1_landsBy_28 : decode cX1_landsBy 28 = .ok (.iload_n 1, 1) := dk_27 (dk_at dksX1_landsBy_1 4 rfl rfl)
theorem dX1_landsBy_29 : decode cX1_landsBy 29 = .ok (.if_icmp .ne 19, 3) := dk_160 0 19 (dk_at dksX1_landsBy_1 5 rfl rfl)
theorem dX1_landsBy_32 : decode cX1_landsBy 32 = .ok (.aload_n 0, 1) := dk_42 (dk_at dksX1_landsBy_1 8 rfl rfl)
theorem dX1_landsBy_33 : decode cX1_landsBy 33 = .ok (.getfield 102, 3) := dk_180 0 102 (dk_at dksX1_landsBy_1 9 rfl rfl)
theorem dX1_landsBy_36 : decode cX1_landsBy 36 = .ok (.getfield 138, 3) := dk_180 0 138 (dk_at dksX1_landsBy_1 12 rfl rfl)
theorem dX1_landsBy_39 : decode cX1_landsBy 39 = .ok (.iload 4, 2) := dk_21 4 (dk_at dksX1_landsBy_1 15 rfl rfl)
theorem dX1_landsBy_41 : decode cX1_landsBy 41 = .ok (.aaload, 1) := dk_50 (dk_at dksX1_landsBy_1 17 rfl rfl)
theorem dX1_landsBy_42 : decode cX1_landsBy 42 = .ok (.getfield 148, 3) := dk_180 0 148 (dk_at dksX1_landsBy_1 18 rfl rfl)
theorem dX1_landsBy_45 : decode cX1_landsBy 45 = .ok (.goto 4, 3) := dk_167 0 4 (dk_at dksX1_landsBy_1 21 rfl rfl)
theorem dX1_landsBy_48 : decode cX1_landsBy 48 = .ok (.iconst 0, 1) := dk_3 (dk_at dksX1_landsBy_2 0 rfl rfl)
theorem dX1_landsBy_49 : decode cX1_landsBy 49 = .ok (.iadd, 1) := dk_96 (dk_at dksX1_landsBy_2 1 rfl rfl)
theorem dX1_landsBy_50 : decode cX1_landsBy 50 = .ok (.istore_n 3, 1) := dk_62 (dk_at dksX1_landsBy_2 2 rfl rfl)
theorem dX1_landsBy_51 : decode cX1_landsBy 51 = .ok (.iinc 4 1, 3) := dk_132 4 1 (dk_at dksX1_landsBy_2 3 rfl rfl)
theorem dX1_landsBy_54 : decode cX1_landsBy 54 = .ok (.goto (-49), 3) := dk_167 255 207 (dk_at dksX1_landsBy_2 6 rfl rfl)
theorem dX1_landsBy_57 : decode cX1_landsBy 57 = .ok (.iload_n 3, 1) := dk_29 (dk_at dksX1_landsBy_2 9 rfl rfl)
theorem dX1_landsBy_58 : decode cX1_landsBy 58 = .ok (.ireturn, 1) := dk_172 (dk_at dksX1_landsBy_2 10 rfl rfl)
abbrev cX1_lapsed : ByteArray := prog_1_method_27_code
def yX1_lapsed : MethodName := ⟨RX1, "lapsed", "(I)I"⟩
def dkwX1_lapsed_1 : List UInt8 := [153, 0, 11, 42, 28, 182, 0, 91, 167, 0, 10, 42, 16, 254, 27, 182, 0, 196, 172]
abbrev dktX1_lapsed_1 : List UInt8 := dkwX1_lapsed_1 ++ []
def dkwX1_lapsed_0 : List UInt8 := [42, 182, 0, 77, 42, 42, 180, 0, 102, 198, 0, 7, 4, 167, 0, 4, 3, 27, 182, 0, 185, 61, 28]
abbrev dktX1_lapsed_0 : List UInt8 := dkwX1_lapsed_0 ++ dktX1_lapsed_1
theorem dksX1_lapsed_0 : cX1_lapsed.data.toList.drop 0 = dktX1_lapsed_0 := by decide +kernel
theorem dksX1_lapsed_1 : cX1_lapsed.data.toList.drop 23 = dktX1_lapsed_1 := dk_seg dksX1_lapsed_0 23 rfl rfl
theorem dX1_lapsed_0 : decode cX1_lapsed 0 = .ok (.aload_n 0, 1) := dk_42 (dk_at dksX1_lapsed_0 0 rfl rfl)
theorem dX1_lapsed_1 : decode cX1_lapsed 1 = .ok (.invokevirtual 77, 3) := dk_182 0 77 (dk_at dksX1_lapsed_0 1 rfl rfl)
theorem dX1_lapsed_4 : decode cX1_lapsed 4 = .ok (.aload_n 0, 1) := dk_42 (dk_at dksX1_lapsed_0 4 rfl rfl)
theorem dX1_lapsed_5 : decode cX1_lapsed 5 = .ok (.aload_n 0, 1) := dk_42 (dk_at dksX1_lapsed_0 5 rfl rfl)
theorem dX1_lapsed_6 : decode cX1_lapsed 6 = .ok (.getfield 102, 3) := dk_180 0 102 (dk_at dksX1_lapsed_0 6 rfl rfl)
theorem dX1_lapsed_9 : decode cX1_lapsed 9 = .ok (.ifnull 7, 3) := dk_198 0 7 (dk_at dksX1_lapsed_0 9 rfl rfl)
theorem dX1_lapsed_12 : decode cX1_lapsed 12 = .ok (.iconst 1, 1) := dk_4 (dk_at dksX1_lapsed_0 12 rfl rfl)
theorem dX1_lapsed_13 : decode cX1_lapsed 13 = .ok (.goto 4, 3) := dk_167 0 4 (dk_at dksX1_lapsed_0 13 rfl rfl)
theorem dX1_lapsed_16 : decode cX1_lapsed 16 = .ok (.iconst 0, 1) := dk_3 (dk_at dksX1_lapsed_0 16 rfl rfl)
theorem dX1_lapsed_17 : decode cX1_lapsed 17 = .ok (.iload_n 1, 1) := dk_27 (dk_at dksX1_lapsed_0 17 rfl rfl)
theorem dX1_lapsed_18 : decode cX1_lapsed 18 = .ok (.invokevirtual 185, 3) := dk_182 0 185 (dk_at dksX1_lapsed_0 18 rfl rfl)
theorem dX1_lapsed_21 : decode cX1_lapsed 21 = .ok (.istore_n 2, 1) := dk_61 (dk_at dksX1_lapsed_0 21 rfl rfl)
theorem dX1_lapsed_22 : decode cX1_lapsed 22 = .ok (.iload_n 2, 1) := dk_28 (dk_at dksX1_lapsed_0 22 rfl rfl)
theorem dX1_lapsed_23 : decode cX1_lapsed 23 = .ok (.ifCond .eq 11, 3) := dk_153 0 11 (dk_at dksX1_lapsed_1 0 rfl rfl)
theorem dX1_lapsed_26 : decode cX1_lapsed 26 = .ok (.aload_n 0, 1) := dk_42 (dk_at dksX1_lapsed_1 3 rfl rfl)
theorem dX1_lapsed_27 : decode cX1_lapsed 27 = .ok (.iload_n 2, 1) := dk_28 (dk_at dksX1_lapsed_1 4 rfl rfl)
theorem dX1_lapsed_28 : decode cX1_lapsed 28 = .ok (.invokevirtual 91, 3) := dk_182 0 91 (dk_at dksX1_lapsed_1 5 rfl rfl)
theorem dX1_lapsed_31 : decode cX1_lapsed 31 = .ok (.goto 10, 3) := dk_167 0 10 (dk_at dksX1_lapsed_1 8 rfl rfl)
theorem dX1_lapsed_34 : decode cX1_lapsed 34 = .ok (.aload_n 0, 1) := dk_42 (dk_at dksX1_lapsed_1 11 rfl rfl)
theorem dX1_lapsed_35 : decode cX1_lapsed 35 = .ok (.bipush (-2), 2) := dk_16 254 (dk_at dksX1_lapsed_1 12 rfl rfl)
theorem dX1_lapsed_37 : decode cX1_lapsed 37 = .ok (.iload_n 1, 1) := dk_27 (dk_at dksX1_lapsed_1 14 rfl rfl)
theorem dX1_lapsed_38 : decode cX1_lapsed 38 = .ok (.invokevirtual 196, 3) := dk_182 0 196 (dk_at dksX1_lapsed_1 15 rfl rfl)
theorem dX1_lapsed_41 : decode cX1_lapsed 41 = .ok (.ireturn, 1) := dk_172 (dk_at dksX1_lapsed_1 18 rfl rfl)
abbrev cX1_passed : ByteArray := prog_1_method_28_code
def yX1_passed : MethodName := ⟨RX1, "passed", "(I)I"⟩
def dkwX1_passed_3 : List UInt8 := [4, 96, 62, 42, 180, 0, 46, 27, 21, 4, 182, 0, 193, 61, 132, 4, 1, 167, 255, 213, 29, 172]
abbrev dktX1_passed_3 : List UInt8 := dkwX1_passed_3 ++ []
def dkwX1_passed_2 : List UInt8 := [16, 40, 163, 0, 42, 29, 42, 180, 0, 46, 27, 21, 4, 182, 0, 193, 28, 160, 0, 7, 3, 167, 0, 4]
abbrev dktX1_passed_2 : List UInt8 := dkwX1_passed_2 ++ dktX1_passed_3
def dkwX1_passed_1 : List UInt8 := [180, 0, 102, 182, 0, 112, 42, 180, 0, 40, 180, 0, 158, 27, 46, 61, 3, 62, 3, 54, 4, 21, 4]
abbrev dktX1_passed_1 : List UInt8 := dkwX1_passed_1 ++ dktX1_passed_2
def dkwX1_passed_0 : List UInt8 := [42, 182, 0, 77, 42, 27, 182, 0, 134, 154, 0, 9, 42, 4, 182, 0, 91, 172, 42, 180, 0, 40, 42]
abbrev dktX1_passed_0 : List UInt8 := dkwX1_passed_0 ++ dktX1_passed_1
theorem dksX1_passed_0 : cX1_passed.data.toList.drop 0 = dktX1_passed_0 := by decide +kernel
theorem dksX1_passed_1 : cX1_passed.data.toList.drop 23 = dktX1_passed_1 := dk_seg dksX1_passed_0 23 rfl rfl
theorem dksX1_passed_2 : cX1_passed.data.toList.drop 46 = dktX1_passed_2 := dk_seg dksX1_passed_1 23 rfl rfl
theorem dksX1_passed_3 : cX1_passed.data.toList.drop 70 = dktX1_passed_3 := dk_seg dksX1_passed_2 24 rfl rfl
theorem dX1_passed_0 : decode cX1_passed 0 = .ok (.aload_n 0, 1) := dk_42 (dk_at dksX1_passed_0 0 rfl rfl)
theorem dX1_passed_1 : decode cX1_passed 1 = .ok (.invokevirtual 77, 3) := dk_182 0 77 (dk_at dksX1_passed_0 1 rfl rfl)
theorem dX1_passed_4 : decode cX1_passed 4 = .ok (.aload_n 0, 1) := dk_42 (dk_at dksX1_passed_0 4 rfl rfl)
theorem dX1_passed_5 : decode cX1_passed 5 = .ok (.iload_n 1, 1) := dk_27 (dk_at dksX1_passed_0 5 rfl rfl)
theorem dX1_passed_6 : decode cX1_passed 6 = .ok (.invokevirtual 134, 3) := dk_182 0 134 (dk_at dksX1_passed_0 6 rfl rfl)
theorem dX1_passed_9 : decode cX1_passed 9 = .ok (.ifCond .ne 9, 3) := dk_154 0 9 (dk_at dksX1_passed_0 9 rfl rfl)
theorem dX1_passed_12 : decode cX1_passed 12 = .ok (.aload_n 0, 1) := dk_42 (dk_at dksX1_passed_0 12 rfl rfl)
theorem dX1_passed_13 : decode cX1_passed 13 = .ok (.iconst 1, 1) := dk_4 (dk_at dksX1_passed_0 13 rfl rfl)
theorem dX1_passed_14 : decode cX1_passed 14 = .ok (.invokevirtual 91, 3) := dk_182 0 91 (dk_at dksX1_passed_0 14 rfl rfl)
theorem dX1_passed_17 : decode cX1_passed 17 = .ok (.ireturn, 1) := dk_172 (dk_at dksX1_passed_0 17 rfl rfl)
theorem dX1_passed_18 : decode cX1_passed 18 = .ok (.aload_n 0, 1) := dk_42 (dk_at dksX1_passed_0 18 rfl rfl)
theorem dX1_passed_19 : decode cX1_passed 19 = .ok (.getfield 40, 3) := dk_180 0 40 (dk_at dksX1_passed_0 19 rfl rfl)
theorem dX1_passed_22 : decode cX1_passed 22 = .ok (.aload_n 0, 1) := dk_42 (dk_at dksX1_passed_0 22 rfl rfl)
theorem dX1_passed_23 : decode cX1_passed 23 = .ok (.getfield 102, 3) := dk_180 0 102 (dk_at dksX1_passed_1 0 rfl rfl)
theorem dX1_passed_26 : decode cX1_passed 26 = .ok (.invokevirtual 112, 3) := dk_182 0 112 (dk_at dksX1_passed_1 3 rfl rfl)
theorem dX1_passed_29 : decode cX1_passed 29 = .ok (.aload_n 0, 1) := dk_42 (dk_at dksX1_passed_1 6 rfl rfl)
theorem dX1_passed_30 : decode cX1_passed 30 = .ok (.getfield 40, 3) := dk_180 0 40 (dk_at dksX1_passed_1 7 rfl rfl)
theorem dX1_passed_33 : decode cX1_passed 33 = .ok (.getfield 158, 3) := dk_180 0 158 (dk_at dksX1_passed_1 10 rfl rfl)
theorem dX1_passed_36 : decode cX1_passed 36 = .ok (.iload_n 1, 1) := dk_27 (dk_at dksX1_passed_1 13 rfl rfl)
theorem dX1_passed_37 : decode cX1_passed 37 = .ok (.iaload, 1) := dk_46 (dk_at dksX1_passed_1 14 rfl rfl)
theorem dX1_passed_38 : decode cX1_passed 38 = .ok (.istore_n 2, 1) := dk_61 (dk_at dksX1_passed_1 15 rfl rfl)
theorem dX1_passed_39 : decode cX1_passed 39 = .ok (.iconst 0, 1) := dk_3 (dk_at dksX1_passed_1 16 rfl rfl)
theorem dX1_passed_40 : decode cX1_passed 40 = .ok (.istore_n 3, 1) := dk_62 (dk_at dksX1_passed_1 17 rfl rfl)
theorem dX1_passed_41 : decode cX1_passed 41 = .ok (.iconst 0, 1) := dk_3 (dk_at dksX1_passed_1 18 rfl rfl)
theorem dX1_passed_42 : decode cX1_passed 42 = .ok (.istore 4, 2) := dk_54 4 (dk_at dksX1_passed_1 19 rfl rfl)
theorem dX1_passed_44 : decode cX1_passed 44 = .ok (.iload 4, 2) := dk_21 4 (dk_at dksX1_passed_1 21 rfl rfl)
theorem dX1_passed_46 : decode cX1_passed 46 = .ok (.bipush 40, 2) := dk_16 40 (dk_at dksX1_passed_2 0 rfl rfl)
theorem dX1_passed_48 : decode cX1_passed 48 = .ok (.if_icmp .gt 42, 3) := dk_163 0 42 (dk_at dksX1_passed_2 2 rfl rfl)
theorem dX1_passed_51 : decode cX1_passed 51 = .ok (.iload_n 3, 1) := dk_29 (dk_at dksX1_passed_2 5 rfl rfl)
theorem dX1_passed_52 : decode cX1_passed 52 = .ok (.aload_n 0, 1) := dk_42 (dk_at dksX1_passed_2 6 rfl rfl)
theorem dX1_passed_53 : decode cX1_passed 53 = .ok (.getfield 46, 3) := dk_180 0 46 (dk_at dksX1_passed_2 7 rfl rfl)
theorem dX1_passed_56 : decode cX1_passed 56 = .ok (.iload_n 1, 1) := dk_27 (dk_at dksX1_passed_2 10 rfl rfl)
theorem dX1_passed_57 : decode cX1_passed 57 = .ok (.iload 4, 2) := dk_21 4 (dk_at dksX1_passed_2 11 rfl rfl)
theorem dX1_passed_59 : decode cX1_passed 59 = .ok (.invokevirtual 193, 3) := dk_182 0 193 (dk_at dksX1_passed_2 13 rfl rfl)
theorem dX1_passed_62 : decode cX1_passed 62 = .ok (.iload_n 2, 1) := dk_28 (dk_at dksX1_passed_2 16 rfl rfl)
theorem dX1_passed_63 : decode cX1_passed 63 = .ok (.if_icmp .ne 7, 3) := dk_160 0 7 (dk_at dksX1_passed_2 17 rfl rfl)
theorem dX1_passed_66 : decode cX1_passed 66 = .ok (.iconst 0, 1) := dk_3 (dk_at dksX1_passed_2 20 rfl rfl)
theorem dX1_passed_67 : decode cX1_passed 67 = .ok (.goto 4, 3) := dk_167 0 4 (dk_at dksX1_passed_2 21 rfl rfl)
theorem dX1_passed_70 : decode cX1_passed 70 = .ok (.iconst 1, 1) := dk_4 (dk_at dksX1_passed_3 0 rfl rfl)
theorem dX1_passed_71 : decode cX1_passed 71 = .ok (.iadd, 1) := dk_96 (dk_at dksX1_passed_3 1 rfl rfl)
theorem dX1_passed_72 : decode cX1_passed 72 = .ok (.istore_n 3, 1) := dk_62 (dk_at dksX1_passed_3 2 rfl rfl)
theorem dX1_passed_73 : decode cX1_passed 73 = .ok (.aload_n 0, 1) := dk_42 (dk_at dksX1_passed_3 3 rfl rfl)
theorem dX1_passed_74 : decode cX1_passed 74 = .ok (.getfield 46, 3) := dk_180 0 46 (dk_at dksX1_passed_3 4 rfl rfl)
theorem dX1_passed_77 : decode cX1_passed 77 = .ok (.iload_n 1, 1) := dk_27 (dk_at dksX1_passed_3 7 rfl rfl)
theorem dX1_passed_78 : decode cX1_passed 78 = .ok (.iload 4, 2) := dk_21 4 (dk_at dksX1_passed_3 8 rfl rfl)
theorem dX1_passed_80 : decode cX1_passed 80 = .ok (.invokevirtual 193, 3) := dk_182 0 193 (dk_at dksX1_passed_3 10 rfl rfl)
theorem dX1_passed_83 : decode cX1_passed 83 = .ok (.istore_n 2, 1) := dk_61 (dk_at dksX1_passed_3 13 rfl rfl)
theorem dX1_passed_84 : decode cX1_passed 84 = .ok (.iinc 4 1, 3) := dk_132 4 1 (dk_at dksX1_passed_3 14 rfl rfl)
theorem dX1_passed_87 : decode cX1_passed 87 = .ok (.goto (-43), 3) := dk_167 255 213 (dk_at dksX1_passed_3 17 rfl rfl)
theorem dX1_passed_90 : decode cX1_passed 90 = .ok (.iload_n 3, 1) := dk_29 (dk_at dksX1_passed_3 20 rfl rfl)
theorem dX1_passed_91 : decode cX1_passed 91 = .ok (.ireturn, 1) := dk_172 (dk_at dksX1_passed_3 21 rfl rfl)
abbrev cX1_judge : ByteArray := prog_1_method_29_code
def yX1_judge : MethodName := ⟨RX1, "judge", "()I"⟩
def dkwX1_judge_1 : List UInt8 := [180, 0, 102, 182, 0, 199, 172]
abbrev dktX1_judge_1 : List UInt8 := dkwX1_judge_1 ++ []
def dkwX1_judge_0 : List UInt8 := [42, 182, 0, 77, 42, 180, 0, 102, 199, 0, 11, 42, 4, 182, 0, 91, 167, 0, 14, 42, 180, 0, 46, 42]
abbrev dktX1_judge_0 : List UInt8 := dkwX1_judge_0 ++ dktX1_judge_1
theorem dksX1_judge_0 : cX1_judge.data.toList.drop 0 = dktX1_judge_0 := by decide +kernel
theorem dksX1_judge_1 : cX1_judge.data.toList.drop 24 = dktX1_judge_1 := dk_seg dksX1_judge_0 24 rfl rfl
theorem dX1_judge_0 : decode cX1_judge 0 = .ok (.aload_n 0, 1) := dk_42 (dk_at dksX1_judge_0 0 rfl rfl)
theorem dX1_judge_1 : decode cX1_judge 1 = .ok (.invokevirtual 77, 3) := dk_182 0 77 (dk_at dksX1_judge_0 1 rfl rfl)
theorem dX1_judge_4 : decode cX1_judge 4 = .ok (.aload_n 0, 1) := dk_42 (dk_at dksX1_judge_0 4 rfl rfl)
theorem dX1_judge_5 : decode cX1_judge 5 = .ok (.getfield 102, 3) := dk_180 0 102 (dk_at dksX1_judge_0 5 rfl rfl)
theorem dX1_judge_8 : decode cX1_judge 8 = .ok (.ifnonnull 11, 3) := dk_199 0 11 (dk_at dksX1_judge_0 8 rfl rfl)
theorem dX1_judge_11 : decode cX1_judge 11 = .ok (.aload_n 0, 1) := dk_42 (dk_at dksX1_judge_0 11 rfl rfl)
theorem dX1_judge_12 : decode cX1_judge 12 = .ok (.iconst 1, 1) := dk_4 (dk_at dksX1_judge_0 12 rfl rfl)
theorem dX1_judge_13 : decode cX1_judge 13 = .ok (.invokevirtual 91, 3) := dk_182 0 91 (dk_at dksX1_judge_0 13 rfl rfl)
theorem dX1_judge_16 : decode cX1_judge 16 = .ok (.goto 14, 3) := dk_167 0 14 (dk_at dksX1_judge_0 16 rfl rfl)
theorem dX1_judge_19 : decode cX1_judge 19 = .ok (.aload_n 0, 1) := dk_42 (dk_at dksX1_judge_0 19 rfl rfl)
theorem dX1_judge_20 : decode cX1_judge 20 = .ok (.getfield 46, 3) := dk_180 0 46 (dk_at dksX1_judge_0 20 rfl rfl)
theorem dX1_judge_23 : decode cX1_judge 23 = .ok (.aload_n 0, 1) := dk_42 (dk_at dksX1_judge_0 23 rfl rfl)
theorem dX1_judge_24 : decode cX1_judge 24 = .ok (.getfield 102, 3) := dk_180 0 102 (dk_at dksX1_judge_1 0 rfl rfl)
theorem dX1_judge_27 : decode cX1_judge 27 = .ok (.invokevirtual 199, 3) := dk_182 0 199 (dk_at dksX1_judge_1 3 rfl rfl)
theorem dX1_judge_30 : decode cX1_judge 30 = .ok (.ireturn, 1) := dk_172 (dk_at dksX1_judge_1 6 rfl rfl)
abbrev cX1_ways : ByteArray := prog_1_method_32_code
def yX1_ways : MethodName := ⟨RX1, "ways", "()I"⟩
def dkwX1_ways_1 : List UInt8 := [180, 0, 203, 172]
abbrev dktX1_ways_1 : List UInt8 := dkwX1_ways_1 ++ []
def dkwX1_ways_0 : List UInt8 := [42, 182, 0, 77, 42, 180, 0, 102, 199, 0, 9, 42, 4, 182, 0, 91, 172, 42, 2, 182, 0, 213, 42]
abbrev dktX1_ways_0 : List UInt8 := dkwX1_ways_0 ++ dktX1_ways_1
theorem dksX1_ways_0 : cX1_ways.data.toList.drop 0 = dktX1_ways_0 := by decide +kernel
theorem dksX1_ways_1 : cX1_ways.data.toList.drop 23 = dktX1_ways_1 := dk_seg dksX1_ways_0 23 rfl rfl
theorem dX1_ways_0 : decode cX1_ways 0 = .ok (.aload_n 0, 1) := dk_42 (dk_at dksX1_ways_0 0 rfl rfl)
theorem dX1_ways_1 : decode cX1_ways 1 = .ok (.invokevirtual 77, 3) := dk_182 0 77 (dk_at dksX1_ways_0 1 rfl rfl)
theorem dX1_ways_4 : decode cX1_ways 4 = .ok (.aload_n 0, 1) := dk_42 (dk_at dksX1_ways_0 4 rfl rfl)
theorem dX1_ways_5 : decode cX1_ways 5 = .ok (.getfield 102, 3) := dk_180 0 102 (dk_at dksX1_ways_0 5 rfl rfl)
theorem dX1_ways_8 : decode cX1_ways 8 = .ok (.ifnonnull 9, 3) := dk_199 0 9 (dk_at dksX1_ways_0 8 rfl rfl)
theorem dX1_ways_11 : decode cX1_ways 11 = .ok (.aload_n 0, 1) := dk_42 (dk_at dksX1_ways_0 11 rfl rfl)
theorem dX1_ways_12 : decode cX1_ways 12 = .ok (.iconst 1, 1) := dk_4 (dk_at dksX1_ways_0 12 rfl rfl)
theorem dX1_ways_13 : decode cX1_ways 13 = .ok (.invokevirtual 91, 3) := dk_182 0 91 (dk_at dksX1_ways_0 13 rfl rfl)
theorem dX1_ways_16 : decode cX1_ways 16 = .ok (.ireturn, 1) := dk_172 (dk_at dksX1_ways_0 16 rfl rfl)
theorem dX1_ways_17 : decode cX1_ways 17 = .ok (.aload_n 0, 1) := dk_42 (dk_at dksX1_ways_0 17 rfl rfl)
theorem dX1_ways_18 : decode cX1_ways 18 = .ok (.iconst (-1), 1) := dk_2 (dk_at dksX1_ways_0 18 rfl rfl)
theorem dX1_ways_19 : decode cX1_ways 19 = .ok (.invokevirtual 213, 3) := dk_182 0 213 (dk_at dksX1_ways_0 19 rfl rfl)
theorem dX1_ways_22 : decode cX1_ways 22 = .ok (.aload_n 0, 1) := dk_42 (dk_at dksX1_ways_0 22 rfl rfl)
theorem dX1_ways_23 : decode cX1_ways 23 = .ok (.getfield 203, 3) := dk_180 0 203 (dk_at dksX1_ways_1 0 rfl rfl)
theorem dX1_ways_26 : decode cX1_ways 26 = .ok (.ireturn, 1) := dk_172 (dk_at dksX1_ways_1 3 rfl rfl)
abbrev cX1_seekWays : ByteArray := prog_1_method_31_code
def yX1_seekWays : MethodName := ⟨RX1, "seekWays", "(I)V"⟩
def dkwX1_seekWays_6 : List UInt8 := [132, 2, 1, 167, 255, 141, 177]
abbrev dktX1_seekWays_6 : List UInt8 := dkwX1_seekWays_6 ++ []
def dkwX1_seekWays_5 : List UInt8 := [16, 10, 29, 104, 96, 21, 4, 96, 27, 182, 0, 209, 132, 4, 1, 167, 255, 177, 132, 3, 1, 167, 255, 155]
abbrev dktX1_seekWays_5 : List UInt8 := dkwX1_seekWays_5 ++ dktX1_seekWays_6
def dkwX1_seekWays_4 : List UInt8 := [182, 0, 116, 42, 180, 0, 50, 42, 180, 0, 102, 182, 0, 199, 16, 254, 160, 0, 20, 42, 16, 100, 28, 104]
abbrev dktX1_seekWays_4 : List UInt8 := dkwX1_seekWays_4 ++ dktX1_seekWays_5
def dkwX1_seekWays_3 : List UInt8 := [29, 21, 4, 182, 0, 178, 154, 0, 6, 167, 0, 51, 42, 180, 0, 50, 42, 180, 0, 102, 28, 29, 21, 4]
abbrev dktX1_seekWays_3 : List UInt8 := dkwX1_seekWays_3 ++ dktX1_seekWays_4
def dkwX1_seekWays_2 : List UInt8 := [162, 0, 96, 29, 4, 96, 54, 4, 21, 4, 42, 180, 0, 102, 180, 0, 126, 162, 0, 73, 42, 180, 0, 102]
abbrev dktX1_seekWays_2 : List UInt8 := dkwX1_seekWays_2 ++ dktX1_seekWays_3
def dkwX1_seekWays_1 : List UInt8 := [27, 182, 0, 209, 3, 61, 28, 16, 40, 163, 0, 115, 3, 62, 29, 42, 180, 0, 102, 180, 0, 126]
abbrev dktX1_seekWays_1 : List UInt8 := dkwX1_seekWays_1 ++ dktX1_seekWays_2
def dkwX1_seekWays_0 : List UInt8 := [42, 3, 181, 0, 203, 42, 180, 0, 46, 42, 180, 0, 102, 182, 0, 199, 16, 254, 160, 0, 10, 42, 16, 254]
abbrev dktX1_seekWays_0 : List UInt8 := dkwX1_seekWays_0 ++ dktX1_seekWays_1
theorem dksX1_seekWays_0 : cX1_seekWays.data.toList.drop 0 = dktX1_seekWays_0 := by decide +kernel
theorem dksX1_seekWays_1 : cX1_seekWays.data.toList.drop 24 = dktX1_seekWays_1 := dk_seg dksX1_seekWays_0 24 rfl rfl
theorem dksX1_seekWays_2 : cX1_seekWays.data.toList.drop 46 = dktX1_seekWays_2 := dk_seg dksX1_seekWays_1 22 rfl rfl
theorem dksX1_seekWays_3 : cX1_seekWays.data.toList.drop 70 = dktX1_seekWays_3 := dk_seg dksX1_seekWays_2 24 rfl rfl
theorem dksX1_seekWays_4 : cX1_seekWays.data.toList.drop 94 = dktX1_seekWays_4 := dk_seg dksX1_seekWays_3 24 rfl rfl
theorem dksX1_seekWays_5 : cX1_seekWays.data.toList.drop 118 = dktX1_seekWays_5 := dk_seg dksX1_seekWays_4 24 rfl rfl
theorem dksX1_seekWays_6 : cX1_seekWays.data.toList.drop 142 = dktX1_seekWays_6 := dk_seg dksX1_seekWays_5 24 rfl rfl
theorem dX1_seekWays_0 : decode cX1_seekWays 0 = .ok (.aload_n 0, 1) := dk_42 (dk_at dksX1_seekWays_0 0 rfl rfl)
theorem dX1_seekWays_1 : decode cX1_seekWays 1 = .ok (.iconst 0, 1) := dk_3 (dk_at dksX1_seekWays_0 1 rfl rfl)
theorem dX1_seekWays_2 : decode cX1_seekWays 2 = .ok (.putfield 203, 3) := dk_181 0 203 (dk_at dksX1_seekWays_0 2 rfl rfl)
theorem dX1_seekWays_5 : decode cX1_seekWays 5 = .ok (.aload_n 0, 1) := dk_42 (dk_at dksX1_seekWays_0 5 rfl rfl)
theorem dX1_seekWays_6 : decode cX1_seekWays 6 = .ok (.getfield 46, 3) := dk_180 0 46 (dk_at dksX1_seekWays_0 6 rfl rfl)
theorem dX1_seekWays_9 : decode cX1_seekWays 9 = .ok (.aload_n 0, 1) := dk_42 (dk_at dksX1_seekWays_0 9 rfl rfl)
theorem dX1_seekWays_10 : decode cX1_seekWays 10 = .ok (.getfield 102, 3) := dk_180 0 102 (dk_at dksX1_seekWays_0 10 rfl rfl)
theorem dX1_seekWays_13 : decode cX1_seekWays 13 = .ok (.invokevirtual 199, 3) := dk_182 0 199 (dk_at dksX1_seekWays_0 13 rfl rfl)
theorem dX1_seekWays_16 : decode cX1_seekWays 16 = .ok (.bipush (-2), 2) := dk_16 254 (dk_at dksX1_seekWays_0 16 rfl rfl)
theorem dX1_seekWays_18 : decode cX1_seekWays 18 = .ok (.if_icmp .ne 10, 3) := dk_160 0 10 (dk_at dksX1_seekWays_0 18 rfl rfl)
theorem dX1_seekWays_21 : decode cX1_seekWays 21 = .ok (.aload_n 0, 1) := dk_42 (dk_at dksX1_seekWays_0 21 rfl rfl)
theorem dX1_seekWays_22 : decode cX1_seekWays 22 = .ok (.bipush (-2), 2) := dk_16 254 (dk_at dksX1_seekWays_0 22 rfl rfl)
theorem dX1_seekWays_24 : decode cX1_seekWays 24 = .ok (.iload_n 1, 1) := dk_27 (dk_at dksX1_seekWays_1 0 rfl rfl)
theorem dX1_seekWays_25 : decode cX1_seekWays 25 = .ok (.invokevirtual 209, 3) := dk_182 0 209 (dk_at dksX1_seekWays_1 1 rfl rfl)
theorem dX1_seekWays_28 : decode cX1_seekWays 28 = .ok (.iconst 0, 1) := dk_3 (dk_at dksX1_seekWays_1 4 rfl rfl)
theorem dX1_seekWays_29 : decode cX1_seekWays 29 = .ok (.istore_n 2, 1) := dk_61 (dk_at dksX1_seekWays_1 5 rfl rfl)
theorem dX1_seekWays_30 : decode cX1_seekWays 30 = .ok (.iload_n 2, 1) := dk_28 (dk_at dksX1_seekWays_1 6 rfl rfl)
theorem dX1_seekWays_31 : decode cX1_seekWays 31 = .ok (.bipush 40, 2) := dk_16 40 (dk_at dksX1_seekWays_1 7 rfl rfl)
theorem dX1_seekWays_33 : decode cX1_seekWays 33 = .ok (.if_icmp .gt 115, 3) := dk_163 0 115 (dk_at dksX1_seekWays_1 9 rfl rfl)
theorem dX1_seekWays_36 : decode cX1_seekWays 36 = .ok (.iconst 0, 1) := dk_3 (dk_at dksX1_seekWays_1 12 rfl rfl)
theorem dX1_seekWays_37 : decode cX1_seekWays 37 = .ok (.istore_n 3, 1) := dk_62 (dk_at dksX1_seekWays_1 13 rfl rfl)
theorem dX1_seekWays_38 : decode cX1_seekWays 38 = .ok (.iload_n 3, 1) := dk_29 (dk_at dksX1_seekWays_1 14 rfl rfl)
theorem dX1_seekWays_39 : decode cX1_seekWays 39 = .ok (.aload_n 0, 1) := dk_42 (dk_at dksX1_seekWays_1 15 rfl rfl)
theorem dX1_seekWays_40 : decode cX1_seekWays 40 = .ok (.getfield 102, 3) := dk_180 0 102 (dk_at dksX1_seekWays_1 16 rfl rfl)
theorem dX1_seekWays_43 : decode cX1_seekWays 43 = .ok (.getfield 126, 3) := dk_180 0 126 (dk_at dksX1_seekWays_1 19 rfl rfl)
theorem dX1_seekWays_46 : decode cX1_seekWays 46 = .ok (.if_icmp .ge 96, 3) := dk_162 0 96 (dk_at dksX1_seekWays_2 0 rfl rfl)
theorem dX1_seekWays_49 : decode cX1_seekWays 49 = .ok (.iload_n 3, 1) := dk_29 (dk_at dksX1_seekWays_2 3 rfl rfl)
theorem dX1_seekWays_50 : decode cX1_seekWays 50 = .ok (.iconst 1, 1) := dk_4 (dk_at dksX1_seekWays_2 4 rfl rfl)
theorem dX1_seekWays_51 : decode cX1_seekWays 51 = .ok (.iadd, 1) := dk_96 (dk_at dksX1_seekWays_2 5 rfl rfl)
theorem dX1_seekWays_52 : decode cX1_seekWays 52 = .ok (.istore 4, 2) := dk_54 4 (dk_at dksX1_seekWays_2 6 rfl rfl)
theorem dX1_seekWays_54 : decode cX1_seekWays 54 = .ok (.iload 4, 2) := dk_21 4 (dk_at dksX1_seekWays_2 8 rfl rfl)
theorem dX1_seekWays_56 : decode cX1_seekWays 56 = .ok (.aload_n 0, 1) := dk_42 (dk_at dksX1_seekWays_2 10 rfl rfl)
theorem dX1_seekWays_57 : decode cX1_seekWays 57 = .ok (.getfield 102, 3) := dk_180 0 102 (dk_at dksX1_seekWays_2 11 rfl rfl)
theorem dX1_seekWays_60 : decode cX1_seekWays 60 = .ok (.getfield 126, 3) := dk_180 0 126 (dk_at dksX1_seekWays_2 14 rfl rfl)
theorem dX1_seekWays_63 : decode cX1_seekWays 63 = .ok (.if_icmp .ge 73, 3) := dk_162 0 73 (dk_at dksX1_seekWays_2 17 rfl rfl)
theorem dX1_seekWays_66 : decode cX1_seekWays 66 = .ok (.aload_n 0, 1) := dk_42 (dk_at dksX1_seekWays_2 20 rfl rfl)
theorem dX1_seekWays_67 : decode cX1_seekWays 67 = .ok (.getfield 102, 3) := dk_180 0 102 (dk_at dksX1_seekWays_2 21 rfl rfl)
theorem dX1_seekWays_70 : decode cX1_seekWays 70 = .ok (.iload_n 3, 1) := dk_29 (dk_at dksX1_seekWays_3 0 rfl rfl)
theorem dX1_seekWays_71 : decode cX1_seekWays 71 = .ok (.iload 4, 2) := dk_21 4 (dk_at dksX1_seekWays_3 1 rfl rfl)
theorem dX1_seekWays_73 : decode cX1_seekWays 73 = .ok (.invokevirtual 178, 3) := dk_182 0 178 (dk_at dksX1_seekWays_3 3 rfl rfl)
theorem dX1_seekWays_76 : decode cX1_seekWays 76 = .ok (.ifCond .ne 6, 3) := dk_154 0 6 (dk_at dksX1_seekWays_3 6 rfl rfl)
theorem dX1_seekWays_79 : decode cX1_seekWays 79 = .ok (.goto 51, 3) := dk_167 0 51 (dk_at dksX1_seekWays_3 9 rfl rfl)
theorem dX1_seekWays_82 : decode cX1_seekWays 82 = .ok (.aload_n 0, 1) := dk_42 (dk_at dksX1_seekWays_3 12 rfl rfl)
theorem dX1_seekWays_83 : decode cX1_seekWays 83 = .ok (.getfield 50, 3) := dk_180 0 50 (dk_at dksX1_seekWays_3 13 rfl rfl)
theorem dX1_seekWays_86 : decode cX1_seekWays 86 = .ok (.aload_n 0, 1) := dk_42 (dk_at dksX1_seekWays_3 16 rfl rfl)
theorem dX1_seekWays_87 : decode cX1_seekWays 87 = .ok (.getfield 102, 3) := dk_180 0 102 (dk_at dksX1_seekWays_3 17 rfl rfl)
theorem dX1_seekWays_90 : decode cX1_seekWays 90 = .ok (.iload_n 2, 1) := dk_28 (dk_at dksX1_seekWays_3 20 rfl rfl)
theorem dX1_seekWays_91 : decode cX1_seekWays 91 = .ok (.iload_n 3, 1) := dk_29 (dk_at dksX1_seekWays_3 21 rfl rfl)
theorem dX1_seekWays_92 : decode cX1_seekWays 92 = .ok (.iload 4, 2) := dk_21 4 (dk_at dksX1_seekWays_3 22 rfl rfl)
theorem dX1_seekWays_94 : decode cX1_seekWays 94 = .ok (.invokevirtual 116, 3) := dk_182 0 116 (dk_at dksX1_seekWays_4 0 rfl rfl)
theorem dX1_seekWays_97 : decode cX1_seekWays 97 = .ok (.aload_n 0, 1) := dk_42 (dk_at dksX1_seekWays_4 3 rfl rfl)
theorem dX1_seekWays_98 : decode cX1_seekWays 98 = .ok (.getfield 50, 3) := dk_180 0 50 (dk_at dksX1_seekWays_4 4 rfl rfl)
theorem dX1_seekWays_101 : decode cX1_seekWays 101 = .ok (.aload_n 0, 1) := dk_42 (dk_at dksX1_seekWays_4 7 rfl rfl)
theorem dX1_seekWays_102 : decode cX1_seekWays 102 = .ok (.getfield 102, 3) := dk_180 0 102 (dk_at dksX1_seekWays_4 8 rfl rfl)
theorem dX1_seekWays_105 : decode cX1_seekWays 105 = .ok (.invokevirtual 199, 3) := dk_182 0 199 (dk_at dksX1_seekWays_4 11 rfl rfl)
theorem dX1_seekWays_108 : decode cX1_seekWays 108 = .ok (.bipush (-2), 2) := dk_16 254 (dk_at dksX1_seekWays_4 14 rfl rfl)
theorem dX1_seekWays_110 : decode cX1_seekWays 110 = .ok (.if_icmp .ne 20, 3) := dk_160 0 20 (dk_at dksX1_seekWays_4 16 rfl rfl)
theorem dX1_seekWays_113 : decode cX1_seekWays 113 = .ok (.aload_n 0, 1) := dk_42 (dk_at dksX1_seekWays_4 19 rfl rfl)
theorem dX1_seekWays_114 : decode cX1_seekWays 114 = .ok (.bipush 100, 2) := dk_16 100 (dk_at dksX1_seekWays_4 20 rfl rfl)
theorem dX1_seekWays_116 : decode cX1_seekWays 116 = .ok (.iload_n 2, 1) := dk_28 (dk_at dksX1_seekWays_4 22 rfl rfl)
theorem dX1_seekWays_117 : decode cX1_seekWays 117 = .ok (.imul, 1) := dk_104 (dk_at dksX1_seekWays_4 23 rfl rfl)
theorem dX1_seekWays_118 : decode cX1_seekWays 118 = .ok (.bipush 10, 2) := dk_16 10 (dk_at dksX1_seekWays_5 0 rfl rfl)
theorem dX1_seekWays_120 : decode cX1_seekWays 120 = .ok (.iload_n 3, 1) := dk_29 (dk_at dksX1_seekWays_5 2 rfl rfl)
theorem dX1_seekWays_121 : decode cX1_seekWays 121 = .ok (.imul, 1) := dk_104 (dk_at dksX1_seekWays_5 3 rfl rfl)
theorem dX1_seekWays_122 : decode cX1_seekWays 122 = .ok (.iadd, 1) := dk_96 (dk_at dksX1_seekWays_5 4 rfl rfl)
theorem dX1_seekWays_123 : decode cX1_seekWays 123 = .ok (.iload 4, 2) := dk_21 4 (dk_at dksX1_seekWays_5 5 rfl rfl)
theorem dX1_seekWays_125 : decode cX1_seekWays 125 = .ok (.iadd, 1) := dk_96 (dk_at dksX1_seekWays_5 7 rfl rfl)
theorem dX1_seekWays_126 : decode cX1_seekWays 126 = .ok (.iload_n 1, 1) := dk_27 (dk_at dksX1_seekWays_5 8 rfl rfl)
theorem dX1_seekWays_127 : decode cX1_seekWays 127 = .ok (.invokevirtual 209, 3) := dk_182 0 209 (dk_at dksX1_seekWays_5 9 rfl rfl)
theorem dX1_seekWays_130 : decode cX1_seekWays 130 = .ok (.iinc 4 1, 3) := dk_132 4 1 (dk_at dksX1_seekWays_5 12 rfl rfl)
theorem dX1_seekWays_133 : decode cX1_seekWays 133 = .ok (.goto (-79), 3) := dk_167 255 177 (dk_at dksX1_seekWays_5 15 rfl rfl)
theorem dX1_seekWays_136 : decode cX1_seekWays 136 = .ok (.iinc 3 1, 3) := dk_132 3 1 (dk_at dksX1_seekWays_5 18 rfl rfl)
theorem dX1_seekWays_139 : decode cX1_seekWays 139 = .ok (.goto (-101), 3) := dk_167 255 155 (dk_at dksX1_seekWays_5 21 rfl rfl)
theorem dX1_seekWays_142 : decode cX1_seekWays 142 = .ok (.iinc 2 1, 3) := dk_132 2 1 (dk_at dksX1_seekWays_6 0 rfl rfl)
theorem dX1_seekWays_145 : decode cX1_seekWays 145 = .ok (.goto (-115), 3) := dk_167 255 141 (dk_at dksX1_seekWays_6 3 rfl rfl)
theorem dX1_seekWays_148 : decode cX1_seekWays 148 = .ok (.return_, 1) := dk_177 (dk_at dksX1_seekWays_6 6 rfl rfl)
abbrev cX1_way : ByteArray := prog_1_method_30_code
def yX1_way : MethodName := ⟨RX1, "way", "(II)V"⟩
def dkwX1_way_0 : List UInt8 := [42, 180, 0, 203, 28, 160, 0, 8, 42, 27, 181, 0, 206, 42, 89, 180, 0, 203, 4, 96, 181, 0, 203, 177]
abbrev dktX1_way_0 : List UInt8 := dkwX1_way_0 ++ []
theorem dksX1_way_0 : cX1_way.data.toList.drop 0 = dktX1_way_0 := by decide +kernel
theorem dX1_way_0 : decode cX1_way 0 = .ok (.aload_n 0, 1) := dk_42 (dk_at dksX1_way_0 0 rfl rfl)
theorem dX1_way_1 : decode cX1_way 1 = .ok (.getfield 203, 3) := dk_180 0 203 (dk_at dksX1_way_0 1 rfl rfl)
theorem dX1_way_4 : decode cX1_way 4 = .ok (.iload_n 2, 1) := dk_28 (dk_at dksX1_way_0 4 rfl rfl)
theorem dX1_way_5 : decode cX1_way 5 = .ok (.if_icmp .ne 8, 3) := dk_160 0 8 (dk_at dksX1_way_0 5 rfl rfl)
theorem dX1_way_8 : decode cX1_way 8 = .ok (.aload_n 0, 1) := dk_42 (dk_at dksX1_way_0 8 rfl rfl)
theorem dX1_way_9 : decode cX1_way 9 = .ok (.iload_n 1, 1) := dk_27 (dk_at dksX1_way_0 9 rfl rfl)
theorem dX1_way_10 : decode cX1_way 10 = .ok (.putfield 206, 3) := dk_181 0 206 (dk_at dksX1_way_0 10 rfl rfl)
theorem dX1_way_13 : decode cX1_way 13 = .ok (.aload_n 0, 1) := dk_42 (dk_at dksX1_way_0 13 rfl rfl)
theorem dX1_way_14 : decode cX1_way 14 = .ok (.dup, 1) := dk_89 (dk_at dksX1_way_0 14 rfl rfl)
theorem dX1_way_15 : decode cX1_way 15 = .ok (.getfield 203, 3) := dk_180 0 203 (dk_at dksX1_way_0 15 rfl rfl)
theorem dX1_way_18 : decode cX1_way 18 = .ok (.iconst 1, 1) := dk_4 (dk_at dksX1_way_0 18 rfl rfl)
theorem dX1_way_19 : decode cX1_way 19 = .ok (.iadd, 1) := dk_96 (dk_at dksX1_way_0 19 rfl rfl)
theorem dX1_way_20 : decode cX1_way 20 = .ok (.putfield 203, 3) := dk_181 0 203 (dk_at dksX1_way_0 20 rfl rfl)
theorem dX1_way_23 : decode cX1_way 23 = .ok (.return_, 1) := dk_177 (dk_at dksX1_way_0 23 rfl rfl)
abbrev cX1_wayAt : ByteArray := prog_1_method_33_code
def yX1_wayAt : MethodName := ⟨RX1, "wayAt", "(I)I"⟩
def dkwX1_wayAt_2 : List UInt8 := [172]
abbrev dktX1_wayAt_2 : List UInt8 := dkwX1_wayAt_2 ++ []
def dkwX1_wayAt_1 : List UInt8 := [42, 180, 0, 203, 4, 100, 184, 0, 87, 153, 0, 10, 42, 180, 0, 206, 167, 0, 8, 42, 4, 182, 0, 91]
abbrev dktX1_wayAt_1 : List UInt8 := dkwX1_wayAt_1 ++ dktX1_wayAt_2
def dkwX1_wayAt_0 : List UInt8 := [42, 182, 0, 77, 42, 180, 0, 102, 199, 0, 9, 42, 4, 182, 0, 91, 172, 42, 27, 182, 0, 213, 27, 3]
abbrev dktX1_wayAt_0 : List UInt8 := dkwX1_wayAt_0 ++ dktX1_wayAt_1
theorem dksX1_wayAt_0 : cX1_wayAt.data.toList.drop 0 = dktX1_wayAt_0 := by decide +kernel
theorem dksX1_wayAt_1 : cX1_wayAt.data.toList.drop 24 = dktX1_wayAt_1 := dk_seg dksX1_wayAt_0 24 rfl rfl
theorem dksX1_wayAt_2 : cX1_wayAt.data.toList.drop 48 = dktX1_wayAt_2 := dk_seg dksX1_wayAt_1 24 rfl rfl
theorem dX1_wayAt_0 : decode cX1_wayAt 0 = .ok (.aload_n 0, 1) := dk_42 (dk_at dksX1_wayAt_0 0 rfl rfl)
theorem dX1_wayAt_1 : decode cX1_wayAt 1 = .ok (.invokevirtual 77, 3) := dk_182 0 77 (dk_at dksX1_wayAt_0 1 rfl rfl)
theorem dX1_wayAt_4 : decode cX1_wayAt 4 = .ok (.aload_n 0, 1) := dk_42 (dk_at dksX1_wayAt_0 4 rfl rfl)
theorem dX1_wayAt_5 : decode cX1_wayAt 5 = .ok (.getfield 102, 3) := dk_180 0 102 (dk_at dksX1_wayAt_0 5 rfl rfl)
theorem dX1_wayAt_8 : decode cX1_wayAt 8 = .ok (.ifnonnull 9, 3) := dk_199 0 9 (dk_at dksX1_wayAt_0 8 rfl rfl)
theorem dX1_wayAt_11 : decode cX1_wayAt 11 = .ok (.aload_n 0, 1) := dk_42 (dk_at dksX1_wayAt_0 11 rfl rfl)
theorem dX1_wayAt_12 : decode cX1_wayAt 12 = .ok (.iconst 1, 1) := dk_4 (dk_at dksX1_wayAt_0 12 rfl rfl)
theorem dX1_wayAt_13 : decode cX1_wayAt 13 = .ok (.invokevirtual 91, 3) := dk_182 0 91 (dk_at dksX1_wayAt_0 13 rfl rfl)
theorem dX1_wayAt_16 : decode cX1_wayAt 16 = .ok (.ireturn, 1) := dk_172 (dk_at dksX1_wayAt_0 16 rfl rfl)
theorem dX1_wayAt_17 : decode cX1_wayAt 17 = .ok (.aload_n 0, 1) := dk_42 (dk_at dksX1_wayAt_0 17 rfl rfl)
theorem dX1_wayAt_18 : decode cX1_wayAt 18 = .ok (.iload_n 1, 1) := dk_27 (dk_at dksX1_wayAt_0 18 rfl rfl)
theorem dX1_wayAt_19 : decode cX1_wayAt 19 = .ok (.invokevirtual 213, 3) := dk_182 0 213 (dk_at dksX1_wayAt_0 19 rfl rfl)
theorem dX1_wayAt_22 : decode cX1_wayAt 22 = .ok (.iload_n 1, 1) := dk_27 (dk_at dksX1_wayAt_0 22 rfl rfl)
theorem dX1_wayAt_23 : decode cX1_wayAt 23 = .ok (.iconst 0, 1) := dk_3 (dk_at dksX1_wayAt_0 23 rfl rfl)
theorem dX1_wayAt_24 : decode cX1_wayAt 24 = .ok (.aload_n 0, 1) := dk_42 (dk_at dksX1_wayAt_1 0 rfl rfl)
theorem dX1_wayAt_25 : decode cX1_wayAt 25 = .ok (.getfield 203, 3) := dk_180 0 203 (dk_at dksX1_wayAt_1 1 rfl rfl)
theorem dX1_wayAt_28 : decode cX1_wayAt 28 = .ok (.iconst 1, 1) := dk_4 (dk_at dksX1_wayAt_1 4 rfl rfl)
theorem dX1_wayAt_29 : decode cX1_wayAt 29 = .ok (.isub, 1) := dk_100 (dk_at dksX1_wayAt_1 5 rfl rfl)
theorem dX1_wayAt_30 : decode cX1_wayAt 30 = .ok (.invokestatic 87, 3) := dk_184 0 87 (dk_at dksX1_wayAt_1 6 rfl rfl)
theorem dX1_wayAt_33 : decode cX1_wayAt 33 = .ok (.ifCond .eq 10, 3) := dk_153 0 10 (dk_at dksX1_wayAt_1 9 rfl rfl)
theorem dX1_wayAt_36 : decode cX1_wayAt 36 = .ok (.aload_n 0, 1) := dk_42 (dk_at dksX1_wayAt_1 12 rfl rfl)
theorem dX1_wayAt_37 : decode cX1_wayAt 37 = .ok (.getfield 206, 3) := dk_180 0 206 (dk_at dksX1_wayAt_1 13 rfl rfl)
theorem dX1_wayAt_40 : decode cX1_wayAt 40 = .ok (.goto 8, 3) := dk_167 0 8 (dk_at dksX1_wayAt_1 16 rfl rfl)
theorem dX1_wayAt_43 : decode cX1_wayAt 43 = .ok (.aload_n 0, 1) := dk_42 (dk_at dksX1_wayAt_1 19 rfl rfl)
theorem dX1_wayAt_44 : decode cX1_wayAt 44 = .ok (.iconst 1, 1) := dk_4 (dk_at dksX1_wayAt_1 20 rfl rfl)
theorem dX1_wayAt_45 : decode cX1_wayAt 45 = .ok (.invokevirtual 91, 3) := dk_182 0 91 (dk_at dksX1_wayAt_1 21 rfl rfl)
theorem dX1_wayAt_48 : decode cX1_wayAt 48 = .ok (.ireturn, 1) := dk_172 (dk_at dksX1_wayAt_2 0 rfl rfl)
abbrev cX1_longest : ByteArray := prog_1_method_34_code
def yX1_longest : MethodName := ⟨RX1, "longest", "(I)I"⟩
def dkwX1_longest_4 : List UInt8 := [132, 4, 1, 167, 255, 187, 28, 172]
abbrev dktX1_longest_4 : List UInt8 := dkwX1_longest_4 ++ []
def dkwX1_longest_3 : List UInt8 := [182, 0, 193, 21, 5, 160, 0, 9, 29, 4, 96, 167, 0, 4, 4, 62, 28, 29, 184, 0, 216, 61]
abbrev dktX1_longest_3 : List UInt8 := dkwX1_longest_3 ++ dktX1_longest_4
def dkwX1_longest_2 : List UInt8 := [16, 254, 160, 0, 7, 3, 167, 0, 32, 21, 4, 158, 0, 26, 42, 180, 0, 46, 27, 21, 4, 4, 100]
abbrev dktX1_longest_2 : List UInt8 := dkwX1_longest_2 ++ dktX1_longest_3
def dkwX1_longest_1 : List UInt8 := [54, 4, 21, 4, 16, 40, 163, 0, 68, 42, 180, 0, 46, 27, 21, 4, 182, 0, 193, 54, 5, 21, 5]
abbrev dktX1_longest_1 : List UInt8 := dkwX1_longest_1 ++ dktX1_longest_2
def dkwX1_longest_0 : List UInt8 := [42, 182, 0, 77, 42, 27, 182, 0, 134, 154, 0, 9, 42, 4, 182, 0, 91, 172, 3, 61, 3, 62, 3]
abbrev dktX1_longest_0 : List UInt8 := dkwX1_longest_0 ++ dktX1_longest_1
theorem dksX1_longest_0 : cX1_longest.data.toList.drop 0 = dktX1_longest_0 := by decide +kernel
theorem dksX1_longest_1 : cX1_longest.data.toList.drop 23 = dktX1_longest_1 := dk_seg dksX1_longest_0 23 rfl rfl
theorem dksX1_longest_2 : cX1_longest.data.toList.drop 46 = dktX1_longest_2 := dk_seg dksX1_longest_1 23 rfl rfl
theorem dksX1_longest_3 : cX1_longest.data.toList.drop 69 = dktX1_longest_3 := dk_seg dksX1_longest_2 23 rfl rfl
theorem dksX1_longest_4 : cX1_longest.data.toList.drop 91 = dktX1_longest_4 := dk_seg dksX1_longest_3 22 rfl rfl
theorem dX1_longest_0 : decode cX1_longest 0 = .ok (.aload_n 0, 1) := dk_42 (dk_at dksX1_longest_0 0 rfl rfl)
theorem dX1_longest_1 : decode cX1_longest 1 = .ok (.invokevirtual 77, 3) := dk_182 0 77 (dk_at dksX1_longest_0 1 rfl rfl)
theorem dX1_longest_4 : decode cX1_longest 4 = .ok (.aload_n 0, 1) := dk_42 (dk_at dksX1_longest_0 4 rfl rfl)
theorem dX1_longest_5 : decode cX1_longest 5 = .ok (.iload_n 1, 1) := dk_27 (dk_at dksX1_longest_0 5 rfl rfl)
theorem dX1_longest_6 : decode cX1_longest 6 = .ok (.invokevirtual 134, 3) := dk_182 0 134 (dk_at dksX1_longest_0 6 rfl rfl)
theorem dX1_longest_9 : decode cX1_longest 9 = .ok (.ifCond .ne 9, 3) := dk_154 0 9 (dk_at dksX1_longest_0 9 rfl rfl)
theorem dX1_longest_12 : decode cX1_longest 12 = .ok (.aload_n 0, 1) := dk_42 (dk_at dksX1_longest_0 12 rfl rfl)
theorem dX1_longest_13 : decode cX1_longest 13 = .ok (.iconst 1, 1) := dk_4 (dk_at dksX1_longest_0 13 rfl rfl)
theorem dX1_longest_14 : decode cX1_longest 14 = .ok (.invokevirtual 91, 3) := dk_182 0 91 (dk_at dksX1_longest_0 14 rfl rfl)
theorem dX1_longest_17 : decode cX1_longest 17 = .ok (.ireturn, 1) := dk_172 (dk_at dksX1_longest_0 17 rfl rfl)
theorem dX1_longest_18 : decode cX1_longest 18 = .ok (.iconst 0, 1) := dk_3 (dk_at dksX1_longest_0 18 rfl rfl)
theorem dX1_longest_19 : decode cX1_longest 19 = .ok (.istore_n 2, 1) := dk_61 (dk_at dksX1_longest_0 19 rfl rfl)
theorem dX1_longest_20 : decode cX1_longest 20 = .ok (.iconst 0, 1) := dk_3 (dk_at dksX1_longest_0 20 rfl rfl)
theorem dX1_longest_21 : decode cX1_longest 21 = .ok (.istore_n 3, 1) := dk_62 (dk_at dksX1_longest_0 21 rfl rfl)
theorem dX1_longest_22 : decode cX1_longest 22 = .ok (.iconst 0, 1) := dk_3 (dk_at dksX1_longest_0 22 rfl rfl)
theorem dX1_longest_23 : decode cX1_longest 23 = .ok (.istore 4, 2) := dk_54 4 (dk_at dksX1_longest_1 0 rfl rfl)
theorem dX1_longest_25 : decode cX1_longest 25 = .ok (.iload 4, 2) := dk_21 4 (dk_at dksX1_longest_1 2 rfl rfl)
theorem dX1_longest_27 : decode cX1_longest 27 = .ok (.bipush 40, 2) := dk_16 40 (dk_at dksX1_longest_1 4 rfl rfl)
theorem dX1_longest_29 : decode cX1_longest 29 = .ok (.if_icmp .gt 68, 3) := dk_163 0 68 (dk_at dksX1_longest_1 6 rfl rfl)
theorem dX1_longest_32 : decode cX1_longest 32 = .ok (.aload_n 0, 1) := dk_42 (dk_at dksX1_longest_1 9 rfl rfl)
theorem dX1_longest_33 : decode cX1_longest 33 = .ok (.getfield 46, 3) := dk_180 0 46 (dk_at dksX1_longest_1 10 rfl rfl)
theorem dX1_longest_36 : decode cX1_longest 36 = .ok (.iload_n 1, 1) := dk_27 (dk_at dksX1_longest_1 13 rfl rfl)
theorem dX1_longest_37 : decode cX1_longest 37 = .ok (.iload 4, 2) := dk_21 4 (dk_at dksX1_longest_1 14 rfl rfl)
theorem dX1_longest_39 : decode cX1_longest 39 = .ok (.invokevirtual 193, 3) := dk_182 0 193 (dk_at dksX1_longest_1 16 rfl rfl)
theorem dX1_longest_42 : decode cX1_longest 42 = .ok (.istore 5, 2) := dk_54 5 (dk_at dksX1_longest_1 19 rfl rfl)
theorem dX1_longest_44 : decode cX1_longest 44 = .ok (.iload 5, 2) := dk_21 5 (dk_at dksX1_longest_1 21 rfl rfl)
theorem dX1_longest_46 : decode cX1_longest 46 = .ok (.bipush (-2), 2) := dk_16 254 (dk_at dksX1_longest_2 0 rfl rfl)
theorem dX1_longest_48 : decode cX1_longest 48 = .ok (.if_icmp .ne 7, 3) := dk_160 0 7 (dk_at dksX1_longest_2 2 rfl rfl)
theorem dX1_longest_51 : decode cX1_longest 51 = .ok (.iconst 0, 1) := dk_3 (dk_at dksX1_longest_2 5 rfl rfl)
theorem dX1_longest_52 : decode cX1_longest 52 = .ok (.goto 32, 3) := dk_167 0 32 (dk_at dksX1_longest_2 6 rfl rfl)
theorem dX1_longest_55 : decode cX1_longest 55 = .ok (.iload 4, 2) := dk_21 4 (dk_at dksX1_longest_2 9 rfl rfl)
theorem dX1_longest_57 : decode cX1_longest 57 = .ok (.ifCond .le 26, 3) := dk_158 0 26 (dk_at dksX1_longest_2 11 rfl rfl)
theorem dX1_longest_60 : decode cX1_longest 60 = .ok (.aload_n 0, 1) := dk_42 (dk_at dksX1_longest_2 14 rfl rfl)
theorem dX1_longest_61 : decode cX1_longest 61 = .ok (.getfield 46, 3) := dk_180 0 46 (dk_at dksX1_longest_2 15 rfl rfl)
theorem dX1_longest_64 : decode cX1_longest 64 = .ok (.iload_n 1, 1) := dk_27 (dk_at dksX1_longest_2 18 rfl rfl)
theorem dX1_longest_65 : decode cX1_longest 65 = .ok (.iload 4, 2) := dk_21 4 (dk_at dksX1_longest_2 19 rfl rfl)
theorem dX1_longest_67 : decode cX1_longest 67 = .ok (.iconst 1, 1) := dk_4 (dk_at dksX1_longest_2 21 rfl rfl)
theorem dX1_longest_68 : decode cX1_longest 68 = .ok (.isub, 1) := dk_100 (dk_at dksX1_longest_2 22 rfl rfl)
theorem dX1_longest_69 : decode cX1_longest 69 = .ok (.invokevirtual 193, 3) := dk_182 0 193 (dk_at dksX1_longest_3 0 rfl rfl)
theorem dX1_longest_72 : decode cX1_longest 72 = .ok (.iload 5, 2) := dk_21 5 (dk_at dksX1_longest_3 3 rfl rfl)
theorem dX1_longest_74 : decode cX1_longest 74 = .ok (.if_icmp .ne 9, 3) := dk_160 0 9 (dk_at dksX1_longest_3 5 rfl rfl)
theorem dX1_longest_77 : decode cX1_longest 77 = .ok (.iload_n 3, 1) := dk_29 (dk_at dksX1_longest_3 8 rfl rfl)
theorem dX1_longest_78 : decode cX1_longest 78 = .ok (.iconst 1, 1) := dk_4 (dk_at dksX1_longest_3 9 rfl rfl)
theorem dX1_longest_79 : decode cX1_longest 79 = .ok (.iadd, 1) := dk_96 (dk_at dksX1_longest_3 10 rfl rfl)
theorem dX1_longest_80 : decode cX1_longest 80 = .ok (.goto 4, 3) := dk_167 0 4 (dk_at dksX1_longest_3 11 rfl rfl)
theorem dX1_longest_83 : decode cX1_longest 83 = .ok (.iconst 1, 1) := dk_4 (dk_at dksX1_longest_3 14 rfl rfl)
theorem dX1_longest_84 : decode cX1_longest 84 = .ok (.istore_n 3, 1) := dk_62 (dk_at dksX1_longest_3 15 rfl rfl)
theorem dX1_longest_85 : decode cX1_longest 85 = .ok (.iload_n 2, 1) := dk_28 (dk_at dksX1_longest_3 16 rfl rfl)
theorem dX1_longest_86 : decode cX1_longest 86 = .ok (.iload_n 3, 1) := dk_29 (dk_at dksX1_longest_3 17 rfl rfl)
theorem dX1_longest_87 : decode cX1_longest 87 = .ok (.invokestatic 216, 3) := dk_184 0 216 (dk_at dksX1_longest_3 18 rfl rfl)
theorem dX1_longest_90 : decode cX1_longest 90 = .ok (.istore_n 2, 1) := dk_61 (dk_at dksX1_longest_3 21 rfl rfl)
theorem dX1_longest_91 : decode cX1_longest 91 = .ok (.iinc 4 1, 3) := dk_132 4 1 (dk_at dksX1_longest_4 0 rfl rfl)
theorem dX1_longest_94 : decode cX1_longest 94 = .ok (.goto (-69), 3) := dk_167 255 187 (dk_at dksX1_longest_4 3 rfl rfl)
theorem dX1_longest_97 : decode cX1_longest 97 = .ok (.iload_n 2, 1) := dk_28 (dk_at dksX1_longest_4 6 rfl rfl)
theorem dX1_longest_98 : decode cX1_longest 98 = .ok (.ireturn, 1) := dk_172 (dk_at dksX1_longest_4 7 rfl rfl)
abbrev cX1_worstDay : ByteArray := prog_1_method_35_code
def yX1_worstDay : MethodName := ⟨RX1, "worstDay", "()I"⟩
def dkwX1_worstDay_2 : List UInt8 := [132, 2, 1, 167, 255, 228, 27, 172]
abbrev dktX1_worstDay_2 : List UInt8 := dkwX1_worstDay_2 ++ []
def dkwX1_worstDay_1 : List UInt8 := [163, 0, 28, 42, 16, 254, 28, 182, 0, 196, 42, 16, 254, 27, 182, 0, 196, 164, 0, 5, 28, 60]
abbrev dktX1_worstDay_1 : List UInt8 := dkwX1_worstDay_1 ++ dktX1_worstDay_2
def dkwX1_worstDay_0 : List UInt8 := [42, 182, 0, 77, 42, 180, 0, 102, 199, 0, 9, 42, 4, 182, 0, 91, 172, 3, 60, 4, 61, 28, 16, 40]
abbrev dktX1_worstDay_0 : List UInt8 := dkwX1_worstDay_0 ++ dktX1_worstDay_1
theorem dksX1_worstDay_0 : cX1_worstDay.data.toList.drop 0 = dktX1_worstDay_0 := by decide +kernel
theorem dksX1_worstDay_1 : cX1_worstDay.data.toList.drop 24 = dktX1_worstDay_1 := dk_seg dksX1_worstDay_0 24 rfl rfl
theorem dksX1_worstDay_2 : cX1_worstDay.data.toList.drop 46 = dktX1_worstDay_2 := dk_seg dksX1_worstDay_1 22 rfl rfl
theorem dX1_worstDay_0 : decode cX1_worstDay 0 = .ok (.aload_n 0, 1) := dk_42 (dk_at dksX1_worstDay_0 0 rfl rfl)
theorem dX1_worstDay_1 : decode cX1_worstDay 1 = .ok (.invokevirtual 77, 3) := dk_182 0 77 (dk_at dksX1_worstDay_0 1 rfl rfl)
theorem dX1_worstDay_4 : decode cX1_worstDay 4 = .ok (.aload_n 0, 1) := dk_42 (dk_at dksX1_worstDay_0 4 rfl rfl)
theorem dX1_worstDay_5 : decode cX1_worstDay 5 = .ok (.getfield 102, 3) := dk_180 0 102 (dk_at dksX1_worstDay_0 5 rfl rfl)
theorem dX1_worstDay_8 : decode cX1_worstDay 8 = .ok (.ifnonnull 9, 3) := dk_199 0 9 (dk_at dksX1_worstDay_0 8 rfl rfl)
theorem dX1_worstDay_11 : decode cX1_worstDay 11 = .ok (.aload_n 0, 1) := dk_42 (dk_at dksX1_worstDay_0 11 rfl rfl)
theorem dX1_worstDay_12 : decode cX1_worstDay 12 = .ok (.iconst 1, 1) := dk_4 (dk_at dksX1_worstDay_0 12 rfl rfl)
theorem dX1_worstDay_13 : decode cX1_worstDay 13 = .ok (.invokevirtual 91, 3) := dk_182 0 91 (dk_at dksX1_worstDay_0 13 rfl rfl)
theorem dX1_worstDay_16 : decode cX1_worstDay 16 = .ok (.ireturn, 1) := dk_172 (dk_at dksX1_worstDay_0 16 rfl rfl)
theorem dX1_worstDay_17 : decode cX1_worstDay 17 = .ok (.iconst 0, 1) := dk_3 (dk_at dksX1_worstDay_0 17 rfl rfl)
theorem dX1_worstDay_18 : decode cX1_worstDay 18 = .ok (.istore_n 1, 1) := dk_60 (dk_at dksX1_worstDay_0 18 rfl rfl)
theorem dX1_worstDay_19 : decode cX1_worstDay 19 = .ok (.iconst 1, 1) := dk_4 (dk_at dksX1_worstDay_0 19 rfl rfl)
theorem dX1_worstDay_20 : decode cX1_worstDay 20 = .ok (.istore_n 2, 1) := dk_61 (dk_at dksX1_worstDay_0 20 rfl rfl)
theorem dX1_worstDay_21 : decode cX1_worstDay 21 = .ok (.iload_n 2, 1) := dk_28 (dk_at dksX1_worstDay_0 21 rfl rfl)
theorem dX1_worstDay_22 : decode cX1_worstDay 22 = .ok (.bipush 40, 2) := dk_16 40 (dk_at dksX1_worstDay_0 22 rfl rfl)
theorem dX1_worstDay_24 : decode cX1_worstDay 24 = .ok (.if_icmp .gt 28, 3) := dk_163 0 28 (dk_at dksX1_worstDay_1 0 rfl rfl)
theorem dX1_worstDay_27 : decode cX1_worstDay 27 = .ok (.aload_n 0, 1) := dk_42 (dk_at dksX1_worstDay_1 3 rfl rfl)
theorem dX1_worstDay_28 : decode cX1_worstDay 28 = .ok (.bipush (-2), 2) := dk_16 254 (dk_at dksX1_worstDay_1 4 rfl rfl)
theorem dX1_worstDay_30 : decode cX1_worstDay 30 = .ok (.iload_n 2, 1) := dk_28 (dk_at dksX1_worstDay_1 6 rfl rfl)
theorem dX1_worstDay_31 : decode cX1_worstDay 31 = .ok (.invokevirtual 196, 3) := dk_182 0 196 (dk_at dksX1_worstDay_1 7 rfl rfl)
theorem dX1_worstDay_34 : decode cX1_worstDay 34 = .ok (.aload_n 0, 1) := dk_42 (dk_at dksX1_worstDay_1 10 rfl rfl)
theorem dX1_worstDay_35 : decode cX1_worstDay 35 = .ok (.bipush (-2), 2) := dk_16 254 (dk_at dksX1_worstDay_1 11 rfl rfl)
theorem dX1_worstDay_37 : decode cX1_worstDay 37 = .ok (.iload_n 1, 1) := dk_27 (dk_at dksX1_worstDay_1 13 rfl rfl)
theorem dX1_worstDay_38 : decode cX1_worstDay 38 = .ok (.invokevirtual 196, 3) := dk_182 0 196 (dk_at dksX1_worstDay_1 14 rfl rfl)
theorem dX1_worstDay_41 : decode cX1_worstDay 41 = .ok (.if_icmp .le 5, 3) := dk_164 0 5 (dk_at dksX1_worstDay_1 17 rfl rfl)
theorem dX1_worstDay_44 : decode cX1_worstDay 44 = .ok (.iload_n 2, 1) := dk_28 (dk_at dksX1_worstDay_1 20 rfl rfl)
theorem dX1_worstDay_45 : decode cX1_worstDay 45 = .ok (.istore_n 1, 1) := dk_60 (dk_at dksX1_worstDay_1 21 rfl rfl)
theorem dX1_worstDay_46 : decode cX1_worstDay 46 = .ok (.iinc 2 1, 3) := dk_132 2 1 (dk_at dksX1_worstDay_2 0 rfl rfl)
theorem dX1_worstDay_49 : decode cX1_worstDay 49 = .ok (.goto (-28), 3) := dk_167 255 228 (dk_at dksX1_worstDay_2 3 rfl rfl)
theorem dX1_worstDay_52 : decode cX1_worstDay 52 = .ok (.iload_n 1, 1) := dk_27 (dk_at dksX1_worstDay_2 6 rfl rfl)
theorem dX1_worstDay_53 : decode cX1_worstDay 53 = .ok (.ireturn, 1) := dk_172 (dk_at dksX1_worstDay_2 7 rfl rfl)
abbrev cX1_owing : ByteArray := prog_1_method_36_code
def yX1_owing : MethodName := ⟨RX1, "owing", "(II)I"⟩
def dkwX1_owing_4 : List UInt8 := [167, 255, 202, 29, 172]
abbrev dktX1_owing_4 : List UInt8 := dkwX1_owing_4 ++ []
def dkwX1_owing_3 : List UInt8 := [180, 0, 154, 21, 4, 46, 28, 160, 0, 10, 4, 21, 4, 120, 167, 0, 4, 3, 128, 62, 132, 4, 1]
abbrev dktX1_owing_3 : List UInt8 := dkwX1_owing_3 ++ dktX1_owing_4
def dkwX1_owing_2 : List UInt8 := [162, 0, 48, 29, 42, 180, 0, 33, 180, 0, 158, 21, 4, 46, 27, 160, 0, 24, 42, 180, 0, 33]
abbrev dktX1_owing_2 : List UInt8 := dkwX1_owing_2 ++ dktX1_owing_3
def dkwX1_owing_1 : List UInt8 := [160, 0, 9, 42, 4, 182, 0, 91, 172, 3, 62, 3, 54, 4, 21, 4, 42, 180, 0, 102, 180, 0, 126]
abbrev dktX1_owing_1 : List UInt8 := dkwX1_owing_1 ++ dktX1_owing_2
def dkwX1_owing_0 : List UInt8 := [42, 182, 0, 77, 42, 27, 182, 0, 161, 153, 0, 16, 42, 28, 182, 0, 161, 153, 0, 8, 27, 28]
abbrev dktX1_owing_0 : List UInt8 := dkwX1_owing_0 ++ dktX1_owing_1
theorem dksX1_owing_0 : cX1_owing.data.toList.drop 0 = dktX1_owing_0 := by decide +kernel
theorem dksX1_owing_1 : cX1_owing.data.toList.drop 22 = dktX1_owing_1 := dk_seg dksX1_owing_0 22 rfl rfl
theorem dksX1_owing_2 : cX1_owing.data.toList.drop 45 = dktX1_owing_2 := dk_seg dksX1_owing_1 23 rfl rfl
theorem dksX1_owing_3 : cX1_owing.data.toList.drop 67 = dktX1_owing_3 := dk_seg dksX1_owing_2 22 rfl rfl
theorem dksX1_owing_4 : cX1_owing.data.toList.drop 90 = dktX1_owing_4 := dk_seg dksX1_owing_3 23 rfl rfl
theorem dX1_owing_0 : decode cX1_owing 0 = .ok (.aload_n 0, 1) := dk_42 (dk_at dksX1_owing_0 0 rfl rfl)
theorem dX1_owing_1 : decode cX1_owing 1 = .ok (.invokevirtual 77, 3) := dk_182 0 77 (dk_at dksX1_owing_0 1 rfl rfl)
theorem dX1_owing_4 : decode cX1_owing 4 = .ok (.aload_n 0, 1) := dk_42 (dk_at dksX1_owing_0 4 rfl rfl)
theorem dX1_owing_5 : decode cX1_owing 5 = .ok (.iload_n 1, 1) := dk_27 (dk_at dksX1_owing_0 5 rfl rfl)
theorem dX1_owing_6 : decode cX1_owing 6 = .ok (.invokevirtual 161, 3) := dk_182 0 161 (dk_at dksX1_owing_0 6 rfl rfl)
theorem dX1_owing_9 : decode cX1_owing 9 = .ok (.ifCond .eq 16, 3) := dk_153 0 16 (dk_at dksX1_owing_0 9 rfl rfl)
theorem dX1_owing_12 : decode cX1_owing 12 = .ok (.aload_n 0, 1) := dk_42 (dk_at dksX1_owing_0 12 rfl rfl)
theorem dX1_owing_13 : decode cX1_owing 13 = .ok (.iload_n 2, 1) := dk_28 (dk_at dksX1_owing_0 13 rfl rfl)
theorem dX1_owing_14 : decode cX1_owing 14 = .ok (.invokevirtual 161, 3) := dk_182 0 161 (dk_at dksX1_owing_0 14 rfl rfl)
theorem dX1_owing_17 : decode cX1_owing 17 = .ok (.ifCond .eq 8, 3) := dk_153 0 8 (dk_at dksX1_owing_0 17 rfl rfl)
theorem dX1_owing_20 : decode cX1_owing 20 = .ok (.iload_n 1, 1) := dk_27 (dk_at dksX1_owing_0 20 rfl rfl)
theorem dX1_owing_21 : decode cX1_owing 21 = .ok (.iload_n 2, 1) := dk_28 (dk_at dksX1_owing_0 21 rfl rfl)
theorem dX1_owing_22 : decode cX1_owing 22 = .ok (.if_icmp .ne 9, 3) := dk_160 0 9 (dk_at dksX1_owing_1 0 rfl rfl)
theorem dX1_owing_25 : decode cX1_owing 25 = .ok (.aload_n 0, 1) := dk_42 (dk_at dksX1_owing_1 3 rfl rfl)
theorem dX1_owing_26 : decode cX1_owing 26 = .ok (.iconst 1, 1) := dk_4 (dk_at dksX1_owing_1 4 rfl rfl)
theorem dX1_owing_27 : decode cX1_owing 27 = .ok (.invokevirtual 91, 3) := dk_182 0 91 (dk_at dksX1_owing_1 5 rfl rfl)
theorem dX1_owing_30 : decode cX1_owing 30 = .ok (.ireturn, 1) := dk_172 (dk_at dksX1_owing_1 8 rfl rfl)
theorem dX1_owing_31 : decode cX1_owing 31 = .ok (.iconst 0, 1) := dk_3 (dk_at dksX1_owing_1 9 rfl rfl)
theorem dX1_owing_32 : decode cX1_owing 32 = .ok (.istore_n 3, 1) := dk_62 (dk_at dksX1_owing_1 10 rfl rfl)
theorem dX1_owing_33 : decode cX1_owing 33 = .ok (.iconst 0, 1) := dk_3 (dk_at dksX1_owing_1 11 rfl rfl)
theorem dX1_owing_34 : decode cX1_owing 34 = .ok (.istore 4, 2) := dk_54 4 (dk_at dksX1_owing_1 12 rfl rfl)
theorem dX1_owing_36 : decode cX1_owing 36 = .ok (.iload 4, 2) := dk_21 4 (dk_at dksX1_owing_1 14 rfl rfl)
theorem dX1_owing_38 : decode cX1_owing 38 = .ok (.aload_n 0, 1) := dk_42 (dk_at dksX1_owing_1 16 rfl rfl)
theorem dX1_owing_39 : decode cX1_owing 39 = .ok (.getfield 102, 3) := dk_180 0 102 (dk_at dksX1_owing_1 17 rfl rfl)
theorem dX1_owing_42 : decode cX1_owing 42 = .ok (.getfield 126, 3) := dk_180 0 126 (dk_at dksX1_owing_1 20 rfl rfl)
theorem dX1_owing_45 : decode cX1_owing 45 = .ok (.if_icmp .ge 48, 3) := dk_162 0 48 (dk_at dksX1_owing_2 0 rfl rfl)
theorem dX1_owing_48 : decode cX1_owing 48 = .ok (.iload_n 3, 1) := dk_29 (dk_at dksX1_owing_2 3 rfl rfl)
theorem dX1_owing_49 : decode cX1_owing 49 = .ok (.aload_n 0, 1) := dk_42 (dk_at dksX1_owing_2 4 rfl rfl)
theorem dX1_owing_50 : decode cX1_owing 50 = .ok (.getfield 33, 3) := dk_180 0 33 (dk_at dksX1_owing_2 5 rfl rfl)
theorem dX1_owing_53 : decode cX1_owing 53 = .ok (.getfield 158, 3) := dk_180 0 158 (dk_at dksX1_owing_2 8 rfl rfl)
theorem dX1_owing_56 : decode cX1_owing 56 = .ok (.iload 4, 2) := dk_21 4 (dk_at dksX1_owing_2 11 rfl rfl)
theorem dX1_owing_58 : decode cX1_owing 58 = .ok (.iaload, 1) := dk_46 (dk_at dksX1_owing_2 13 rfl rfl)
theorem dX1_owing_59 : decode cX1_owing 59 = .ok (.iload_n 1, 1) := dk_27 (dk_at dksX1_owing_2 14 rfl rfl)
theorem dX1_owing_60 : decode cX1_owing 60 = .ok (.if_icmp .ne 24, 3) := dk_160 0 24 (dk_at dksX1_owing_2 15 rfl rfl)
theorem dX1_owing_63 : decode cX1_owing 63 = .ok (.aload_n 0, 1) := dk_42 (dk_at dksX1_owing_2 18 rfl rfl)
theorem dX1_owing_64 : decode cX1_owing 64 = .ok (.getfield 33, 3) := dk_180 0 33 (dk_at dksX1_owing_2 19 rfl rfl)
theorem dX1_owing_67 : decode cX1_owing 67 = .ok (.getfield 154, 3) := dk_180 0 154 (dk_at dksX1_owing_3 0 rfl rfl)
theorem dX1_owing_70 : decode cX1_owing 70 = .ok (.iload 4, 2) := dk_21 4 (dk_at dksX1_owing_3 3 rfl rfl)
theorem dX1_owing_72 : decode cX1_owing 72 = .ok (.iaload, 1) := dk_46 (dk_at dksX1_owing_3 5 rfl rfl)
theorem dX1_owing_73 : decode cX1_owing 73 = .ok (.iload_n 2, 1) := dk_28 (dk_at dksX1_owing_3 6 rfl rfl)
theorem dX1_owing_74 : decode cX1_owing 74 = .ok (.if_icmp .ne 10, 3) := dk_160 0 10 (dk_at dksX1_owing_3 7 rfl rfl)
theorem dX1_owing_77 : decode cX1_owing 77 = .ok (.iconst 1, 1) := dk_4 (dk_at dksX1_owing_3 10 rfl rfl)
theorem dX1_owing_78 : decode cX1_owing 78 = .ok (.iload 4, 2) := dk_21 4 (dk_at dksX1_owing_3 11 rfl rfl)
theorem dX1_owing_80 : decode cX1_owing 80 = .ok (.ishl, 1) := dk_120 (dk_at dksX1_owing_3 13 rfl rfl)
theorem dX1_owing_81 : decode cX1_owing 81 = .ok (.goto 4, 3) := dk_167 0 4 (dk_at dksX1_owing_3 14 rfl rfl)
theorem dX1_owing_84 : decode cX1_owing 84 = .ok (.iconst 0, 1) := dk_3 (dk_at dksX1_owing_3 17 rfl rfl)
theorem dX1_owing_85 : decode cX1_owing 85 = .ok (.ior, 1) := dk_128 (dk_at dksX1_owing_3 18 rfl rfl)
theorem dX1_owing_86 : decode cX1_owing 86 = .ok (.istore_n 3, 1) := dk_62 (dk_at dksX1_owing_3 19 rfl rfl)
theorem dX1_owing_87 : decode cX1_owing 87 = .ok (.iinc 4 1, 3) := dk_132 4 1 (dk_at dksX1_owing_3 20 rfl rfl)
theorem dX1_owing_90 : decode cX1_owing 90 = .ok (.goto (-54), 3) := dk_167 255 202 (dk_at dksX1_owing_4 0 rfl rfl)
theorem dX1_owing_93 : decode cX1_owing 93 = .ok (.iload_n 3, 1) := dk_29 (dk_at dksX1_owing_4 3 rfl rfl)
theorem dX1_owing_94 : decode cX1_owing 94 = .ok (.ireturn, 1) := dk_172 (dk_at dksX1_owing_4 4 rfl rfl)
abbrev cX1_change : ByteArray := prog_1_method_37_code
def yX1_change : MethodName := ⟨RX1, "change", "(IZ)I"⟩
def dkwX1_change_2 : List UInt8 := [182, 0, 176, 42, 180, 0, 33, 27, 182, 0, 176, 100, 172]
abbrev dktX1_change_2 : List UInt8 := dkwX1_change_2 ++ []
def dkwX1_change_1 : List UInt8 := [180, 0, 40, 42, 180, 0, 33, 182, 0, 221, 42, 180, 0, 40, 28, 182, 0, 225, 42, 180, 0, 40, 27]
abbrev dktX1_change_1 : List UInt8 := dkwX1_change_1 ++ dktX1_change_2
def dkwX1_change_0 : List UInt8 := [42, 182, 0, 77, 42, 27, 182, 0, 161, 154, 0, 12, 42, 4, 181, 0, 74, 17, 252, 24, 172, 42]
abbrev dktX1_change_0 : List UInt8 := dkwX1_change_0 ++ dktX1_change_1
theorem dksX1_change_0 : cX1_change.data.toList.drop 0 = dktX1_change_0 := by decide +kernel
theorem dksX1_change_1 : cX1_change.data.toList.drop 22 = dktX1_change_1 := dk_seg dksX1_change_0 22 rfl rfl
theorem dksX1_change_2 : cX1_change.data.toList.drop 45 = dktX1_change_2 := dk_seg dksX1_change_1 23 rfl rfl
theorem dX1_change_0 : decode cX1_change 0 = .ok (.aload_n 0, 1) := dk_42 (dk_at dksX1_change_0 0 rfl rfl)
theorem dX1_change_1 : decode cX1_change 1 = .ok (.invokevirtual 77, 3) := dk_182 0 77 (dk_at dksX1_change_0 1 rfl rfl)
theorem dX1_change_4 : decode cX1_change 4 = .ok (.aload_n 0, 1) := dk_42 (dk_at dksX1_change_0 4 rfl rfl)
theorem dX1_change_5 : decode cX1_change 5 = .ok (.iload_n 1, 1) := dk_27 (dk_at dksX1_change_0 5 rfl rfl)
theorem dX1_change_6 : decode cX1_change 6 = .ok (.invokevirtual 161, 3) := dk_182 0 161 (dk_at dksX1_change_0 6 rfl rfl)
theorem dX1_change_9 : decode cX1_change 9 = .ok (.ifCond .ne 12, 3) := dk_154 0 12 (dk_at dksX1_change_0 9 rfl rfl)
theorem dX1_change_12 : decode cX1_change 12 = .ok (.aload_n 0, 1) := dk_42 (dk_at dksX1_change_0 12 rfl rfl)
theorem dX1_change_13 : decode cX1_change 13 = .ok (.iconst 1, 1) := dk_4 (dk_at dksX1_change_0 13 rfl rfl)
theorem dX1_change_14 : decode cX1_change 14 = .ok (.putfield 74, 3) := dk_181 0 74 (dk_at dksX1_change_0 14 rfl rfl)
theorem dX1_change_17 : decode cX1_change 17 = .ok (.sipush (-1000), 3) := dk_17 252 24 (dk_at dksX1_change_0 17 rfl rfl)
theorem dX1_change_20 : decode cX1_change 20 = .ok (.ireturn, 1) := dk_172 (dk_at dksX1_change_0 20 rfl rfl)
theorem dX1_change_21 : decode cX1_change 21 = .ok (.aload_n 0, 1) := dk_42 (dk_at dksX1_change_0 21 rfl rfl)
theorem dX1_change_22 : decode cX1_change 22 = .ok (.getfield 40, 3) := dk_180 0 40 (dk_at dksX1_change_1 0 rfl rfl)
theorem dX1_change_25 : decode cX1_change 25 = .ok (.aload_n 0, 1) := dk_42 (dk_at dksX1_change_1 3 rfl rfl)
theorem dX1_change_26 : decode cX1_change 26 = .ok (.getfield 33, 3) := dk_180 0 33 (dk_at dksX1_change_1 4 rfl rfl)
theorem dX1_change_29 : decode cX1_change 29 = .ok (.invokevirtual 221, 3) := dk_182 0 221 (dk_at dksX1_change_1 7 rfl rfl)
theorem dX1_change_32 : decode cX1_change 32 = .ok (.aload_n 0, 1) := dk_42 (dk_at dksX1_change_1 10 rfl rfl)
theorem dX1_change_33 : decode cX1_change 33 = .ok (.getfield 40, 3) := dk_180 0 40 (dk_at dksX1_change_1 11 rfl rfl)
theorem dX1_change_36 : decode cX1_change 36 = .ok (.iload_n 2, 1) := dk_28 (dk_at dksX1_change_1 14 rfl rfl)
theorem dX1_change_37 : decode cX1_change 37 = .ok (.invokevirtual 225, 3) := dk_182 0 225 (dk_at dksX1_change_1 15 rfl rfl)
theorem dX1_change_40 : decode cX1_change 40 = .ok (.aload_n 0, 1) := dk_42 (dk_at dksX1_change_1 18 rfl rfl)
theorem dX1_change_41 : decode cX1_change 41 = .ok (.getfield 40, 3) := dk_180 0 40 (dk_at dksX1_change_1 19 rfl rfl)
theorem dX1_change_44 : decode cX1_change 44 = .ok (.iload_n 1, 1) := dk_27 (dk_at dksX1_change_1 22 rfl rfl)
theorem dX1_change_45 : decode cX1_change 45 = .ok (.invokevirtual 176, 3) := dk_182 0 176 (dk_at dksX1_change_2 0 rfl rfl)
theorem dX1_change_48 : decode cX1_change 48 = .ok (.aload_n 0, 1) := dk_42 (dk_at dksX1_change_2 3 rfl rfl)
theorem dX1_change_49 : decode cX1_change 49 = .ok (.getfield 33, 3) := dk_180 0 33 (dk_at dksX1_change_2 4 rfl rfl)
theorem dX1_change_52 : decode cX1_change 52 = .ok (.iload_n 1, 1) := dk_27 (dk_at dksX1_change_2 7 rfl rfl)
theorem dX1_change_53 : decode cX1_change 53 = .ok (.invokevirtual 176, 3) := dk_182 0 176 (dk_at dksX1_change_2 8 rfl rfl)
theorem dX1_change_56 : decode cX1_change 56 = .ok (.isub, 1) := dk_100 (dk_at dksX1_change_2 11 rfl rfl)
theorem dX1_change_57 : decode cX1_change 57 = .ok (.ireturn, 1) := dk_172 (dk_at dksX1_change_2 12 rfl rfl)
abbrev cX1_lapsesIn : ByteArray := prog_1_method_38_code
def yX1_lapsesIn : MethodName := ⟨RX1, "lapsesIn", "(I)I"⟩
def dkwX1_lapsesIn_2 : List UInt8 := [16, 254, 160, 0, 5, 28, 172, 42, 180, 0, 40, 3, 182, 0, 225, 132, 2, 1, 167, 255, 223, 16, 254, 172]
abbrev dktX1_lapsesIn_2 : List UInt8 := dkwX1_lapsesIn_2 ++ []
def dkwX1_lapsesIn_1 : List UInt8 := [180, 0, 33, 182, 0, 221, 3, 61, 28, 16, 30, 163, 0, 33, 42, 180, 0, 40, 180, 0, 158, 27, 46]
abbrev dktX1_lapsesIn_1 : List UInt8 := dkwX1_lapsesIn_1 ++ dktX1_lapsesIn_2
def dkwX1_lapsesIn_0 : List UInt8 := [42, 182, 0, 77, 42, 27, 182, 0, 134, 154, 0, 9, 42, 4, 182, 0, 91, 172, 42, 180, 0, 40, 42]
abbrev dktX1_lapsesIn_0 : List UInt8 := dkwX1_lapsesIn_0 ++ dktX1_lapsesIn_1
theorem dksX1_lapsesIn_0 : cX1_lapsesIn.data.toList.drop 0 = dktX1_lapsesIn_0 := by decide +kernel
theorem dksX1_lapsesIn_1 : cX1_lapsesIn.data.toList.drop 23 = dktX1_lapsesIn_1 := dk_seg dksX1_lapsesIn_0 23 rfl rfl
theorem dksX1_lapsesIn_2 : cX1_lapsesIn.data.toList.drop 46 = dktX1_lapsesIn_2 := dk_seg dksX1_lapsesIn_1 23 rfl rfl
theorem dX1_lapsesIn_0 : decode cX1_lapsesIn 0 = .ok (.aload_n 0, 1) := dk_42 (dk_at dksX1_lapsesIn_0 0 rfl rfl)
theorem dX1_lapsesIn_1 : decode cX1_lapsesIn 1 = .ok (.invokevirtual 77, 3) := dk_182 0 77 (dk_at dksX1_lapsesIn_0 1 rfl rfl)
theorem dX1_lapsesIn_4 : decode cX1_lapsesIn 4 = .ok (.aload_n 0, 1) := dk_42 (dk_at dksX1_lapsesIn_0 4 rfl rfl)
theorem dX1_lapsesIn_5 : decode cX1_lapsesIn 5 = .ok (.iload_n 1, 1) := dk_27 (dk_at dksX1_lapsesIn_0 5 rfl rfl)
theorem dX1_lapsesIn_6 : decode cX1_lapsesIn 6 = .ok (.invokevirtual 134, 3) := dk_182 0 134 (dk_at dksX1_lapsesIn_0 6 rfl rfl)
theorem dX1_lapsesIn_9 : decode cX1_lapsesIn 9 = .ok (.ifCond .ne 9, 3) := dk_154 0 9 (dk_at dksX1_lapsesIn_0 9 rfl rfl)
theorem dX1_lapsesIn_12 : decode cX1_lapsesIn 12 = .ok (.aload_n 0, 1) := dk_42 (dk_at dksX1_lapsesIn_0 12 rfl rfl)
theorem dX1_lapsesIn_13 : decode cX1_lapsesIn 13 = .ok (.iconst 1, 1) := dk_4 (dk_at dksX1_lapsesIn_0 13 rfl rfl)
theorem dX1_lapsesIn_14 : decode cX1_lapsesIn 14 = .ok (.invokevirtual 91, 3) := dk_182 0 91 (dk_at dksX1_lapsesIn_0 14 rfl rfl)
theorem dX1_lapsesIn_17 : decode cX1_lapsesIn 17 = .ok (.ireturn, 1) := dk_172 (dk_at dksX1_lapsesIn_0 17 rfl rfl)
theorem dX1_lapsesIn_18 : decode cX1_lapsesIn 18 = .ok (.aload_n 0, 1) := dk_42 (dk_at dksX1_lapsesIn_0 18 rfl rfl)
theorem dX1_lapsesIn_19 : decode cX1_lapsesIn 19 = .ok (.getfield 40, 3) := dk_180 0 40 (dk_at dksX1_lapsesIn_0 19 rfl rfl)
theorem dX1_lapsesIn_22 : decode cX1_lapsesIn 22 = .ok (.aload_n 0, 1) := dk_42 (dk_at dksX1_lapsesIn_0 22 rfl rfl)
theorem dX1_lapsesIn_23 : decode cX1_lapsesIn 23 = .ok (.getfield 33, 3) := dk_180 0 33 (dk_at dksX1_lapsesIn_1 0 rfl rfl)
theorem dX1_lapsesIn_26 : decode cX1_lapsesIn 26 = .ok (.invokevirtual 221, 3) := dk_182 0 221 (dk_at dksX1_lapsesIn_1 3 rfl rfl)
theorem dX1_lapsesIn_29 : decode cX1_lapsesIn 29 = .ok (.iconst 0, 1) := dk_3 (dk_at dksX1_lapsesIn_1 6 rfl rfl)
theorem dX1_lapsesIn_30 : decode cX1_lapsesIn 30 = .ok (.istore_n 2, 1) := dk_61 (dk_at dksX1_lapsesIn_1 7 rfl rfl)
theorem dX1_lapsesIn_31 : decode cX1_lapsesIn 31 = .ok (.iload_n 2, 1) := dk_28 (dk_at dksX1_lapsesIn_1 8 rfl rfl)
theorem dX1_lapsesIn_32 : decode cX1_lapsesIn 32 = .ok (.bipush 30, 2) := dk_16 30 (dk_at dksX1_lapsesIn_1 9 rfl rfl)
theorem dX1_lapsesIn_34 : decode cX1_lapsesIn 34 = .ok (.if_icmp .gt 33, 3) := dk_163 0 33 (dk_at dksX1_lapsesIn_1 11 rfl rfl)
theorem dX1_lapsesIn_37 : decode cX1_lapsesIn 37 = .ok (.aload_n 0, 1) := dk_42 (dk_at dksX1_lapsesIn_1 14 rfl rfl)
theorem dX1_lapsesIn_38 : decode cX1_lapsesIn 38 = .ok (.getfield 40, 3) := dk_180 0 40 (dk_at dksX1_lapsesIn_1 15 rfl rfl)
theorem dX1_lapsesIn_41 : decode cX1_lapsesIn 41 = .ok (.getfield 158, 3) := dk_180 0 158 (dk_at dksX1_lapsesIn_1 18 rfl rfl)
theorem dX1_lapsesIn_44 : decode cX1_lapsesIn 44 = .ok (.iload_n 1, 1) := dk_27 (dk_at dksX1_lapsesIn_1 21 rfl rfl)
theorem dX1_lapsesIn_45 : decode cX1_lapsesIn 45 = .ok (.iaload, 1) := dk_46 (dk_at dksX1_lapsesIn_1 22 rfl rfl)
theorem dX1_lapsesIn_46 : decode cX1_lapsesIn 46 = .ok (.bipush (-2), 2) := dk_16 254 (dk_at dksX1_lapsesIn_2 0 rfl rfl)
theorem dX1_lapsesIn_48 : decode cX1_lapsesIn 48 = .ok (.if_icmp .ne 5, 3) := dk_160 0 5 (dk_at dksX1_lapsesIn_2 2 rfl rfl)
theorem dX1_lapsesIn_51 : decode cX1_lapsesIn 51 = .ok (.iload_n 2, 1) := dk_28 (dk_at dksX1_lapsesIn_2 5 rfl rfl)
theorem dX1_lapsesIn_52 : decode cX1_lapsesIn 52 = .ok (.ireturn, 1) := dk_172 (dk_at dksX1_lapsesIn_2 6 rfl rfl)
theorem dX1_lapsesIn_53 : decode cX1_lapsesIn 53 = .ok (.aload_n 0, 1) := dk_42 (dk_at dksX1_lapsesIn_2 7 rfl rfl)
theorem dX1_lapsesIn_54 : decode cX1_lapsesIn 54 = .ok (.getfield 40, 3) := dk_180 0 40 (dk_at dksX1_lapsesIn_2 8 rfl rfl)
theorem dX1_lapsesIn_57 : decode cX1_lapsesIn 57 = .ok (.iconst 0, 1) := dk_3 (dk_at dksX1_lapsesIn_2 11 rfl rfl)
theorem dX1_lapsesIn_58 : decode cX1_lapsesIn 58 = .ok (.invokevirtual 225, 3) := dk_182 0 225 (dk_at dksX1_lapsesIn_2 12 rfl rfl)
theorem dX1_lapsesIn_61 : decode cX1_lapsesIn 61 = .ok (.iinc 2 1, 3) := dk_132 2 1 (dk_at dksX1_lapsesIn_2 15 rfl rfl)
theorem dX1_lapsesIn_64 : decode cX1_lapsesIn 64 = .ok (.goto (-33), 3) := dk_167 255 223 (dk_at dksX1_lapsesIn_2 18 rfl rfl)
theorem dX1_lapsesIn_67 : decode cX1_lapsesIn 67 = .ok (.bipush (-2), 2) := dk_16 254 (dk_at dksX1_lapsesIn_2 21 rfl rfl)
theorem dX1_lapsesIn_69 : decode cX1_lapsesIn 69 = .ok (.ireturn, 1) := dk_172 (dk_at dksX1_lapsesIn_2 23 rfl rfl)
abbrev cX1_guest : ByteArray := prog_1_method_39_code
def yX1_guest : MethodName := ⟨RX1, "guest", "(I)I"⟩
def dkwX1_guest_4 : List UInt8 := [167, 0, 9, 21, 4, 61, 21, 5, 62, 132, 4, 1, 167, 255, 176, 28, 172]
abbrev dktX1_guest_4 : List UInt8 := dkwX1_guest_4 ++ []
def dkwX1_guest_3 : List UInt8 := [182, 0, 234, 54, 5, 21, 5, 16, 254, 159, 0, 24, 28, 16, 254, 159, 0, 12, 21, 5, 29, 161, 0, 6]
abbrev dktX1_guest_3 : List UInt8 := dkwX1_guest_3 ++ dktX1_guest_4
def dkwX1_guest_2 : List UInt8 := [16, 254, 167, 0, 24, 42, 180, 0, 63, 42, 180, 0, 102, 42, 180, 0, 33, 27, 4, 21, 4, 120, 128]
abbrev dktX1_guest_2 : List UInt8 := dkwX1_guest_2 ++ dktX1_guest_3
def dkwX1_guest_1 : List UInt8 := [54, 4, 21, 4, 42, 180, 0, 102, 180, 0, 131, 162, 0, 74, 27, 21, 4, 184, 0, 232, 153, 0, 8]
abbrev dktX1_guest_1 : List UInt8 := dkwX1_guest_1 ++ dktX1_guest_2
def dkwX1_guest_0 : List UInt8 := [42, 182, 0, 77, 42, 27, 182, 0, 229, 154, 0, 9, 42, 4, 182, 0, 91, 172, 16, 254, 61, 3, 62, 3]
abbrev dktX1_guest_0 : List UInt8 := dkwX1_guest_0 ++ dktX1_guest_1
theorem dksX1_guest_0 : cX1_guest.data.toList.drop 0 = dktX1_guest_0 := by decide +kernel
theorem dksX1_guest_1 : cX1_guest.data.toList.drop 24 = dktX1_guest_1 := dk_seg dksX1_guest_0 24 rfl rfl
theorem dksX1_guest_2 : cX1_guest.data.toList.drop 47 = dktX1_guest_2 := dk_seg dksX1_guest_1 23 rfl rfl
theorem dksX1_guest_3 : cX1_guest.data.toList.drop 70 = dktX1_guest_3 := dk_seg dksX1_guest_2 23 rfl rfl
theorem dksX1_guest_4 : cX1_guest.data.toList.drop 94 = dktX1_guest_4 := dk_seg dksX1_guest_3 24 rfl rfl
theorem dX1_guest_0 : decode cX1_guest 0 = .ok (.aload_n 0, 1) := dk_42 (dk_at dksX1_guest_0 0 rfl rfl)
theorem dX1_guest_1 : decode cX1_guest 1 = .ok (.invokevirtual 77, 3) := dk_182 0 77 (dk_at dksX1_guest_0 1 rfl rfl)
theorem dX1_guest_4 : decode cX1_guest 4 = .ok (.aload_n 0, 1) := dk_42 (dk_at dksX1_guest_0 4 rfl rfl)
theorem dX1_guest_5 : decode cX1_guest 5 = .ok (.iload_n 1, 1) := dk_27 (dk_at dksX1_guest_0 5 rfl rfl)
theorem dX1_guest_6 : decode cX1_guest 6 = .ok (.invokevirtual 229, 3) := dk_182 0 229 (dk_at dksX1_guest_0 6 rfl rfl)
theorem dX1_guest_9 : decode cX1_guest 9 = .ok (.ifCond .ne 9, 3) := dk_154 0 9 (dk_at dksX1_guest_0 9 rfl rfl)
theorem dX1_guest_12 : decode cX1_guest 12 = .ok (.aload_n 0, 1) := dk_42 (dk_at dksX1_guest_0 12 rfl rfl)
theorem dX1_guest_13 : decode cX1_guest 13 = .ok (.iconst 1, 1) := dk_4 (dk_at dksX1_guest_0 13 rfl rfl)
theorem dX1_guest_14 : decode cX1_guest 14 = .ok (.invokevirtual 91, 3) := dk_182 0 91 (dk_at dksX1_guest_0 14 rfl rfl)
theorem dX1_guest_17 : decode cX1_guest 17 = .ok (.ireturn, 1) := dk_172 (dk_at dksX1_guest_0 17 rfl rfl)
theorem dX1_guest_18 : decode cX1_guest 18 = .ok (.bipush (-2), 2) := dk_16 254 (dk_at dksX1_guest_0 18 rfl rfl)
theorem dX1_guest_20 : decode cX1_guest 20 = .ok (.istore_n 2, 1) := dk_61 (dk_at dksX1_guest_0 20 rfl rfl)
theorem dX1_guest_21 : decode cX1_guest 21 = .ok (.iconst 0, 1) := dk_3 (dk_at dksX1_guest_0 21 rfl rfl)
theorem dX1_guest_22 : decode cX1_guest 22 = .ok (.istore_n 3, 1) := dk_62 (dk_at dksX1_guest_0 22 rfl rfl)
theorem dX1_guest_23 : decode cX1_guest 23 = .ok (.iconst 0, 1) := dk_3 (dk_at dksX1_guest_0 23 rfl rfl)
theorem dX1_guest_24 : decode cX1_guest 24 = .ok (.istore 4, 2) := dk_54 4 (dk_at dksX1_guest_1 0 rfl rfl)
theorem dX1_guest_26 : decode cX1_guest 26 = .ok (.iload 4, 2) := dk_21 4 (dk_at dksX1_guest_1 2 rfl rfl)
theorem dX1_guest_28 : decode cX1_guest 28 = .ok (.aload_n 0, 1) := dk_42 (dk_at dksX1_guest_1 4 rfl rfl)
theorem dX1_guest_29 : decode cX1_guest 29 = .ok (.getfield 102, 3) := dk_180 0 102 (dk_at dksX1_guest_1 5 rfl rfl)
theorem dX1_guest_32 : decode cX1_guest 32 = .ok (.getfield 131, 3) := dk_180 0 131 (dk_at dksX1_guest_1 8 rfl rfl)
theorem dX1_guest_35 : decode cX1_guest 35 = .ok (.if_icmp .ge 74, 3) := dk_162 0 74 (dk_at dksX1_guest_1 11 rfl rfl)
theorem dX1_guest_38 : decode cX1_guest 38 = .ok (.iload_n 1, 1) := dk_27 (dk_at dksX1_guest_1 14 rfl rfl)
theorem dX1_guest_39 : decode cX1_guest 39 = .ok (.iload 4, 2) := dk_21 4 (dk_at dksX1_guest_1 15 rfl rfl)
theorem dX1_guest_41 : decode cX1_guest 41 = .ok (.invokestatic 232, 3) := dk_184 0 232 (dk_at dksX1_guest_1 17 rfl rfl)
theorem dX1_guest_44 : decode cX1_guest 44 = .ok (.ifCond .eq 8, 3) := dk_153 0 8 (dk_at dksX1_guest_1 20 rfl rfl)
theorem dX1_guest_47 : decode cX1_guest 47 = .ok (.bipush (-2), 2) := dk_16 254 (dk_at dksX1_guest_2 0 rfl rfl)
theorem dX1_guest_49 : decode cX1_guest 49 = .ok (.goto 24, 3) := dk_167 0 24 (dk_at dksX1_guest_2 2 rfl rfl)
theorem dX1_guest_52 : decode cX1_guest 52 = .ok (.aload_n 0, 1) := dk_42 (dk_at dksX1_guest_2 5 rfl rfl)
theorem dX1_guest_53 : decode cX1_guest 53 = .ok (.getfield 63, 3) := dk_180 0 63 (dk_at dksX1_guest_2 6 rfl rfl)
theorem dX1_guest_56 : decode cX1_guest 56 = .ok (.aload_n 0, 1) := dk_42 (dk_at dksX1_guest_2 9 rfl rfl)
theorem dX1_guest_57 : decode cX1_guest 57 = .ok (.getfield 102, 3) := dk_180 0 102 (dk_at dksX1_guest_2 10 rfl rfl)
theorem dX1_guest_60 : decode cX1_guest 60 = .ok (.aload_n 0, 1) := dk_42 (dk_at dksX1_guest_2 13 rfl rfl)
theorem dX1_guest_61 : decode cX1_guest 61 = .ok (.getfield 33, 3) := dk_180 0 33 (dk_at dksX1_guest_2 14 rfl rfl)
theorem dX1_guest_64 : decode cX1_guest 64 = .ok (.iload_n 1, 1) := dk_27 (dk_at dksX1_guest_2 17 rfl rfl)
theorem dX1_guest_65 : decode cX1_guest 65 = .ok (.iconst 1, 1) := dk_4 (dk_at dksX1_guest_2 18 rfl rfl)
theorem dX1_guest_66 : decode cX1_guest 66 = .ok (.iload 4, 2) := dk_21 4 (dk_at dksX1_guest_2 19 rfl rfl)
theorem dX1_guest_68 : decode cX1_guest 68 = .ok (.ishl, 1) := dk_120 (dk_at dksX1_guest_2 21 rfl rfl)
theorem dX1_guest_69 : decode cX1_guest 69 = .ok (.ior, 1) := dk_128 (dk_at dksX1_guest_2 22 rfl rfl)
theorem dX1_guest_70 : decode cX1_guest 70 = .ok (.invokevirtual 234, 3) := dk_182 0 234 (dk_at dksX1_guest_3 0 rfl rfl)
theorem dX1_guest_73 : decode cX1_guest 73 = .ok (.istore 5, 2) := dk_54 5 (dk_at dksX1_guest_3 3 rfl rfl)
theorem dX1_guest_75 : decode cX1_guest 75 = .ok (.iload 5, 2) := dk_21 5 (dk_at dksX1_guest_3 5 rfl rfl)
theorem dX1_guest_77 : decode cX1_guest 77 = .ok (.bipush (-2), 2) := dk_16 254 (dk_at dksX1_guest_3 7 rfl rfl)
theorem dX1_guest_79 : decode cX1_guest 79 = .ok (.if_icmp .eq 24, 3) := dk_159 0 24 (dk_at dksX1_guest_3 9 rfl rfl)
theorem dX1_guest_82 : decode cX1_guest 82 = .ok (.iload_n 2, 1) := dk_28 (dk_at dksX1_guest_3 12 rfl rfl)
theorem dX1_guest_83 : decode cX1_guest 83 = .ok (.bipush (-2), 2) := dk_16 254 (dk_at dksX1_guest_3 13 rfl rfl)
theorem dX1_guest_85 : decode cX1_guest 85 = .ok (.if_icmp .eq 12, 3) := dk_159 0 12 (dk_at dksX1_guest_3 15 rfl rfl)
theorem dX1_guest_88 : decode cX1_guest 88 = .ok (.iload 5, 2) := dk_21 5 (dk_at dksX1_guest_3 18 rfl rfl)
theorem dX1_guest_90 : decode cX1_guest 90 = .ok (.iload_n 3, 1) := dk_29 (dk_at dksX1_guest_3 20 rfl rfl)
theorem dX1_guest_91 : decode cX1_guest 91 = .ok (.if_icmp .lt 6, 3) := dk_161 0 6 (dk_at dksX1_guest_3 21 rfl rfl)
theorem dX1_guest_94 : decode cX1_guest 94 = .ok (.goto 9, 3) := dk_167 0 9 (dk_at dksX1_guest_4 0 rfl rfl)
theorem dX1_guest_97 : decode cX1_guest 97 = .ok (.iload 4, 2) := dk_21 4 (dk_at dksX1_guest_4 3 rfl rfl)
theorem dX1_guest_99 : decode cX1_guest 99 = .ok (.istore_n 2, 1) := dk_61 (dk_at dksX1_guest_4 5 rfl rfl)
theorem dX1_guest_100 : decode cX1_guest 100 = .ok (.iload 5, 2) := dk_21 5 (dk_at dksX1_guest_4 6 rfl rfl)
theorem dX1_guest_102 : decode cX1_guest 102 = .ok (.istore_n 3, 1) := dk_62 (dk_at dksX1_guest_4 8 rfl rfl)
theorem dX1_guest_103 : decode cX1_guest 103 = .ok (.iinc 4 1, 3) := dk_132 4 1 (dk_at dksX1_guest_4 9 rfl rfl)
theorem dX1_guest_106 : decode cX1_guest 106 = .ok (.goto (-80), 3) := dk_167 255 176 (dk_at dksX1_guest_4 12 rfl rfl)
theorem dX1_guest_109 : decode cX1_guest 109 = .ok (.iload_n 2, 1) := dk_28 (dk_at dksX1_guest_4 15 rfl rfl)
theorem dX1_guest_110 : decode cX1_guest 110 = .ok (.ireturn, 1) := dk_172 (dk_at dksX1_guest_4 16 rfl rfl)
abbrev cX1_arePeople : ByteArray := prog_1_method_43_code
def yX1_arePeople : MethodName := ⟨RX1, "arePeople", "(I)Z"⟩
def dkwX1_arePeople_1 : List UInt8 := [153, 0, 7, 4, 167, 0, 4, 3, 172]
abbrev dktX1_arePeople_1 : List UInt8 := dkwX1_arePeople_1 ++ []
def dkwX1_arePeople_0 : List UInt8 := [42, 180, 0, 102, 198, 0, 26, 27, 4, 4, 42, 180, 0, 102, 180, 0, 131, 120, 4, 100, 184, 0, 87]
abbrev dktX1_arePeople_0 : List UInt8 := dkwX1_arePeople_0 ++ dktX1_arePeople_1
theorem dksX1_arePeople_0 : cX1_arePeople.data.toList.drop 0 = dktX1_arePeople_0 := by decide +kernel
theorem dksX1_arePeople_1 : cX1_arePeople.data.toList.drop 23 = dktX1_arePeople_1 := dk_seg dksX1_arePeople_0 23 rfl rfl
theorem dX1_arePeople_0 : decode cX1_arePeople 0 = .ok (.aload_n 0, 1) := dk_42 (dk_at dksX1_arePeople_0 0 rfl rfl)
theorem dX1_arePeople_1 : decode cX1_arePeople 1 = .ok (.getfield 102, 3) := dk_180 0 102 (dk_at dksX1_arePeople_0 1 rfl rfl)
theorem dX1_arePeople_4 : decode cX1_arePeople 4 = .ok (.ifnull 26, 3) := dk_198 0 26 (dk_at dksX1_arePeople_0 4 rfl rfl)
theorem dX1_arePeople_7 : decode cX1_arePeople 7 = .ok (.iload_n 1, 1) := dk_27 (dk_at dksX1_arePeople_0 7 rfl rfl)
theorem dX1_arePeople_8 : decode cX1_arePeople 8 = .ok (.iconst 1, 1) := dk_4 (dk_at dksX1_arePeople_0 8 rfl rfl)
theorem dX1_arePeople_9 : decode cX1_arePeople 9 = .ok (.iconst 1, 1) := dk_4 (dk_at dksX1_arePeople_0 9 rfl rfl)
theorem dX1_arePeople_10 : decode cX1_arePeople 10 = .ok (.aload_n 0, 1) := dk_42 (dk_at dksX1_arePeople_0 10 rfl rfl)
theorem dX1_arePeople_11 : decode cX1_arePeople 11 = .ok (.getfield 102, 3) := dk_180 0 102 (dk_at dksX1_arePeople_0 11 rfl rfl)
theorem dX1_arePeople_14 : decode cX1_arePeople 14 = .ok (.getfield 131, 3) := dk_180 0 131 (dk_at dksX1_arePeople_0 14 rfl rfl)
theorem dX1_arePeople_17 : decode cX1_arePeople 17 = .ok (.ishl, 1) := dk_120 (dk_at dksX1_arePeople_0 17 rfl rfl)
theorem dX1_arePeople_18 : decode cX1_arePeople 18 = .ok (.iconst 1, 1) := dk_4 (dk_at dksX1_arePeople_0 18 rfl rfl)
theorem dX1_arePeople_19 : decode cX1_arePeople 19 = .ok (.isub, 1) := dk_100 (dk_at dksX1_arePeople_0 19 rfl rfl)
theorem dX1_arePeople_20 : decode cX1_arePeople 20 = .ok (.invokestatic 87, 3) := dk_184 0 87 (dk_at dksX1_arePeople_0 20 rfl rfl)
theorem dX1_arePeople_23 : decode cX1_arePeople 23 = .ok (.ifCond .eq 7, 3) := dk_153 0 7 (dk_at dksX1_arePeople_1 0 rfl rfl)
theorem dX1_arePeople_26 : decode cX1_arePeople 26 = .ok (.iconst 1, 1) := dk_4 (dk_at dksX1_arePeople_1 3 rfl rfl)
theorem dX1_arePeople_27 : decode cX1_arePeople 27 = .ok (.goto 4, 3) := dk_167 0 4 (dk_at dksX1_arePeople_1 4 rfl rfl)
theorem dX1_arePeople_30 : decode cX1_arePeople 30 = .ok (.iconst 0, 1) := dk_3 (dk_at dksX1_arePeople_1 7 rfl rfl)
theorem dX1_arePeople_31 : decode cX1_arePeople 31 = .ok (.ireturn, 1) := dk_172 (dk_at dksX1_arePeople_1 8 rfl rfl)
abbrev cX1_putRight : ByteArray := prog_1_method_40_code
def yX1_putRight : MethodName := ⟨RX1, "putRight", "()I"⟩
def dkwX1_putRight_1 : List UInt8 := [180, 0, 102, 42, 180, 0, 33, 182, 0, 238, 42, 180, 0, 56, 180, 0, 241, 172]
abbrev dktX1_putRight_1 : List UInt8 := dkwX1_putRight_1 ++ []
def dkwX1_putRight_0 : List UInt8 := [42, 182, 0, 77, 42, 180, 0, 102, 199, 0, 9, 42, 4, 182, 0, 91, 172, 42, 180, 0, 56, 42]
abbrev dktX1_putRight_0 : List UInt8 := dkwX1_putRight_0 ++ dktX1_putRight_1
theorem dksX1_putRight_0 : cX1_putRight.data.toList.drop 0 = dktX1_putRight_0 := by decide +kernel
theorem dksX1_putRight_1 : cX1_putRight.data.toList.drop 22 = dktX1_putRight_1 := dk_seg dksX1_putRight_0 22 rfl rfl
theorem dX1_putRight_0 : decode cX1_putRight 0 = .ok (.aload_n 0, 1) := dk_42 (dk_at dksX1_putRight_0 0 rfl rfl)
theorem dX1_putRight_1 : decode cX1_putRight 1 = .ok (.invokevirtual 77, 3) := dk_182 0 77 (dk_at dksX1_putRight_0 1 rfl rfl)
theorem dX1_putRight_4 : decode cX1_putRight 4 = .ok (.aload_n 0, 1) := dk_42 (dk_at dksX1_putRight_0 4 rfl rfl)
theorem dX1_putRight_5 : decode cX1_putRight 5 = .ok (.getfield 102, 3) := dk_180 0 102 (dk_at dksX1_putRight_0 5 rfl rfl)
theorem dX1_putRight_8 : decode cX1_putRight 8 = .ok (.ifnonnull 9, 3) := dk_199 0 9 (dk_at dksX1_putRight_0 8 rfl rfl)
theorem dX1_putRight_11 : decode cX1_putRight 11 = .ok (.aload_n 0, 1) := dk_42 (dk_at dksX1_putRight_0 11 rfl rfl)
theorem dX1_putRight_12 : decode cX1_putRight 12 = .ok (.iconst 1, 1) := dk_4 (dk_at dksX1_putRight_0 12 rfl rfl)
theorem dX1_putRight_13 : decode cX1_putRight 13 = .ok (.invokevirtual 91, 3) := dk_182 0 91 (dk_at dksX1_putRight_0 13 rfl rfl)
theorem dX1_putRight_16 : decode cX1_putRight 16 = .ok (.ireturn, 1) := dk_172 (dk_at dksX1_putRight_0 16 rfl rfl)
theorem dX1_putRight_17 : decode cX1_putRight 17 = .ok (.aload_n 0, 1) := dk_42 (dk_at dksX1_putRight_0 17 rfl rfl)
theorem dX1_putRight_18 : decode cX1_putRight 18 = .ok (.getfield 56, 3) := dk_180 0 56 (dk_at dksX1_putRight_0 18 rfl rfl)
theorem dX1_putRight_21 : decode cX1_putRight 21 = .ok (.aload_n 0, 1) := dk_42 (dk_at dksX1_putRight_0 21 rfl rfl)
theorem dX1_putRight_22 : decode cX1_putRight 22 = .ok (.getfield 102, 3) := dk_180 0 102 (dk_at dksX1_putRight_1 0 rfl rfl)
theorem dX1_putRight_25 : decode cX1_putRight 25 = .ok (.aload_n 0, 1) := dk_42 (dk_at dksX1_putRight_1 3 rfl rfl)
theorem dX1_putRight_26 : decode cX1_putRight 26 = .ok (.getfield 33, 3) := dk_180 0 33 (dk_at dksX1_putRight_1 4 rfl rfl)
theorem dX1_putRight_29 : decode cX1_putRight 29 = .ok (.invokevirtual 238, 3) := dk_182 0 238 (dk_at dksX1_putRight_1 7 rfl rfl)
theorem dX1_putRight_32 : decode cX1_putRight 32 = .ok (.aload_n 0, 1) := dk_42 (dk_at dksX1_putRight_1 10 rfl rfl)
theorem dX1_putRight_33 : decode cX1_putRight 33 = .ok (.getfield 56, 3) := dk_180 0 56 (dk_at dksX1_putRight_1 11 rfl rfl)
theorem dX1_putRight_36 : decode cX1_putRight 36 = .ok (.getfield 241, 3) := dk_180 0 241 (dk_at dksX1_putRight_1 14 rfl rfl)
theorem dX1_putRight_39 : decode cX1_putRight 39 = .ok (.ireturn, 1) := dk_172 (dk_at dksX1_putRight_1 17 rfl rfl)
abbrev cX1_exchanges : ByteArray := prog_1_method_41_code
def yX1_exchanges : MethodName := ⟨RX1, "exchanges", "()I"⟩
def dkwX1_exchanges_1 : List UInt8 := [180, 0, 102, 42, 180, 0, 33, 182, 0, 238, 42, 180, 0, 56, 180, 0, 243, 172]
abbrev dktX1_exchanges_1 : List UInt8 := dkwX1_exchanges_1 ++ []
def dkwX1_exchanges_0 : List UInt8 := [42, 182, 0, 77, 42, 180, 0, 102, 199, 0, 9, 42, 4, 182, 0, 91, 172, 42, 180, 0, 56, 42]
abbrev dktX1_exchanges_0 : List UInt8 := dkwX1_exchanges_0 ++ dktX1_exchanges_1
theorem dksX1_exchanges_0 : cX1_exchanges.data.toList.drop 0 = dktX1_exchanges_0 := by decide +kernel
theorem dksX1_exchanges_1 : cX1_exchanges.data.toList.drop 22 = dktX1_exchanges_1 := dk_seg dksX1_exchanges_0 22 rfl rfl
theorem dX1_exchanges_0 : decode cX1_exchanges 0 = .ok (.aload_n 0, 1) := dk_42 (dk_at dksX1_exchanges_0 0 rfl rfl)
theorem dX1_exchanges_1 : decode cX1_exchanges 1 = .ok (.invokevirtual 77, 3) := dk_182 0 77 (dk_at dksX1_exchanges_0 1 rfl rfl)
theorem dX1_exchanges_4 : decode cX1_exchanges 4 = .ok (.aload_n 0, 1) := dk_42 (dk_at dksX1_exchanges_0 4 rfl rfl)
theorem dX1_exchanges_5 : decode cX1_exchanges 5 = .ok (.getfield 102, 3) := dk_180 0 102 (dk_at dksX1_exchanges_0 5 rfl rfl)
theorem dX1_exchanges_8 : decode cX1_exchanges 8 = .ok (.ifnonnull 9, 3) := dk_199 0 9 (dk_at dksX1_exchanges_0 8 rfl rfl)
theorem dX1_exchanges_11 : decode cX1_exchanges 11 = .ok (.aload_n 0, 1) := dk_42 (dk_at dksX1_exchanges_0 11 rfl rfl)
theorem dX1_exchanges_12 : decode cX1_exchanges 12 = .ok (.iconst 1, 1) := dk_4 (dk_at dksX1_exchanges_0 12 rfl rfl)
theorem dX1_exchanges_13 : decode cX1_exchanges 13 = .ok (.invokevirtual 91, 3) := dk_182 0 91 (dk_at dksX1_exchanges_0 13 rfl rfl)
theorem dX1_exchanges_16 : decode cX1_exchanges 16 = .ok (.ireturn, 1) := dk_172 (dk_at dksX1_exchanges_0 16 rfl rfl)
theorem dX1_exchanges_17 : decode cX1_exchanges 17 = .ok (.aload_n 0, 1) := dk_42 (dk_at dksX1_exchanges_0 17 rfl rfl)
theorem dX1_exchanges_18 : decode cX1_exchanges 18 = .ok (.getfield 56, 3) := dk_180 0 56 (dk_at dksX1_exchanges_0 18 rfl rfl)
theorem dX1_exchanges_21 : decode cX1_exchanges 21 = .ok (.aload_n 0, 1) := dk_42 (dk_at dksX1_exchanges_0 21 rfl rfl)
theorem dX1_exchanges_22 : decode cX1_exchanges 22 = .ok (.getfield 102, 3) := dk_180 0 102 (dk_at dksX1_exchanges_1 0 rfl rfl)
theorem dX1_exchanges_25 : decode cX1_exchanges 25 = .ok (.aload_n 0, 1) := dk_42 (dk_at dksX1_exchanges_1 3 rfl rfl)
theorem dX1_exchanges_26 : decode cX1_exchanges 26 = .ok (.getfield 33, 3) := dk_180 0 33 (dk_at dksX1_exchanges_1 4 rfl rfl)
theorem dX1_exchanges_29 : decode cX1_exchanges 29 = .ok (.invokevirtual 238, 3) := dk_182 0 238 (dk_at dksX1_exchanges_1 7 rfl rfl)
theorem dX1_exchanges_32 : decode cX1_exchanges 32 = .ok (.aload_n 0, 1) := dk_42 (dk_at dksX1_exchanges_1 10 rfl rfl)
theorem dX1_exchanges_33 : decode cX1_exchanges 33 = .ok (.getfield 56, 3) := dk_180 0 56 (dk_at dksX1_exchanges_1 11 rfl rfl)
theorem dX1_exchanges_36 : decode cX1_exchanges 36 = .ok (.getfield 243, 3) := dk_180 0 243 (dk_at dksX1_exchanges_1 14 rfl rfl)
theorem dX1_exchanges_39 : decode cX1_exchanges 39 = .ok (.ireturn, 1) := dk_172 (dk_at dksX1_exchanges_1 17 rfl rfl)
abbrev cX1_exchangeAt : ByteArray := prog_1_method_42_code
def yX1_exchangeAt : MethodName := ⟨RX1, "exchangeAt", "(I)I"⟩
def dkwX1_exchangeAt_2 : List UInt8 := [153, 0, 14, 42, 180, 0, 56, 27, 182, 0, 246, 167, 0, 8, 42, 4, 182, 0, 91, 172]
abbrev dktX1_exchangeAt_2 : List UInt8 := dkwX1_exchangeAt_2 ++ []
def dkwX1_exchangeAt_1 : List UInt8 := [180, 0, 102, 42, 180, 0, 33, 182, 0, 238, 27, 3, 42, 180, 0, 56, 180, 0, 243, 4, 100, 184, 0, 87]
abbrev dktX1_exchangeAt_1 : List UInt8 := dkwX1_exchangeAt_1 ++ dktX1_exchangeAt_2
def dkwX1_exchangeAt_0 : List UInt8 := [42, 182, 0, 77, 42, 180, 0, 102, 199, 0, 9, 42, 4, 182, 0, 91, 172, 42, 180, 0, 56, 42]
abbrev dktX1_exchangeAt_0 : List UInt8 := dkwX1_exchangeAt_0 ++ dktX1_exchangeAt_1
theorem dksX1_exchangeAt_0 : cX1_exchangeAt.data.toList.drop 0 = dktX1_exchangeAt_0 := by decide +kernel
theorem dksX1_exchangeAt_1 : cX1_exchangeAt.data.toList.drop 22 = dktX1_exchangeAt_1 := dk_seg dksX1_exchangeAt_0 22 rfl rfl
theorem dksX1_exchangeAt_2 : cX1_exchangeAt.data.toList.drop 46 = dktX1_exchangeAt_2 := dk_seg dksX1_exchangeAt_1 24 rfl rfl
theorem dX1_exchangeAt_0 : decode cX1_exchangeAt 0 = .ok (.aload_n 0, 1) := dk_42 (dk_at dksX1_exchangeAt_0 0 rfl rfl)
theorem dX1_exchangeAt_1 : decode cX1_exchangeAt 1 = .ok (.invokevirtual 77, 3) := dk_182 0 77 (dk_at dksX1_exchangeAt_0 1 rfl rfl)
theorem dX1_exchangeAt_4 : decode cX1_exchangeAt 4 = .ok (.aload_n 0, 1) := dk_42 (dk_at dksX1_exchangeAt_0 4 rfl rfl)
theorem dX1_exchangeAt_5 : decode cX1_exchangeAt 5 = .ok (.getfield 102, 3) := dk_180 0 102 (dk_at dksX1_exchangeAt_0 5 rfl rfl)
theorem dX1_exchangeAt_8 : decode cX1_exchangeAt 8 = .ok (.ifnonnull 9, 3) := dk_199 0 9 (dk_at dksX1_exchangeAt_0 8 rfl rfl)
theorem dX1_exchangeAt_11 : decode cX1_exchangeAt 11 = .ok (.aload_n 0, 1) := dk_42 (dk_at dksX1_exchangeAt_0 11 rfl rfl)
theorem dX1_exchangeAt_12 : decode cX1_exchangeAt 12 = .ok (.iconst 1, 1) := dk_4 (dk_at dksX1_exchangeAt_0 12 rfl rfl)
theorem dX1_exchangeAt_13 : decode cX1_exchangeAt 13 = .ok (.invokevirtual 91, 3) := dk_182 0 91 (dk_at dksX1_exchangeAt_0 13 rfl rfl)
theorem dX1_exchangeAt_16 : decode cX1_exchangeAt 16 = .ok (.ireturn, 1) := dk_172 (dk_at dksX1_exchangeAt_0 16 rfl rfl)
theorem dX1_exchangeAt_17 : decode cX1_exchangeAt 17 = .ok (.aload_n 0, 1) := dk_42 (dk_at dksX1_exchangeAt_0 17 rfl rfl)
theorem dX1_exchangeAt_18 : decode cX1_exchangeAt 18 = .ok (.getfield 56, 3) := dk_180 0 56 (dk_at dksX1_exchangeAt_0 18 rfl rfl)
theorem dX1_exchangeAt_21 : decode cX1_exchangeAt 21 = .ok (.aload_n 0, 1) := dk_42 (dk_at dksX1_exchangeAt_0 21 rfl rfl)
theorem dX1_exchangeAt_22 : decode cX1_exchangeAt 22 = .ok (.getfield 102, 3) := dk_180 0 102 (dk_at dksX1_exchangeAt_1 0 rfl rfl)
theorem dX1_exchangeAt_25 : decode cX1_exchangeAt 25 = .ok (.aload_n 0, 1) := dk_42 (dk_at dksX1_exchangeAt_1 3 rfl rfl)
theorem dX1_exchangeAt_26 : decode cX1_exchangeAt 26 = .ok (.getfield 33, 3) := dk_180 0 33 (dk_at dksX1_exchangeAt_1 4 rfl rfl)
theorem dX1_exchangeAt_29 : decode cX1_exchangeAt 29 = .ok (.invokevirtual 238, 3) := dk_182 0 238 (dk_at dksX1_exchangeAt_1 7 rfl rfl)
theorem dX1_exchangeAt_32 : decode cX1_exchangeAt 32 = .ok (.iload_n 1, 1) := dk_27 (dk_at dksX1_exchangeAt_1 10 rfl rfl)
theorem dX1_exchangeAt_33 : decode cX1_exchangeAt 33 = .ok (.iconst 0, 1) := dk_3 (dk_at dksX1_exchangeAt_1 11 rfl rfl)
theorem dX1_exchangeAt_34 : decode cX1_exchangeAt 34 = .ok (.aload_n 0, 1) := dk_42 (dk_at dksX1_exchangeAt_1 12 rfl rfl)
theorem dX1_exchangeAt_35 : decode cX1_exchangeAt 35 = .ok (.getfield 56, 3) := dk_180 0 56 (dk_at dksX1_exchangeAt_1 13 rfl rfl)
theorem dX1_exchangeAt_38 : decode cX1_exchangeAt 38 = .ok (.getfield 243, 3) := dk_180 0 243 (dk_at dksX1_exchangeAt_1 16 rfl rfl)
theorem dX1_exchangeAt_41 : decode cX1_exchangeAt 41 = .ok (.iconst 1, 1) := dk_4 (dk_at dksX1_exchangeAt_1 19 rfl rfl)
theorem dX1_exchangeAt_42 : decode cX1_exchangeAt 42 = .ok (.isub, 1) := dk_100 (dk_at dksX1_exchangeAt_1 20 rfl rfl)
theorem dX1_exchangeAt_43 : decode cX1_exchangeAt 43 = .ok (.invokestatic 87, 3) := dk_184 0 87 (dk_at dksX1_exchangeAt_1 21 rfl rfl)
theorem dX1_exchangeAt_46 : decode cX1_exchangeAt 46 = .ok (.ifCond .eq 14, 3) := dk_153 0 14 (dk_at dksX1_exchangeAt_2 0 rfl rfl)
theorem dX1_exchangeAt_49 : decode cX1_exchangeAt 49 = .ok (.aload_n 0, 1) := dk_42 (dk_at dksX1_exchangeAt_2 3 rfl rfl)
theorem dX1_exchangeAt_50 : decode cX1_exchangeAt 50 = .ok (.getfield 56, 3) := dk_180 0 56 (dk_at dksX1_exchangeAt_2 4 rfl rfl)
theorem dX1_exchangeAt_53 : decode cX1_exchangeAt 53 = .ok (.iload_n 1, 1) := dk_27 (dk_at dksX1_exchangeAt_2 7 rfl rfl)
theorem dX1_exchangeAt_54 : decode cX1_exchangeAt 54 = .ok (.invokevirtual 246, 3) := dk_182 0 246 (dk_at dksX1_exchangeAt_2 8 rfl rfl)
theorem dX1_exchangeAt_57 : decode cX1_exchangeAt 57 = .ok (.goto 8, 3) := dk_167 0 8 (dk_at dksX1_exchangeAt_2 11 rfl rfl)
theorem dX1_exchangeAt_60 : decode cX1_exchangeAt 60 = .ok (.aload_n 0, 1) := dk_42 (dk_at dksX1_exchangeAt_2 14 rfl rfl)
theorem dX1_exchangeAt_61 : decode cX1_exchangeAt 61 = .ok (.iconst 1, 1) := dk_4 (dk_at dksX1_exchangeAt_2 15 rfl rfl)
theorem dX1_exchangeAt_62 : decode cX1_exchangeAt 62 = .ok (.invokevirtual 91, 3) := dk_182 0 91 (dk_at dksX1_exchangeAt_2 16 rfl rfl)
theorem dX1_exchangeAt_65 : decode cX1_exchangeAt 65 = .ok (.ireturn, 1) := dk_172 (dk_at dksX1_exchangeAt_2 19 rfl rfl)
abbrev cX1_party : ByteArray := prog_1_method_44_code
def yX1_party : MethodName := ⟨RX1, "party", "(I)I"⟩
def dkwX1_party_1 : List UInt8 := [27, 182, 0, 234, 167, 0, 8, 42, 4, 182, 0, 91, 172]
abbrev dktX1_party_1 : List UInt8 := dkwX1_party_1 ++ []
def dkwX1_party_0 : List UInt8 := [42, 182, 0, 77, 42, 27, 182, 0, 229, 153, 0, 22, 42, 180, 0, 63, 42, 180, 0, 102, 42, 180, 0, 33]
abbrev dktX1_party_0 : List UInt8 := dkwX1_party_0 ++ dktX1_party_1
theorem dksX1_party_0 : cX1_party.data.toList.drop 0 = dktX1_party_0 := by decide +kernel
theorem dksX1_party_1 : cX1_party.data.toList.drop 24 = dktX1_party_1 := dk_seg dksX1_party_0 24 rfl rfl
theorem dX1_party_0 : decode cX1_party 0 = .ok (.aload_n 0, 1) := dk_42 (dk_at dksX1_party_0 0 rfl rfl)
theorem dX1_party_1 : decode cX1_party 1 = .ok (.invokevirtual 77, 3) := dk_182 0 77 (dk_at dksX1_party_0 1 rfl rfl)
theorem dX1_party_4 : decode cX1_party 4 = .ok (.aload_n 0, 1) := dk_42 (dk_at dksX1_party_0 4 rfl rfl)
theorem dX1_party_5 : decode cX1_party 5 = .ok (.iload_n 1, 1) := dk_27 (dk_at dksX1_party_0 5 rfl rfl)
theorem dX1_party_6 : decode cX1_party 6 = .ok (.invokevirtual 229, 3) := dk_182 0 229 (dk_at dksX1_party_0 6 rfl rfl)
theorem dX1_party_9 : decode cX1_party 9 = .ok (.ifCond .eq 22, 3) := dk_153 0 22 (dk_at dksX1_party_0 9 rfl rfl)
theorem dX1_party_12 : decode cX1_party 12 = .ok (.aload_n 0, 1) := dk_42 (dk_at dksX1_party_0 12 rfl rfl)
theorem dX1_party_13 : decode cX1_party 13 = .ok (.getfield 63, 3) := dk_180 0 63 (dk_at dksX1_party_0 13 rfl rfl)
theorem dX1_party_16 : decode cX1_party 16 = .ok (.aload_n 0, 1) := dk_42 (dk_at dksX1_party_0 16 rfl rfl)
theorem dX1_party_17 : decode cX1_party 17 = .ok (.getfield 102, 3) := dk_180 0 102 (dk_at dksX1_party_0 17 rfl rfl)
theorem dX1_party_20 : decode cX1_party 20 = .ok (.aload_n 0, 1) := dk_42 (dk_at dksX1_party_0 20 rfl rfl)
theorem dX1_party_21 : decode cX1_party 21 = .ok (.getfield 33, 3) := dk_180 0 33 (dk_at dksX1_party_0 21 rfl rfl)
theorem dX1_party_24 : decode cX1_party 24 = .ok (.iload_n 1, 1) := dk_27 (dk_at dksX1_party_1 0 rfl rfl)
theorem dX1_party_25 : decode cX1_party 25 = .ok (.invokevirtual 234, 3) := dk_182 0 234 (dk_at dksX1_party_1 1 rfl rfl)
theorem dX1_party_28 : decode cX1_party 28 = .ok (.goto 8, 3) := dk_167 0 8 (dk_at dksX1_party_1 4 rfl rfl)
theorem dX1_party_31 : decode cX1_party 31 = .ok (.aload_n 0, 1) := dk_42 (dk_at dksX1_party_1 7 rfl rfl)
theorem dX1_party_32 : decode cX1_party 32 = .ok (.iconst 1, 1) := dk_4 (dk_at dksX1_party_1 8 rfl rfl)
theorem dX1_party_33 : decode cX1_party 33 = .ok (.invokevirtual 91, 3) := dk_182 0 91 (dk_at dksX1_party_1 9 rfl rfl)
theorem dX1_party_36 : decode cX1_party 36 = .ok (.ireturn, 1) := dk_172 (dk_at dksX1_party_1 12 rfl rfl)
abbrev cX1_partyOf : ByteArray := prog_1_method_45_code
def yX1_partyOf : MethodName := ⟨RX1, "partyOf", "(II)I"⟩
def dkwX1_partyOf_2 : List UInt8 := [160, 0, 12, 42, 16, 6, 182, 0, 91, 167, 0, 11, 42, 180, 0, 63, 28, 182, 0, 249, 172]
abbrev dktX1_partyOf_2 : List UInt8 := dkwX1_partyOf_2 ++ []
def dkwX1_partyOf_1 : List UInt8 := [182, 0, 91, 172, 42, 180, 0, 63, 42, 180, 0, 102, 42, 180, 0, 33, 27, 182, 0, 234, 16, 254]
abbrev dktX1_partyOf_1 : List UInt8 := dkwX1_partyOf_1 ++ dktX1_partyOf_2
def dkwX1_partyOf_0 : List UInt8 := [42, 182, 0, 77, 42, 27, 182, 0, 229, 153, 0, 11, 42, 28, 182, 0, 161, 154, 0, 9, 42, 4]
abbrev dktX1_partyOf_0 : List UInt8 := dkwX1_partyOf_0 ++ dktX1_partyOf_1
theorem dksX1_partyOf_0 : cX1_partyOf.data.toList.drop 0 = dktX1_partyOf_0 := by decide +kernel
theorem dksX1_partyOf_1 : cX1_partyOf.data.toList.drop 22 = dktX1_partyOf_1 := dk_seg dksX1_partyOf_0 22 rfl rfl
theorem dksX1_partyOf_2 : cX1_partyOf.data.toList.drop 44 = dktX1_partyOf_2 := dk_seg dksX1_partyOf_1 22 rfl rfl
theorem dX1_partyOf_0 : decode cX1_partyOf 0 = .ok (.aload_n 0, 1) := dk_42 (dk_at dksX1_partyOf_0 0 rfl rfl)
theorem dX1_partyOf_1 : decode cX1_partyOf 1 = .ok (.invokevirtual 77, 3) := dk_182 0 77 (dk_at dksX1_partyOf_0 1 rfl rfl)
theorem dX1_partyOf_4 : decode cX1_partyOf 4 = .ok (.aload_n 0, 1) := dk_42 (dk_at dksX1_partyOf_0 4 rfl rfl)
theorem dX1_partyOf_5 : decode cX1_partyOf 5 = .ok (.iload_n 1, 1) := dk_27 (dk_at dksX1_partyOf_0 5 rfl rfl)
theorem dX1_partyOf_6 : decode cX1_partyOf 6 = .ok (.invokevirtual 229, 3) := dk_182 0 229 (dk_at dksX1_partyOf_0 6 rfl rfl)
theorem dX1_partyOf_9 : decode cX1_partyOf 9 = .ok (.ifCond .eq 11, 3) := dk_153 0 11 (dk_at dksX1_partyOf_0 9 rfl rfl)
theorem dX1_partyOf_12 : decode cX1_partyOf 12 = .ok (.aload_n 0, 1) := dk_42 (dk_at dksX1_partyOf_0 12 rfl rfl)
theorem dX1_partyOf_13 : decode cX1_partyOf 13 = .ok (.iload_n 2, 1) := dk_28 (dk_at dksX1_partyOf_0 13 rfl rfl)
theorem dX1_partyOf_14 : decode cX1_partyOf 14 = .ok (.invokevirtual 161, 3) := dk_182 0 161 (dk_at dksX1_partyOf_0 14 rfl rfl)
theorem dX1_partyOf_17 : decode cX1_partyOf 17 = .ok (.ifCond .ne 9, 3) := dk_154 0 9 (dk_at dksX1_partyOf_0 17 rfl rfl)
theorem dX1_partyOf_20 : decode cX1_partyOf 20 = .ok (.aload_n 0, 1) := dk_42 (dk_at dksX1_partyOf_0 20 rfl rfl)
theorem dX1_partyOf_21 : decode cX1_partyOf 21 = .ok (.iconst 1, 1) := dk_4 (dk_at dksX1_partyOf_0 21 rfl rfl)
theorem dX1_partyOf_22 : decode cX1_partyOf 22 = .ok (.invokevirtual 91, 3) := dk_182 0 91 (dk_at dksX1_partyOf_1 0 rfl rfl)
theorem dX1_partyOf_25 : decode cX1_partyOf 25 = .ok (.ireturn, 1) := dk_172 (dk_at dksX1_partyOf_1 3 rfl rfl)
theorem dX1_partyOf_26 : decode cX1_partyOf 26 = .ok (.aload_n 0, 1) := dk_42 (dk_at dksX1_partyOf_1 4 rfl rfl)
theorem dX1_partyOf_27 : decode cX1_partyOf 27 = .ok (.getfield 63, 3) := dk_180 0 63 (dk_at dksX1_partyOf_1 5 rfl rfl)
theorem dX1_partyOf_30 : decode cX1_partyOf 30 = .ok (.aload_n 0, 1) := dk_42 (dk_at dksX1_partyOf_1 8 rfl rfl)
theorem dX1_partyOf_31 : decode cX1_partyOf 31 = .ok (.getfield 102, 3) := dk_180 0 102 (dk_at dksX1_partyOf_1 9 rfl rfl)
theorem dX1_partyOf_34 : decode cX1_partyOf 34 = .ok (.aload_n 0, 1) := dk_42 (dk_at dksX1_partyOf_1 12 rfl rfl)
theorem dX1_partyOf_35 : decode cX1_partyOf 35 = .ok (.getfield 33, 3) := dk_180 0 33 (dk_at dksX1_partyOf_1 13 rfl rfl)
theorem dX1_partyOf_38 : decode cX1_partyOf 38 = .ok (.iload_n 1, 1) := dk_27 (dk_at dksX1_partyOf_1 16 rfl rfl)
theorem dX1_partyOf_39 : decode cX1_partyOf 39 = .ok (.invokevirtual 234, 3) := dk_182 0 234 (dk_at dksX1_partyOf_1 17 rfl rfl)
theorem dX1_partyOf_42 : decode cX1_partyOf 42 = .ok (.bipush (-2), 2) := dk_16 254 (dk_at dksX1_partyOf_1 20 rfl rfl)
theorem dX1_partyOf_44 : decode cX1_partyOf 44 = .ok (.if_icmp .ne 12, 3) := dk_160 0 12 (dk_at dksX1_partyOf_2 0 rfl rfl)
theorem dX1_partyOf_47 : decode cX1_partyOf 47 = .ok (.aload_n 0, 1) := dk_42 (dk_at dksX1_partyOf_2 3 rfl rfl)
theorem dX1_partyOf_48 : decode cX1_partyOf 48 = .ok (.bipush 6, 2) := dk_16 6 (dk_at dksX1_partyOf_2 4 rfl rfl)
theorem dX1_partyOf_50 : decode cX1_partyOf 50 = .ok (.invokevirtual 91, 3) := dk_182 0 91 (dk_at dksX1_partyOf_2 6 rfl rfl)
theorem dX1_partyOf_53 : decode cX1_partyOf 53 = .ok (.goto 11, 3) := dk_167 0 11 (dk_at dksX1_partyOf_2 9 rfl rfl)
theorem dX1_partyOf_56 : decode cX1_partyOf 56 = .ok (.aload_n 0, 1) := dk_42 (dk_at dksX1_partyOf_2 12 rfl rfl)
theorem dX1_partyOf_57 : decode cX1_partyOf 57 = .ok (.getfield 63, 3) := dk_180 0 63 (dk_at dksX1_partyOf_2 13 rfl rfl)
theorem dX1_partyOf_60 : decode cX1_partyOf 60 = .ok (.iload_n 2, 1) := dk_28 (dk_at dksX1_partyOf_2 16 rfl rfl)
theorem dX1_partyOf_61 : decode cX1_partyOf 61 = .ok (.invokevirtual 249, 3) := dk_182 0 249 (dk_at dksX1_partyOf_2 17 rfl rfl)
theorem dX1_partyOf_64 : decode cX1_partyOf 64 = .ok (.ireturn, 1) := dk_172 (dk_at dksX1_partyOf_2 20 rfl rfl)
abbrev cX1_room : ByteArray := prog_1_method_46_code
def yX1_room : MethodName := ⟨RX1, "room", "(I)I"⟩
def dkwX1_room_1 : List UInt8 := [180, 0, 102, 42, 180, 0, 33, 27, 182, 0, 234, 87, 42, 180, 0, 63, 182, 0, 250, 172]
abbrev dktX1_room_1 : List UInt8 := dkwX1_room_1 ++ []
def dkwX1_room_0 : List UInt8 := [42, 182, 0, 77, 42, 27, 182, 0, 229, 154, 0, 9, 42, 4, 182, 0, 91, 172, 42, 180, 0, 63, 42]
abbrev dktX1_room_0 : List UInt8 := dkwX1_room_0 ++ dktX1_room_1
theorem dksX1_room_0 : cX1_room.data.toList.drop 0 = dktX1_room_0 := by decide +kernel
theorem dksX1_room_1 : cX1_room.data.toList.drop 23 = dktX1_room_1 := dk_seg dksX1_room_0 23 rfl rfl
theorem dX1_room_0 : decode cX1_room 0 = .ok (.aload_n 0, 1) := dk_42 (dk_at dksX1_room_0 0 rfl rfl)
theorem dX1_room_1 : decode cX1_room 1 = .ok (.invokevirtual 77, 3) := dk_182 0 77 (dk_at dksX1_room_0 1 rfl rfl)
theorem dX1_room_4 : decode cX1_room 4 = .ok (.aload_n 0, 1) := dk_42 (dk_at dksX1_room_0 4 rfl rfl)
theorem dX1_room_5 : decode cX1_room 5 = .ok (.iload_n 1, 1) := dk_27 (dk_at dksX1_room_0 5 rfl rfl)
theorem dX1_room_6 : decode cX1_room 6 = .ok (.invokevirtual 229, 3) := dk_182 0 229 (dk_at dksX1_room_0 6 rfl rfl)
theorem dX1_room_9 : decode cX1_room 9 = .ok (.ifCond .ne 9, 3) := dk_154 0 9 (dk_at dksX1_room_0 9 rfl rfl)
theorem dX1_room_12 : decode cX1_room 12 = .ok (.aload_n 0, 1) := dk_42 (dk_at dksX1_room_0 12 rfl rfl)
theorem dX1_room_13 : decode cX1_room 13 = .ok (.iconst 1, 1) := dk_4 (dk_at dksX1_room_0 13 rfl rfl)
theorem dX1_room_14 : decode cX1_room 14 = .ok (.invokevirtual 91, 3) := dk_182 0 91 (dk_at dksX1_room_0 14 rfl rfl)
theorem dX1_room_17 : decode cX1_room 17 = .ok (.ireturn, 1) := dk_172 (dk_at dksX1_room_0 17 rfl rfl)
theorem dX1_room_18 : decode cX1_room 18 = .ok (.aload_n 0, 1) := dk_42 (dk_at dksX1_room_0 18 rfl rfl)
theorem dX1_room_19 : decode cX1_room 19 = .ok (.getfield 63, 3) := dk_180 0 63 (dk_at dksX1_room_0 19 rfl rfl)
theorem dX1_room_22 : decode cX1_room 22 = .ok (.aload_n 0, 1) := dk_42 (dk_at dksX1_room_0 22 rfl rfl)
theorem dX1_room_23 : decode cX1_room 23 = .ok (.getfield 102, 3) := dk_180 0 102 (dk_at dksX1_room_1 0 rfl rfl)
theorem dX1_room_26 : decode cX1_room 26 = .ok (.aload_n 0, 1) := dk_42 (dk_at dksX1_room_1 3 rfl rfl)
theorem dX1_room_27 : decode cX1_room 27 = .ok (.getfield 33, 3) := dk_180 0 33 (dk_at dksX1_room_1 4 rfl rfl)
theorem dX1_room_30 : decode cX1_room 30 = .ok (.iload_n 1, 1) := dk_27 (dk_at dksX1_room_1 7 rfl rfl)
theorem dX1_room_31 : decode cX1_room 31 = .ok (.invokevirtual 234, 3) := dk_182 0 234 (dk_at dksX1_room_1 8 rfl rfl)
theorem dX1_room_34 : decode cX1_room 34 = .ok (.pop, 1) := dk_87 (dk_at dksX1_room_1 11 rfl rfl)
theorem dX1_room_35 : decode cX1_room 35 = .ok (.aload_n 0, 1) := dk_42 (dk_at dksX1_room_1 12 rfl rfl)
theorem dX1_room_36 : decode cX1_room 36 = .ok (.getfield 63, 3) := dk_180 0 63 (dk_at dksX1_room_1 13 rfl rfl)
theorem dX1_room_39 : decode cX1_room 39 = .ok (.invokevirtual 250, 3) := dk_182 0 250 (dk_at dksX1_room_1 16 rfl rfl)
theorem dX1_room_42 : decode cX1_room 42 = .ok (.ireturn, 1) := dk_172 (dk_at dksX1_room_1 19 rfl rfl)
abbrev cX1_whole : ByteArray := prog_1_method_48_code
def yX1_whole : MethodName := ⟨RX1, "whole", "(IIZ)J"⟩
def dkwX1_whole_3 : List UInt8 := [132, 8, 1, 167, 255, 228, 22, 4, 22, 6, 29, 184, 1, 7, 173]
abbrev dktX1_whole_3 : List UInt8 := dkwX1_whole_3 ++ []
def dkwX1_whole_2 : List UInt8 := [28, 162, 0, 28, 22, 4, 42, 27, 182, 1, 2, 133, 105, 55, 4, 22, 6, 20, 1, 5, 105, 55, 6]
abbrev dktX1_whole_2 : List UInt8 := dkwX1_whole_2 ++ dktX1_whole_3
def dkwX1_whole_1 : List UInt8 := [184, 0, 87, 154, 0, 10, 42, 5, 182, 0, 91, 133, 173, 10, 55, 4, 10, 55, 6, 3, 54, 8, 21, 8]
abbrev dktX1_whole_1 : List UInt8 := dkwX1_whole_1 ++ dktX1_whole_2
def dkwX1_whole_0 : List UInt8 := [42, 182, 0, 77, 42, 27, 182, 0, 134, 154, 0, 10, 42, 4, 182, 0, 91, 133, 173, 28, 3, 16, 6]
abbrev dktX1_whole_0 : List UInt8 := dkwX1_whole_0 ++ dktX1_whole_1
theorem dksX1_whole_0 : cX1_whole.data.toList.drop 0 = dktX1_whole_0 := by decide +kernel
theorem dksX1_whole_1 : cX1_whole.data.toList.drop 23 = dktX1_whole_1 := dk_seg dksX1_whole_0 23 rfl rfl
theorem dksX1_whole_2 : cX1_whole.data.toList.drop 47 = dktX1_whole_2 := dk_seg dksX1_whole_1 24 rfl rfl
theorem dksX1_whole_3 : cX1_whole.data.toList.drop 70 = dktX1_whole_3 := dk_seg dksX1_whole_2 23 rfl rfl
theorem dX1_whole_0 : decode cX1_whole 0 = .ok (.aload_n 0, 1) := dk_42 (dk_at dksX1_whole_0 0 rfl rfl)
theorem dX1_whole_1 : decode cX1_whole 1 = .ok (.invokevirtual 77, 3) := dk_182 0 77 (dk_at dksX1_whole_0 1 rfl rfl)
theorem dX1_whole_4 : decode cX1_whole 4 = .ok (.aload_n 0, 1) := dk_42 (dk_at dksX1_whole_0 4 rfl rfl)
theorem dX1_whole_5 : decode cX1_whole 5 = .ok (.iload_n 1, 1) := dk_27 (dk_at dksX1_whole_0 5 rfl rfl)
theorem dX1_whole_6 : decode cX1_whole 6 = .ok (.invokevirtual 134, 3) := dk_182 0 134 (dk_at dksX1_whole_0 6 rfl rfl)
theorem dX1_whole_9 : decode cX1_whole 9 = .ok (.ifCond .ne 10, 3) := dk_154 0 10 (dk_at dksX1_whole_0 9 rfl rfl)
theorem dX1_whole_12 : decode cX1_whole 12 = .ok (.aload_n 0, 1) := dk_42 (dk_at dksX1_whole_0 12 rfl rfl)
theorem dX1_whole_13 : decode cX1_whole 13 = .ok (.iconst 1, 1) := dk_4 (dk_at dksX1_whole_0 13 rfl rfl)
theorem dX1_whole_14 : decode cX1_whole 14 = .ok (.invokevirtual 91, 3) := dk_182 0 91 (dk_at dksX1_whole_0 14 rfl rfl)
theorem dX1_whole_17 : decode cX1_whole 17 = .ok (.i2l, 1) := dk_133 (dk_at dksX1_whole_0 17 rfl rfl)
theorem dX1_whole_18 : decode cX1_whole 18 = .ok (.lreturn, 1) := dk_173 (dk_at dksX1_whole_0 18 rfl rfl)
theorem dX1_whole_19 : decode cX1_whole 19 = .ok (.iload_n 2, 1) := dk_28 (dk_at dksX1_whole_0 19 rfl rfl)
theorem dX1_whole_20 : decode cX1_whole 20 = .ok (.iconst 0, 1) := dk_3 (dk_at dksX1_whole_0 20 rfl rfl)
theorem dX1_whole_21 : decode cX1_whole 21 = .ok (.bipush 6, 2) := dk_16 6 (dk_at dksX1_whole_0 21 rfl rfl)
theorem dX1_whole_23 : decode cX1_whole 23 = .ok (.invokestatic 87, 3) := dk_184 0 87 (dk_at dksX1_whole_1 0 rfl rfl)
theorem dX1_whole_26 : decode cX1_whole 26 = .ok (.ifCond .ne 10, 3) := dk_154 0 10 (dk_at dksX1_whole_1 3 rfl rfl)
theorem dX1_whole_29 : decode cX1_whole 29 = .ok (.aload_n 0, 1) := dk_42 (dk_at dksX1_whole_1 6 rfl rfl)
theorem dX1_whole_30 : decode cX1_whole 30 = .ok (.iconst 2, 1) := dk_5 (dk_at dksX1_whole_1 7 rfl rfl)
theorem dX1_whole_31 : decode cX1_whole 31 = .ok (.invokevirtual 91, 3) := dk_182 0 91 (dk_at dksX1_whole_1 8 rfl rfl)
theorem dX1_whole_34 : decode cX1_whole 34 = .ok (.i2l, 1) := dk_133 (dk_at dksX1_whole_1 11 rfl rfl)
theorem dX1_whole_35 : decode cX1_whole 35 = .ok (.lreturn, 1) := dk_173 (dk_at dksX1_whole_1 12 rfl rfl)
theorem dX1_whole_36 : decode cX1_whole 36 = .ok (.lconst 1, 1) := dk_10 (dk_at dksX1_whole_1 13 rfl rfl)
theorem dX1_whole_37 : decode cX1_whole 37 = .ok (.lstore 4, 2) := dk_55 4 (dk_at dksX1_whole_1 14 rfl rfl)
theorem dX1_whole_39 : decode cX1_whole 39 = .ok (.lconst 1, 1) := dk_10 (dk_at dksX1_whole_1 16 rfl rfl)
theorem dX1_whole_40 : decode cX1_whole 40 = .ok (.lstore 6, 2) := dk_55 6 (dk_at dksX1_whole_1 17 rfl rfl)
theorem dX1_whole_42 : decode cX1_whole 42 = .ok (.iconst 0, 1) := dk_3 (dk_at dksX1_whole_1 19 rfl rfl)
theorem dX1_whole_43 : decode cX1_whole 43 = .ok (.istore 8, 2) := dk_54 8 (dk_at dksX1_whole_1 20 rfl rfl)
theorem dX1_whole_45 : decode cX1_whole 45 = .ok (.iload 8, 2) := dk_21 8 (dk_at dksX1_whole_1 22 rfl rfl)
theorem dX1_whole_47 : decode cX1_whole 47 = .ok (.iload_n 2, 1) := dk_28 (dk_at dksX1_whole_2 0 rfl rfl)
theorem dX1_whole_48 : decode cX1_whole 48 = .ok (.if_icmp .ge 28, 3) := dk_162 0 28 (dk_at dksX1_whole_2 1 rfl rfl)
theorem dX1_whole_51 : decode cX1_whole 51 = .ok (.lload 4, 2) := dk_22 4 (dk_at dksX1_whole_2 4 rfl rfl)
theorem dX1_whole_53 : decode cX1_whole 53 = .ok (.aload_n 0, 1) := dk_42 (dk_at dksX1_whole_2 6 rfl rfl)
theorem dX1_whole_54 : decode cX1_whole 54 = .ok (.iload_n 1, 1) := dk_27 (dk_at dksX1_whole_2 7 rfl rfl)
theorem dX1_whole_55 : decode cX1_whole 55 = .ok (.invokevirtual 258, 3) := dk_182 1 2 (dk_at dksX1_whole_2 8 rfl rfl)
theorem dX1_whole_58 : decode cX1_whole 58 = .ok (.i2l, 1) := dk_133 (dk_at dksX1_whole_2 11 rfl rfl)
theorem dX1_whole_59 : decode cX1_whole 59 = .ok (.lmul, 1) := dk_105 (dk_at dksX1_whole_2 12 rfl rfl)
theorem dX1_whole_60 : decode cX1_whole 60 = .ok (.lstore 4, 2) := dk_55 4 (dk_at dksX1_whole_2 13 rfl rfl)
theorem dX1_whole_62 : decode cX1_whole 62 = .ok (.lload 6, 2) := dk_22 6 (dk_at dksX1_whole_2 15 rfl rfl)
theorem dX1_whole_64 : decode cX1_whole 64 = .ok (.ldc2_w 261, 3) := dk_20 1 5 (dk_at dksX1_whole_2 17 rfl rfl)
theorem dX1_whole_67 : decode cX1_whole 67 = .ok (.lmul, 1) := dk_105 (dk_at dksX1_whole_2 20 rfl rfl)
theorem dX1_whole_68 : decode cX1_whole 68 = .ok (.lstore 6, 2) := dk_55 6 (dk_at dksX1_whole_2 21 rfl rfl)
theorem dX1_whole_70 : decode cX1_whole 70 = .ok (.iinc 8 1, 3) := dk_132 8 1 (dk_at dksX1_whole_3 0 rfl rfl)
theorem dX1_whole_73 : decode cX1_whole 73 = .ok (.goto (-28), 3) := dk_167 255 228 (dk_at dksX1_whole_3 3 rfl rfl)
theorem dX1_whole_76 : decode cX1_whole 76 = .ok (.lload 4, 2) := dk_22 4 (dk_at dksX1_whole_3 6 rfl rfl)
theorem dX1_whole_78 : decode cX1_whole 78 = .ok (.lload 6, 2) := dk_22 6 (dk_at dksX1_whole_3 8 rfl rfl)
theorem dX1_whole_80 : decode cX1_whole 80 = .ok (.iload_n 3, 1) := dk_29 (dk_at dksX1_whole_3 10 rfl rfl)
theorem dX1_whole_81 : decode cX1_whole 81 = .ok (.invokestatic 263, 3) := dk_184 1 7 (dk_at dksX1_whole_3 11 rfl rfl)
theorem dX1_whole_84 : decode cX1_whole 84 = .ok (.lreturn, 1) := dk_173 (dk_at dksX1_whole_3 14 rfl rfl)
abbrev cX1_stays : ByteArray := prog_1_method_47_code
def yX1_stays : MethodName := ⟨RX1, "stays", "(I)I"⟩
def dkwX1_stays_0 : List UInt8 := [16, 100, 42, 180, 0, 102, 180, 0, 138, 27, 50, 42, 180, 0, 102, 180, 0, 253, 182, 1, 0, 100, 172]
abbrev dktX1_stays_0 : List UInt8 := dkwX1_stays_0 ++ []
theorem dksX1_stays_0 : cX1_stays.data.toList.drop 0 = dktX1_stays_0 := by decide +kernel
theorem dX1_stays_0 : decode cX1_stays 0 = .ok (.bipush 100, 2) := dk_16 100 (dk_at dksX1_stays_0 0 rfl rfl)
theorem dX1_stays_2 : decode cX1_stays 2 = .ok (.aload_n 0, 1) := dk_42 (dk_at dksX1_stays_0 2 rfl rfl)
theorem dX1_stays_3 : decode cX1_stays 3 = .ok (.getfield 102, 3) := dk_180 0 102 (dk_at dksX1_stays_0 3 rfl rfl)
theorem dX1_stays_6 : decode cX1_stays 6 = .ok (.getfield 138, 3) := dk_180 0 138 (dk_at dksX1_stays_0 6 rfl rfl)
theorem dX1_stays_9 : decode cX1_stays 9 = .ok (.iload_n 1, 1) := dk_27 (dk_at dksX1_stays_0 9 rfl rfl)
theorem dX1_stays_10 : decode cX1_stays 10 = .ok (.aaload, 1) := dk_50 (dk_at dksX1_stays_0 10 rfl rfl)
theorem dX1_stays_11 : decode cX1_stays 11 = .ok (.aload_n 0, 1) := dk_42 (dk_at dksX1_stays_0 11 rfl rfl)
theorem dX1_stays_12 : decode cX1_stays 12 = .ok (.getfield 102, 3) := dk_180 0 102 (dk_at dksX1_stays_0 12 rfl rfl)
theorem dX1_stays_15 : decode cX1_stays 15 = .ok (.getfield 253, 3) := dk_180 0 253 (dk_at dksX1_stays_0 15 rfl rfl)
theorem dX1_stays_18 : decode cX1_stays 18 = .ok (.invokevirtual 256, 3) := dk_182 1 0 (dk_at dksX1_stays_0 18 rfl rfl)
theorem dX1_stays_21 : decode cX1_stays 21 = .ok (.isub, 1) := dk_100 (dk_at dksX1_stays_0 21 rfl rfl)
theorem dX1_stays_22 : decode cX1_stays 22 = .ok (.ireturn, 1) := dk_172 (dk_at dksX1_stays_0 22 rfl rfl)
abbrev cX1_lowest : ByteArray := prog_1_method_5_code
def yX1_lowest : MethodName := ⟨RX1, "lowest", "(JJZ)J"⟩
def dkwX1_lowest_0 : List UInt8 := [21, 4, 153, 0, 7, 32, 167, 0, 4, 30, 32, 30, 184, 0, 1, 109, 173]
abbrev dktX1_lowest_0 : List UInt8 := dkwX1_lowest_0 ++ []
theorem dksX1_lowest_0 : cX1_lowest.data.toList.drop 0 = dktX1_lowest_0 := by decide +kernel
theorem dX1_lowest_0 : decode cX1_lowest 0 = .ok (.iload 4, 2) := dk_21 4 (dk_at dksX1_lowest_0 0 rfl rfl)
theorem dX1_lowest_2 : decode cX1_lowest 2 = .ok (.ifCond .eq 7, 3) := dk_153 0 7 (dk_at dksX1_lowest_0 2 rfl rfl)
theorem dX1_lowest_5 : decode cX1_lowest 5 = .ok (.lload_n 2, 1) := dk_32 (dk_at dksX1_lowest_0 5 rfl rfl)
theorem dX1_lowest_6 : decode cX1_lowest 6 = .ok (.goto 4, 3) := dk_167 0 4 (dk_at dksX1_lowest_0 6 rfl rfl)
theorem dX1_lowest_9 : decode cX1_lowest 9 = .ok (.lload_n 0, 1) := dk_30 (dk_at dksX1_lowest_0 9 rfl rfl)
theorem dX1_lowest_10 : decode cX1_lowest 10 = .ok (.lload_n 2, 1) := dk_32 (dk_at dksX1_lowest_0 10 rfl rfl)
theorem dX1_lowest_11 : decode cX1_lowest 11 = .ok (.lload_n 0, 1) := dk_30 (dk_at dksX1_lowest_0 11 rfl rfl)
theorem dX1_lowest_12 : decode cX1_lowest 12 = .ok (.invokestatic 1, 3) := dk_184 0 1 (dk_at dksX1_lowest_0 12 rfl rfl)
theorem dX1_lowest_15 : decode cX1_lowest 15 = .ok (.ldiv, 1) := dk_109 (dk_at dksX1_lowest_0 15 rfl rfl)
theorem dX1_lowest_16 : decode cX1_lowest 16 = .ok (.lreturn, 1) := dk_173 (dk_at dksX1_lowest_0 16 rfl rfl)
abbrev cX1_dividing : ByteArray := prog_1_method_4_code
def yX1_dividing : MethodName := ⟨RX1, "dividing", "(JJ)J"⟩
def dkwX1_dividing_0 : List UInt8 := [32, 9, 148, 154, 0, 7, 30, 167, 0, 10, 32, 30, 32, 113, 184, 0, 1, 173]
abbrev dktX1_dividing_0 : List UInt8 := dkwX1_dividing_0 ++ []
theorem dksX1_dividing_0 : cX1_dividing.data.toList.drop 0 = dktX1_dividing_0 := by decide +kernel
theorem dX1_dividing_0 : decode cX1_dividing 0 = .ok (.lload_n 2, 1) := dk_32 (dk_at dksX1_dividing_0 0 rfl rfl)
theorem dX1_dividing_1 : decode cX1_dividing 1 = .ok (.lconst 0, 1) := dk_9 (dk_at dksX1_dividing_0 1 rfl rfl)
theorem dX1_dividing_2 : decode cX1_dividing 2 = .ok (.lcmp, 1) := dk_148 (dk_at dksX1_dividing_0 2 rfl rfl)
theorem dX1_dividing_3 : decode cX1_dividing 3 = .ok (.ifCond .ne 7, 3) := dk_154 0 7 (dk_at dksX1_dividing_0 3 rfl rfl)
theorem dX1_dividing_6 : decode cX1_dividing 6 = .ok (.lload_n 0, 1) := dk_30 (dk_at dksX1_dividing_0 6 rfl rfl)
theorem dX1_dividing_7 : decode cX1_dividing 7 = .ok (.goto 10, 3) := dk_167 0 10 (dk_at dksX1_dividing_0 7 rfl rfl)
theorem dX1_dividing_10 : decode cX1_dividing 10 = .ok (.lload_n 2, 1) := dk_32 (dk_at dksX1_dividing_0 10 rfl rfl)
theorem dX1_dividing_11 : decode cX1_dividing 11 = .ok (.lload_n 0, 1) := dk_30 (dk_at dksX1_dividing_0 11 rfl rfl)
theorem dX1_dividing_12 : decode cX1_dividing 12 = .ok (.lload_n 2, 1) := dk_32 (dk_at dksX1_dividing_0 12 rfl rfl)
theorem dX1_dividing_13 : decode cX1_dividing 13 = .ok (.lrem, 1) := dk_113 (dk_at dksX1_dividing_0 13 rfl rfl)
theorem dX1_dividing_14 : decode cX1_dividing 14 = .ok (.invokestatic 1, 3) := dk_184 0 1 (dk_at dksX1_dividing_0 14 rfl rfl)
theorem dX1_dividing_17 : decode cX1_dividing 17 = .ok (.lreturn, 1) := dk_173 (dk_at dksX1_dividing_0 17 rfl rfl)
abbrev cX1_allWhole : ByteArray := prog_1_method_49_code
def yX1_allWhole : MethodName := ⟨RX1, "allWhole", "(IIZ)J"⟩
def dkwX1_allWhole_5 : List UInt8 := [22, 6, 29, 184, 1, 7, 173]
abbrev dktX1_allWhole_5 : List UInt8 := dkwX1_allWhole_5 ++ []
def dkwX1_allWhole_4 : List UInt8 := [182, 1, 2, 133, 105, 55, 4, 22, 6, 20, 1, 5, 105, 55, 6, 132, 9, 1, 167, 255, 208, 22, 4]
abbrev dktX1_allWhole_4 : List UInt8 := dkwX1_allWhole_4 ++ dktX1_allWhole_5
def dkwX1_allWhole_3 : List UInt8 := [180, 0, 126, 162, 0, 42, 21, 8, 21, 9, 184, 0, 232, 154, 0, 6, 167, 0, 23, 22, 4, 42, 21, 9]
abbrev dktX1_allWhole_3 : List UInt8 := dkwX1_allWhole_3 ++ dktX1_allWhole_4
def dkwX1_allWhole_2 : List UInt8 := [167, 0, 11, 42, 180, 0, 33, 27, 182, 0, 173, 54, 8, 3, 54, 9, 21, 9, 42, 180, 0, 102]
abbrev dktX1_allWhole_2 : List UInt8 := dkwX1_allWhole_2 ++ dktX1_allWhole_3
def dkwX1_allWhole_1 : List UInt8 := [184, 0, 87, 154, 0, 10, 42, 5, 182, 0, 91, 133, 173, 10, 55, 4, 10, 55, 6, 28, 154, 0, 7, 3]
abbrev dktX1_allWhole_1 : List UInt8 := dkwX1_allWhole_1 ++ dktX1_allWhole_2
def dkwX1_allWhole_0 : List UInt8 := [42, 182, 0, 77, 42, 27, 182, 0, 161, 154, 0, 10, 42, 4, 182, 0, 91, 133, 173, 28, 3, 4]
abbrev dktX1_allWhole_0 : List UInt8 := dkwX1_allWhole_0 ++ dktX1_allWhole_1
theorem dksX1_allWhole_0 : cX1_allWhole.data.toList.drop 0 = dktX1_allWhole_0 := by decide +kernel
theorem dksX1_allWhole_1 : cX1_allWhole.data.toList.drop 22 = dktX1_allWhole_1 := dk_seg dksX1_allWhole_0 22 rfl rfl
theorem dksX1_allWhole_2 : cX1_allWhole.data.toList.drop 46 = dktX1_allWhole_2 := dk_seg dksX1_allWhole_1 24 rfl rfl
theorem dksX1_allWhole_3 : cX1_allWhole.data.toList.drop 68 = dktX1_allWhole_3 := dk_seg dksX1_allWhole_2 22 rfl rfl
theorem dksX1_allWhole_4 : cX1_allWhole.data.toList.drop 92 = dktX1_allWhole_4 := dk_seg dksX1_allWhole_3 24 rfl rfl
theorem dksX1_allWhole_5 : cX1_allWhole.data.toList.drop 115 = dktX1_allWhole_5 := dk_seg dksX1_allWhole_4 23 rfl rfl
theorem dX1_allWhole_0 : decode cX1_allWhole 0 = .ok (.aload_n 0, 1) := dk_42 (dk_at dksX1_allWhole_0 0 rfl rfl)
theorem dX1_allWhole_1 : decode cX1_allWhole 1 = .ok (.invokevirtual 77, 3) := dk_182 0 77 (dk_at dksX1_allWhole_0 1 rfl rfl)
theorem dX1_allWhole_4 : decode cX1_allWhole 4 = .ok (.aload_n 0, 1) := dk_42 (dk_at dksX1_allWhole_0 4 rfl rfl)
theorem dX1_allWhole_5 : decode cX1_allWhole 5 = .ok (.iload_n 1, 1) := dk_27 (dk_at dksX1_allWhole_0 5 rfl rfl)
theorem dX1_allWhole_6 : decode cX1_allWhole 6 = .ok (.invokevirtual 161, 3) := dk_182 0 161 (dk_at dksX1_allWhole_0 6 rfl rfl)
theorem dX1_allWhole_9 : decode cX1_allWhole 9 = .ok (.ifCond .ne 10, 3) := dk_154 0 10 (dk_at dksX1_allWhole_0 9 rfl rfl)
theorem dX1_allWhole_12 : decode cX1_allWhole 12 = .ok (.aload_n 0, 1) := dk_42 (dk_at dksX1_allWhole_0 12 rfl rfl)
theorem dX1_allWhole_13 : decode cX1_allWhole 13 = .ok (.iconst 1, 1) := dk_4 (dk_at dksX1_allWhole_0 13 rfl rfl)
theorem dX1_allWhole_14 : decode cX1_allWhole 14 = .ok (.invokevirtual 91, 3) := dk_182 0 91 (dk_at dksX1_allWhole_0 14 rfl rfl)
theorem dX1_allWhole_17 : decode cX1_allWhole 17 = .ok (.i2l, 1) := dk_133 (dk_at dksX1_allWhole_0 17 rfl rfl)
theorem dX1_allWhole_18 : decode cX1_allWhole 18 = .ok (.lreturn, 1) := dk_173 (dk_at dksX1_allWhole_0 18 rfl rfl)
theorem dX1_allWhole_19 : decode cX1_allWhole 19 = .ok (.iload_n 2, 1) := dk_28 (dk_at dksX1_allWhole_0 19 rfl rfl)
theorem dX1_allWhole_20 : decode cX1_allWhole 20 = .ok (.iconst 0, 1) := dk_3 (dk_at dksX1_allWhole_0 20 rfl rfl)
theorem dX1_allWhole_21 : decode cX1_allWhole 21 = .ok (.iconst 1, 1) := dk_4 (dk_at dksX1_allWhole_0 21 rfl rfl)
theorem dX1_allWhole_22 : decode cX1_allWhole 22 = .ok (.invokestatic 87, 3) := dk_184 0 87 (dk_at dksX1_allWhole_1 0 rfl rfl)
theorem dX1_allWhole_25 : decode cX1_allWhole 25 = .ok (.ifCond .ne 10, 3) := dk_154 0 10 (dk_at dksX1_allWhole_1 3 rfl rfl)
theorem dX1_allWhole_28 : decode cX1_allWhole 28 = .ok (.aload_n 0, 1) := dk_42 (dk_at dksX1_allWhole_1 6 rfl rfl)
theorem dX1_allWhole_29 : decode cX1_allWhole 29 = .ok (.iconst 2, 1) := dk_5 (dk_at dksX1_allWhole_1 7 rfl rfl)
theorem dX1_allWhole_30 : decode cX1_allWhole 30 = .ok (.invokevirtual 91, 3) := dk_182 0 91 (dk_at dksX1_allWhole_1 8 rfl rfl)
theorem dX1_allWhole_33 : decode cX1_allWhole 33 = .ok (.i2l, 1) := dk_133 (dk_at dksX1_allWhole_1 11 rfl rfl)
theorem dX1_allWhole_34 : decode cX1_allWhole 34 = .ok (.lreturn, 1) := dk_173 (dk_at dksX1_allWhole_1 12 rfl rfl)
theorem dX1_allWhole_35 : decode cX1_allWhole 35 = .ok (.lconst 1, 1) := dk_10 (dk_at dksX1_allWhole_1 13 rfl rfl)
theorem dX1_allWhole_36 : decode cX1_allWhole 36 = .ok (.lstore 4, 2) := dk_55 4 (dk_at dksX1_allWhole_1 14 rfl rfl)
theorem dX1_allWhole_38 : decode cX1_allWhole 38 = .ok (.lconst 1, 1) := dk_10 (dk_at dksX1_allWhole_1 16 rfl rfl)
theorem dX1_allWhole_39 : decode cX1_allWhole 39 = .ok (.lstore 6, 2) := dk_55 6 (dk_at dksX1_allWhole_1 17 rfl rfl)
theorem dX1_allWhole_41 : decode cX1_allWhole 41 = .ok (.iload_n 2, 1) := dk_28 (dk_at dksX1_allWhole_1 19 rfl rfl)
theorem dX1_allWhole_42 : decode cX1_allWhole 42 = .ok (.ifCond .ne 7, 3) := dk_154 0 7 (dk_at dksX1_allWhole_1 20 rfl rfl)
theorem dX1_allWhole_45 : decode cX1_allWhole 45 = .ok (.iconst 0, 1) := dk_3 (dk_at dksX1_allWhole_1 23 rfl rfl)
theorem dX1_allWhole_46 : decode cX1_allWhole 46 = .ok (.goto 11, 3) := dk_167 0 11 (dk_at dksX1_allWhole_2 0 rfl rfl)
theorem dX1_allWhole_49 : decode cX1_allWhole 49 = .ok (.aload_n 0, 1) := dk_42 (dk_at dksX1_allWhole_2 3 rfl rfl)
theorem dX1_allWhole_50 : decode cX1_allWhole 50 = .ok (.getfield 33, 3) := dk_180 0 33 (dk_at dksX1_allWhole_2 4 rfl rfl)
theorem dX1_allWhole_53 : decode cX1_allWhole 53 = .ok (.iload_n 1, 1) := dk_27 (dk_at dksX1_allWhole_2 7 rfl rfl)
theorem dX1_allWhole_54 : decode cX1_allWhole 54 = .ok (.invokevirtual 173, 3) := dk_182 0 173 (dk_at dksX1_allWhole_2 8 rfl rfl)
theorem dX1_allWhole_57 : decode cX1_allWhole 57 = .ok (.istore 8, 2) := dk_54 8 (dk_at dksX1_allWhole_2 11 rfl rfl)
theorem dX1_allWhole_59 : decode cX1_allWhole 59 = .ok (.iconst 0, 1) := dk_3 (dk_at dksX1_allWhole_2 13 rfl rfl)
theorem dX1_allWhole_60 : decode cX1_allWhole 60 = .ok (.istore 9, 2) := dk_54 9 (dk_at dksX1_allWhole_2 14 rfl rfl)
theorem dX1_allWhole_62 : decode cX1_allWhole 62 = .ok (.iload 9, 2) := dk_21 9 (dk_at dksX1_allWhole_2 16 rfl rfl)
theorem dX1_allWhole_64 : decode cX1_allWhole 64 = .ok (.aload_n 0, 1) := dk_42 (dk_at dksX1_allWhole_2 18 rfl rfl)
theorem dX1_allWhole_65 : decode cX1_allWhole 65 = .ok (.getfield 102, 3) := dk_180 0 102 (dk_at dksX1_allWhole_2 19 rfl rfl)
theorem dX1_allWhole_68 : decode cX1_allWhole 68 = .ok (.getfield 126, 3) := dk_180 0 126 (dk_at dksX1_allWhole_3 0 rfl rfl)
theorem dX1_allWhole_71 : decode cX1_allWhole 71 = .ok (.if_icmp .ge 42, 3) := dk_162 0 42 (dk_at dksX1_allWhole_3 3 rfl rfl)
theorem dX1_allWhole_74 : decode cX1_allWhole 74 = .ok (.iload 8, 2) := dk_21 8 (dk_at dksX1_allWhole_3 6 rfl rfl)
theorem dX1_allWhole_76 : decode cX1_allWhole 76 = .ok (.iload 9, 2) := dk_21 9 (dk_at dksX1_allWhole_3 8 rfl rfl)
theorem dX1_allWhole_78 : decode cX1_allWhole 78 = .ok (.invokestatic 232, 3) := dk_184 0 232 (dk_at dksX1_allWhole_3 10 rfl rfl)
theorem dX1_allWhole_81 : decode cX1_allWhole 81 = .ok (.ifCond .ne 6, 3) := dk_154 0 6 (dk_at dksX1_allWhole_3 13 rfl rfl)
theorem dX1_allWhole_84 : decode cX1_allWhole 84 = .ok (.goto 23, 3) := dk_167 0 23 (dk_at dksX1_allWhole_3 16 rfl rfl)
theorem dX1_allWhole_87 : decode cX1_allWhole 87 = .ok (.lload 4, 2) := dk_22 4 (dk_at dksX1_allWhole_3 19 rfl rfl)
theorem dX1_allWhole_89 : decode cX1_allWhole 89 = .ok (.aload_n 0, 1) := dk_42 (dk_at dksX1_allWhole_3 21 rfl rfl)
theorem dX1_allWhole_90 : decode cX1_allWhole 90 = .ok (.iload 9, 2) := dk_21 9 (dk_at dksX1_allWhole_3 22 rfl rfl)
theorem dX1_allWhole_92 : decode cX1_allWhole 92 = .ok (.invokevirtual 258, 3) := dk_182 1 2 (dk_at dksX1_allWhole_4 0 rfl rfl)
theorem dX1_allWhole_95 : decode cX1_allWhole 95 = .ok (.i2l, 1) := dk_133 (dk_at dksX1_allWhole_4 3 rfl rfl)
theorem dX1_allWhole_96 : decode cX1_allWhole 96 = .ok (.lmul, 1) := dk_105 (dk_at dksX1_allWhole_4 4 rfl rfl)
theorem dX1_allWhole_97 : decode cX1_allWhole 97 = .ok (.lstore 4, 2) := dk_55 4 (dk_at dksX1_allWhole_4 5 rfl rfl)
theorem dX1_allWhole_99 : decode cX1_allWhole 99 = .ok (.lload 6, 2) := dk_22 6 (dk_at dksX1_allWhole_4 7 rfl rfl)
theorem dX1_allWhole_101 : decode cX1_allWhole 101 = .ok (.ldc2_w 261, 3) := dk_20 1 5 (dk_at dksX1_allWhole_4 9 rfl rfl)
theorem dX1_allWhole_104 : decode cX1_allWhole 104 = .ok (.lmul, 1) := dk_105 (dk_at dksX1_allWhole_4 12 rfl rfl)
theorem dX1_allWhole_105 : decode cX1_allWhole 105 = .ok (.lstore 6, 2) := dk_55 6 (dk_at dksX1_allWhole_4 13 rfl rfl)
theorem dX1_allWhole_107 : decode cX1_allWhole 107 = .ok (.iinc 9 1, 3) := dk_132 9 1 (dk_at dksX1_allWhole_4 15 rfl rfl)
theorem dX1_allWhole_110 : decode cX1_allWhole 110 = .ok (.goto (-48), 3) := dk_167 255 208 (dk_at dksX1_allWhole_4 18 rfl rfl)
theorem dX1_allWhole_113 : decode cX1_allWhole 113 = .ok (.lload 4, 2) := dk_22 4 (dk_at dksX1_allWhole_4 21 rfl rfl)
theorem dX1_allWhole_115 : decode cX1_allWhole 115 = .ok (.lload 6, 2) := dk_22 6 (dk_at dksX1_allWhole_5 0 rfl rfl)
theorem dX1_allWhole_117 : decode cX1_allWhole 117 = .ok (.iload_n 3, 1) := dk_29 (dk_at dksX1_allWhole_5 2 rfl rfl)
theorem dX1_allWhole_118 : decode cX1_allWhole 118 = .ok (.invokestatic 263, 3) := dk_184 1 7 (dk_at dksX1_allWhole_5 3 rfl rfl)
theorem dX1_allWhole_121 : decode cX1_allWhole 121 = .ok (.lreturn, 1) := dk_173 (dk_at dksX1_allWhole_5 6 rfl rfl)
abbrev cX1_divided : ByteArray := prog_1_method_50_code
def yX1_divided : MethodName := ⟨RX1, "divided", "(III)I"⟩
def dkwX1_divided_3 : List UInt8 := [21, 4, 28, 112, 162, 0, 7, 4, 167, 0, 4, 3, 96, 172]
abbrev dktX1_divided_3 : List UInt8 := dkwX1_divided_3 ++ []
def dkwX1_divided_2 : List UInt8 := [4, 182, 0, 91, 172, 42, 180, 0, 102, 180, 0, 138, 27, 50, 180, 0, 148, 54, 4, 21, 4, 28, 108, 29]
abbrev dktX1_divided_2 : List UInt8 := dkwX1_divided_2 ++ dktX1_divided_3
def dkwX1_divided_1 : List UInt8 := [184, 0, 87, 154, 0, 9, 42, 5, 182, 0, 91, 172, 29, 3, 28, 4, 100, 184, 0, 87, 154, 0, 9, 42]
abbrev dktX1_divided_1 : List UInt8 := dkwX1_divided_1 ++ dktX1_divided_2
def dkwX1_divided_0 : List UInt8 := [42, 182, 0, 77, 42, 27, 182, 0, 134, 154, 0, 9, 42, 4, 182, 0, 91, 172, 28, 4, 16, 9]
abbrev dktX1_divided_0 : List UInt8 := dkwX1_divided_0 ++ dktX1_divided_1
theorem dksX1_divided_0 : cX1_divided.data.toList.drop 0 = dktX1_divided_0 := by decide +kernel
theorem dksX1_divided_1 : cX1_divided.data.toList.drop 22 = dktX1_divided_1 := dk_seg dksX1_divided_0 22 rfl rfl
theorem dksX1_divided_2 : cX1_divided.data.toList.drop 46 = dktX1_divided_2 := dk_seg dksX1_divided_1 24 rfl rfl
theorem dksX1_divided_3 : cX1_divided.data.toList.drop 70 = dktX1_divided_3 := dk_seg dksX1_divided_2 24 rfl rfl
theorem dX1_divided_0 : decode cX1_divided 0 = .ok (.aload_n 0, 1) := dk_42 (dk_at dksX1_divided_0 0 rfl rfl)
theorem dX1_divided_1 : decode cX1_divided 1 = .ok (.invokevirtual 77, 3) := dk_182 0 77 (dk_at dksX1_divided_0 1 rfl rfl)
theorem dX1_divided_4 : decode cX1_divided 4 = .ok (.aload_n 0, 1) := dk_42 (dk_at dksX1_divided_0 4 rfl rfl)
theorem dX1_divided_5 : decode cX1_divided 5 = .ok (.iload_n 1, 1) := dk_27 (dk_at dksX1_divided_0 5 rfl rfl)
theorem dX1_divided_6 : decode cX1_divided 6 = .ok (.invokevirtual 134, 3) := dk_182 0 134 (dk_at dksX1_divided_0 6 rfl rfl)
theorem dX1_divided_9 : decode cX1_divided 9 = .ok (.ifCond .ne 9, 3) := dk_154 0 9 (dk_at dksX1_divided_0 9 rfl rfl)
theorem dX1_divided_12 : decode cX1_divided 12 = .ok (.aload_n 0, 1) := dk_42 (dk_at dksX1_divided_0 12 rfl rfl)
theorem dX1_divided_13 : decode cX1_divided 13 = .ok (.iconst 1, 1) := dk_4 (dk_at dksX1_divided_0 13 rfl rfl)
theorem dX1_divided_14 : decode cX1_divided 14 = .ok (.invokevirtual 91, 3) := dk_182 0 91 (dk_at dksX1_divided_0 14 rfl rfl)
theorem dX1_divided_17 : decode cX1_divided 17 = .ok (.ireturn, 1) := dk_172 (dk_at dksX1_divided_0 17 rfl rfl)
theorem dX1_divided_18 : decode cX1_divided 18 = .ok (.iload_n 2, 1) := dk_28 (dk_at dksX1_divided_0 18 rfl rfl)
theorem dX1_divided_19 : decode cX1_divided 19 = .ok (.iconst 1, 1) := dk_4 (dk_at dksX1_divided_0 19 rfl rfl)
theorem dX1_divided_20 : decode cX1_divided 20 = .ok (.bipush 9, 2) := dk_16 9 (dk_at dksX1_divided_0 20 rfl rfl)
theorem dX1_divided_22 : decode cX1_divided 22 = .ok (.invokestatic 87, 3) := dk_184 0 87 (dk_at dksX1_divided_1 0 rfl rfl)
theorem dX1_divided_25 : decode cX1_divided 25 = .ok (.ifCond .ne 9, 3) := dk_154 0 9 (dk_at dksX1_divided_1 3 rfl rfl)
theorem dX1_divided_28 : decode cX1_divided 28 = .ok (.aload_n 0, 1) := dk_42 (dk_at dksX1_divided_1 6 rfl rfl)
theorem dX1_divided_29 : decode cX1_divided 29 = .ok (.iconst 2, 1) := dk_5 (dk_at dksX1_divided_1 7 rfl rfl)
theorem dX1_divided_30 : decode cX1_divided 30 = .ok (.invokevirtual 91, 3) := dk_182 0 91 (dk_at dksX1_divided_1 8 rfl rfl)
theorem dX1_divided_33 : decode cX1_divided 33 = .ok (.ireturn, 1) := dk_172 (dk_at dksX1_divided_1 11 rfl rfl)
theorem dX1_divided_34 : decode cX1_divided 34 = .ok (.iload_n 3, 1) := dk_29 (dk_at dksX1_divided_1 12 rfl rfl)
theorem dX1_divided_35 : decode cX1_divided 35 = .ok (.iconst 0, 1) := dk_3 (dk_at dksX1_divided_1 13 rfl rfl)
theorem dX1_divided_36 : decode cX1_divided 36 = .ok (.iload_n 2, 1) := dk_28 (dk_at dksX1_divided_1 14 rfl rfl)
theorem dX1_divided_37 : decode cX1_divided 37 = .ok (.iconst 1, 1) := dk_4 (dk_at dksX1_divided_1 15 rfl rfl)
theorem dX1_divided_38 : decode cX1_divided 38 = .ok (.isub, 1) := dk_100 (dk_at dksX1_divided_1 16 rfl rfl)
theorem dX1_divided_39 : decode cX1_divided 39 = .ok (.invokestatic 87, 3) := dk_184 0 87 (dk_at dksX1_divided_1 17 rfl rfl)
theorem dX1_divided_42 : decode cX1_divided 42 = .ok (.ifCond .ne 9, 3) := dk_154 0 9 (dk_at dksX1_divided_1 20 rfl rfl)
theorem dX1_divided_45 : decode cX1_divided 45 = .ok (.aload_n 0, 1) := dk_42 (dk_at dksX1_divided_1 23 rfl rfl)
theorem dX1_divided_46 : decode cX1_divided 46 = .ok (.iconst 1, 1) := dk_4 (dk_at dksX1_divided_2 0 rfl rfl)
theorem dX1_divided_47 : decode cX1_divided 47 = .ok (.invokevirtual 91, 3) := dk_182 0 91 (dk_at dksX1_divided_2 1 rfl rfl)
theorem dX1_divided_50 : decode cX1_divided 50 = .ok (.ireturn, 1) := dk_172 (dk_at dksX1_divided_2 4 rfl rfl)
theorem dX1_divided_51 : decode cX1_divided 51 = .ok (.aload_n 0, 1) := dk_42 (dk_at dksX1_divided_2 5 rfl rfl)
theorem dX1_divided_52 : decode cX1_divided 52 = .ok (.getfield 102, 3) := dk_180 0 102 (dk_at dksX1_divided_2 6 rfl rfl)
theorem dX1_divided_55 : decode cX1_divided 55 = .ok (.getfield 138, 3) := dk_180 0 138 (dk_at dksX1_divided_2 9 rfl rfl)
theorem dX1_divided_58 : decode cX1_divided 58 = .ok (.iload_n 1, 1) := dk_27 (dk_at dksX1_divided_2 12 rfl rfl)
theorem dX1_divided_59 : decode cX1_divided 59 = .ok (.aaload, 1) := dk_50 (dk_at dksX1_divided_2 13 rfl rfl)
theorem dX1_divided_60 : decode cX1_divided 60 = .ok (.getfield 148, 3) := dk_180 0 148 (dk_at dksX1_divided_2 14 rfl rfl)
theorem dX1_divided_63 : decode cX1_divided 63 = .ok (.istore 4, 2) := dk_54 4 (dk_at dksX1_divided_2 17 rfl rfl)
theorem dX1_divided_65 : decode cX1_divided 65 = .ok (.iload 4, 2) := dk_21 4 (dk_at dksX1_divided_2 19 rfl rfl)
theorem dX1_divided_67 : decode cX1_divided 67 = .ok (.iload_n 2, 1) := dk_28 (dk_at dksX1_divided_2 21 rfl rfl)
theorem dX1_divided_68 : decode cX1_divided 68 = .ok (.idiv, 1) := dk_108 (dk_at dksX1_divided_2 22 rfl rfl)
theorem dX1_divided_69 : decode cX1_divided 69 = .ok (.iload_n 3, 1) := dk_29 (dk_at dksX1_divided_2 23 rfl rfl)
theorem dX1_divided_70 : decode cX1_divided 70 = .ok (.iload 4, 2) := dk_21 4 (dk_at dksX1_divided_3 0 rfl rfl)
theorem dX1_divided_72 : decode cX1_divided 72 = .ok (.iload_n 2, 1) := dk_28 (dk_at dksX1_divided_3 2 rfl rfl)
theorem dX1_divided_73 : decode cX1_divided 73 = .ok (.irem, 1) := dk_112 (dk_at dksX1_divided_3 3 rfl rfl)
theorem dX1_divided_74 : decode cX1_divided 74 = .ok (.if_icmp .ge 7, 3) := dk_162 0 7 (dk_at dksX1_divided_3 4 rfl rfl)
theorem dX1_divided_77 : decode cX1_divided 77 = .ok (.iconst 1, 1) := dk_4 (dk_at dksX1_divided_3 7 rfl rfl)
theorem dX1_divided_78 : decode cX1_divided 78 = .ok (.goto 4, 3) := dk_167 0 4 (dk_at dksX1_divided_3 8 rfl rfl)
theorem dX1_divided_81 : decode cX1_divided 81 = .ok (.iconst 0, 1) := dk_3 (dk_at dksX1_divided_3 11 rfl rfl)
theorem dX1_divided_82 : decode cX1_divided 82 = .ok (.iadd, 1) := dk_96 (dk_at dksX1_divided_3 12 rfl rfl)
theorem dX1_divided_83 : decode cX1_divided 83 = .ok (.ireturn, 1) := dk_172 (dk_at dksX1_divided_3 13 rfl rfl)
abbrev cX1_heirs : ByteArray := prog_1_method_52_code
def yX1_heirs : MethodName := ⟨RX1, "heirs", "(IIIZ)I"⟩
def dkwX1_heirs_3 : List UInt8 := [167, 0, 4, 5, 181, 0, 74, 16, 156, 172]
abbrev dktX1_heirs_3 : List UInt8 := dkwX1_heirs_3 ++ []
def dkwX1_heirs_2 : List UInt8 := [29, 28, 184, 1, 11, 167, 0, 9, 27, 28, 29, 184, 1, 11, 172, 42, 42, 180, 0, 102, 199, 0, 7, 4]
abbrev dktX1_heirs_2 : List UInt8 := dkwX1_heirs_2 ++ dktX1_heirs_3
def dkwX1_heirs_1 : List UInt8 := [16, 6, 184, 0, 87, 153, 0, 34, 29, 3, 16, 6, 184, 0, 87, 153, 0, 24, 21, 4, 153, 0, 12, 27]
abbrev dktX1_heirs_1 : List UInt8 := dkwX1_heirs_1 ++ dktX1_heirs_2
def dkwX1_heirs_0 : List UInt8 := [42, 182, 0, 77, 42, 180, 0, 102, 198, 0, 54, 27, 3, 16, 99, 184, 0, 87, 153, 0, 44, 28, 3]
abbrev dktX1_heirs_0 : List UInt8 := dkwX1_heirs_0 ++ dktX1_heirs_1
theorem dksX1_heirs_0 : cX1_heirs.data.toList.drop 0 = dktX1_heirs_0 := by decide +kernel
theorem dksX1_heirs_1 : cX1_heirs.data.toList.drop 23 = dktX1_heirs_1 := dk_seg dksX1_heirs_0 23 rfl rfl
theorem dksX1_heirs_2 : cX1_heirs.data.toList.drop 47 = dktX1_heirs_2 := dk_seg dksX1_heirs_1 24 rfl rfl
theorem dksX1_heirs_3 : cX1_heirs.data.toList.drop 71 = dktX1_heirs_3 := dk_seg dksX1_heirs_2 24 rfl rfl
theorem dX1_heirs_0 : decode cX1_heirs 0 = .ok (.aload_n 0, 1) := dk_42 (dk_at dksX1_heirs_0 0 rfl rfl)
theorem dX1_heirs_1 : decode cX1_heirs 1 = .ok (.invokevirtual 77, 3) := dk_182 0 77 (dk_at dksX1_heirs_0 1 rfl rfl)
theorem dX1_heirs_4 : decode cX1_heirs 4 = .ok (.aload_n 0, 1) := dk_42 (dk_at dksX1_heirs_0 4 rfl rfl)
theorem dX1_heirs_5 : decode cX1_heirs 5 = .ok (.getfield 102, 3) := dk_180 0 102 (dk_at dksX1_heirs_0 5 rfl rfl)
theorem dX1_heirs_8 : decode cX1_heirs 8 = .ok (.ifnull 54, 3) := dk_198 0 54 (dk_at dksX1_heirs_0 8 rfl rfl)
theorem dX1_heirs_11 : decode cX1_heirs 11 = .ok (.iload_n 1, 1) := dk_27 (dk_at dksX1_heirs_0 11 rfl rfl)
theorem dX1_heirs_12 : decode cX1_heirs 12 = .ok (.iconst 0, 1) := dk_3 (dk_at dksX1_heirs_0 12 rfl rfl)
theorem dX1_heirs_13 : decode cX1_heirs 13 = .ok (.bipush 99, 2) := dk_16 99 (dk_at dksX1_heirs_0 13 rfl rfl)
theorem dX1_heirs_15 : decode cX1_heirs 15 = .ok (.invokestatic 87, 3) := dk_184 0 87 (dk_at dksX1_heirs_0 15 rfl rfl)
theorem dX1_heirs_18 : decode cX1_heirs 18 = .ok (.ifCond .eq 44, 3) := dk_153 0 44 (dk_at dksX1_heirs_0 18 rfl rfl)
theorem dX1_heirs_21 : decode cX1_heirs 21 = .ok (.iload_n 2, 1) := dk_28 (dk_at dksX1_heirs_0 21 rfl rfl)
theorem dX1_heirs_22 : decode cX1_heirs 22 = .ok (.iconst 0, 1) := dk_3 (dk_at dksX1_heirs_0 22 rfl rfl)
theorem dX1_heirs_23 : decode cX1_heirs 23 = .ok (.bipush 6, 2) := dk_16 6 (dk_at dksX1_heirs_1 0 rfl rfl)
theorem dX1_heirs_25 : decode cX1_heirs 25 = .ok (.invokestatic 87, 3) := dk_184 0 87 (dk_at dksX1_heirs_1 2 rfl rfl)
theorem dX1_heirs_28 : decode cX1_heirs 28 = .ok (.ifCond .eq 34, 3) := dk_153 0 34 (dk_at dksX1_heirs_1 5 rfl rfl)
theorem dX1_heirs_31 : decode cX1_heirs 31 = .ok (.iload_n 3, 1) := dk_29 (dk_at dksX1_heirs_1 8 rfl rfl)
theorem dX1_heirs_32 : decode cX1_heirs 32 = .ok (.iconst 0, 1) := dk_3 (dk_at dksX1_heirs_1 9 rfl rfl)
theorem dX1_heirs_33 : decode cX1_heirs 33 = .ok (.bipush 6, 2) := dk_16 6 (dk_at dksX1_heirs_1 10 rfl rfl)
theorem dX1_heirs_35 : decode cX1_heirs 35 = .ok (.invokestatic 87, 3) := dk_184 0 87 (dk_at dksX1_heirs_1 12 rfl rfl)
theorem dX1_heirs_38 : decode cX1_heirs 38 = .ok (.ifCond .eq 24, 3) := dk_153 0 24 (dk_at dksX1_heirs_1 15 rfl rfl)
theorem dX1_heirs_41 : decode cX1_heirs 41 = .ok (.iload 4, 2) := dk_21 4 (dk_at dksX1_heirs_1 18 rfl rfl)
theorem dX1_heirs_43 : decode cX1_heirs 43 = .ok (.ifCond .eq 12, 3) := dk_153 0 12 (dk_at dksX1_heirs_1 20 rfl rfl)
theorem dX1_heirs_46 : decode cX1_heirs 46 = .ok (.iload_n 1, 1) := dk_27 (dk_at dksX1_heirs_1 23 rfl rfl)
theorem dX1_heirs_47 : decode cX1_heirs 47 = .ok (.iload_n 3, 1) := dk_29 (dk_at dksX1_heirs_2 0 rfl rfl)
theorem dX1_heirs_48 : decode cX1_heirs 48 = .ok (.iload_n 2, 1) := dk_28 (dk_at dksX1_heirs_2 1 rfl rfl)
theorem dX1_heirs_49 : decode cX1_heirs 49 = .ok (.invokestatic 267, 3) := dk_184 1 11 (dk_at dksX1_heirs_2 2 rfl rfl)
theorem dX1_heirs_52 : decode cX1_heirs 52 = .ok (.goto 9, 3) := dk_167 0 9 (dk_at dksX1_heirs_2 5 rfl rfl)
theorem dX1_heirs_55 : decode cX1_heirs 55 = .ok (.iload_n 1, 1) := dk_27 (dk_at dksX1_heirs_2 8 rfl rfl)
theorem dX1_heirs_56 : decode cX1_heirs 56 = .ok (.iload_n 2, 1) := dk_28 (dk_at dksX1_heirs_2 9 rfl rfl)
theorem dX1_heirs_57 : decode cX1_heirs 57 = .ok (.iload_n 3, 1) := dk_29 (dk_at dksX1_heirs_2 10 rfl rfl)
theorem dX1_heirs_58 : decode cX1_heirs 58 = .ok (.invokestatic 267, 3) := dk_184 1 11 (dk_at dksX1_heirs_2 11 rfl rfl)
theorem dX1_heirs_61 : decode cX1_heirs 61 = .ok (.ireturn, 1) := dk_172 (dk_at dksX1_heirs_2 14 rfl rfl)
theorem dX1_heirs_62 : decode cX1_heirs 62 = .ok (.aload_n 0, 1) := dk_42 (dk_at dksX1_heirs_2 15 rfl rfl)
theorem dX1_heirs_63 : decode cX1_heirs 63 = .ok (.aload_n 0, 1) := dk_42 (dk_at dksX1_heirs_2 16 rfl rfl)
theorem dX1_heirs_64 : decode cX1_heirs 64 = .ok (.getfield 102, 3) := dk_180 0 102 (dk_at dksX1_heirs_2 17 rfl rfl)
theorem dX1_heirs_67 : decode cX1_heirs 67 = .ok (.ifnonnull 7, 3) := dk_199 0 7 (dk_at dksX1_heirs_2 20 rfl rfl)
theorem dX1_heirs_70 : decode cX1_heirs 70 = .ok (.iconst 1, 1) := dk_4 (dk_at dksX1_heirs_2 23 rfl rfl)
theorem dX1_heirs_71 : decode cX1_heirs 71 = .ok (.goto 4, 3) := dk_167 0 4 (dk_at dksX1_heirs_3 0 rfl rfl)
theorem dX1_heirs_74 : decode cX1_heirs 74 = .ok (.iconst 2, 1) := dk_5 (dk_at dksX1_heirs_3 3 rfl rfl)
theorem dX1_heirs_75 : decode cX1_heirs 75 = .ok (.putfield 74, 3) := dk_181 0 74 (dk_at dksX1_heirs_3 4 rfl rfl)
theorem dX1_heirs_78 : decode cX1_heirs 78 = .ok (.bipush (-100), 2) := dk_16 156 (dk_at dksX1_heirs_3 7 rfl rfl)
theorem dX1_heirs_80 : decode cX1_heirs 80 = .ok (.ireturn, 1) := dk_172 (dk_at dksX1_heirs_3 9 rfl rfl)
abbrev cX1_heirsOf : ByteArray := prog_1_method_51_code
def yX1_heirsOf : MethodName := ⟨RX1, "heirsOf", "(III)I"⟩
def dkwX1_heirsOf_1 : List UInt8 := [100, 172]
abbrev dktX1_heirsOf_1 : List UInt8 := dkwX1_heirsOf_1 ++ []
def dkwX1_heirsOf_0 : List UInt8 := [27, 28, 164, 0, 7, 26, 167, 0, 15, 27, 28, 160, 0, 9, 26, 5, 108, 167, 0, 4, 3, 5, 27, 104]
abbrev dktX1_heirsOf_0 : List UInt8 := dkwX1_heirsOf_0 ++ dktX1_heirsOf_1
theorem dksX1_heirsOf_0 : cX1_heirsOf.data.toList.drop 0 = dktX1_heirsOf_0 := by decide +kernel
theorem dksX1_heirsOf_1 : cX1_heirsOf.data.toList.drop 24 = dktX1_heirsOf_1 := dk_seg dksX1_heirsOf_0 24 rfl rfl
theorem dX1_heirsOf_0 : decode cX1_heirsOf 0 = .ok (.iload_n 1, 1) := dk_27 (dk_at dksX1_heirsOf_0 0 rfl rfl)
theorem dX1_heirsOf_1 : decode cX1_heirsOf 1 = .ok (.iload_n 2, 1) := dk_28 (dk_at dksX1_heirsOf_0 1 rfl rfl)
theorem dX1_heirsOf_2 : decode cX1_heirsOf 2 = .ok (.if_icmp .le 7, 3) := dk_164 0 7 (dk_at dksX1_heirsOf_0 2 rfl rfl)
theorem dX1_heirsOf_5 : decode cX1_heirsOf 5 = .ok (.iload_n 0, 1) := dk_26 (dk_at dksX1_heirsOf_0 5 rfl rfl)
theorem dX1_heirsOf_6 : decode cX1_heirsOf 6 = .ok (.goto 15, 3) := dk_167 0 15 (dk_at dksX1_heirsOf_0 6 rfl rfl)
theorem dX1_heirsOf_9 : decode cX1_heirsOf 9 = .ok (.iload_n 1, 1) := dk_27 (dk_at dksX1_heirsOf_0 9 rfl rfl)
theorem dX1_heirsOf_10 : decode cX1_heirsOf 10 = .ok (.iload_n 2, 1) := dk_28 (dk_at dksX1_heirsOf_0 10 rfl rfl)
theorem dX1_heirsOf_11 : decode cX1_heirsOf 11 = .ok (.if_icmp .ne 9, 3) := dk_160 0 9 (dk_at dksX1_heirsOf_0 11 rfl rfl)
theorem dX1_heirsOf_14 : decode cX1_heirsOf 14 = .ok (.iload_n 0, 1) := dk_26 (dk_at dksX1_heirsOf_0 14 rfl rfl)
theorem dX1_heirsOf_15 : decode cX1_heirsOf 15 = .ok (.iconst 2, 1) := dk_5 (dk_at dksX1_heirsOf_0 15 rfl rfl)
theorem dX1_heirsOf_16 : decode cX1_heirsOf 16 = .ok (.idiv, 1) := dk_108 (dk_at dksX1_heirsOf_0 16 rfl rfl)
theorem dX1_heirsOf_17 : decode cX1_heirsOf 17 = .ok (.goto 4, 3) := dk_167 0 4 (dk_at dksX1_heirsOf_0 17 rfl rfl)
theorem dX1_heirsOf_20 : decode cX1_heirsOf 20 = .ok (.iconst 0, 1) := dk_3 (dk_at dksX1_heirsOf_0 20 rfl rfl)
theorem dX1_heirsOf_21 : decode cX1_heirsOf 21 = .ok (.iconst 2, 1) := dk_5 (dk_at dksX1_heirsOf_0 21 rfl rfl)
theorem dX1_heirsOf_22 : decode cX1_heirsOf 22 = .ok (.iload_n 1, 1) := dk_27 (dk_at dksX1_heirsOf_0 22 rfl rfl)
theorem dX1_heirsOf_23 : decode cX1_heirsOf 23 = .ok (.imul, 1) := dk_104 (dk_at dksX1_heirsOf_0 23 rfl rfl)
theorem dX1_heirsOf_24 : decode cX1_heirsOf 24 = .ok (.isub, 1) := dk_100 (dk_at dksX1_heirsOf_1 0 rfl rfl)
theorem dX1_heirsOf_25 : decode cX1_heirsOf 25 = .ok (.ireturn, 1) := dk_172 (dk_at dksX1_heirsOf_1 1 rfl rfl)
abbrev cX1_rests : ByteArray := prog_1_method_56_code
def yX1_rests : MethodName := ⟨RX1, "rests", "(I)I"⟩
def dkwX1_rests_1 : List UInt8 := [182, 1, 24, 172]
abbrev dktX1_rests_1 : List UInt8 := dkwX1_rests_1 ++ []
def dkwX1_rests_0 : List UInt8 := [42, 182, 0, 77, 42, 27, 182, 1, 21, 61, 28, 153, 0, 11, 42, 28, 182, 0, 91, 167, 0, 8, 42, 27]
abbrev dktX1_rests_0 : List UInt8 := dkwX1_rests_0 ++ dktX1_rests_1
theorem dksX1_rests_0 : cX1_rests.data.toList.drop 0 = dktX1_rests_0 := by decide +kernel
theorem dksX1_rests_1 : cX1_rests.data.toList.drop 24 = dktX1_rests_1 := dk_seg dksX1_rests_0 24 rfl rfl
theorem dX1_rests_0 : decode cX1_rests 0 = .ok (.aload_n 0, 1) := dk_42 (dk_at dksX1_rests_0 0 rfl rfl)
theorem dX1_rests_1 : decode cX1_rests 1 = .ok (.invokevirtual 77, 3) := dk_182 0 77 (dk_at dksX1_rests_0 1 rfl rfl)
theorem dX1_rests_4 : decode cX1_rests 4 = .ok (.aload_n 0, 1) := dk_42 (dk_at dksX1_rests_0 4 rfl rfl)
theorem dX1_rests_5 : decode cX1_rests 5 = .ok (.iload_n 1, 1) := dk_27 (dk_at dksX1_rests_0 5 rfl rfl)
theorem dX1_rests_6 : decode cX1_rests 6 = .ok (.invokevirtual 277, 3) := dk_182 1 21 (dk_at dksX1_rests_0 6 rfl rfl)
theorem dX1_rests_9 : decode cX1_rests 9 = .ok (.istore_n 2, 1) := dk_61 (dk_at dksX1_rests_0 9 rfl rfl)
theorem dX1_rests_10 : decode cX1_rests 10 = .ok (.iload_n 2, 1) := dk_28 (dk_at dksX1_rests_0 10 rfl rfl)
theorem dX1_rests_11 : decode cX1_rests 11 = .ok (.ifCond .eq 11, 3) := dk_153 0 11 (dk_at dksX1_rests_0 11 rfl rfl)
theorem dX1_rests_14 : decode cX1_rests 14 = .ok (.aload_n 0, 1) := dk_42 (dk_at dksX1_rests_0 14 rfl rfl)
theorem dX1_rests_15 : decode cX1_rests 15 = .ok (.iload_n 2, 1) := dk_28 (dk_at dksX1_rests_0 15 rfl rfl)
theorem dX1_rests_16 : decode cX1_rests 16 = .ok (.invokevirtual 91, 3) := dk_182 0 91 (dk_at dksX1_rests_0 16 rfl rfl)
theorem dX1_rests_19 : decode cX1_rests 19 = .ok (.goto 8, 3) := dk_167 0 8 (dk_at dksX1_rests_0 19 rfl rfl)
theorem dX1_rests_22 : decode cX1_rests 22 = .ok (.aload_n 0, 1) := dk_42 (dk_at dksX1_rests_0 22 rfl rfl)
theorem dX1_rests_23 : decode cX1_rests 23 = .ok (.iload_n 1, 1) := dk_27 (dk_at dksX1_rests_0 23 rfl rfl)
theorem dX1_rests_24 : decode cX1_rests 24 = .ok (.invokevirtual 280, 3) := dk_182 1 24 (dk_at dksX1_rests_1 0 rfl rfl)
theorem dX1_rests_27 : decode cX1_rests 27 = .ok (.ireturn, 1) := dk_172 (dk_at dksX1_rests_1 3 rfl rfl)
abbrev cX1_landsWhy : ByteArray := prog_1_method_55_code
def yX1_landsWhy : MethodName := ⟨RX1, "landsWhy", "(I)I"⟩
def dkwX1_landsWhy_1 : List UInt8 := [167, 0, 4, 5, 172]
abbrev dktX1_landsWhy_1 : List UInt8 := dkwX1_landsWhy_1 ++ []
def dkwX1_landsWhy_0 : List UInt8 := [42, 180, 0, 102, 199, 0, 7, 4, 167, 0, 18, 27, 3, 16, 99, 184, 0, 87, 153, 0, 7, 3]
abbrev dktX1_landsWhy_0 : List UInt8 := dkwX1_landsWhy_0 ++ dktX1_landsWhy_1
theorem dksX1_landsWhy_0 : cX1_landsWhy.data.toList.drop 0 = dktX1_landsWhy_0 := by decide +kernel
theorem dksX1_landsWhy_1 : cX1_landsWhy.data.toList.drop 22 = dktX1_landsWhy_1 := dk_seg dksX1_landsWhy_0 22 rfl rfl
theorem dX1_landsWhy_0 : decode cX1_landsWhy 0 = .ok (.aload_n 0, 1) := dk_42 (dk_at dksX1_landsWhy_0 0 rfl rfl)
theorem dX1_landsWhy_1 : decode cX1_landsWhy 1 = .ok (.getfield 102, 3) := dk_180 0 102 (dk_at dksX1_landsWhy_0 1 rfl rfl)
theorem dX1_landsWhy_4 : decode cX1_landsWhy 4 = .ok (.ifnonnull 7, 3) := dk_199 0 7 (dk_at dksX1_landsWhy_0 4 rfl rfl)
theorem dX1_landsWhy_7 : decode cX1_landsWhy 7 = .ok (.iconst 1, 1) := dk_4 (dk_at dksX1_landsWhy_0 7 rfl rfl)
theorem dX1_landsWhy_8 : decode cX1_landsWhy 8 = .ok (.goto 18, 3) := dk_167 0 18 (dk_at dksX1_landsWhy_0 8 rfl rfl)
theorem dX1_landsWhy_11 : decode cX1_landsWhy 11 = .ok (.iload_n 1, 1) := dk_27 (dk_at dksX1_landsWhy_0 11 rfl rfl)
theorem dX1_landsWhy_12 : decode cX1_landsWhy 12 = .ok (.iconst 0, 1) := dk_3 (dk_at dksX1_landsWhy_0 12 rfl rfl)
theorem dX1_landsWhy_13 : decode cX1_landsWhy 13 = .ok (.bipush 99, 2) := dk_16 99 (dk_at dksX1_landsWhy_0 13 rfl rfl)
theorem dX1_landsWhy_15 : decode cX1_landsWhy 15 = .ok (.invokestatic 87, 3) := dk_184 0 87 (dk_at dksX1_landsWhy_0 15 rfl rfl)
theorem dX1_landsWhy_18 : decode cX1_landsWhy 18 = .ok (.ifCond .eq 7, 3) := dk_153 0 7 (dk_at dksX1_landsWhy_0 18 rfl rfl)
theorem dX1_landsWhy_21 : decode cX1_landsWhy 21 = .ok (.iconst 0, 1) := dk_3 (dk_at dksX1_landsWhy_0 21 rfl rfl)
theorem dX1_landsWhy_22 : decode cX1_landsWhy 22 = .ok (.goto 4, 3) := dk_167 0 4 (dk_at dksX1_landsWhy_1 0 rfl rfl)
theorem dX1_landsWhy_25 : decode cX1_landsWhy 25 = .ok (.iconst 2, 1) := dk_5 (dk_at dksX1_landsWhy_1 3 rfl rfl)
theorem dX1_landsWhy_26 : decode cX1_landsWhy 26 = .ok (.ireturn, 1) := dk_172 (dk_at dksX1_landsWhy_1 4 rfl rfl)
abbrev cX1_seekRests : ByteArray := prog_1_method_54_code
def yX1_seekRests : MethodName := ⟨RX1, "seekRests", "(I)I"⟩
def dkwX1_seekRests_2 : List UInt8 := [104, 21, 4, 96, 181, 1, 15, 132, 2, 1, 132, 4, 1, 167, 255, 215, 132, 3, 1, 167, 255, 200, 28, 172]
abbrev dktX1_seekRests_2 : List UInt8 := dkwX1_seekRests_2 ++ []
def dkwX1_seekRests_1 : List UInt8 := [163, 0, 40, 27, 29, 21, 4, 184, 1, 18, 154, 0, 6, 167, 0, 21, 28, 154, 0, 14, 42, 16, 10, 29]
abbrev dktX1_seekRests_1 : List UInt8 := dkwX1_seekRests_1 ++ dktX1_seekRests_2
def dkwX1_seekRests_0 : List UInt8 := [3, 61, 42, 16, 254, 181, 1, 15, 3, 62, 29, 16, 6, 163, 0, 56, 3, 54, 4, 21, 4, 16, 6]
abbrev dktX1_seekRests_0 : List UInt8 := dkwX1_seekRests_0 ++ dktX1_seekRests_1
theorem dksX1_seekRests_0 : cX1_seekRests.data.toList.drop 0 = dktX1_seekRests_0 := by decide +kernel
theorem dksX1_seekRests_1 : cX1_seekRests.data.toList.drop 23 = dktX1_seekRests_1 := dk_seg dksX1_seekRests_0 23 rfl rfl
theorem dksX1_seekRests_2 : cX1_seekRests.data.toList.drop 47 = dktX1_seekRests_2 := dk_seg dksX1_seekRests_1 24 rfl rfl
theorem dX1_seekRests_0 : decode cX1_seekRests 0 = .ok (.iconst 0, 1) := dk_3 (dk_at dksX1_seekRests_0 0 rfl rfl)
theorem dX1_seekRests_1 : decode cX1_seekRests 1 = .ok (.istore_n 2, 1) := dk_61 (dk_at dksX1_seekRests_0 1 rfl rfl)
theorem dX1_seekRests_2 : decode cX1_seekRests 2 = .ok (.aload_n 0, 1) := dk_42 (dk_at dksX1_seekRests_0 2 rfl rfl)
theorem dX1_seekRests_3 : decode cX1_seekRests 3 = .ok (.bipush (-2), 2) := dk_16 254 (dk_at dksX1_seekRests_0 3 rfl rfl)
theorem dX1_seekRests_5 : decode cX1_seekRests 5 = .ok (.putfield 271, 3) := dk_181 1 15 (dk_at dksX1_seekRests_0 5 rfl rfl)
theorem dX1_seekRests_8 : decode cX1_seekRests 8 = .ok (.iconst 0, 1) := dk_3 (dk_at dksX1_seekRests_0 8 rfl rfl)
theorem dX1_seekRests_9 : decode cX1_seekRests 9 = .ok (.istore_n 3, 1) := dk_62 (dk_at dksX1_seekRests_0 9 rfl rfl)
theorem dX1_seekRests_10 : decode cX1_seekRests 10 = .ok (.iload_n 3, 1) := dk_29 (dk_at dksX1_seekRests_0 10 rfl rfl)
theorem dX1_seekRests_11 : decode cX1_seekRests 11 = .ok (.bipush 6, 2) := dk_16 6 (dk_at dksX1_seekRests_0 11 rfl rfl)
theorem dX1_seekRests_13 : decode cX1_seekRests 13 = .ok (.if_icmp .gt 56, 3) := dk_163 0 56 (dk_at dksX1_seekRests_0 13 rfl rfl)
theorem dX1_seekRests_16 : decode cX1_seekRests 16 = .ok (.iconst 0, 1) := dk_3 (dk_at dksX1_seekRests_0 16 rfl rfl)
theorem dX1_seekRests_17 : decode cX1_seekRests 17 = .ok (.istore 4, 2) := dk_54 4 (dk_at dksX1_seekRests_0 17 rfl rfl)
theorem dX1_seekRests_19 : decode cX1_seekRests 19 = .ok (.iload 4, 2) := dk_21 4 (dk_at dksX1_seekRests_0 19 rfl rfl)
theorem dX1_seekRests_21 : decode cX1_seekRests 21 = .ok (.bipush 6, 2) := dk_16 6 (dk_at dksX1_seekRests_0 21 rfl rfl)
theorem dX1_seekRests_23 : decode cX1_seekRests 23 = .ok (.if_icmp .gt 40, 3) := dk_163 0 40 (dk_at dksX1_seekRests_1 0 rfl rfl)
theorem dX1_seekRests_26 : decode cX1_seekRests 26 = .ok (.iload_n 1, 1) := dk_27 (dk_at dksX1_seekRests_1 3 rfl rfl)
theorem dX1_seekRests_27 : decode cX1_seekRests 27 = .ok (.iload_n 3, 1) := dk_29 (dk_at dksX1_seekRests_1 4 rfl rfl)
theorem dX1_seekRests_28 : decode cX1_seekRests 28 = .ok (.iload 4, 2) := dk_21 4 (dk_at dksX1_seekRests_1 5 rfl rfl)
theorem dX1_seekRests_30 : decode cX1_seekRests 30 = .ok (.invokestatic 274, 3) := dk_184 1 18 (dk_at dksX1_seekRests_1 7 rfl rfl)
theorem dX1_seekRests_33 : decode cX1_seekRests 33 = .ok (.ifCond .ne 6, 3) := dk_154 0 6 (dk_at dksX1_seekRests_1 10 rfl rfl)
theorem dX1_seekRests_36 : decode cX1_seekRests 36 = .ok (.goto 21, 3) := dk_167 0 21 (dk_at dksX1_seekRests_1 13 rfl rfl)
theorem dX1_seekRests_39 : decode cX1_seekRests 39 = .ok (.iload_n 2, 1) := dk_28 (dk_at dksX1_seekRests_1 16 rfl rfl)
theorem dX1_seekRests_40 : decode cX1_seekRests 40 = .ok (.ifCond .ne 14, 3) := dk_154 0 14 (dk_at dksX1_seekRests_1 17 rfl rfl)
theorem dX1_seekRests_43 : decode cX1_seekRests 43 = .ok (.aload_n 0, 1) := dk_42 (dk_at dksX1_seekRests_1 20 rfl rfl)
theorem dX1_seekRests_44 : decode cX1_seekRests 44 = .ok (.bipush 10, 2) := dk_16 10 (dk_at dksX1_seekRests_1 21 rfl rfl)
theorem dX1_seekRests_46 : decode cX1_seekRests 46 = .ok (.iload_n 3, 1) := dk_29 (dk_at dksX1_seekRests_1 23 rfl rfl)
theorem dX1_seekRests_47 : decode cX1_seekRests 47 = .ok (.imul, 1) := dk_104 (dk_at dksX1_seekRests_2 0 rfl rfl)
theorem dX1_seekRests_48 : decode cX1_seekRests 48 = .ok (.iload 4, 2) := dk_21 4 (dk_at dksX1_seekRests_2 1 rfl rfl)
theorem dX1_seekRests_50 : decode cX1_seekRests 50 = .ok (.iadd, 1) := dk_96 (dk_at dksX1_seekRests_2 3 rfl rfl)
theorem dX1_seekRests_51 : decode cX1_seekRests 51 = .ok (.putfield 271, 3) := dk_181 1 15 (dk_at dksX1_seekRests_2 4 rfl rfl)
theorem dX1_seekRests_54 : decode cX1_seekRests 54 = .ok (.iinc 2 1, 3) := dk_132 2 1 (dk_at dksX1_seekRests_2 7 rfl rfl)
theorem dX1_seekRests_57 : decode cX1_seekRests 57 = .ok (.iinc 4 1, 3) := dk_132 4 1 (dk_at dksX1_seekRests_2 10 rfl rfl)
theorem dX1_seekRests_60 : decode cX1_seekRests 60 = .ok (.goto (-41), 3) := dk_167 255 215 (dk_at dksX1_seekRests_2 13 rfl rfl)
theorem dX1_seekRests_63 : decode cX1_seekRests 63 = .ok (.iinc 3 1, 3) := dk_132 3 1 (dk_at dksX1_seekRests_2 16 rfl rfl)
theorem dX1_seekRests_66 : decode cX1_seekRests 66 = .ok (.goto (-56), 3) := dk_167 255 200 (dk_at dksX1_seekRests_2 19 rfl rfl)
theorem dX1_seekRests_69 : decode cX1_seekRests 69 = .ok (.iload_n 2, 1) := dk_28 (dk_at dksX1_seekRests_2 22 rfl rfl)
theorem dX1_seekRests_70 : decode cX1_seekRests 70 = .ok (.ireturn, 1) := dk_172 (dk_at dksX1_seekRests_2 23 rfl rfl)
abbrev cX1_isRest : ByteArray := prog_1_method_53_code
def yX1_isRest : MethodName := ⟨RX1, "isRest", "(III)Z"⟩
def dkwX1_isRest_2 : List UInt8 := [4, 167, 0, 4, 3, 62, 132, 4, 1, 167, 255, 204, 29, 172]
abbrev dktX1_isRest_2 : List UInt8 := dkwX1_isRest_2 ++ []
def dkwX1_isRest_1 : List UInt8 := [27, 28, 184, 1, 11, 163, 0, 23, 26, 21, 4, 27, 184, 1, 11, 26, 28, 27, 184, 1, 11, 163, 0, 7]
abbrev dktX1_isRest_1 : List UInt8 := dkwX1_isRest_1 ++ dktX1_isRest_2
def dkwX1_isRest_0 : List UInt8 := [4, 62, 3, 54, 4, 21, 4, 16, 6, 163, 0, 51, 29, 153, 0, 39, 26, 21, 4, 28, 184, 1, 11, 26]
abbrev dktX1_isRest_0 : List UInt8 := dkwX1_isRest_0 ++ dktX1_isRest_1
theorem dksX1_isRest_0 : cX1_isRest.data.toList.drop 0 = dktX1_isRest_0 := by decide +kernel
theorem dksX1_isRest_1 : cX1_isRest.data.toList.drop 24 = dktX1_isRest_1 := dk_seg dksX1_isRest_0 24 rfl rfl
theorem dksX1_isRest_2 : cX1_isRest.data.toList.drop 48 = dktX1_isRest_2 := dk_seg dksX1_isRest_1 24 rfl rfl
theorem dX1_isRest_0 : decode cX1_isRest 0 = .ok (.iconst 1, 1) := dk_4 (dk_at dksX1_isRest_0 0 rfl rfl)
theorem dX1_isRest_1 : decode cX1_isRest 1 = .ok (.istore_n 3, 1) := dk_62 (dk_at dksX1_isRest_0 1 rfl rfl)
theorem dX1_isRest_2 : decode cX1_isRest 2 = .ok (.iconst 0, 1) := dk_3 (dk_at dksX1_isRest_0 2 rfl rfl)
theorem dX1_isRest_3 : decode cX1_isRest 3 = .ok (.istore 4, 2) := dk_54 4 (dk_at dksX1_isRest_0 3 rfl rfl)
theorem dX1_isRest_5 : decode cX1_isRest 5 = .ok (.iload 4, 2) := dk_21 4 (dk_at dksX1_isRest_0 5 rfl rfl)
theorem dX1_isRest_7 : decode cX1_isRest 7 = .ok (.bipush 6, 2) := dk_16 6 (dk_at dksX1_isRest_0 7 rfl rfl)
theorem dX1_isRest_9 : decode cX1_isRest 9 = .ok (.if_icmp .gt 51, 3) := dk_163 0 51 (dk_at dksX1_isRest_0 9 rfl rfl)
theorem dX1_isRest_12 : decode cX1_isRest 12 = .ok (.iload_n 3, 1) := dk_29 (dk_at dksX1_isRest_0 12 rfl rfl)
theorem dX1_isRest_13 : decode cX1_isRest 13 = .ok (.ifCond .eq 39, 3) := dk_153 0 39 (dk_at dksX1_isRest_0 13 rfl rfl)
theorem dX1_isRest_16 : decode cX1_isRest 16 = .ok (.iload_n 0, 1) := dk_26 (dk_at dksX1_isRest_0 16 rfl rfl)
theorem dX1_isRest_17 : decode cX1_isRest 17 = .ok (.iload 4, 2) := dk_21 4 (dk_at dksX1_isRest_0 17 rfl rfl)
theorem dX1_isRest_19 : decode cX1_isRest 19 = .ok (.iload_n 2, 1) := dk_28 (dk_at dksX1_isRest_0 19 rfl rfl)
theorem dX1_isRest_20 : decode cX1_isRest 20 = .ok (.invokestatic 267, 3) := dk_184 1 11 (dk_at dksX1_isRest_0 20 rfl rfl)
theorem dX1_isRest_23 : decode cX1_isRest 23 = .ok (.iload_n 0, 1) := dk_26 (dk_at dksX1_isRest_0 23 rfl rfl)
theorem dX1_isRest_24 : decode cX1_isRest 24 = .ok (.iload_n 1, 1) := dk_27 (dk_at dksX1_isRest_1 0 rfl rfl)
theorem dX1_isRest_25 : decode cX1_isRest 25 = .ok (.iload_n 2, 1) := dk_28 (dk_at dksX1_isRest_1 1 rfl rfl)
theorem dX1_isRest_26 : decode cX1_isRest 26 = .ok (.invokestatic 267, 3) := dk_184 1 11 (dk_at dksX1_isRest_1 2 rfl rfl)
theorem dX1_isRest_29 : decode cX1_isRest 29 = .ok (.if_icmp .gt 23, 3) := dk_163 0 23 (dk_at dksX1_isRest_1 5 rfl rfl)
theorem dX1_isRest_32 : decode cX1_isRest 32 = .ok (.iload_n 0, 1) := dk_26 (dk_at dksX1_isRest_1 8 rfl rfl)
theorem dX1_isRest_33 : decode cX1_isRest 33 = .ok (.iload 4, 2) := dk_21 4 (dk_at dksX1_isRest_1 9 rfl rfl)
theorem dX1_isRest_35 : decode cX1_isRest 35 = .ok (.iload_n 1, 1) := dk_27 (dk_at dksX1_isRest_1 11 rfl rfl)
theorem dX1_isRest_36 : decode cX1_isRest 36 = .ok (.invokestatic 267, 3) := dk_184 1 11 (dk_at dksX1_isRest_1 12 rfl rfl)
theorem dX1_isRest_39 : decode cX1_isRest 39 = .ok (.iload_n 0, 1) := dk_26 (dk_at dksX1_isRest_1 15 rfl rfl)
theorem dX1_isRest_40 : decode cX1_isRest 40 = .ok (.iload_n 2, 1) := dk_28 (dk_at dksX1_isRest_1 16 rfl rfl)
theorem dX1_isRest_41 : decode cX1_isRest 41 = .ok (.iload_n 1, 1) := dk_27 (dk_at dksX1_isRest_1 17 rfl rfl)
theorem dX1_isRest_42 : decode cX1_isRest 42 = .ok (.invokestatic 267, 3) := dk_184 1 11 (dk_at dksX1_isRest_1 18 rfl rfl)
theorem dX1_isRest_45 : decode cX1_isRest 45 = .ok (.if_icmp .gt 7, 3) := dk_163 0 7 (dk_at dksX1_isRest_1 21 rfl rfl)
theorem dX1_isRest_48 : decode cX1_isRest 48 = .ok (.iconst 1, 1) := dk_4 (dk_at dksX1_isRest_2 0 rfl rfl)
theorem dX1_isRest_49 : decode cX1_isRest 49 = .ok (.goto 4, 3) := dk_167 0 4 (dk_at dksX1_isRest_2 1 rfl rfl)
theorem dX1_isRest_52 : decode cX1_isRest 52 = .ok (.iconst 0, 1) := dk_3 (dk_at dksX1_isRest_2 4 rfl rfl)
theorem dX1_isRest_53 : decode cX1_isRest 53 = .ok (.istore_n 3, 1) := dk_62 (dk_at dksX1_isRest_2 5 rfl rfl)
theorem dX1_isRest_54 : decode cX1_isRest 54 = .ok (.iinc 4 1, 3) := dk_132 4 1 (dk_at dksX1_isRest_2 6 rfl rfl)
theorem dX1_isRest_57 : decode cX1_isRest 57 = .ok (.goto (-52), 3) := dk_167 255 204 (dk_at dksX1_isRest_2 9 rfl rfl)
theorem dX1_isRest_60 : decode cX1_isRest 60 = .ok (.iload_n 3, 1) := dk_29 (dk_at dksX1_isRest_2 12 rfl rfl)
theorem dX1_isRest_61 : decode cX1_isRest 61 = .ok (.ireturn, 1) := dk_172 (dk_at dksX1_isRest_2 13 rfl rfl)
abbrev cX1_rest : ByteArray := prog_1_method_57_code
def yX1_rest : MethodName := ⟨RX1, "rest", "(I)I"⟩
def dkwX1_rest_1 : List UInt8 := [182, 1, 24, 87, 42, 180, 1, 15, 172]
abbrev dktX1_rest_1 : List UInt8 := dkwX1_rest_1 ++ []
def dkwX1_rest_0 : List UInt8 := [42, 182, 0, 77, 42, 27, 182, 1, 21, 61, 28, 153, 0, 9, 42, 28, 182, 0, 91, 172, 42, 27]
abbrev dktX1_rest_0 : List UInt8 := dkwX1_rest_0 ++ dktX1_rest_1
theorem dksX1_rest_0 : cX1_rest.data.toList.drop 0 = dktX1_rest_0 := by decide +kernel
theorem dksX1_rest_1 : cX1_rest.data.toList.drop 22 = dktX1_rest_1 := dk_seg dksX1_rest_0 22 rfl rfl
theorem dX1_rest_0 : decode cX1_rest 0 = .ok (.aload_n 0, 1) := dk_42 (dk_at dksX1_rest_0 0 rfl rfl)
theorem dX1_rest_1 : decode cX1_rest 1 = .ok (.invokevirtual 77, 3) := dk_182 0 77 (dk_at dksX1_rest_0 1 rfl rfl)
theorem dX1_rest_4 : decode cX1_rest 4 = .ok (.aload_n 0, 1) := dk_42 (dk_at dksX1_rest_0 4 rfl rfl)
theorem dX1_rest_5 : decode cX1_rest 5 = .ok (.iload_n 1, 1) := dk_27 (dk_at dksX1_rest_0 5 rfl rfl)
theorem dX1_rest_6 : decode cX1_rest 6 = .ok (.invokevirtual 277, 3) := dk_182 1 21 (dk_at dksX1_rest_0 6 rfl rfl)
theorem dX1_rest_9 : decode cX1_rest 9 = .ok (.istore_n 2, 1) := dk_61 (dk_at dksX1_rest_0 9 rfl rfl)
theorem dX1_rest_10 : decode cX1_rest 10 = .ok (.iload_n 2, 1) := dk_28 (dk_at dksX1_rest_0 10 rfl rfl)
theorem dX1_rest_11 : decode cX1_rest 11 = .ok (.ifCond .eq 9, 3) := dk_153 0 9 (dk_at dksX1_rest_0 11 rfl rfl)
theorem dX1_rest_14 : decode cX1_rest 14 = .ok (.aload_n 0, 1) := dk_42 (dk_at dksX1_rest_0 14 rfl rfl)
theorem dX1_rest_15 : decode cX1_rest 15 = .ok (.iload_n 2, 1) := dk_28 (dk_at dksX1_rest_0 15 rfl rfl)
theorem dX1_rest_16 : decode cX1_rest 16 = .ok (.invokevirtual 91, 3) := dk_182 0 91 (dk_at dksX1_rest_0 16 rfl rfl)
theorem dX1_rest_19 : decode cX1_rest 19 = .ok (.ireturn, 1) := dk_172 (dk_at dksX1_rest_0 19 rfl rfl)
theorem dX1_rest_20 : decode cX1_rest 20 = .ok (.aload_n 0, 1) := dk_42 (dk_at dksX1_rest_0 20 rfl rfl)
theorem dX1_rest_21 : decode cX1_rest 21 = .ok (.iload_n 1, 1) := dk_27 (dk_at dksX1_rest_0 21 rfl rfl)
theorem dX1_rest_22 : decode cX1_rest 22 = .ok (.invokevirtual 280, 3) := dk_182 1 24 (dk_at dksX1_rest_1 0 rfl rfl)
theorem dX1_rest_25 : decode cX1_rest 25 = .ok (.pop, 1) := dk_87 (dk_at dksX1_rest_1 3 rfl rfl)
theorem dX1_rest_26 : decode cX1_rest 26 = .ok (.aload_n 0, 1) := dk_42 (dk_at dksX1_rest_1 4 rfl rfl)
theorem dX1_rest_27 : decode cX1_rest 27 = .ok (.getfield 271, 3) := dk_180 1 15 (dk_at dksX1_rest_1 5 rfl rfl)
theorem dX1_rest_30 : decode cX1_rest 30 = .ok (.ireturn, 1) := dk_172 (dk_at dksX1_rest_1 8 rfl rfl)
abbrev cX1_most : ByteArray := prog_1_method_60_code
def yX1_most : MethodName := ⟨RX1, "most", "(I)I"⟩
def dkwX1_most_1 : List UInt8 := [182, 0, 91, 172]
abbrev dktX1_most_1 : List UInt8 := dkwX1_most_1 ++ []
def dkwX1_most_0 : List UInt8 := [42, 182, 0, 77, 42, 27, 182, 0, 161, 153, 0, 11, 42, 27, 182, 1, 30, 167, 0, 8, 42, 4]
abbrev dktX1_most_0 : List UInt8 := dkwX1_most_0 ++ dktX1_most_1
theorem dksX1_most_0 : cX1_most.data.toList.drop 0 = dktX1_most_0 := by decide +kernel
theorem dksX1_most_1 : cX1_most.data.toList.drop 22 = dktX1_most_1 := dk_seg dksX1_most_0 22 rfl rfl
theorem dX1_most_0 : decode cX1_most 0 = .ok (.aload_n 0, 1) := dk_42 (dk_at dksX1_most_0 0 rfl rfl)
theorem dX1_most_1 : decode cX1_most 1 = .ok (.invokevirtual 77, 3) := dk_182 0 77 (dk_at dksX1_most_0 1 rfl rfl)
theorem dX1_most_4 : decode cX1_most 4 = .ok (.aload_n 0, 1) := dk_42 (dk_at dksX1_most_0 4 rfl rfl)
theorem dX1_most_5 : decode cX1_most 5 = .ok (.iload_n 1, 1) := dk_27 (dk_at dksX1_most_0 5 rfl rfl)
theorem dX1_most_6 : decode cX1_most 6 = .ok (.invokevirtual 161, 3) := dk_182 0 161 (dk_at dksX1_most_0 6 rfl rfl)
theorem dX1_most_9 : decode cX1_most 9 = .ok (.ifCond .eq 11, 3) := dk_153 0 11 (dk_at dksX1_most_0 9 rfl rfl)
theorem dX1_most_12 : decode cX1_most 12 = .ok (.aload_n 0, 1) := dk_42 (dk_at dksX1_most_0 12 rfl rfl)
theorem dX1_most_13 : decode cX1_most 13 = .ok (.iload_n 1, 1) := dk_27 (dk_at dksX1_most_0 13 rfl rfl)
theorem dX1_most_14 : decode cX1_most 14 = .ok (.invokevirtual 286, 3) := dk_182 1 30 (dk_at dksX1_most_0 14 rfl rfl)
theorem dX1_most_17 : decode cX1_most 17 = .ok (.goto 8, 3) := dk_167 0 8 (dk_at dksX1_most_0 17 rfl rfl)
theorem dX1_most_20 : decode cX1_most 20 = .ok (.aload_n 0, 1) := dk_42 (dk_at dksX1_most_0 20 rfl rfl)
theorem dX1_most_21 : decode cX1_most 21 = .ok (.iconst 1, 1) := dk_4 (dk_at dksX1_most_0 21 rfl rfl)
theorem dX1_most_22 : decode cX1_most 22 = .ok (.invokevirtual 91, 3) := dk_182 0 91 (dk_at dksX1_most_1 0 rfl rfl)
theorem dX1_most_25 : decode cX1_most 25 = .ok (.ireturn, 1) := dk_172 (dk_at dksX1_most_1 3 rfl rfl)
abbrev cX1_mostOf : ByteArray := prog_1_method_59_code
def yX1_mostOf : MethodName := ⟨RX1, "mostOf", "(I)I"⟩
def dkwX1_mostOf_1 : List UInt8 := [182, 1, 27, 164, 0, 5, 29, 61, 132, 3, 1, 167, 255, 225, 28, 172]
abbrev dktX1_mostOf_1 : List UInt8 := dkwX1_mostOf_1 ++ []
def dkwX1_mostOf_0 : List UInt8 := [3, 61, 4, 62, 29, 42, 180, 0, 102, 180, 0, 126, 162, 0, 26, 42, 27, 29, 182, 1, 27, 42, 27, 28]
abbrev dktX1_mostOf_0 : List UInt8 := dkwX1_mostOf_0 ++ dktX1_mostOf_1
theorem dksX1_mostOf_0 : cX1_mostOf.data.toList.drop 0 = dktX1_mostOf_0 := by decide +kernel
theorem dksX1_mostOf_1 : cX1_mostOf.data.toList.drop 24 = dktX1_mostOf_1 := dk_seg dksX1_mostOf_0 24 rfl rfl
theorem dX1_mostOf_0 : decode cX1_mostOf 0 = .ok (.iconst 0, 1) := dk_3 (dk_at dksX1_mostOf_0 0 rfl rfl)
theorem dX1_mostOf_1 : decode cX1_mostOf 1 = .ok (.istore_n 2, 1) := dk_61 (dk_at dksX1_mostOf_0 1 rfl rfl)
theorem dX1_mostOf_2 : decode cX1_mostOf 2 = .ok (.iconst 1, 1) := dk_4 (dk_at dksX1_mostOf_0 2 rfl rfl)
theorem dX1_mostOf_3 : decode cX1_mostOf 3 = .ok (.istore_n 3, 1) := dk_62 (dk_at dksX1_mostOf_0 3 rfl rfl)
theorem dX1_mostOf_4 : decode cX1_mostOf 4 = .ok (.iload_n 3, 1) := dk_29 (dk_at dksX1_mostOf_0 4 rfl rfl)
theorem dX1_mostOf_5 : decode cX1_mostOf 5 = .ok (.aload_n 0, 1) := dk_42 (dk_at dksX1_mostOf_0 5 rfl rfl)
theorem dX1_mostOf_6 : decode cX1_mostOf 6 = .ok (.getfield 102, 3) := dk_180 0 102 (dk_at dksX1_mostOf_0 6 rfl rfl)
theorem dX1_mostOf_9 : decode cX1_mostOf 9 = .ok (.getfield 126, 3) := dk_180 0 126 (dk_at dksX1_mostOf_0 9 rfl rfl)
theorem dX1_mostOf_12 : decode cX1_mostOf 12 = .ok (.if_icmp .ge 26, 3) := dk_162 0 26 (dk_at dksX1_mostOf_0 12 rfl rfl)
theorem dX1_mostOf_15 : decode cX1_mostOf 15 = .ok (.aload_n 0, 1) := dk_42 (dk_at dksX1_mostOf_0 15 rfl rfl)
theorem dX1_mostOf_16 : decode cX1_mostOf 16 = .ok (.iload_n 1, 1) := dk_27 (dk_at dksX1_mostOf_0 16 rfl rfl)
theorem dX1_mostOf_17 : decode cX1_mostOf 17 = .ok (.iload_n 3, 1) := dk_29 (dk_at dksX1_mostOf_0 17 rfl rfl)
theorem dX1_mostOf_18 : decode cX1_mostOf 18 = .ok (.invokevirtual 283, 3) := dk_182 1 27 (dk_at dksX1_mostOf_0 18 rfl rfl)
theorem dX1_mostOf_21 : decode cX1_mostOf 21 = .ok (.aload_n 0, 1) := dk_42 (dk_at dksX1_mostOf_0 21 rfl rfl)
theorem dX1_mostOf_22 : decode cX1_mostOf 22 = .ok (.iload_n 1, 1) := dk_27 (dk_at dksX1_mostOf_0 22 rfl rfl)
theorem dX1_mostOf_23 : decode cX1_mostOf 23 = .ok (.iload_n 2, 1) := dk_28 (dk_at dksX1_mostOf_0 23 rfl rfl)
theorem dX1_mostOf_24 : decode cX1_mostOf 24 = .ok (.invokevirtual 283, 3) := dk_182 1 27 (dk_at dksX1_mostOf_1 0 rfl rfl)
theorem dX1_mostOf_27 : decode cX1_mostOf 27 = .ok (.if_icmp .le 5, 3) := dk_164 0 5 (dk_at dksX1_mostOf_1 3 rfl rfl)
theorem dX1_mostOf_30 : decode cX1_mostOf 30 = .ok (.iload_n 3, 1) := dk_29 (dk_at dksX1_mostOf_1 6 rfl rfl)
theorem dX1_mostOf_31 : decode cX1_mostOf 31 = .ok (.istore_n 2, 1) := dk_61 (dk_at dksX1_mostOf_1 7 rfl rfl)
theorem dX1_mostOf_32 : decode cX1_mostOf 32 = .ok (.iinc 3 1, 3) := dk_132 3 1 (dk_at dksX1_mostOf_1 8 rfl rfl)
theorem dX1_mostOf_35 : decode cX1_mostOf 35 = .ok (.goto (-31), 3) := dk_167 255 225 (dk_at dksX1_mostOf_1 11 rfl rfl)
theorem dX1_mostOf_38 : decode cX1_mostOf 38 = .ok (.iload_n 2, 1) := dk_28 (dk_at dksX1_mostOf_1 14 rfl rfl)
theorem dX1_mostOf_39 : decode cX1_mostOf 39 = .ok (.ireturn, 1) := dk_172 (dk_at dksX1_mostOf_1 15 rfl rfl)
abbrev cX1_landsIf : ByteArray := prog_1_method_58_code
def yX1_landsIf : MethodName := ⟨RX1, "landsIf", "(II)I"⟩
def dkwX1_landsIf_1 : List UInt8 := [180, 0, 40, 4, 182, 0, 225, 42, 180, 0, 40, 27, 182, 0, 176, 172]
abbrev dktX1_landsIf_1 : List UInt8 := dkwX1_landsIf_1 ++ []
def dkwX1_landsIf_0 : List UInt8 := [42, 180, 0, 40, 42, 180, 0, 33, 182, 0, 221, 42, 180, 0, 40, 180, 0, 154, 28, 27, 79, 42]
abbrev dktX1_landsIf_0 : List UInt8 := dkwX1_landsIf_0 ++ dktX1_landsIf_1
theorem dksX1_landsIf_0 : cX1_landsIf.data.toList.drop 0 = dktX1_landsIf_0 := by decide +kernel
theorem dksX1_landsIf_1 : cX1_landsIf.data.toList.drop 22 = dktX1_landsIf_1 := dk_seg dksX1_landsIf_0 22 rfl rfl
theorem dX1_landsIf_0 : decode cX1_landsIf 0 = .ok (.aload_n 0, 1) := dk_42 (dk_at dksX1_landsIf_0 0 rfl rfl)
theorem dX1_landsIf_1 : decode cX1_landsIf 1 = .ok (.getfield 40, 3) := dk_180 0 40 (dk_at dksX1_landsIf_0 1 rfl rfl)
theorem dX1_landsIf_4 : decode cX1_landsIf 4 = .ok (.aload_n 0, 1) := dk_42 (dk_at dksX1_landsIf_0 4 rfl rfl)
theorem dX1_landsIf_5 : decode cX1_landsIf 5 = .ok (.getfield 33, 3) := dk_180 0 33 (dk_at dksX1_landsIf_0 5 rfl rfl)
theorem dX1_landsIf_8 : decode cX1_landsIf 8 = .ok (.invokevirtual 221, 3) := dk_182 0 221 (dk_at dksX1_landsIf_0 8 rfl rfl)
theorem dX1_landsIf_11 : decode cX1_landsIf 11 = .ok (.aload_n 0, 1) := dk_42 (dk_at dksX1_landsIf_0 11 rfl rfl)
theorem dX1_landsIf_12 : decode cX1_landsIf 12 = .ok (.getfield 40, 3) := dk_180 0 40 (dk_at dksX1_landsIf_0 12 rfl rfl)
theorem dX1_landsIf_15 : decode cX1_landsIf 15 = .ok (.getfield 154, 3) := dk_180 0 154 (dk_at dksX1_landsIf_0 15 rfl rfl)
theorem dX1_landsIf_18 : decode cX1_landsIf 18 = .ok (.iload_n 2, 1) := dk_28 (dk_at dksX1_landsIf_0 18 rfl rfl)
theorem dX1_landsIf_19 : decode cX1_landsIf 19 = .ok (.iload_n 1, 1) := dk_27 (dk_at dksX1_landsIf_0 19 rfl rfl)
theorem dX1_landsIf_20 : decode cX1_landsIf 20 = .ok (.iastore, 1) := dk_79 (dk_at dksX1_landsIf_0 20 rfl rfl)
theorem dX1_landsIf_21 : decode cX1_landsIf 21 = .ok (.aload_n 0, 1) := dk_42 (dk_at dksX1_landsIf_0 21 rfl rfl)
theorem dX1_landsIf_22 : decode cX1_landsIf 22 = .ok (.getfield 40, 3) := dk_180 0 40 (dk_at dksX1_landsIf_1 0 rfl rfl)
theorem dX1_landsIf_25 : decode cX1_landsIf 25 = .ok (.iconst 1, 1) := dk_4 (dk_at dksX1_landsIf_1 3 rfl rfl)
theorem dX1_landsIf_26 : decode cX1_landsIf 26 = .ok (.invokevirtual 225, 3) := dk_182 0 225 (dk_at dksX1_landsIf_1 4 rfl rfl)
theorem dX1_landsIf_29 : decode cX1_landsIf 29 = .ok (.aload_n 0, 1) := dk_42 (dk_at dksX1_landsIf_1 7 rfl rfl)
theorem dX1_landsIf_30 : decode cX1_landsIf 30 = .ok (.getfield 40, 3) := dk_180 0 40 (dk_at dksX1_landsIf_1 8 rfl rfl)
theorem dX1_landsIf_33 : decode cX1_landsIf 33 = .ok (.iload_n 1, 1) := dk_27 (dk_at dksX1_landsIf_1 11 rfl rfl)
theorem dX1_landsIf_34 : decode cX1_landsIf 34 = .ok (.invokevirtual 176, 3) := dk_182 0 176 (dk_at dksX1_landsIf_1 12 rfl rfl)
theorem dX1_landsIf_37 : decode cX1_landsIf 37 = .ok (.ireturn, 1) := dk_172 (dk_at dksX1_landsIf_1 15 rfl rfl)
abbrev cX1_mostLands : ByteArray := prog_1_method_61_code
def yX1_mostLands : MethodName := ⟨RX1, "mostLands", "(I)I"⟩
def dkwX1_mostLands_1 : List UInt8 := [167, 0, 8, 42, 4, 182, 0, 91, 172]
abbrev dktX1_mostLands_1 : List UInt8 := dkwX1_mostLands_1 ++ []
def dkwX1_mostLands_0 : List UInt8 := [42, 182, 0, 77, 42, 27, 182, 0, 161, 153, 0, 16, 42, 27, 42, 27, 182, 1, 30, 182, 1, 27]
abbrev dktX1_mostLands_0 : List UInt8 := dkwX1_mostLands_0 ++ dktX1_mostLands_1
theorem dksX1_mostLands_0 : cX1_mostLands.data.toList.drop 0 = dktX1_mostLands_0 := by decide +kernel
theorem dksX1_mostLands_1 : cX1_mostLands.data.toList.drop 22 = dktX1_mostLands_1 := dk_seg dksX1_mostLands_0 22 rfl rfl
theorem dX1_mostLands_0 : decode cX1_mostLands 0 = .ok (.aload_n 0, 1) := dk_42 (dk_at dksX1_mostLands_0 0 rfl rfl)
theorem dX1_mostLands_1 : decode cX1_mostLands 1 = .ok (.invokevirtual 77, 3) := dk_182 0 77 (dk_at dksX1_mostLands_0 1 rfl rfl)
theorem dX1_mostLands_4 : decode cX1_mostLands 4 = .ok (.aload_n 0, 1) := dk_42 (dk_at dksX1_mostLands_0 4 rfl rfl)
theorem dX1_mostLands_5 : decode cX1_mostLands 5 = .ok (.iload_n 1, 1) := dk_27 (dk_at dksX1_mostLands_0 5 rfl rfl)
theorem dX1_mostLands_6 : decode cX1_mostLands 6 = .ok (.invokevirtual 161, 3) := dk_182 0 161 (dk_at dksX1_mostLands_0 6 rfl rfl)
theorem dX1_mostLands_9 : decode cX1_mostLands 9 = .ok (.ifCond .eq 16, 3) := dk_153 0 16 (dk_at dksX1_mostLands_0 9 rfl rfl)
theorem dX1_mostLands_12 : decode cX1_mostLands 12 = .ok (.aload_n 0, 1) := dk_42 (dk_at dksX1_mostLands_0 12 rfl rfl)
theorem dX1_mostLands_13 : decode cX1_mostLands 13 = .ok (.iload_n 1, 1) := dk_27 (dk_at dksX1_mostLands_0 13 rfl rfl)
theorem dX1_mostLands_14 : decode cX1_mostLands 14 = .ok (.aload_n 0, 1) := dk_42 (dk_at dksX1_mostLands_0 14 rfl rfl)
theorem dX1_mostLands_15 : decode cX1_mostLands 15 = .ok (.iload_n 1, 1) := dk_27 (dk_at dksX1_mostLands_0 15 rfl rfl)
theorem dX1_mostLands_16 : decode cX1_mostLands 16 = .ok (.invokevirtual 286, 3) := dk_182 1 30 (dk_at dksX1_mostLands_0 16 rfl rfl)
theorem dX1_mostLands_19 : decode cX1_mostLands 19 = .ok (.invokevirtual 283, 3) := dk_182 1 27 (dk_at dksX1_mostLands_0 19 rfl rfl)
theorem dX1_mostLands_22 : decode cX1_mostLands 22 = .ok (.goto 8, 3) := dk_167 0 8 (dk_at dksX1_mostLands_1 0 rfl rfl)
theorem dX1_mostLands_25 : decode cX1_mostLands 25 = .ok (.aload_n 0, 1) := dk_42 (dk_at dksX1_mostLands_1 3 rfl rfl)
theorem dX1_mostLands_26 : decode cX1_mostLands 26 = .ok (.iconst 1, 1) := dk_4 (dk_at dksX1_mostLands_1 4 rfl rfl)
theorem dX1_mostLands_27 : decode cX1_mostLands 27 = .ok (.invokevirtual 91, 3) := dk_182 0 91 (dk_at dksX1_mostLands_1 5 rfl rfl)
theorem dX1_mostLands_30 : decode cX1_mostLands 30 = .ok (.ireturn, 1) := dk_172 (dk_at dksX1_mostLands_1 8 rfl rfl)
abbrev cX1_century : ByteArray := prog_1_method_63_code
def yX1_century : MethodName := ⟨RX1, "century", "(III)I"⟩
def dkwX1_century_1 : List UInt8 := [21, 4, 182, 0, 91, 167, 0, 11, 42, 180, 0, 40, 27, 182, 0, 176, 172]
abbrev dktX1_century_1 : List UInt8 := dkwX1_century_1 ++ []
def dkwX1_century_0 : List UInt8 := [42, 182, 0, 77, 42, 42, 27, 182, 0, 161, 28, 29, 182, 1, 38, 54, 4, 21, 4, 153, 0, 12, 42]
abbrev dktX1_century_0 : List UInt8 := dkwX1_century_0 ++ dktX1_century_1
theorem dksX1_century_0 : cX1_century.data.toList.drop 0 = dktX1_century_0 := by decide +kernel
theorem dksX1_century_1 : cX1_century.data.toList.drop 23 = dktX1_century_1 := dk_seg dksX1_century_0 23 rfl rfl
theorem dX1_century_0 : decode cX1_century 0 = .ok (.aload_n 0, 1) := dk_42 (dk_at dksX1_century_0 0 rfl rfl)
theorem dX1_century_1 : decode cX1_century 1 = .ok (.invokevirtual 77, 3) := dk_182 0 77 (dk_at dksX1_century_0 1 rfl rfl)
theorem dX1_century_4 : decode cX1_century 4 = .ok (.aload_n 0, 1) := dk_42 (dk_at dksX1_century_0 4 rfl rfl)
theorem dX1_century_5 : decode cX1_century 5 = .ok (.aload_n 0, 1) := dk_42 (dk_at dksX1_century_0 5 rfl rfl)
theorem dX1_century_6 : decode cX1_century 6 = .ok (.iload_n 1, 1) := dk_27 (dk_at dksX1_century_0 6 rfl rfl)
theorem dX1_century_7 : decode cX1_century 7 = .ok (.invokevirtual 161, 3) := dk_182 0 161 (dk_at dksX1_century_0 7 rfl rfl)
theorem dX1_century_10 : decode cX1_century 10 = .ok (.iload_n 2, 1) := dk_28 (dk_at dksX1_century_0 10 rfl rfl)
theorem dX1_century_11 : decode cX1_century 11 = .ok (.iload_n 3, 1) := dk_29 (dk_at dksX1_century_0 11 rfl rfl)
theorem dX1_century_12 : decode cX1_century 12 = .ok (.invokevirtual 294, 3) := dk_182 1 38 (dk_at dksX1_century_0 12 rfl rfl)
theorem dX1_century_15 : decode cX1_century 15 = .ok (.istore 4, 2) := dk_54 4 (dk_at dksX1_century_0 15 rfl rfl)
theorem dX1_century_17 : decode cX1_century 17 = .ok (.iload 4, 2) := dk_21 4 (dk_at dksX1_century_0 17 rfl rfl)
theorem dX1_century_19 : decode cX1_century 19 = .ok (.ifCond .eq 12, 3) := dk_153 0 12 (dk_at dksX1_century_0 19 rfl rfl)
theorem dX1_century_22 : decode cX1_century 22 = .ok (.aload_n 0, 1) := dk_42 (dk_at dksX1_century_0 22 rfl rfl)
theorem dX1_century_23 : decode cX1_century 23 = .ok (.iload 4, 2) := dk_21 4 (dk_at dksX1_century_1 0 rfl rfl)
theorem dX1_century_25 : decode cX1_century 25 = .ok (.invokevirtual 91, 3) := dk_182 0 91 (dk_at dksX1_century_1 2 rfl rfl)
theorem dX1_century_28 : decode cX1_century 28 = .ok (.goto 11, 3) := dk_167 0 11 (dk_at dksX1_century_1 5 rfl rfl)
theorem dX1_century_31 : decode cX1_century 31 = .ok (.aload_n 0, 1) := dk_42 (dk_at dksX1_century_1 8 rfl rfl)
theorem dX1_century_32 : decode cX1_century 32 = .ok (.getfield 40, 3) := dk_180 0 40 (dk_at dksX1_century_1 9 rfl rfl)
theorem dX1_century_35 : decode cX1_century 35 = .ok (.iload_n 1, 1) := dk_27 (dk_at dksX1_century_1 12 rfl rfl)
theorem dX1_century_36 : decode cX1_century 36 = .ok (.invokevirtual 176, 3) := dk_182 0 176 (dk_at dksX1_century_1 13 rfl rfl)
theorem dX1_century_39 : decode cX1_century 39 = .ok (.ireturn, 1) := dk_172 (dk_at dksX1_century_1 16 rfl rfl)
abbrev cX1_centuryWhy : ByteArray := prog_1_method_62_code
def yX1_centuryWhy : MethodName := ⟨RX1, "centuryWhy", "(ZII)I"⟩
def dkwX1_centuryWhy_6 : List UInt8 := [162, 0, 7, 4, 167, 0, 4, 3, 182, 0, 225, 132, 5, 1, 167, 255, 146, 3, 172]
abbrev dktX1_centuryWhy_6 : List UInt8 := dkwX1_centuryWhy_6 ++ []
def dkwX1_centuryWhy_5 : List UInt8 := [19, 1, 34, 112, 54, 4, 42, 180, 0, 40, 21, 4, 16, 100, 112, 42, 180, 0, 102, 180, 1, 35]
abbrev dktX1_centuryWhy_5 : List UInt8 := dkwX1_centuryWhy_5 ++ dktX1_centuryWhy_6
def dkwX1_centuryWhy_4 : List UInt8 := [180, 0, 154, 21, 6, 21, 4, 42, 180, 0, 102, 180, 0, 131, 112, 79, 16, 75, 21, 4, 104, 16, 74, 96]
abbrev dktX1_centuryWhy_4 : List UInt8 := dkwX1_centuryWhy_4 ++ dktX1_centuryWhy_5
def dkwX1_centuryWhy_3 : List UInt8 := [180, 0, 126, 112, 54, 6, 16, 75, 21, 4, 104, 16, 74, 96, 19, 1, 34, 112, 54, 4, 42, 180, 0, 40]
abbrev dktX1_centuryWhy_3 : List UInt8 := dkwX1_centuryWhy_3 ++ dktX1_centuryWhy_4
def dkwX1_centuryWhy_2 : List UInt8 := [29, 162, 0, 110, 16, 75, 21, 4, 104, 16, 74, 96, 19, 1, 34, 112, 54, 4, 21, 4, 42, 180, 0, 102]
abbrev dktX1_centuryWhy_2 : List UInt8 := dkwX1_centuryWhy_2 ++ dktX1_centuryWhy_3
def dkwX1_centuryWhy_1 : List UInt8 := [154, 0, 5, 5, 172, 42, 180, 0, 40, 42, 180, 0, 33, 182, 0, 221, 28, 54, 4, 3, 54, 5, 21, 5]
abbrev dktX1_centuryWhy_1 : List UInt8 := dkwX1_centuryWhy_1 ++ dktX1_centuryWhy_2
def dkwX1_centuryWhy_0 : List UInt8 := [27, 154, 0, 5, 4, 172, 28, 3, 19, 1, 33, 184, 0, 87, 153, 0, 13, 29, 3, 16, 60, 184, 0, 87]
abbrev dktX1_centuryWhy_0 : List UInt8 := dkwX1_centuryWhy_0 ++ dktX1_centuryWhy_1
theorem dksX1_centuryWhy_0 : cX1_centuryWhy.data.toList.drop 0 = dktX1_centuryWhy_0 := by decide +kernel
theorem dksX1_centuryWhy_1 : cX1_centuryWhy.data.toList.drop 24 = dktX1_centuryWhy_1 := dk_seg dksX1_centuryWhy_0 24 rfl rfl
theorem dksX1_centuryWhy_2 : cX1_centuryWhy.data.toList.drop 48 = dktX1_centuryWhy_2 := dk_seg dksX1_centuryWhy_1 24 rfl rfl
theorem dksX1_centuryWhy_3 : cX1_centuryWhy.data.toList.drop 72 = dktX1_centuryWhy_3 := dk_seg dksX1_centuryWhy_2 24 rfl rfl
theorem dksX1_centuryWhy_4 : cX1_centuryWhy.data.toList.drop 96 = dktX1_centuryWhy_4 := dk_seg dksX1_centuryWhy_3 24 rfl rfl
theorem dksX1_centuryWhy_5 : cX1_centuryWhy.data.toList.drop 120 = dktX1_centuryWhy_5 := dk_seg dksX1_centuryWhy_4 24 rfl rfl
theorem dksX1_centuryWhy_6 : cX1_centuryWhy.data.toList.drop 142 = dktX1_centuryWhy_6 := dk_seg dksX1_centuryWhy_5 22 rfl rfl
theorem dX1_centuryWhy_0 : decode cX1_centuryWhy 0 = .ok (.iload_n 1, 1) := dk_27 (dk_at dksX1_centuryWhy_0 0 rfl rfl)
theorem dX1_centuryWhy_1 : decode cX1_centuryWhy 1 = .ok (.ifCond .ne 5, 3) := dk_154 0 5 (dk_at dksX1_centuryWhy_0 1 rfl rfl)
theorem dX1_centuryWhy_4 : decode cX1_centuryWhy 4 = .ok (.iconst 1, 1) := dk_4 (dk_at dksX1_centuryWhy_0 4 rfl rfl)
theorem dX1_centuryWhy_5 : decode cX1_centuryWhy 5 = .ok (.ireturn, 1) := dk_172 (dk_at dksX1_centuryWhy_0 5 rfl rfl)
theorem dX1_centuryWhy_6 : decode cX1_centuryWhy 6 = .ok (.iload_n 2, 1) := dk_28 (dk_at dksX1_centuryWhy_0 6 rfl rfl)
theorem dX1_centuryWhy_7 : decode cX1_centuryWhy 7 = .ok (.iconst 0, 1) := dk_3 (dk_at dksX1_centuryWhy_0 7 rfl rfl)
theorem dX1_centuryWhy_8 : decode cX1_centuryWhy 8 = .ok (.ldc_w 289, 3) := dk_19 1 33 (dk_at dksX1_centuryWhy_0 8 rfl rfl)
theorem dX1_centuryWhy_11 : decode cX1_centuryWhy 11 = .ok (.invokestatic 87, 3) := dk_184 0 87 (dk_at dksX1_centuryWhy_0 11 rfl rfl)
theorem dX1_centuryWhy_14 : decode cX1_centuryWhy 14 = .ok (.ifCond .eq 13, 3) := dk_153 0 13 (dk_at dksX1_centuryWhy_0 14 rfl rfl)
theorem dX1_centuryWhy_17 : decode cX1_centuryWhy 17 = .ok (.iload_n 3, 1) := dk_29 (dk_at dksX1_centuryWhy_0 17 rfl rfl)
theorem dX1_centuryWhy_18 : decode cX1_centuryWhy 18 = .ok (.iconst 0, 1) := dk_3 (dk_at dksX1_centuryWhy_0 18 rfl rfl)
theorem dX1_centuryWhy_19 : decode cX1_centuryWhy 19 = .ok (.bipush 60, 2) := dk_16 60 (dk_at dksX1_centuryWhy_0 19 rfl rfl)
theorem dX1_centuryWhy_21 : decode cX1_centuryWhy 21 = .ok (.invokestatic 87, 3) := dk_184 0 87 (dk_at dksX1_centuryWhy_0 21 rfl rfl)
theorem dX1_centuryWhy_24 : decode cX1_centuryWhy 24 = .ok (.ifCond .ne 5, 3) := dk_154 0 5 (dk_at dksX1_centuryWhy_1 0 rfl rfl)
theorem dX1_centuryWhy_27 : decode cX1_centuryWhy 27 = .ok (.iconst 2, 1) := dk_5 (dk_at dksX1_centuryWhy_1 3 rfl rfl)
theorem dX1_centuryWhy_28 : decode cX1_centuryWhy 28 = .ok (.ireturn, 1) := dk_172 (dk_at dksX1_centuryWhy_1 4 rfl rfl)
theorem dX1_centuryWhy_29 : decode cX1_centuryWhy 29 = .ok (.aload_n 0, 1) := dk_42 (dk_at dksX1_centuryWhy_1 5 rfl rfl)
theorem dX1_centuryWhy_30 : decode cX1_centuryWhy 30 = .ok (.getfield 40, 3) := dk_180 0 40 (dk_at dksX1_centuryWhy_1 6 rfl rfl)
theorem dX1_centuryWhy_33 : decode cX1_centuryWhy 33 = .ok (.aload_n 0, 1) := dk_42 (dk_at dksX1_centuryWhy_1 9 rfl rfl)
theorem dX1_centuryWhy_34 : decode cX1_centuryWhy 34 = .ok (.getfield 33, 3) := dk_180 0 33 (dk_at dksX1_centuryWhy_1 10 rfl rfl)
theorem dX1_centuryWhy_37 : decode cX1_centuryWhy 37 = .ok (.invokevirtual 221, 3) := dk_182 0 221 (dk_at dksX1_centuryWhy_1 13 rfl rfl)
theorem dX1_centuryWhy_40 : decode cX1_centuryWhy 40 = .ok (.iload_n 2, 1) := dk_28 (dk_at dksX1_centuryWhy_1 16 rfl rfl)
theorem dX1_centuryWhy_41 : decode cX1_centuryWhy 41 = .ok (.istore 4, 2) := dk_54 4 (dk_at dksX1_centuryWhy_1 17 rfl rfl)
theorem dX1_centuryWhy_43 : decode cX1_centuryWhy 43 = .ok (.iconst 0, 1) := dk_3 (dk_at dksX1_centuryWhy_1 19 rfl rfl)
theorem dX1_centuryWhy_44 : decode cX1_centuryWhy 44 = .ok (.istore 5, 2) := dk_54 5 (dk_at dksX1_centuryWhy_1 20 rfl rfl)
theorem dX1_centuryWhy_46 : decode cX1_centuryWhy 46 = .ok (.iload 5, 2) := dk_21 5 (dk_at dksX1_centuryWhy_1 22 rfl rfl)
theorem dX1_centuryWhy_48 : decode cX1_centuryWhy 48 = .ok (.iload_n 3, 1) := dk_29 (dk_at dksX1_centuryWhy_2 0 rfl rfl)
theorem dX1_centuryWhy_49 : decode cX1_centuryWhy 49 = .ok (.if_icmp .ge 110, 3) := dk_162 0 110 (dk_at dksX1_centuryWhy_2 1 rfl rfl)
theorem dX1_centuryWhy_52 : decode cX1_centuryWhy 52 = .ok (.bipush 75, 2) := dk_16 75 (dk_at dksX1_centuryWhy_2 4 rfl rfl)
theorem dX1_centuryWhy_54 : decode cX1_centuryWhy 54 = .ok (.iload 4, 2) := dk_21 4 (dk_at dksX1_centuryWhy_2 6 rfl rfl)
theorem dX1_centuryWhy_56 : decode cX1_centuryWhy 56 = .ok (.imul, 1) := dk_104 (dk_at dksX1_centuryWhy_2 8 rfl rfl)
theorem dX1_centuryWhy_57 : decode cX1_centuryWhy 57 = .ok (.bipush 74, 2) := dk_16 74 (dk_at dksX1_centuryWhy_2 9 rfl rfl)
theorem dX1_centuryWhy_59 : decode cX1_centuryWhy 59 = .ok (.iadd, 1) := dk_96 (dk_at dksX1_centuryWhy_2 11 rfl rfl)
theorem dX1_centuryWhy_60 : decode cX1_centuryWhy 60 = .ok (.ldc_w 290, 3) := dk_19 1 34 (dk_at dksX1_centuryWhy_2 12 rfl rfl)
theorem dX1_centuryWhy_63 : decode cX1_centuryWhy 63 = .ok (.irem, 1) := dk_112 (dk_at dksX1_centuryWhy_2 15 rfl rfl)
theorem dX1_centuryWhy_64 : decode cX1_centuryWhy 64 = .ok (.istore 4, 2) := dk_54 4 (dk_at dksX1_centuryWhy_2 16 rfl rfl)
theorem dX1_centuryWhy_66 : decode cX1_centuryWhy 66 = .ok (.iload 4, 2) := dk_21 4 (dk_at dksX1_centuryWhy_2 18 rfl rfl)
theorem dX1_centuryWhy_68 : decode cX1_centuryWhy 68 = .ok (.aload_n 0, 1) := dk_42 (dk_at dksX1_centuryWhy_2 20 rfl rfl)
theorem dX1_centuryWhy_69 : decode cX1_centuryWhy 69 = .ok (.getfield 102, 3) := dk_180 0 102 (dk_at dksX1_centuryWhy_2 21 rfl rfl)
theorem dX1_centuryWhy_72 : decode cX1_centuryWhy 72 = .ok (.getfield 126, 3) := dk_180 0 126 (dk_at dksX1_centuryWhy_3 0 rfl rfl)
theorem dX1_centuryWhy_75 : decode cX1_centuryWhy 75 = .ok (.irem, 1) := dk_112 (dk_at dksX1_centuryWhy_3 3 rfl rfl)
theorem dX1_centuryWhy_76 : decode cX1_centuryWhy 76 = .ok (.istore 6, 2) := dk_54 6 (dk_at dksX1_centuryWhy_3 4 rfl rfl)
theorem dX1_centuryWhy_78 : decode cX1_centuryWhy 78 = .ok (.bipush 75, 2) := dk_16 75 (dk_at dksX1_centuryWhy_3 6 rfl rfl)
theorem dX1_centuryWhy_80 : decode cX1_centuryWhy 80 = .ok (.iload 4, 2) := dk_21 4 (dk_at dksX1_centuryWhy_3 8 rfl rfl)
theorem dX1_centuryWhy_82 : decode cX1_centuryWhy 82 = .ok (.imul, 1) := dk_104 (dk_at dksX1_centuryWhy_3 10 rfl rfl)
theorem dX1_centuryWhy_83 : decode cX1_centuryWhy 83 = .ok (.bipush 74, 2) := dk_16 74 (dk_at dksX1_centuryWhy_3 11 rfl rfl)
theorem dX1_centuryWhy_85 : decode cX1_centuryWhy 85 = .ok (.iadd, 1) := dk_96 (dk_at dksX1_centuryWhy_3 13 rfl rfl)
theorem dX1_centuryWhy_86 : decode cX1_centuryWhy 86 = .ok (.ldc_w 290, 3) := dk_19 1 34 (dk_at dksX1_centuryWhy_3 14 rfl rfl)
theorem dX1_centuryWhy_89 : decode cX1_centuryWhy 89 = .ok (.irem, 1) := dk_112 (dk_at dksX1_centuryWhy_3 17 rfl rfl)
theorem dX1_centuryWhy_90 : decode cX1_centuryWhy 90 = .ok (.istore 4, 2) := dk_54 4 (dk_at dksX1_centuryWhy_3 18 rfl rfl)
theorem dX1_centuryWhy_92 : decode cX1_centuryWhy 92 = .ok (.aload_n 0, 1) := dk_42 (dk_at dksX1_centuryWhy_3 20 rfl rfl)
theorem dX1_centuryWhy_93 : decode cX1_centuryWhy 93 = .ok (.getfield 40, 3) := dk_180 0 40 (dk_at dksX1_centuryWhy_3 21 rfl rfl)
theorem dX1_centuryWhy_96 : decode cX1_centuryWhy 96 = .ok (.getfield 154, 3) := dk_180 0 154 (dk_at dksX1_centuryWhy_4 0 rfl rfl)
theorem dX1_centuryWhy_99 : decode cX1_centuryWhy 99 = .ok (.iload 6, 2) := dk_21 6 (dk_at dksX1_centuryWhy_4 3 rfl rfl)
theorem dX1_centuryWhy_101 : decode cX1_centuryWhy 101 = .ok (.iload 4, 2) := dk_21 4 (dk_at dksX1_centuryWhy_4 5 rfl rfl)
theorem dX1_centuryWhy_103 : decode cX1_centuryWhy 103 = .ok (.aload_n 0, 1) := dk_42 (dk_at dksX1_centuryWhy_4 7 rfl rfl)
theorem dX1_centuryWhy_104 : decode cX1_centuryWhy 104 = .ok (.getfield 102, 3) := dk_180 0 102 (dk_at dksX1_centuryWhy_4 8 rfl rfl)
theorem dX1_centuryWhy_107 : decode cX1_centuryWhy 107 = .ok (.getfield 131, 3) := dk_180 0 131 (dk_at dksX1_centuryWhy_4 11 rfl rfl)
theorem dX1_centuryWhy_110 : decode cX1_centuryWhy 110 = .ok (.irem, 1) := dk_112 (dk_at dksX1_centuryWhy_4 14 rfl rfl)
theorem dX1_centuryWhy_111 : decode cX1_centuryWhy 111 = .ok (.iastore, 1) := dk_79 (dk_at dksX1_centuryWhy_4 15 rfl rfl)
theorem dX1_centuryWhy_112 : decode cX1_centuryWhy 112 = .ok (.bipush 75, 2) := dk_16 75 (dk_at dksX1_centuryWhy_4 16 rfl rfl)
theorem dX1_centuryWhy_114 : decode cX1_centuryWhy 114 = .ok (.iload 4, 2) := dk_21 4 (dk_at dksX1_centuryWhy_4 18 rfl rfl)
theorem dX1_centuryWhy_116 : decode cX1_centuryWhy 116 = .ok (.imul, 1) := dk_104 (dk_at dksX1_centuryWhy_4 20 rfl rfl)
theorem dX1_centuryWhy_117 : decode cX1_centuryWhy 117 = .ok (.bipush 74, 2) := dk_16 74 (dk_at dksX1_centuryWhy_4 21 rfl rfl)
theorem dX1_centuryWhy_119 : decode cX1_centuryWhy 119 = .ok (.iadd, 1) := dk_96 (dk_at dksX1_centuryWhy_4 23 rfl rfl)
theorem dX1_centuryWhy_120 : decode cX1_centuryWhy 120 = .ok (.ldc_w 290, 3) := dk_19 1 34 (dk_at dksX1_centuryWhy_5 0 rfl rfl)
theorem dX1_centuryWhy_123 : decode cX1_centuryWhy 123 = .ok (.irem, 1) := dk_112 (dk_at dksX1_centuryWhy_5 3 rfl rfl)
theorem dX1_centuryWhy_124 : decode cX1_centuryWhy 124 = .ok (.istore 4, 2) := dk_54 4 (dk_at dksX1_centuryWhy_5 4 rfl rfl)
theorem dX1_centuryWhy_126 : decode cX1_centuryWhy 126 = .ok (.aload_n 0, 1) := dk_42 (dk_at dksX1_centuryWhy_5 6 rfl rfl)
theorem dX1_centuryWhy_127 : decode cX1_centuryWhy 127 = .ok (.getfield 40, 3) := dk_180 0 40 (dk_at dksX1_centuryWhy_5 7 rfl rfl)
theorem dX1_centuryWhy_130 : decode cX1_centuryWhy 130 = .ok (.iload 4, 2) := dk_21 4 (dk_at dksX1_centuryWhy_5 10 rfl rfl)
theorem dX1_centuryWhy_132 : decode cX1_centuryWhy 132 = .ok (.bipush 100, 2) := dk_16 100 (dk_at dksX1_centuryWhy_5 12 rfl rfl)
theorem dX1_centuryWhy_134 : decode cX1_centuryWhy 134 = .ok (.irem, 1) := dk_112 (dk_at dksX1_centuryWhy_5 14 rfl rfl)
theorem dX1_centuryWhy_135 : decode cX1_centuryWhy 135 = .ok (.aload_n 0, 1) := dk_42 (dk_at dksX1_centuryWhy_5 15 rfl rfl)
theorem dX1_centuryWhy_136 : decode cX1_centuryWhy 136 = .ok (.getfield 102, 3) := dk_180 0 102 (dk_at dksX1_centuryWhy_5 16 rfl rfl)
theorem dX1_centuryWhy_139 : decode cX1_centuryWhy 139 = .ok (.getfield 291, 3) := dk_180 1 35 (dk_at dksX1_centuryWhy_5 19 rfl rfl)
theorem dX1_centuryWhy_142 : decode cX1_centuryWhy 142 = .ok (.if_icmp .ge 7, 3) := dk_162 0 7 (dk_at dksX1_centuryWhy_6 0 rfl rfl)
theorem dX1_centuryWhy_145 : decode cX1_centuryWhy 145 = .ok (.iconst 1, 1) := dk_4 (dk_at dksX1_centuryWhy_6 3 rfl rfl)
theorem dX1_centuryWhy_146 : decode cX1_centuryWhy 146 = .ok (.goto 4, 3) := dk_167 0 4 (dk_at dksX1_centuryWhy_6 4 rfl rfl)
theorem dX1_centuryWhy_149 : decode cX1_centuryWhy 149 = .ok (.iconst 0, 1) := dk_3 (dk_at dksX1_centuryWhy_6 7 rfl rfl)
theorem dX1_centuryWhy_150 : decode cX1_centuryWhy 150 = .ok (.invokevirtual 225, 3) := dk_182 0 225 (dk_at dksX1_centuryWhy_6 8 rfl rfl)
theorem dX1_centuryWhy_153 : decode cX1_centuryWhy 153 = .ok (.iinc 5 1, 3) := dk_132 5 1 (dk_at dksX1_centuryWhy_6 11 rfl rfl)
theorem dX1_centuryWhy_156 : decode cX1_centuryWhy 156 = .ok (.goto (-110), 3) := dk_167 255 146 (dk_at dksX1_centuryWhy_6 14 rfl rfl)
theorem dX1_centuryWhy_159 : decode cX1_centuryWhy 159 = .ok (.iconst 0, 1) := dk_3 (dk_at dksX1_centuryWhy_6 17 rfl rfl)
theorem dX1_centuryWhy_160 : decode cX1_centuryWhy 160 = .ok (.ireturn, 1) := dk_172 (dk_at dksX1_centuryWhy_6 18 rfl rfl)
abbrev cX1_untitled : ByteArray := prog_1_method_64_code
def yX1_untitled : MethodName := ⟨RX1, "untitled", "(II)I"⟩
def dkwX1_untitled_3 : List UInt8 := [3, 96, 54, 4, 132, 5, 1, 167, 255, 216, 21, 4, 172]
abbrev dktX1_untitled_3 : List UInt8 := dkwX1_untitled_3 ++ []
def dkwX1_untitled_2 : List UInt8 := [162, 0, 34, 21, 4, 42, 180, 0, 40, 180, 0, 158, 21, 5, 46, 16, 254, 160, 0, 7, 4, 167, 0, 4]
abbrev dktX1_untitled_2 : List UInt8 := dkwX1_untitled_2 ++ dktX1_untitled_3
def dkwX1_untitled_1 : List UInt8 := [153, 0, 9, 42, 29, 182, 0, 91, 172, 3, 54, 4, 3, 54, 5, 21, 5, 42, 180, 0, 102, 180, 0, 126]
abbrev dktX1_untitled_1 : List UInt8 := dkwX1_untitled_1 ++ dktX1_untitled_2
def dkwX1_untitled_0 : List UInt8 := [42, 182, 0, 77, 42, 42, 180, 0, 102, 198, 0, 7, 4, 167, 0, 4, 3, 27, 28, 182, 1, 38, 62, 29]
abbrev dktX1_untitled_0 : List UInt8 := dkwX1_untitled_0 ++ dktX1_untitled_1
theorem dksX1_untitled_0 : cX1_untitled.data.toList.drop 0 = dktX1_untitled_0 := by decide +kernel
theorem dksX1_untitled_1 : cX1_untitled.data.toList.drop 24 = dktX1_untitled_1 := dk_seg dksX1_untitled_0 24 rfl rfl
theorem dksX1_untitled_2 : cX1_untitled.data.toList.drop 48 = dktX1_untitled_2 := dk_seg dksX1_untitled_1 24 rfl rfl
theorem dksX1_untitled_3 : cX1_untitled.data.toList.drop 72 = dktX1_untitled_3 := dk_seg dksX1_untitled_2 24 rfl rfl
theorem dX1_untitled_0 : decode cX1_untitled 0 = .ok (.aload_n 0, 1) := dk_42 (dk_at dksX1_untitled_0 0 rfl rfl)
theorem dX1_untitled_1 : decode cX1_untitled 1 = .ok (.invokevirtual 77, 3) := dk_182 0 77 (dk_at dksX1_untitled_0 1 rfl rfl)
theorem dX1_untitled_4 : decode cX1_untitled 4 = .ok (.aload_n 0, 1) := dk_42 (dk_at dksX1_untitled_0 4 rfl rfl)
theorem dX1_untitled_5 : decode cX1_untitled 5 = .ok (.aload_n 0, 1) := dk_42 (dk_at dksX1_untitled_0 5 rfl rfl)
theorem dX1_untitled_6 : decode cX1_untitled 6 = .ok (.getfield 102, 3) := dk_180 0 102 (dk_at dksX1_untitled_0 6 rfl rfl)
theorem dX1_untitled_9 : decode cX1_untitled 9 = .ok (.ifnull 7, 3) := dk_198 0 7 (dk_at dksX1_untitled_0 9 rfl rfl)
theorem dX1_untitled_12 : decode cX1_untitled 12 = .ok (.iconst 1, 1) := dk_4 (dk_at dksX1_untitled_0 12 rfl rfl)
theorem dX1_untitled_13 : decode cX1_untitled 13 = .ok (.goto 4, 3) := dk_167 0 4 (dk_at dksX1_untitled_0 13 rfl rfl)
theorem dX1_untitled_16 : decode cX1_untitled 16 = .ok (.iconst 0, 1) := dk_3 (dk_at dksX1_untitled_0 16 rfl rfl)
theorem dX1_untitled_17 : decode cX1_untitled 17 = .ok (.iload_n 1, 1) := dk_27 (dk_at dksX1_untitled_0 17 rfl rfl)
theorem dX1_untitled_18 : decode cX1_untitled 18 = .ok (.iload_n 2, 1) := dk_28 (dk_at dksX1_untitled_0 18 rfl rfl)
theorem dX1_untitled_19 : decode cX1_untitled 19 = .ok (.invokevirtual 294, 3) := dk_182 1 38 (dk_at dksX1_untitled_0 19 rfl rfl)
theorem dX1_untitled_22 : decode cX1_untitled 22 = .ok (.istore_n 3, 1) := dk_62 (dk_at dksX1_untitled_0 22 rfl rfl)
theorem dX1_untitled_23 : decode cX1_untitled 23 = .ok (.iload_n 3, 1) := dk_29 (dk_at dksX1_untitled_0 23 rfl rfl)
theorem dX1_untitled_24 : decode cX1_untitled 24 = .ok (.ifCond .eq 9, 3) := dk_153 0 9 (dk_at dksX1_untitled_1 0 rfl rfl)
theorem dX1_untitled_27 : decode cX1_untitled 27 = .ok (.aload_n 0, 1) := dk_42 (dk_at dksX1_untitled_1 3 rfl rfl)
theorem dX1_untitled_28 : decode cX1_untitled 28 = .ok (.iload_n 3, 1) := dk_29 (dk_at dksX1_untitled_1 4 rfl rfl)
theorem dX1_untitled_29 : decode cX1_untitled 29 = .ok (.invokevirtual 91, 3) := dk_182 0 91 (dk_at dksX1_untitled_1 5 rfl rfl)
theorem dX1_untitled_32 : decode cX1_untitled 32 = .ok (.ireturn, 1) := dk_172 (dk_at dksX1_untitled_1 8 rfl rfl)
theorem dX1_untitled_33 : decode cX1_untitled 33 = .ok (.iconst 0, 1) := dk_3 (dk_at dksX1_untitled_1 9 rfl rfl)
theorem dX1_untitled_34 : decode cX1_untitled 34 = .ok (.istore 4, 2) := dk_54 4 (dk_at dksX1_untitled_1 10 rfl rfl)
theorem dX1_untitled_36 : decode cX1_untitled 36 = .ok (.iconst 0, 1) := dk_3 (dk_at dksX1_untitled_1 12 rfl rfl)
theorem dX1_untitled_37 : decode cX1_untitled 37 = .ok (.istore 5, 2) := dk_54 5 (dk_at dksX1_untitled_1 13 rfl rfl)
theorem dX1_untitled_39 : decode cX1_untitled 39 = .ok (.iload 5, 2) := dk_21 5 (dk_at dksX1_untitled_1 15 rfl rfl)
theorem dX1_untitled_41 : decode cX1_untitled 41 = .ok (.aload_n 0, 1) := dk_42 (dk_at dksX1_untitled_1 17 rfl rfl)
theorem dX1_untitled_42 : decode cX1_untitled 42 = .ok (.getfield 102, 3) := dk_180 0 102 (dk_at dksX1_untitled_1 18 rfl rfl)
theorem dX1_untitled_45 : decode cX1_untitled 45 = .ok (.getfield 126, 3) := dk_180 0 126 (dk_at dksX1_untitled_1 21 rfl rfl)
theorem dX1_untitled_48 : decode cX1_untitled 48 = .ok (.if_icmp .ge 34, 3) := dk_162 0 34 (dk_at dksX1_untitled_2 0 rfl rfl)
theorem dX1_untitled_51 : decode cX1_untitled 51 = .ok (.iload 4, 2) := dk_21 4 (dk_at dksX1_untitled_2 3 rfl rfl)
theorem dX1_untitled_53 : decode cX1_untitled 53 = .ok (.aload_n 0, 1) := dk_42 (dk_at dksX1_untitled_2 5 rfl rfl)
theorem dX1_untitled_54 : decode cX1_untitled 54 = .ok (.getfield 40, 3) := dk_180 0 40 (dk_at dksX1_untitled_2 6 rfl rfl)
theorem dX1_untitled_57 : decode cX1_untitled 57 = .ok (.getfield 158, 3) := dk_180 0 158 (dk_at dksX1_untitled_2 9 rfl rfl)
theorem dX1_untitled_60 : decode cX1_untitled 60 = .ok (.iload 5, 2) := dk_21 5 (dk_at dksX1_untitled_2 12 rfl rfl)
theorem dX1_untitled_62 : decode cX1_untitled 62 = .ok (.iaload, 1) := dk_46 (dk_at dksX1_untitled_2 14 rfl rfl)
theorem dX1_untitled_63 : decode cX1_untitled 63 = .ok (.bipush (-2), 2) := dk_16 254 (dk_at dksX1_untitled_2 15 rfl rfl)
theorem dX1_untitled_65 : decode cX1_untitled 65 = .ok (.if_icmp .ne 7, 3) := dk_160 0 7 (dk_at dksX1_untitled_2 17 rfl rfl)
theorem dX1_untitled_68 : decode cX1_untitled 68 = .ok (.iconst 1, 1) := dk_4 (dk_at dksX1_untitled_2 20 rfl rfl)
theorem dX1_untitled_69 : decode cX1_untitled 69 = .ok (.goto 4, 3) := dk_167 0 4 (dk_at dksX1_untitled_2 21 rfl rfl)
theorem dX1_untitled_72 : decode cX1_untitled 72 = .ok (.iconst 0, 1) := dk_3 (dk_at dksX1_untitled_3 0 rfl rfl)
theorem dX1_untitled_73 : decode cX1_untitled 73 = .ok (.iadd, 1) := dk_96 (dk_at dksX1_untitled_3 1 rfl rfl)
theorem dX1_untitled_74 : decode cX1_untitled 74 = .ok (.istore 4, 2) := dk_54 4 (dk_at dksX1_untitled_3 2 rfl rfl)
theorem dX1_untitled_76 : decode cX1_untitled 76 = .ok (.iinc 5 1, 3) := dk_132 5 1 (dk_at dksX1_untitled_3 4 rfl rfl)
theorem dX1_untitled_79 : decode cX1_untitled 79 = .ok (.goto (-40), 3) := dk_167 255 216 (dk_at dksX1_untitled_3 7 rfl rfl)
theorem dX1_untitled_82 : decode cX1_untitled 82 = .ok (.iload 4, 2) := dk_21 4 (dk_at dksX1_untitled_3 10 rfl rfl)
theorem dX1_untitled_84 : decode cX1_untitled 84 = .ok (.ireturn, 1) := dk_172 (dk_at dksX1_untitled_3 12 rfl rfl)
abbrev cX1_lend : ByteArray := prog_1_method_67_code
def yX1_lend : MethodName := ⟨RX1, "lend", "(II)Z"⟩
def dkwX1_lend_2 : List UInt8 := [172, 42, 182, 1, 45, 42, 180, 0, 33, 180, 0, 154, 27, 28, 79, 42, 182, 1, 48, 172]
abbrev dktX1_lend_2 : List UInt8 := dkwX1_lend_2 ++ []
def dkwX1_lend_1 : List UInt8 := [180, 0, 33, 180, 0, 154, 27, 46, 28, 160, 0, 7, 8, 167, 0, 4, 3, 182, 1, 42, 154, 0, 5, 3]
abbrev dktX1_lend_1 : List UInt8 := dkwX1_lend_1 ++ dktX1_lend_2
def dkwX1_lend_0 : List UInt8 := [42, 42, 27, 182, 0, 134, 153, 0, 11, 42, 28, 182, 0, 161, 154, 0, 7, 4, 167, 0, 21, 42]
abbrev dktX1_lend_0 : List UInt8 := dkwX1_lend_0 ++ dktX1_lend_1
theorem dksX1_lend_0 : cX1_lend.data.toList.drop 0 = dktX1_lend_0 := by decide +kernel
theorem dksX1_lend_1 : cX1_lend.data.toList.drop 22 = dktX1_lend_1 := dk_seg dksX1_lend_0 22 rfl rfl
theorem dksX1_lend_2 : cX1_lend.data.toList.drop 46 = dktX1_lend_2 := dk_seg dksX1_lend_1 24 rfl rfl
theorem dX1_lend_0 : decode cX1_lend 0 = .ok (.aload_n 0, 1) := dk_42 (dk_at dksX1_lend_0 0 rfl rfl)
theorem dX1_lend_1 : decode cX1_lend 1 = .ok (.aload_n 0, 1) := dk_42 (dk_at dksX1_lend_0 1 rfl rfl)
theorem dX1_lend_2 : decode cX1_lend 2 = .ok (.iload_n 1, 1) := dk_27 (dk_at dksX1_lend_0 2 rfl rfl)
theorem dX1_lend_3 : decode cX1_lend 3 = .ok (.invokevirtual 134, 3) := dk_182 0 134 (dk_at dksX1_lend_0 3 rfl rfl)
theorem dX1_lend_6 : decode cX1_lend 6 = .ok (.ifCond .eq 11, 3) := dk_153 0 11 (dk_at dksX1_lend_0 6 rfl rfl)
theorem dX1_lend_9 : decode cX1_lend 9 = .ok (.aload_n 0, 1) := dk_42 (dk_at dksX1_lend_0 9 rfl rfl)
theorem dX1_lend_10 : decode cX1_lend 10 = .ok (.iload_n 2, 1) := dk_28 (dk_at dksX1_lend_0 10 rfl rfl)
theorem dX1_lend_11 : decode cX1_lend 11 = .ok (.invokevirtual 161, 3) := dk_182 0 161 (dk_at dksX1_lend_0 11 rfl rfl)
theorem dX1_lend_14 : decode cX1_lend 14 = .ok (.ifCond .ne 7, 3) := dk_154 0 7 (dk_at dksX1_lend_0 14 rfl rfl)
theorem dX1_lend_17 : decode cX1_lend 17 = .ok (.iconst 1, 1) := dk_4 (dk_at dksX1_lend_0 17 rfl rfl)
theorem dX1_lend_18 : decode cX1_lend 18 = .ok (.goto 21, 3) := dk_167 0 21 (dk_at dksX1_lend_0 18 rfl rfl)
theorem dX1_lend_21 : decode cX1_lend 21 = .ok (.aload_n 0, 1) := dk_42 (dk_at dksX1_lend_0 21 rfl rfl)
theorem dX1_lend_22 : decode cX1_lend 22 = .ok (.getfield 33, 3) := dk_180 0 33 (dk_at dksX1_lend_1 0 rfl rfl)
theorem dX1_lend_25 : decode cX1_lend 25 = .ok (.getfield 154, 3) := dk_180 0 154 (dk_at dksX1_lend_1 3 rfl rfl)
theorem dX1_lend_28 : decode cX1_lend 28 = .ok (.iload_n 1, 1) := dk_27 (dk_at dksX1_lend_1 6 rfl rfl)
theorem dX1_lend_29 : decode cX1_lend 29 = .ok (.iaload, 1) := dk_46 (dk_at dksX1_lend_1 7 rfl rfl)
theorem dX1_lend_30 : decode cX1_lend 30 = .ok (.iload_n 2, 1) := dk_28 (dk_at dksX1_lend_1 8 rfl rfl)
theorem dX1_lend_31 : decode cX1_lend 31 = .ok (.if_icmp .ne 7, 3) := dk_160 0 7 (dk_at dksX1_lend_1 9 rfl rfl)
theorem dX1_lend_34 : decode cX1_lend 34 = .ok (.iconst 5, 1) := dk_8 (dk_at dksX1_lend_1 12 rfl rfl)
theorem dX1_lend_35 : decode cX1_lend 35 = .ok (.goto 4, 3) := dk_167 0 4 (dk_at dksX1_lend_1 13 rfl rfl)
theorem dX1_lend_38 : decode cX1_lend 38 = .ok (.iconst 0, 1) := dk_3 (dk_at dksX1_lend_1 16 rfl rfl)
theorem dX1_lend_39 : decode cX1_lend 39 = .ok (.invokevirtual 298, 3) := dk_182 1 42 (dk_at dksX1_lend_1 17 rfl rfl)
theorem dX1_lend_42 : decode cX1_lend 42 = .ok (.ifCond .ne 5, 3) := dk_154 0 5 (dk_at dksX1_lend_1 20 rfl rfl)
theorem dX1_lend_45 : decode cX1_lend 45 = .ok (.iconst 0, 1) := dk_3 (dk_at dksX1_lend_1 23 rfl rfl)
theorem dX1_lend_46 : decode cX1_lend 46 = .ok (.ireturn, 1) := dk_172 (dk_at dksX1_lend_2 0 rfl rfl)
theorem dX1_lend_47 : decode cX1_lend 47 = .ok (.aload_n 0, 1) := dk_42 (dk_at dksX1_lend_2 1 rfl rfl)
theorem dX1_lend_48 : decode cX1_lend 48 = .ok (.invokevirtual 301, 3) := dk_182 1 45 (dk_at dksX1_lend_2 2 rfl rfl)
theorem dX1_lend_51 : decode cX1_lend 51 = .ok (.aload_n 0, 1) := dk_42 (dk_at dksX1_lend_2 5 rfl rfl)
theorem dX1_lend_52 : decode cX1_lend 52 = .ok (.getfield 33, 3) := dk_180 0 33 (dk_at dksX1_lend_2 6 rfl rfl)
theorem dX1_lend_55 : decode cX1_lend 55 = .ok (.getfield 154, 3) := dk_180 0 154 (dk_at dksX1_lend_2 9 rfl rfl)
theorem dX1_lend_58 : decode cX1_lend 58 = .ok (.iload_n 1, 1) := dk_27 (dk_at dksX1_lend_2 12 rfl rfl)
theorem dX1_lend_59 : decode cX1_lend 59 = .ok (.iload_n 2, 1) := dk_28 (dk_at dksX1_lend_2 13 rfl rfl)
theorem dX1_lend_60 : decode cX1_lend 60 = .ok (.iastore, 1) := dk_79 (dk_at dksX1_lend_2 14 rfl rfl)
theorem dX1_lend_61 : decode cX1_lend 61 = .ok (.aload_n 0, 1) := dk_42 (dk_at dksX1_lend_2 15 rfl rfl)
theorem dX1_lend_62 : decode cX1_lend 62 = .ok (.invokevirtual 304, 3) := dk_182 1 48 (dk_at dksX1_lend_2 16 rfl rfl)
theorem dX1_lend_65 : decode cX1_lend 65 = .ok (.ireturn, 1) := dk_172 (dk_at dksX1_lend_2 19 rfl rfl)
abbrev cX1_yes : ByteArray := prog_1_method_9_code
def yX1_yes : MethodName := ⟨RX1, "yes", "(I)Z"⟩
def dkwX1_yes_0 : List UInt8 := [42, 182, 0, 77, 42, 27, 181, 0, 74, 27, 154, 0, 7, 4, 167, 0, 4, 3, 172]
abbrev dktX1_yes_0 : List UInt8 := dkwX1_yes_0 ++ []
theorem dksX1_yes_0 : cX1_yes.data.toList.drop 0 = dktX1_yes_0 := by decide +kernel
theorem dX1_yes_0 : decode cX1_yes 0 = .ok (.aload_n 0, 1) := dk_42 (dk_at dksX1_yes_0 0 rfl rfl)
theorem dX1_yes_1 : decode cX1_yes 1 = .ok (.invokevirtual 77, 3) := dk_182 0 77 (dk_at dksX1_yes_0 1 rfl rfl)
theorem dX1_yes_4 : decode cX1_yes 4 = .ok (.aload_n 0, 1) := dk_42 (dk_at dksX1_yes_0 4 rfl rfl)
theorem dX1_yes_5 : decode cX1_yes 5 = .ok (.iload_n 1, 1) := dk_27 (dk_at dksX1_yes_0 5 rfl rfl)
theorem dX1_yes_6 : decode cX1_yes 6 = .ok (.putfield 74, 3) := dk_181 0 74 (dk_at dksX1_yes_0 6 rfl rfl)
theorem dX1_yes_9 : decode cX1_yes 9 = .ok (.iload_n 1, 1) := dk_27 (dk_at dksX1_yes_0 9 rfl rfl)
theorem dX1_yes_10 : decode cX1_yes 10 = .ok (.ifCond .ne 7, 3) := dk_154 0 7 (dk_at dksX1_yes_0 10 rfl rfl)
theorem dX1_yes_13 : decode cX1_yes 13 = .ok (.iconst 1, 1) := dk_4 (dk_at dksX1_yes_0 13 rfl rfl)
theorem dX1_yes_14 : decode cX1_yes 14 = .ok (.goto 4, 3) := dk_167 0 4 (dk_at dksX1_yes_0 14 rfl rfl)
theorem dX1_yes_17 : decode cX1_yes 17 = .ok (.iconst 0, 1) := dk_3 (dk_at dksX1_yes_0 17 rfl rfl)
theorem dX1_yes_18 : decode cX1_yes 18 = .ok (.ireturn, 1) := dk_172 (dk_at dksX1_yes_0 18 rfl rfl)
abbrev cX1_note : ByteArray := prog_1_method_65_code
def yX1_note : MethodName := ⟨RX1, "note", "()V"⟩
def dkwX1_note_0 : List UInt8 := [42, 180, 0, 37, 42, 180, 0, 33, 182, 0, 221, 177]
abbrev dktX1_note_0 : List UInt8 := dkwX1_note_0 ++ []
theorem dksX1_note_0 : cX1_note.data.toList.drop 0 = dktX1_note_0 := by decide +kernel
theorem dX1_note_0 : decode cX1_note 0 = .ok (.aload_n 0, 1) := dk_42 (dk_at dksX1_note_0 0 rfl rfl)
theorem dX1_note_1 : decode cX1_note 1 = .ok (.getfield 37, 3) := dk_180 0 37 (dk_at dksX1_note_0 1 rfl rfl)
theorem dX1_note_4 : decode cX1_note 4 = .ok (.aload_n 0, 1) := dk_42 (dk_at dksX1_note_0 4 rfl rfl)
theorem dX1_note_5 : decode cX1_note 5 = .ok (.getfield 33, 3) := dk_180 0 33 (dk_at dksX1_note_0 5 rfl rfl)
theorem dX1_note_8 : decode cX1_note 8 = .ok (.invokevirtual 221, 3) := dk_182 0 221 (dk_at dksX1_note_0 8 rfl rfl)
theorem dX1_note_11 : decode cX1_note 11 = .ok (.return_, 1) := dk_177 (dk_at dksX1_note_0 11 rfl rfl)
abbrev cX1_done : ByteArray := prog_1_method_66_code
def yX1_done : MethodName := ⟨RX1, "done", "()Z"⟩
def dkwX1_done_3 : List UInt8 := [180, 0, 37, 182, 0, 221, 42, 89, 180, 0, 120, 4, 96, 181, 0, 120, 4, 172]
abbrev dktX1_done_3 : List UInt8 := dkwX1_done_3 ++ []
def dkwX1_done_2 : List UInt8 := [16, 15, 43, 83, 42, 89, 180, 0, 120, 4, 100, 181, 0, 120, 42, 180, 0, 67, 42, 180, 0, 120, 50, 42]
abbrev dktX1_done_2 : List UInt8 := dkwX1_done_2 ++ dktX1_done_3
def dkwX1_done_1 : List UInt8 := [42, 180, 0, 67, 28, 4, 100, 42, 180, 0, 67, 28, 50, 83, 132, 2, 1, 167, 255, 233, 42, 180, 0, 67]
abbrev dktX1_done_1 : List UInt8 := dkwX1_done_1 ++ dktX1_done_2
def dkwX1_done_0 : List UInt8 := [42, 180, 0, 120, 16, 16, 160, 0, 56, 42, 180, 0, 67, 3, 50, 76, 4, 61, 28, 16, 16, 162, 0, 23]
abbrev dktX1_done_0 : List UInt8 := dkwX1_done_0 ++ dktX1_done_1
theorem dksX1_done_0 : cX1_done.data.toList.drop 0 = dktX1_done_0 := by decide +kernel
theorem dksX1_done_1 : cX1_done.data.toList.drop 24 = dktX1_done_1 := dk_seg dksX1_done_0 24 rfl rfl
theorem dksX1_done_2 : cX1_done.data.toList.drop 48 = dktX1_done_2 := dk_seg dksX1_done_1 24 rfl rfl
theorem dksX1_done_3 : cX1_done.data.toList.drop 72 = dktX1_done_3 := dk_seg dksX1_done_2 24 rfl rfl
theorem dX1_done_0 : decode cX1_done 0 = .ok (.aload_n 0, 1) := dk_42 (dk_at dksX1_done_0 0 rfl rfl)
theorem dX1_done_1 : decode cX1_done 1 = .ok (.getfield 120, 3) := dk_180 0 120 (dk_at dksX1_done_0 1 rfl rfl)
theorem dX1_done_4 : decode cX1_done 4 = .ok (.bipush 16, 2) := dk_16 16 (dk_at dksX1_done_0 4 rfl rfl)
theorem dX1_done_6 : decode cX1_done 6 = .ok (.if_icmp .ne 56, 3) := dk_160 0 56 (dk_at dksX1_done_0 6 rfl rfl)
theorem dX1_done_9 : decode cX1_done 9 = .ok (.aload_n 0, 1) := dk_42 (dk_at dksX1_done_0 9 rfl rfl)
theorem dX1_done_10 : decode cX1_done 10 = .ok (.getfield 67, 3) := dk_180 0 67 (dk_at dksX1_done_0 10 rfl rfl)
theorem dX1_done_13 : decode cX1_done 13 = .ok (.iconst 0, 1) := dk_3 (dk_at dksX1_done_0 13 rfl rfl)
theorem dX1_done_14 : decode cX1_done 14 = .ok (.aaload, 1) := dk_50 (dk_at dksX1_done_0 14 rfl rfl)
theorem dX1_done_15 : decode cX1_done 15 = .ok (.astore_n 1, 1) := dk_76 (dk_at dksX1_done_0 15 rfl rfl)
theorem dX1_done_16 : decode cX1_done 16 = .ok (.iconst 1, 1) := dk_4 (dk_at dksX1_done_0 16 rfl rfl)
theorem dX1_done_17 : decode cX1_done 17 = .ok (.istore_n 2, 1) := dk_61 (dk_at dksX1_done_0 17 rfl rfl)
theorem dX1_done_18 : decode cX1_done 18 = .ok (.iload_n 2, 1) := dk_28 (dk_at dksX1_done_0 18 rfl rfl)
theorem dX1_done_19 : decode cX1_done 19 = .ok (.bipush 16, 2) := dk_16 16 (dk_at dksX1_done_0 19 rfl rfl)
theorem dX1_done_21 : decode cX1_done 21 = .ok (.if_icmp .ge 23, 3) := dk_162 0 23 (dk_at dksX1_done_0 21 rfl rfl)
theorem dX1_done_24 : decode cX1_done 24 = .ok (.aload_n 0, 1) := dk_42 (dk_at dksX1_done_1 0 rfl rfl)
theorem dX1_done_25 : decode cX1_done 25 = .ok (.getfield 67, 3) := dk_180 0 67 (dk_at dksX1_done_1 1 rfl rfl)
theorem dX1_done_28 : decode cX1_done 28 = .ok (.iload_n 2, 1) := dk_28 (dk_at dksX1_done_1 4 rfl rfl)
theorem dX1_done_29 : decode cX1_done 29 = .ok (.iconst 1, 1) := dk_4 (dk_at dksX1_done_1 5 rfl rfl)
theorem dX1_done_30 : decode cX1_done 30 = .ok (.isub, 1) := dk_100 (dk_at dksX1_done_1 6 rfl rfl)
theorem dX1_done_31 : decode cX1_done 31 = .ok (.aload_n 0, 1) := dk_42 (dk_at dksX1_done_1 7 rfl rfl)
theorem dX1_done_32 : decode cX1_done 32 = .ok (.getfield 67, 3) := dk_180 0 67 (dk_at dksX1_done_1 8 rfl rfl)
theorem dX1_done_35 : decode cX1_done 35 = .ok (.iload_n 2, 1) := dk_28 (dk_at dksX1_done_1 11 rfl rfl)
theorem dX1_done_36 : decode cX1_done 36 = .ok (.aaload, 1) := dk_50 (dk_at dksX1_done_1 12 rfl rfl)
theorem dX1_done_37 : decode cX1_done 37 = .ok (.aastore, 1) := dk_83 (dk_at dksX1_done_1 13 rfl rfl)
theorem dX1_done_38 : decode cX1_done 38 = .ok (.iinc 2 1, 3) := dk_132 2 1 (dk_at dksX1_done_1 14 rfl rfl)
theorem dX1_done_41 : decode cX1_done 41 = .ok (.goto (-23), 3) := dk_167 255 233 (dk_at dksX1_done_1 17 rfl rfl)
theorem dX1_done_44 : decode cX1_done 44 = .ok (.aload_n 0, 1) := dk_42 (dk_at dksX1_done_1 20 rfl rfl)
theorem dX1_done_45 : decode cX1_done 45 = .ok (.getfield 67, 3) := dk_180 0 67 (dk_at dksX1_done_1 21 rfl rfl)
theorem dX1_done_48 : decode cX1_done 48 = .ok (.bipush 15, 2) := dk_16 15 (dk_at dksX1_done_2 0 rfl rfl)
theorem dX1_done_50 : decode cX1_done 50 = .ok (.aload_n 1, 1) := dk_43 (dk_at dksX1_done_2 2 rfl rfl)
theorem dX1_done_51 : decode cX1_done 51 = .ok (.aastore, 1) := dk_83 (dk_at dksX1_done_2 3 rfl rfl)
theorem dX1_done_52 : decode cX1_done 52 = .ok (.aload_n 0, 1) := dk_42 (dk_at dksX1_done_2 4 rfl rfl)
theorem dX1_done_53 : decode cX1_done 53 = .ok (.dup, 1) := dk_89 (dk_at dksX1_done_2 5 rfl rfl)
theorem dX1_done_54 : decode cX1_done 54 = .ok (.getfield 120, 3) := dk_180 0 120 (dk_at dksX1_done_2 6 rfl rfl)
theorem dX1_done_57 : decode cX1_done 57 = .ok (.iconst 1, 1) := dk_4 (dk_at dksX1_done_2 9 rfl rfl)
theorem dX1_done_58 : decode cX1_done 58 = .ok (.isub, 1) := dk_100 (dk_at dksX1_done_2 10 rfl rfl)
theorem dX1_done_59 : decode cX1_done 59 = .ok (.putfield 120, 3) := dk_181 0 120 (dk_at dksX1_done_2 11 rfl rfl)
theorem dX1_done_62 : decode cX1_done 62 = .ok (.aload_n 0, 1) := dk_42 (dk_at dksX1_done_2 14 rfl rfl)
theorem dX1_done_63 : decode cX1_done 63 = .ok (.getfield 67, 3) := dk_180 0 67 (dk_at dksX1_done_2 15 rfl rfl)
theorem dX1_done_66 : decode cX1_done 66 = .ok (.aload_n 0, 1) := dk_42 (dk_at dksX1_done_2 18 rfl rfl)
theorem dX1_done_67 : decode cX1_done 67 = .ok (.getfield 120, 3) := dk_180 0 120 (dk_at dksX1_done_2 19 rfl rfl)
theorem dX1_done_70 : decode cX1_done 70 = .ok (.aaload, 1) := dk_50 (dk_at dksX1_done_2 22 rfl rfl)
theorem dX1_done_71 : decode cX1_done 71 = .ok (.aload_n 0, 1) := dk_42 (dk_at dksX1_done_2 23 rfl rfl)
theorem dX1_done_72 : decode cX1_done 72 = .ok (.getfield 37, 3) := dk_180 0 37 (dk_at dksX1_done_3 0 rfl rfl)
theorem dX1_done_75 : decode cX1_done 75 = .ok (.invokevirtual 221, 3) := dk_182 0 221 (dk_at dksX1_done_3 3 rfl rfl)
theorem dX1_done_78 : decode cX1_done 78 = .ok (.aload_n 0, 1) := dk_42 (dk_at dksX1_done_3 6 rfl rfl)
theorem dX1_done_79 : decode cX1_done 79 = .ok (.dup, 1) := dk_89 (dk_at dksX1_done_3 7 rfl rfl)
theorem dX1_done_80 : decode cX1_done 80 = .ok (.getfield 120, 3) := dk_180 0 120 (dk_at dksX1_done_3 8 rfl rfl)
theorem dX1_done_83 : decode cX1_done 83 = .ok (.iconst 1, 1) := dk_4 (dk_at dksX1_done_3 11 rfl rfl)
theorem dX1_done_84 : decode cX1_done 84 = .ok (.iadd, 1) := dk_96 (dk_at dksX1_done_3 12 rfl rfl)
theorem dX1_done_85 : decode cX1_done 85 = .ok (.putfield 120, 3) := dk_181 0 120 (dk_at dksX1_done_3 13 rfl rfl)
theorem dX1_done_88 : decode cX1_done 88 = .ok (.iconst 1, 1) := dk_4 (dk_at dksX1_done_3 16 rfl rfl)
theorem dX1_done_89 : decode cX1_done 89 = .ok (.ireturn, 1) := dk_172 (dk_at dksX1_done_3 17 rfl rfl)
abbrev cX1_leave : ByteArray := prog_1_method_68_code
def yX1_leave : MethodName := ⟨RX1, "leave", "(I)Z"⟩
def dkwX1_leave_2 : List UInt8 := [180, 0, 154, 27, 16, 254, 79, 42, 182, 1, 48, 172]
abbrev dktX1_leave_2 : List UInt8 := dkwX1_leave_2 ++ []
def dkwX1_leave_1 : List UInt8 := [160, 0, 7, 8, 167, 0, 4, 3, 182, 1, 42, 154, 0, 5, 3, 172, 42, 182, 1, 45, 42, 180, 0, 33]
abbrev dktX1_leave_1 : List UInt8 := dkwX1_leave_1 ++ dktX1_leave_2
def dkwX1_leave_0 : List UInt8 := [42, 42, 27, 182, 0, 134, 154, 0, 7, 4, 167, 0, 22, 42, 180, 0, 33, 180, 0, 154, 27, 46, 16, 254]
abbrev dktX1_leave_0 : List UInt8 := dkwX1_leave_0 ++ dktX1_leave_1
theorem dksX1_leave_0 : cX1_leave.data.toList.drop 0 = dktX1_leave_0 := by decide +kernel
theorem dksX1_leave_1 : cX1_leave.data.toList.drop 24 = dktX1_leave_1 := dk_seg dksX1_leave_0 24 rfl rfl
theorem dksX1_leave_2 : cX1_leave.data.toList.drop 48 = dktX1_leave_2 := dk_seg dksX1_leave_1 24 rfl rfl
theorem dX1_leave_0 : decode cX1_leave 0 = .ok (.aload_n 0, 1) := dk_42 (dk_at dksX1_leave_0 0 rfl rfl)
theorem dX1_leave_1 : decode cX1_leave 1 = .ok (.aload_n 0, 1) := dk_42 (dk_at dksX1_leave_0 1 rfl rfl)
theorem dX1_leave_2 : decode cX1_leave 2 = .ok (.iload_n 1, 1) := dk_27 (dk_at dksX1_leave_0 2 rfl rfl)
theorem dX1_leave_3 : decode cX1_leave 3 = .ok (.invokevirtual 134, 3) := dk_182 0 134 (dk_at dksX1_leave_0 3 rfl rfl)
theorem dX1_leave_6 : decode cX1_leave 6 = .ok (.ifCond .ne 7, 3) := dk_154 0 7 (dk_at dksX1_leave_0 6 rfl rfl)
theorem dX1_leave_9 : decode cX1_leave 9 = .ok (.iconst 1, 1) := dk_4 (dk_at dksX1_leave_0 9 rfl rfl)
theorem dX1_leave_10 : decode cX1_leave 10 = .ok (.goto 22, 3) := dk_167 0 22 (dk_at dksX1_leave_0 10 rfl rfl)
theorem dX1_leave_13 : decode cX1_leave 13 = .ok (.aload_n 0, 1) := dk_42 (dk_at dksX1_leave_0 13 rfl rfl)
theorem dX1_leave_14 : decode cX1_leave 14 = .ok (.getfield 33, 3) := dk_180 0 33 (dk_at dksX1_leave_0 14 rfl rfl)
theorem dX1_leave_17 : decode cX1_leave 17 = .ok (.getfield 154, 3) := dk_180 0 154 (dk_at dksX1_leave_0 17 rfl rfl)
theorem dX1_leave_20 : decode cX1_leave 20 = .ok (.iload_n 1, 1) := dk_27 (dk_at dksX1_leave_0 20 rfl rfl)
theorem dX1_leave_21 : decode cX1_leave 21 = .ok (.iaload, 1) := dk_46 (dk_at dksX1_leave_0 21 rfl rfl)
theorem dX1_leave_22 : decode cX1_leave 22 = .ok (.bipush (-2), 2) := dk_16 254 (dk_at dksX1_leave_0 22 rfl rfl)
theorem dX1_leave_24 : decode cX1_leave 24 = .ok (.if_icmp .ne 7, 3) := dk_160 0 7 (dk_at dksX1_leave_1 0 rfl rfl)
theorem dX1_leave_27 : decode cX1_leave 27 = .ok (.iconst 5, 1) := dk_8 (dk_at dksX1_leave_1 3 rfl rfl)
theorem dX1_leave_28 : decode cX1_leave 28 = .ok (.goto 4, 3) := dk_167 0 4 (dk_at dksX1_leave_1 4 rfl rfl)
theorem dX1_leave_31 : decode cX1_leave 31 = .ok (.iconst 0, 1) := dk_3 (dk_at dksX1_leave_1 7 rfl rfl)
theorem dX1_leave_32 : decode cX1_leave 32 = .ok (.invokevirtual 298, 3) := dk_182 1 42 (dk_at dksX1_leave_1 8 rfl rfl)
theorem dX1_leave_35 : decode cX1_leave 35 = .ok (.ifCond .ne 5, 3) := dk_154 0 5 (dk_at dksX1_leave_1 11 rfl rfl)
theorem dX1_leave_38 : decode cX1_leave 38 = .ok (.iconst 0, 1) := dk_3 (dk_at dksX1_leave_1 14 rfl rfl)
theorem dX1_leave_39 : decode cX1_leave 39 = .ok (.ireturn, 1) := dk_172 (dk_at dksX1_leave_1 15 rfl rfl)
theorem dX1_leave_40 : decode cX1_leave 40 = .ok (.aload_n 0, 1) := dk_42 (dk_at dksX1_leave_1 16 rfl rfl)
theorem dX1_leave_41 : decode cX1_leave 41 = .ok (.invokevirtual 301, 3) := dk_182 1 45 (dk_at dksX1_leave_1 17 rfl rfl)
theorem dX1_leave_44 : decode cX1_leave 44 = .ok (.aload_n 0, 1) := dk_42 (dk_at dksX1_leave_1 20 rfl rfl)
theorem dX1_leave_45 : decode cX1_leave 45 = .ok (.getfield 33, 3) := dk_180 0 33 (dk_at dksX1_leave_1 21 rfl rfl)
theorem dX1_leave_48 : decode cX1_leave 48 = .ok (.getfield 154, 3) := dk_180 0 154 (dk_at dksX1_leave_2 0 rfl rfl)
theorem dX1_leave_51 : decode cX1_leave 51 = .ok (.iload_n 1, 1) := dk_27 (dk_at dksX1_leave_2 3 rfl rfl)
theorem dX1_leave_52 : decode cX1_leave 52 = .ok (.bipush (-2), 2) := dk_16 254 (dk_at dksX1_leave_2 4 rfl rfl)
theorem dX1_leave_54 : decode cX1_leave 54 = .ok (.iastore, 1) := dk_79 (dk_at dksX1_leave_2 6 rfl rfl)
theorem dX1_leave_55 : decode cX1_leave 55 = .ok (.aload_n 0, 1) := dk_42 (dk_at dksX1_leave_2 7 rfl rfl)
theorem dX1_leave_56 : decode cX1_leave 56 = .ok (.invokevirtual 304, 3) := dk_182 1 48 (dk_at dksX1_leave_2 8 rfl rfl)
theorem dX1_leave_59 : decode cX1_leave 59 = .ok (.ireturn, 1) := dk_172 (dk_at dksX1_leave_2 11 rfl rfl)
abbrev cX1_exchange : ByteArray := prog_1_method_69_code
def yX1_exchange : MethodName := ⟨RX1, "exchange", "(II)Z"⟩
def dkwX1_exchange_3 : List UInt8 := [182, 1, 52, 42, 182, 1, 48, 172]
abbrev dktX1_exchange_3 : List UInt8 := dkwX1_exchange_3 ++ []
def dkwX1_exchange_2 : List UInt8 := [8, 167, 0, 4, 3, 182, 1, 42, 154, 0, 5, 3, 172, 42, 182, 1, 45, 42, 180, 0, 33, 27, 28]
abbrev dktX1_exchange_2 : List UInt8 := dkwX1_exchange_2 ++ dktX1_exchange_3
def dkwX1_exchange_1 : List UInt8 := [167, 0, 29, 42, 180, 0, 33, 180, 0, 154, 27, 46, 42, 180, 0, 33, 180, 0, 154, 28, 46, 160, 0, 7]
abbrev dktX1_exchange_1 : List UInt8 := dkwX1_exchange_1 ++ dktX1_exchange_2
def dkwX1_exchange_0 : List UInt8 := [42, 42, 27, 182, 0, 134, 153, 0, 16, 42, 28, 182, 0, 134, 153, 0, 8, 27, 28, 160, 0, 7, 4]
abbrev dktX1_exchange_0 : List UInt8 := dkwX1_exchange_0 ++ dktX1_exchange_1
theorem dksX1_exchange_0 : cX1_exchange.data.toList.drop 0 = dktX1_exchange_0 := by decide +kernel
theorem dksX1_exchange_1 : cX1_exchange.data.toList.drop 23 = dktX1_exchange_1 := dk_seg dksX1_exchange_0 23 rfl rfl
theorem dksX1_exchange_2 : cX1_exchange.data.toList.drop 47 = dktX1_exchange_2 := dk_seg dksX1_exchange_1 24 rfl rfl
theorem dksX1_exchange_3 : cX1_exchange.data.toList.drop 70 = dktX1_exchange_3 := dk_seg dksX1_exchange_2 23 rfl rfl
theorem dX1_exchange_0 : decode cX1_exchange 0 = .ok (.aload_n 0, 1) := dk_42 (dk_at dksX1_exchange_0 0 rfl rfl)
theorem dX1_exchange_1 : decode cX1_exchange 1 = .ok (.aload_n 0, 1) := dk_42 (dk_at dksX1_exchange_0 1 rfl rfl)
theorem dX1_exchange_2 : decode cX1_exchange 2 = .ok (.iload_n 1, 1) := dk_27 (dk_at dksX1_exchange_0 2 rfl rfl)
theorem dX1_exchange_3 : decode cX1_exchange 3 = .ok (.invokevirtual 134, 3) := dk_182 0 134 (dk_at dksX1_exchange_0 3 rfl rfl)
theorem dX1_exchange_6 : decode cX1_exchange 6 = .ok (.ifCond .eq 16, 3) := dk_153 0 16 (dk_at dksX1_exchange_0 6 rfl rfl)
theorem dX1_exchange_9 : decode cX1_exchange 9 = .ok (.aload_n 0, 1) := dk_42 (dk_at dksX1_exchange_0 9 rfl rfl)
theorem dX1_exchange_10 : decode cX1_exchange 10 = .ok (.iload_n 2, 1) := dk_28 (dk_at dksX1_exchange_0 10 rfl rfl)
theorem dX1_exchange_11 : decode cX1_exchange 11 = .ok (.invokevirtual 134, 3) := dk_182 0 134 (dk_at dksX1_exchange_0 11 rfl rfl)
theorem dX1_exchange_14 : decode cX1_exchange 14 = .ok (.ifCond .eq 8, 3) := dk_153 0 8 (dk_at dksX1_exchange_0 14 rfl rfl)
theorem dX1_exchange_17 : decode cX1_exchange 17 = .ok (.iload_n 1, 1) := dk_27 (dk_at dksX1_exchange_0 17 rfl rfl)
theorem dX1_exchange_18 : decode cX1_exchange 18 = .ok (.iload_n 2, 1) := dk_28 (dk_at dksX1_exchange_0 18 rfl rfl)
theorem dX1_exchange_19 : decode cX1_exchange 19 = .ok (.if_icmp .ne 7, 3) := dk_160 0 7 (dk_at dksX1_exchange_0 19 rfl rfl)
theorem dX1_exchange_22 : decode cX1_exchange 22 = .ok (.iconst 1, 1) := dk_4 (dk_at dksX1_exchange_0 22 rfl rfl)
theorem dX1_exchange_23 : decode cX1_exchange 23 = .ok (.goto 29, 3) := dk_167 0 29 (dk_at dksX1_exchange_1 0 rfl rfl)
theorem dX1_exchange_26 : decode cX1_exchange 26 = .ok (.aload_n 0, 1) := dk_42 (dk_at dksX1_exchange_1 3 rfl rfl)
theorem dX1_exchange_27 : decode cX1_exchange 27 = .ok (.getfield 33, 3) := dk_180 0 33 (dk_at dksX1_exchange_1 4 rfl rfl)
theorem dX1_exchange_30 : decode cX1_exchange 30 = .ok (.getfield 154, 3) := dk_180 0 154 (dk_at dksX1_exchange_1 7 rfl rfl)
theorem dX1_exchange_33 : decode cX1_exchange 33 = .ok (.iload_n 1, 1) := dk_27 (dk_at dksX1_exchange_1 10 rfl rfl)
theorem dX1_exchange_34 : decode cX1_exchange 34 = .ok (.iaload, 1) := dk_46 (dk_at dksX1_exchange_1 11 rfl rfl)
theorem dX1_exchange_35 : decode cX1_exchange 35 = .ok (.aload_n 0, 1) := dk_42 (dk_at dksX1_exchange_1 12 rfl rfl)
theorem dX1_exchange_36 : decode cX1_exchange 36 = .ok (.getfield 33, 3) := dk_180 0 33 (dk_at dksX1_exchange_1 13 rfl rfl)
theorem dX1_exchange_39 : decode cX1_exchange 39 = .ok (.getfield 154, 3) := dk_180 0 154 (dk_at dksX1_exchange_1 16 rfl rfl)
theorem dX1_exchange_42 : decode cX1_exchange 42 = .ok (.iload_n 2, 1) := dk_28 (dk_at dksX1_exchange_1 19 rfl rfl)
theorem dX1_exchange_43 : decode cX1_exchange 43 = .ok (.iaload, 1) := dk_46 (dk_at dksX1_exchange_1 20 rfl rfl)
theorem dX1_exchange_44 : decode cX1_exchange 44 = .ok (.if_icmp .ne 7, 3) := dk_160 0 7 (dk_at dksX1_exchange_1 21 rfl rfl)
theorem dX1_exchange_47 : decode cX1_exchange 47 = .ok (.iconst 5, 1) := dk_8 (dk_at dksX1_exchange_2 0 rfl rfl)
theorem dX1_exchange_48 : decode cX1_exchange 48 = .ok (.goto 4, 3) := dk_167 0 4 (dk_at dksX1_exchange_2 1 rfl rfl)
theorem dX1_exchange_51 : decode cX1_exchange 51 = .ok (.iconst 0, 1) := dk_3 (dk_at dksX1_exchange_2 4 rfl rfl)
theorem dX1_exchange_52 : decode cX1_exchange 52 = .ok (.invokevirtual 298, 3) := dk_182 1 42 (dk_at dksX1_exchange_2 5 rfl rfl)
theorem dX1_exchange_55 : decode cX1_exchange 55 = .ok (.ifCond .ne 5, 3) := dk_154 0 5 (dk_at dksX1_exchange_2 8 rfl rfl)
theorem dX1_exchange_58 : decode cX1_exchange 58 = .ok (.iconst 0, 1) := dk_3 (dk_at dksX1_exchange_2 11 rfl rfl)
theorem dX1_exchange_59 : decode cX1_exchange 59 = .ok (.ireturn, 1) := dk_172 (dk_at dksX1_exchange_2 12 rfl rfl)
theorem dX1_exchange_60 : decode cX1_exchange 60 = .ok (.aload_n 0, 1) := dk_42 (dk_at dksX1_exchange_2 13 rfl rfl)
theorem dX1_exchange_61 : decode cX1_exchange 61 = .ok (.invokevirtual 301, 3) := dk_182 1 45 (dk_at dksX1_exchange_2 14 rfl rfl)
theorem dX1_exchange_64 : decode cX1_exchange 64 = .ok (.aload_n 0, 1) := dk_42 (dk_at dksX1_exchange_2 17 rfl rfl)
theorem dX1_exchange_65 : decode cX1_exchange 65 = .ok (.getfield 33, 3) := dk_180 0 33 (dk_at dksX1_exchange_2 18 rfl rfl)
theorem dX1_exchange_68 : decode cX1_exchange 68 = .ok (.iload_n 1, 1) := dk_27 (dk_at dksX1_exchange_2 21 rfl rfl)
theorem dX1_exchange_69 : decode cX1_exchange 69 = .ok (.iload_n 2, 1) := dk_28 (dk_at dksX1_exchange_2 22 rfl rfl)
theorem dX1_exchange_70 : decode cX1_exchange 70 = .ok (.invokevirtual 308, 3) := dk_182 1 52 (dk_at dksX1_exchange_3 0 rfl rfl)
theorem dX1_exchange_73 : decode cX1_exchange 73 = .ok (.aload_n 0, 1) := dk_42 (dk_at dksX1_exchange_3 3 rfl rfl)
theorem dX1_exchange_74 : decode cX1_exchange 74 = .ok (.invokevirtual 304, 3) := dk_182 1 48 (dk_at dksX1_exchange_3 4 rfl rfl)
theorem dX1_exchange_77 : decode cX1_exchange 77 = .ok (.ireturn, 1) := dk_172 (dk_at dksX1_exchange_3 7 rfl rfl)
abbrev cX1_day : ByteArray := prog_1_method_70_code
def yX1_day : MethodName := ⟨RX1, "day", "(Z)I"⟩
def dkwX1_day_3 : List UInt8 := [160, 0, 7, 3, 167, 0, 4, 4, 96, 61, 132, 3, 1, 167, 255, 213, 28, 172]
abbrev dktX1_day_3 : List UInt8 := dkwX1_day_3 ++ []
def dkwX1_day_2 : List UInt8 := [162, 0, 38, 28, 42, 180, 0, 33, 180, 0, 158, 29, 46, 42, 180, 0, 37, 180, 0, 158, 29, 46]
abbrev dktX1_day_2 : List UInt8 := dkwX1_day_2 ++ dktX1_day_3
def dkwX1_day_1 : List UInt8 := [180, 0, 33, 27, 182, 0, 225, 42, 182, 1, 48, 87, 3, 61, 3, 62, 29, 42, 180, 0, 102, 180, 0, 126]
abbrev dktX1_day_1 : List UInt8 := dkwX1_day_1 ++ dktX1_day_2
def dkwX1_day_0 : List UInt8 := [42, 182, 0, 77, 42, 180, 0, 102, 199, 0, 9, 42, 4, 182, 0, 91, 172, 42, 182, 1, 45, 42]
abbrev dktX1_day_0 : List UInt8 := dkwX1_day_0 ++ dktX1_day_1
theorem dksX1_day_0 : cX1_day.data.toList.drop 0 = dktX1_day_0 := by decide +kernel
theorem dksX1_day_1 : cX1_day.data.toList.drop 22 = dktX1_day_1 := dk_seg dksX1_day_0 22 rfl rfl
theorem dksX1_day_2 : cX1_day.data.toList.drop 46 = dktX1_day_2 := dk_seg dksX1_day_1 24 rfl rfl
theorem dksX1_day_3 : cX1_day.data.toList.drop 68 = dktX1_day_3 := dk_seg dksX1_day_2 22 rfl rfl
theorem dX1_day_0 : decode cX1_day 0 = .ok (.aload_n 0, 1) := dk_42 (dk_at dksX1_day_0 0 rfl rfl)
theorem dX1_day_1 : decode cX1_day 1 = .ok (.invokevirtual 77, 3) := dk_182 0 77 (dk_at dksX1_day_0 1 rfl rfl)
theorem dX1_day_4 : decode cX1_day 4 = .ok (.aload_n 0, 1) := dk_42 (dk_at dksX1_day_0 4 rfl rfl)
theorem dX1_day_5 : decode cX1_day 5 = .ok (.getfield 102, 3) := dk_180 0 102 (dk_at dksX1_day_0 5 rfl rfl)
theorem dX1_day_8 : decode cX1_day 8 = .ok (.ifnonnull 9, 3) := dk_199 0 9 (dk_at dksX1_day_0 8 rfl rfl)
theorem dX1_day_11 : decode cX1_day 11 = .ok (.aload_n 0, 1) := dk_42 (dk_at dksX1_day_0 11 rfl rfl)
theorem dX1_day_12 : decode cX1_day 12 = .ok (.iconst 1, 1) := dk_4 (dk_at dksX1_day_0 12 rfl rfl)
theorem dX1_day_13 : decode cX1_day 13 = .ok (.invokevirtual 91, 3) := dk_182 0 91 (dk_at dksX1_day_0 13 rfl rfl)
theorem dX1_day_16 : decode cX1_day 16 = .ok (.ireturn, 1) := dk_172 (dk_at dksX1_day_0 16 rfl rfl)
theorem dX1_day_17 : decode cX1_day 17 = .ok (.aload_n 0, 1) := dk_42 (dk_at dksX1_day_0 17 rfl rfl)
theorem dX1_day_18 : decode cX1_day 18 = .ok (.invokevirtual 301, 3) := dk_182 1 45 (dk_at dksX1_day_0 18 rfl rfl)
theorem dX1_day_21 : decode cX1_day 21 = .ok (.aload_n 0, 1) := dk_42 (dk_at dksX1_day_0 21 rfl rfl)
theorem dX1_day_22 : decode cX1_day 22 = .ok (.getfield 33, 3) := dk_180 0 33 (dk_at dksX1_day_1 0 rfl rfl)
theorem dX1_day_25 : decode cX1_day 25 = .ok (.iload_n 1, 1) := dk_27 (dk_at dksX1_day_1 3 rfl rfl)
theorem dX1_day_26 : decode cX1_day 26 = .ok (.invokevirtual 225, 3) := dk_182 0 225 (dk_at dksX1_day_1 4 rfl rfl)
theorem dX1_day_29 : decode cX1_day 29 = .ok (.aload_n 0, 1) := dk_42 (dk_at dksX1_day_1 7 rfl rfl)
theorem dX1_day_30 : decode cX1_day 30 = .ok (.invokevirtual 304, 3) := dk_182 1 48 (dk_at dksX1_day_1 8 rfl rfl)
theorem dX1_day_33 : decode cX1_day 33 = .ok (.pop, 1) := dk_87 (dk_at dksX1_day_1 11 rfl rfl)
theorem dX1_day_34 : decode cX1_day 34 = .ok (.iconst 0, 1) := dk_3 (dk_at dksX1_day_1 12 rfl rfl)
theorem dX1_day_35 : decode cX1_day 35 = .ok (.istore_n 2, 1) := dk_61 (dk_at dksX1_day_1 13 rfl rfl)
theorem dX1_day_36 : decode cX1_day 36 = .ok (.iconst 0, 1) := dk_3 (dk_at dksX1_day_1 14 rfl rfl)
theorem dX1_day_37 : decode cX1_day 37 = .ok (.istore_n 3, 1) := dk_62 (dk_at dksX1_day_1 15 rfl rfl)
theorem dX1_day_38 : decode cX1_day 38 = .ok (.iload_n 3, 1) := dk_29 (dk_at dksX1_day_1 16 rfl rfl)
theorem dX1_day_39 : decode cX1_day 39 = .ok (.aload_n 0, 1) := dk_42 (dk_at dksX1_day_1 17 rfl rfl)
theorem dX1_day_40 : decode cX1_day 40 = .ok (.getfield 102, 3) := dk_180 0 102 (dk_at dksX1_day_1 18 rfl rfl)
theorem dX1_day_43 : decode cX1_day 43 = .ok (.getfield 126, 3) := dk_180 0 126 (dk_at dksX1_day_1 21 rfl rfl)
theorem dX1_day_46 : decode cX1_day 46 = .ok (.if_icmp .ge 38, 3) := dk_162 0 38 (dk_at dksX1_day_2 0 rfl rfl)
theorem dX1_day_49 : decode cX1_day 49 = .ok (.iload_n 2, 1) := dk_28 (dk_at dksX1_day_2 3 rfl rfl)
theorem dX1_day_50 : decode cX1_day 50 = .ok (.aload_n 0, 1) := dk_42 (dk_at dksX1_day_2 4 rfl rfl)
theorem dX1_day_51 : decode cX1_day 51 = .ok (.getfield 33, 3) := dk_180 0 33 (dk_at dksX1_day_2 5 rfl rfl)
theorem dX1_day_54 : decode cX1_day 54 = .ok (.getfield 158, 3) := dk_180 0 158 (dk_at dksX1_day_2 8 rfl rfl)
theorem dX1_day_57 : decode cX1_day 57 = .ok (.iload_n 3, 1) := dk_29 (dk_at dksX1_day_2 11 rfl rfl)
theorem dX1_day_58 : decode cX1_day 58 = .ok (.iaload, 1) := dk_46 (dk_at dksX1_day_2 12 rfl rfl)
theorem dX1_day_59 : decode cX1_day 59 = .ok (.aload_n 0, 1) := dk_42 (dk_at dksX1_day_2 13 rfl rfl)
theorem dX1_day_60 : decode cX1_day 60 = .ok (.getfield 37, 3) := dk_180 0 37 (dk_at dksX1_day_2 14 rfl rfl)
theorem dX1_day_63 : decode cX1_day 63 = .ok (.getfield 158, 3) := dk_180 0 158 (dk_at dksX1_day_2 17 rfl rfl)
theorem dX1_day_66 : decode cX1_day 66 = .ok (.iload_n 3, 1) := dk_29 (dk_at dksX1_day_2 20 rfl rfl)
theorem dX1_day_67 : decode cX1_day 67 = .ok (.iaload, 1) := dk_46 (dk_at dksX1_day_2 21 rfl rfl)
theorem dX1_day_68 : decode cX1_day 68 = .ok (.if_icmp .ne 7, 3) := dk_160 0 7 (dk_at dksX1_day_3 0 rfl rfl)
theorem dX1_day_71 : decode cX1_day 71 = .ok (.iconst 0, 1) := dk_3 (dk_at dksX1_day_3 3 rfl rfl)
theorem dX1_day_72 : decode cX1_day 72 = .ok (.goto 4, 3) := dk_167 0 4 (dk_at dksX1_day_3 4 rfl rfl)
theorem dX1_day_75 : decode cX1_day 75 = .ok (.iconst 1, 1) := dk_4 (dk_at dksX1_day_3 7 rfl rfl)
theorem dX1_day_76 : decode cX1_day 76 = .ok (.iadd, 1) := dk_96 (dk_at dksX1_day_3 8 rfl rfl)
theorem dX1_day_77 : decode cX1_day 77 = .ok (.istore_n 2, 1) := dk_61 (dk_at dksX1_day_3 9 rfl rfl)
theorem dX1_day_78 : decode cX1_day 78 = .ok (.iinc 3 1, 3) := dk_132 3 1 (dk_at dksX1_day_3 10 rfl rfl)
theorem dX1_day_81 : decode cX1_day 81 = .ok (.goto (-43), 3) := dk_167 255 213 (dk_at dksX1_day_3 13 rfl rfl)
theorem dX1_day_84 : decode cX1_day 84 = .ok (.iload_n 2, 1) := dk_28 (dk_at dksX1_day_3 16 rfl rfl)
theorem dX1_day_85 : decode cX1_day 85 = .ok (.ireturn, 1) := dk_172 (dk_at dksX1_day_3 17 rfl rfl)
abbrev cX1_undo : ByteArray := prog_1_method_71_code
def yX1_undo : MethodName := ⟨RX1, "undo", "()Z"⟩
def dkwX1_undo_2 : List UInt8 := [4, 172]
abbrev dktX1_undo_2 : List UInt8 := dkwX1_undo_2 ++ []
def dkwX1_undo_1 : List UInt8 := [180, 0, 120, 4, 100, 181, 0, 120, 42, 180, 0, 33, 42, 180, 0, 67, 42, 180, 0, 120, 50, 182, 0, 221]
abbrev dktX1_undo_1 : List UInt8 := dkwX1_undo_1 ++ dktX1_undo_2
def dkwX1_undo_0 : List UInt8 := [42, 42, 180, 0, 120, 154, 0, 8, 16, 6, 167, 0, 4, 3, 182, 1, 42, 154, 0, 5, 3, 172, 42, 89]
abbrev dktX1_undo_0 : List UInt8 := dkwX1_undo_0 ++ dktX1_undo_1
theorem dksX1_undo_0 : cX1_undo.data.toList.drop 0 = dktX1_undo_0 := by decide +kernel
theorem dksX1_undo_1 : cX1_undo.data.toList.drop 24 = dktX1_undo_1 := dk_seg dksX1_undo_0 24 rfl rfl
theorem dksX1_undo_2 : cX1_undo.data.toList.drop 48 = dktX1_undo_2 := dk_seg dksX1_undo_1 24 rfl rfl
theorem dX1_undo_0 : decode cX1_undo 0 = .ok (.aload_n 0, 1) := dk_42 (dk_at dksX1_undo_0 0 rfl rfl)
theorem dX1_undo_1 : decode cX1_undo 1 = .ok (.aload_n 0, 1) := dk_42 (dk_at dksX1_undo_0 1 rfl rfl)
theorem dX1_undo_2 : decode cX1_undo 2 = .ok (.getfield 120, 3) := dk_180 0 120 (dk_at dksX1_undo_0 2 rfl rfl)
theorem dX1_undo_5 : decode cX1_undo 5 = .ok (.ifCond .ne 8, 3) := dk_154 0 8 (dk_at dksX1_undo_0 5 rfl rfl)
theorem dX1_undo_8 : decode cX1_undo 8 = .ok (.bipush 6, 2) := dk_16 6 (dk_at dksX1_undo_0 8 rfl rfl)
theorem dX1_undo_10 : decode cX1_undo 10 = .ok (.goto 4, 3) := dk_167 0 4 (dk_at dksX1_undo_0 10 rfl rfl)
theorem dX1_undo_13 : decode cX1_undo 13 = .ok (.iconst 0, 1) := dk_3 (dk_at dksX1_undo_0 13 rfl rfl)
theorem dX1_undo_14 : decode cX1_undo 14 = .ok (.invokevirtual 298, 3) := dk_182 1 42 (dk_at dksX1_undo_0 14 rfl rfl)
theorem dX1_undo_17 : decode cX1_undo 17 = .ok (.ifCond .ne 5, 3) := dk_154 0 5 (dk_at dksX1_undo_0 17 rfl rfl)
theorem dX1_undo_20 : decode cX1_undo 20 = .ok (.iconst 0, 1) := dk_3 (dk_at dksX1_undo_0 20 rfl rfl)
theorem dX1_undo_21 : decode cX1_undo 21 = .ok (.ireturn, 1) := dk_172 (dk_at dksX1_undo_0 21 rfl rfl)
theorem dX1_undo_22 : decode cX1_undo 22 = .ok (.aload_n 0, 1) := dk_42 (dk_at dksX1_undo_0 22 rfl rfl)
theorem dX1_undo_23 : decode cX1_undo 23 = .ok (.dup, 1) := dk_89 (dk_at dksX1_undo_0 23 rfl rfl)
theorem dX1_undo_24 : decode cX1_undo 24 = .ok (.getfield 120, 3) := dk_180 0 120 (dk_at dksX1_undo_1 0 rfl rfl)
theorem dX1_undo_27 : decode cX1_undo 27 = .ok (.iconst 1, 1) := dk_4 (dk_at dksX1_undo_1 3 rfl rfl)
theorem dX1_undo_28 : decode cX1_undo 28 = .ok (.isub, 1) := dk_100 (dk_at dksX1_undo_1 4 rfl rfl)
theorem dX1_undo_29 : decode cX1_undo 29 = .ok (.putfield 120, 3) := dk_181 0 120 (dk_at dksX1_undo_1 5 rfl rfl)
theorem dX1_undo_32 : decode cX1_undo 32 = .ok (.aload_n 0, 1) := dk_42 (dk_at dksX1_undo_1 8 rfl rfl)
theorem dX1_undo_33 : decode cX1_undo 33 = .ok (.getfield 33, 3) := dk_180 0 33 (dk_at dksX1_undo_1 9 rfl rfl)
theorem dX1_undo_36 : decode cX1_undo 36 = .ok (.aload_n 0, 1) := dk_42 (dk_at dksX1_undo_1 12 rfl rfl)
theorem dX1_undo_37 : decode cX1_undo 37 = .ok (.getfield 67, 3) := dk_180 0 67 (dk_at dksX1_undo_1 13 rfl rfl)
theorem dX1_undo_40 : decode cX1_undo 40 = .ok (.aload_n 0, 1) := dk_42 (dk_at dksX1_undo_1 16 rfl rfl)
theorem dX1_undo_41 : decode cX1_undo 41 = .ok (.getfield 120, 3) := dk_180 0 120 (dk_at dksX1_undo_1 17 rfl rfl)
theorem dX1_undo_44 : decode cX1_undo 44 = .ok (.aaload, 1) := dk_50 (dk_at dksX1_undo_1 20 rfl rfl)
theorem dX1_undo_45 : decode cX1_undo 45 = .ok (.invokevirtual 221, 3) := dk_182 0 221 (dk_at dksX1_undo_1 21 rfl rfl)
theorem dX1_undo_48 : decode cX1_undo 48 = .ok (.iconst 1, 1) := dk_4 (dk_at dksX1_undo_2 0 rfl rfl)
theorem dX1_undo_49 : decode cX1_undo 49 = .ok (.ireturn, 1) := dk_172 (dk_at dksX1_undo_2 1 rfl rfl)
abbrev cX1_mark : ByteArray := prog_1_method_72_code
def yX1_mark : MethodName := ⟨RX1, "mark", "()I"⟩
def dkwX1_mark_2 : List UInt8 := [182, 0, 221, 42, 89, 180, 0, 123, 4, 96, 181, 0, 123, 42, 180, 0, 123, 4, 100, 172]
abbrev dktX1_mark_2 : List UInt8 := dkwX1_mark_2 ++ []
def dkwX1_mark_1 : List UInt8 := [160, 0, 9, 42, 6, 182, 0, 91, 172, 42, 180, 0, 71, 42, 180, 0, 123, 50, 42, 180, 0, 33]
abbrev dktX1_mark_1 : List UInt8 := dkwX1_mark_1 ++ dktX1_mark_2
def dkwX1_mark_0 : List UInt8 := [42, 182, 0, 77, 42, 180, 0, 102, 199, 0, 9, 42, 4, 182, 0, 91, 172, 42, 180, 0, 123, 6]
abbrev dktX1_mark_0 : List UInt8 := dkwX1_mark_0 ++ dktX1_mark_1
theorem dksX1_mark_0 : cX1_mark.data.toList.drop 0 = dktX1_mark_0 := by decide +kernel
theorem dksX1_mark_1 : cX1_mark.data.toList.drop 22 = dktX1_mark_1 := dk_seg dksX1_mark_0 22 rfl rfl
theorem dksX1_mark_2 : cX1_mark.data.toList.drop 44 = dktX1_mark_2 := dk_seg dksX1_mark_1 22 rfl rfl
theorem dX1_mark_0 : decode cX1_mark 0 = .ok (.aload_n 0, 1) := dk_42 (dk_at dksX1_mark_0 0 rfl rfl)
theorem dX1_mark_1 : decode cX1_mark 1 = .ok (.invokevirtual 77, 3) := dk_182 0 77 (dk_at dksX1_mark_0 1 rfl rfl)
theorem dX1_mark_4 : decode cX1_mark 4 = .ok (.aload_n 0, 1) := dk_42 (dk_at dksX1_mark_0 4 rfl rfl)
theorem dX1_mark_5 : decode cX1_mark 5 = .ok (.getfield 102, 3) := dk_180 0 102 (dk_at dksX1_mark_0 5 rfl rfl)
theorem dX1_mark_8 : decode cX1_mark 8 = .ok (.ifnonnull 9, 3) := dk_199 0 9 (dk_at dksX1_mark_0 8 rfl rfl)
theorem dX1_mark_11 : decode cX1_mark 11 = .ok (.aload_n 0, 1) := dk_42 (dk_at dksX1_mark_0 11 rfl rfl)
theorem dX1_mark_12 : decode cX1_mark 12 = .ok (.iconst 1, 1) := dk_4 (dk_at dksX1_mark_0 12 rfl rfl)
theorem dX1_mark_13 : decode cX1_mark 13 = .ok (.invokevirtual 91, 3) := dk_182 0 91 (dk_at dksX1_mark_0 13 rfl rfl)
theorem dX1_mark_16 : decode cX1_mark 16 = .ok (.ireturn, 1) := dk_172 (dk_at dksX1_mark_0 16 rfl rfl)
theorem dX1_mark_17 : decode cX1_mark 17 = .ok (.aload_n 0, 1) := dk_42 (dk_at dksX1_mark_0 17 rfl rfl)
theorem dX1_mark_18 : decode cX1_mark 18 = .ok (.getfield 123, 3) := dk_180 0 123 (dk_at dksX1_mark_0 18 rfl rfl)
theorem dX1_mark_21 : decode cX1_mark 21 = .ok (.iconst 3, 1) := dk_6 (dk_at dksX1_mark_0 21 rfl rfl)
theorem dX1_mark_22 : decode cX1_mark 22 = .ok (.if_icmp .ne 9, 3) := dk_160 0 9 (dk_at dksX1_mark_1 0 rfl rfl)
theorem dX1_mark_25 : decode cX1_mark 25 = .ok (.aload_n 0, 1) := dk_42 (dk_at dksX1_mark_1 3 rfl rfl)
theorem dX1_mark_26 : decode cX1_mark 26 = .ok (.iconst 3, 1) := dk_6 (dk_at dksX1_mark_1 4 rfl rfl)
theorem dX1_mark_27 : decode cX1_mark 27 = .ok (.invokevirtual 91, 3) := dk_182 0 91 (dk_at dksX1_mark_1 5 rfl rfl)
theorem dX1_mark_30 : decode cX1_mark 30 = .ok (.ireturn, 1) := dk_172 (dk_at dksX1_mark_1 8 rfl rfl)
theorem dX1_mark_31 : decode cX1_mark 31 = .ok (.aload_n 0, 1) := dk_42 (dk_at dksX1_mark_1 9 rfl rfl)
theorem dX1_mark_32 : decode cX1_mark 32 = .ok (.getfield 71, 3) := dk_180 0 71 (dk_at dksX1_mark_1 10 rfl rfl)
theorem dX1_mark_35 : decode cX1_mark 35 = .ok (.aload_n 0, 1) := dk_42 (dk_at dksX1_mark_1 13 rfl rfl)
theorem dX1_mark_36 : decode cX1_mark 36 = .ok (.getfield 123, 3) := dk_180 0 123 (dk_at dksX1_mark_1 14 rfl rfl)
theorem dX1_mark_39 : decode cX1_mark 39 = .ok (.aaload, 1) := dk_50 (dk_at dksX1_mark_1 17 rfl rfl)
theorem dX1_mark_40 : decode cX1_mark 40 = .ok (.aload_n 0, 1) := dk_42 (dk_at dksX1_mark_1 18 rfl rfl)
theorem dX1_mark_41 : decode cX1_mark 41 = .ok (.getfield 33, 3) := dk_180 0 33 (dk_at dksX1_mark_1 19 rfl rfl)
theorem dX1_mark_44 : decode cX1_mark 44 = .ok (.invokevirtual 221, 3) := dk_182 0 221 (dk_at dksX1_mark_2 0 rfl rfl)
theorem dX1_mark_47 : decode cX1_mark 47 = .ok (.aload_n 0, 1) := dk_42 (dk_at dksX1_mark_2 3 rfl rfl)
theorem dX1_mark_48 : decode cX1_mark 48 = .ok (.dup, 1) := dk_89 (dk_at dksX1_mark_2 4 rfl rfl)
theorem dX1_mark_49 : decode cX1_mark 49 = .ok (.getfield 123, 3) := dk_180 0 123 (dk_at dksX1_mark_2 5 rfl rfl)
theorem dX1_mark_52 : decode cX1_mark 52 = .ok (.iconst 1, 1) := dk_4 (dk_at dksX1_mark_2 8 rfl rfl)
theorem dX1_mark_53 : decode cX1_mark 53 = .ok (.iadd, 1) := dk_96 (dk_at dksX1_mark_2 9 rfl rfl)
theorem dX1_mark_54 : decode cX1_mark 54 = .ok (.putfield 123, 3) := dk_181 0 123 (dk_at dksX1_mark_2 10 rfl rfl)
theorem dX1_mark_57 : decode cX1_mark 57 = .ok (.aload_n 0, 1) := dk_42 (dk_at dksX1_mark_2 13 rfl rfl)
theorem dX1_mark_58 : decode cX1_mark 58 = .ok (.getfield 123, 3) := dk_180 0 123 (dk_at dksX1_mark_2 14 rfl rfl)
theorem dX1_mark_61 : decode cX1_mark 61 = .ok (.iconst 1, 1) := dk_4 (dk_at dksX1_mark_2 17 rfl rfl)
theorem dX1_mark_62 : decode cX1_mark 62 = .ok (.isub, 1) := dk_100 (dk_at dksX1_mark_2 18 rfl rfl)
theorem dX1_mark_63 : decode cX1_mark 63 = .ok (.ireturn, 1) := dk_172 (dk_at dksX1_mark_2 19 rfl rfl)
abbrev cX1_back : ByteArray := prog_1_method_73_code
def yX1_back : MethodName := ⟨RX1, "back", "(I)Z"⟩
def dkwX1_back_2 : List UInt8 := [172]
abbrev dktX1_back_2 : List UInt8 := dkwX1_back_2 ++ []
def dkwX1_back_1 : List UInt8 := [154, 0, 5, 3, 172, 42, 180, 0, 33, 42, 180, 0, 71, 27, 50, 182, 0, 221, 42, 3, 181, 0, 120, 4]
abbrev dktX1_back_1 : List UInt8 := dkwX1_back_1 ++ dktX1_back_2
def dkwX1_back_0 : List UInt8 := [42, 27, 3, 42, 180, 0, 123, 4, 100, 184, 0, 87, 153, 0, 7, 3, 167, 0, 4, 4, 182, 1, 42]
abbrev dktX1_back_0 : List UInt8 := dkwX1_back_0 ++ dktX1_back_1
theorem dksX1_back_0 : cX1_back.data.toList.drop 0 = dktX1_back_0 := by decide +kernel
theorem dksX1_back_1 : cX1_back.data.toList.drop 23 = dktX1_back_1 := dk_seg dksX1_back_0 23 rfl rfl
theorem dksX1_back_2 : cX1_back.data.toList.drop 47 = dktX1_back_2 := dk_seg dksX1_back_1 24 rfl rfl
theorem dX1_back_0 : decode cX1_back 0 = .ok (.aload_n 0, 1) := dk_42 (dk_at dksX1_back_0 0 rfl rfl)
theorem dX1_back_1 : decode cX1_back 1 = .ok (.iload_n 1, 1) := dk_27 (dk_at dksX1_back_0 1 rfl rfl)
theorem dX1_back_2 : decode cX1_back 2 = .ok (.iconst 0, 1) := dk_3 (dk_at dksX1_back_0 2 rfl rfl)
theorem dX1_back_3 : decode cX1_back 3 = .ok (.aload_n 0, 1) := dk_42 (dk_at dksX1_back_0 3 rfl rfl)
theorem dX1_back_4 : decode cX1_back 4 = .ok (.getfield 123, 3) := dk_180 0 123 (dk_at dksX1_back_0 4 rfl rfl)
theorem dX1_back_7 : decode cX1_back 7 = .ok (.iconst 1, 1) := dk_4 (dk_at dksX1_back_0 7 rfl rfl)
theorem dX1_back_8 : decode cX1_back 8 = .ok (.isub, 1) := dk_100 (dk_at dksX1_back_0 8 rfl rfl)
theorem dX1_back_9 : decode cX1_back 9 = .ok (.invokestatic 87, 3) := dk_184 0 87 (dk_at dksX1_back_0 9 rfl rfl)
theorem dX1_back_12 : decode cX1_back 12 = .ok (.ifCond .eq 7, 3) := dk_153 0 7 (dk_at dksX1_back_0 12 rfl rfl)
theorem dX1_back_15 : decode cX1_back 15 = .ok (.iconst 0, 1) := dk_3 (dk_at dksX1_back_0 15 rfl rfl)
theorem dX1_back_16 : decode cX1_back 16 = .ok (.goto 4, 3) := dk_167 0 4 (dk_at dksX1_back_0 16 rfl rfl)
theorem dX1_back_19 : decode cX1_back 19 = .ok (.iconst 1, 1) := dk_4 (dk_at dksX1_back_0 19 rfl rfl)
theorem dX1_back_20 : decode cX1_back 20 = .ok (.invokevirtual 298, 3) := dk_182 1 42 (dk_at dksX1_back_0 20 rfl rfl)
theorem dX1_back_23 : decode cX1_back 23 = .ok (.ifCond .ne 5, 3) := dk_154 0 5 (dk_at dksX1_back_1 0 rfl rfl)
theorem dX1_back_26 : decode cX1_back 26 = .ok (.iconst 0, 1) := dk_3 (dk_at dksX1_back_1 3 rfl rfl)
theorem dX1_back_27 : decode cX1_back 27 = .ok (.ireturn, 1) := dk_172 (dk_at dksX1_back_1 4 rfl rfl)
theorem dX1_back_28 : decode cX1_back 28 = .ok (.aload_n 0, 1) := dk_42 (dk_at dksX1_back_1 5 rfl rfl)
theorem dX1_back_29 : decode cX1_back 29 = .ok (.getfield 33, 3) := dk_180 0 33 (dk_at dksX1_back_1 6 rfl rfl)
theorem dX1_back_32 : decode cX1_back 32 = .ok (.aload_n 0, 1) := dk_42 (dk_at dksX1_back_1 9 rfl rfl)
theorem dX1_back_33 : decode cX1_back 33 = .ok (.getfield 71, 3) := dk_180 0 71 (dk_at dksX1_back_1 10 rfl rfl)
theorem dX1_back_36 : decode cX1_back 36 = .ok (.iload_n 1, 1) := dk_27 (dk_at dksX1_back_1 13 rfl rfl)
theorem dX1_back_37 : decode cX1_back 37 = .ok (.aaload, 1) := dk_50 (dk_at dksX1_back_1 14 rfl rfl)
theorem dX1_back_38 : decode cX1_back 38 = .ok (.invokevirtual 221, 3) := dk_182 0 221 (dk_at dksX1_back_1 15 rfl rfl)
theorem dX1_back_41 : decode cX1_back 41 = .ok (.aload_n 0, 1) := dk_42 (dk_at dksX1_back_1 18 rfl rfl)
theorem dX1_back_42 : decode cX1_back 42 = .ok (.iconst 0, 1) := dk_3 (dk_at dksX1_back_1 19 rfl rfl)
theorem dX1_back_43 : decode cX1_back 43 = .ok (.putfield 120, 3) := dk_181 0 120 (dk_at dksX1_back_1 20 rfl rfl)
theorem dX1_back_46 : decode cX1_back 46 = .ok (.iconst 1, 1) := dk_4 (dk_at dksX1_back_1 23 rfl rfl)
theorem dX1_back_47 : decode cX1_back 47 = .ok (.ireturn, 1) := dk_172 (dk_at dksX1_back_2 0 rfl rfl)
abbrev cX1_size : ByteArray := prog_1_method_75_code
def yX1_size : MethodName := ⟨RX1, "size", "(I)I"⟩
def dkwX1_size_6 : List UInt8 := [180, 0, 123, 172, 2, 172]
abbrev dktX1_size_6 : List UInt8 := dkwX1_size_6 ++ []
def dkwX1_size_5 : List UInt8 := [42, 180, 0, 102, 180, 1, 64, 172, 42, 180, 0, 33, 180, 1, 67, 172, 42, 180, 0, 120, 172, 42]
abbrev dktX1_size_5 : List UInt8 := dkwX1_size_5 ++ dktX1_size_6
def dkwX1_size_4 : List UInt8 := [42, 180, 0, 102, 180, 0, 131, 172, 42, 180, 0, 102, 180, 0, 126, 172, 42, 180, 0, 102, 180, 1, 61, 172]
abbrev dktX1_size_4 : List UInt8 := dkwX1_size_4 ++ dktX1_size_5
def dkwX1_size_3 : List UInt8 := [42, 180, 0, 102, 180, 1, 58, 172, 42, 180, 0, 102, 180, 0, 253, 172, 42, 180, 0, 102, 180, 1, 35, 172]
abbrev dktX1_size_3 : List UInt8 := dkwX1_size_3 ++ dktX1_size_4
def dkwX1_size_2 : List UInt8 := [170, 0, 0, 0, 127, 0, 0, 0, 0, 0, 0, 0, 9, 0, 0, 0, 53, 0, 0, 0, 61, 0, 0, 0, 69, 0, 0, 0, 77, 0, 0, 0, 85, 0, 0, 0, 93, 0, 0, 0, 101, 0, 0, 0, 109, 0, 0, 0, 117, 0, 0, 0, 122]
abbrev dktX1_size_2 : List UInt8 := dkwX1_size_2 ++ dktX1_size_3
def dkwX1_size_1 : List UInt8 := [184, 0, 87, 153, 0, 7, 3, 167, 0, 4, 2, 172, 27]
abbrev dktX1_size_1 : List UInt8 := dkwX1_size_1 ++ dktX1_size_2
def dkwX1_size_0 : List UInt8 := [27, 16, 10, 160, 0, 8, 42, 180, 0, 80, 172, 42, 180, 0, 102, 199, 0, 19, 27, 3, 16, 9]
abbrev dktX1_size_0 : List UInt8 := dkwX1_size_0 ++ dktX1_size_1
theorem dksX1_size_0 : cX1_size.data.toList.drop 0 = dktX1_size_0 := by decide +kernel
theorem dksX1_size_1 : cX1_size.data.toList.drop 22 = dktX1_size_1 := dk_seg dksX1_size_0 22 rfl rfl
theorem dksX1_size_2 : cX1_size.data.toList.drop 35 = dktX1_size_2 := dk_seg dksX1_size_1 13 rfl rfl
theorem dksX1_size_3 : cX1_size.data.toList.drop 88 = dktX1_size_3 := dk_seg dksX1_size_2 53 rfl rfl
theorem dksX1_size_4 : cX1_size.data.toList.drop 112 = dktX1_size_4 := dk_seg dksX1_size_3 24 rfl rfl
theorem dksX1_size_5 : cX1_size.data.toList.drop 136 = dktX1_size_5 := dk_seg dksX1_size_4 24 rfl rfl
theorem dksX1_size_6 : cX1_size.data.toList.drop 158 = dktX1_size_6 := dk_seg dksX1_size_5 22 rfl rfl
theorem dX1_size_0 : decode cX1_size 0 = .ok (.iload_n 1, 1) := dk_27 (dk_at dksX1_size_0 0 rfl rfl)
theorem dX1_size_1 : decode cX1_size 1 = .ok (.bipush 10, 2) := dk_16 10 (dk_at dksX1_size_0 1 rfl rfl)
theorem dX1_size_3 : decode cX1_size 3 = .ok (.if_icmp .ne 8, 3) := dk_160 0 8 (dk_at dksX1_size_0 3 rfl rfl)
theorem dX1_size_6 : decode cX1_size 6 = .ok (.aload_n 0, 1) := dk_42 (dk_at dksX1_size_0 6 rfl rfl)
theorem dX1_size_7 : decode cX1_size 7 = .ok (.getfield 80, 3) := dk_180 0 80 (dk_at dksX1_size_0 7 rfl rfl)
theorem dX1_size_10 : decode cX1_size 10 = .ok (.ireturn, 1) := dk_172 (dk_at dksX1_size_0 10 rfl rfl)
theorem dX1_size_11 : decode cX1_size 11 = .ok (.aload_n 0, 1) := dk_42 (dk_at dksX1_size_0 11 rfl rfl)
theorem dX1_size_12 : decode cX1_size 12 = .ok (.getfield 102, 3) := dk_180 0 102 (dk_at dksX1_size_0 12 rfl rfl)
theorem dX1_size_15 : decode cX1_size 15 = .ok (.ifnonnull 19, 3) := dk_199 0 19 (dk_at dksX1_size_0 15 rfl rfl)
theorem dX1_size_18 : decode cX1_size 18 = .ok (.iload_n 1, 1) := dk_27 (dk_at dksX1_size_0 18 rfl rfl)
theorem dX1_size_19 : decode cX1_size 19 = .ok (.iconst 0, 1) := dk_3 (dk_at dksX1_size_0 19 rfl rfl)
theorem dX1_size_20 : decode cX1_size 20 = .ok (.bipush 9, 2) := dk_16 9 (dk_at dksX1_size_0 20 rfl rfl)
theorem dX1_size_22 : decode cX1_size 22 = .ok (.invokestatic 87, 3) := dk_184 0 87 (dk_at dksX1_size_1 0 rfl rfl)
theorem dX1_size_25 : decode cX1_size 25 = .ok (.ifCond .eq 7, 3) := dk_153 0 7 (dk_at dksX1_size_1 3 rfl rfl)
theorem dX1_size_28 : decode cX1_size 28 = .ok (.iconst 0, 1) := dk_3 (dk_at dksX1_size_1 6 rfl rfl)
theorem dX1_size_29 : decode cX1_size 29 = .ok (.goto 4, 3) := dk_167 0 4 (dk_at dksX1_size_1 7 rfl rfl)
theorem dX1_size_32 : decode cX1_size 32 = .ok (.iconst (-1), 1) := dk_2 (dk_at dksX1_size_1 10 rfl rfl)
theorem dX1_size_33 : decode cX1_size 33 = .ok (.ireturn, 1) := dk_172 (dk_at dksX1_size_1 11 rfl rfl)
theorem dX1_size_34 : decode cX1_size 34 = .ok (.iload_n 1, 1) := dk_27 (dk_at dksX1_size_1 12 rfl rfl)
theorem dX1_size_35 : decode cX1_size 35 = .ok (.tableswitch 127 0 9 #[53, 61, 69, 77, 85, 93, 101, 109, 117, 122], 53) := by decide +kernel
theorem dX1_size_88 : decode cX1_size 88 = .ok (.aload_n 0, 1) := dk_42 (dk_at dksX1_size_3 0 rfl rfl)
theorem dX1_size_89 : decode cX1_size 89 = .ok (.getfield 102, 3) := dk_180 0 102 (dk_at dksX1_size_3 1 rfl rfl)
theorem dX1_size_92 : decode cX1_size 92 = .ok (.getfield 314, 3) := dk_180 1 58 (dk_at dksX1_size_3 4 rfl rfl)
theorem dX1_size_95 : decode cX1_size 95 = .ok (.ireturn, 1) := dk_172 (dk_at dksX1_size_3 7 rfl rfl)
theorem dX1_size_96 : decode cX1_size 96 = .ok (.aload_n 0, 1) := dk_42 (dk_at dksX1_size_3 8 rfl rfl)
theorem dX1_size_97 : decode cX1_size 97 = .ok (.getfield 102, 3) := dk_180 0 102 (dk_at dksX1_size_3 9 rfl rfl)
theorem dX1_size_100 : decode cX1_size 100 = .ok (.getfield 253, 3) := dk_180 0 253 (dk_at dksX1_size_3 12 rfl rfl)
theorem dX1_size_103 : decode cX1_size 103 = .ok (.ireturn, 1) := dk_172 (dk_at dksX1_size_3 15 rfl rfl)
theorem dX1_size_104 : decode cX1_size 104 = .ok (.aload_n 0, 1) := dk_42 (dk_at dksX1_size_3 16 rfl rfl)
theorem dX1_size_105 : decode cX1_size 105 = .ok (.getfield 102, 3) := dk_180 0 102 (dk_at dksX1_size_3 17 rfl rfl)
theorem dX1_size_108 : decode cX1_size 108 = .ok (.getfield 291, 3) := dk_180 1 35 (dk_at dksX1_size_3 20 rfl rfl)
theorem dX1_size_111 : decode cX1_size 111 = .ok (.ireturn, 1) := dk_172 (dk_at dksX1_size_3 23 rfl rfl)
theorem dX1_size_112 : decode cX1_size 112 = .ok (.aload_n 0, 1) := dk_42 (dk_at dksX1_size_4 0 rfl rfl)
theorem dX1_size_113 : decode cX1_size 113 = .ok (.getfield 102, 3) := dk_180 0 102 (dk_at dksX1_size_4 1 rfl rfl)
theorem dX1_size_116 : decode cX1_size 116 = .ok (.getfield 131, 3) := dk_180 0 131 (dk_at dksX1_size_4 4 rfl rfl)
theorem dX1_size_119 : decode cX1_size 119 = .ok (.ireturn, 1) := dk_172 (dk_at dksX1_size_4 7 rfl rfl)
theorem dX1_size_120 : decode cX1_size 120 = .ok (.aload_n 0, 1) := dk_42 (dk_at dksX1_size_4 8 rfl rfl)
theorem dX1_size_121 : decode cX1_size 121 = .ok (.getfield 102, 3) := dk_180 0 102 (dk_at dksX1_size_4 9 rfl rfl)
theorem dX1_size_124 : decode cX1_size 124 = .ok (.getfield 126, 3) := dk_180 0 126 (dk_at dksX1_size_4 12 rfl rfl)
theorem dX1_size_127 : decode cX1_size 127 = .ok (.ireturn, 1) := dk_172 (dk_at dksX1_size_4 15 rfl rfl)
theorem dX1_size_128 : decode cX1_size 128 = .ok (.aload_n 0, 1) := dk_42 (dk_at dksX1_size_4 16 rfl rfl)
theorem dX1_size_129 : decode cX1_size 129 = .ok (.getfield 102, 3) := dk_180 0 102 (dk_at dksX1_size_4 17 rfl rfl)
theorem dX1_size_132 : decode cX1_size 132 = .ok (.getfield 317, 3) := dk_180 1 61 (dk_at dksX1_size_4 20 rfl rfl)
theorem dX1_size_135 : decode cX1_size 135 = .ok (.ireturn, 1) := dk_172 (dk_at dksX1_size_4 23 rfl rfl)
theorem dX1_size_136 : decode cX1_size 136 = .ok (.aload_n 0, 1) := dk_42 (dk_at dksX1_size_5 0 rfl rfl)
theorem dX1_size_137 : decode cX1_size 137 = .ok (.getfield 102, 3) := dk_180 0 102 (dk_at dksX1_size_5 1 rfl rfl)
theorem dX1_size_140 : decode cX1_size 140 = .ok (.getfield 320, 3) := dk_180 1 64 (dk_at dksX1_size_5 4 rfl rfl)
theorem dX1_size_143 : decode cX1_size 143 = .ok (.ireturn, 1) := dk_172 (dk_at dksX1_size_5 7 rfl rfl)
theorem dX1_size_144 : decode cX1_size 144 = .ok (.aload_n 0, 1) := dk_42 (dk_at dksX1_size_5 8 rfl rfl)
theorem dX1_size_145 : decode cX1_size 145 = .ok (.getfield 33, 3) := dk_180 0 33 (dk_at dksX1_size_5 9 rfl rfl)
theorem dX1_size_148 : decode cX1_size 148 = .ok (.getfield 323, 3) := dk_180 1 67 (dk_at dksX1_size_5 12 rfl rfl)
theorem dX1_size_151 : decode cX1_size 151 = .ok (.ireturn, 1) := dk_172 (dk_at dksX1_size_5 15 rfl rfl)
theorem dX1_size_152 : decode cX1_size 152 = .ok (.aload_n 0, 1) := dk_42 (dk_at dksX1_size_5 16 rfl rfl)
theorem dX1_size_153 : decode cX1_size 153 = .ok (.getfield 120, 3) := dk_180 0 120 (dk_at dksX1_size_5 17 rfl rfl)
theorem dX1_size_156 : decode cX1_size 156 = .ok (.ireturn, 1) := dk_172 (dk_at dksX1_size_5 20 rfl rfl)
theorem dX1_size_157 : decode cX1_size 157 = .ok (.aload_n 0, 1) := dk_42 (dk_at dksX1_size_5 21 rfl rfl)
theorem dX1_size_158 : decode cX1_size 158 = .ok (.getfield 123, 3) := dk_180 0 123 (dk_at dksX1_size_6 0 rfl rfl)
theorem dX1_size_161 : decode cX1_size 161 = .ok (.ireturn, 1) := dk_172 (dk_at dksX1_size_6 3 rfl rfl)
theorem dX1_size_162 : decode cX1_size 162 = .ok (.iconst (-1), 1) := dk_2 (dk_at dksX1_size_6 4 rfl rfl)
theorem dX1_size_163 : decode cX1_size 163 = .ok (.ireturn, 1) := dk_172 (dk_at dksX1_size_6 5 rfl rfl)
abbrev cX1_trouble : ByteArray := prog_1_method_76_code
def yX1_trouble : MethodName := ⟨RX1, "trouble", "()I"⟩
theorem dX1_trouble_0 : decode cX1_trouble 0 = .ok (.aload_n 0, 1) := by decide +kernel
theorem dX1_trouble_1 : decode cX1_trouble 1 = .ok (.getfield 74, 3) := by decide +kernel
theorem dX1_trouble_4 : decode cX1_trouble 4 = .ok (.ireturn, 1) := by decide +kernel
abbrev cX1_led : ByteArray := prog_1_method_74_code
def yX1_led : MethodName := ⟨RX1, "led", "(I)I"⟩
def dkwX1_led_2 : List UInt8 := [132, 2, 1, 132, 3, 1, 167, 255, 208, 187, 1, 55, 89, 183, 1, 57, 191]
abbrev dktX1_led_2 : List UInt8 := dkwX1_led_2 ++ []
def dkwX1_led_1 : List UInt8 := [180, 0, 33, 180, 0, 154, 29, 46, 16, 254, 159, 0, 6, 167, 0, 13, 28, 27, 160, 0, 5, 29, 172]
abbrev dktX1_led_1 : List UInt8 := dkwX1_led_1 ++ dktX1_led_2
def dkwX1_led_0 : List UInt8 := [3, 61, 3, 62, 42, 180, 0, 102, 198, 0, 47, 29, 42, 180, 0, 102, 180, 0, 126, 162, 0, 36, 42]
abbrev dktX1_led_0 : List UInt8 := dkwX1_led_0 ++ dktX1_led_1
theorem dksX1_led_0 : cX1_led.data.toList.drop 0 = dktX1_led_0 := by decide +kernel
theorem dksX1_led_1 : cX1_led.data.toList.drop 23 = dktX1_led_1 := dk_seg dksX1_led_0 23 rfl rfl
theorem dksX1_led_2 : cX1_led.data.toList.drop 46 = dktX1_led_2 := dk_seg dksX1_led_1 23 rfl rfl
theorem dX1_led_0 : decode cX1_led 0 = .ok (.iconst 0, 1) := dk_3 (dk_at dksX1_led_0 0 rfl rfl)
theorem dX1_led_1 : decode cX1_led 1 = .ok (.istore_n 2, 1) := dk_61 (dk_at dksX1_led_0 1 rfl rfl)
theorem dX1_led_2 : decode cX1_led 2 = .ok (.iconst 0, 1) := dk_3 (dk_at dksX1_led_0 2 rfl rfl)
theorem dX1_led_3 : decode cX1_led 3 = .ok (.istore_n 3, 1) := dk_62 (dk_at dksX1_led_0 3 rfl rfl)
theorem dX1_led_4 : decode cX1_led 4 = .ok (.aload_n 0, 1) := dk_42 (dk_at dksX1_led_0 4 rfl rfl)
theorem dX1_led_5 : decode cX1_led 5 = .ok (.getfield 102, 3) := dk_180 0 102 (dk_at dksX1_led_0 5 rfl rfl)
theorem dX1_led_8 : decode cX1_led 8 = .ok (.ifnull 47, 3) := dk_198 0 47 (dk_at dksX1_led_0 8 rfl rfl)
theorem dX1_led_11 : decode cX1_led 11 = .ok (.iload_n 3, 1) := dk_29 (dk_at dksX1_led_0 11 rfl rfl)
theorem dX1_led_12 : decode cX1_led 12 = .ok (.aload_n 0, 1) := dk_42 (dk_at dksX1_led_0 12 rfl rfl)
theorem dX1_led_13 : decode cX1_led 13 = .ok (.getfield 102, 3) := dk_180 0 102 (dk_at dksX1_led_0 13 rfl rfl)
theorem dX1_led_16 : decode cX1_led 16 = .ok (.getfield 126, 3) := dk_180 0 126 (dk_at dksX1_led_0 16 rfl rfl)
theorem dX1_led_19 : decode cX1_led 19 = .ok (.if_icmp .ge 36, 3) := dk_162 0 36 (dk_at dksX1_led_0 19 rfl rfl)
theorem dX1_led_22 : decode cX1_led 22 = .ok (.aload_n 0, 1) := dk_42 (dk_at dksX1_led_0 22 rfl rfl)
theorem dX1_led_23 : decode cX1_led 23 = .ok (.getfield 33, 3) := dk_180 0 33 (dk_at dksX1_led_1 0 rfl rfl)
theorem dX1_led_26 : decode cX1_led 26 = .ok (.getfield 154, 3) := dk_180 0 154 (dk_at dksX1_led_1 3 rfl rfl)
theorem dX1_led_29 : decode cX1_led 29 = .ok (.iload_n 3, 1) := dk_29 (dk_at dksX1_led_1 6 rfl rfl)
theorem dX1_led_30 : decode cX1_led 30 = .ok (.iaload, 1) := dk_46 (dk_at dksX1_led_1 7 rfl rfl)
theorem dX1_led_31 : decode cX1_led 31 = .ok (.bipush (-2), 2) := dk_16 254 (dk_at dksX1_led_1 8 rfl rfl)
theorem dX1_led_33 : decode cX1_led 33 = .ok (.if_icmp .eq 6, 3) := dk_159 0 6 (dk_at dksX1_led_1 10 rfl rfl)
theorem dX1_led_36 : decode cX1_led 36 = .ok (.goto 13, 3) := dk_167 0 13 (dk_at dksX1_led_1 13 rfl rfl)
theorem dX1_led_39 : decode cX1_led 39 = .ok (.iload_n 2, 1) := dk_28 (dk_at dksX1_led_1 16 rfl rfl)
theorem dX1_led_40 : decode cX1_led 40 = .ok (.iload_n 1, 1) := dk_27 (dk_at dksX1_led_1 17 rfl rfl)
theorem dX1_led_41 : decode cX1_led 41 = .ok (.if_icmp .ne 5, 3) := dk_160 0 5 (dk_at dksX1_led_1 18 rfl rfl)
theorem dX1_led_44 : decode cX1_led 44 = .ok (.iload_n 3, 1) := dk_29 (dk_at dksX1_led_1 21 rfl rfl)
theorem dX1_led_45 : decode cX1_led 45 = .ok (.ireturn, 1) := dk_172 (dk_at dksX1_led_1 22 rfl rfl)
theorem dX1_led_46 : decode cX1_led 46 = .ok (.iinc 2 1, 3) := dk_132 2 1 (dk_at dksX1_led_2 0 rfl rfl)
theorem dX1_led_49 : decode cX1_led 49 = .ok (.iinc 3 1, 3) := dk_132 3 1 (dk_at dksX1_led_2 3 rfl rfl)
theorem dX1_led_52 : decode cX1_led 52 = .ok (.goto (-48), 3) := dk_167 255 208 (dk_at dksX1_led_2 6 rfl rfl)
theorem dX1_led_55 : decode cX1_led 55 = .ok (.new 311, 3) := dk_187 1 55 (dk_at dksX1_led_2 9 rfl rfl)
theorem dX1_led_58 : decode cX1_led 58 = .ok (.dup, 1) := dk_89 (dk_at dksX1_led_2 12 rfl rfl)
theorem dX1_led_59 : decode cX1_led 59 = .ok (.invokespecial 313, 3) := dk_183 1 57 (dk_at dksX1_led_2 13 rfl rfl)
theorem dX1_led_62 : decode cX1_led 62 = .ok (.athrow, 1) := dk_191 (dk_at dksX1_led_2 16 rfl rfl)
theorem q115 : (Jvm.Cond.initialized "UmbrellaHeir") ∈ lw_all := lw_g (lw_at lw_m1 1 rfl) rfl
theorem q153 : (Jvm.Cond.instantiable "UmbrellaHeir" (21 : Nat)) ∈ lw_all := lw_g (lw_at lw_m1 39 rfl) rfl
theorem q155 : (Jvm.Cond.instanceMethod ({ cls := "UmbrellaHeir", name := "<init>", desc := "()V" } : Jvm.MethodName)) ∈ lw_all := lw_g (lw_at lw_m1 41 rfl) rfl
theorem q156 : (Jvm.Cond.code ({ cls := "UmbrellaHeir", name := "<init>", desc := "()V" } : Jvm.MethodName) prog_1_method_6_code (2 : Nat) (Option.none : Option Jvm.ClassFile.FieldType)) ∈ lw_all := lw_g (lw_at lw_m1 42 rfl) rfl
theorem q157 : (Jvm.Cond.methodLink "UmbrellaHeir" (7 : Nat) ({ cls := "java/lang/Object", name := "<init>", desc := "()V" } : Jvm.MethodName)) ∈ lw_all := lw_g (lw_at lw_m1 43 rfl) rfl
theorem q160 : (Jvm.Cond.classLink "UmbrellaHeir" (17 : Nat) "UmbrellaHeir$Reader") ∈ lw_all := lw_g (lw_at lw_m1 46 rfl) rfl
theorem q162 : (Jvm.Cond.methodLink "UmbrellaHeir" (19 : Nat) ({ cls := "UmbrellaHeir$Reader", name := "<init>", desc := "([B)V" } : Jvm.MethodName)) ∈ lw_all := lw_g (lw_at lw_m1 48 rfl) rfl
theorem q219 : (Jvm.Cond.fieldLink "UmbrellaHeir" (108 : Nat) "UmbrellaHeir$Refused" "fault" "I") ∈ lw_all := lw_g (lw_at lw_m1 105 rfl) rfl
theorem q221 : (Jvm.Cond.fieldLink "UmbrellaHeir" (109 : Nat) "UmbrellaHeir$Refused" "place" "I") ∈ lw_all := lw_g (lw_at lw_m1 107 rfl) rfl
theorem q272 : (Jvm.Cond.classLink "UmbrellaHeir" (30 : Nat) "UmbrellaHeir$Hall") ∈ lw_all := lw_g (lw_at lw_m1 158 rfl) rfl
theorem q274 : (Jvm.Cond.methodLinkNest "UmbrellaHeir" (32 : Nat) ({ cls := "UmbrellaHeir$Hall", name := "<init>", desc := "()V" } : Jvm.MethodName) "UmbrellaHeir") ∈ lw_tbl := lw_at lw_m1 160 rfl
theorem q284 : (Jvm.Cond.fieldLink "UmbrellaHeir" (154 : Nat) "UmbrellaHeir$Hall" "holders" "[I") ∈ lw_all := lw_g (lw_at lw_m1 170 rfl) rfl
theorem q288 : (Jvm.Cond.fieldLink "UmbrellaHeir" (158 : Nat) "UmbrellaHeir$Hall" "titles" "[I") ∈ lw_all := lw_g (lw_at lw_m1 174 rfl) rfl
theorem q291 : (Jvm.Cond.fieldLink "UmbrellaHeir" (323 : Nat) "UmbrellaHeir$Hall" "dry" "I") ∈ lw_all := lw_g (lw_at lw_m1 177 rfl) rfl
theorem q302 : (Jvm.Cond.classLink "UmbrellaHeir" (43 : Nat) "UmbrellaHeir$Course") ∈ lw_all := lw_g (lw_at lw_m1 188 rfl) rfl
theorem q304 : (Jvm.Cond.methodLinkNest "UmbrellaHeir" (45 : Nat) ({ cls := "UmbrellaHeir$Course", name := "<init>", desc := "()V" } : Jvm.MethodName) "UmbrellaHeir") ∈ lw_tbl := lw_at lw_m1 190 rfl
theorem q320 : (Jvm.Cond.classLink "UmbrellaHeir" (53 : Nat) "UmbrellaHeir$Righting") ∈ lw_all := lw_g (lw_at lw_m1 206 rfl) rfl
theorem q322 : (Jvm.Cond.methodLink "UmbrellaHeir" (55 : Nat) ({ cls := "UmbrellaHeir$Righting", name := "<init>", desc := "()V" } : Jvm.MethodName)) ∈ lw_all := lw_g (lw_at lw_m1 208 rfl) rfl
theorem q334 : (Jvm.Cond.fieldLink "UmbrellaHeir" (241 : Nat) "UmbrellaHeir$Righting" "right" "I") ∈ lw_all := lw_g (lw_at lw_m1 220 rfl) rfl
theorem q336 : (Jvm.Cond.fieldLink "UmbrellaHeir" (243 : Nat) "UmbrellaHeir$Righting" "many" "I") ∈ lw_all := lw_g (lw_at lw_m1 222 rfl) rfl
theorem q350 : (Jvm.Cond.classLink "UmbrellaHeir" (60 : Nat) "UmbrellaHeir$Party") ∈ lw_all := lw_g (lw_at lw_m1 236 rfl) rfl
theorem q352 : (Jvm.Cond.methodLinkNest "UmbrellaHeir" (62 : Nat) ({ cls := "UmbrellaHeir$Party", name := "<init>", desc := "()V" } : Jvm.MethodName) "UmbrellaHeir") ∈ lw_tbl := lw_at lw_m1 238 rfl
theorem q378 : (Jvm.Cond.fieldLink "UmbrellaHeir" (13 : Nat) "UmbrellaHeir" "tape" "[B") ∈ lw_all := lw_g (lw_at lw_m2 24 rfl) rfl
theorem q379 : (Jvm.Cond.fieldLink "UmbrellaHeir" (80 : Nat) "UmbrellaHeir" "taped" "I") ∈ lw_all := lw_g (lw_at lw_m2 25 rfl) rfl
theorem q380 : (Jvm.Cond.fieldLink "UmbrellaHeir" (22 : Nat) "UmbrellaHeir" "reader" "LUmbrellaHeir$Reader;") ∈ lw_all := lw_g (lw_at lw_m2 26 rfl) rfl
theorem q381 : (Jvm.Cond.fieldLink "UmbrellaHeir" (102 : Nat) "UmbrellaHeir" "county" "LUmbrellaHeir$County;") ∈ lw_all := lw_g (lw_at lw_m2 27 rfl) rfl
theorem q382 : (Jvm.Cond.fieldLink "UmbrellaHeir" (74 : Nat) "UmbrellaHeir" "trouble" "I") ∈ lw_all := lw_g (lw_at lw_m2 28 rfl) rfl
theorem q383 : (Jvm.Cond.fieldLink "UmbrellaHeir" (95 : Nat) "UmbrellaHeir" "fault" "I") ∈ lw_all := lw_g (lw_at lw_m2 29 rfl) rfl
theorem q384 : (Jvm.Cond.fieldLink "UmbrellaHeir" (26 : Nat) "UmbrellaHeir" "where" "I") ∈ lw_all := lw_g (lw_at lw_m2 30 rfl) rfl
theorem q385 : (Jvm.Cond.fieldLink "UmbrellaHeir" (123 : Nat) "UmbrellaHeir" "markMany" "I") ∈ lw_all := lw_g (lw_at lw_m2 31 rfl) rfl
theorem q386 : (Jvm.Cond.fieldLink "UmbrellaHeir" (120 : Nat) "UmbrellaHeir" "undoMany" "I") ∈ lw_all := lw_g (lw_at lw_m2 32 rfl) rfl
theorem q387 : (Jvm.Cond.fieldLink "UmbrellaHeir" (33 : Nat) "UmbrellaHeir" "hall" "LUmbrellaHeir$Hall;") ∈ lw_all := lw_g (lw_at lw_m2 33 rfl) rfl
theorem q388 : (Jvm.Cond.fieldLink "UmbrellaHeir" (37 : Nat) "UmbrellaHeir" "was" "LUmbrellaHeir$Hall;") ∈ lw_all := lw_g (lw_at lw_m2 34 rfl) rfl
theorem q389 : (Jvm.Cond.fieldLink "UmbrellaHeir" (40 : Nat) "UmbrellaHeir" "trial" "LUmbrellaHeir$Hall;") ∈ lw_all := lw_g (lw_at lw_m2 35 rfl) rfl
theorem q390 : (Jvm.Cond.fieldLink "UmbrellaHeir" (46 : Nat) "UmbrellaHeir" "course" "LUmbrellaHeir$Course;") ∈ lw_all := lw_g (lw_at lw_m2 36 rfl) rfl
theorem q391 : (Jvm.Cond.fieldLink "UmbrellaHeir" (50 : Nat) "UmbrellaHeir" "other" "LUmbrellaHeir$Course;") ∈ lw_all := lw_g (lw_at lw_m2 37 rfl) rfl
theorem q392 : (Jvm.Cond.fieldLink "UmbrellaHeir" (56 : Nat) "UmbrellaHeir" "righting" "LUmbrellaHeir$Righting;") ∈ lw_all := lw_g (lw_at lw_m2 38 rfl) rfl
theorem q393 : (Jvm.Cond.fieldLink "UmbrellaHeir" (63 : Nat) "UmbrellaHeir" "party" "LUmbrellaHeir$Party;") ∈ lw_all := lw_g (lw_at lw_m2 39 rfl) rfl
theorem q394 : (Jvm.Cond.fieldLink "UmbrellaHeir" (67 : Nat) "UmbrellaHeir" "undone" "[LUmbrellaHeir$Hall;") ∈ lw_all := lw_g (lw_at lw_m2 40 rfl) rfl
theorem q395 : (Jvm.Cond.fieldLink "UmbrellaHeir" (71 : Nat) "UmbrellaHeir" "marks" "[LUmbrellaHeir$Hall;") ∈ lw_all := lw_g (lw_at lw_m2 41 rfl) rfl
theorem q396 : (Jvm.Cond.fieldLink "UmbrellaHeir" (203 : Nat) "UmbrellaHeir" "wayMany" "I") ∈ lw_all := lw_g (lw_at lw_m2 42 rfl) rfl
theorem q397 : (Jvm.Cond.fieldLink "UmbrellaHeir" (206 : Nat) "UmbrellaHeir" "wayCode" "I") ∈ lw_all := lw_g (lw_at lw_m2 43 rfl) rfl
theorem q398 : (Jvm.Cond.fieldLink "UmbrellaHeir" (271 : Nat) "UmbrellaHeir" "firstRest" "I") ∈ lw_all := lw_g (lw_at lw_m2 44 rfl) rfl
theorem q399 : (Jvm.Cond.laysFinal "UmbrellaHeir" "UmbrellaHeir" "tape" "[B") ∈ lw_all := lw_g (lw_at lw_m2 45 rfl) rfl
theorem q400 : (Jvm.Cond.soleField "UmbrellaHeir" "tape") ∈ lw_all := lw_g (lw_at lw_m2 46 rfl) rfl
theorem q401 : (Jvm.Cond.lays "UmbrellaHeir" "UmbrellaHeir" "taped" "I") ∈ lw_all := lw_g (lw_at lw_m2 47 rfl) rfl
theorem q402 : (Jvm.Cond.soleField "UmbrellaHeir" "taped") ∈ lw_all := lw_g (lw_at lw_m2 48 rfl) rfl
theorem q403 : (Jvm.Cond.laysFinal "UmbrellaHeir" "UmbrellaHeir" "reader" "LUmbrellaHeir$Reader;") ∈ lw_all := lw_g (lw_at lw_m2 49 rfl) rfl
theorem q404 : (Jvm.Cond.soleField "UmbrellaHeir" "reader") ∈ lw_all := lw_g (lw_at lw_m2 50 rfl) rfl
theorem q405 : (Jvm.Cond.lays "UmbrellaHeir" "UmbrellaHeir" "county" "LUmbrellaHeir$County;") ∈ lw_all := lw_g (lw_at lw_m2 51 rfl) rfl
theorem q406 : (Jvm.Cond.soleField "UmbrellaHeir" "county") ∈ lw_all := lw_g (lw_at lw_m2 52 rfl) rfl
theorem q407 : (Jvm.Cond.lays "UmbrellaHeir" "UmbrellaHeir" "trouble" "I") ∈ lw_all := lw_g (lw_at lw_m2 53 rfl) rfl
theorem q408 : (Jvm.Cond.soleField "UmbrellaHeir" "trouble") ∈ lw_all := lw_g (lw_at lw_m2 54 rfl) rfl
theorem q409 : (Jvm.Cond.lays "UmbrellaHeir" "UmbrellaHeir" "fault" "I") ∈ lw_all := lw_g (lw_at lw_m2 55 rfl) rfl
theorem q410 : (Jvm.Cond.soleField "UmbrellaHeir" "fault") ∈ lw_all := lw_g (lw_at lw_m2 56 rfl) rfl
theorem q411 : (Jvm.Cond.lays "UmbrellaHeir" "UmbrellaHeir" "where" "I") ∈ lw_all := lw_g (lw_at lw_m2 57 rfl) rfl
theorem q412 : (Jvm.Cond.soleField "UmbrellaHeir" "where") ∈ lw_all := lw_g (lw_at lw_m2 58 rfl) rfl
theorem q413 : (Jvm.Cond.lays "UmbrellaHeir" "UmbrellaHeir" "markMany" "I") ∈ lw_all := lw_g (lw_at lw_m2 59 rfl) rfl
theorem q414 : (Jvm.Cond.soleField "UmbrellaHeir" "markMany") ∈ lw_all := lw_g (lw_at lw_m2 60 rfl) rfl
theorem q415 : (Jvm.Cond.lays "UmbrellaHeir" "UmbrellaHeir" "undoMany" "I") ∈ lw_all := lw_g (lw_at lw_m2 61 rfl) rfl
theorem q416 : (Jvm.Cond.soleField "UmbrellaHeir" "undoMany") ∈ lw_all := lw_g (lw_at lw_m2 62 rfl) rfl
theorem q417 : (Jvm.Cond.laysFinal "UmbrellaHeir" "UmbrellaHeir" "hall" "LUmbrellaHeir$Hall;") ∈ lw_all := lw_g (lw_at lw_m2 63 rfl) rfl
theorem q418 : (Jvm.Cond.soleField "UmbrellaHeir" "hall") ∈ lw_all := lw_g (lw_at lw_m2 64 rfl) rfl
theorem q419 : (Jvm.Cond.laysFinal "UmbrellaHeir" "UmbrellaHeir" "was" "LUmbrellaHeir$Hall;") ∈ lw_all := lw_g (lw_at lw_m2 65 rfl) rfl
theorem q420 : (Jvm.Cond.soleField "UmbrellaHeir" "was") ∈ lw_all := lw_g (lw_at lw_m2 66 rfl) rfl
theorem q421 : (Jvm.Cond.laysFinal "UmbrellaHeir" "UmbrellaHeir" "trial" "LUmbrellaHeir$Hall;") ∈ lw_all := lw_g (lw_at lw_m2 67 rfl) rfl
theorem q422 : (Jvm.Cond.soleField "UmbrellaHeir" "trial") ∈ lw_all := lw_g (lw_at lw_m2 68 rfl) rfl
theorem q423 : (Jvm.Cond.laysFinal "UmbrellaHeir" "UmbrellaHeir" "course" "LUmbrellaHeir$Course;") ∈ lw_all := lw_g (lw_at lw_m2 69 rfl) rfl
theorem q424 : (Jvm.Cond.soleField "UmbrellaHeir" "course") ∈ lw_all := lw_g (lw_at lw_m2 70 rfl) rfl
theorem q425 : (Jvm.Cond.laysFinal "UmbrellaHeir" "UmbrellaHeir" "other" "LUmbrellaHeir$Course;") ∈ lw_all := lw_g (lw_at lw_m2 71 rfl) rfl
theorem q426 : (Jvm.Cond.soleField "UmbrellaHeir" "other") ∈ lw_all := lw_g (lw_at lw_m2 72 rfl) rfl
theorem q427 : (Jvm.Cond.laysFinal "UmbrellaHeir" "UmbrellaHeir" "righting" "LUmbrellaHeir$Righting;") ∈ lw_all := lw_g (lw_at lw_m2 73 rfl) rfl
theorem q428 : (Jvm.Cond.soleField "UmbrellaHeir" "righting") ∈ lw_all := lw_g (lw_at lw_m2 74 rfl) rfl
theorem q429 : (Jvm.Cond.laysFinal "UmbrellaHeir" "UmbrellaHeir" "party" "LUmbrellaHeir$Party;") ∈ lw_all := lw_g (lw_at lw_m2 75 rfl) rfl
theorem q430 : (Jvm.Cond.soleField "UmbrellaHeir" "party") ∈ lw_all := lw_g (lw_at lw_m2 76 rfl) rfl
theorem q431 : (Jvm.Cond.laysFinal "UmbrellaHeir" "UmbrellaHeir" "undone" "[LUmbrellaHeir$Hall;") ∈ lw_all := lw_g (lw_at lw_m2 77 rfl) rfl
theorem q432 : (Jvm.Cond.soleField "UmbrellaHeir" "undone") ∈ lw_all := lw_g (lw_at lw_m2 78 rfl) rfl
theorem q433 : (Jvm.Cond.laysFinal "UmbrellaHeir" "UmbrellaHeir" "marks" "[LUmbrellaHeir$Hall;") ∈ lw_all := lw_g (lw_at lw_m2 79 rfl) rfl
theorem q434 : (Jvm.Cond.soleField "UmbrellaHeir" "marks") ∈ lw_all := lw_g (lw_at lw_m2 80 rfl) rfl
theorem q435 : (Jvm.Cond.lays "UmbrellaHeir" "UmbrellaHeir" "wayMany" "I") ∈ lw_all := lw_g (lw_at lw_m2 81 rfl) rfl
theorem q436 : (Jvm.Cond.soleField "UmbrellaHeir" "wayMany") ∈ lw_all := lw_g (lw_at lw_m2 82 rfl) rfl
theorem q437 : (Jvm.Cond.lays "UmbrellaHeir" "UmbrellaHeir" "wayCode" "I") ∈ lw_all := lw_g (lw_at lw_m2 83 rfl) rfl
theorem q438 : (Jvm.Cond.soleField "UmbrellaHeir" "wayCode") ∈ lw_all := lw_g (lw_at lw_m2 84 rfl) rfl
theorem q439 : (Jvm.Cond.lays "UmbrellaHeir" "UmbrellaHeir" "firstRest" "I") ∈ lw_all := lw_g (lw_at lw_m2 85 rfl) rfl
theorem q440 : (Jvm.Cond.soleField "UmbrellaHeir" "firstRest") ∈ lw_all := lw_g (lw_at lw_m2 86 rfl) rfl
theorem q441 : (Jvm.Cond.superclass "UmbrellaHeir" "java/lang/Object") ∈ lw_all := lw_g (lw_at lw_m2 87 rfl) rfl
theorem q443 : (Jvm.Cond.instanceMethod ({ cls := "UmbrellaHeir", name := "feed", desc := "(IIIII)I" } : Jvm.MethodName)) ∈ lw_all := lw_g (lw_at lw_m2 89 rfl) rfl
theorem q444 : (Jvm.Cond.selects "UmbrellaHeir" ({ cls := "UmbrellaHeir", name := "feed", desc := "(IIIII)I" } : Jvm.MethodName) ({ cls := "UmbrellaHeir", name := "feed", desc := "(IIIII)I" } : Jvm.MethodName)) ∈ lw_all := lw_g (lw_at lw_m2 90 rfl) rfl
theorem q445 : (Jvm.Cond.code ({ cls := "UmbrellaHeir", name := "feed", desc := "(IIIII)I" } : Jvm.MethodName) prog_1_method_10_code (6 : Nat) (Option.some Jvm.ClassFile.FieldType.int)) ∈ lw_all := lw_g (lw_at lw_m2 91 rfl) rfl
theorem q446 : (Jvm.Cond.methodLink "UmbrellaHeir" (83 : Nat) ({ cls := "UmbrellaHeir", name := "bytes", desc := "(I)V" } : Jvm.MethodName)) ∈ lw_all := lw_g (lw_at lw_m2 92 rfl) rfl
theorem q447 : (Jvm.Cond.privateMethod ({ cls := "UmbrellaHeir", name := "bytes", desc := "(I)V" } : Jvm.MethodName)) ∈ lw_tbl := lw_at lw_m2 93 rfl
theorem q448 : (Jvm.Cond.instanceMethod ({ cls := "UmbrellaHeir", name := "bytes", desc := "(I)V" } : Jvm.MethodName)) ∈ lw_all := lw_g (lw_at lw_m2 94 rfl) rfl
theorem q449 : (Jvm.Cond.code ({ cls := "UmbrellaHeir", name := "bytes", desc := "(I)V" } : Jvm.MethodName) prog_1_method_11_code (3 : Nat) (Option.none : Option Jvm.ClassFile.FieldType)) ∈ lw_all := lw_g (lw_at lw_m2 95 rfl) rfl
theorem q451 : (Jvm.Cond.instanceMethod ({ cls := "UmbrellaHeir", name := "county", desc := "(I)I" } : Jvm.MethodName)) ∈ lw_all := lw_g (lw_at lw_m2 97 rfl) rfl
theorem q452 : (Jvm.Cond.selects "UmbrellaHeir" ({ cls := "UmbrellaHeir", name := "county", desc := "(I)I" } : Jvm.MethodName) ({ cls := "UmbrellaHeir", name := "county", desc := "(I)I" } : Jvm.MethodName)) ∈ lw_all := lw_g (lw_at lw_m2 98 rfl) rfl
theorem q453 : (Jvm.Cond.codeWith ({ cls := "UmbrellaHeir", name := "county", desc := "(I)I" } : Jvm.MethodName) prog_1_method_12_code (3 : Nat) (Option.some Jvm.ClassFile.FieldType.int) [((32 : Nat), (44 : Nat), (47 : Nat), (106 : Nat))]) ∈ lw_all := lw_g (lw_at lw_m2 99 rfl) rfl
theorem q454 : (Jvm.Cond.classLink "UmbrellaHeir" (106 : Nat) "UmbrellaHeir$Refused") ∈ lw_all := lw_g (lw_at lw_m2 100 rfl) rfl
theorem q455 : (Jvm.Cond.methodLink "UmbrellaHeir" (77 : Nat) ({ cls := "UmbrellaHeir", name := "anew", desc := "()V" } : Jvm.MethodName)) ∈ lw_all := lw_g (lw_at lw_m2 101 rfl) rfl
theorem q456 : (Jvm.Cond.privateMethod ({ cls := "UmbrellaHeir", name := "anew", desc := "()V" } : Jvm.MethodName)) ∈ lw_tbl := lw_at lw_m2 102 rfl
theorem q457 : (Jvm.Cond.instanceMethod ({ cls := "UmbrellaHeir", name := "anew", desc := "()V" } : Jvm.MethodName)) ∈ lw_all := lw_g (lw_at lw_m2 103 rfl) rfl
theorem q458 : (Jvm.Cond.code ({ cls := "UmbrellaHeir", name := "anew", desc := "()V" } : Jvm.MethodName) prog_1_method_7_code (1 : Nat) (Option.none : Option Jvm.ClassFile.FieldType)) ∈ lw_all := lw_g (lw_at lw_m2 104 rfl) rfl
theorem q459 : (Jvm.Cond.methodLink "UmbrellaHeir" (87 : Nat) ({ cls := "UmbrellaHeir", name := "in", desc := "(III)Z" } : Jvm.MethodName)) ∈ lw_all := lw_g (lw_at lw_m2 105 rfl) rfl
theorem q460 : (Jvm.Cond.static ({ cls := "UmbrellaHeir", name := "in", desc := "(III)Z" } : Jvm.MethodName)) ∈ lw_all := lw_g (lw_at lw_m2 106 rfl) rfl
theorem q461 : (Jvm.Cond.code ({ cls := "UmbrellaHeir", name := "in", desc := "(III)Z" } : Jvm.MethodName) prog_1_method_1_code (3 : Nat) (Option.some Jvm.ClassFile.FieldType.boolean)) ∈ lw_all := lw_g (lw_at lw_m2 107 rfl) rfl
theorem q462 : (Jvm.Cond.methodLink "UmbrellaHeir" (91 : Nat) ({ cls := "UmbrellaHeir", name := "no", desc := "(I)I" } : Jvm.MethodName)) ∈ lw_all := lw_g (lw_at lw_m2 108 rfl) rfl
theorem q463 : (Jvm.Cond.privateMethod ({ cls := "UmbrellaHeir", name := "no", desc := "(I)I" } : Jvm.MethodName)) ∈ lw_tbl := lw_at lw_m2 109 rfl
theorem q464 : (Jvm.Cond.instanceMethod ({ cls := "UmbrellaHeir", name := "no", desc := "(I)I" } : Jvm.MethodName)) ∈ lw_all := lw_g (lw_at lw_m2 110 rfl) rfl
theorem q465 : (Jvm.Cond.code ({ cls := "UmbrellaHeir", name := "no", desc := "(I)I" } : Jvm.MethodName) prog_1_method_8_code (2 : Nat) (Option.some Jvm.ClassFile.FieldType.int)) ∈ lw_all := lw_g (lw_at lw_m2 111 rfl) rfl
theorem q466 : (Jvm.Cond.methodLink "UmbrellaHeir" (98 : Nat) ({ cls := "UmbrellaHeir$Reader", name := "read", desc := "(I)LUmbrellaHeir$County;" } : Jvm.MethodName)) ∈ lw_all := lw_g (lw_at lw_m2 112 rfl) rfl
theorem q486 : (Jvm.Cond.fieldLink "UmbrellaHeir" (164 : Nat) "UmbrellaHeir$County" "people" "[LUmbrellaHeir$Person;") ∈ lw_all := lw_g (lw_at lw_m2 132 rfl) rfl
theorem q491 : (Jvm.Cond.fieldLink "UmbrellaHeir" (138 : Nat) "UmbrellaHeir$County" "umbrellas" "[LUmbrellaHeir$Umbrella;") ∈ lw_all := lw_g (lw_at lw_m2 137 rfl) rfl
theorem q501 : (Jvm.Cond.fieldLink "UmbrellaHeir" (314 : Nat) "UmbrellaHeir$County" "lapse" "I") ∈ lw_all := lw_g (lw_at lw_m2 147 rfl) rfl
theorem q503 : (Jvm.Cond.fieldLink "UmbrellaHeir" (253 : Nat) "UmbrellaHeir$County" "gust" "I") ∈ lw_all := lw_g (lw_at lw_m2 149 rfl) rfl
theorem q505 : (Jvm.Cond.fieldLink "UmbrellaHeir" (291 : Nat) "UmbrellaHeir$County" "rains" "I") ∈ lw_all := lw_g (lw_at lw_m2 151 rfl) rfl
theorem q509 : (Jvm.Cond.fieldLink "UmbrellaHeir" (131 : Nat) "UmbrellaHeir$County" "personMany" "I") ∈ lw_all := lw_g (lw_at lw_m2 155 rfl) rfl
theorem q515 : (Jvm.Cond.fieldLink "UmbrellaHeir" (126 : Nat) "UmbrellaHeir$County" "umbrellaMany" "I") ∈ lw_all := lw_g (lw_at lw_m2 161 rfl) rfl
theorem q519 : (Jvm.Cond.fieldLink "UmbrellaHeir" (317 : Nat) "UmbrellaHeir$County" "logMany" "I") ∈ lw_all := lw_g (lw_at lw_m2 165 rfl) rfl
theorem q522 : (Jvm.Cond.fieldLink "UmbrellaHeir" (320 : Nat) "UmbrellaHeir$County" "claimMany" "I") ∈ lw_all := lw_g (lw_at lw_m2 168 rfl) rfl
theorem q834 : (Jvm.Cond.fieldLink "UmbrellaHeir" (148 : Nat) "UmbrellaHeir$Umbrella" "lands" "I") ∈ lw_all := lw_g (lw_at lw_m4 0 rfl) rfl
theorem q838 : (Jvm.Cond.fieldLink "UmbrellaHeir" (151 : Nat) "UmbrellaHeir$Umbrella" "ribs" "I") ∈ lw_all := lw_g (lw_at lw_m4 4 rfl) rfl
theorem q1012 : (Jvm.Cond.methodLink "UmbrellaHeir" (112 : Nat) ({ cls := "UmbrellaHeir$Hall", name := "begin", desc := "(LUmbrellaHeir$County;)V" } : Jvm.MethodName)) ∈ lw_all := lw_g (lw_at lw_m4 178 rfl) rfl
theorem q1039 : (Jvm.Cond.methodLink "UmbrellaHeir" (116 : Nat) ({ cls := "UmbrellaHeir$Course", name := "run", desc := "(LUmbrellaHeir$County;III)V" } : Jvm.MethodName)) ∈ lw_all := lw_g (lw_at lw_m4 205 rfl) rfl
theorem q1122 : (Jvm.Cond.static ({ cls := "UmbrellaHeir", name := "ones", desc := "(I)I" } : Jvm.MethodName)) ∈ lw_all := lw_g (lw_at lw_m5 48 rfl) rfl
theorem q1123 : (Jvm.Cond.code ({ cls := "UmbrellaHeir", name := "ones", desc := "(I)I" } : Jvm.MethodName) prog_1_method_3_code (3 : Nat) (Option.some Jvm.ClassFile.FieldType.int)) ∈ lw_all := lw_g (lw_at lw_m5 49 rfl) rfl
theorem q1125 : (Jvm.Cond.static ({ cls := "UmbrellaHeir", name := "has", desc := "(II)Z" } : Jvm.MethodName)) ∈ lw_all := lw_g (lw_at lw_m5 51 rfl) rfl
theorem q1126 : (Jvm.Cond.code ({ cls := "UmbrellaHeir", name := "has", desc := "(II)Z" } : Jvm.MethodName) prog_1_method_2_code (2 : Nat) (Option.some Jvm.ClassFile.FieldType.boolean)) ∈ lw_all := lw_g (lw_at lw_m5 52 rfl) rfl
theorem q1131 : (Jvm.Cond.instanceMethod ({ cls := "UmbrellaHeir", name := "fault", desc := "()I" } : Jvm.MethodName)) ∈ lw_all := lw_g (lw_at lw_m5 57 rfl) rfl
theorem q1132 : (Jvm.Cond.selects "UmbrellaHeir" ({ cls := "UmbrellaHeir", name := "fault", desc := "()I" } : Jvm.MethodName) ({ cls := "UmbrellaHeir", name := "fault", desc := "()I" } : Jvm.MethodName)) ∈ lw_all := lw_g (lw_at lw_m5 58 rfl) rfl
theorem q1133 : (Jvm.Cond.code ({ cls := "UmbrellaHeir", name := "fault", desc := "()I" } : Jvm.MethodName) prog_1_method_13_code (1 : Nat) (Option.some Jvm.ClassFile.FieldType.int)) ∈ lw_all := lw_g (lw_at lw_m5 59 rfl) rfl
theorem q1135 : (Jvm.Cond.instanceMethod ({ cls := "UmbrellaHeir", name := "where", desc := "()I" } : Jvm.MethodName)) ∈ lw_all := lw_g (lw_at lw_m5 61 rfl) rfl
theorem q1136 : (Jvm.Cond.selects "UmbrellaHeir" ({ cls := "UmbrellaHeir", name := "where", desc := "()I" } : Jvm.MethodName) ({ cls := "UmbrellaHeir", name := "where", desc := "()I" } : Jvm.MethodName)) ∈ lw_all := lw_g (lw_at lw_m5 62 rfl) rfl
theorem q1137 : (Jvm.Cond.code ({ cls := "UmbrellaHeir", name := "where", desc := "()I" } : Jvm.MethodName) prog_1_method_14_code (1 : Nat) (Option.some Jvm.ClassFile.FieldType.int)) ∈ lw_all := lw_g (lw_at lw_m5 63 rfl) rfl
theorem q1139 : (Jvm.Cond.instanceMethod ({ cls := "UmbrellaHeir", name := "umbrella", desc := "(II)I" } : Jvm.MethodName)) ∈ lw_all := lw_g (lw_at lw_m5 65 rfl) rfl
theorem q1140 : (Jvm.Cond.selects "UmbrellaHeir" ({ cls := "UmbrellaHeir", name := "umbrella", desc := "(II)I" } : Jvm.MethodName) ({ cls := "UmbrellaHeir", name := "umbrella", desc := "(II)I" } : Jvm.MethodName)) ∈ lw_all := lw_g (lw_at lw_m5 66 rfl) rfl
theorem q1141 : (Jvm.Cond.code ({ cls := "UmbrellaHeir", name := "umbrella", desc := "(II)I" } : Jvm.MethodName) prog_1_method_17_code (4 : Nat) (Option.some Jvm.ClassFile.FieldType.int)) ∈ lw_all := lw_g (lw_at lw_m5 67 rfl) rfl
theorem q1142 : (Jvm.Cond.methodLink "UmbrellaHeir" (134 : Nat) ({ cls := "UmbrellaHeir", name := "isUmbrella", desc := "(I)Z" } : Jvm.MethodName)) ∈ lw_all := lw_g (lw_at lw_m5 68 rfl) rfl
theorem q1143 : (Jvm.Cond.privateMethod ({ cls := "UmbrellaHeir", name := "isUmbrella", desc := "(I)Z" } : Jvm.MethodName)) ∈ lw_tbl := lw_at lw_m5 69 rfl
theorem q1144 : (Jvm.Cond.instanceMethod ({ cls := "UmbrellaHeir", name := "isUmbrella", desc := "(I)Z" } : Jvm.MethodName)) ∈ lw_all := lw_g (lw_at lw_m5 70 rfl) rfl
theorem q1145 : (Jvm.Cond.code ({ cls := "UmbrellaHeir", name := "isUmbrella", desc := "(I)Z" } : Jvm.MethodName) prog_1_method_15_code (2 : Nat) (Option.some Jvm.ClassFile.FieldType.boolean)) ∈ lw_all := lw_g (lw_at lw_m5 71 rfl) rfl
theorem q1146 : (Jvm.Cond.methodLink "UmbrellaHeir" (142 : Nat) ({ cls := "UmbrellaHeir$Umbrella", name := "kind", desc := "()I" } : Jvm.MethodName)) ∈ lw_all := lw_g (lw_at lw_m5 72 rfl) rfl
theorem q1162 : (Jvm.Cond.instanceMethod ({ cls := "UmbrellaHeir", name := "person", desc := "(II)I" } : Jvm.MethodName)) ∈ lw_all := lw_g (lw_at lw_m5 88 rfl) rfl
theorem q1163 : (Jvm.Cond.selects "UmbrellaHeir" ({ cls := "UmbrellaHeir", name := "person", desc := "(II)I" } : Jvm.MethodName) ({ cls := "UmbrellaHeir", name := "person", desc := "(II)I" } : Jvm.MethodName)) ∈ lw_all := lw_g (lw_at lw_m5 89 rfl) rfl
theorem q1164 : (Jvm.Cond.code ({ cls := "UmbrellaHeir", name := "person", desc := "(II)I" } : Jvm.MethodName) prog_1_method_18_code (3 : Nat) (Option.some Jvm.ClassFile.FieldType.int)) ∈ lw_all := lw_g (lw_at lw_m5 90 rfl) rfl
theorem q1165 : (Jvm.Cond.methodLink "UmbrellaHeir" (161 : Nat) ({ cls := "UmbrellaHeir", name := "isPerson", desc := "(I)Z" } : Jvm.MethodName)) ∈ lw_all := lw_g (lw_at lw_m5 91 rfl) rfl
theorem q1166 : (Jvm.Cond.privateMethod ({ cls := "UmbrellaHeir", name := "isPerson", desc := "(I)Z" } : Jvm.MethodName)) ∈ lw_tbl := lw_at lw_m5 92 rfl
theorem q1167 : (Jvm.Cond.instanceMethod ({ cls := "UmbrellaHeir", name := "isPerson", desc := "(I)Z" } : Jvm.MethodName)) ∈ lw_all := lw_g (lw_at lw_m5 93 rfl) rfl
theorem q1168 : (Jvm.Cond.code ({ cls := "UmbrellaHeir", name := "isPerson", desc := "(I)Z" } : Jvm.MethodName) prog_1_method_16_code (2 : Nat) (Option.some Jvm.ClassFile.FieldType.boolean)) ∈ lw_all := lw_g (lw_at lw_m5 94 rfl) rfl
theorem q1169 : (Jvm.Cond.methodLink "UmbrellaHeir" (168 : Nat) ({ cls := "UmbrellaHeir$Person", name := "sort", desc := "()I" } : Jvm.MethodName)) ∈ lw_all := lw_g (lw_at lw_m5 95 rfl) rfl
theorem q1181 : (Jvm.Cond.methodLink "UmbrellaHeir" (173 : Nat) ({ cls := "UmbrellaHeir$Hall", name := "has", desc := "(I)I" } : Jvm.MethodName)) ∈ lw_all := lw_g (lw_at lw_m5 107 rfl) rfl
theorem q1182 : (Jvm.Cond.methodLink "UmbrellaHeir" (176 : Nat) ({ cls := "UmbrellaHeir$Hall", name := "lands", desc := "(I)I" } : Jvm.MethodName)) ∈ lw_all := lw_g (lw_at lw_m5 108 rfl) rfl
theorem q1187 : (Jvm.Cond.instanceMethod ({ cls := "UmbrellaHeir", name := "alike", desc := "(I)I" } : Jvm.MethodName)) ∈ lw_all := lw_g (lw_at lw_m5 113 rfl) rfl
theorem q1188 : (Jvm.Cond.selects "UmbrellaHeir" ({ cls := "UmbrellaHeir", name := "alike", desc := "(I)I" } : Jvm.MethodName) ({ cls := "UmbrellaHeir", name := "alike", desc := "(I)I" } : Jvm.MethodName)) ∈ lw_all := lw_g (lw_at lw_m5 114 rfl) rfl
theorem q1189 : (Jvm.Cond.code ({ cls := "UmbrellaHeir", name := "alike", desc := "(I)I" } : Jvm.MethodName) prog_1_method_19_code (4 : Nat) (Option.some Jvm.ClassFile.FieldType.int)) ∈ lw_all := lw_g (lw_at lw_m5 115 rfl) rfl
theorem q1190 : (Jvm.Cond.methodLink "UmbrellaHeir" (178 : Nat) ({ cls := "UmbrellaHeir$County", name := "areAlike", desc := "(II)Z" } : Jvm.MethodName)) ∈ lw_all := lw_g (lw_at lw_m5 116 rfl) rfl
theorem q1196 : (Jvm.Cond.instanceMethod ({ cls := "UmbrellaHeir", name := "right", desc := "()I" } : Jvm.MethodName)) ∈ lw_all := lw_g (lw_at lw_m5 122 rfl) rfl
theorem q1197 : (Jvm.Cond.selects "UmbrellaHeir" ({ cls := "UmbrellaHeir", name := "right", desc := "()I" } : Jvm.MethodName) ({ cls := "UmbrellaHeir", name := "right", desc := "()I" } : Jvm.MethodName)) ∈ lw_all := lw_g (lw_at lw_m5 123 rfl) rfl
theorem q1198 : (Jvm.Cond.code ({ cls := "UmbrellaHeir", name := "right", desc := "()I" } : Jvm.MethodName) prog_1_method_20_code (1 : Nat) (Option.some Jvm.ClassFile.FieldType.int)) ∈ lw_all := lw_g (lw_at lw_m5 124 rfl) rfl
theorem q1199 : (Jvm.Cond.methodLink "UmbrellaHeir" (182 : Nat) ({ cls := "UmbrellaHeir$Hall", name := "right", desc := "()I" } : Jvm.MethodName)) ∈ lw_all := lw_g (lw_at lw_m5 125 rfl) rfl
theorem q1204 : (Jvm.Cond.instanceMethod ({ cls := "UmbrellaHeir", name := "richest", desc := "()I" } : Jvm.MethodName)) ∈ lw_all := lw_g (lw_at lw_m5 130 rfl) rfl
theorem q1205 : (Jvm.Cond.selects "UmbrellaHeir" ({ cls := "UmbrellaHeir", name := "richest", desc := "()I" } : Jvm.MethodName) ({ cls := "UmbrellaHeir", name := "richest", desc := "()I" } : Jvm.MethodName)) ∈ lw_all := lw_g (lw_at lw_m5 131 rfl) rfl
theorem q1206 : (Jvm.Cond.code ({ cls := "UmbrellaHeir", name := "richest", desc := "()I" } : Jvm.MethodName) prog_1_method_21_code (3 : Nat) (Option.some Jvm.ClassFile.FieldType.int)) ∈ lw_all := lw_g (lw_at lw_m5 132 rfl) rfl
theorem q1208 : (Jvm.Cond.instanceMethod ({ cls := "UmbrellaHeir", name := "hasIt", desc := "(II)I" } : Jvm.MethodName)) ∈ lw_all := lw_g (lw_at lw_m5 134 rfl) rfl
theorem q1209 : (Jvm.Cond.selects "UmbrellaHeir" ({ cls := "UmbrellaHeir", name := "hasIt", desc := "(II)I" } : Jvm.MethodName) ({ cls := "UmbrellaHeir", name := "hasIt", desc := "(II)I" } : Jvm.MethodName)) ∈ lw_all := lw_g (lw_at lw_m5 135 rfl) rfl
theorem q1210 : (Jvm.Cond.code ({ cls := "UmbrellaHeir", name := "hasIt", desc := "(II)I" } : Jvm.MethodName) prog_1_method_23_code (4 : Nat) (Option.some Jvm.ClassFile.FieldType.int)) ∈ lw_all := lw_g (lw_at lw_m5 136 rfl) rfl
theorem q1211 : (Jvm.Cond.methodLink "UmbrellaHeir" (185 : Nat) ({ cls := "UmbrellaHeir", name := "dayWhy", desc := "(ZI)I" } : Jvm.MethodName)) ∈ lw_all := lw_g (lw_at lw_m5 137 rfl) rfl
theorem q1212 : (Jvm.Cond.privateMethod ({ cls := "UmbrellaHeir", name := "dayWhy", desc := "(ZI)I" } : Jvm.MethodName)) ∈ lw_tbl := lw_at lw_m5 138 rfl
theorem q1213 : (Jvm.Cond.instanceMethod ({ cls := "UmbrellaHeir", name := "dayWhy", desc := "(ZI)I" } : Jvm.MethodName)) ∈ lw_all := lw_g (lw_at lw_m5 139 rfl) rfl
theorem q1214 : (Jvm.Cond.code ({ cls := "UmbrellaHeir", name := "dayWhy", desc := "(ZI)I" } : Jvm.MethodName) prog_1_method_22_code (3 : Nat) (Option.some Jvm.ClassFile.FieldType.int)) ∈ lw_all := lw_g (lw_at lw_m5 140 rfl) rfl
theorem q1215 : (Jvm.Cond.methodLink "UmbrellaHeir" (189 : Nat) ({ cls := "UmbrellaHeir$Course", name := "holder", desc := "(II)I" } : Jvm.MethodName)) ∈ lw_all := lw_g (lw_at lw_m5 141 rfl) rfl
theorem q1220 : (Jvm.Cond.instanceMethod ({ cls := "UmbrellaHeir", name := "titleOf", desc := "(II)I" } : Jvm.MethodName)) ∈ lw_all := lw_g (lw_at lw_m5 146 rfl) rfl
theorem q1221 : (Jvm.Cond.selects "UmbrellaHeir" ({ cls := "UmbrellaHeir", name := "titleOf", desc := "(II)I" } : Jvm.MethodName) ({ cls := "UmbrellaHeir", name := "titleOf", desc := "(II)I" } : Jvm.MethodName)) ∈ lw_all := lw_g (lw_at lw_m5 147 rfl) rfl
theorem q1222 : (Jvm.Cond.code ({ cls := "UmbrellaHeir", name := "titleOf", desc := "(II)I" } : Jvm.MethodName) prog_1_method_24_code (4 : Nat) (Option.some Jvm.ClassFile.FieldType.int)) ∈ lw_all := lw_g (lw_at lw_m5 148 rfl) rfl
theorem q1223 : (Jvm.Cond.methodLink "UmbrellaHeir" (193 : Nat) ({ cls := "UmbrellaHeir$Course", name := "title", desc := "(II)I" } : Jvm.MethodName)) ∈ lw_all := lw_g (lw_at lw_m5 149 rfl) rfl
theorem q1228 : (Jvm.Cond.instanceMethod ({ cls := "UmbrellaHeir", name := "landsOf", desc := "(II)I" } : Jvm.MethodName)) ∈ lw_all := lw_g (lw_at lw_m5 154 rfl) rfl
theorem q1229 : (Jvm.Cond.selects "UmbrellaHeir" ({ cls := "UmbrellaHeir", name := "landsOf", desc := "(II)I" } : Jvm.MethodName) ({ cls := "UmbrellaHeir", name := "landsOf", desc := "(II)I" } : Jvm.MethodName)) ∈ lw_all := lw_g (lw_at lw_m5 155 rfl) rfl
theorem q1230 : (Jvm.Cond.code ({ cls := "UmbrellaHeir", name := "landsOf", desc := "(II)I" } : Jvm.MethodName) prog_1_method_26_code (4 : Nat) (Option.some Jvm.ClassFile.FieldType.int)) ∈ lw_all := lw_g (lw_at lw_m5 156 rfl) rfl
theorem q1231 : (Jvm.Cond.methodLink "UmbrellaHeir" (196 : Nat) ({ cls := "UmbrellaHeir", name := "landsBy", desc := "(II)I" } : Jvm.MethodName)) ∈ lw_all := lw_g (lw_at lw_m5 157 rfl) rfl
theorem q1232 : (Jvm.Cond.privateMethod ({ cls := "UmbrellaHeir", name := "landsBy", desc := "(II)I" } : Jvm.MethodName)) ∈ lw_tbl := lw_at lw_m5 158 rfl
theorem q1233 : (Jvm.Cond.instanceMethod ({ cls := "UmbrellaHeir", name := "landsBy", desc := "(II)I" } : Jvm.MethodName)) ∈ lw_all := lw_g (lw_at lw_m5 159 rfl) rfl
theorem q1234 : (Jvm.Cond.code ({ cls := "UmbrellaHeir", name := "landsBy", desc := "(II)I" } : Jvm.MethodName) prog_1_method_25_code (5 : Nat) (Option.some Jvm.ClassFile.FieldType.int)) ∈ lw_all := lw_g (lw_at lw_m5 160 rfl) rfl
theorem q1236 : (Jvm.Cond.instanceMethod ({ cls := "UmbrellaHeir", name := "lapsed", desc := "(I)I" } : Jvm.MethodName)) ∈ lw_all := lw_g (lw_at lw_m5 162 rfl) rfl
theorem q1237 : (Jvm.Cond.selects "UmbrellaHeir" ({ cls := "UmbrellaHeir", name := "lapsed", desc := "(I)I" } : Jvm.MethodName) ({ cls := "UmbrellaHeir", name := "lapsed", desc := "(I)I" } : Jvm.MethodName)) ∈ lw_all := lw_g (lw_at lw_m5 163 rfl) rfl
theorem q1238 : (Jvm.Cond.code ({ cls := "UmbrellaHeir", name := "lapsed", desc := "(I)I" } : Jvm.MethodName) prog_1_method_27_code (3 : Nat) (Option.some Jvm.ClassFile.FieldType.int)) ∈ lw_all := lw_g (lw_at lw_m5 164 rfl) rfl
theorem q1240 : (Jvm.Cond.instanceMethod ({ cls := "UmbrellaHeir", name := "passed", desc := "(I)I" } : Jvm.MethodName)) ∈ lw_all := lw_g (lw_at lw_m5 166 rfl) rfl
theorem q1241 : (Jvm.Cond.selects "UmbrellaHeir" ({ cls := "UmbrellaHeir", name := "passed", desc := "(I)I" } : Jvm.MethodName) ({ cls := "UmbrellaHeir", name := "passed", desc := "(I)I" } : Jvm.MethodName)) ∈ lw_all := lw_g (lw_at lw_m5 167 rfl) rfl
theorem q1242 : (Jvm.Cond.code ({ cls := "UmbrellaHeir", name := "passed", desc := "(I)I" } : Jvm.MethodName) prog_1_method_28_code (5 : Nat) (Option.some Jvm.ClassFile.FieldType.int)) ∈ lw_all := lw_g (lw_at lw_m5 168 rfl) rfl
theorem q1244 : (Jvm.Cond.instanceMethod ({ cls := "UmbrellaHeir", name := "judge", desc := "()I" } : Jvm.MethodName)) ∈ lw_all := lw_g (lw_at lw_m5 170 rfl) rfl
theorem q1245 : (Jvm.Cond.selects "UmbrellaHeir" ({ cls := "UmbrellaHeir", name := "judge", desc := "()I" } : Jvm.MethodName) ({ cls := "UmbrellaHeir", name := "judge", desc := "()I" } : Jvm.MethodName)) ∈ lw_all := lw_g (lw_at lw_m5 171 rfl) rfl
theorem q1246 : (Jvm.Cond.code ({ cls := "UmbrellaHeir", name := "judge", desc := "()I" } : Jvm.MethodName) prog_1_method_29_code (1 : Nat) (Option.some Jvm.ClassFile.FieldType.int)) ∈ lw_all := lw_g (lw_at lw_m5 172 rfl) rfl
theorem q1247 : (Jvm.Cond.methodLink "UmbrellaHeir" (199 : Nat) ({ cls := "UmbrellaHeir$Course", name := "wrongly", desc := "(LUmbrellaHeir$County;)I" } : Jvm.MethodName)) ∈ lw_all := lw_g (lw_at lw_m5 173 rfl) rfl
theorem q1253 : (Jvm.Cond.instanceMethod ({ cls := "UmbrellaHeir", name := "ways", desc := "()I" } : Jvm.MethodName)) ∈ lw_all := lw_g (lw_at lw_m5 179 rfl) rfl
theorem q1254 : (Jvm.Cond.selects "UmbrellaHeir" ({ cls := "UmbrellaHeir", name := "ways", desc := "()I" } : Jvm.MethodName) ({ cls := "UmbrellaHeir", name := "ways", desc := "()I" } : Jvm.MethodName)) ∈ lw_all := lw_g (lw_at lw_m5 180 rfl) rfl
theorem q1255 : (Jvm.Cond.code ({ cls := "UmbrellaHeir", name := "ways", desc := "()I" } : Jvm.MethodName) prog_1_method_32_code (1 : Nat) (Option.some Jvm.ClassFile.FieldType.int)) ∈ lw_all := lw_g (lw_at lw_m5 181 rfl) rfl
theorem q1256 : (Jvm.Cond.methodLink "UmbrellaHeir" (213 : Nat) ({ cls := "UmbrellaHeir", name := "seekWays", desc := "(I)V" } : Jvm.MethodName)) ∈ lw_all := lw_g (lw_at lw_m5 182 rfl) rfl
theorem q1257 : (Jvm.Cond.privateMethod ({ cls := "UmbrellaHeir", name := "seekWays", desc := "(I)V" } : Jvm.MethodName)) ∈ lw_tbl := lw_at lw_m5 183 rfl
theorem q1258 : (Jvm.Cond.instanceMethod ({ cls := "UmbrellaHeir", name := "seekWays", desc := "(I)V" } : Jvm.MethodName)) ∈ lw_all := lw_g (lw_at lw_m5 184 rfl) rfl
theorem q1259 : (Jvm.Cond.code ({ cls := "UmbrellaHeir", name := "seekWays", desc := "(I)V" } : Jvm.MethodName) prog_1_method_31_code (5 : Nat) (Option.none : Option Jvm.ClassFile.FieldType)) ∈ lw_all := lw_g (lw_at lw_m5 185 rfl) rfl
theorem q1260 : (Jvm.Cond.methodLink "UmbrellaHeir" (209 : Nat) ({ cls := "UmbrellaHeir", name := "way", desc := "(II)V" } : Jvm.MethodName)) ∈ lw_all := lw_g (lw_at lw_m5 186 rfl) rfl
theorem q1261 : (Jvm.Cond.privateMethod ({ cls := "UmbrellaHeir", name := "way", desc := "(II)V" } : Jvm.MethodName)) ∈ lw_tbl := lw_at lw_m5 187 rfl
theorem q1262 : (Jvm.Cond.instanceMethod ({ cls := "UmbrellaHeir", name := "way", desc := "(II)V" } : Jvm.MethodName)) ∈ lw_all := lw_g (lw_at lw_m5 188 rfl) rfl
theorem q1263 : (Jvm.Cond.code ({ cls := "UmbrellaHeir", name := "way", desc := "(II)V" } : Jvm.MethodName) prog_1_method_30_code (3 : Nat) (Option.none : Option Jvm.ClassFile.FieldType)) ∈ lw_all := lw_g (lw_at lw_m5 189 rfl) rfl
theorem q1265 : (Jvm.Cond.instanceMethod ({ cls := "UmbrellaHeir", name := "wayAt", desc := "(I)I" } : Jvm.MethodName)) ∈ lw_all := lw_g (lw_at lw_m5 191 rfl) rfl
theorem q1266 : (Jvm.Cond.selects "UmbrellaHeir" ({ cls := "UmbrellaHeir", name := "wayAt", desc := "(I)I" } : Jvm.MethodName) ({ cls := "UmbrellaHeir", name := "wayAt", desc := "(I)I" } : Jvm.MethodName)) ∈ lw_all := lw_g (lw_at lw_m5 192 rfl) rfl
theorem q1267 : (Jvm.Cond.code ({ cls := "UmbrellaHeir", name := "wayAt", desc := "(I)I" } : Jvm.MethodName) prog_1_method_33_code (2 : Nat) (Option.some Jvm.ClassFile.FieldType.int)) ∈ lw_all := lw_g (lw_at lw_m5 193 rfl) rfl
theorem q1269 : (Jvm.Cond.instanceMethod ({ cls := "UmbrellaHeir", name := "longest", desc := "(I)I" } : Jvm.MethodName)) ∈ lw_all := lw_g (lw_at lw_m5 195 rfl) rfl
theorem q1270 : (Jvm.Cond.selects "UmbrellaHeir" ({ cls := "UmbrellaHeir", name := "longest", desc := "(I)I" } : Jvm.MethodName) ({ cls := "UmbrellaHeir", name := "longest", desc := "(I)I" } : Jvm.MethodName)) ∈ lw_all := lw_g (lw_at lw_m5 196 rfl) rfl
theorem q1271 : (Jvm.Cond.code ({ cls := "UmbrellaHeir", name := "longest", desc := "(I)I" } : Jvm.MethodName) prog_1_method_34_code (6 : Nat) (Option.some Jvm.ClassFile.FieldType.int)) ∈ lw_all := lw_g (lw_at lw_m5 197 rfl) rfl
theorem q1272 : (Jvm.Cond.methodLink "UmbrellaHeir" (216 : Nat) ({ cls := "java/lang/Math", name := "max", desc := "(II)I" } : Jvm.MethodName)) ∈ lw_all := lw_g (lw_at lw_m5 198 rfl) rfl
theorem q1276 : (Jvm.Cond.instanceMethod ({ cls := "UmbrellaHeir", name := "worstDay", desc := "()I" } : Jvm.MethodName)) ∈ lw_all := lw_g (lw_at lw_m5 202 rfl) rfl
theorem q1277 : (Jvm.Cond.selects "UmbrellaHeir" ({ cls := "UmbrellaHeir", name := "worstDay", desc := "()I" } : Jvm.MethodName) ({ cls := "UmbrellaHeir", name := "worstDay", desc := "()I" } : Jvm.MethodName)) ∈ lw_all := lw_g (lw_at lw_m5 203 rfl) rfl
theorem q1278 : (Jvm.Cond.code ({ cls := "UmbrellaHeir", name := "worstDay", desc := "()I" } : Jvm.MethodName) prog_1_method_35_code (3 : Nat) (Option.some Jvm.ClassFile.FieldType.int)) ∈ lw_all := lw_g (lw_at lw_m5 204 rfl) rfl
theorem q1280 : (Jvm.Cond.instanceMethod ({ cls := "UmbrellaHeir", name := "owing", desc := "(II)I" } : Jvm.MethodName)) ∈ lw_all := lw_g (lw_at lw_m5 206 rfl) rfl
theorem q1281 : (Jvm.Cond.selects "UmbrellaHeir" ({ cls := "UmbrellaHeir", name := "owing", desc := "(II)I" } : Jvm.MethodName) ({ cls := "UmbrellaHeir", name := "owing", desc := "(II)I" } : Jvm.MethodName)) ∈ lw_all := lw_g (lw_at lw_m5 207 rfl) rfl
theorem q1282 : (Jvm.Cond.code ({ cls := "UmbrellaHeir", name := "owing", desc := "(II)I" } : Jvm.MethodName) prog_1_method_36_code (5 : Nat) (Option.some Jvm.ClassFile.FieldType.int)) ∈ lw_all := lw_g (lw_at lw_m5 208 rfl) rfl
theorem q1284 : (Jvm.Cond.instanceMethod ({ cls := "UmbrellaHeir", name := "change", desc := "(IZ)I" } : Jvm.MethodName)) ∈ lw_all := lw_g (lw_at lw_m5 210 rfl) rfl
theorem q1285 : (Jvm.Cond.selects "UmbrellaHeir" ({ cls := "UmbrellaHeir", name := "change", desc := "(IZ)I" } : Jvm.MethodName) ({ cls := "UmbrellaHeir", name := "change", desc := "(IZ)I" } : Jvm.MethodName)) ∈ lw_all := lw_g (lw_at lw_m5 211 rfl) rfl
theorem q1286 : (Jvm.Cond.code ({ cls := "UmbrellaHeir", name := "change", desc := "(IZ)I" } : Jvm.MethodName) prog_1_method_37_code (3 : Nat) (Option.some Jvm.ClassFile.FieldType.int)) ∈ lw_all := lw_g (lw_at lw_m5 212 rfl) rfl
theorem q1287 : (Jvm.Cond.methodLink "UmbrellaHeir" (221 : Nat) ({ cls := "UmbrellaHeir$Hall", name := "become", desc := "(LUmbrellaHeir$Hall;)V" } : Jvm.MethodName)) ∈ lw_all := lw_g (lw_at lw_m5 213 rfl) rfl
theorem q1292 : (Jvm.Cond.methodLink "UmbrellaHeir" (225 : Nat) ({ cls := "UmbrellaHeir$Hall", name := "ends", desc := "(Z)V" } : Jvm.MethodName)) ∈ lw_all := lw_g (lw_at lw_m5 218 rfl) rfl
theorem q1294 : (Jvm.Cond.instanceMethod ({ cls := "UmbrellaHeir", name := "lapsesIn", desc := "(I)I" } : Jvm.MethodName)) ∈ lw_all := lw_g (lw_at lw_m5 220 rfl) rfl
theorem q1295 : (Jvm.Cond.selects "UmbrellaHeir" ({ cls := "UmbrellaHeir", name := "lapsesIn", desc := "(I)I" } : Jvm.MethodName) ({ cls := "UmbrellaHeir", name := "lapsesIn", desc := "(I)I" } : Jvm.MethodName)) ∈ lw_all := lw_g (lw_at lw_m5 221 rfl) rfl
theorem q1296 : (Jvm.Cond.code ({ cls := "UmbrellaHeir", name := "lapsesIn", desc := "(I)I" } : Jvm.MethodName) prog_1_method_38_code (3 : Nat) (Option.some Jvm.ClassFile.FieldType.int)) ∈ lw_all := lw_g (lw_at lw_m5 222 rfl) rfl
theorem q1298 : (Jvm.Cond.instanceMethod ({ cls := "UmbrellaHeir", name := "guest", desc := "(I)I" } : Jvm.MethodName)) ∈ lw_all := lw_g (lw_at lw_m5 224 rfl) rfl
theorem q1299 : (Jvm.Cond.selects "UmbrellaHeir" ({ cls := "UmbrellaHeir", name := "guest", desc := "(I)I" } : Jvm.MethodName) ({ cls := "UmbrellaHeir", name := "guest", desc := "(I)I" } : Jvm.MethodName)) ∈ lw_all := lw_g (lw_at lw_m5 225 rfl) rfl
theorem q1300 : (Jvm.Cond.code ({ cls := "UmbrellaHeir", name := "guest", desc := "(I)I" } : Jvm.MethodName) prog_1_method_39_code (6 : Nat) (Option.some Jvm.ClassFile.FieldType.int)) ∈ lw_all := lw_g (lw_at lw_m5 226 rfl) rfl
theorem q1301 : (Jvm.Cond.methodLink "UmbrellaHeir" (229 : Nat) ({ cls := "UmbrellaHeir", name := "arePeople", desc := "(I)Z" } : Jvm.MethodName)) ∈ lw_all := lw_g (lw_at lw_m5 227 rfl) rfl
theorem q1302 : (Jvm.Cond.privateMethod ({ cls := "UmbrellaHeir", name := "arePeople", desc := "(I)Z" } : Jvm.MethodName)) ∈ lw_tbl := lw_at lw_m5 228 rfl
theorem q1303 : (Jvm.Cond.instanceMethod ({ cls := "UmbrellaHeir", name := "arePeople", desc := "(I)Z" } : Jvm.MethodName)) ∈ lw_all := lw_g (lw_at lw_m5 229 rfl) rfl
theorem q1304 : (Jvm.Cond.code ({ cls := "UmbrellaHeir", name := "arePeople", desc := "(I)Z" } : Jvm.MethodName) prog_1_method_43_code (2 : Nat) (Option.some Jvm.ClassFile.FieldType.boolean)) ∈ lw_all := lw_g (lw_at lw_m5 230 rfl) rfl
theorem q1305 : (Jvm.Cond.methodLink "UmbrellaHeir" (232 : Nat) ({ cls := "UmbrellaHeir", name := "has", desc := "(II)Z" } : Jvm.MethodName)) ∈ lw_all := lw_g (lw_at lw_m5 231 rfl) rfl
theorem q1306 : (Jvm.Cond.methodLink "UmbrellaHeir" (234 : Nat) ({ cls := "UmbrellaHeir$Party", name := "seek", desc := "(LUmbrellaHeir$County;LUmbrellaHeir$Hall;I)I" } : Jvm.MethodName)) ∈ lw_all := lw_g (lw_at lw_m5 232 rfl) rfl
theorem q1326 : (Jvm.Cond.instanceMethod ({ cls := "UmbrellaHeir", name := "putRight", desc := "()I" } : Jvm.MethodName)) ∈ lw_all := lw_g (lw_at lw_m6 12 rfl) rfl
theorem q1327 : (Jvm.Cond.selects "UmbrellaHeir" ({ cls := "UmbrellaHeir", name := "putRight", desc := "()I" } : Jvm.MethodName) ({ cls := "UmbrellaHeir", name := "putRight", desc := "()I" } : Jvm.MethodName)) ∈ lw_all := lw_g (lw_at lw_m6 13 rfl) rfl
theorem q1328 : (Jvm.Cond.code ({ cls := "UmbrellaHeir", name := "putRight", desc := "()I" } : Jvm.MethodName) prog_1_method_40_code (1 : Nat) (Option.some Jvm.ClassFile.FieldType.int)) ∈ lw_all := lw_g (lw_at lw_m6 14 rfl) rfl
theorem q1329 : (Jvm.Cond.methodLink "UmbrellaHeir" (238 : Nat) ({ cls := "UmbrellaHeir$Righting", name := "seek", desc := "(LUmbrellaHeir$County;LUmbrellaHeir$Hall;)V" } : Jvm.MethodName)) ∈ lw_all := lw_g (lw_at lw_m6 15 rfl) rfl
theorem q1343 : (Jvm.Cond.instanceMethod ({ cls := "UmbrellaHeir", name := "exchanges", desc := "()I" } : Jvm.MethodName)) ∈ lw_all := lw_g (lw_at lw_m6 29 rfl) rfl
theorem q1344 : (Jvm.Cond.selects "UmbrellaHeir" ({ cls := "UmbrellaHeir", name := "exchanges", desc := "()I" } : Jvm.MethodName) ({ cls := "UmbrellaHeir", name := "exchanges", desc := "()I" } : Jvm.MethodName)) ∈ lw_all := lw_g (lw_at lw_m6 30 rfl) rfl
theorem q1345 : (Jvm.Cond.code ({ cls := "UmbrellaHeir", name := "exchanges", desc := "()I" } : Jvm.MethodName) prog_1_method_41_code (1 : Nat) (Option.some Jvm.ClassFile.FieldType.int)) ∈ lw_all := lw_g (lw_at lw_m6 31 rfl) rfl
theorem q1347 : (Jvm.Cond.instanceMethod ({ cls := "UmbrellaHeir", name := "exchangeAt", desc := "(I)I" } : Jvm.MethodName)) ∈ lw_all := lw_g (lw_at lw_m6 33 rfl) rfl
theorem q1348 : (Jvm.Cond.selects "UmbrellaHeir" ({ cls := "UmbrellaHeir", name := "exchangeAt", desc := "(I)I" } : Jvm.MethodName) ({ cls := "UmbrellaHeir", name := "exchangeAt", desc := "(I)I" } : Jvm.MethodName)) ∈ lw_all := lw_g (lw_at lw_m6 34 rfl) rfl
theorem q1349 : (Jvm.Cond.code ({ cls := "UmbrellaHeir", name := "exchangeAt", desc := "(I)I" } : Jvm.MethodName) prog_1_method_42_code (2 : Nat) (Option.some Jvm.ClassFile.FieldType.int)) ∈ lw_all := lw_g (lw_at lw_m6 35 rfl) rfl
theorem q1350 : (Jvm.Cond.methodLink "UmbrellaHeir" (246 : Nat) ({ cls := "UmbrellaHeir$Righting", name := "at", desc := "(I)I" } : Jvm.MethodName)) ∈ lw_all := lw_g (lw_at lw_m6 36 rfl) rfl
theorem q1355 : (Jvm.Cond.instanceMethod ({ cls := "UmbrellaHeir", name := "party", desc := "(I)I" } : Jvm.MethodName)) ∈ lw_all := lw_g (lw_at lw_m6 41 rfl) rfl
theorem q1356 : (Jvm.Cond.selects "UmbrellaHeir" ({ cls := "UmbrellaHeir", name := "party", desc := "(I)I" } : Jvm.MethodName) ({ cls := "UmbrellaHeir", name := "party", desc := "(I)I" } : Jvm.MethodName)) ∈ lw_all := lw_g (lw_at lw_m6 42 rfl) rfl
theorem q1357 : (Jvm.Cond.code ({ cls := "UmbrellaHeir", name := "party", desc := "(I)I" } : Jvm.MethodName) prog_1_method_44_code (2 : Nat) (Option.some Jvm.ClassFile.FieldType.int)) ∈ lw_all := lw_g (lw_at lw_m6 43 rfl) rfl
theorem q1359 : (Jvm.Cond.instanceMethod ({ cls := "UmbrellaHeir", name := "partyOf", desc := "(II)I" } : Jvm.MethodName)) ∈ lw_all := lw_g (lw_at lw_m6 45 rfl) rfl
theorem q1360 : (Jvm.Cond.selects "UmbrellaHeir" ({ cls := "UmbrellaHeir", name := "partyOf", desc := "(II)I" } : Jvm.MethodName) ({ cls := "UmbrellaHeir", name := "partyOf", desc := "(II)I" } : Jvm.MethodName)) ∈ lw_all := lw_g (lw_at lw_m6 46 rfl) rfl
theorem q1361 : (Jvm.Cond.code ({ cls := "UmbrellaHeir", name := "partyOf", desc := "(II)I" } : Jvm.MethodName) prog_1_method_45_code (3 : Nat) (Option.some Jvm.ClassFile.FieldType.int)) ∈ lw_all := lw_g (lw_at lw_m6 47 rfl) rfl
theorem q1362 : (Jvm.Cond.methodLink "UmbrellaHeir" (249 : Nat) ({ cls := "UmbrellaHeir$Party", name := "at", desc := "(I)I" } : Jvm.MethodName)) ∈ lw_all := lw_g (lw_at lw_m6 48 rfl) rfl
theorem q1367 : (Jvm.Cond.instanceMethod ({ cls := "UmbrellaHeir", name := "room", desc := "(I)I" } : Jvm.MethodName)) ∈ lw_all := lw_g (lw_at lw_m6 53 rfl) rfl
theorem q1368 : (Jvm.Cond.selects "UmbrellaHeir" ({ cls := "UmbrellaHeir", name := "room", desc := "(I)I" } : Jvm.MethodName) ({ cls := "UmbrellaHeir", name := "room", desc := "(I)I" } : Jvm.MethodName)) ∈ lw_all := lw_g (lw_at lw_m6 54 rfl) rfl
theorem q1369 : (Jvm.Cond.code ({ cls := "UmbrellaHeir", name := "room", desc := "(I)I" } : Jvm.MethodName) prog_1_method_46_code (2 : Nat) (Option.some Jvm.ClassFile.FieldType.int)) ∈ lw_all := lw_g (lw_at lw_m6 55 rfl) rfl
theorem q1370 : (Jvm.Cond.methodLink "UmbrellaHeir" (250 : Nat) ({ cls := "UmbrellaHeir$Party", name := "room", desc := "()I" } : Jvm.MethodName)) ∈ lw_all := lw_g (lw_at lw_m6 56 rfl) rfl
theorem q1375 : (Jvm.Cond.instanceMethod ({ cls := "UmbrellaHeir", name := "whole", desc := "(IIZ)J" } : Jvm.MethodName)) ∈ lw_all := lw_g (lw_at lw_m6 61 rfl) rfl
theorem q1376 : (Jvm.Cond.selects "UmbrellaHeir" ({ cls := "UmbrellaHeir", name := "whole", desc := "(IIZ)J" } : Jvm.MethodName) ({ cls := "UmbrellaHeir", name := "whole", desc := "(IIZ)J" } : Jvm.MethodName)) ∈ lw_all := lw_g (lw_at lw_m6 62 rfl) rfl
theorem q1377 : (Jvm.Cond.code ({ cls := "UmbrellaHeir", name := "whole", desc := "(IIZ)J" } : Jvm.MethodName) prog_1_method_48_code (9 : Nat) (Option.some Jvm.ClassFile.FieldType.long)) ∈ lw_all := lw_g (lw_at lw_m6 63 rfl) rfl
theorem q1378 : (Jvm.Cond.methodLink "UmbrellaHeir" (258 : Nat) ({ cls := "UmbrellaHeir", name := "stays", desc := "(I)I" } : Jvm.MethodName)) ∈ lw_all := lw_g (lw_at lw_m6 64 rfl) rfl
theorem q1379 : (Jvm.Cond.privateMethod ({ cls := "UmbrellaHeir", name := "stays", desc := "(I)I" } : Jvm.MethodName)) ∈ lw_tbl := lw_at lw_m6 65 rfl
theorem q1380 : (Jvm.Cond.instanceMethod ({ cls := "UmbrellaHeir", name := "stays", desc := "(I)I" } : Jvm.MethodName)) ∈ lw_all := lw_g (lw_at lw_m6 66 rfl) rfl
theorem q1381 : (Jvm.Cond.code ({ cls := "UmbrellaHeir", name := "stays", desc := "(I)I" } : Jvm.MethodName) prog_1_method_47_code (2 : Nat) (Option.some Jvm.ClassFile.FieldType.int)) ∈ lw_all := lw_g (lw_at lw_m6 67 rfl) rfl
theorem q1382 : (Jvm.Cond.methodLink "UmbrellaHeir" (256 : Nat) ({ cls := "UmbrellaHeir$Umbrella", name := "gust", desc := "(I)I" } : Jvm.MethodName)) ∈ lw_all := lw_g (lw_at lw_m6 68 rfl) rfl
theorem q1393 : (Jvm.Cond.constantLong "UmbrellaHeir" (261 : Nat) (100 : Int64)) ∈ lw_all := lw_g (lw_at lw_m6 79 rfl) rfl
theorem q1394 : (Jvm.Cond.methodLink "UmbrellaHeir" (263 : Nat) ({ cls := "UmbrellaHeir", name := "lowest", desc := "(JJZ)J" } : Jvm.MethodName)) ∈ lw_all := lw_g (lw_at lw_m6 80 rfl) rfl
theorem q1395 : (Jvm.Cond.static ({ cls := "UmbrellaHeir", name := "lowest", desc := "(JJZ)J" } : Jvm.MethodName)) ∈ lw_all := lw_g (lw_at lw_m6 81 rfl) rfl
theorem q1396 : (Jvm.Cond.code ({ cls := "UmbrellaHeir", name := "lowest", desc := "(JJZ)J" } : Jvm.MethodName) prog_1_method_5_code (5 : Nat) (Option.some Jvm.ClassFile.FieldType.long)) ∈ lw_all := lw_g (lw_at lw_m6 82 rfl) rfl
theorem q1397 : (Jvm.Cond.methodLink "UmbrellaHeir" (1 : Nat) ({ cls := "UmbrellaHeir", name := "dividing", desc := "(JJ)J" } : Jvm.MethodName)) ∈ lw_all := lw_g (lw_at lw_m6 83 rfl) rfl
theorem q1398 : (Jvm.Cond.static ({ cls := "UmbrellaHeir", name := "dividing", desc := "(JJ)J" } : Jvm.MethodName)) ∈ lw_all := lw_g (lw_at lw_m6 84 rfl) rfl
theorem q1399 : (Jvm.Cond.code ({ cls := "UmbrellaHeir", name := "dividing", desc := "(JJ)J" } : Jvm.MethodName) prog_1_method_4_code (4 : Nat) (Option.some Jvm.ClassFile.FieldType.long)) ∈ lw_all := lw_g (lw_at lw_m6 85 rfl) rfl
theorem q1401 : (Jvm.Cond.instanceMethod ({ cls := "UmbrellaHeir", name := "allWhole", desc := "(IIZ)J" } : Jvm.MethodName)) ∈ lw_all := lw_g (lw_at lw_m6 87 rfl) rfl
theorem q1402 : (Jvm.Cond.selects "UmbrellaHeir" ({ cls := "UmbrellaHeir", name := "allWhole", desc := "(IIZ)J" } : Jvm.MethodName) ({ cls := "UmbrellaHeir", name := "allWhole", desc := "(IIZ)J" } : Jvm.MethodName)) ∈ lw_all := lw_g (lw_at lw_m6 88 rfl) rfl
theorem q1403 : (Jvm.Cond.code ({ cls := "UmbrellaHeir", name := "allWhole", desc := "(IIZ)J" } : Jvm.MethodName) prog_1_method_49_code (10 : Nat) (Option.some Jvm.ClassFile.FieldType.long)) ∈ lw_all := lw_g (lw_at lw_m6 89 rfl) rfl
theorem q1405 : (Jvm.Cond.instanceMethod ({ cls := "UmbrellaHeir", name := "divided", desc := "(III)I" } : Jvm.MethodName)) ∈ lw_all := lw_g (lw_at lw_m6 91 rfl) rfl
theorem q1406 : (Jvm.Cond.selects "UmbrellaHeir" ({ cls := "UmbrellaHeir", name := "divided", desc := "(III)I" } : Jvm.MethodName) ({ cls := "UmbrellaHeir", name := "divided", desc := "(III)I" } : Jvm.MethodName)) ∈ lw_all := lw_g (lw_at lw_m6 92 rfl) rfl
theorem q1407 : (Jvm.Cond.code ({ cls := "UmbrellaHeir", name := "divided", desc := "(III)I" } : Jvm.MethodName) prog_1_method_50_code (5 : Nat) (Option.some Jvm.ClassFile.FieldType.int)) ∈ lw_all := lw_g (lw_at lw_m6 93 rfl) rfl
theorem q1409 : (Jvm.Cond.instanceMethod ({ cls := "UmbrellaHeir", name := "heirs", desc := "(IIIZ)I" } : Jvm.MethodName)) ∈ lw_all := lw_g (lw_at lw_m6 95 rfl) rfl
theorem q1410 : (Jvm.Cond.selects "UmbrellaHeir" ({ cls := "UmbrellaHeir", name := "heirs", desc := "(IIIZ)I" } : Jvm.MethodName) ({ cls := "UmbrellaHeir", name := "heirs", desc := "(IIIZ)I" } : Jvm.MethodName)) ∈ lw_all := lw_g (lw_at lw_m6 96 rfl) rfl
theorem q1411 : (Jvm.Cond.code ({ cls := "UmbrellaHeir", name := "heirs", desc := "(IIIZ)I" } : Jvm.MethodName) prog_1_method_52_code (5 : Nat) (Option.some Jvm.ClassFile.FieldType.int)) ∈ lw_all := lw_g (lw_at lw_m6 97 rfl) rfl
theorem q1412 : (Jvm.Cond.methodLink "UmbrellaHeir" (267 : Nat) ({ cls := "UmbrellaHeir", name := "heirsOf", desc := "(III)I" } : Jvm.MethodName)) ∈ lw_all := lw_g (lw_at lw_m6 98 rfl) rfl
theorem q1413 : (Jvm.Cond.static ({ cls := "UmbrellaHeir", name := "heirsOf", desc := "(III)I" } : Jvm.MethodName)) ∈ lw_all := lw_g (lw_at lw_m6 99 rfl) rfl
theorem q1414 : (Jvm.Cond.code ({ cls := "UmbrellaHeir", name := "heirsOf", desc := "(III)I" } : Jvm.MethodName) prog_1_method_51_code (3 : Nat) (Option.some Jvm.ClassFile.FieldType.int)) ∈ lw_all := lw_g (lw_at lw_m6 100 rfl) rfl
theorem q1416 : (Jvm.Cond.instanceMethod ({ cls := "UmbrellaHeir", name := "rests", desc := "(I)I" } : Jvm.MethodName)) ∈ lw_all := lw_g (lw_at lw_m6 102 rfl) rfl
theorem q1417 : (Jvm.Cond.selects "UmbrellaHeir" ({ cls := "UmbrellaHeir", name := "rests", desc := "(I)I" } : Jvm.MethodName) ({ cls := "UmbrellaHeir", name := "rests", desc := "(I)I" } : Jvm.MethodName)) ∈ lw_all := lw_g (lw_at lw_m6 103 rfl) rfl
theorem q1418 : (Jvm.Cond.code ({ cls := "UmbrellaHeir", name := "rests", desc := "(I)I" } : Jvm.MethodName) prog_1_method_56_code (3 : Nat) (Option.some Jvm.ClassFile.FieldType.int)) ∈ lw_all := lw_g (lw_at lw_m6 104 rfl) rfl
theorem q1419 : (Jvm.Cond.methodLink "UmbrellaHeir" (277 : Nat) ({ cls := "UmbrellaHeir", name := "landsWhy", desc := "(I)I" } : Jvm.MethodName)) ∈ lw_all := lw_g (lw_at lw_m6 105 rfl) rfl
theorem q1420 : (Jvm.Cond.privateMethod ({ cls := "UmbrellaHeir", name := "landsWhy", desc := "(I)I" } : Jvm.MethodName)) ∈ lw_tbl := lw_at lw_m6 106 rfl
theorem q1421 : (Jvm.Cond.instanceMethod ({ cls := "UmbrellaHeir", name := "landsWhy", desc := "(I)I" } : Jvm.MethodName)) ∈ lw_all := lw_g (lw_at lw_m6 107 rfl) rfl
theorem q1422 : (Jvm.Cond.code ({ cls := "UmbrellaHeir", name := "landsWhy", desc := "(I)I" } : Jvm.MethodName) prog_1_method_55_code (2 : Nat) (Option.some Jvm.ClassFile.FieldType.int)) ∈ lw_all := lw_g (lw_at lw_m6 108 rfl) rfl
theorem q1423 : (Jvm.Cond.methodLink "UmbrellaHeir" (280 : Nat) ({ cls := "UmbrellaHeir", name := "seekRests", desc := "(I)I" } : Jvm.MethodName)) ∈ lw_all := lw_g (lw_at lw_m6 109 rfl) rfl
theorem q1424 : (Jvm.Cond.privateMethod ({ cls := "UmbrellaHeir", name := "seekRests", desc := "(I)I" } : Jvm.MethodName)) ∈ lw_tbl := lw_at lw_m6 110 rfl
theorem q1425 : (Jvm.Cond.instanceMethod ({ cls := "UmbrellaHeir", name := "seekRests", desc := "(I)I" } : Jvm.MethodName)) ∈ lw_all := lw_g (lw_at lw_m6 111 rfl) rfl
theorem q1426 : (Jvm.Cond.code ({ cls := "UmbrellaHeir", name := "seekRests", desc := "(I)I" } : Jvm.MethodName) prog_1_method_54_code (5 : Nat) (Option.some Jvm.ClassFile.FieldType.int)) ∈ lw_all := lw_g (lw_at lw_m6 112 rfl) rfl
theorem q1427 : (Jvm.Cond.methodLink "UmbrellaHeir" (274 : Nat) ({ cls := "UmbrellaHeir", name := "isRest", desc := "(III)Z" } : Jvm.MethodName)) ∈ lw_all := lw_g (lw_at lw_m6 113 rfl) rfl
theorem q1428 : (Jvm.Cond.static ({ cls := "UmbrellaHeir", name := "isRest", desc := "(III)Z" } : Jvm.MethodName)) ∈ lw_all := lw_g (lw_at lw_m6 114 rfl) rfl
theorem q1429 : (Jvm.Cond.code ({ cls := "UmbrellaHeir", name := "isRest", desc := "(III)Z" } : Jvm.MethodName) prog_1_method_53_code (5 : Nat) (Option.some Jvm.ClassFile.FieldType.boolean)) ∈ lw_all := lw_g (lw_at lw_m6 115 rfl) rfl
theorem q1431 : (Jvm.Cond.instanceMethod ({ cls := "UmbrellaHeir", name := "rest", desc := "(I)I" } : Jvm.MethodName)) ∈ lw_all := lw_g (lw_at lw_m6 117 rfl) rfl
theorem q1432 : (Jvm.Cond.selects "UmbrellaHeir" ({ cls := "UmbrellaHeir", name := "rest", desc := "(I)I" } : Jvm.MethodName) ({ cls := "UmbrellaHeir", name := "rest", desc := "(I)I" } : Jvm.MethodName)) ∈ lw_all := lw_g (lw_at lw_m6 118 rfl) rfl
theorem q1433 : (Jvm.Cond.code ({ cls := "UmbrellaHeir", name := "rest", desc := "(I)I" } : Jvm.MethodName) prog_1_method_57_code (3 : Nat) (Option.some Jvm.ClassFile.FieldType.int)) ∈ lw_all := lw_g (lw_at lw_m6 119 rfl) rfl
theorem q1435 : (Jvm.Cond.instanceMethod ({ cls := "UmbrellaHeir", name := "most", desc := "(I)I" } : Jvm.MethodName)) ∈ lw_all := lw_g (lw_at lw_m6 121 rfl) rfl
theorem q1436 : (Jvm.Cond.selects "UmbrellaHeir" ({ cls := "UmbrellaHeir", name := "most", desc := "(I)I" } : Jvm.MethodName) ({ cls := "UmbrellaHeir", name := "most", desc := "(I)I" } : Jvm.MethodName)) ∈ lw_all := lw_g (lw_at lw_m6 122 rfl) rfl
theorem q1437 : (Jvm.Cond.code ({ cls := "UmbrellaHeir", name := "most", desc := "(I)I" } : Jvm.MethodName) prog_1_method_60_code (2 : Nat) (Option.some Jvm.ClassFile.FieldType.int)) ∈ lw_all := lw_g (lw_at lw_m6 123 rfl) rfl
theorem q1438 : (Jvm.Cond.methodLink "UmbrellaHeir" (286 : Nat) ({ cls := "UmbrellaHeir", name := "mostOf", desc := "(I)I" } : Jvm.MethodName)) ∈ lw_all := lw_g (lw_at lw_m6 124 rfl) rfl
theorem q1439 : (Jvm.Cond.privateMethod ({ cls := "UmbrellaHeir", name := "mostOf", desc := "(I)I" } : Jvm.MethodName)) ∈ lw_tbl := lw_at lw_m6 125 rfl
theorem q1440 : (Jvm.Cond.instanceMethod ({ cls := "UmbrellaHeir", name := "mostOf", desc := "(I)I" } : Jvm.MethodName)) ∈ lw_all := lw_g (lw_at lw_m6 126 rfl) rfl
theorem q1441 : (Jvm.Cond.code ({ cls := "UmbrellaHeir", name := "mostOf", desc := "(I)I" } : Jvm.MethodName) prog_1_method_59_code (4 : Nat) (Option.some Jvm.ClassFile.FieldType.int)) ∈ lw_all := lw_g (lw_at lw_m6 127 rfl) rfl
theorem q1442 : (Jvm.Cond.methodLink "UmbrellaHeir" (283 : Nat) ({ cls := "UmbrellaHeir", name := "landsIf", desc := "(II)I" } : Jvm.MethodName)) ∈ lw_all := lw_g (lw_at lw_m6 128 rfl) rfl
theorem q1443 : (Jvm.Cond.privateMethod ({ cls := "UmbrellaHeir", name := "landsIf", desc := "(II)I" } : Jvm.MethodName)) ∈ lw_tbl := lw_at lw_m6 129 rfl
theorem q1444 : (Jvm.Cond.instanceMethod ({ cls := "UmbrellaHeir", name := "landsIf", desc := "(II)I" } : Jvm.MethodName)) ∈ lw_all := lw_g (lw_at lw_m6 130 rfl) rfl
theorem q1445 : (Jvm.Cond.code ({ cls := "UmbrellaHeir", name := "landsIf", desc := "(II)I" } : Jvm.MethodName) prog_1_method_58_code (3 : Nat) (Option.some Jvm.ClassFile.FieldType.int)) ∈ lw_all := lw_g (lw_at lw_m6 131 rfl) rfl
theorem q1447 : (Jvm.Cond.instanceMethod ({ cls := "UmbrellaHeir", name := "mostLands", desc := "(I)I" } : Jvm.MethodName)) ∈ lw_all := lw_g (lw_at lw_m6 133 rfl) rfl
theorem q1448 : (Jvm.Cond.selects "UmbrellaHeir" ({ cls := "UmbrellaHeir", name := "mostLands", desc := "(I)I" } : Jvm.MethodName) ({ cls := "UmbrellaHeir", name := "mostLands", desc := "(I)I" } : Jvm.MethodName)) ∈ lw_all := lw_g (lw_at lw_m6 134 rfl) rfl
theorem q1449 : (Jvm.Cond.code ({ cls := "UmbrellaHeir", name := "mostLands", desc := "(I)I" } : Jvm.MethodName) prog_1_method_61_code (2 : Nat) (Option.some Jvm.ClassFile.FieldType.int)) ∈ lw_all := lw_g (lw_at lw_m6 135 rfl) rfl
theorem q1451 : (Jvm.Cond.instanceMethod ({ cls := "UmbrellaHeir", name := "century", desc := "(III)I" } : Jvm.MethodName)) ∈ lw_all := lw_g (lw_at lw_m6 137 rfl) rfl
theorem q1452 : (Jvm.Cond.selects "UmbrellaHeir" ({ cls := "UmbrellaHeir", name := "century", desc := "(III)I" } : Jvm.MethodName) ({ cls := "UmbrellaHeir", name := "century", desc := "(III)I" } : Jvm.MethodName)) ∈ lw_all := lw_g (lw_at lw_m6 138 rfl) rfl
theorem q1453 : (Jvm.Cond.code ({ cls := "UmbrellaHeir", name := "century", desc := "(III)I" } : Jvm.MethodName) prog_1_method_63_code (5 : Nat) (Option.some Jvm.ClassFile.FieldType.int)) ∈ lw_all := lw_g (lw_at lw_m6 139 rfl) rfl
theorem q1454 : (Jvm.Cond.methodLink "UmbrellaHeir" (294 : Nat) ({ cls := "UmbrellaHeir", name := "centuryWhy", desc := "(ZII)I" } : Jvm.MethodName)) ∈ lw_all := lw_g (lw_at lw_m6 140 rfl) rfl
theorem q1455 : (Jvm.Cond.privateMethod ({ cls := "UmbrellaHeir", name := "centuryWhy", desc := "(ZII)I" } : Jvm.MethodName)) ∈ lw_tbl := lw_at lw_m6 141 rfl
theorem q1456 : (Jvm.Cond.instanceMethod ({ cls := "UmbrellaHeir", name := "centuryWhy", desc := "(ZII)I" } : Jvm.MethodName)) ∈ lw_all := lw_g (lw_at lw_m6 142 rfl) rfl
theorem q1457 : (Jvm.Cond.code ({ cls := "UmbrellaHeir", name := "centuryWhy", desc := "(ZII)I" } : Jvm.MethodName) prog_1_method_62_code (7 : Nat) (Option.some Jvm.ClassFile.FieldType.int)) ∈ lw_all := lw_g (lw_at lw_m6 143 rfl) rfl
theorem q1458 : (Jvm.Cond.constant "UmbrellaHeir" (289 : Nat) (65536 : Int32)) ∈ lw_all := lw_g (lw_at lw_m6 144 rfl) rfl
theorem q1459 : (Jvm.Cond.constant "UmbrellaHeir" (290 : Nat) (65537 : Int32)) ∈ lw_all := lw_g (lw_at lw_m6 145 rfl) rfl
theorem q1461 : (Jvm.Cond.instanceMethod ({ cls := "UmbrellaHeir", name := "untitled", desc := "(II)I" } : Jvm.MethodName)) ∈ lw_all := lw_g (lw_at lw_m6 147 rfl) rfl
theorem q1462 : (Jvm.Cond.selects "UmbrellaHeir" ({ cls := "UmbrellaHeir", name := "untitled", desc := "(II)I" } : Jvm.MethodName) ({ cls := "UmbrellaHeir", name := "untitled", desc := "(II)I" } : Jvm.MethodName)) ∈ lw_all := lw_g (lw_at lw_m6 148 rfl) rfl
theorem q1463 : (Jvm.Cond.code ({ cls := "UmbrellaHeir", name := "untitled", desc := "(II)I" } : Jvm.MethodName) prog_1_method_64_code (6 : Nat) (Option.some Jvm.ClassFile.FieldType.int)) ∈ lw_all := lw_g (lw_at lw_m6 149 rfl) rfl
theorem q1465 : (Jvm.Cond.instanceMethod ({ cls := "UmbrellaHeir", name := "lend", desc := "(II)Z" } : Jvm.MethodName)) ∈ lw_all := lw_g (lw_at lw_m6 151 rfl) rfl
theorem q1466 : (Jvm.Cond.selects "UmbrellaHeir" ({ cls := "UmbrellaHeir", name := "lend", desc := "(II)Z" } : Jvm.MethodName) ({ cls := "UmbrellaHeir", name := "lend", desc := "(II)Z" } : Jvm.MethodName)) ∈ lw_all := lw_g (lw_at lw_m6 152 rfl) rfl
theorem q1467 : (Jvm.Cond.code ({ cls := "UmbrellaHeir", name := "lend", desc := "(II)Z" } : Jvm.MethodName) prog_1_method_67_code (3 : Nat) (Option.some Jvm.ClassFile.FieldType.boolean)) ∈ lw_all := lw_g (lw_at lw_m6 153 rfl) rfl
theorem q1468 : (Jvm.Cond.methodLink "UmbrellaHeir" (298 : Nat) ({ cls := "UmbrellaHeir", name := "yes", desc := "(I)Z" } : Jvm.MethodName)) ∈ lw_all := lw_g (lw_at lw_m6 154 rfl) rfl
theorem q1469 : (Jvm.Cond.privateMethod ({ cls := "UmbrellaHeir", name := "yes", desc := "(I)Z" } : Jvm.MethodName)) ∈ lw_tbl := lw_at lw_m6 155 rfl
theorem q1470 : (Jvm.Cond.instanceMethod ({ cls := "UmbrellaHeir", name := "yes", desc := "(I)Z" } : Jvm.MethodName)) ∈ lw_all := lw_g (lw_at lw_m6 156 rfl) rfl
theorem q1471 : (Jvm.Cond.code ({ cls := "UmbrellaHeir", name := "yes", desc := "(I)Z" } : Jvm.MethodName) prog_1_method_9_code (2 : Nat) (Option.some Jvm.ClassFile.FieldType.boolean)) ∈ lw_all := lw_g (lw_at lw_m6 157 rfl) rfl
theorem q1472 : (Jvm.Cond.methodLink "UmbrellaHeir" (301 : Nat) ({ cls := "UmbrellaHeir", name := "note", desc := "()V" } : Jvm.MethodName)) ∈ lw_all := lw_g (lw_at lw_m6 158 rfl) rfl
theorem q1473 : (Jvm.Cond.privateMethod ({ cls := "UmbrellaHeir", name := "note", desc := "()V" } : Jvm.MethodName)) ∈ lw_tbl := lw_at lw_m6 159 rfl
theorem q1474 : (Jvm.Cond.instanceMethod ({ cls := "UmbrellaHeir", name := "note", desc := "()V" } : Jvm.MethodName)) ∈ lw_all := lw_g (lw_at lw_m6 160 rfl) rfl
theorem q1475 : (Jvm.Cond.code ({ cls := "UmbrellaHeir", name := "note", desc := "()V" } : Jvm.MethodName) prog_1_method_65_code (1 : Nat) (Option.none : Option Jvm.ClassFile.FieldType)) ∈ lw_all := lw_g (lw_at lw_m6 161 rfl) rfl
theorem q1476 : (Jvm.Cond.methodLink "UmbrellaHeir" (304 : Nat) ({ cls := "UmbrellaHeir", name := "done", desc := "()Z" } : Jvm.MethodName)) ∈ lw_all := lw_g (lw_at lw_m6 162 rfl) rfl
theorem q1477 : (Jvm.Cond.privateMethod ({ cls := "UmbrellaHeir", name := "done", desc := "()Z" } : Jvm.MethodName)) ∈ lw_tbl := lw_at lw_m6 163 rfl
theorem q1478 : (Jvm.Cond.instanceMethod ({ cls := "UmbrellaHeir", name := "done", desc := "()Z" } : Jvm.MethodName)) ∈ lw_all := lw_g (lw_at lw_m6 164 rfl) rfl
theorem q1479 : (Jvm.Cond.code ({ cls := "UmbrellaHeir", name := "done", desc := "()Z" } : Jvm.MethodName) prog_1_method_66_code (3 : Nat) (Option.some Jvm.ClassFile.FieldType.boolean)) ∈ lw_all := lw_g (lw_at lw_m6 165 rfl) rfl
theorem q1481 : (Jvm.Cond.instanceMethod ({ cls := "UmbrellaHeir", name := "leave", desc := "(I)Z" } : Jvm.MethodName)) ∈ lw_all := lw_g (lw_at lw_m6 167 rfl) rfl
theorem q1482 : (Jvm.Cond.selects "UmbrellaHeir" ({ cls := "UmbrellaHeir", name := "leave", desc := "(I)Z" } : Jvm.MethodName) ({ cls := "UmbrellaHeir", name := "leave", desc := "(I)Z" } : Jvm.MethodName)) ∈ lw_all := lw_g (lw_at lw_m6 168 rfl) rfl
theorem q1483 : (Jvm.Cond.code ({ cls := "UmbrellaHeir", name := "leave", desc := "(I)Z" } : Jvm.MethodName) prog_1_method_68_code (2 : Nat) (Option.some Jvm.ClassFile.FieldType.boolean)) ∈ lw_all := lw_g (lw_at lw_m6 169 rfl) rfl
theorem q1485 : (Jvm.Cond.instanceMethod ({ cls := "UmbrellaHeir", name := "exchange", desc := "(II)Z" } : Jvm.MethodName)) ∈ lw_all := lw_g (lw_at lw_m6 171 rfl) rfl
theorem q1486 : (Jvm.Cond.selects "UmbrellaHeir" ({ cls := "UmbrellaHeir", name := "exchange", desc := "(II)Z" } : Jvm.MethodName) ({ cls := "UmbrellaHeir", name := "exchange", desc := "(II)Z" } : Jvm.MethodName)) ∈ lw_all := lw_g (lw_at lw_m6 172 rfl) rfl
theorem q1487 : (Jvm.Cond.code ({ cls := "UmbrellaHeir", name := "exchange", desc := "(II)Z" } : Jvm.MethodName) prog_1_method_69_code (3 : Nat) (Option.some Jvm.ClassFile.FieldType.boolean)) ∈ lw_all := lw_g (lw_at lw_m6 173 rfl) rfl
theorem q1488 : (Jvm.Cond.methodLink "UmbrellaHeir" (308 : Nat) ({ cls := "UmbrellaHeir$Hall", name := "change", desc := "(II)V" } : Jvm.MethodName)) ∈ lw_all := lw_g (lw_at lw_m6 174 rfl) rfl
theorem q1490 : (Jvm.Cond.instanceMethod ({ cls := "UmbrellaHeir", name := "day", desc := "(Z)I" } : Jvm.MethodName)) ∈ lw_all := lw_g (lw_at lw_m6 176 rfl) rfl
theorem q1491 : (Jvm.Cond.selects "UmbrellaHeir" ({ cls := "UmbrellaHeir", name := "day", desc := "(Z)I" } : Jvm.MethodName) ({ cls := "UmbrellaHeir", name := "day", desc := "(Z)I" } : Jvm.MethodName)) ∈ lw_all := lw_g (lw_at lw_m6 177 rfl) rfl
theorem q1492 : (Jvm.Cond.code ({ cls := "UmbrellaHeir", name := "day", desc := "(Z)I" } : Jvm.MethodName) prog_1_method_70_code (4 : Nat) (Option.some Jvm.ClassFile.FieldType.int)) ∈ lw_all := lw_g (lw_at lw_m6 178 rfl) rfl
theorem q1494 : (Jvm.Cond.instanceMethod ({ cls := "UmbrellaHeir", name := "undo", desc := "()Z" } : Jvm.MethodName)) ∈ lw_all := lw_g (lw_at lw_m6 180 rfl) rfl
theorem q1495 : (Jvm.Cond.selects "UmbrellaHeir" ({ cls := "UmbrellaHeir", name := "undo", desc := "()Z" } : Jvm.MethodName) ({ cls := "UmbrellaHeir", name := "undo", desc := "()Z" } : Jvm.MethodName)) ∈ lw_all := lw_g (lw_at lw_m6 181 rfl) rfl
theorem q1496 : (Jvm.Cond.code ({ cls := "UmbrellaHeir", name := "undo", desc := "()Z" } : Jvm.MethodName) prog_1_method_71_code (1 : Nat) (Option.some Jvm.ClassFile.FieldType.boolean)) ∈ lw_all := lw_g (lw_at lw_m6 182 rfl) rfl
theorem q1498 : (Jvm.Cond.instanceMethod ({ cls := "UmbrellaHeir", name := "mark", desc := "()I" } : Jvm.MethodName)) ∈ lw_all := lw_g (lw_at lw_m6 184 rfl) rfl
theorem q1499 : (Jvm.Cond.selects "UmbrellaHeir" ({ cls := "UmbrellaHeir", name := "mark", desc := "()I" } : Jvm.MethodName) ({ cls := "UmbrellaHeir", name := "mark", desc := "()I" } : Jvm.MethodName)) ∈ lw_all := lw_g (lw_at lw_m6 185 rfl) rfl
theorem q1500 : (Jvm.Cond.code ({ cls := "UmbrellaHeir", name := "mark", desc := "()I" } : Jvm.MethodName) prog_1_method_72_code (1 : Nat) (Option.some Jvm.ClassFile.FieldType.int)) ∈ lw_all := lw_g (lw_at lw_m6 186 rfl) rfl
theorem q1502 : (Jvm.Cond.instanceMethod ({ cls := "UmbrellaHeir", name := "back", desc := "(I)Z" } : Jvm.MethodName)) ∈ lw_all := lw_g (lw_at lw_m6 188 rfl) rfl
theorem q1503 : (Jvm.Cond.selects "UmbrellaHeir" ({ cls := "UmbrellaHeir", name := "back", desc := "(I)Z" } : Jvm.MethodName) ({ cls := "UmbrellaHeir", name := "back", desc := "(I)Z" } : Jvm.MethodName)) ∈ lw_all := lw_g (lw_at lw_m6 189 rfl) rfl
theorem q1504 : (Jvm.Cond.code ({ cls := "UmbrellaHeir", name := "back", desc := "(I)Z" } : Jvm.MethodName) prog_1_method_73_code (2 : Nat) (Option.some Jvm.ClassFile.FieldType.boolean)) ∈ lw_all := lw_g (lw_at lw_m6 190 rfl) rfl
theorem q1506 : (Jvm.Cond.instanceMethod ({ cls := "UmbrellaHeir", name := "size", desc := "(I)I" } : Jvm.MethodName)) ∈ lw_all := lw_g (lw_at lw_m6 192 rfl) rfl
theorem q1507 : (Jvm.Cond.selects "UmbrellaHeir" ({ cls := "UmbrellaHeir", name := "size", desc := "(I)I" } : Jvm.MethodName) ({ cls := "UmbrellaHeir", name := "size", desc := "(I)I" } : Jvm.MethodName)) ∈ lw_all := lw_g (lw_at lw_m6 193 rfl) rfl
theorem q1508 : (Jvm.Cond.code ({ cls := "UmbrellaHeir", name := "size", desc := "(I)I" } : Jvm.MethodName) prog_1_method_75_code (2 : Nat) (Option.some Jvm.ClassFile.FieldType.int)) ∈ lw_all := lw_g (lw_at lw_m6 194 rfl) rfl
theorem q1510 : (Jvm.Cond.instanceMethod ({ cls := "UmbrellaHeir", name := "trouble", desc := "()I" } : Jvm.MethodName)) ∈ lw_all := lw_g (lw_at lw_m6 196 rfl) rfl
theorem q1511 : (Jvm.Cond.selects "UmbrellaHeir" ({ cls := "UmbrellaHeir", name := "trouble", desc := "()I" } : Jvm.MethodName) ({ cls := "UmbrellaHeir", name := "trouble", desc := "()I" } : Jvm.MethodName)) ∈ lw_all := lw_g (lw_at lw_m6 197 rfl) rfl
theorem q1512 : (Jvm.Cond.code ({ cls := "UmbrellaHeir", name := "trouble", desc := "()I" } : Jvm.MethodName) prog_1_method_76_code (1 : Nat) (Option.some Jvm.ClassFile.FieldType.int)) ∈ lw_all := lw_g (lw_at lw_m6 198 rfl) rfl
theorem q1518 : (Jvm.Cond.instanceMethod ({ cls := "UmbrellaHeir", name := "led", desc := "(I)I" } : Jvm.MethodName)) ∈ lw_all := lw_g (lw_at lw_m6 204 rfl) rfl
theorem q1519 : (Jvm.Cond.selects "UmbrellaHeir" ({ cls := "UmbrellaHeir", name := "led", desc := "(I)I" } : Jvm.MethodName) ({ cls := "UmbrellaHeir", name := "led", desc := "(I)I" } : Jvm.MethodName)) ∈ lw_all := lw_g (lw_at lw_m6 205 rfl) rfl
theorem q1520 : (Jvm.Cond.code ({ cls := "UmbrellaHeir", name := "led", desc := "(I)I" } : Jvm.MethodName) prog_1_method_74_code (4 : Nat) (Option.some Jvm.ClassFile.FieldType.int)) ∈ lw_all := lw_g (lw_at lw_m6 206 rfl) rfl
theorem q1521 : (Jvm.Cond.classLink "UmbrellaHeir" (311 : Nat) "java/util/NoSuchElementException") ∈ lw_all := lw_g (lw_at lw_m6 207 rfl) rfl
theorem q1530 : (Jvm.Cond.methodLink "UmbrellaHeir" (313 : Nat) ({ cls := "java/util/NoSuchElementException", name := "<init>", desc := "()V" } : Jvm.MethodName)) ∈ lw_all := lw_g (lw_at lw_m6 216 rfl) rfl
theorem q2299 : (Jvm.Cond.castable "UmbrellaHeir" "java/lang/Object") ∈ lw_tbl := lw_at lw_m10 25 rfl
theorem in_X1 : ∀ w ∈ wsX10, w ∈ lw_all := lw_in wsX10 [399, 401, 403, 405, 407, 409, 411, 413, 415, 417, 419, 421, 423, 425, 427, 429, 431, 433, 435, 437, 439] (by decide +kernel) (by decide +kernel)
