/-! FifthCardLaw -/
set_option maxRecDepth 100000
def RX0 : String := "FifthCardLaw"
abbrev cX0_led : ByteArray := method_3_code
def yX0_led : MethodName := ⟨RX0, "led", "(LFifthCard;II[J)I"⟩
def dkwX0_led_0 : List UInt8 := [45, 3, 42, 27, 28, 182, 0, 7, 133, 80, 167, 0, 7, 58, 4, 4, 172, 3, 172]
abbrev dktX0_led_0 : List UInt8 := dkwX0_led_0 ++ []
theorem dksX0_led_0 : cX0_led.data.toList.drop 0 = dktX0_led_0 := by decide +kernel
theorem dX0_led_0 : decode cX0_led 0 = .ok (.aload_n 3, 1) := dk_45 (dk_at dksX0_led_0 0 rfl rfl)
theorem dX0_led_1 : decode cX0_led 1 = .ok (.iconst 0, 1) := dk_3 (dk_at dksX0_led_0 1 rfl rfl)
theorem dX0_led_2 : decode cX0_led 2 = .ok (.aload_n 0, 1) := dk_42 (dk_at dksX0_led_0 2 rfl rfl)
theorem dX0_led_3 : decode cX0_led 3 = .ok (.iload_n 1, 1) := dk_27 (dk_at dksX0_led_0 3 rfl rfl)
theorem dX0_led_4 : decode cX0_led 4 = .ok (.iload_n 2, 1) := dk_28 (dk_at dksX0_led_0 4 rfl rfl)
theorem dX0_led_5 : decode cX0_led 5 = .ok (.invokevirtual 7, 3) := dk_182 0 7 (dk_at dksX0_led_0 5 rfl rfl)
theorem dX0_led_8 : decode cX0_led 8 = .ok (.i2l, 1) := dk_133 (dk_at dksX0_led_0 8 rfl rfl)
theorem dX0_led_9 : decode cX0_led 9 = .ok (.lastore, 1) := dk_80 (dk_at dksX0_led_0 9 rfl rfl)
theorem dX0_led_10 : decode cX0_led 10 = .ok (.goto 7, 3) := dk_167 0 7 (dk_at dksX0_led_0 10 rfl rfl)
theorem dX0_led_13 : decode cX0_led 13 = .ok (.astore 4, 2) := dk_58 4 (dk_at dksX0_led_0 13 rfl rfl)
theorem dX0_led_15 : decode cX0_led 15 = .ok (.iconst 1, 1) := dk_4 (dk_at dksX0_led_0 15 rfl rfl)
theorem dX0_led_16 : decode cX0_led 16 = .ok (.ireturn, 1) := dk_172 (dk_at dksX0_led_0 16 rfl rfl)
theorem dX0_led_17 : decode cX0_led 17 = .ok (.iconst 0, 1) := dk_3 (dk_at dksX0_led_0 17 rfl rfl)
theorem dX0_led_18 : decode cX0_led 18 = .ok (.ireturn, 1) := dk_172 (dk_at dksX0_led_0 18 rfl rfl)
theorem q121 : (Jvm.Cond.initialized "FifthCardLaw") ∈ lw_all := lw_g (lw_at lw_m1 0 rfl) rfl
theorem q156 : (Jvm.Cond.classLink "FifthCardLaw" (8 : Nat) "FifthCard") ∈ lw_all := lw_g (lw_at lw_m1 35 rfl) rfl
theorem q158 : (Jvm.Cond.methodLink "FifthCardLaw" (15 : Nat) ({ cls := "FifthCard", name := "<init>", desc := "()V" } : Jvm.MethodName)) ∈ lw_all := lw_g (lw_at lw_m1 37 rfl) rfl
theorem q522 : (Jvm.Cond.methodLink "FifthCardLaw" (19 : Nat) ({ cls := "FifthCard", name := "feed", desc := "(IIIII)I" } : Jvm.MethodName)) ∈ lw_all := lw_g (lw_at lw_m2 161 rfl) rfl
theorem q530 : (Jvm.Cond.methodLink "FifthCardLaw" (24 : Nat) ({ cls := "FifthCard", name := "trick", desc := "(I)I" } : Jvm.MethodName)) ∈ lw_all := lw_g (lw_at lw_m2 169 rfl) rfl
theorem q993 : (Jvm.Cond.methodLink "FifthCardLaw" (29 : Nat) ({ cls := "FifthCard", name := "fault", desc := "()I" } : Jvm.MethodName)) ∈ lw_all := lw_g (lw_at lw_m4 152 rfl) rfl
theorem q997 : (Jvm.Cond.methodLink "FifthCardLaw" (34 : Nat) ({ cls := "FifthCard", name := "where", desc := "()I" } : Jvm.MethodName)) ∈ lw_all := lw_g (lw_at lw_m4 156 rfl) rfl
theorem q1001 : (Jvm.Cond.methodLink "FifthCardLaw" (38 : Nat) ({ cls := "FifthCard", name := "hands", desc := "()I" } : Jvm.MethodName)) ∈ lw_all := lw_g (lw_at lw_m4 160 rfl) rfl
theorem q1005 : (Jvm.Cond.methodLink "FifthCardLaw" (42 : Nat) ({ cls := "FifthCard", name := "rows", desc := "()I" } : Jvm.MethodName)) ∈ lw_all := lw_g (lw_at lw_m4 164 rfl) rfl
theorem q1015 : (Jvm.Cond.methodLink "FifthCardLaw" (46 : Nat) ({ cls := "FifthCard", name := "hand", desc := "(II)I" } : Jvm.MethodName)) ∈ lw_all := lw_g (lw_at lw_m4 174 rfl) rfl
theorem q1024 : (Jvm.Cond.methodLink "FifthCardLaw" (50 : Nat) ({ cls := "FifthCard", name := "handOf", desc := "(IIIII)I" } : Jvm.MethodName)) ∈ lw_all := lw_g (lw_at lw_m4 183 rfl) rfl
theorem q1041 : (Jvm.Cond.methodLink "FifthCardLaw" (54 : Nat) ({ cls := "FifthCard", name := "row", desc := "(II)I" } : Jvm.MethodName)) ∈ lw_all := lw_g (lw_at lw_m4 200 rfl) rfl
theorem q1050 : (Jvm.Cond.methodLink "FifthCardLaw" (58 : Nat) ({ cls := "FifthCard", name := "tilted", desc := "(I)I" } : Jvm.MethodName)) ∈ lw_all := lw_g (lw_at lw_m4 209 rfl) rfl
theorem q1054 : (Jvm.Cond.methodLink "FifthCardLaw" (62 : Nat) ({ cls := "FifthCard", name := "fits", desc := "(II)I" } : Jvm.MethodName)) ∈ lw_all := lw_g (lw_at lw_m4 213 rfl) rfl
theorem q1062 : (Jvm.Cond.methodLink "FifthCardLaw" (66 : Nat) ({ cls := "FifthCard", name := "fitting", desc := "()I" } : Jvm.MethodName)) ∈ lw_all := lw_g (lw_at lw_m4 221 rfl) rfl
theorem q1070 : (Jvm.Cond.methodLink "FifthCardLaw" (70 : Nat) ({ cls := "FifthCard", name := "lays", desc := "(II)I" } : Jvm.MethodName)) ∈ lw_all := lw_g (lw_at lw_m4 229 rfl) rfl
theorem q1189 : (Jvm.Cond.methodLink "FifthCardLaw" (74 : Nat) ({ cls := "FifthCard", name := "kept", desc := "(III)I" } : Jvm.MethodName)) ∈ lw_all := lw_g (lw_at lw_m5 108 rfl) rfl
theorem q1195 : (Jvm.Cond.methodLink "FifthCardLaw" (79 : Nat) ({ cls := "FifthCard", name := "says", desc := "(II)I" } : Jvm.MethodName)) ∈ lw_all := lw_g (lw_at lw_m5 114 rfl) rfl
theorem q1199 : (Jvm.Cond.methodLink "FifthCardLaw" (83 : Nat) ({ cls := "FifthCard", name := "works", desc := "(I)I" } : Jvm.MethodName)) ∈ lw_all := lw_g (lw_at lw_m5 118 rfl) rfl
theorem q1227 : (Jvm.Cond.methodLink "FifthCardLaw" (87 : Nat) ({ cls := "FifthCard", name := "clash", desc := "(IZ)I" } : Jvm.MethodName)) ∈ lw_all := lw_g (lw_at lw_m5 146 rfl) rfl
theorem q1235 : (Jvm.Cond.methodLink "FifthCardLaw" (92 : Nat) ({ cls := "FifthCard", name := "laid", desc := "(I)I" } : Jvm.MethodName)) ∈ lw_all := lw_g (lw_at lw_m5 154 rfl) rfl
theorem q1239 : (Jvm.Cond.methodLink "FifthCardLaw" (96 : Nat) ({ cls := "FifthCard", name := "fails", desc := "(I)I" } : Jvm.MethodName)) ∈ lw_all := lw_g (lw_at lw_m5 158 rfl) rfl
theorem q1243 : (Jvm.Cond.methodLink "FifthCardLaw" (100 : Nat) ({ cls := "FifthCard", name := "seen", desc := "(I)I" } : Jvm.MethodName)) ∈ lw_all := lw_g (lw_at lw_m5 162 rfl) rfl
theorem q1260 : (Jvm.Cond.methodLink "FifthCardLaw" (104 : Nat) ({ cls := "FifthCard", name := "borne", desc := "(I)I" } : Jvm.MethodName)) ∈ lw_all := lw_g (lw_at lw_m5 179 rfl) rfl
theorem q1264 : (Jvm.Cond.methodLink "FifthCardLaw" (108 : Nat) ({ cls := "FifthCard", name := "wordsWork", desc := "(I)I" } : Jvm.MethodName)) ∈ lw_all := lw_g (lw_at lw_m5 183 rfl) rfl
theorem q1268 : (Jvm.Cond.methodLink "FifthCardLaw" (112 : Nat) ({ cls := "FifthCard", name := "shortest", desc := "()I" } : Jvm.MethodName)) ∈ lw_all := lw_g (lw_at lw_m5 187 rfl) rfl
theorem q1272 : (Jvm.Cond.methodLink "FifthCardLaw" (116 : Nat) ({ cls := "FifthCard", name := "pairs", desc := "()I" } : Jvm.MethodName)) ∈ lw_all := lw_g (lw_at lw_m5 191 rfl) rfl
theorem q1277 : (Jvm.Cond.methodLink "FifthCardLaw" (120 : Nat) ({ cls := "FifthCard", name := "table", desc := "(I)I" } : Jvm.MethodName)) ∈ lw_all := lw_g (lw_at lw_m5 196 rfl) rfl
theorem q1281 : (Jvm.Cond.methodLink "FifthCardLaw" (124 : Nat) ({ cls := "FifthCard", name := "count", desc := "(IZ)J" } : Jvm.MethodName)) ∈ lw_all := lw_g (lw_at lw_m5 200 rfl) rfl
theorem q1290 : (Jvm.Cond.methodLink "FifthCardLaw" (129 : Nat) ({ cls := "FifthCard", name := "most", desc := "()I" } : Jvm.MethodName)) ∈ lw_all := lw_g (lw_at lw_m5 209 rfl) rfl
theorem q1294 : (Jvm.Cond.methodLink "FifthCardLaw" (133 : Nat) ({ cls := "FifthCard", name := "judge", desc := "(I)I" } : Jvm.MethodName)) ∈ lw_all := lw_g (lw_at lw_m5 213 rfl) rfl
theorem q1302 : (Jvm.Cond.methodLink "FifthCardLaw" (137 : Nat) ({ cls := "FifthCard", name := "evening", desc := "(IZ)I" } : Jvm.MethodName)) ∈ lw_all := lw_g (lw_at lw_m5 221 rfl) rfl
theorem q1306 : (Jvm.Cond.methodLink "FifthCardLaw" (141 : Nat) ({ cls := "FifthCard", name := "agrees", desc := "(I)I" } : Jvm.MethodName)) ∈ lw_all := lw_g (lw_at lw_m5 225 rfl) rfl
theorem q1314 : (Jvm.Cond.methodLink "FifthCardLaw" (145 : Nat) ({ cls := "FifthCard", name := "wrong", desc := "(I)I" } : Jvm.MethodName)) ∈ lw_all := lw_g (lw_at lw_m5 233 rfl) rfl
theorem q1322 : (Jvm.Cond.methodLink "FifthCardLaw" (149 : Nat) ({ cls := "FifthCard", name := "found", desc := "()I" } : Jvm.MethodName)) ∈ lw_all := lw_g (lw_at lw_m6 1 rfl) rfl
theorem q1326 : (Jvm.Cond.methodLink "FifthCardLaw" (153 : Nat) ({ cls := "FifthCard", name := "apart", desc := "(II)I" } : Jvm.MethodName)) ∈ lw_all := lw_g (lw_at lw_m6 5 rfl) rfl
theorem q1338 : (Jvm.Cond.methodLink "FifthCardLaw" (157 : Nat) ({ cls := "FifthCard", name := "mean", desc := "(IIZ)I" } : Jvm.MethodName)) ∈ lw_all := lw_g (lw_at lw_m6 17 rfl) rfl
theorem q1345 : (Jvm.Cond.methodLink "FifthCardLaw" (162 : Nat) ({ cls := "FifthCard", name := "hardest", desc := "()I" } : Jvm.MethodName)) ∈ lw_all := lw_g (lw_at lw_m6 24 rfl) rfl
theorem q1354 : (Jvm.Cond.methodLink "FifthCardLaw" (166 : Nat) ({ cls := "FifthCard", name := "shows", desc := "(II)I" } : Jvm.MethodName)) ∈ lw_all := lw_g (lw_at lw_m6 33 rfl) rfl
theorem q1358 : (Jvm.Cond.methodLink "FifthCardLaw" (170 : Nat) ({ cls := "FifthCard", name := "seed", desc := "(I)Z" } : Jvm.MethodName)) ∈ lw_all := lw_g (lw_at lw_m6 37 rfl) rfl
theorem q1367 : (Jvm.Cond.methodLink "FifthCardLaw" (175 : Nat) ({ cls := "FifthCard", name := "draw", desc := "()I" } : Jvm.MethodName)) ∈ lw_all := lw_g (lw_at lw_m6 46 rfl) rfl
theorem q1372 : (Jvm.Cond.methodLink "FifthCardLaw" (179 : Nat) ({ cls := "FifthCard", name := "strike", desc := "()Z" } : Jvm.MethodName)) ∈ lw_all := lw_g (lw_at lw_m6 51 rfl) rfl
theorem q1376 : (Jvm.Cond.methodLink "FifthCardLaw" (184 : Nat) ({ cls := "FifthCard", name := "image", desc := "()I" } : Jvm.MethodName)) ∈ lw_all := lw_g (lw_at lw_m6 55 rfl) rfl
theorem q1387 : (Jvm.Cond.methodLink "FifthCardLaw" (188 : Nat) ({ cls := "FifthCard", name := "back", desc := "(I)Z" } : Jvm.MethodName)) ∈ lw_all := lw_g (lw_at lw_m6 66 rfl) rfl
theorem q1391 : (Jvm.Cond.methodLink "FifthCardLaw" (201 : Nat) ({ cls := "FifthCard", name := "size", desc := "(I)I" } : Jvm.MethodName)) ∈ lw_all := lw_g (lw_at lw_m6 70 rfl) rfl
theorem q1395 : (Jvm.Cond.methodLink "FifthCardLaw" (205 : Nat) ({ cls := "FifthCard", name := "words", desc := "(I)I" } : Jvm.MethodName)) ∈ lw_all := lw_g (lw_at lw_m6 74 rfl) rfl
theorem q1411 : (Jvm.Cond.methodLink "FifthCardLaw" (209 : Nat) ({ cls := "FifthCard", name := "trouble", desc := "()I" } : Jvm.MethodName)) ∈ lw_all := lw_g (lw_at lw_m6 90 rfl) rfl
theorem q1415 : (Jvm.Cond.methodLink "FifthCardLaw" (192 : Nat) ({ cls := "FifthCardLaw", name := "led", desc := "(LFifthCard;II[J)I" } : Jvm.MethodName)) ∈ lw_all := lw_g (lw_at lw_m6 94 rfl) rfl
theorem q1416 : (Jvm.Cond.static ({ cls := "FifthCardLaw", name := "led", desc := "(LFifthCard;II[J)I" } : Jvm.MethodName)) ∈ lw_all := lw_g (lw_at lw_m6 95 rfl) rfl
theorem q1417 : (Jvm.Cond.codeWith ({ cls := "FifthCardLaw", name := "led", desc := "(LFifthCard;II[J)I" } : Jvm.MethodName) method_3_code (5 : Nat) (Option.some Jvm.ClassFile.FieldType.int) [((0 : Nat), (10 : Nat), (13 : Nat), (13 : Nat))]) ∈ lw_all := lw_g (lw_at lw_m6 96 rfl) rfl
theorem q1418 : (Jvm.Cond.classLink "FifthCardLaw" (13 : Nat) "java/util/NoSuchElementException") ∈ lw_all := lw_g (lw_at lw_m6 97 rfl) rfl
theorem q1419 : (Jvm.Cond.methodLink "FifthCardLaw" (7 : Nat) ({ cls := "FifthCard", name := "led", desc := "(II)I" } : Jvm.MethodName)) ∈ lw_all := lw_g (lw_at lw_m6 98 rfl) rfl
theorem q1444 : (Jvm.Cond.classLink "FifthCardLaw" (16 : Nat) "FifthCardModel") ∈ lw_all := lw_g (lw_at lw_m6 123 rfl) rfl
theorem q1446 : (Jvm.Cond.methodLink "FifthCardLaw" (18 : Nat) ({ cls := "FifthCardModel", name := "<init>", desc := "()V" } : Jvm.MethodName)) ∈ lw_all := lw_g (lw_at lw_m6 125 rfl) rfl
theorem q1591 : (Jvm.Cond.methodLink "FifthCardLaw" (198 : Nat) ({ cls := "FifthCardModel", name := "thrown", desc := "()I" } : Jvm.MethodName)) ∈ lw_all := lw_g (lw_at lw_m7 30 rfl) rfl
theorem q1595 : (Jvm.Cond.methodLink "FifthCardLaw" (23 : Nat) ({ cls := "FifthCardModel", name := "feed", desc := "(IIIII)I" } : Jvm.MethodName)) ∈ lw_all := lw_g (lw_at lw_m7 34 rfl) rfl
theorem q1599 : (Jvm.Cond.methodLink "FifthCardLaw" (28 : Nat) ({ cls := "FifthCardModel", name := "trick", desc := "(I)I" } : Jvm.MethodName)) ∈ lw_all := lw_g (lw_at lw_m7 38 rfl) rfl
theorem q1871 : (Jvm.Cond.methodLink "FifthCardLaw" (33 : Nat) ({ cls := "FifthCardModel", name := "fault", desc := "()I" } : Jvm.MethodName)) ∈ lw_all := lw_g (lw_at lw_m8 70 rfl) rfl
theorem q1875 : (Jvm.Cond.methodLink "FifthCardLaw" (37 : Nat) ({ cls := "FifthCardModel", name := "where", desc := "()I" } : Jvm.MethodName)) ∈ lw_all := lw_g (lw_at lw_m8 74 rfl) rfl
theorem q1879 : (Jvm.Cond.methodLink "FifthCardLaw" (41 : Nat) ({ cls := "FifthCardModel", name := "hands", desc := "()I" } : Jvm.MethodName)) ∈ lw_all := lw_g (lw_at lw_m8 78 rfl) rfl
theorem q1883 : (Jvm.Cond.methodLink "FifthCardLaw" (45 : Nat) ({ cls := "FifthCardModel", name := "rows", desc := "()I" } : Jvm.MethodName)) ∈ lw_all := lw_g (lw_at lw_m8 82 rfl) rfl
theorem q1891 : (Jvm.Cond.methodLink "FifthCardLaw" (49 : Nat) ({ cls := "FifthCardModel", name := "hand", desc := "(II)I" } : Jvm.MethodName)) ∈ lw_all := lw_g (lw_at lw_m8 90 rfl) rfl
theorem q1899 : (Jvm.Cond.methodLink "FifthCardLaw" (53 : Nat) ({ cls := "FifthCardModel", name := "handOf", desc := "(IIIII)I" } : Jvm.MethodName)) ∈ lw_all := lw_g (lw_at lw_m8 98 rfl) rfl
theorem q1903 : (Jvm.Cond.methodLink "FifthCardLaw" (57 : Nat) ({ cls := "FifthCardModel", name := "row", desc := "(II)I" } : Jvm.MethodName)) ∈ lw_all := lw_g (lw_at lw_m8 102 rfl) rfl
theorem q1915 : (Jvm.Cond.methodLink "FifthCardLaw" (61 : Nat) ({ cls := "FifthCardModel", name := "tilted", desc := "(I)I" } : Jvm.MethodName)) ∈ lw_all := lw_g (lw_at lw_m8 114 rfl) rfl
theorem q1919 : (Jvm.Cond.methodLink "FifthCardLaw" (65 : Nat) ({ cls := "FifthCardModel", name := "fits", desc := "(II)I" } : Jvm.MethodName)) ∈ lw_all := lw_g (lw_at lw_m8 118 rfl) rfl
theorem q1927 : (Jvm.Cond.methodLink "FifthCardLaw" (69 : Nat) ({ cls := "FifthCardModel", name := "fitting", desc := "()I" } : Jvm.MethodName)) ∈ lw_all := lw_g (lw_at lw_m8 126 rfl) rfl
theorem q1936 : (Jvm.Cond.methodLink "FifthCardLaw" (73 : Nat) ({ cls := "FifthCardModel", name := "lays", desc := "(II)I" } : Jvm.MethodName)) ∈ lw_all := lw_g (lw_at lw_m8 135 rfl) rfl
theorem q2017 : (Jvm.Cond.methodLink "FifthCardLaw" (78 : Nat) ({ cls := "FifthCardModel", name := "kept", desc := "(III)I" } : Jvm.MethodName)) ∈ lw_all := lw_g (lw_at lw_m8 216 rfl) rfl
theorem q2021 : (Jvm.Cond.methodLink "FifthCardLaw" (82 : Nat) ({ cls := "FifthCardModel", name := "says", desc := "(II)I" } : Jvm.MethodName)) ∈ lw_all := lw_g (lw_at lw_m8 220 rfl) rfl
theorem q2033 : (Jvm.Cond.methodLink "FifthCardLaw" (86 : Nat) ({ cls := "FifthCardModel", name := "works", desc := "(I)I" } : Jvm.MethodName)) ∈ lw_all := lw_g (lw_at lw_m8 232 rfl) rfl
theorem q2045 : (Jvm.Cond.methodLink "FifthCardLaw" (91 : Nat) ({ cls := "FifthCardModel", name := "clash", desc := "(IZ)I" } : Jvm.MethodName)) ∈ lw_all := lw_g (lw_at lw_m9 4 rfl) rfl
theorem q2049 : (Jvm.Cond.methodLink "FifthCardLaw" (95 : Nat) ({ cls := "FifthCardModel", name := "laid", desc := "(I)I" } : Jvm.MethodName)) ∈ lw_all := lw_g (lw_at lw_m9 8 rfl) rfl
theorem q2053 : (Jvm.Cond.methodLink "FifthCardLaw" (99 : Nat) ({ cls := "FifthCardModel", name := "fails", desc := "(I)I" } : Jvm.MethodName)) ∈ lw_all := lw_g (lw_at lw_m9 12 rfl) rfl
theorem q2057 : (Jvm.Cond.methodLink "FifthCardLaw" (103 : Nat) ({ cls := "FifthCardModel", name := "seen", desc := "(I)I" } : Jvm.MethodName)) ∈ lw_all := lw_g (lw_at lw_m9 16 rfl) rfl
theorem q2077 : (Jvm.Cond.methodLink "FifthCardLaw" (107 : Nat) ({ cls := "FifthCardModel", name := "borne", desc := "(I)I" } : Jvm.MethodName)) ∈ lw_all := lw_g (lw_at lw_m9 36 rfl) rfl
theorem q2085 : (Jvm.Cond.methodLink "FifthCardLaw" (111 : Nat) ({ cls := "FifthCardModel", name := "wordsWork", desc := "(I)I" } : Jvm.MethodName)) ∈ lw_all := lw_g (lw_at lw_m9 44 rfl) rfl
theorem q2093 : (Jvm.Cond.methodLink "FifthCardLaw" (115 : Nat) ({ cls := "FifthCardModel", name := "shortest", desc := "()I" } : Jvm.MethodName)) ∈ lw_all := lw_g (lw_at lw_m9 52 rfl) rfl
theorem q2097 : (Jvm.Cond.methodLink "FifthCardLaw" (119 : Nat) ({ cls := "FifthCardModel", name := "pairs", desc := "()I" } : Jvm.MethodName)) ∈ lw_all := lw_g (lw_at lw_m9 56 rfl) rfl
theorem q2101 : (Jvm.Cond.methodLink "FifthCardLaw" (123 : Nat) ({ cls := "FifthCardModel", name := "table", desc := "(I)I" } : Jvm.MethodName)) ∈ lw_all := lw_g (lw_at lw_m9 60 rfl) rfl
theorem q2105 : (Jvm.Cond.methodLink "FifthCardLaw" (128 : Nat) ({ cls := "FifthCardModel", name := "count", desc := "(IZ)J" } : Jvm.MethodName)) ∈ lw_all := lw_g (lw_at lw_m9 64 rfl) rfl
theorem q2113 : (Jvm.Cond.methodLink "FifthCardLaw" (132 : Nat) ({ cls := "FifthCardModel", name := "most", desc := "()I" } : Jvm.MethodName)) ∈ lw_all := lw_g (lw_at lw_m9 72 rfl) rfl
theorem q2117 : (Jvm.Cond.methodLink "FifthCardLaw" (136 : Nat) ({ cls := "FifthCardModel", name := "judge", desc := "(I)I" } : Jvm.MethodName)) ∈ lw_all := lw_g (lw_at lw_m9 76 rfl) rfl
theorem q2125 : (Jvm.Cond.methodLink "FifthCardLaw" (140 : Nat) ({ cls := "FifthCardModel", name := "evening", desc := "(IZ)I" } : Jvm.MethodName)) ∈ lw_all := lw_g (lw_at lw_m9 84 rfl) rfl
theorem q2129 : (Jvm.Cond.methodLink "FifthCardLaw" (144 : Nat) ({ cls := "FifthCardModel", name := "agrees", desc := "(I)I" } : Jvm.MethodName)) ∈ lw_all := lw_g (lw_at lw_m9 88 rfl) rfl
theorem q2137 : (Jvm.Cond.methodLink "FifthCardLaw" (148 : Nat) ({ cls := "FifthCardModel", name := "wrong", desc := "(I)I" } : Jvm.MethodName)) ∈ lw_all := lw_g (lw_at lw_m9 96 rfl) rfl
theorem q2145 : (Jvm.Cond.methodLink "FifthCardLaw" (152 : Nat) ({ cls := "FifthCardModel", name := "found", desc := "()I" } : Jvm.MethodName)) ∈ lw_all := lw_g (lw_at lw_m9 104 rfl) rfl
theorem q2149 : (Jvm.Cond.methodLink "FifthCardLaw" (156 : Nat) ({ cls := "FifthCardModel", name := "apart", desc := "(II)I" } : Jvm.MethodName)) ∈ lw_all := lw_g (lw_at lw_m9 108 rfl) rfl
theorem q2161 : (Jvm.Cond.methodLink "FifthCardLaw" (161 : Nat) ({ cls := "FifthCardModel", name := "mean", desc := "(IIZ)I" } : Jvm.MethodName)) ∈ lw_all := lw_g (lw_at lw_m9 120 rfl) rfl
theorem q2168 : (Jvm.Cond.methodLink "FifthCardLaw" (165 : Nat) ({ cls := "FifthCardModel", name := "hardest", desc := "()I" } : Jvm.MethodName)) ∈ lw_all := lw_g (lw_at lw_m9 127 rfl) rfl
theorem q2172 : (Jvm.Cond.methodLink "FifthCardLaw" (169 : Nat) ({ cls := "FifthCardModel", name := "shows", desc := "(II)I" } : Jvm.MethodName)) ∈ lw_all := lw_g (lw_at lw_m9 131 rfl) rfl
theorem q2176 : (Jvm.Cond.methodLink "FifthCardLaw" (174 : Nat) ({ cls := "FifthCardModel", name := "seed", desc := "(I)Z" } : Jvm.MethodName)) ∈ lw_all := lw_g (lw_at lw_m9 135 rfl) rfl
theorem q2189 : (Jvm.Cond.methodLink "FifthCardLaw" (178 : Nat) ({ cls := "FifthCardModel", name := "draw", desc := "()I" } : Jvm.MethodName)) ∈ lw_all := lw_g (lw_at lw_m9 148 rfl) rfl
theorem q2196 : (Jvm.Cond.methodLink "FifthCardLaw" (183 : Nat) ({ cls := "FifthCardModel", name := "strike", desc := "()Z" } : Jvm.MethodName)) ∈ lw_all := lw_g (lw_at lw_m9 155 rfl) rfl
theorem q2200 : (Jvm.Cond.methodLink "FifthCardLaw" (187 : Nat) ({ cls := "FifthCardModel", name := "image", desc := "()I" } : Jvm.MethodName)) ∈ lw_all := lw_g (lw_at lw_m9 159 rfl) rfl
theorem q2204 : (Jvm.Cond.methodLink "FifthCardLaw" (191 : Nat) ({ cls := "FifthCardModel", name := "back", desc := "(I)Z" } : Jvm.MethodName)) ∈ lw_all := lw_g (lw_at lw_m9 163 rfl) rfl
theorem q2208 : (Jvm.Cond.methodLink "FifthCardLaw" (197 : Nat) ({ cls := "FifthCardModel", name := "led", desc := "(II)I" } : Jvm.MethodName)) ∈ lw_all := lw_g (lw_at lw_m9 167 rfl) rfl
theorem q2212 : (Jvm.Cond.methodLink "FifthCardLaw" (204 : Nat) ({ cls := "FifthCardModel", name := "size", desc := "(I)I" } : Jvm.MethodName)) ∈ lw_all := lw_g (lw_at lw_m9 171 rfl) rfl
theorem q2216 : (Jvm.Cond.methodLink "FifthCardLaw" (208 : Nat) ({ cls := "FifthCardModel", name := "words", desc := "(I)I" } : Jvm.MethodName)) ∈ lw_all := lw_g (lw_at lw_m9 175 rfl) rfl
theorem q2220 : (Jvm.Cond.methodLink "FifthCardLaw" (212 : Nat) ({ cls := "FifthCardModel", name := "trouble", desc := "()I" } : Jvm.MethodName)) ∈ lw_all := lw_g (lw_at lw_m9 179 rfl) rfl
/-! FifthCard$Reader -/
set_option maxRecDepth 100000
def RX2 : String := "FifthCard$Reader"
def TX2 : u_T := fun k => match k with
  | 0 => ("FifthCard$Reader", "wrong", "LFifthCard$Refused;", true)
  | 1 => ("FifthCard$Reader", "text", "[B", true)
  | 2 => ("FifthCard$Reader", "letters", "[C", true)
  | 3 => ("FifthCard$Reader", "row", "[I", true)
  | 4 => ("FifthCard$Reader", "size", "I", false)
  | 5 => ("FifthCard$Reader", "end", "I", false)
  | 6 => ("FifthCard$Reader", "token", "I", false)
  | 7 => ("FifthCard$Reader", "at", "I", false)
  | 8 => ("FifthCard$Reader", "whole", "I", false)
  | 9 => ("FifthCard$Reader", "word", "Ljava/lang/String;", false)
  | _ => ("FifthCard$Reader", "trick", "LFifthCard$Trick;", false)
def tyX2 : Nat → FieldType := fun k => match k with
  | 0 => .object "FifthCard$Refused"
  | 1 => .array .byte
  | 2 => .array .char
  | 3 => .array .int
  | 4 => .int
  | 5 => .int
  | 6 => .int
  | 7 => .int
  | 8 => .int
  | 9 => .object "java/lang/String"
  | _ => .object "FifthCard$Trick"
abbrev wsX20 : List Cond := u_ws RX2 TX2 11
theorem nmX2 : ∀ a, a < 11 → ∀ b, b < 11 → a ≠ b → (TX2 a).2.1 ≠ (TX2 b).2.1 := by decide +kernel
theorem tyX2_ok : ∀ k, k < 11 → parseFieldDescriptor (TX2 k).2.2.1 = some (tyX2 k) := by decide +kernel
abbrev cX2_init : ByteArray := prog_13_method_1_code
def yX2_init : MethodName := ⟨RX2, "<init>", "([B)V"⟩
def dkwX2_init_1 : List UInt8 := [8, 188, 10, 181, 0, 22, 42, 43, 181, 0, 26, 177]
abbrev dktX2_init_1 : List UInt8 := dkwX2_init_1 ++ []
def dkwX2_init_0 : List UInt8 := [42, 183, 0, 3, 42, 187, 0, 9, 89, 183, 0, 11, 181, 0, 12, 42, 16, 8, 188, 5, 181, 0, 18, 42]
abbrev dktX2_init_0 : List UInt8 := dkwX2_init_0 ++ dktX2_init_1
theorem dksX2_init_0 : cX2_init.data.toList.drop 0 = dktX2_init_0 := by decide +kernel
theorem dksX2_init_1 : cX2_init.data.toList.drop 24 = dktX2_init_1 := dk_seg dksX2_init_0 24 rfl rfl
theorem dX2_init_0 : decode cX2_init 0 = .ok (.aload_n 0, 1) := dk_42 (dk_at dksX2_init_0 0 rfl rfl)
theorem dX2_init_1 : decode cX2_init 1 = .ok (.invokespecial 3, 3) := dk_183 0 3 (dk_at dksX2_init_0 1 rfl rfl)
theorem dX2_init_4 : decode cX2_init 4 = .ok (.aload_n 0, 1) := dk_42 (dk_at dksX2_init_0 4 rfl rfl)
theorem dX2_init_5 : decode cX2_init 5 = .ok (.new 9, 3) := dk_187 0 9 (dk_at dksX2_init_0 5 rfl rfl)
theorem dX2_init_8 : decode cX2_init 8 = .ok (.dup, 1) := dk_89 (dk_at dksX2_init_0 8 rfl rfl)
theorem dX2_init_9 : decode cX2_init 9 = .ok (.invokespecial 11, 3) := dk_183 0 11 (dk_at dksX2_init_0 9 rfl rfl)
theorem dX2_init_12 : decode cX2_init 12 = .ok (.putfield 12, 3) := dk_181 0 12 (dk_at dksX2_init_0 12 rfl rfl)
theorem dX2_init_15 : decode cX2_init 15 = .ok (.aload_n 0, 1) := dk_42 (dk_at dksX2_init_0 15 rfl rfl)
theorem dX2_init_16 : decode cX2_init 16 = .ok (.bipush 8, 2) := dk_16 8 (dk_at dksX2_init_0 16 rfl rfl)
theorem dX2_init_18 : decode cX2_init 18 = .ok (.newarray .char, 2) := dk_188_5 (dk_at dksX2_init_0 18 rfl rfl)
theorem dX2_init_20 : decode cX2_init 20 = .ok (.putfield 18, 3) := dk_181 0 18 (dk_at dksX2_init_0 20 rfl rfl)
theorem dX2_init_23 : decode cX2_init 23 = .ok (.aload_n 0, 1) := dk_42 (dk_at dksX2_init_0 23 rfl rfl)
theorem dX2_init_24 : decode cX2_init 24 = .ok (.iconst 5, 1) := dk_8 (dk_at dksX2_init_1 0 rfl rfl)
theorem dX2_init_25 : decode cX2_init 25 = .ok (.newarray .int, 2) := dk_188_10 (dk_at dksX2_init_1 1 rfl rfl)
theorem dX2_init_27 : decode cX2_init 27 = .ok (.putfield 22, 3) := dk_181 0 22 (dk_at dksX2_init_1 3 rfl rfl)
theorem dX2_init_30 : decode cX2_init 30 = .ok (.aload_n 0, 1) := dk_42 (dk_at dksX2_init_1 6 rfl rfl)
theorem dX2_init_31 : decode cX2_init 31 = .ok (.aload_n 1, 1) := dk_43 (dk_at dksX2_init_1 7 rfl rfl)
theorem dX2_init_32 : decode cX2_init 32 = .ok (.putfield 26, 3) := dk_181 0 26 (dk_at dksX2_init_1 8 rfl rfl)
theorem dX2_init_35 : decode cX2_init 35 = .ok (.return_, 1) := dk_177 (dk_at dksX2_init_1 11 rfl rfl)
abbrev cX2_read : ByteArray := prog_13_method_12_code
def yX2_read : MethodName := ⟨RX2, "read", "(I)LFifthCard$Trick;"⟩
def dkwX2_read_2 : List UInt8 := [167, 255, 239, 42, 180, 0, 51, 153, 0, 9, 42, 4, 182, 0, 89, 191, 42, 180, 0, 104, 176]
abbrev dktX2_read_2 : List UInt8 := dkwX2_read_2 ++ []
def dkwX2_read_1 : List UInt8 := [182, 0, 83, 42, 182, 0, 108, 42, 180, 0, 51, 16, 59, 160, 0, 14, 42, 182, 0, 83, 42, 182, 0, 108]
abbrev dktX2_read_1 : List UInt8 := dkwX2_read_1 ++ dktX2_read_2
def dkwX2_read_0 : List UInt8 := [42, 27, 181, 0, 37, 42, 3, 181, 0, 44, 42, 187, 0, 101, 89, 183, 0, 103, 181, 0, 104, 42]
abbrev dktX2_read_0 : List UInt8 := dkwX2_read_0 ++ dktX2_read_1
theorem dksX2_read_0 : cX2_read.data.toList.drop 0 = dktX2_read_0 := by decide +kernel
theorem dksX2_read_1 : cX2_read.data.toList.drop 22 = dktX2_read_1 := dk_seg dksX2_read_0 22 rfl rfl
theorem dksX2_read_2 : cX2_read.data.toList.drop 46 = dktX2_read_2 := dk_seg dksX2_read_1 24 rfl rfl
theorem dX2_read_0 : decode cX2_read 0 = .ok (.aload_n 0, 1) := dk_42 (dk_at dksX2_read_0 0 rfl rfl)
theorem dX2_read_1 : decode cX2_read 1 = .ok (.iload_n 1, 1) := dk_27 (dk_at dksX2_read_0 1 rfl rfl)
theorem dX2_read_2 : decode cX2_read 2 = .ok (.putfield 37, 3) := dk_181 0 37 (dk_at dksX2_read_0 2 rfl rfl)
theorem dX2_read_5 : decode cX2_read 5 = .ok (.aload_n 0, 1) := dk_42 (dk_at dksX2_read_0 5 rfl rfl)
theorem dX2_read_6 : decode cX2_read 6 = .ok (.iconst 0, 1) := dk_3 (dk_at dksX2_read_0 6 rfl rfl)
theorem dX2_read_7 : decode cX2_read 7 = .ok (.putfield 44, 3) := dk_181 0 44 (dk_at dksX2_read_0 7 rfl rfl)
theorem dX2_read_10 : decode cX2_read 10 = .ok (.aload_n 0, 1) := dk_42 (dk_at dksX2_read_0 10 rfl rfl)
theorem dX2_read_11 : decode cX2_read 11 = .ok (.new 101, 3) := dk_187 0 101 (dk_at dksX2_read_0 11 rfl rfl)
theorem dX2_read_14 : decode cX2_read 14 = .ok (.dup, 1) := dk_89 (dk_at dksX2_read_0 14 rfl rfl)
theorem dX2_read_15 : decode cX2_read 15 = .ok (.invokespecial 103, 3) := dk_183 0 103 (dk_at dksX2_read_0 15 rfl rfl)
theorem dX2_read_18 : decode cX2_read 18 = .ok (.putfield 104, 3) := dk_181 0 104 (dk_at dksX2_read_0 18 rfl rfl)
theorem dX2_read_21 : decode cX2_read 21 = .ok (.aload_n 0, 1) := dk_42 (dk_at dksX2_read_0 21 rfl rfl)
theorem dX2_read_22 : decode cX2_read 22 = .ok (.invokevirtual 83, 3) := dk_182 0 83 (dk_at dksX2_read_1 0 rfl rfl)
theorem dX2_read_25 : decode cX2_read 25 = .ok (.aload_n 0, 1) := dk_42 (dk_at dksX2_read_1 3 rfl rfl)
theorem dX2_read_26 : decode cX2_read 26 = .ok (.invokevirtual 108, 3) := dk_182 0 108 (dk_at dksX2_read_1 4 rfl rfl)
theorem dX2_read_29 : decode cX2_read 29 = .ok (.aload_n 0, 1) := dk_42 (dk_at dksX2_read_1 7 rfl rfl)
theorem dX2_read_30 : decode cX2_read 30 = .ok (.getfield 51, 3) := dk_180 0 51 (dk_at dksX2_read_1 8 rfl rfl)
theorem dX2_read_33 : decode cX2_read 33 = .ok (.bipush 59, 2) := dk_16 59 (dk_at dksX2_read_1 11 rfl rfl)
theorem dX2_read_35 : decode cX2_read 35 = .ok (.if_icmp .ne 14, 3) := dk_160 0 14 (dk_at dksX2_read_1 13 rfl rfl)
theorem dX2_read_38 : decode cX2_read 38 = .ok (.aload_n 0, 1) := dk_42 (dk_at dksX2_read_1 16 rfl rfl)
theorem dX2_read_39 : decode cX2_read 39 = .ok (.invokevirtual 83, 3) := dk_182 0 83 (dk_at dksX2_read_1 17 rfl rfl)
theorem dX2_read_42 : decode cX2_read 42 = .ok (.aload_n 0, 1) := dk_42 (dk_at dksX2_read_1 20 rfl rfl)
theorem dX2_read_43 : decode cX2_read 43 = .ok (.invokevirtual 108, 3) := dk_182 0 108 (dk_at dksX2_read_1 21 rfl rfl)
theorem dX2_read_46 : decode cX2_read 46 = .ok (.goto (-17), 3) := dk_167 255 239 (dk_at dksX2_read_2 0 rfl rfl)
theorem dX2_read_49 : decode cX2_read 49 = .ok (.aload_n 0, 1) := dk_42 (dk_at dksX2_read_2 3 rfl rfl)
theorem dX2_read_50 : decode cX2_read 50 = .ok (.getfield 51, 3) := dk_180 0 51 (dk_at dksX2_read_2 4 rfl rfl)
theorem dX2_read_53 : decode cX2_read 53 = .ok (.ifCond .eq 9, 3) := dk_153 0 9 (dk_at dksX2_read_2 7 rfl rfl)
theorem dX2_read_56 : decode cX2_read 56 = .ok (.aload_n 0, 1) := dk_42 (dk_at dksX2_read_2 10 rfl rfl)
theorem dX2_read_57 : decode cX2_read 57 = .ok (.iconst 1, 1) := dk_4 (dk_at dksX2_read_2 11 rfl rfl)
theorem dX2_read_58 : decode cX2_read 58 = .ok (.invokevirtual 89, 3) := dk_182 0 89 (dk_at dksX2_read_2 12 rfl rfl)
theorem dX2_read_61 : decode cX2_read 61 = .ok (.athrow, 1) := dk_191 (dk_at dksX2_read_2 15 rfl rfl)
theorem dX2_read_62 : decode cX2_read 62 = .ok (.aload_n 0, 1) := dk_42 (dk_at dksX2_read_2 16 rfl rfl)
theorem dX2_read_63 : decode cX2_read 63 = .ok (.getfield 104, 3) := dk_180 0 104 (dk_at dksX2_read_2 17 rfl rfl)
theorem dX2_read_66 : decode cX2_read 66 = .ok (.areturn, 1) := dk_176 (dk_at dksX2_read_2 20 rfl rfl)
abbrev cX2_next : ByteArray := prog_13_method_6_code
def yX2_next : MethodName := ⟨RX2, "next", "()V"⟩
def dkwX2_next_13 : List UInt8 := [181, 0, 51, 177]
abbrev dktX2_next_13 : List UInt8 := dkwX2_next_13 ++ []
def dkwX2_next_12 : List UInt8 := [181, 0, 51, 167, 0, 24, 42, 28, 16, 59, 159, 0, 9, 28, 16, 44, 160, 0, 7, 28, 167, 0, 4, 4]
abbrev dktX2_next_12 : List UInt8 := dkwX2_next_12 ++ dktX2_next_13
def dkwX2_next_11 : List UInt8 := [181, 0, 44, 167, 255, 199, 42, 42, 180, 0, 44, 27, 100, 6, 164, 0, 7, 4, 167, 0, 4, 6]
abbrev dktX2_next_11 : List UInt8 := dkwX2_next_11 ++ dktX2_next_12
def dkwX2_next_10 : List UInt8 := [42, 42, 180, 0, 44, 182, 0, 47, 96, 16, 48, 100, 181, 0, 72, 42, 89, 180, 0, 44, 4, 96]
abbrev dktX2_next_10 : List UInt8 := dkwX2_next_10 ++ dktX2_next_11
def dkwX2_next_9 : List UInt8 := [184, 0, 69, 153, 0, 49, 42, 180, 0, 44, 27, 100, 6, 162, 0, 26, 42, 16, 10, 42, 180, 0, 72, 104]
abbrev dktX2_next_9 : List UInt8 := dkwX2_next_9 ++ dktX2_next_10
def dkwX2_next_8 : List UInt8 := [184, 0, 69, 153, 0, 95, 42, 3, 181, 0, 72, 42, 27, 181, 0, 44, 42, 42, 180, 0, 44, 182, 0, 47]
abbrev dktX2_next_8 : List UInt8 := dkwX2_next_8 ++ dktX2_next_9
def dkwX2_next_7 : List UInt8 := [3, 42, 180, 0, 44, 27, 100, 183, 0, 60, 167, 0, 5, 18, 63, 181, 0, 65, 167, 0, 123, 28]
abbrev dktX2_next_7 : List UInt8 := dkwX2_next_7 ++ dktX2_next_8
def dkwX2_next_6 : List UInt8 := [167, 0, 4, 5, 181, 0, 51, 42, 42, 180, 0, 51, 5, 160, 0, 24, 187, 0, 58, 89, 42, 180, 0, 18]
abbrev dktX2_next_6 : List UInt8 := dkwX2_next_6 ++ dktX2_next_7
def dkwX2_next_5 : List UInt8 := [180, 0, 44, 4, 96, 181, 0, 44, 167, 255, 201, 42, 42, 180, 0, 44, 27, 100, 16, 8, 164, 0, 7, 4]
abbrev dktX2_next_5 : List UInt8 := dkwX2_next_5 ++ dktX2_next_6
def dkwX2_next_4 : List UInt8 := [42, 180, 0, 18, 42, 180, 0, 44, 27, 100, 42, 42, 180, 0, 44, 182, 0, 47, 146, 85, 42, 89]
abbrev dktX2_next_4 : List UInt8 := dkwX2_next_4 ++ dktX2_next_5
def dkwX2_next_3 : List UInt8 := [42, 180, 0, 44, 182, 0, 47, 184, 0, 54, 153, 0, 47, 42, 180, 0, 44, 27, 100, 16, 8, 162, 0, 23]
abbrev dktX2_next_3 : List UInt8 := dkwX2_next_3 ++ dktX2_next_4
def dkwX2_next_2 : List UInt8 := [181, 0, 51, 42, 27, 181, 0, 44, 167, 0, 251, 28, 184, 0, 54, 153, 0, 124, 42, 27, 181, 0, 44, 42]
abbrev dktX2_next_2 : List UInt8 := dkwX2_next_2 ++ dktX2_next_3
def dkwX2_next_1 : List UInt8 := [181, 0, 30, 42, 27, 4, 96, 181, 0, 44, 42, 27, 182, 0, 47, 61, 28, 2, 160, 0, 16, 42, 3]
abbrev dktX2_next_1 : List UInt8 := dkwX2_next_1 ++ dktX2_next_2
def dkwX2_next_0 : List UInt8 := [42, 180, 0, 44, 60, 42, 27, 182, 0, 47, 16, 32, 160, 0, 9, 132, 1, 1, 167, 255, 243, 42, 27]
abbrev dktX2_next_0 : List UInt8 := dkwX2_next_0 ++ dktX2_next_1
theorem dksX2_next_0 : cX2_next.data.toList.drop 0 = dktX2_next_0 := by decide +kernel
theorem dksX2_next_1 : cX2_next.data.toList.drop 23 = dktX2_next_1 := dk_seg dksX2_next_0 23 rfl rfl
theorem dksX2_next_2 : cX2_next.data.toList.drop 46 = dktX2_next_2 := dk_seg dksX2_next_1 23 rfl rfl
theorem dksX2_next_3 : cX2_next.data.toList.drop 70 = dktX2_next_3 := dk_seg dksX2_next_2 24 rfl rfl
theorem dksX2_next_4 : cX2_next.data.toList.drop 94 = dktX2_next_4 := dk_seg dksX2_next_3 24 rfl rfl
theorem dksX2_next_5 : cX2_next.data.toList.drop 116 = dktX2_next_5 := dk_seg dksX2_next_4 22 rfl rfl
theorem dksX2_next_6 : cX2_next.data.toList.drop 140 = dktX2_next_6 := dk_seg dksX2_next_5 24 rfl rfl
theorem dksX2_next_7 : cX2_next.data.toList.drop 164 = dktX2_next_7 := dk_seg dksX2_next_6 24 rfl rfl
theorem dksX2_next_8 : cX2_next.data.toList.drop 186 = dktX2_next_8 := dk_seg dksX2_next_7 22 rfl rfl
theorem dksX2_next_9 : cX2_next.data.toList.drop 210 = dktX2_next_9 := dk_seg dksX2_next_8 24 rfl rfl
theorem dksX2_next_10 : cX2_next.data.toList.drop 234 = dktX2_next_10 := dk_seg dksX2_next_9 24 rfl rfl
theorem dksX2_next_11 : cX2_next.data.toList.drop 256 = dktX2_next_11 := dk_seg dksX2_next_10 22 rfl rfl
theorem dksX2_next_12 : cX2_next.data.toList.drop 278 = dktX2_next_12 := dk_seg dksX2_next_11 22 rfl rfl
theorem dksX2_next_13 : cX2_next.data.toList.drop 302 = dktX2_next_13 := dk_seg dksX2_next_12 24 rfl rfl
theorem dX2_next_0 : decode cX2_next 0 = .ok (.aload_n 0, 1) := dk_42 (dk_at dksX2_next_0 0 rfl rfl)
theorem dX2_next_1 : decode cX2_next 1 = .ok (.getfield 44, 3) := dk_180 0 44 (dk_at dksX2_next_0 1 rfl rfl)
theorem dX2_next_4 : decode cX2_next 4 = .ok (.istore_n 1, 1) := dk_60 (dk_at dksX2_next_0 4 rfl rfl)
theorem dX2_next_5 : decode cX2_next 5 = .ok (.aload_n 0, 1) := dk_42 (dk_at dksX2_next_0 5 rfl rfl)
theorem dX2_next_6 : decode cX2_next 6 = .ok (.iload_n 1, 1) := dk_27 (dk_at dksX2_next_0 6 rfl rfl)
theorem dX2_next_7 : decode cX2_next 7 = .ok (.invokevirtual 47, 3) := dk_182 0 47 (dk_at dksX2_next_0 7 rfl rfl)
theorem dX2_next_10 : decode cX2_next 10 = .ok (.bipush 32, 2) := dk_16 32 (dk_at dksX2_next_0 10 rfl rfl)
theorem dX2_next_12 : decode cX2_next 12 = .ok (.if_icmp .ne 9, 3) := dk_160 0 9 (dk_at dksX2_next_0 12 rfl rfl)
theorem dX2_next_15 : decode cX2_next 15 = .ok (.iinc 1 1, 3) := dk_132 1 1 (dk_at dksX2_next_0 15 rfl rfl)
theorem dX2_next_18 : decode cX2_next 18 = .ok (.goto (-13), 3) := dk_167 255 243 (dk_at dksX2_next_0 18 rfl rfl)
theorem dX2_next_21 : decode cX2_next 21 = .ok (.aload_n 0, 1) := dk_42 (dk_at dksX2_next_0 21 rfl rfl)
theorem dX2_next_22 : decode cX2_next 22 = .ok (.iload_n 1, 1) := dk_27 (dk_at dksX2_next_0 22 rfl rfl)
theorem dX2_next_23 : decode cX2_next 23 = .ok (.putfield 30, 3) := dk_181 0 30 (dk_at dksX2_next_1 0 rfl rfl)
theorem dX2_next_26 : decode cX2_next 26 = .ok (.aload_n 0, 1) := dk_42 (dk_at dksX2_next_1 3 rfl rfl)
theorem dX2_next_27 : decode cX2_next 27 = .ok (.iload_n 1, 1) := dk_27 (dk_at dksX2_next_1 4 rfl rfl)
theorem dX2_next_28 : decode cX2_next 28 = .ok (.iconst 1, 1) := dk_4 (dk_at dksX2_next_1 5 rfl rfl)
theorem dX2_next_29 : decode cX2_next 29 = .ok (.iadd, 1) := dk_96 (dk_at dksX2_next_1 6 rfl rfl)
theorem dX2_next_30 : decode cX2_next 30 = .ok (.putfield 44, 3) := dk_181 0 44 (dk_at dksX2_next_1 7 rfl rfl)
theorem dX2_next_33 : decode cX2_next 33 = .ok (.aload_n 0, 1) := dk_42 (dk_at dksX2_next_1 10 rfl rfl)
theorem dX2_next_34 : decode cX2_next 34 = .ok (.iload_n 1, 1) := dk_27 (dk_at dksX2_next_1 11 rfl rfl)
theorem dX2_next_35 : decode cX2_next 35 = .ok (.invokevirtual 47, 3) := dk_182 0 47 (dk_at dksX2_next_1 12 rfl rfl)
theorem dX2_next_38 : decode cX2_next 38 = .ok (.istore_n 2, 1) := dk_61 (dk_at dksX2_next_1 15 rfl rfl)
theorem dX2_next_39 : decode cX2_next 39 = .ok (.iload_n 2, 1) := dk_28 (dk_at dksX2_next_1 16 rfl rfl)
theorem dX2_next_40 : decode cX2_next 40 = .ok (.iconst (-1), 1) := dk_2 (dk_at dksX2_next_1 17 rfl rfl)
theorem dX2_next_41 : decode cX2_next 41 = .ok (.if_icmp .ne 16, 3) := dk_160 0 16 (dk_at dksX2_next_1 18 rfl rfl)
theorem dX2_next_44 : decode cX2_next 44 = .ok (.aload_n 0, 1) := dk_42 (dk_at dksX2_next_1 21 rfl rfl)
theorem dX2_next_45 : decode cX2_next 45 = .ok (.iconst 0, 1) := dk_3 (dk_at dksX2_next_1 22 rfl rfl)
theorem dX2_next_46 : decode cX2_next 46 = .ok (.putfield 51, 3) := dk_181 0 51 (dk_at dksX2_next_2 0 rfl rfl)
theorem dX2_next_49 : decode cX2_next 49 = .ok (.aload_n 0, 1) := dk_42 (dk_at dksX2_next_2 3 rfl rfl)
theorem dX2_next_50 : decode cX2_next 50 = .ok (.iload_n 1, 1) := dk_27 (dk_at dksX2_next_2 4 rfl rfl)
theorem dX2_next_51 : decode cX2_next 51 = .ok (.putfield 44, 3) := dk_181 0 44 (dk_at dksX2_next_2 5 rfl rfl)
theorem dX2_next_54 : decode cX2_next 54 = .ok (.goto 251, 3) := dk_167 0 251 (dk_at dksX2_next_2 8 rfl rfl)
theorem dX2_next_57 : decode cX2_next 57 = .ok (.iload_n 2, 1) := dk_28 (dk_at dksX2_next_2 11 rfl rfl)
theorem dX2_next_58 : decode cX2_next 58 = .ok (.invokestatic 54, 3) := dk_184 0 54 (dk_at dksX2_next_2 12 rfl rfl)
theorem dX2_next_61 : decode cX2_next 61 = .ok (.ifCond .eq 124, 3) := dk_153 0 124 (dk_at dksX2_next_2 15 rfl rfl)
theorem dX2_next_64 : decode cX2_next 64 = .ok (.aload_n 0, 1) := dk_42 (dk_at dksX2_next_2 18 rfl rfl)
theorem dX2_next_65 : decode cX2_next 65 = .ok (.iload_n 1, 1) := dk_27 (dk_at dksX2_next_2 19 rfl rfl)
theorem dX2_next_66 : decode cX2_next 66 = .ok (.putfield 44, 3) := dk_181 0 44 (dk_at dksX2_next_2 20 rfl rfl)
theorem dX2_next_69 : decode cX2_next 69 = .ok (.aload_n 0, 1) := dk_42 (dk_at dksX2_next_2 23 rfl rfl)
theorem dX2_next_70 : decode cX2_next 70 = .ok (.aload_n 0, 1) := dk_42 (dk_at dksX2_next_3 0 rfl rfl)
theorem dX2_next_71 : decode cX2_next 71 = .ok (.getfield 44, 3) := dk_180 0 44 (dk_at dksX2_next_3 1 rfl rfl)
theorem dX2_next_74 : decode cX2_next 74 = .ok (.invokevirtual 47, 3) := dk_182 0 47 (dk_at dksX2_next_3 4 rfl rfl)
theorem dX2_next_77 : decode cX2_next 77 = .ok (.invokestatic 54, 3) := dk_184 0 54 (dk_at dksX2_next_3 7 rfl rfl)
theorem dX2_next_80 : decode cX2_next 80 = .ok (.ifCond .eq 47, 3) := dk_153 0 47 (dk_at dksX2_next_3 10 rfl rfl)
theorem dX2_next_83 : decode cX2_next 83 = .ok (.aload_n 0, 1) := dk_42 (dk_at dksX2_next_3 13 rfl rfl)
theorem dX2_next_84 : decode cX2_next 84 = .ok (.getfield 44, 3) := dk_180 0 44 (dk_at dksX2_next_3 14 rfl rfl)
theorem dX2_next_87 : decode cX2_next 87 = .ok (.iload_n 1, 1) := dk_27 (dk_at dksX2_next_3 17 rfl rfl)
theorem dX2_next_88 : decode cX2_next 88 = .ok (.isub, 1) := dk_100 (dk_at dksX2_next_3 18 rfl rfl)
theorem dX2_next_89 : decode cX2_next 89 = .ok (.bipush 8, 2) := dk_16 8 (dk_at dksX2_next_3 19 rfl rfl)
theorem dX2_next_91 : decode cX2_next 91 = .ok (.if_icmp .ge 23, 3) := dk_162 0 23 (dk_at dksX2_next_3 21 rfl rfl)
theorem dX2_next_94 : decode cX2_next 94 = .ok (.aload_n 0, 1) := dk_42 (dk_at dksX2_next_4 0 rfl rfl)
theorem dX2_next_95 : decode cX2_next 95 = .ok (.getfield 18, 3) := dk_180 0 18 (dk_at dksX2_next_4 1 rfl rfl)
theorem dX2_next_98 : decode cX2_next 98 = .ok (.aload_n 0, 1) := dk_42 (dk_at dksX2_next_4 4 rfl rfl)
theorem dX2_next_99 : decode cX2_next 99 = .ok (.getfield 44, 3) := dk_180 0 44 (dk_at dksX2_next_4 5 rfl rfl)
theorem dX2_next_102 : decode cX2_next 102 = .ok (.iload_n 1, 1) := dk_27 (dk_at dksX2_next_4 8 rfl rfl)
theorem dX2_next_103 : decode cX2_next 103 = .ok (.isub, 1) := dk_100 (dk_at dksX2_next_4 9 rfl rfl)
theorem dX2_next_104 : decode cX2_next 104 = .ok (.aload_n 0, 1) := dk_42 (dk_at dksX2_next_4 10 rfl rfl)
theorem dX2_next_105 : decode cX2_next 105 = .ok (.aload_n 0, 1) := dk_42 (dk_at dksX2_next_4 11 rfl rfl)
theorem dX2_next_106 : decode cX2_next 106 = .ok (.getfield 44, 3) := dk_180 0 44 (dk_at dksX2_next_4 12 rfl rfl)
theorem dX2_next_109 : decode cX2_next 109 = .ok (.invokevirtual 47, 3) := dk_182 0 47 (dk_at dksX2_next_4 15 rfl rfl)
theorem dX2_next_112 : decode cX2_next 112 = .ok (.i2c, 1) := dk_146 (dk_at dksX2_next_4 18 rfl rfl)
theorem dX2_next_113 : decode cX2_next 113 = .ok (.castore, 1) := dk_85 (dk_at dksX2_next_4 19 rfl rfl)
theorem dX2_next_114 : decode cX2_next 114 = .ok (.aload_n 0, 1) := dk_42 (dk_at dksX2_next_4 20 rfl rfl)
theorem dX2_next_115 : decode cX2_next 115 = .ok (.dup, 1) := dk_89 (dk_at dksX2_next_4 21 rfl rfl)
theorem dX2_next_116 : decode cX2_next 116 = .ok (.getfield 44, 3) := dk_180 0 44 (dk_at dksX2_next_5 0 rfl rfl)
theorem dX2_next_119 : decode cX2_next 119 = .ok (.iconst 1, 1) := dk_4 (dk_at dksX2_next_5 3 rfl rfl)
theorem dX2_next_120 : decode cX2_next 120 = .ok (.iadd, 1) := dk_96 (dk_at dksX2_next_5 4 rfl rfl)
theorem dX2_next_121 : decode cX2_next 121 = .ok (.putfield 44, 3) := dk_181 0 44 (dk_at dksX2_next_5 5 rfl rfl)
theorem dX2_next_124 : decode cX2_next 124 = .ok (.goto (-55), 3) := dk_167 255 201 (dk_at dksX2_next_5 8 rfl rfl)
theorem dX2_next_127 : decode cX2_next 127 = .ok (.aload_n 0, 1) := dk_42 (dk_at dksX2_next_5 11 rfl rfl)
theorem dX2_next_128 : decode cX2_next 128 = .ok (.aload_n 0, 1) := dk_42 (dk_at dksX2_next_5 12 rfl rfl)
theorem dX2_next_129 : decode cX2_next 129 = .ok (.getfield 44, 3) := dk_180 0 44 (dk_at dksX2_next_5 13 rfl rfl)
theorem dX2_next_132 : decode cX2_next 132 = .ok (.iload_n 1, 1) := dk_27 (dk_at dksX2_next_5 16 rfl rfl)
theorem dX2_next_133 : decode cX2_next 133 = .ok (.isub, 1) := dk_100 (dk_at dksX2_next_5 17 rfl rfl)
theorem dX2_next_134 : decode cX2_next 134 = .ok (.bipush 8, 2) := dk_16 8 (dk_at dksX2_next_5 18 rfl rfl)
theorem dX2_next_136 : decode cX2_next 136 = .ok (.if_icmp .le 7, 3) := dk_164 0 7 (dk_at dksX2_next_5 20 rfl rfl)
theorem dX2_next_139 : decode cX2_next 139 = .ok (.iconst 1, 1) := dk_4 (dk_at dksX2_next_5 23 rfl rfl)
theorem dX2_next_140 : decode cX2_next 140 = .ok (.goto 4, 3) := dk_167 0 4 (dk_at dksX2_next_6 0 rfl rfl)
theorem dX2_next_143 : decode cX2_next 143 = .ok (.iconst 2, 1) := dk_5 (dk_at dksX2_next_6 3 rfl rfl)
theorem dX2_next_144 : decode cX2_next 144 = .ok (.putfield 51, 3) := dk_181 0 51 (dk_at dksX2_next_6 4 rfl rfl)
theorem dX2_next_147 : decode cX2_next 147 = .ok (.aload_n 0, 1) := dk_42 (dk_at dksX2_next_6 7 rfl rfl)
theorem dX2_next_148 : decode cX2_next 148 = .ok (.aload_n 0, 1) := dk_42 (dk_at dksX2_next_6 8 rfl rfl)
theorem dX2_next_149 : decode cX2_next 149 = .ok (.getfield 51, 3) := dk_180 0 51 (dk_at dksX2_next_6 9 rfl rfl)
theorem dX2_next_152 : decode cX2_next 152 = .ok (.iconst 2, 1) := dk_5 (dk_at dksX2_next_6 12 rfl rfl)
theorem dX2_next_153 : decode cX2_next 153 = .ok (.if_icmp .ne 24, 3) := dk_160 0 24 (dk_at dksX2_next_6 13 rfl rfl)
theorem dX2_next_156 : decode cX2_next 156 = .ok (.new 58, 3) := dk_187 0 58 (dk_at dksX2_next_6 16 rfl rfl)
theorem dX2_next_159 : decode cX2_next 159 = .ok (.dup, 1) := dk_89 (dk_at dksX2_next_6 19 rfl rfl)
theorem dX2_next_160 : decode cX2_next 160 = .ok (.aload_n 0, 1) := dk_42 (dk_at dksX2_next_6 20 rfl rfl)
theorem dX2_next_161 : decode cX2_next 161 = .ok (.getfield 18, 3) := dk_180 0 18 (dk_at dksX2_next_6 21 rfl rfl)
theorem dX2_next_164 : decode cX2_next 164 = .ok (.iconst 0, 1) := dk_3 (dk_at dksX2_next_7 0 rfl rfl)
theorem dX2_next_165 : decode cX2_next 165 = .ok (.aload_n 0, 1) := dk_42 (dk_at dksX2_next_7 1 rfl rfl)
theorem dX2_next_166 : decode cX2_next 166 = .ok (.getfield 44, 3) := dk_180 0 44 (dk_at dksX2_next_7 2 rfl rfl)
theorem dX2_next_169 : decode cX2_next 169 = .ok (.iload_n 1, 1) := dk_27 (dk_at dksX2_next_7 5 rfl rfl)
theorem dX2_next_170 : decode cX2_next 170 = .ok (.isub, 1) := dk_100 (dk_at dksX2_next_7 6 rfl rfl)
theorem dX2_next_171 : decode cX2_next 171 = .ok (.invokespecial 60, 3) := dk_183 0 60 (dk_at dksX2_next_7 7 rfl rfl)
theorem dX2_next_174 : decode cX2_next 174 = .ok (.goto 5, 3) := dk_167 0 5 (dk_at dksX2_next_7 10 rfl rfl)
theorem dX2_next_177 : decode cX2_next 177 = .ok (.ldc 63, 2) := dk_18 63 (dk_at dksX2_next_7 13 rfl rfl)
theorem dX2_next_179 : decode cX2_next 179 = .ok (.putfield 65, 3) := dk_181 0 65 (dk_at dksX2_next_7 15 rfl rfl)
theorem dX2_next_182 : decode cX2_next 182 = .ok (.goto 123, 3) := dk_167 0 123 (dk_at dksX2_next_7 18 rfl rfl)
theorem dX2_next_185 : decode cX2_next 185 = .ok (.iload_n 2, 1) := dk_28 (dk_at dksX2_next_7 21 rfl rfl)
theorem dX2_next_186 : decode cX2_next 186 = .ok (.invokestatic 69, 3) := dk_184 0 69 (dk_at dksX2_next_8 0 rfl rfl)
theorem dX2_next_189 : decode cX2_next 189 = .ok (.ifCond .eq 95, 3) := dk_153 0 95 (dk_at dksX2_next_8 3 rfl rfl)
theorem dX2_next_192 : decode cX2_next 192 = .ok (.aload_n 0, 1) := dk_42 (dk_at dksX2_next_8 6 rfl rfl)
theorem dX2_next_193 : decode cX2_next 193 = .ok (.iconst 0, 1) := dk_3 (dk_at dksX2_next_8 7 rfl rfl)
theorem dX2_next_194 : decode cX2_next 194 = .ok (.putfield 72, 3) := dk_181 0 72 (dk_at dksX2_next_8 8 rfl rfl)
theorem dX2_next_197 : decode cX2_next 197 = .ok (.aload_n 0, 1) := dk_42 (dk_at dksX2_next_8 11 rfl rfl)
theorem dX2_next_198 : decode cX2_next 198 = .ok (.iload_n 1, 1) := dk_27 (dk_at dksX2_next_8 12 rfl rfl)
theorem dX2_next_199 : decode cX2_next 199 = .ok (.putfield 44, 3) := dk_181 0 44 (dk_at dksX2_next_8 13 rfl rfl)
theorem dX2_next_202 : decode cX2_next 202 = .ok (.aload_n 0, 1) := dk_42 (dk_at dksX2_next_8 16 rfl rfl)
theorem dX2_next_203 : decode cX2_next 203 = .ok (.aload_n 0, 1) := dk_42 (dk_at dksX2_next_8 17 rfl rfl)
theorem dX2_next_204 : decode cX2_next 204 = .ok (.getfield 44, 3) := dk_180 0 44 (dk_at dksX2_next_8 18 rfl rfl)
theorem dX2_next_207 : decode cX2_next 207 = .ok (.invokevirtual 47, 3) := dk_182 0 47 (dk_at dksX2_next_8 21 rfl rfl)
theorem dX2_next_210 : decode cX2_next 210 = .ok (.invokestatic 69, 3) := dk_184 0 69 (dk_at dksX2_next_9 0 rfl rfl)
theorem dX2_next_213 : decode cX2_next 213 = .ok (.ifCond .eq 49, 3) := dk_153 0 49 (dk_at dksX2_next_9 3 rfl rfl)
theorem dX2_next_216 : decode cX2_next 216 = .ok (.aload_n 0, 1) := dk_42 (dk_at dksX2_next_9 6 rfl rfl)
theorem dX2_next_217 : decode cX2_next 217 = .ok (.getfield 44, 3) := dk_180 0 44 (dk_at dksX2_next_9 7 rfl rfl)
theorem dX2_next_220 : decode cX2_next 220 = .ok (.iload_n 1, 1) := dk_27 (dk_at dksX2_next_9 10 rfl rfl)
theorem dX2_next_221 : decode cX2_next 221 = .ok (.isub, 1) := dk_100 (dk_at dksX2_next_9 11 rfl rfl)
theorem dX2_next_222 : decode cX2_next 222 = .ok (.iconst 3, 1) := dk_6 (dk_at dksX2_next_9 12 rfl rfl)
theorem dX2_next_223 : decode cX2_next 223 = .ok (.if_icmp .ge 26, 3) := dk_162 0 26 (dk_at dksX2_next_9 13 rfl rfl)
theorem dX2_next_226 : decode cX2_next 226 = .ok (.aload_n 0, 1) := dk_42 (dk_at dksX2_next_9 16 rfl rfl)
theorem dX2_next_227 : decode cX2_next 227 = .ok (.bipush 10, 2) := dk_16 10 (dk_at dksX2_next_9 17 rfl rfl)
theorem dX2_next_229 : decode cX2_next 229 = .ok (.aload_n 0, 1) := dk_42 (dk_at dksX2_next_9 19 rfl rfl)
theorem dX2_next_230 : decode cX2_next 230 = .ok (.getfield 72, 3) := dk_180 0 72 (dk_at dksX2_next_9 20 rfl rfl)
theorem dX2_next_233 : decode cX2_next 233 = .ok (.imul, 1) := dk_104 (dk_at dksX2_next_9 23 rfl rfl)
theorem dX2_next_234 : decode cX2_next 234 = .ok (.aload_n 0, 1) := dk_42 (dk_at dksX2_next_10 0 rfl rfl)
theorem dX2_next_235 : decode cX2_next 235 = .ok (.aload_n 0, 1) := dk_42 (dk_at dksX2_next_10 1 rfl rfl)
theorem dX2_next_236 : decode cX2_next 236 = .ok (.getfield 44, 3) := dk_180 0 44 (dk_at dksX2_next_10 2 rfl rfl)
theorem dX2_next_239 : decode cX2_next 239 = .ok (.invokevirtual 47, 3) := dk_182 0 47 (dk_at dksX2_next_10 5 rfl rfl)
theorem dX2_next_242 : decode cX2_next 242 = .ok (.iadd, 1) := dk_96 (dk_at dksX2_next_10 8 rfl rfl)
theorem dX2_next_243 : decode cX2_next 243 = .ok (.bipush 48, 2) := dk_16 48 (dk_at dksX2_next_10 9 rfl rfl)
theorem dX2_next_245 : decode cX2_next 245 = .ok (.isub, 1) := dk_100 (dk_at dksX2_next_10 11 rfl rfl)
theorem dX2_next_246 : decode cX2_next 246 = .ok (.putfield 72, 3) := dk_181 0 72 (dk_at dksX2_next_10 12 rfl rfl)
theorem dX2_next_249 : decode cX2_next 249 = .ok (.aload_n 0, 1) := dk_42 (dk_at dksX2_next_10 15 rfl rfl)
theorem dX2_next_250 : decode cX2_next 250 = .ok (.dup, 1) := dk_89 (dk_at dksX2_next_10 16 rfl rfl)
theorem dX2_next_251 : decode cX2_next 251 = .ok (.getfield 44, 3) := dk_180 0 44 (dk_at dksX2_next_10 17 rfl rfl)
theorem dX2_next_254 : decode cX2_next 254 = .ok (.iconst 1, 1) := dk_4 (dk_at dksX2_next_10 20 rfl rfl)
theorem dX2_next_255 : decode cX2_next 255 = .ok (.iadd, 1) := dk_96 (dk_at dksX2_next_10 21 rfl rfl)
theorem dX2_next_256 : decode cX2_next 256 = .ok (.putfield 44, 3) := dk_181 0 44 (dk_at dksX2_next_11 0 rfl rfl)
theorem dX2_next_259 : decode cX2_next 259 = .ok (.goto (-57), 3) := dk_167 255 199 (dk_at dksX2_next_11 3 rfl rfl)
theorem dX2_next_262 : decode cX2_next 262 = .ok (.aload_n 0, 1) := dk_42 (dk_at dksX2_next_11 6 rfl rfl)
theorem dX2_next_263 : decode cX2_next 263 = .ok (.aload_n 0, 1) := dk_42 (dk_at dksX2_next_11 7 rfl rfl)
theorem dX2_next_264 : decode cX2_next 264 = .ok (.getfield 44, 3) := dk_180 0 44 (dk_at dksX2_next_11 8 rfl rfl)
theorem dX2_next_267 : decode cX2_next 267 = .ok (.iload_n 1, 1) := dk_27 (dk_at dksX2_next_11 11 rfl rfl)
theorem dX2_next_268 : decode cX2_next 268 = .ok (.isub, 1) := dk_100 (dk_at dksX2_next_11 12 rfl rfl)
theorem dX2_next_269 : decode cX2_next 269 = .ok (.iconst 3, 1) := dk_6 (dk_at dksX2_next_11 13 rfl rfl)
theorem dX2_next_270 : decode cX2_next 270 = .ok (.if_icmp .le 7, 3) := dk_164 0 7 (dk_at dksX2_next_11 14 rfl rfl)
theorem dX2_next_273 : decode cX2_next 273 = .ok (.iconst 1, 1) := dk_4 (dk_at dksX2_next_11 17 rfl rfl)
theorem dX2_next_274 : decode cX2_next 274 = .ok (.goto 4, 3) := dk_167 0 4 (dk_at dksX2_next_11 18 rfl rfl)
theorem dX2_next_277 : decode cX2_next 277 = .ok (.iconst 3, 1) := dk_6 (dk_at dksX2_next_11 21 rfl rfl)
theorem dX2_next_278 : decode cX2_next 278 = .ok (.putfield 51, 3) := dk_181 0 51 (dk_at dksX2_next_12 0 rfl rfl)
theorem dX2_next_281 : decode cX2_next 281 = .ok (.goto 24, 3) := dk_167 0 24 (dk_at dksX2_next_12 3 rfl rfl)
theorem dX2_next_284 : decode cX2_next 284 = .ok (.aload_n 0, 1) := dk_42 (dk_at dksX2_next_12 6 rfl rfl)
theorem dX2_next_285 : decode cX2_next 285 = .ok (.iload_n 2, 1) := dk_28 (dk_at dksX2_next_12 7 rfl rfl)
theorem dX2_next_286 : decode cX2_next 286 = .ok (.bipush 59, 2) := dk_16 59 (dk_at dksX2_next_12 8 rfl rfl)
theorem dX2_next_288 : decode cX2_next 288 = .ok (.if_icmp .eq 9, 3) := dk_159 0 9 (dk_at dksX2_next_12 10 rfl rfl)
theorem dX2_next_291 : decode cX2_next 291 = .ok (.iload_n 2, 1) := dk_28 (dk_at dksX2_next_12 13 rfl rfl)
theorem dX2_next_292 : decode cX2_next 292 = .ok (.bipush 44, 2) := dk_16 44 (dk_at dksX2_next_12 14 rfl rfl)
theorem dX2_next_294 : decode cX2_next 294 = .ok (.if_icmp .ne 7, 3) := dk_160 0 7 (dk_at dksX2_next_12 16 rfl rfl)
theorem dX2_next_297 : decode cX2_next 297 = .ok (.iload_n 2, 1) := dk_28 (dk_at dksX2_next_12 19 rfl rfl)
theorem dX2_next_298 : decode cX2_next 298 = .ok (.goto 4, 3) := dk_167 0 4 (dk_at dksX2_next_12 20 rfl rfl)
theorem dX2_next_301 : decode cX2_next 301 = .ok (.iconst 1, 1) := dk_4 (dk_at dksX2_next_12 23 rfl rfl)
theorem dX2_next_302 : decode cX2_next 302 = .ok (.putfield 51, 3) := dk_181 0 51 (dk_at dksX2_next_13 0 rfl rfl)
theorem dX2_next_305 : decode cX2_next 305 = .ok (.return_, 1) := dk_177 (dk_at dksX2_next_13 3 rfl rfl)
abbrev cX2_see : ByteArray := prog_13_method_3_code
def yX2_see : MethodName := ⟨RX2, "see", "(I)I"⟩
def dkwX2_see_0 : List UInt8 := [27, 42, 180, 0, 37, 162, 0, 16, 42, 180, 0, 26, 27, 51, 17, 0, 255, 126, 167, 0, 4, 2, 172]
abbrev dktX2_see_0 : List UInt8 := dkwX2_see_0 ++ []
theorem dksX2_see_0 : cX2_see.data.toList.drop 0 = dktX2_see_0 := by decide +kernel
theorem dX2_see_0 : decode cX2_see 0 = .ok (.iload_n 1, 1) := dk_27 (dk_at dksX2_see_0 0 rfl rfl)
theorem dX2_see_1 : decode cX2_see 1 = .ok (.aload_n 0, 1) := dk_42 (dk_at dksX2_see_0 1 rfl rfl)
theorem dX2_see_2 : decode cX2_see 2 = .ok (.getfield 37, 3) := dk_180 0 37 (dk_at dksX2_see_0 2 rfl rfl)
theorem dX2_see_5 : decode cX2_see 5 = .ok (.if_icmp .ge 16, 3) := dk_162 0 16 (dk_at dksX2_see_0 5 rfl rfl)
theorem dX2_see_8 : decode cX2_see 8 = .ok (.aload_n 0, 1) := dk_42 (dk_at dksX2_see_0 8 rfl rfl)
theorem dX2_see_9 : decode cX2_see 9 = .ok (.getfield 26, 3) := dk_180 0 26 (dk_at dksX2_see_0 9 rfl rfl)
theorem dX2_see_12 : decode cX2_see 12 = .ok (.iload_n 1, 1) := dk_27 (dk_at dksX2_see_0 12 rfl rfl)
theorem dX2_see_13 : decode cX2_see 13 = .ok (.baload, 1) := dk_51 (dk_at dksX2_see_0 13 rfl rfl)
theorem dX2_see_14 : decode cX2_see 14 = .ok (.sipush 255, 3) := dk_17 0 255 (dk_at dksX2_see_0 14 rfl rfl)
theorem dX2_see_17 : decode cX2_see 17 = .ok (.iand, 1) := dk_126 (dk_at dksX2_see_0 17 rfl rfl)
theorem dX2_see_18 : decode cX2_see 18 = .ok (.goto 4, 3) := dk_167 0 4 (dk_at dksX2_see_0 18 rfl rfl)
theorem dX2_see_21 : decode cX2_see 21 = .ok (.iconst (-1), 1) := dk_2 (dk_at dksX2_see_0 21 rfl rfl)
theorem dX2_see_22 : decode cX2_see 22 = .ok (.ireturn, 1) := dk_172 (dk_at dksX2_see_0 22 rfl rfl)
abbrev cX2_isSmall : ByteArray := prog_13_method_4_code
def yX2_isSmall : MethodName := ⟨RX2, "isSmall", "(I)Z"⟩
def dkwX2_isSmall_0 : List UInt8 := [26, 16, 97, 16, 122, 184, 0, 40, 172]
abbrev dktX2_isSmall_0 : List UInt8 := dkwX2_isSmall_0 ++ []
theorem dksX2_isSmall_0 : cX2_isSmall.data.toList.drop 0 = dktX2_isSmall_0 := by decide +kernel
theorem dX2_isSmall_0 : decode cX2_isSmall 0 = .ok (.iload_n 0, 1) := dk_26 (dk_at dksX2_isSmall_0 0 rfl rfl)
theorem dX2_isSmall_1 : decode cX2_isSmall 1 = .ok (.bipush 97, 2) := dk_16 97 (dk_at dksX2_isSmall_0 1 rfl rfl)
theorem dX2_isSmall_3 : decode cX2_isSmall 3 = .ok (.bipush 122, 2) := dk_16 122 (dk_at dksX2_isSmall_0 3 rfl rfl)
theorem dX2_isSmall_5 : decode cX2_isSmall 5 = .ok (.invokestatic 40, 3) := dk_184 0 40 (dk_at dksX2_isSmall_0 5 rfl rfl)
theorem dX2_isSmall_8 : decode cX2_isSmall 8 = .ok (.ireturn, 1) := dk_172 (dk_at dksX2_isSmall_0 8 rfl rfl)
abbrev cX2_isDigit : ByteArray := prog_13_method_5_code
def yX2_isDigit : MethodName := ⟨RX2, "isDigit", "(I)Z"⟩
def dkwX2_isDigit_0 : List UInt8 := [26, 16, 48, 16, 57, 184, 0, 40, 172]
abbrev dktX2_isDigit_0 : List UInt8 := dkwX2_isDigit_0 ++ []
theorem dksX2_isDigit_0 : cX2_isDigit.data.toList.drop 0 = dktX2_isDigit_0 := by decide +kernel
theorem dX2_isDigit_0 : decode cX2_isDigit 0 = .ok (.iload_n 0, 1) := dk_26 (dk_at dksX2_isDigit_0 0 rfl rfl)
theorem dX2_isDigit_1 : decode cX2_isDigit 1 = .ok (.bipush 48, 2) := dk_16 48 (dk_at dksX2_isDigit_0 1 rfl rfl)
theorem dX2_isDigit_3 : decode cX2_isDigit 3 = .ok (.bipush 57, 2) := dk_16 57 (dk_at dksX2_isDigit_0 3 rfl rfl)
theorem dX2_isDigit_5 : decode cX2_isDigit 5 = .ok (.invokestatic 40, 3) := dk_184 0 40 (dk_at dksX2_isDigit_0 5 rfl rfl)
theorem dX2_isDigit_8 : decode cX2_isDigit 8 = .ok (.ireturn, 1) := dk_172 (dk_at dksX2_isDigit_0 8 rfl rfl)
abbrev cX2_line : ByteArray := prog_13_method_13_code
def yX2_line : MethodName := ⟨RX2, "line", "()V"⟩
def dkwX2_line_7 : List UInt8 := [182, 0, 89, 191, 177]
abbrev dktX2_line_7 : List UInt8 := dkwX2_line_7 ++ []
def dkwX2_line_6 : List UInt8 := [42, 182, 0, 120, 167, 0, 23, 42, 182, 0, 123, 167, 0, 16, 42, 182, 0, 125, 167, 0, 9, 42, 4]
abbrev dktX2_line_6 : List UInt8 := dkwX2_line_6 ++ dktX2_line_7
def dkwX2_line_5 : List UInt8 := [170, 0, 0, 0, 0, 0, 0, 49, 0, 0, 0, 0, 0, 0, 0, 2, 0, 0, 0, 28, 0, 0, 0, 35, 0, 0, 0, 42]
abbrev dktX2_line_5 : List UInt8 := dkwX2_line_5 ++ dktX2_line_6
def dkwX2_line_4 : List UInt8 := [61, 167, 0, 14, 43, 18, 118, 182, 0, 75, 153, 0, 5, 5, 61, 28]
abbrev dktX2_line_4 : List UInt8 := dkwX2_line_4 ++ dktX2_line_5
def dkwX2_line_3 : List UInt8 := [43, 18, 115, 182, 0, 75, 153, 0, 33, 3, 61, 167, 0, 28, 43, 18, 116, 182, 0, 75, 153, 0, 19, 4]
abbrev dktX2_line_3 : List UInt8 := dkwX2_line_3 ++ dktX2_line_4
def dkwX2_line_2 : List UInt8 := [171, 0, 0, 0, 0, 0, 74, 0, 0, 0, 3, 173, 244, 24, 136, 0, 0, 0, 63, 0, 53, 150, 252, 0, 0, 0, 49, 6, 152, 15, 83, 0, 0, 0, 35]
abbrev dktX2_line_2 : List UInt8 := dkwX2_line_2 ++ dktX2_line_3
def dkwX2_line_1 : List UInt8 := [182, 0, 111]
abbrev dktX2_line_1 : List UInt8 := dkwX2_line_1 ++ dktX2_line_2
def dkwX2_line_0 : List UInt8 := [42, 180, 0, 51, 5, 159, 0, 9, 42, 4, 182, 0, 89, 191, 42, 180, 0, 65, 76, 2, 61, 43]
abbrev dktX2_line_0 : List UInt8 := dkwX2_line_0 ++ dktX2_line_1
theorem dksX2_line_0 : cX2_line.data.toList.drop 0 = dktX2_line_0 := by decide +kernel
theorem dksX2_line_1 : cX2_line.data.toList.drop 22 = dktX2_line_1 := dk_seg dksX2_line_0 22 rfl rfl
theorem dksX2_line_2 : cX2_line.data.toList.drop 25 = dktX2_line_2 := dk_seg dksX2_line_1 3 rfl rfl
theorem dksX2_line_3 : cX2_line.data.toList.drop 60 = dktX2_line_3 := dk_seg dksX2_line_2 35 rfl rfl
theorem dksX2_line_4 : cX2_line.data.toList.drop 84 = dktX2_line_4 := dk_seg dksX2_line_3 24 rfl rfl
theorem dksX2_line_5 : cX2_line.data.toList.drop 100 = dktX2_line_5 := dk_seg dksX2_line_4 16 rfl rfl
theorem dksX2_line_6 : cX2_line.data.toList.drop 128 = dktX2_line_6 := dk_seg dksX2_line_5 28 rfl rfl
theorem dksX2_line_7 : cX2_line.data.toList.drop 151 = dktX2_line_7 := dk_seg dksX2_line_6 23 rfl rfl
theorem dX2_line_0 : decode cX2_line 0 = .ok (.aload_n 0, 1) := dk_42 (dk_at dksX2_line_0 0 rfl rfl)
theorem dX2_line_1 : decode cX2_line 1 = .ok (.getfield 51, 3) := dk_180 0 51 (dk_at dksX2_line_0 1 rfl rfl)
theorem dX2_line_4 : decode cX2_line 4 = .ok (.iconst 2, 1) := dk_5 (dk_at dksX2_line_0 4 rfl rfl)
theorem dX2_line_5 : decode cX2_line 5 = .ok (.if_icmp .eq 9, 3) := dk_159 0 9 (dk_at dksX2_line_0 5 rfl rfl)
theorem dX2_line_8 : decode cX2_line 8 = .ok (.aload_n 0, 1) := dk_42 (dk_at dksX2_line_0 8 rfl rfl)
theorem dX2_line_9 : decode cX2_line 9 = .ok (.iconst 1, 1) := dk_4 (dk_at dksX2_line_0 9 rfl rfl)
theorem dX2_line_10 : decode cX2_line 10 = .ok (.invokevirtual 89, 3) := dk_182 0 89 (dk_at dksX2_line_0 10 rfl rfl)
theorem dX2_line_13 : decode cX2_line 13 = .ok (.athrow, 1) := dk_191 (dk_at dksX2_line_0 13 rfl rfl)
theorem dX2_line_14 : decode cX2_line 14 = .ok (.aload_n 0, 1) := dk_42 (dk_at dksX2_line_0 14 rfl rfl)
theorem dX2_line_15 : decode cX2_line 15 = .ok (.getfield 65, 3) := dk_180 0 65 (dk_at dksX2_line_0 15 rfl rfl)
theorem dX2_line_18 : decode cX2_line 18 = .ok (.astore_n 1, 1) := dk_76 (dk_at dksX2_line_0 18 rfl rfl)
theorem dX2_line_19 : decode cX2_line 19 = .ok (.iconst (-1), 1) := dk_2 (dk_at dksX2_line_0 19 rfl rfl)
theorem dX2_line_20 : decode cX2_line 20 = .ok (.istore_n 2, 1) := dk_61 (dk_at dksX2_line_0 20 rfl rfl)
theorem dX2_line_21 : decode cX2_line 21 = .ok (.aload_n 1, 1) := dk_43 (dk_at dksX2_line_0 21 rfl rfl)
theorem dX2_line_22 : decode cX2_line 22 = .ok (.invokevirtual 111, 3) := dk_182 0 111 (dk_at dksX2_line_1 0 rfl rfl)
theorem dX2_line_25 : decode cX2_line 25 = .ok (.lookupswitch 74 #[(-1376511864, 63), (3512060, 49), (110628691, 35)], 35) := by decide +kernel
theorem dX2_line_60 : decode cX2_line 60 = .ok (.aload_n 1, 1) := dk_43 (dk_at dksX2_line_3 0 rfl rfl)
theorem dX2_line_61 : decode cX2_line 61 = .ok (.ldc 115, 2) := dk_18 115 (dk_at dksX2_line_3 1 rfl rfl)
theorem dX2_line_63 : decode cX2_line 63 = .ok (.invokevirtual 75, 3) := dk_182 0 75 (dk_at dksX2_line_3 3 rfl rfl)
theorem dX2_line_66 : decode cX2_line 66 = .ok (.ifCond .eq 33, 3) := dk_153 0 33 (dk_at dksX2_line_3 6 rfl rfl)
theorem dX2_line_69 : decode cX2_line 69 = .ok (.iconst 0, 1) := dk_3 (dk_at dksX2_line_3 9 rfl rfl)
theorem dX2_line_70 : decode cX2_line 70 = .ok (.istore_n 2, 1) := dk_61 (dk_at dksX2_line_3 10 rfl rfl)
theorem dX2_line_71 : decode cX2_line 71 = .ok (.goto 28, 3) := dk_167 0 28 (dk_at dksX2_line_3 11 rfl rfl)
theorem dX2_line_74 : decode cX2_line 74 = .ok (.aload_n 1, 1) := dk_43 (dk_at dksX2_line_3 14 rfl rfl)
theorem dX2_line_75 : decode cX2_line 75 = .ok (.ldc 116, 2) := dk_18 116 (dk_at dksX2_line_3 15 rfl rfl)
theorem dX2_line_77 : decode cX2_line 77 = .ok (.invokevirtual 75, 3) := dk_182 0 75 (dk_at dksX2_line_3 17 rfl rfl)
theorem dX2_line_80 : decode cX2_line 80 = .ok (.ifCond .eq 19, 3) := dk_153 0 19 (dk_at dksX2_line_3 20 rfl rfl)
theorem dX2_line_83 : decode cX2_line 83 = .ok (.iconst 1, 1) := dk_4 (dk_at dksX2_line_3 23 rfl rfl)
theorem dX2_line_84 : decode cX2_line 84 = .ok (.istore_n 2, 1) := dk_61 (dk_at dksX2_line_4 0 rfl rfl)
theorem dX2_line_85 : decode cX2_line 85 = .ok (.goto 14, 3) := dk_167 0 14 (dk_at dksX2_line_4 1 rfl rfl)
theorem dX2_line_88 : decode cX2_line 88 = .ok (.aload_n 1, 1) := dk_43 (dk_at dksX2_line_4 4 rfl rfl)
theorem dX2_line_89 : decode cX2_line 89 = .ok (.ldc 118, 2) := dk_18 118 (dk_at dksX2_line_4 5 rfl rfl)
theorem dX2_line_91 : decode cX2_line 91 = .ok (.invokevirtual 75, 3) := dk_182 0 75 (dk_at dksX2_line_4 7 rfl rfl)
theorem dX2_line_94 : decode cX2_line 94 = .ok (.ifCond .eq 5, 3) := dk_153 0 5 (dk_at dksX2_line_4 10 rfl rfl)
theorem dX2_line_97 : decode cX2_line 97 = .ok (.iconst 2, 1) := dk_5 (dk_at dksX2_line_4 13 rfl rfl)
theorem dX2_line_98 : decode cX2_line 98 = .ok (.istore_n 2, 1) := dk_61 (dk_at dksX2_line_4 14 rfl rfl)
theorem dX2_line_99 : decode cX2_line 99 = .ok (.iload_n 2, 1) := dk_28 (dk_at dksX2_line_4 15 rfl rfl)
theorem dX2_line_100 : decode cX2_line 100 = .ok (.tableswitch 49 0 2 #[28, 35, 42], 28) := by decide +kernel
theorem dX2_line_128 : decode cX2_line 128 = .ok (.aload_n 0, 1) := dk_42 (dk_at dksX2_line_6 0 rfl rfl)
theorem dX2_line_129 : decode cX2_line 129 = .ok (.invokevirtual 120, 3) := dk_182 0 120 (dk_at dksX2_line_6 1 rfl rfl)
theorem dX2_line_132 : decode cX2_line 132 = .ok (.goto 23, 3) := dk_167 0 23 (dk_at dksX2_line_6 4 rfl rfl)
theorem dX2_line_135 : decode cX2_line 135 = .ok (.aload_n 0, 1) := dk_42 (dk_at dksX2_line_6 7 rfl rfl)
theorem dX2_line_136 : decode cX2_line 136 = .ok (.invokevirtual 123, 3) := dk_182 0 123 (dk_at dksX2_line_6 8 rfl rfl)
theorem dX2_line_139 : decode cX2_line 139 = .ok (.goto 16, 3) := dk_167 0 16 (dk_at dksX2_line_6 11 rfl rfl)
theorem dX2_line_142 : decode cX2_line 142 = .ok (.aload_n 0, 1) := dk_42 (dk_at dksX2_line_6 14 rfl rfl)
theorem dX2_line_143 : decode cX2_line 143 = .ok (.invokevirtual 125, 3) := dk_182 0 125 (dk_at dksX2_line_6 15 rfl rfl)
theorem dX2_line_146 : decode cX2_line 146 = .ok (.goto 9, 3) := dk_167 0 9 (dk_at dksX2_line_6 18 rfl rfl)
theorem dX2_line_149 : decode cX2_line 149 = .ok (.aload_n 0, 1) := dk_42 (dk_at dksX2_line_6 21 rfl rfl)
theorem dX2_line_150 : decode cX2_line 150 = .ok (.iconst 1, 1) := dk_4 (dk_at dksX2_line_6 22 rfl rfl)
theorem dX2_line_151 : decode cX2_line 151 = .ok (.invokevirtual 89, 3) := dk_182 0 89 (dk_at dksX2_line_7 0 rfl rfl)
theorem dX2_line_154 : decode cX2_line 154 = .ok (.athrow, 1) := dk_191 (dk_at dksX2_line_7 3 rfl rfl)
theorem dX2_line_155 : decode cX2_line 155 = .ok (.return_, 1) := dk_177 (dk_at dksX2_line_7 4 rfl rfl)
abbrev cX2_fail : ByteArray := prog_13_method_2_code
def yX2_fail : MethodName := ⟨RX2, "fail", "(I)LFifthCard$Refused;"⟩
def dkwX2_fail_0 : List UInt8 := [42, 180, 0, 12, 27, 42, 180, 0, 30, 182, 0, 34, 176]
abbrev dktX2_fail_0 : List UInt8 := dkwX2_fail_0 ++ []
theorem dksX2_fail_0 : cX2_fail.data.toList.drop 0 = dktX2_fail_0 := by decide +kernel
theorem dX2_fail_0 : decode cX2_fail 0 = .ok (.aload_n 0, 1) := dk_42 (dk_at dksX2_fail_0 0 rfl rfl)
theorem dX2_fail_1 : decode cX2_fail 1 = .ok (.getfield 12, 3) := dk_180 0 12 (dk_at dksX2_fail_0 1 rfl rfl)
theorem dX2_fail_4 : decode cX2_fail 4 = .ok (.iload_n 1, 1) := dk_27 (dk_at dksX2_fail_0 4 rfl rfl)
theorem dX2_fail_5 : decode cX2_fail 5 = .ok (.aload_n 0, 1) := dk_42 (dk_at dksX2_fail_0 5 rfl rfl)
theorem dX2_fail_6 : decode cX2_fail 6 = .ok (.getfield 30, 3) := dk_180 0 30 (dk_at dksX2_fail_0 6 rfl rfl)
theorem dX2_fail_9 : decode cX2_fail 9 = .ok (.invokevirtual 34, 3) := dk_182 0 34 (dk_at dksX2_fail_0 9 rfl rfl)
theorem dX2_fail_12 : decode cX2_fail 12 = .ok (.areturn, 1) := dk_176 (dk_at dksX2_fail_0 12 rfl rfl)
abbrev cX2_trickLine : ByteArray := prog_13_method_14_code
def yX2_trickLine : MethodName := ⟨RX2, "trickLine", "()V"⟩
def dkwX2_trickLine_9 : List UInt8 := [180, 0, 104, 42, 18, 169, 182, 0, 86, 181, 0, 171, 42, 180, 0, 104, 27, 181, 0, 127, 177]
abbrev dktX2_trickLine_9 : List UInt8 := dkwX2_trickLine_9 ++ []
def dkwX2_trickLine_8 : List UInt8 := [180, 0, 104, 180, 0, 154, 154, 0, 16, 42, 180, 0, 104, 42, 18, 165, 182, 0, 86, 181, 0, 167, 42]
abbrev dktX2_trickLine_8 : List UInt8 := dkwX2_trickLine_8 ++ dktX2_trickLine_9
def dkwX2_trickLine_7 : List UInt8 := [20, 0, 163, 148, 158, 0, 14, 42, 180, 0, 12, 16, 7, 29, 182, 0, 34, 191, 42, 182, 0, 83, 42]
abbrev dktX2_trickLine_7 : List UInt8 := dkwX2_trickLine_7 ++ dktX2_trickLine_8
def dkwX2_trickLine_6 : List UInt8 := [42, 18, 157, 182, 0, 79, 154, 0, 9, 42, 4, 182, 0, 89, 191, 42, 180, 0, 104, 27, 182, 0, 159]
abbrev dktX2_trickLine_6 : List UInt8 := dkwX2_trickLine_6 ++ dktX2_trickLine_7
def dkwX2_trickLine_5 : List UInt8 := [180, 0, 30, 62, 42, 18, 152, 182, 0, 79, 153, 0, 14, 42, 180, 0, 104, 4, 181, 0, 154, 167, 0, 18]
abbrev dktX2_trickLine_5 : List UInt8 := dkwX2_trickLine_5 ++ dktX2_trickLine_6
def dkwX2_trickLine_4 : List UInt8 := [18, 148, 4, 5, 42, 180, 0, 104, 180, 0, 146, 4, 100, 184, 0, 141, 182, 0, 131, 181, 0, 150, 42]
abbrev dktX2_trickLine_4 : List UInt8 := dkwX2_trickLine_4 ++ dktX2_trickLine_5
def dkwX2_trickLine_3 : List UInt8 := [180, 0, 104, 42, 18, 139, 5, 8, 27, 184, 0, 141, 182, 0, 131, 181, 0, 146, 42, 180, 0, 104, 42]
abbrev dktX2_trickLine_3 : List UInt8 := dkwX2_trickLine_3 ++ dktX2_trickLine_4
def dkwX2_trickLine_2 : List UInt8 := [153, 0, 9, 42, 7, 182, 0, 89, 191, 42, 182, 0, 83, 42, 180, 0, 104, 28, 181, 0, 137, 42]
abbrev dktX2_trickLine_2 : List UInt8 := dkwX2_trickLine_2 ++ dktX2_trickLine_3
def dkwX2_trickLine_1 : List UInt8 := [16, 12, 182, 0, 131, 60, 42, 18, 135, 182, 0, 93, 42, 4, 7, 182, 0, 97, 61, 27, 28, 112]
abbrev dktX2_trickLine_1 : List UInt8 := dkwX2_trickLine_1 ++ dktX2_trickLine_2
def dkwX2_trickLine_0 : List UInt8 := [42, 180, 0, 104, 180, 0, 127, 158, 0, 9, 42, 6, 182, 0, 89, 191, 42, 182, 0, 83, 42, 18, 130, 7]
abbrev dktX2_trickLine_0 : List UInt8 := dkwX2_trickLine_0 ++ dktX2_trickLine_1
theorem dksX2_trickLine_0 : cX2_trickLine.data.toList.drop 0 = dktX2_trickLine_0 := by decide +kernel
theorem dksX2_trickLine_1 : cX2_trickLine.data.toList.drop 24 = dktX2_trickLine_1 := dk_seg dksX2_trickLine_0 24 rfl rfl
theorem dksX2_trickLine_2 : cX2_trickLine.data.toList.drop 46 = dktX2_trickLine_2 := dk_seg dksX2_trickLine_1 22 rfl rfl
theorem dksX2_trickLine_3 : cX2_trickLine.data.toList.drop 68 = dktX2_trickLine_3 := dk_seg dksX2_trickLine_2 22 rfl rfl
theorem dksX2_trickLine_4 : cX2_trickLine.data.toList.drop 91 = dktX2_trickLine_4 := dk_seg dksX2_trickLine_3 23 rfl rfl
theorem dksX2_trickLine_5 : cX2_trickLine.data.toList.drop 114 = dktX2_trickLine_5 := dk_seg dksX2_trickLine_4 23 rfl rfl
theorem dksX2_trickLine_6 : cX2_trickLine.data.toList.drop 138 = dktX2_trickLine_6 := dk_seg dksX2_trickLine_5 24 rfl rfl
theorem dksX2_trickLine_7 : cX2_trickLine.data.toList.drop 161 = dktX2_trickLine_7 := dk_seg dksX2_trickLine_6 23 rfl rfl
theorem dksX2_trickLine_8 : cX2_trickLine.data.toList.drop 184 = dktX2_trickLine_8 := dk_seg dksX2_trickLine_7 23 rfl rfl
theorem dksX2_trickLine_9 : cX2_trickLine.data.toList.drop 207 = dktX2_trickLine_9 := dk_seg dksX2_trickLine_8 23 rfl rfl
theorem dX2_trickLine_0 : decode cX2_trickLine 0 = .ok (.aload_n 0, 1) := dk_42 (dk_at dksX2_trickLine_0 0 rfl rfl)
theorem dX2_trickLine_1 : decode cX2_trickLine 1 = .ok (.getfield 104, 3) := dk_180 0 104 (dk_at dksX2_trickLine_0 1 rfl rfl)
theorem dX2_trickLine_4 : decode cX2_trickLine 4 = .ok (.getfield 127, 3) := dk_180 0 127 (dk_at dksX2_trickLine_0 4 rfl rfl)
theorem dX2_trickLine_7 : decode cX2_trickLine 7 = .ok (.ifCond .le 9, 3) := dk_158 0 9 (dk_at dksX2_trickLine_0 7 rfl rfl)
theorem dX2_trickLine_10 : decode cX2_trickLine 10 = .ok (.aload_n 0, 1) := dk_42 (dk_at dksX2_trickLine_0 10 rfl rfl)
theorem dX2_trickLine_11 : decode cX2_trickLine 11 = .ok (.iconst 3, 1) := dk_6 (dk_at dksX2_trickLine_0 11 rfl rfl)
theorem dX2_trickLine_12 : decode cX2_trickLine 12 = .ok (.invokevirtual 89, 3) := dk_182 0 89 (dk_at dksX2_trickLine_0 12 rfl rfl)
theorem dX2_trickLine_15 : decode cX2_trickLine 15 = .ok (.athrow, 1) := dk_191 (dk_at dksX2_trickLine_0 15 rfl rfl)
theorem dX2_trickLine_16 : decode cX2_trickLine 16 = .ok (.aload_n 0, 1) := dk_42 (dk_at dksX2_trickLine_0 16 rfl rfl)
theorem dX2_trickLine_17 : decode cX2_trickLine 17 = .ok (.invokevirtual 83, 3) := dk_182 0 83 (dk_at dksX2_trickLine_0 17 rfl rfl)
theorem dX2_trickLine_20 : decode cX2_trickLine 20 = .ok (.aload_n 0, 1) := dk_42 (dk_at dksX2_trickLine_0 20 rfl rfl)
theorem dX2_trickLine_21 : decode cX2_trickLine 21 = .ok (.ldc 130, 2) := dk_18 130 (dk_at dksX2_trickLine_0 21 rfl rfl)
theorem dX2_trickLine_23 : decode cX2_trickLine 23 = .ok (.iconst 4, 1) := dk_7 (dk_at dksX2_trickLine_0 23 rfl rfl)
theorem dX2_trickLine_24 : decode cX2_trickLine 24 = .ok (.bipush 12, 2) := dk_16 12 (dk_at dksX2_trickLine_1 0 rfl rfl)
theorem dX2_trickLine_26 : decode cX2_trickLine 26 = .ok (.invokevirtual 131, 3) := dk_182 0 131 (dk_at dksX2_trickLine_1 2 rfl rfl)
theorem dX2_trickLine_29 : decode cX2_trickLine 29 = .ok (.istore_n 1, 1) := dk_60 (dk_at dksX2_trickLine_1 5 rfl rfl)
theorem dX2_trickLine_30 : decode cX2_trickLine 30 = .ok (.aload_n 0, 1) := dk_42 (dk_at dksX2_trickLine_1 6 rfl rfl)
theorem dX2_trickLine_31 : decode cX2_trickLine 31 = .ok (.ldc 135, 2) := dk_18 135 (dk_at dksX2_trickLine_1 7 rfl rfl)
theorem dX2_trickLine_33 : decode cX2_trickLine 33 = .ok (.invokevirtual 93, 3) := dk_182 0 93 (dk_at dksX2_trickLine_1 9 rfl rfl)
theorem dX2_trickLine_36 : decode cX2_trickLine 36 = .ok (.aload_n 0, 1) := dk_42 (dk_at dksX2_trickLine_1 12 rfl rfl)
theorem dX2_trickLine_37 : decode cX2_trickLine 37 = .ok (.iconst 1, 1) := dk_4 (dk_at dksX2_trickLine_1 13 rfl rfl)
theorem dX2_trickLine_38 : decode cX2_trickLine 38 = .ok (.iconst 4, 1) := dk_7 (dk_at dksX2_trickLine_1 14 rfl rfl)
theorem dX2_trickLine_39 : decode cX2_trickLine 39 = .ok (.invokevirtual 97, 3) := dk_182 0 97 (dk_at dksX2_trickLine_1 15 rfl rfl)
theorem dX2_trickLine_42 : decode cX2_trickLine 42 = .ok (.istore_n 2, 1) := dk_61 (dk_at dksX2_trickLine_1 18 rfl rfl)
theorem dX2_trickLine_43 : decode cX2_trickLine 43 = .ok (.iload_n 1, 1) := dk_27 (dk_at dksX2_trickLine_1 19 rfl rfl)
theorem dX2_trickLine_44 : decode cX2_trickLine 44 = .ok (.iload_n 2, 1) := dk_28 (dk_at dksX2_trickLine_1 20 rfl rfl)
theorem dX2_trickLine_45 : decode cX2_trickLine 45 = .ok (.irem, 1) := dk_112 (dk_at dksX2_trickLine_1 21 rfl rfl)
theorem dX2_trickLine_46 : decode cX2_trickLine 46 = .ok (.ifCond .eq 9, 3) := dk_153 0 9 (dk_at dksX2_trickLine_2 0 rfl rfl)
theorem dX2_trickLine_49 : decode cX2_trickLine 49 = .ok (.aload_n 0, 1) := dk_42 (dk_at dksX2_trickLine_2 3 rfl rfl)
theorem dX2_trickLine_50 : decode cX2_trickLine 50 = .ok (.iconst 4, 1) := dk_7 (dk_at dksX2_trickLine_2 4 rfl rfl)
theorem dX2_trickLine_51 : decode cX2_trickLine 51 = .ok (.invokevirtual 89, 3) := dk_182 0 89 (dk_at dksX2_trickLine_2 5 rfl rfl)
theorem dX2_trickLine_54 : decode cX2_trickLine 54 = .ok (.athrow, 1) := dk_191 (dk_at dksX2_trickLine_2 8 rfl rfl)
theorem dX2_trickLine_55 : decode cX2_trickLine 55 = .ok (.aload_n 0, 1) := dk_42 (dk_at dksX2_trickLine_2 9 rfl rfl)
theorem dX2_trickLine_56 : decode cX2_trickLine 56 = .ok (.invokevirtual 83, 3) := dk_182 0 83 (dk_at dksX2_trickLine_2 10 rfl rfl)
theorem dX2_trickLine_59 : decode cX2_trickLine 59 = .ok (.aload_n 0, 1) := dk_42 (dk_at dksX2_trickLine_2 13 rfl rfl)
theorem dX2_trickLine_60 : decode cX2_trickLine 60 = .ok (.getfield 104, 3) := dk_180 0 104 (dk_at dksX2_trickLine_2 14 rfl rfl)
theorem dX2_trickLine_63 : decode cX2_trickLine 63 = .ok (.iload_n 2, 1) := dk_28 (dk_at dksX2_trickLine_2 17 rfl rfl)
theorem dX2_trickLine_64 : decode cX2_trickLine 64 = .ok (.putfield 137, 3) := dk_181 0 137 (dk_at dksX2_trickLine_2 18 rfl rfl)
theorem dX2_trickLine_67 : decode cX2_trickLine 67 = .ok (.aload_n 0, 1) := dk_42 (dk_at dksX2_trickLine_2 21 rfl rfl)
theorem dX2_trickLine_68 : decode cX2_trickLine 68 = .ok (.getfield 104, 3) := dk_180 0 104 (dk_at dksX2_trickLine_3 0 rfl rfl)
theorem dX2_trickLine_71 : decode cX2_trickLine 71 = .ok (.aload_n 0, 1) := dk_42 (dk_at dksX2_trickLine_3 3 rfl rfl)
theorem dX2_trickLine_72 : decode cX2_trickLine 72 = .ok (.ldc 139, 2) := dk_18 139 (dk_at dksX2_trickLine_3 4 rfl rfl)
theorem dX2_trickLine_74 : decode cX2_trickLine 74 = .ok (.iconst 2, 1) := dk_5 (dk_at dksX2_trickLine_3 6 rfl rfl)
theorem dX2_trickLine_75 : decode cX2_trickLine 75 = .ok (.iconst 5, 1) := dk_8 (dk_at dksX2_trickLine_3 7 rfl rfl)
theorem dX2_trickLine_76 : decode cX2_trickLine 76 = .ok (.iload_n 1, 1) := dk_27 (dk_at dksX2_trickLine_3 8 rfl rfl)
theorem dX2_trickLine_77 : decode cX2_trickLine 77 = .ok (.invokestatic 141, 3) := dk_184 0 141 (dk_at dksX2_trickLine_3 9 rfl rfl)
theorem dX2_trickLine_80 : decode cX2_trickLine 80 = .ok (.invokevirtual 131, 3) := dk_182 0 131 (dk_at dksX2_trickLine_3 12 rfl rfl)
theorem dX2_trickLine_83 : decode cX2_trickLine 83 = .ok (.putfield 146, 3) := dk_181 0 146 (dk_at dksX2_trickLine_3 15 rfl rfl)
theorem dX2_trickLine_86 : decode cX2_trickLine 86 = .ok (.aload_n 0, 1) := dk_42 (dk_at dksX2_trickLine_3 18 rfl rfl)
theorem dX2_trickLine_87 : decode cX2_trickLine 87 = .ok (.getfield 104, 3) := dk_180 0 104 (dk_at dksX2_trickLine_3 19 rfl rfl)
theorem dX2_trickLine_90 : decode cX2_trickLine 90 = .ok (.aload_n 0, 1) := dk_42 (dk_at dksX2_trickLine_3 22 rfl rfl)
theorem dX2_trickLine_91 : decode cX2_trickLine 91 = .ok (.ldc 148, 2) := dk_18 148 (dk_at dksX2_trickLine_4 0 rfl rfl)
theorem dX2_trickLine_93 : decode cX2_trickLine 93 = .ok (.iconst 1, 1) := dk_4 (dk_at dksX2_trickLine_4 2 rfl rfl)
theorem dX2_trickLine_94 : decode cX2_trickLine 94 = .ok (.iconst 2, 1) := dk_5 (dk_at dksX2_trickLine_4 3 rfl rfl)
theorem dX2_trickLine_95 : decode cX2_trickLine 95 = .ok (.aload_n 0, 1) := dk_42 (dk_at dksX2_trickLine_4 4 rfl rfl)
theorem dX2_trickLine_96 : decode cX2_trickLine 96 = .ok (.getfield 104, 3) := dk_180 0 104 (dk_at dksX2_trickLine_4 5 rfl rfl)
theorem dX2_trickLine_99 : decode cX2_trickLine 99 = .ok (.getfield 146, 3) := dk_180 0 146 (dk_at dksX2_trickLine_4 8 rfl rfl)
theorem dX2_trickLine_102 : decode cX2_trickLine 102 = .ok (.iconst 1, 1) := dk_4 (dk_at dksX2_trickLine_4 11 rfl rfl)
theorem dX2_trickLine_103 : decode cX2_trickLine 103 = .ok (.isub, 1) := dk_100 (dk_at dksX2_trickLine_4 12 rfl rfl)
theorem dX2_trickLine_104 : decode cX2_trickLine 104 = .ok (.invokestatic 141, 3) := dk_184 0 141 (dk_at dksX2_trickLine_4 13 rfl rfl)
theorem dX2_trickLine_107 : decode cX2_trickLine 107 = .ok (.invokevirtual 131, 3) := dk_182 0 131 (dk_at dksX2_trickLine_4 16 rfl rfl)
theorem dX2_trickLine_110 : decode cX2_trickLine 110 = .ok (.putfield 150, 3) := dk_181 0 150 (dk_at dksX2_trickLine_4 19 rfl rfl)
theorem dX2_trickLine_113 : decode cX2_trickLine 113 = .ok (.aload_n 0, 1) := dk_42 (dk_at dksX2_trickLine_4 22 rfl rfl)
theorem dX2_trickLine_114 : decode cX2_trickLine 114 = .ok (.getfield 30, 3) := dk_180 0 30 (dk_at dksX2_trickLine_5 0 rfl rfl)
theorem dX2_trickLine_117 : decode cX2_trickLine 117 = .ok (.istore_n 3, 1) := dk_62 (dk_at dksX2_trickLine_5 3 rfl rfl)
theorem dX2_trickLine_118 : decode cX2_trickLine 118 = .ok (.aload_n 0, 1) := dk_42 (dk_at dksX2_trickLine_5 4 rfl rfl)
theorem dX2_trickLine_119 : decode cX2_trickLine 119 = .ok (.ldc 152, 2) := dk_18 152 (dk_at dksX2_trickLine_5 5 rfl rfl)
theorem dX2_trickLine_121 : decode cX2_trickLine 121 = .ok (.invokevirtual 79, 3) := dk_182 0 79 (dk_at dksX2_trickLine_5 7 rfl rfl)
theorem dX2_trickLine_124 : decode cX2_trickLine 124 = .ok (.ifCond .eq 14, 3) := dk_153 0 14 (dk_at dksX2_trickLine_5 10 rfl rfl)
theorem dX2_trickLine_127 : decode cX2_trickLine 127 = .ok (.aload_n 0, 1) := dk_42 (dk_at dksX2_trickLine_5 13 rfl rfl)
theorem dX2_trickLine_128 : decode cX2_trickLine 128 = .ok (.getfield 104, 3) := dk_180 0 104 (dk_at dksX2_trickLine_5 14 rfl rfl)
theorem dX2_trickLine_131 : decode cX2_trickLine 131 = .ok (.iconst 1, 1) := dk_4 (dk_at dksX2_trickLine_5 17 rfl rfl)
theorem dX2_trickLine_132 : decode cX2_trickLine 132 = .ok (.putfield 154, 3) := dk_181 0 154 (dk_at dksX2_trickLine_5 18 rfl rfl)
theorem dX2_trickLine_135 : decode cX2_trickLine 135 = .ok (.goto 18, 3) := dk_167 0 18 (dk_at dksX2_trickLine_5 21 rfl rfl)
theorem dX2_trickLine_138 : decode cX2_trickLine 138 = .ok (.aload_n 0, 1) := dk_42 (dk_at dksX2_trickLine_6 0 rfl rfl)
theorem dX2_trickLine_139 : decode cX2_trickLine 139 = .ok (.ldc 157, 2) := dk_18 157 (dk_at dksX2_trickLine_6 1 rfl rfl)
theorem dX2_trickLine_141 : decode cX2_trickLine 141 = .ok (.invokevirtual 79, 3) := dk_182 0 79 (dk_at dksX2_trickLine_6 3 rfl rfl)
theorem dX2_trickLine_144 : decode cX2_trickLine 144 = .ok (.ifCond .ne 9, 3) := dk_154 0 9 (dk_at dksX2_trickLine_6 6 rfl rfl)
theorem dX2_trickLine_147 : decode cX2_trickLine 147 = .ok (.aload_n 0, 1) := dk_42 (dk_at dksX2_trickLine_6 9 rfl rfl)
theorem dX2_trickLine_148 : decode cX2_trickLine 148 = .ok (.iconst 1, 1) := dk_4 (dk_at dksX2_trickLine_6 10 rfl rfl)
theorem dX2_trickLine_149 : decode cX2_trickLine 149 = .ok (.invokevirtual 89, 3) := dk_182 0 89 (dk_at dksX2_trickLine_6 11 rfl rfl)
theorem dX2_trickLine_152 : decode cX2_trickLine 152 = .ok (.athrow, 1) := dk_191 (dk_at dksX2_trickLine_6 14 rfl rfl)
theorem dX2_trickLine_153 : decode cX2_trickLine 153 = .ok (.aload_n 0, 1) := dk_42 (dk_at dksX2_trickLine_6 15 rfl rfl)
theorem dX2_trickLine_154 : decode cX2_trickLine 154 = .ok (.getfield 104, 3) := dk_180 0 104 (dk_at dksX2_trickLine_6 16 rfl rfl)
theorem dX2_trickLine_157 : decode cX2_trickLine 157 = .ok (.iload_n 1, 1) := dk_27 (dk_at dksX2_trickLine_6 19 rfl rfl)
theorem dX2_trickLine_158 : decode cX2_trickLine 158 = .ok (.invokevirtual 159, 3) := dk_182 0 159 (dk_at dksX2_trickLine_6 20 rfl rfl)
theorem dX2_trickLine_161 : decode cX2_trickLine 161 = .ok (.ldc2_w 163, 3) := dk_20 0 163 (dk_at dksX2_trickLine_7 0 rfl rfl)
theorem dX2_trickLine_164 : decode cX2_trickLine 164 = .ok (.lcmp, 1) := dk_148 (dk_at dksX2_trickLine_7 3 rfl rfl)
theorem dX2_trickLine_165 : decode cX2_trickLine 165 = .ok (.ifCond .le 14, 3) := dk_158 0 14 (dk_at dksX2_trickLine_7 4 rfl rfl)
theorem dX2_trickLine_168 : decode cX2_trickLine 168 = .ok (.aload_n 0, 1) := dk_42 (dk_at dksX2_trickLine_7 7 rfl rfl)
theorem dX2_trickLine_169 : decode cX2_trickLine 169 = .ok (.getfield 12, 3) := dk_180 0 12 (dk_at dksX2_trickLine_7 8 rfl rfl)
theorem dX2_trickLine_172 : decode cX2_trickLine 172 = .ok (.bipush 7, 2) := dk_16 7 (dk_at dksX2_trickLine_7 11 rfl rfl)
theorem dX2_trickLine_174 : decode cX2_trickLine 174 = .ok (.iload_n 3, 1) := dk_29 (dk_at dksX2_trickLine_7 13 rfl rfl)
theorem dX2_trickLine_175 : decode cX2_trickLine 175 = .ok (.invokevirtual 34, 3) := dk_182 0 34 (dk_at dksX2_trickLine_7 14 rfl rfl)
theorem dX2_trickLine_178 : decode cX2_trickLine 178 = .ok (.athrow, 1) := dk_191 (dk_at dksX2_trickLine_7 17 rfl rfl)
theorem dX2_trickLine_179 : decode cX2_trickLine 179 = .ok (.aload_n 0, 1) := dk_42 (dk_at dksX2_trickLine_7 18 rfl rfl)
theorem dX2_trickLine_180 : decode cX2_trickLine 180 = .ok (.invokevirtual 83, 3) := dk_182 0 83 (dk_at dksX2_trickLine_7 19 rfl rfl)
theorem dX2_trickLine_183 : decode cX2_trickLine 183 = .ok (.aload_n 0, 1) := dk_42 (dk_at dksX2_trickLine_7 22 rfl rfl)
theorem dX2_trickLine_184 : decode cX2_trickLine 184 = .ok (.getfield 104, 3) := dk_180 0 104 (dk_at dksX2_trickLine_8 0 rfl rfl)
theorem dX2_trickLine_187 : decode cX2_trickLine 187 = .ok (.getfield 154, 3) := dk_180 0 154 (dk_at dksX2_trickLine_8 3 rfl rfl)
theorem dX2_trickLine_190 : decode cX2_trickLine 190 = .ok (.ifCond .ne 16, 3) := dk_154 0 16 (dk_at dksX2_trickLine_8 6 rfl rfl)
theorem dX2_trickLine_193 : decode cX2_trickLine 193 = .ok (.aload_n 0, 1) := dk_42 (dk_at dksX2_trickLine_8 9 rfl rfl)
theorem dX2_trickLine_194 : decode cX2_trickLine 194 = .ok (.getfield 104, 3) := dk_180 0 104 (dk_at dksX2_trickLine_8 10 rfl rfl)
theorem dX2_trickLine_197 : decode cX2_trickLine 197 = .ok (.aload_n 0, 1) := dk_42 (dk_at dksX2_trickLine_8 13 rfl rfl)
theorem dX2_trickLine_198 : decode cX2_trickLine 198 = .ok (.ldc 165, 2) := dk_18 165 (dk_at dksX2_trickLine_8 14 rfl rfl)
theorem dX2_trickLine_200 : decode cX2_trickLine 200 = .ok (.invokevirtual 86, 3) := dk_182 0 86 (dk_at dksX2_trickLine_8 16 rfl rfl)
theorem dX2_trickLine_203 : decode cX2_trickLine 203 = .ok (.putfield 167, 3) := dk_181 0 167 (dk_at dksX2_trickLine_8 19 rfl rfl)
theorem dX2_trickLine_206 : decode cX2_trickLine 206 = .ok (.aload_n 0, 1) := dk_42 (dk_at dksX2_trickLine_8 22 rfl rfl)
theorem dX2_trickLine_207 : decode cX2_trickLine 207 = .ok (.getfield 104, 3) := dk_180 0 104 (dk_at dksX2_trickLine_9 0 rfl rfl)
theorem dX2_trickLine_210 : decode cX2_trickLine 210 = .ok (.aload_n 0, 1) := dk_42 (dk_at dksX2_trickLine_9 3 rfl rfl)
theorem dX2_trickLine_211 : decode cX2_trickLine 211 = .ok (.ldc 169, 2) := dk_18 169 (dk_at dksX2_trickLine_9 4 rfl rfl)
theorem dX2_trickLine_213 : decode cX2_trickLine 213 = .ok (.invokevirtual 86, 3) := dk_182 0 86 (dk_at dksX2_trickLine_9 6 rfl rfl)
theorem dX2_trickLine_216 : decode cX2_trickLine 216 = .ok (.putfield 171, 3) := dk_181 0 171 (dk_at dksX2_trickLine_9 9 rfl rfl)
theorem dX2_trickLine_219 : decode cX2_trickLine 219 = .ok (.aload_n 0, 1) := dk_42 (dk_at dksX2_trickLine_9 12 rfl rfl)
theorem dX2_trickLine_220 : decode cX2_trickLine 220 = .ok (.getfield 104, 3) := dk_180 0 104 (dk_at dksX2_trickLine_9 13 rfl rfl)
theorem dX2_trickLine_223 : decode cX2_trickLine 223 = .ok (.iload_n 1, 1) := dk_27 (dk_at dksX2_trickLine_9 16 rfl rfl)
theorem dX2_trickLine_224 : decode cX2_trickLine 224 = .ok (.putfield 127, 3) := dk_181 0 127 (dk_at dksX2_trickLine_9 17 rfl rfl)
theorem dX2_trickLine_227 : decode cX2_trickLine 227 = .ok (.return_, 1) := dk_177 (dk_at dksX2_trickLine_9 20 rfl rfl)
abbrev cX2_after : ByteArray := prog_13_method_11_code
def yX2_after : MethodName := ⟨RX2, "after", "(Ljava/lang/String;II)I"⟩
def dkwX2_after_0 : List UInt8 := [42, 43, 182, 0, 93, 42, 28, 29, 182, 0, 97, 54, 4, 42, 182, 0, 83, 21, 4, 172]
abbrev dktX2_after_0 : List UInt8 := dkwX2_after_0 ++ []
theorem dksX2_after_0 : cX2_after.data.toList.drop 0 = dktX2_after_0 := by decide +kernel
theorem dX2_after_0 : decode cX2_after 0 = .ok (.aload_n 0, 1) := dk_42 (dk_at dksX2_after_0 0 rfl rfl)
theorem dX2_after_1 : decode cX2_after 1 = .ok (.aload_n 1, 1) := dk_43 (dk_at dksX2_after_0 1 rfl rfl)
theorem dX2_after_2 : decode cX2_after 2 = .ok (.invokevirtual 93, 3) := dk_182 0 93 (dk_at dksX2_after_0 2 rfl rfl)
theorem dX2_after_5 : decode cX2_after 5 = .ok (.aload_n 0, 1) := dk_42 (dk_at dksX2_after_0 5 rfl rfl)
theorem dX2_after_6 : decode cX2_after 6 = .ok (.iload_n 2, 1) := dk_28 (dk_at dksX2_after_0 6 rfl rfl)
theorem dX2_after_7 : decode cX2_after 7 = .ok (.iload_n 3, 1) := dk_29 (dk_at dksX2_after_0 7 rfl rfl)
theorem dX2_after_8 : decode cX2_after 8 = .ok (.invokevirtual 97, 3) := dk_182 0 97 (dk_at dksX2_after_0 8 rfl rfl)
theorem dX2_after_11 : decode cX2_after 11 = .ok (.istore 4, 2) := dk_54 4 (dk_at dksX2_after_0 11 rfl rfl)
theorem dX2_after_13 : decode cX2_after 13 = .ok (.aload_n 0, 1) := dk_42 (dk_at dksX2_after_0 13 rfl rfl)
theorem dX2_after_14 : decode cX2_after 14 = .ok (.invokevirtual 83, 3) := dk_182 0 83 (dk_at dksX2_after_0 14 rfl rfl)
theorem dX2_after_17 : decode cX2_after 17 = .ok (.iload 4, 2) := dk_21 4 (dk_at dksX2_after_0 17 rfl rfl)
theorem dX2_after_19 : decode cX2_after 19 = .ok (.ireturn, 1) := dk_172 (dk_at dksX2_after_0 19 rfl rfl)
abbrev cX2_must : ByteArray := prog_13_method_9_code
def yX2_must : MethodName := ⟨RX2, "must", "(Ljava/lang/String;)V"⟩
def dkwX2_must_0 : List UInt8 := [42, 43, 182, 0, 86, 154, 0, 9, 42, 4, 182, 0, 89, 191, 177]
abbrev dktX2_must_0 : List UInt8 := dkwX2_must_0 ++ []
theorem dksX2_must_0 : cX2_must.data.toList.drop 0 = dktX2_must_0 := by decide +kernel
theorem dX2_must_0 : decode cX2_must 0 = .ok (.aload_n 0, 1) := dk_42 (dk_at dksX2_must_0 0 rfl rfl)
theorem dX2_must_1 : decode cX2_must 1 = .ok (.aload_n 1, 1) := dk_43 (dk_at dksX2_must_0 1 rfl rfl)
theorem dX2_must_2 : decode cX2_must 2 = .ok (.invokevirtual 86, 3) := dk_182 0 86 (dk_at dksX2_must_0 2 rfl rfl)
theorem dX2_must_5 : decode cX2_must 5 = .ok (.ifCond .ne 9, 3) := dk_154 0 9 (dk_at dksX2_must_0 5 rfl rfl)
theorem dX2_must_8 : decode cX2_must 8 = .ok (.aload_n 0, 1) := dk_42 (dk_at dksX2_must_0 8 rfl rfl)
theorem dX2_must_9 : decode cX2_must 9 = .ok (.iconst 1, 1) := dk_4 (dk_at dksX2_must_0 9 rfl rfl)
theorem dX2_must_10 : decode cX2_must 10 = .ok (.invokevirtual 89, 3) := dk_182 0 89 (dk_at dksX2_must_0 10 rfl rfl)
theorem dX2_must_13 : decode cX2_must 13 = .ok (.athrow, 1) := dk_191 (dk_at dksX2_must_0 13 rfl rfl)
theorem dX2_must_14 : decode cX2_must 14 = .ok (.return_, 1) := dk_177 (dk_at dksX2_must_0 14 rfl rfl)
abbrev cX2_takes : ByteArray := prog_13_method_8_code
def yX2_takes : MethodName := ⟨RX2, "takes", "(Ljava/lang/String;)Z"⟩
def dkwX2_takes_0 : List UInt8 := [42, 43, 182, 0, 79, 154, 0, 5, 3, 172, 42, 182, 0, 83, 4, 172]
abbrev dktX2_takes_0 : List UInt8 := dkwX2_takes_0 ++ []
theorem dksX2_takes_0 : cX2_takes.data.toList.drop 0 = dktX2_takes_0 := by decide +kernel
theorem dX2_takes_0 : decode cX2_takes 0 = .ok (.aload_n 0, 1) := dk_42 (dk_at dksX2_takes_0 0 rfl rfl)
theorem dX2_takes_1 : decode cX2_takes 1 = .ok (.aload_n 1, 1) := dk_43 (dk_at dksX2_takes_0 1 rfl rfl)
theorem dX2_takes_2 : decode cX2_takes 2 = .ok (.invokevirtual 79, 3) := dk_182 0 79 (dk_at dksX2_takes_0 2 rfl rfl)
theorem dX2_takes_5 : decode cX2_takes 5 = .ok (.ifCond .ne 5, 3) := dk_154 0 5 (dk_at dksX2_takes_0 5 rfl rfl)
theorem dX2_takes_8 : decode cX2_takes 8 = .ok (.iconst 0, 1) := dk_3 (dk_at dksX2_takes_0 8 rfl rfl)
theorem dX2_takes_9 : decode cX2_takes 9 = .ok (.ireturn, 1) := dk_172 (dk_at dksX2_takes_0 9 rfl rfl)
theorem dX2_takes_10 : decode cX2_takes 10 = .ok (.aload_n 0, 1) := dk_42 (dk_at dksX2_takes_0 10 rfl rfl)
theorem dX2_takes_11 : decode cX2_takes 11 = .ok (.invokevirtual 83, 3) := dk_182 0 83 (dk_at dksX2_takes_0 11 rfl rfl)
theorem dX2_takes_14 : decode cX2_takes 14 = .ok (.iconst 1, 1) := dk_4 (dk_at dksX2_takes_0 14 rfl rfl)
theorem dX2_takes_15 : decode cX2_takes 15 = .ok (.ireturn, 1) := dk_172 (dk_at dksX2_takes_0 15 rfl rfl)
abbrev cX2_isWord : ByteArray := prog_13_method_7_code
def yX2_isWord : MethodName := ⟨RX2, "isWord", "(Ljava/lang/String;)Z"⟩
def dkwX2_isWord_1 : List UInt8 := [172]
abbrev dktX2_isWord_1 : List UInt8 := dkwX2_isWord_1 ++ []
def dkwX2_isWord_0 : List UInt8 := [42, 180, 0, 51, 5, 160, 0, 18, 42, 180, 0, 65, 43, 182, 0, 75, 153, 0, 7, 4, 167, 0, 4, 3]
abbrev dktX2_isWord_0 : List UInt8 := dkwX2_isWord_0 ++ dktX2_isWord_1
theorem dksX2_isWord_0 : cX2_isWord.data.toList.drop 0 = dktX2_isWord_0 := by decide +kernel
theorem dksX2_isWord_1 : cX2_isWord.data.toList.drop 24 = dktX2_isWord_1 := dk_seg dksX2_isWord_0 24 rfl rfl
theorem dX2_isWord_0 : decode cX2_isWord 0 = .ok (.aload_n 0, 1) := dk_42 (dk_at dksX2_isWord_0 0 rfl rfl)
theorem dX2_isWord_1 : decode cX2_isWord 1 = .ok (.getfield 51, 3) := dk_180 0 51 (dk_at dksX2_isWord_0 1 rfl rfl)
theorem dX2_isWord_4 : decode cX2_isWord 4 = .ok (.iconst 2, 1) := dk_5 (dk_at dksX2_isWord_0 4 rfl rfl)
theorem dX2_isWord_5 : decode cX2_isWord 5 = .ok (.if_icmp .ne 18, 3) := dk_160 0 18 (dk_at dksX2_isWord_0 5 rfl rfl)
theorem dX2_isWord_8 : decode cX2_isWord 8 = .ok (.aload_n 0, 1) := dk_42 (dk_at dksX2_isWord_0 8 rfl rfl)
theorem dX2_isWord_9 : decode cX2_isWord 9 = .ok (.getfield 65, 3) := dk_180 0 65 (dk_at dksX2_isWord_0 9 rfl rfl)
theorem dX2_isWord_12 : decode cX2_isWord 12 = .ok (.aload_n 1, 1) := dk_43 (dk_at dksX2_isWord_0 12 rfl rfl)
theorem dX2_isWord_13 : decode cX2_isWord 13 = .ok (.invokevirtual 75, 3) := dk_182 0 75 (dk_at dksX2_isWord_0 13 rfl rfl)
theorem dX2_isWord_16 : decode cX2_isWord 16 = .ok (.ifCond .eq 7, 3) := dk_153 0 7 (dk_at dksX2_isWord_0 16 rfl rfl)
theorem dX2_isWord_19 : decode cX2_isWord 19 = .ok (.iconst 1, 1) := dk_4 (dk_at dksX2_isWord_0 19 rfl rfl)
theorem dX2_isWord_20 : decode cX2_isWord 20 = .ok (.goto 4, 3) := dk_167 0 4 (dk_at dksX2_isWord_0 20 rfl rfl)
theorem dX2_isWord_23 : decode cX2_isWord 23 = .ok (.iconst 0, 1) := dk_3 (dk_at dksX2_isWord_0 23 rfl rfl)
theorem dX2_isWord_24 : decode cX2_isWord 24 = .ok (.ireturn, 1) := dk_172 (dk_at dksX2_isWord_1 0 rfl rfl)
abbrev cX2_numberHere : ByteArray := prog_13_method_10_code
def yX2_numberHere : MethodName := ⟨RX2, "numberHere", "(II)I"⟩
def dkwX2_numberHere_1 : List UInt8 := [154, 0, 9, 42, 7, 182, 0, 89, 191, 42, 180, 0, 72, 172]
abbrev dktX2_numberHere_1 : List UInt8 := dkwX2_numberHere_1 ++ []
def dkwX2_numberHere_0 : List UInt8 := [42, 180, 0, 51, 6, 159, 0, 9, 42, 4, 182, 0, 89, 191, 42, 180, 0, 72, 27, 28, 184, 0, 40]
abbrev dktX2_numberHere_0 : List UInt8 := dkwX2_numberHere_0 ++ dktX2_numberHere_1
theorem dksX2_numberHere_0 : cX2_numberHere.data.toList.drop 0 = dktX2_numberHere_0 := by decide +kernel
theorem dksX2_numberHere_1 : cX2_numberHere.data.toList.drop 23 = dktX2_numberHere_1 := dk_seg dksX2_numberHere_0 23 rfl rfl
theorem dX2_numberHere_0 : decode cX2_numberHere 0 = .ok (.aload_n 0, 1) := dk_42 (dk_at dksX2_numberHere_0 0 rfl rfl)
theorem dX2_numberHere_1 : decode cX2_numberHere 1 = .ok (.getfield 51, 3) := dk_180 0 51 (dk_at dksX2_numberHere_0 1 rfl rfl)
theorem dX2_numberHere_4 : decode cX2_numberHere 4 = .ok (.iconst 3, 1) := dk_6 (dk_at dksX2_numberHere_0 4 rfl rfl)
theorem dX2_numberHere_5 : decode cX2_numberHere 5 = .ok (.if_icmp .eq 9, 3) := dk_159 0 9 (dk_at dksX2_numberHere_0 5 rfl rfl)
theorem dX2_numberHere_8 : decode cX2_numberHere 8 = .ok (.aload_n 0, 1) := dk_42 (dk_at dksX2_numberHere_0 8 rfl rfl)
theorem dX2_numberHere_9 : decode cX2_numberHere 9 = .ok (.iconst 1, 1) := dk_4 (dk_at dksX2_numberHere_0 9 rfl rfl)
theorem dX2_numberHere_10 : decode cX2_numberHere 10 = .ok (.invokevirtual 89, 3) := dk_182 0 89 (dk_at dksX2_numberHere_0 10 rfl rfl)
theorem dX2_numberHere_13 : decode cX2_numberHere 13 = .ok (.athrow, 1) := dk_191 (dk_at dksX2_numberHere_0 13 rfl rfl)
theorem dX2_numberHere_14 : decode cX2_numberHere 14 = .ok (.aload_n 0, 1) := dk_42 (dk_at dksX2_numberHere_0 14 rfl rfl)
theorem dX2_numberHere_15 : decode cX2_numberHere 15 = .ok (.getfield 72, 3) := dk_180 0 72 (dk_at dksX2_numberHere_0 15 rfl rfl)
theorem dX2_numberHere_18 : decode cX2_numberHere 18 = .ok (.iload_n 1, 1) := dk_27 (dk_at dksX2_numberHere_0 18 rfl rfl)
theorem dX2_numberHere_19 : decode cX2_numberHere 19 = .ok (.iload_n 2, 1) := dk_28 (dk_at dksX2_numberHere_0 19 rfl rfl)
theorem dX2_numberHere_20 : decode cX2_numberHere 20 = .ok (.invokestatic 40, 3) := dk_184 0 40 (dk_at dksX2_numberHere_0 20 rfl rfl)
theorem dX2_numberHere_23 : decode cX2_numberHere 23 = .ok (.ifCond .ne 9, 3) := dk_154 0 9 (dk_at dksX2_numberHere_1 0 rfl rfl)
theorem dX2_numberHere_26 : decode cX2_numberHere 26 = .ok (.aload_n 0, 1) := dk_42 (dk_at dksX2_numberHere_1 3 rfl rfl)
theorem dX2_numberHere_27 : decode cX2_numberHere 27 = .ok (.iconst 4, 1) := dk_7 (dk_at dksX2_numberHere_1 4 rfl rfl)
theorem dX2_numberHere_28 : decode cX2_numberHere 28 = .ok (.invokevirtual 89, 3) := dk_182 0 89 (dk_at dksX2_numberHere_1 5 rfl rfl)
theorem dX2_numberHere_31 : decode cX2_numberHere 31 = .ok (.athrow, 1) := dk_191 (dk_at dksX2_numberHere_1 8 rfl rfl)
theorem dX2_numberHere_32 : decode cX2_numberHere 32 = .ok (.aload_n 0, 1) := dk_42 (dk_at dksX2_numberHere_1 9 rfl rfl)
theorem dX2_numberHere_33 : decode cX2_numberHere 33 = .ok (.getfield 72, 3) := dk_180 0 72 (dk_at dksX2_numberHere_1 10 rfl rfl)
theorem dX2_numberHere_36 : decode cX2_numberHere 36 = .ok (.ireturn, 1) := dk_172 (dk_at dksX2_numberHere_1 13 rfl rfl)
abbrev cX2_rule : ByteArray := prog_13_method_20_code
def yX2_rule : MethodName := ⟨RX2, "rule", "()V"⟩
def dkwX2_rule_2 : List UInt8 := [182, 0, 237, 83, 42, 180, 0, 104, 89, 180, 0, 222, 4, 96, 181, 0, 222, 177]
abbrev dktX2_rule_2 : List UInt8 := dkwX2_rule_2 ++ []
def dkwX2_rule_1 : List UInt8 := [180, 0, 229, 42, 180, 0, 104, 180, 0, 222, 42, 42, 182, 0, 233, 42, 180, 0, 104, 180, 0, 222]
abbrev dktX2_rule_1 : List UInt8 := dkwX2_rule_1 ++ dktX2_rule_2
def dkwX2_rule_0 : List UInt8 := [42, 42, 180, 0, 104, 180, 0, 222, 7, 162, 0, 7, 4, 167, 0, 4, 3, 182, 0, 225, 42, 180, 0, 104]
abbrev dktX2_rule_0 : List UInt8 := dkwX2_rule_0 ++ dktX2_rule_1
theorem dksX2_rule_0 : cX2_rule.data.toList.drop 0 = dktX2_rule_0 := by decide +kernel
theorem dksX2_rule_1 : cX2_rule.data.toList.drop 24 = dktX2_rule_1 := dk_seg dksX2_rule_0 24 rfl rfl
theorem dksX2_rule_2 : cX2_rule.data.toList.drop 46 = dktX2_rule_2 := dk_seg dksX2_rule_1 22 rfl rfl
theorem dX2_rule_0 : decode cX2_rule 0 = .ok (.aload_n 0, 1) := dk_42 (dk_at dksX2_rule_0 0 rfl rfl)
theorem dX2_rule_1 : decode cX2_rule 1 = .ok (.aload_n 0, 1) := dk_42 (dk_at dksX2_rule_0 1 rfl rfl)
theorem dX2_rule_2 : decode cX2_rule 2 = .ok (.getfield 104, 3) := dk_180 0 104 (dk_at dksX2_rule_0 2 rfl rfl)
theorem dX2_rule_5 : decode cX2_rule 5 = .ok (.getfield 222, 3) := dk_180 0 222 (dk_at dksX2_rule_0 5 rfl rfl)
theorem dX2_rule_8 : decode cX2_rule 8 = .ok (.iconst 4, 1) := dk_7 (dk_at dksX2_rule_0 8 rfl rfl)
theorem dX2_rule_9 : decode cX2_rule 9 = .ok (.if_icmp .ge 7, 3) := dk_162 0 7 (dk_at dksX2_rule_0 9 rfl rfl)
theorem dX2_rule_12 : decode cX2_rule 12 = .ok (.iconst 1, 1) := dk_4 (dk_at dksX2_rule_0 12 rfl rfl)
theorem dX2_rule_13 : decode cX2_rule 13 = .ok (.goto 4, 3) := dk_167 0 4 (dk_at dksX2_rule_0 13 rfl rfl)
theorem dX2_rule_16 : decode cX2_rule 16 = .ok (.iconst 0, 1) := dk_3 (dk_at dksX2_rule_0 16 rfl rfl)
theorem dX2_rule_17 : decode cX2_rule 17 = .ok (.invokevirtual 225, 3) := dk_182 0 225 (dk_at dksX2_rule_0 17 rfl rfl)
theorem dX2_rule_20 : decode cX2_rule 20 = .ok (.aload_n 0, 1) := dk_42 (dk_at dksX2_rule_0 20 rfl rfl)
theorem dX2_rule_21 : decode cX2_rule 21 = .ok (.getfield 104, 3) := dk_180 0 104 (dk_at dksX2_rule_0 21 rfl rfl)
theorem dX2_rule_24 : decode cX2_rule 24 = .ok (.getfield 229, 3) := dk_180 0 229 (dk_at dksX2_rule_1 0 rfl rfl)
theorem dX2_rule_27 : decode cX2_rule 27 = .ok (.aload_n 0, 1) := dk_42 (dk_at dksX2_rule_1 3 rfl rfl)
theorem dX2_rule_28 : decode cX2_rule 28 = .ok (.getfield 104, 3) := dk_180 0 104 (dk_at dksX2_rule_1 4 rfl rfl)
theorem dX2_rule_31 : decode cX2_rule 31 = .ok (.getfield 222, 3) := dk_180 0 222 (dk_at dksX2_rule_1 7 rfl rfl)
theorem dX2_rule_34 : decode cX2_rule 34 = .ok (.aload_n 0, 1) := dk_42 (dk_at dksX2_rule_1 10 rfl rfl)
theorem dX2_rule_35 : decode cX2_rule 35 = .ok (.aload_n 0, 1) := dk_42 (dk_at dksX2_rule_1 11 rfl rfl)
theorem dX2_rule_36 : decode cX2_rule 36 = .ok (.invokevirtual 233, 3) := dk_182 0 233 (dk_at dksX2_rule_1 12 rfl rfl)
theorem dX2_rule_39 : decode cX2_rule 39 = .ok (.aload_n 0, 1) := dk_42 (dk_at dksX2_rule_1 15 rfl rfl)
theorem dX2_rule_40 : decode cX2_rule 40 = .ok (.getfield 104, 3) := dk_180 0 104 (dk_at dksX2_rule_1 16 rfl rfl)
theorem dX2_rule_43 : decode cX2_rule 43 = .ok (.getfield 222, 3) := dk_180 0 222 (dk_at dksX2_rule_1 19 rfl rfl)
theorem dX2_rule_46 : decode cX2_rule 46 = .ok (.invokevirtual 237, 3) := dk_182 0 237 (dk_at dksX2_rule_2 0 rfl rfl)
theorem dX2_rule_49 : decode cX2_rule 49 = .ok (.aastore, 1) := dk_83 (dk_at dksX2_rule_2 3 rfl rfl)
theorem dX2_rule_50 : decode cX2_rule 50 = .ok (.aload_n 0, 1) := dk_42 (dk_at dksX2_rule_2 4 rfl rfl)
theorem dX2_rule_51 : decode cX2_rule 51 = .ok (.getfield 104, 3) := dk_180 0 104 (dk_at dksX2_rule_2 5 rfl rfl)
theorem dX2_rule_54 : decode cX2_rule 54 = .ok (.dup, 1) := dk_89 (dk_at dksX2_rule_2 8 rfl rfl)
theorem dX2_rule_55 : decode cX2_rule 55 = .ok (.getfield 222, 3) := dk_180 0 222 (dk_at dksX2_rule_2 9 rfl rfl)
theorem dX2_rule_58 : decode cX2_rule 58 = .ok (.iconst 1, 1) := dk_4 (dk_at dksX2_rule_2 12 rfl rfl)
theorem dX2_rule_59 : decode cX2_rule 59 = .ok (.iadd, 1) := dk_96 (dk_at dksX2_rule_2 13 rfl rfl)
theorem dX2_rule_60 : decode cX2_rule 60 = .ok (.putfield 222, 3) := dk_181 0 222 (dk_at dksX2_rule_2 14 rfl rfl)
theorem dX2_rule_63 : decode cX2_rule 63 = .ok (.return_, 1) := dk_177 (dk_at dksX2_rule_2 17 rfl rfl)
abbrev cX2_begins : ByteArray := prog_13_method_15_code
def yX2_begins : MethodName := ⟨RX2, "begins", "(Z)V"⟩
def dkwX2_begins_1 : List UInt8 := [182, 0, 89, 191, 42, 182, 0, 83, 177]
abbrev dktX2_begins_1 : List UInt8 := dkwX2_begins_1 ++ []
def dkwX2_begins_0 : List UInt8 := [27, 154, 0, 9, 42, 8, 182, 0, 89, 191, 42, 180, 0, 104, 180, 0, 127, 154, 0, 10, 42, 16, 6]
abbrev dktX2_begins_0 : List UInt8 := dkwX2_begins_0 ++ dktX2_begins_1
theorem dksX2_begins_0 : cX2_begins.data.toList.drop 0 = dktX2_begins_0 := by decide +kernel
theorem dksX2_begins_1 : cX2_begins.data.toList.drop 23 = dktX2_begins_1 := dk_seg dksX2_begins_0 23 rfl rfl
theorem dX2_begins_0 : decode cX2_begins 0 = .ok (.iload_n 1, 1) := dk_27 (dk_at dksX2_begins_0 0 rfl rfl)
theorem dX2_begins_1 : decode cX2_begins 1 = .ok (.ifCond .ne 9, 3) := dk_154 0 9 (dk_at dksX2_begins_0 1 rfl rfl)
theorem dX2_begins_4 : decode cX2_begins 4 = .ok (.aload_n 0, 1) := dk_42 (dk_at dksX2_begins_0 4 rfl rfl)
theorem dX2_begins_5 : decode cX2_begins 5 = .ok (.iconst 5, 1) := dk_8 (dk_at dksX2_begins_0 5 rfl rfl)
theorem dX2_begins_6 : decode cX2_begins 6 = .ok (.invokevirtual 89, 3) := dk_182 0 89 (dk_at dksX2_begins_0 6 rfl rfl)
theorem dX2_begins_9 : decode cX2_begins 9 = .ok (.athrow, 1) := dk_191 (dk_at dksX2_begins_0 9 rfl rfl)
theorem dX2_begins_10 : decode cX2_begins 10 = .ok (.aload_n 0, 1) := dk_42 (dk_at dksX2_begins_0 10 rfl rfl)
theorem dX2_begins_11 : decode cX2_begins 11 = .ok (.getfield 104, 3) := dk_180 0 104 (dk_at dksX2_begins_0 11 rfl rfl)
theorem dX2_begins_14 : decode cX2_begins 14 = .ok (.getfield 127, 3) := dk_180 0 127 (dk_at dksX2_begins_0 14 rfl rfl)
theorem dX2_begins_17 : decode cX2_begins 17 = .ok (.ifCond .ne 10, 3) := dk_154 0 10 (dk_at dksX2_begins_0 17 rfl rfl)
theorem dX2_begins_20 : decode cX2_begins 20 = .ok (.aload_n 0, 1) := dk_42 (dk_at dksX2_begins_0 20 rfl rfl)
theorem dX2_begins_21 : decode cX2_begins 21 = .ok (.bipush 6, 2) := dk_16 6 (dk_at dksX2_begins_0 21 rfl rfl)
theorem dX2_begins_23 : decode cX2_begins 23 = .ok (.invokevirtual 89, 3) := dk_182 0 89 (dk_at dksX2_begins_1 0 rfl rfl)
theorem dX2_begins_26 : decode cX2_begins 26 = .ok (.athrow, 1) := dk_191 (dk_at dksX2_begins_1 3 rfl rfl)
theorem dX2_begins_27 : decode cX2_begins 27 = .ok (.aload_n 0, 1) := dk_42 (dk_at dksX2_begins_1 4 rfl rfl)
theorem dX2_begins_28 : decode cX2_begins 28 = .ok (.invokevirtual 83, 3) := dk_182 0 83 (dk_at dksX2_begins_1 5 rfl rfl)
theorem dX2_begins_31 : decode cX2_begins 31 = .ok (.return_, 1) := dk_177 (dk_at dksX2_begins_1 8 rfl rfl)
abbrev cX2_newName : ByteArray := prog_13_method_16_code
def yX2_newName : MethodName := ⟨RX2, "newName", "()Ljava/lang/String;"⟩
def dkwX2_newName_8 : List UInt8 := [182, 0, 89, 191, 42, 180, 0, 65, 76, 42, 182, 0, 83, 43, 176]
abbrev dktX2_newName_8 : List UInt8 := dkwX2_newName_8 ++ []
def dkwX2_newName_7 : List UInt8 := [42, 4, 182, 0, 89, 191, 42, 180, 0, 104, 42, 180, 0, 65, 182, 0, 177, 153, 0, 9, 42, 6]
abbrev dktX2_newName_7 : List UInt8 := dkwX2_newName_7 ++ dktX2_newName_8
def dkwX2_newName_6 : List UInt8 := [170, 0, 0, 0, 0, 0, 0, 42, 0, 0, 0, 0, 0, 0, 0, 4, 0, 0, 0, 36, 0, 0, 0, 36, 0, 0, 0, 36, 0, 0, 0, 36, 0, 0, 0, 36]
abbrev dktX2_newName_6 : List UInt8 := dkwX2_newName_6 ++ dktX2_newName_7
def dkwX2_newName_5 : List UInt8 := [153, 0, 19, 6, 61, 167, 0, 14, 43, 18, 175, 182, 0, 75, 153, 0, 5, 7, 61, 28]
abbrev dktX2_newName_5 : List UInt8 := dkwX2_newName_5 ++ dktX2_newName_6
def dkwX2_newName_4 : List UInt8 := [61, 167, 0, 42, 43, 18, 118, 182, 0, 75, 153, 0, 33, 5, 61, 167, 0, 28, 43, 18, 173, 182, 0, 75]
abbrev dktX2_newName_4 : List UInt8 := dkwX2_newName_4 ++ dktX2_newName_5
def dkwX2_newName_3 : List UInt8 := [43, 18, 115, 182, 0, 75, 153, 0, 61, 3, 61, 167, 0, 56, 43, 18, 116, 182, 0, 75, 153, 0, 47, 4]
abbrev dktX2_newName_3 : List UInt8 := dkwX2_newName_3 ++ dktX2_newName_4
def dkwX2_newName_2 : List UInt8 := [171, 0, 0, 0, 0, 0, 118, 0, 0, 0, 5, 173, 244, 24, 136, 0, 0, 0, 79, 203, 236, 164, 28, 0, 0, 0, 107, 0, 53, 150, 252, 0, 0, 0, 65, 6, 133, 133, 22, 0, 0, 0, 93, 6, 152, 15, 83, 0, 0, 0, 51]
abbrev dktX2_newName_2 : List UInt8 := dkwX2_newName_2 ++ dktX2_newName_3
def dkwX2_newName_1 : List UInt8 := [182, 0, 111]
abbrev dktX2_newName_1 : List UInt8 := dkwX2_newName_1 ++ dktX2_newName_2
def dkwX2_newName_0 : List UInt8 := [42, 180, 0, 51, 5, 159, 0, 9, 42, 4, 182, 0, 89, 191, 42, 180, 0, 65, 76, 2, 61, 43]
abbrev dktX2_newName_0 : List UInt8 := dkwX2_newName_0 ++ dktX2_newName_1
theorem dksX2_newName_0 : cX2_newName.data.toList.drop 0 = dktX2_newName_0 := by decide +kernel
theorem dksX2_newName_1 : cX2_newName.data.toList.drop 22 = dktX2_newName_1 := dk_seg dksX2_newName_0 22 rfl rfl
theorem dksX2_newName_2 : cX2_newName.data.toList.drop 25 = dktX2_newName_2 := dk_seg dksX2_newName_1 3 rfl rfl
theorem dksX2_newName_3 : cX2_newName.data.toList.drop 76 = dktX2_newName_3 := dk_seg dksX2_newName_2 51 rfl rfl
theorem dksX2_newName_4 : cX2_newName.data.toList.drop 100 = dktX2_newName_4 := dk_seg dksX2_newName_3 24 rfl rfl
theorem dksX2_newName_5 : cX2_newName.data.toList.drop 124 = dktX2_newName_5 := dk_seg dksX2_newName_4 24 rfl rfl
theorem dksX2_newName_6 : cX2_newName.data.toList.drop 144 = dktX2_newName_6 := dk_seg dksX2_newName_5 20 rfl rfl
theorem dksX2_newName_7 : cX2_newName.data.toList.drop 180 = dktX2_newName_7 := dk_seg dksX2_newName_6 36 rfl rfl
theorem dksX2_newName_8 : cX2_newName.data.toList.drop 202 = dktX2_newName_8 := dk_seg dksX2_newName_7 22 rfl rfl
theorem dX2_newName_0 : decode cX2_newName 0 = .ok (.aload_n 0, 1) := dk_42 (dk_at dksX2_newName_0 0 rfl rfl)
theorem dX2_newName_1 : decode cX2_newName 1 = .ok (.getfield 51, 3) := dk_180 0 51 (dk_at dksX2_newName_0 1 rfl rfl)
theorem dX2_newName_4 : decode cX2_newName 4 = .ok (.iconst 2, 1) := dk_5 (dk_at dksX2_newName_0 4 rfl rfl)
theorem dX2_newName_5 : decode cX2_newName 5 = .ok (.if_icmp .eq 9, 3) := dk_159 0 9 (dk_at dksX2_newName_0 5 rfl rfl)
theorem dX2_newName_8 : decode cX2_newName 8 = .ok (.aload_n 0, 1) := dk_42 (dk_at dksX2_newName_0 8 rfl rfl)
theorem dX2_newName_9 : decode cX2_newName 9 = .ok (.iconst 1, 1) := dk_4 (dk_at dksX2_newName_0 9 rfl rfl)
theorem dX2_newName_10 : decode cX2_newName 10 = .ok (.invokevirtual 89, 3) := dk_182 0 89 (dk_at dksX2_newName_0 10 rfl rfl)
theorem dX2_newName_13 : decode cX2_newName 13 = .ok (.athrow, 1) := dk_191 (dk_at dksX2_newName_0 13 rfl rfl)
theorem dX2_newName_14 : decode cX2_newName 14 = .ok (.aload_n 0, 1) := dk_42 (dk_at dksX2_newName_0 14 rfl rfl)
theorem dX2_newName_15 : decode cX2_newName 15 = .ok (.getfield 65, 3) := dk_180 0 65 (dk_at dksX2_newName_0 15 rfl rfl)
theorem dX2_newName_18 : decode cX2_newName 18 = .ok (.astore_n 1, 1) := dk_76 (dk_at dksX2_newName_0 18 rfl rfl)
theorem dX2_newName_19 : decode cX2_newName 19 = .ok (.iconst (-1), 1) := dk_2 (dk_at dksX2_newName_0 19 rfl rfl)
theorem dX2_newName_20 : decode cX2_newName 20 = .ok (.istore_n 2, 1) := dk_61 (dk_at dksX2_newName_0 20 rfl rfl)
theorem dX2_newName_21 : decode cX2_newName 21 = .ok (.aload_n 1, 1) := dk_43 (dk_at dksX2_newName_0 21 rfl rfl)
theorem dX2_newName_22 : decode cX2_newName 22 = .ok (.invokevirtual 111, 3) := dk_182 0 111 (dk_at dksX2_newName_1 0 rfl rfl)
theorem dX2_newName_25 : decode cX2_newName 25 = .ok (.lookupswitch 118 #[(-1376511864, 79), (-873683940, 107), (3512060, 65), (109413654, 93), (110628691, 51)], 51) := by decide +kernel
theorem dX2_newName_76 : decode cX2_newName 76 = .ok (.aload_n 1, 1) := dk_43 (dk_at dksX2_newName_3 0 rfl rfl)
theorem dX2_newName_77 : decode cX2_newName 77 = .ok (.ldc 115, 2) := dk_18 115 (dk_at dksX2_newName_3 1 rfl rfl)
theorem dX2_newName_79 : decode cX2_newName 79 = .ok (.invokevirtual 75, 3) := dk_182 0 75 (dk_at dksX2_newName_3 3 rfl rfl)
theorem dX2_newName_82 : decode cX2_newName 82 = .ok (.ifCond .eq 61, 3) := dk_153 0 61 (dk_at dksX2_newName_3 6 rfl rfl)
theorem dX2_newName_85 : decode cX2_newName 85 = .ok (.iconst 0, 1) := dk_3 (dk_at dksX2_newName_3 9 rfl rfl)
theorem dX2_newName_86 : decode cX2_newName 86 = .ok (.istore_n 2, 1) := dk_61 (dk_at dksX2_newName_3 10 rfl rfl)
theorem dX2_newName_87 : decode cX2_newName 87 = .ok (.goto 56, 3) := dk_167 0 56 (dk_at dksX2_newName_3 11 rfl rfl)
theorem dX2_newName_90 : decode cX2_newName 90 = .ok (.aload_n 1, 1) := dk_43 (dk_at dksX2_newName_3 14 rfl rfl)
theorem dX2_newName_91 : decode cX2_newName 91 = .ok (.ldc 116, 2) := dk_18 116 (dk_at dksX2_newName_3 15 rfl rfl)
theorem dX2_newName_93 : decode cX2_newName 93 = .ok (.invokevirtual 75, 3) := dk_182 0 75 (dk_at dksX2_newName_3 17 rfl rfl)
theorem dX2_newName_96 : decode cX2_newName 96 = .ok (.ifCond .eq 47, 3) := dk_153 0 47 (dk_at dksX2_newName_3 20 rfl rfl)
theorem dX2_newName_99 : decode cX2_newName 99 = .ok (.iconst 1, 1) := dk_4 (dk_at dksX2_newName_3 23 rfl rfl)
theorem dX2_newName_100 : decode cX2_newName 100 = .ok (.istore_n 2, 1) := dk_61 (dk_at dksX2_newName_4 0 rfl rfl)
theorem dX2_newName_101 : decode cX2_newName 101 = .ok (.goto 42, 3) := dk_167 0 42 (dk_at dksX2_newName_4 1 rfl rfl)
theorem dX2_newName_104 : decode cX2_newName 104 = .ok (.aload_n 1, 1) := dk_43 (dk_at dksX2_newName_4 4 rfl rfl)
theorem dX2_newName_105 : decode cX2_newName 105 = .ok (.ldc 118, 2) := dk_18 118 (dk_at dksX2_newName_4 5 rfl rfl)
theorem dX2_newName_107 : decode cX2_newName 107 = .ok (.invokevirtual 75, 3) := dk_182 0 75 (dk_at dksX2_newName_4 7 rfl rfl)
theorem dX2_newName_110 : decode cX2_newName 110 = .ok (.ifCond .eq 33, 3) := dk_153 0 33 (dk_at dksX2_newName_4 10 rfl rfl)
theorem dX2_newName_113 : decode cX2_newName 113 = .ok (.iconst 2, 1) := dk_5 (dk_at dksX2_newName_4 13 rfl rfl)
theorem dX2_newName_114 : decode cX2_newName 114 = .ok (.istore_n 2, 1) := dk_61 (dk_at dksX2_newName_4 14 rfl rfl)
theorem dX2_newName_115 : decode cX2_newName 115 = .ok (.goto 28, 3) := dk_167 0 28 (dk_at dksX2_newName_4 15 rfl rfl)
theorem dX2_newName_118 : decode cX2_newName 118 = .ok (.aload_n 1, 1) := dk_43 (dk_at dksX2_newName_4 18 rfl rfl)
theorem dX2_newName_119 : decode cX2_newName 119 = .ok (.ldc 173, 2) := dk_18 173 (dk_at dksX2_newName_4 19 rfl rfl)
theorem dX2_newName_121 : decode cX2_newName 121 = .ok (.invokevirtual 75, 3) := dk_182 0 75 (dk_at dksX2_newName_4 21 rfl rfl)
theorem dX2_newName_124 : decode cX2_newName 124 = .ok (.ifCond .eq 19, 3) := dk_153 0 19 (dk_at dksX2_newName_5 0 rfl rfl)
theorem dX2_newName_127 : decode cX2_newName 127 = .ok (.iconst 3, 1) := dk_6 (dk_at dksX2_newName_5 3 rfl rfl)
theorem dX2_newName_128 : decode cX2_newName 128 = .ok (.istore_n 2, 1) := dk_61 (dk_at dksX2_newName_5 4 rfl rfl)
theorem dX2_newName_129 : decode cX2_newName 129 = .ok (.goto 14, 3) := dk_167 0 14 (dk_at dksX2_newName_5 5 rfl rfl)
theorem dX2_newName_132 : decode cX2_newName 132 = .ok (.aload_n 1, 1) := dk_43 (dk_at dksX2_newName_5 8 rfl rfl)
theorem dX2_newName_133 : decode cX2_newName 133 = .ok (.ldc 175, 2) := dk_18 175 (dk_at dksX2_newName_5 9 rfl rfl)
theorem dX2_newName_135 : decode cX2_newName 135 = .ok (.invokevirtual 75, 3) := dk_182 0 75 (dk_at dksX2_newName_5 11 rfl rfl)
theorem dX2_newName_138 : decode cX2_newName 138 = .ok (.ifCond .eq 5, 3) := dk_153 0 5 (dk_at dksX2_newName_5 14 rfl rfl)
theorem dX2_newName_141 : decode cX2_newName 141 = .ok (.iconst 4, 1) := dk_7 (dk_at dksX2_newName_5 17 rfl rfl)
theorem dX2_newName_142 : decode cX2_newName 142 = .ok (.istore_n 2, 1) := dk_61 (dk_at dksX2_newName_5 18 rfl rfl)
theorem dX2_newName_143 : decode cX2_newName 143 = .ok (.iload_n 2, 1) := dk_28 (dk_at dksX2_newName_5 19 rfl rfl)
theorem dX2_newName_144 : decode cX2_newName 144 = .ok (.tableswitch 42 0 4 #[36, 36, 36, 36, 36], 36) := by decide +kernel
theorem dX2_newName_180 : decode cX2_newName 180 = .ok (.aload_n 0, 1) := dk_42 (dk_at dksX2_newName_7 0 rfl rfl)
theorem dX2_newName_181 : decode cX2_newName 181 = .ok (.iconst 1, 1) := dk_4 (dk_at dksX2_newName_7 1 rfl rfl)
theorem dX2_newName_182 : decode cX2_newName 182 = .ok (.invokevirtual 89, 3) := dk_182 0 89 (dk_at dksX2_newName_7 2 rfl rfl)
theorem dX2_newName_185 : decode cX2_newName 185 = .ok (.athrow, 1) := dk_191 (dk_at dksX2_newName_7 5 rfl rfl)
theorem dX2_newName_186 : decode cX2_newName 186 = .ok (.aload_n 0, 1) := dk_42 (dk_at dksX2_newName_7 6 rfl rfl)
theorem dX2_newName_187 : decode cX2_newName 187 = .ok (.getfield 104, 3) := dk_180 0 104 (dk_at dksX2_newName_7 7 rfl rfl)
theorem dX2_newName_190 : decode cX2_newName 190 = .ok (.aload_n 0, 1) := dk_42 (dk_at dksX2_newName_7 10 rfl rfl)
theorem dX2_newName_191 : decode cX2_newName 191 = .ok (.getfield 65, 3) := dk_180 0 65 (dk_at dksX2_newName_7 11 rfl rfl)
theorem dX2_newName_194 : decode cX2_newName 194 = .ok (.invokevirtual 177, 3) := dk_182 0 177 (dk_at dksX2_newName_7 14 rfl rfl)
theorem dX2_newName_197 : decode cX2_newName 197 = .ok (.ifCond .eq 9, 3) := dk_153 0 9 (dk_at dksX2_newName_7 17 rfl rfl)
theorem dX2_newName_200 : decode cX2_newName 200 = .ok (.aload_n 0, 1) := dk_42 (dk_at dksX2_newName_7 20 rfl rfl)
theorem dX2_newName_201 : decode cX2_newName 201 = .ok (.iconst 3, 1) := dk_6 (dk_at dksX2_newName_7 21 rfl rfl)
theorem dX2_newName_202 : decode cX2_newName 202 = .ok (.invokevirtual 89, 3) := dk_182 0 89 (dk_at dksX2_newName_8 0 rfl rfl)
theorem dX2_newName_205 : decode cX2_newName 205 = .ok (.athrow, 1) := dk_191 (dk_at dksX2_newName_8 3 rfl rfl)
theorem dX2_newName_206 : decode cX2_newName 206 = .ok (.aload_n 0, 1) := dk_42 (dk_at dksX2_newName_8 4 rfl rfl)
theorem dX2_newName_207 : decode cX2_newName 207 = .ok (.getfield 65, 3) := dk_180 0 65 (dk_at dksX2_newName_8 5 rfl rfl)
theorem dX2_newName_210 : decode cX2_newName 210 = .ok (.astore_n 1, 1) := dk_76 (dk_at dksX2_newName_8 8 rfl rfl)
theorem dX2_newName_211 : decode cX2_newName 211 = .ok (.aload_n 0, 1) := dk_42 (dk_at dksX2_newName_8 9 rfl rfl)
theorem dX2_newName_212 : decode cX2_newName 212 = .ok (.invokevirtual 83, 3) := dk_182 0 83 (dk_at dksX2_newName_8 10 rfl rfl)
theorem dX2_newName_215 : decode cX2_newName 215 = .ok (.aload_n 1, 1) := dk_43 (dk_at dksX2_newName_8 13 rfl rfl)
theorem dX2_newName_216 : decode cX2_newName 216 = .ok (.areturn, 1) := dk_176 (dk_at dksX2_newName_8 14 rfl rfl)
abbrev cX2_ruleOf : ByteArray := prog_13_method_19_code
def yX2_ruleOf : MethodName := ⟨RX2, "ruleOf", "(Ljava/lang/String;I)LFifthCard$Rule;"⟩
def dkwX2_ruleOf_4 : List UInt8 := [182, 0, 83, 43, 28, 8, 29, 104, 21, 4, 96, 184, 0, 218, 176]
abbrev dktX2_ruleOf_4 : List UInt8 := dkwX2_ruleOf_4 ++ []
def dkwX2_ruleOf_3 : List UInt8 := [182, 0, 93, 42, 182, 0, 215, 54, 4, 21, 4, 2, 160, 0, 9, 42, 4, 182, 0, 89, 191, 42]
abbrev dktX2_ruleOf_3 : List UInt8 := dkwX2_ruleOf_3 ++ dktX2_ruleOf_4
def dkwX2_ruleOf_2 : List UInt8 := [182, 0, 210, 62, 29, 2, 160, 0, 9, 42, 4, 182, 0, 89, 191, 42, 182, 0, 83, 42, 18, 213]
abbrev dktX2_ruleOf_2 : List UInt8 := dkwX2_ruleOf_2 ++ dktX2_ruleOf_3
def dkwX2_ruleOf_1 : List UInt8 := [182, 0, 86, 153, 0, 13, 187, 0, 205, 89, 43, 28, 183, 0, 207, 176, 42, 18, 208, 182, 0, 93, 42]
abbrev dktX2_ruleOf_1 : List UInt8 := dkwX2_ruleOf_1 ++ dktX2_ruleOf_2
def dkwX2_ruleOf_0 : List UInt8 := [42, 18, 196, 182, 0, 86, 153, 0, 13, 187, 0, 198, 89, 43, 28, 183, 0, 200, 176, 42, 18, 203]
abbrev dktX2_ruleOf_0 : List UInt8 := dkwX2_ruleOf_0 ++ dktX2_ruleOf_1
theorem dksX2_ruleOf_0 : cX2_ruleOf.data.toList.drop 0 = dktX2_ruleOf_0 := by decide +kernel
theorem dksX2_ruleOf_1 : cX2_ruleOf.data.toList.drop 22 = dktX2_ruleOf_1 := dk_seg dksX2_ruleOf_0 22 rfl rfl
theorem dksX2_ruleOf_2 : cX2_ruleOf.data.toList.drop 45 = dktX2_ruleOf_2 := dk_seg dksX2_ruleOf_1 23 rfl rfl
theorem dksX2_ruleOf_3 : cX2_ruleOf.data.toList.drop 67 = dktX2_ruleOf_3 := dk_seg dksX2_ruleOf_2 22 rfl rfl
theorem dksX2_ruleOf_4 : cX2_ruleOf.data.toList.drop 89 = dktX2_ruleOf_4 := dk_seg dksX2_ruleOf_3 22 rfl rfl
theorem dX2_ruleOf_0 : decode cX2_ruleOf 0 = .ok (.aload_n 0, 1) := dk_42 (dk_at dksX2_ruleOf_0 0 rfl rfl)
theorem dX2_ruleOf_1 : decode cX2_ruleOf 1 = .ok (.ldc 196, 2) := dk_18 196 (dk_at dksX2_ruleOf_0 1 rfl rfl)
theorem dX2_ruleOf_3 : decode cX2_ruleOf 3 = .ok (.invokevirtual 86, 3) := dk_182 0 86 (dk_at dksX2_ruleOf_0 3 rfl rfl)
theorem dX2_ruleOf_6 : decode cX2_ruleOf 6 = .ok (.ifCond .eq 13, 3) := dk_153 0 13 (dk_at dksX2_ruleOf_0 6 rfl rfl)
theorem dX2_ruleOf_9 : decode cX2_ruleOf 9 = .ok (.new 198, 3) := dk_187 0 198 (dk_at dksX2_ruleOf_0 9 rfl rfl)
theorem dX2_ruleOf_12 : decode cX2_ruleOf 12 = .ok (.dup, 1) := dk_89 (dk_at dksX2_ruleOf_0 12 rfl rfl)
theorem dX2_ruleOf_13 : decode cX2_ruleOf 13 = .ok (.aload_n 1, 1) := dk_43 (dk_at dksX2_ruleOf_0 13 rfl rfl)
theorem dX2_ruleOf_14 : decode cX2_ruleOf 14 = .ok (.iload_n 2, 1) := dk_28 (dk_at dksX2_ruleOf_0 14 rfl rfl)
theorem dX2_ruleOf_15 : decode cX2_ruleOf 15 = .ok (.invokespecial 200, 3) := dk_183 0 200 (dk_at dksX2_ruleOf_0 15 rfl rfl)
theorem dX2_ruleOf_18 : decode cX2_ruleOf 18 = .ok (.areturn, 1) := dk_176 (dk_at dksX2_ruleOf_0 18 rfl rfl)
theorem dX2_ruleOf_19 : decode cX2_ruleOf 19 = .ok (.aload_n 0, 1) := dk_42 (dk_at dksX2_ruleOf_0 19 rfl rfl)
theorem dX2_ruleOf_20 : decode cX2_ruleOf 20 = .ok (.ldc 203, 2) := dk_18 203 (dk_at dksX2_ruleOf_0 20 rfl rfl)
theorem dX2_ruleOf_22 : decode cX2_ruleOf 22 = .ok (.invokevirtual 86, 3) := dk_182 0 86 (dk_at dksX2_ruleOf_1 0 rfl rfl)
theorem dX2_ruleOf_25 : decode cX2_ruleOf 25 = .ok (.ifCond .eq 13, 3) := dk_153 0 13 (dk_at dksX2_ruleOf_1 3 rfl rfl)
theorem dX2_ruleOf_28 : decode cX2_ruleOf 28 = .ok (.new 205, 3) := dk_187 0 205 (dk_at dksX2_ruleOf_1 6 rfl rfl)
theorem dX2_ruleOf_31 : decode cX2_ruleOf 31 = .ok (.dup, 1) := dk_89 (dk_at dksX2_ruleOf_1 9 rfl rfl)
theorem dX2_ruleOf_32 : decode cX2_ruleOf 32 = .ok (.aload_n 1, 1) := dk_43 (dk_at dksX2_ruleOf_1 10 rfl rfl)
theorem dX2_ruleOf_33 : decode cX2_ruleOf 33 = .ok (.iload_n 2, 1) := dk_28 (dk_at dksX2_ruleOf_1 11 rfl rfl)
theorem dX2_ruleOf_34 : decode cX2_ruleOf 34 = .ok (.invokespecial 207, 3) := dk_183 0 207 (dk_at dksX2_ruleOf_1 12 rfl rfl)
theorem dX2_ruleOf_37 : decode cX2_ruleOf 37 = .ok (.areturn, 1) := dk_176 (dk_at dksX2_ruleOf_1 15 rfl rfl)
theorem dX2_ruleOf_38 : decode cX2_ruleOf 38 = .ok (.aload_n 0, 1) := dk_42 (dk_at dksX2_ruleOf_1 16 rfl rfl)
theorem dX2_ruleOf_39 : decode cX2_ruleOf 39 = .ok (.ldc 208, 2) := dk_18 208 (dk_at dksX2_ruleOf_1 17 rfl rfl)
theorem dX2_ruleOf_41 : decode cX2_ruleOf 41 = .ok (.invokevirtual 93, 3) := dk_182 0 93 (dk_at dksX2_ruleOf_1 19 rfl rfl)
theorem dX2_ruleOf_44 : decode cX2_ruleOf 44 = .ok (.aload_n 0, 1) := dk_42 (dk_at dksX2_ruleOf_1 22 rfl rfl)
theorem dX2_ruleOf_45 : decode cX2_ruleOf 45 = .ok (.invokevirtual 210, 3) := dk_182 0 210 (dk_at dksX2_ruleOf_2 0 rfl rfl)
theorem dX2_ruleOf_48 : decode cX2_ruleOf 48 = .ok (.istore_n 3, 1) := dk_62 (dk_at dksX2_ruleOf_2 3 rfl rfl)
theorem dX2_ruleOf_49 : decode cX2_ruleOf 49 = .ok (.iload_n 3, 1) := dk_29 (dk_at dksX2_ruleOf_2 4 rfl rfl)
theorem dX2_ruleOf_50 : decode cX2_ruleOf 50 = .ok (.iconst (-1), 1) := dk_2 (dk_at dksX2_ruleOf_2 5 rfl rfl)
theorem dX2_ruleOf_51 : decode cX2_ruleOf 51 = .ok (.if_icmp .ne 9, 3) := dk_160 0 9 (dk_at dksX2_ruleOf_2 6 rfl rfl)
theorem dX2_ruleOf_54 : decode cX2_ruleOf 54 = .ok (.aload_n 0, 1) := dk_42 (dk_at dksX2_ruleOf_2 9 rfl rfl)
theorem dX2_ruleOf_55 : decode cX2_ruleOf 55 = .ok (.iconst 1, 1) := dk_4 (dk_at dksX2_ruleOf_2 10 rfl rfl)
theorem dX2_ruleOf_56 : decode cX2_ruleOf 56 = .ok (.invokevirtual 89, 3) := dk_182 0 89 (dk_at dksX2_ruleOf_2 11 rfl rfl)
theorem dX2_ruleOf_59 : decode cX2_ruleOf 59 = .ok (.athrow, 1) := dk_191 (dk_at dksX2_ruleOf_2 14 rfl rfl)
theorem dX2_ruleOf_60 : decode cX2_ruleOf 60 = .ok (.aload_n 0, 1) := dk_42 (dk_at dksX2_ruleOf_2 15 rfl rfl)
theorem dX2_ruleOf_61 : decode cX2_ruleOf 61 = .ok (.invokevirtual 83, 3) := dk_182 0 83 (dk_at dksX2_ruleOf_2 16 rfl rfl)
theorem dX2_ruleOf_64 : decode cX2_ruleOf 64 = .ok (.aload_n 0, 1) := dk_42 (dk_at dksX2_ruleOf_2 19 rfl rfl)
theorem dX2_ruleOf_65 : decode cX2_ruleOf 65 = .ok (.ldc 213, 2) := dk_18 213 (dk_at dksX2_ruleOf_2 20 rfl rfl)
theorem dX2_ruleOf_67 : decode cX2_ruleOf 67 = .ok (.invokevirtual 93, 3) := dk_182 0 93 (dk_at dksX2_ruleOf_3 0 rfl rfl)
theorem dX2_ruleOf_70 : decode cX2_ruleOf 70 = .ok (.aload_n 0, 1) := dk_42 (dk_at dksX2_ruleOf_3 3 rfl rfl)
theorem dX2_ruleOf_71 : decode cX2_ruleOf 71 = .ok (.invokevirtual 215, 3) := dk_182 0 215 (dk_at dksX2_ruleOf_3 4 rfl rfl)
theorem dX2_ruleOf_74 : decode cX2_ruleOf 74 = .ok (.istore 4, 2) := dk_54 4 (dk_at dksX2_ruleOf_3 7 rfl rfl)
theorem dX2_ruleOf_76 : decode cX2_ruleOf 76 = .ok (.iload 4, 2) := dk_21 4 (dk_at dksX2_ruleOf_3 9 rfl rfl)
theorem dX2_ruleOf_78 : decode cX2_ruleOf 78 = .ok (.iconst (-1), 1) := dk_2 (dk_at dksX2_ruleOf_3 11 rfl rfl)
theorem dX2_ruleOf_79 : decode cX2_ruleOf 79 = .ok (.if_icmp .ne 9, 3) := dk_160 0 9 (dk_at dksX2_ruleOf_3 12 rfl rfl)
theorem dX2_ruleOf_82 : decode cX2_ruleOf 82 = .ok (.aload_n 0, 1) := dk_42 (dk_at dksX2_ruleOf_3 15 rfl rfl)
theorem dX2_ruleOf_83 : decode cX2_ruleOf 83 = .ok (.iconst 1, 1) := dk_4 (dk_at dksX2_ruleOf_3 16 rfl rfl)
theorem dX2_ruleOf_84 : decode cX2_ruleOf 84 = .ok (.invokevirtual 89, 3) := dk_182 0 89 (dk_at dksX2_ruleOf_3 17 rfl rfl)
theorem dX2_ruleOf_87 : decode cX2_ruleOf 87 = .ok (.athrow, 1) := dk_191 (dk_at dksX2_ruleOf_3 20 rfl rfl)
theorem dX2_ruleOf_88 : decode cX2_ruleOf 88 = .ok (.aload_n 0, 1) := dk_42 (dk_at dksX2_ruleOf_3 21 rfl rfl)
theorem dX2_ruleOf_89 : decode cX2_ruleOf 89 = .ok (.invokevirtual 83, 3) := dk_182 0 83 (dk_at dksX2_ruleOf_4 0 rfl rfl)
theorem dX2_ruleOf_92 : decode cX2_ruleOf 92 = .ok (.aload_n 1, 1) := dk_43 (dk_at dksX2_ruleOf_4 3 rfl rfl)
theorem dX2_ruleOf_93 : decode cX2_ruleOf 93 = .ok (.iload_n 2, 1) := dk_28 (dk_at dksX2_ruleOf_4 4 rfl rfl)
theorem dX2_ruleOf_94 : decode cX2_ruleOf 94 = .ok (.iconst 5, 1) := dk_8 (dk_at dksX2_ruleOf_4 5 rfl rfl)
theorem dX2_ruleOf_95 : decode cX2_ruleOf 95 = .ok (.iload_n 3, 1) := dk_29 (dk_at dksX2_ruleOf_4 6 rfl rfl)
theorem dX2_ruleOf_96 : decode cX2_ruleOf 96 = .ok (.imul, 1) := dk_104 (dk_at dksX2_ruleOf_4 7 rfl rfl)
theorem dX2_ruleOf_97 : decode cX2_ruleOf 97 = .ok (.iload 4, 2) := dk_21 4 (dk_at dksX2_ruleOf_4 8 rfl rfl)
theorem dX2_ruleOf_99 : decode cX2_ruleOf 99 = .ok (.iadd, 1) := dk_96 (dk_at dksX2_ruleOf_4 10 rfl rfl)
theorem dX2_ruleOf_100 : decode cX2_ruleOf 100 = .ok (.invokestatic 218, 3) := dk_184 0 218 (dk_at dksX2_ruleOf_4 11 rfl rfl)
theorem dX2_ruleOf_103 : decode cX2_ruleOf 103 = .ok (.areturn, 1) := dk_176 (dk_at dksX2_ruleOf_4 14 rfl rfl)
abbrev cX2_keepHere : ByteArray := prog_13_method_17_code
def yX2_keepHere : MethodName := ⟨RX2, "keepHere", "()I"⟩
def dkwX2_keepHere_2 : List UInt8 := [153, 0, 7, 6, 167, 0, 4, 2, 172]
abbrev dktX2_keepHere_2 : List UInt8 := dkwX2_keepHere_2 ++ []
def dkwX2_keepHere_1 : List UInt8 := [167, 0, 30, 42, 18, 184, 182, 0, 79, 153, 0, 7, 5, 167, 0, 17, 42, 18, 186, 182, 0, 79]
abbrev dktX2_keepHere_1 : List UInt8 := dkwX2_keepHere_1 ++ dktX2_keepHere_2
def dkwX2_keepHere_0 : List UInt8 := [42, 18, 180, 182, 0, 79, 153, 0, 7, 3, 167, 0, 43, 42, 18, 182, 182, 0, 79, 153, 0, 7, 4]
abbrev dktX2_keepHere_0 : List UInt8 := dkwX2_keepHere_0 ++ dktX2_keepHere_1
theorem dksX2_keepHere_0 : cX2_keepHere.data.toList.drop 0 = dktX2_keepHere_0 := by decide +kernel
theorem dksX2_keepHere_1 : cX2_keepHere.data.toList.drop 23 = dktX2_keepHere_1 := dk_seg dksX2_keepHere_0 23 rfl rfl
theorem dksX2_keepHere_2 : cX2_keepHere.data.toList.drop 45 = dktX2_keepHere_2 := dk_seg dksX2_keepHere_1 22 rfl rfl
theorem dX2_keepHere_0 : decode cX2_keepHere 0 = .ok (.aload_n 0, 1) := dk_42 (dk_at dksX2_keepHere_0 0 rfl rfl)
theorem dX2_keepHere_1 : decode cX2_keepHere 1 = .ok (.ldc 180, 2) := dk_18 180 (dk_at dksX2_keepHere_0 1 rfl rfl)
theorem dX2_keepHere_3 : decode cX2_keepHere 3 = .ok (.invokevirtual 79, 3) := dk_182 0 79 (dk_at dksX2_keepHere_0 3 rfl rfl)
theorem dX2_keepHere_6 : decode cX2_keepHere 6 = .ok (.ifCond .eq 7, 3) := dk_153 0 7 (dk_at dksX2_keepHere_0 6 rfl rfl)
theorem dX2_keepHere_9 : decode cX2_keepHere 9 = .ok (.iconst 0, 1) := dk_3 (dk_at dksX2_keepHere_0 9 rfl rfl)
theorem dX2_keepHere_10 : decode cX2_keepHere 10 = .ok (.goto 43, 3) := dk_167 0 43 (dk_at dksX2_keepHere_0 10 rfl rfl)
theorem dX2_keepHere_13 : decode cX2_keepHere 13 = .ok (.aload_n 0, 1) := dk_42 (dk_at dksX2_keepHere_0 13 rfl rfl)
theorem dX2_keepHere_14 : decode cX2_keepHere 14 = .ok (.ldc 182, 2) := dk_18 182 (dk_at dksX2_keepHere_0 14 rfl rfl)
theorem dX2_keepHere_16 : decode cX2_keepHere 16 = .ok (.invokevirtual 79, 3) := dk_182 0 79 (dk_at dksX2_keepHere_0 16 rfl rfl)
theorem dX2_keepHere_19 : decode cX2_keepHere 19 = .ok (.ifCond .eq 7, 3) := dk_153 0 7 (dk_at dksX2_keepHere_0 19 rfl rfl)
theorem dX2_keepHere_22 : decode cX2_keepHere 22 = .ok (.iconst 1, 1) := dk_4 (dk_at dksX2_keepHere_0 22 rfl rfl)
theorem dX2_keepHere_23 : decode cX2_keepHere 23 = .ok (.goto 30, 3) := dk_167 0 30 (dk_at dksX2_keepHere_1 0 rfl rfl)
theorem dX2_keepHere_26 : decode cX2_keepHere 26 = .ok (.aload_n 0, 1) := dk_42 (dk_at dksX2_keepHere_1 3 rfl rfl)
theorem dX2_keepHere_27 : decode cX2_keepHere 27 = .ok (.ldc 184, 2) := dk_18 184 (dk_at dksX2_keepHere_1 4 rfl rfl)
theorem dX2_keepHere_29 : decode cX2_keepHere 29 = .ok (.invokevirtual 79, 3) := dk_182 0 79 (dk_at dksX2_keepHere_1 6 rfl rfl)
theorem dX2_keepHere_32 : decode cX2_keepHere 32 = .ok (.ifCond .eq 7, 3) := dk_153 0 7 (dk_at dksX2_keepHere_1 9 rfl rfl)
theorem dX2_keepHere_35 : decode cX2_keepHere 35 = .ok (.iconst 2, 1) := dk_5 (dk_at dksX2_keepHere_1 12 rfl rfl)
theorem dX2_keepHere_36 : decode cX2_keepHere 36 = .ok (.goto 17, 3) := dk_167 0 17 (dk_at dksX2_keepHere_1 13 rfl rfl)
theorem dX2_keepHere_39 : decode cX2_keepHere 39 = .ok (.aload_n 0, 1) := dk_42 (dk_at dksX2_keepHere_1 16 rfl rfl)
theorem dX2_keepHere_40 : decode cX2_keepHere 40 = .ok (.ldc 186, 2) := dk_18 186 (dk_at dksX2_keepHere_1 17 rfl rfl)
theorem dX2_keepHere_42 : decode cX2_keepHere 42 = .ok (.invokevirtual 79, 3) := dk_182 0 79 (dk_at dksX2_keepHere_1 19 rfl rfl)
theorem dX2_keepHere_45 : decode cX2_keepHere 45 = .ok (.ifCond .eq 7, 3) := dk_153 0 7 (dk_at dksX2_keepHere_2 0 rfl rfl)
theorem dX2_keepHere_48 : decode cX2_keepHere 48 = .ok (.iconst 3, 1) := dk_6 (dk_at dksX2_keepHere_2 3 rfl rfl)
theorem dX2_keepHere_49 : decode cX2_keepHere 49 = .ok (.goto 4, 3) := dk_167 0 4 (dk_at dksX2_keepHere_2 4 rfl rfl)
theorem dX2_keepHere_52 : decode cX2_keepHere 52 = .ok (.iconst (-1), 1) := dk_2 (dk_at dksX2_keepHere_2 7 rfl rfl)
theorem dX2_keepHere_53 : decode cX2_keepHere 53 = .ok (.ireturn, 1) := dk_172 (dk_at dksX2_keepHere_2 8 rfl rfl)
abbrev cX2_tellHere : ByteArray := prog_13_method_18_code
def yX2_tellHere : MethodName := ⟨RX2, "tellHere", "()I"⟩
def dkwX2_tellHere_2 : List UInt8 := [153, 0, 7, 6, 167, 0, 17, 42, 18, 186, 182, 0, 79, 153, 0, 7, 7, 167, 0, 4, 2, 172]
abbrev dktX2_tellHere_2 : List UInt8 := dkwX2_tellHere_2 ++ []
def dkwX2_tellHere_1 : List UInt8 := [167, 0, 43, 42, 18, 192, 182, 0, 79, 153, 0, 7, 5, 167, 0, 30, 42, 18, 194, 182, 0, 79]
abbrev dktX2_tellHere_1 : List UInt8 := dkwX2_tellHere_1 ++ dktX2_tellHere_2
def dkwX2_tellHere_0 : List UInt8 := [42, 18, 188, 182, 0, 79, 153, 0, 7, 3, 167, 0, 56, 42, 18, 190, 182, 0, 79, 153, 0, 7, 4]
abbrev dktX2_tellHere_0 : List UInt8 := dkwX2_tellHere_0 ++ dktX2_tellHere_1
theorem dksX2_tellHere_0 : cX2_tellHere.data.toList.drop 0 = dktX2_tellHere_0 := by decide +kernel
theorem dksX2_tellHere_1 : cX2_tellHere.data.toList.drop 23 = dktX2_tellHere_1 := dk_seg dksX2_tellHere_0 23 rfl rfl
theorem dksX2_tellHere_2 : cX2_tellHere.data.toList.drop 45 = dktX2_tellHere_2 := dk_seg dksX2_tellHere_1 22 rfl rfl
theorem dX2_tellHere_0 : decode cX2_tellHere 0 = .ok (.aload_n 0, 1) := dk_42 (dk_at dksX2_tellHere_0 0 rfl rfl)
theorem dX2_tellHere_1 : decode cX2_tellHere 1 = .ok (.ldc 188, 2) := dk_18 188 (dk_at dksX2_tellHere_0 1 rfl rfl)
theorem dX2_tellHere_3 : decode cX2_tellHere 3 = .ok (.invokevirtual 79, 3) := dk_182 0 79 (dk_at dksX2_tellHere_0 3 rfl rfl)
theorem dX2_tellHere_6 : decode cX2_tellHere 6 = .ok (.ifCond .eq 7, 3) := dk_153 0 7 (dk_at dksX2_tellHere_0 6 rfl rfl)
theorem dX2_tellHere_9 : decode cX2_tellHere 9 = .ok (.iconst 0, 1) := dk_3 (dk_at dksX2_tellHere_0 9 rfl rfl)
theorem dX2_tellHere_10 : decode cX2_tellHere 10 = .ok (.goto 56, 3) := dk_167 0 56 (dk_at dksX2_tellHere_0 10 rfl rfl)
theorem dX2_tellHere_13 : decode cX2_tellHere 13 = .ok (.aload_n 0, 1) := dk_42 (dk_at dksX2_tellHere_0 13 rfl rfl)
theorem dX2_tellHere_14 : decode cX2_tellHere 14 = .ok (.ldc 190, 2) := dk_18 190 (dk_at dksX2_tellHere_0 14 rfl rfl)
theorem dX2_tellHere_16 : decode cX2_tellHere 16 = .ok (.invokevirtual 79, 3) := dk_182 0 79 (dk_at dksX2_tellHere_0 16 rfl rfl)
theorem dX2_tellHere_19 : decode cX2_tellHere 19 = .ok (.ifCond .eq 7, 3) := dk_153 0 7 (dk_at dksX2_tellHere_0 19 rfl rfl)
theorem dX2_tellHere_22 : decode cX2_tellHere 22 = .ok (.iconst 1, 1) := dk_4 (dk_at dksX2_tellHere_0 22 rfl rfl)
theorem dX2_tellHere_23 : decode cX2_tellHere 23 = .ok (.goto 43, 3) := dk_167 0 43 (dk_at dksX2_tellHere_1 0 rfl rfl)
theorem dX2_tellHere_26 : decode cX2_tellHere 26 = .ok (.aload_n 0, 1) := dk_42 (dk_at dksX2_tellHere_1 3 rfl rfl)
theorem dX2_tellHere_27 : decode cX2_tellHere 27 = .ok (.ldc 192, 2) := dk_18 192 (dk_at dksX2_tellHere_1 4 rfl rfl)
theorem dX2_tellHere_29 : decode cX2_tellHere 29 = .ok (.invokevirtual 79, 3) := dk_182 0 79 (dk_at dksX2_tellHere_1 6 rfl rfl)
theorem dX2_tellHere_32 : decode cX2_tellHere 32 = .ok (.ifCond .eq 7, 3) := dk_153 0 7 (dk_at dksX2_tellHere_1 9 rfl rfl)
theorem dX2_tellHere_35 : decode cX2_tellHere 35 = .ok (.iconst 2, 1) := dk_5 (dk_at dksX2_tellHere_1 12 rfl rfl)
theorem dX2_tellHere_36 : decode cX2_tellHere 36 = .ok (.goto 30, 3) := dk_167 0 30 (dk_at dksX2_tellHere_1 13 rfl rfl)
theorem dX2_tellHere_39 : decode cX2_tellHere 39 = .ok (.aload_n 0, 1) := dk_42 (dk_at dksX2_tellHere_1 16 rfl rfl)
theorem dX2_tellHere_40 : decode cX2_tellHere 40 = .ok (.ldc 194, 2) := dk_18 194 (dk_at dksX2_tellHere_1 17 rfl rfl)
theorem dX2_tellHere_42 : decode cX2_tellHere 42 = .ok (.invokevirtual 79, 3) := dk_182 0 79 (dk_at dksX2_tellHere_1 19 rfl rfl)
theorem dX2_tellHere_45 : decode cX2_tellHere 45 = .ok (.ifCond .eq 7, 3) := dk_153 0 7 (dk_at dksX2_tellHere_2 0 rfl rfl)
theorem dX2_tellHere_48 : decode cX2_tellHere 48 = .ok (.iconst 3, 1) := dk_6 (dk_at dksX2_tellHere_2 3 rfl rfl)
theorem dX2_tellHere_49 : decode cX2_tellHere 49 = .ok (.goto 17, 3) := dk_167 0 17 (dk_at dksX2_tellHere_2 4 rfl rfl)
theorem dX2_tellHere_52 : decode cX2_tellHere 52 = .ok (.aload_n 0, 1) := dk_42 (dk_at dksX2_tellHere_2 7 rfl rfl)
theorem dX2_tellHere_53 : decode cX2_tellHere 53 = .ok (.ldc 186, 2) := dk_18 186 (dk_at dksX2_tellHere_2 8 rfl rfl)
theorem dX2_tellHere_55 : decode cX2_tellHere 55 = .ok (.invokevirtual 79, 3) := dk_182 0 79 (dk_at dksX2_tellHere_2 10 rfl rfl)
theorem dX2_tellHere_58 : decode cX2_tellHere 58 = .ok (.ifCond .eq 7, 3) := dk_153 0 7 (dk_at dksX2_tellHere_2 13 rfl rfl)
theorem dX2_tellHere_61 : decode cX2_tellHere 61 = .ok (.iconst 4, 1) := dk_7 (dk_at dksX2_tellHere_2 16 rfl rfl)
theorem dX2_tellHere_62 : decode cX2_tellHere 62 = .ok (.goto 4, 3) := dk_167 0 4 (dk_at dksX2_tellHere_2 17 rfl rfl)
theorem dX2_tellHere_65 : decode cX2_tellHere 65 = .ok (.iconst (-1), 1) := dk_2 (dk_at dksX2_tellHere_2 20 rfl rfl)
theorem dX2_tellHere_66 : decode cX2_tellHere 66 = .ok (.ireturn, 1) := dk_172 (dk_at dksX2_tellHere_2 21 rfl rfl)
abbrev cX2_evening : ByteArray := prog_13_method_22_code
def yX2_evening : MethodName := ⟨RX2, "evening", "()V"⟩
def dkwX2_evening_9 : List UInt8 := [100, 182, 0, 248, 96, 79, 42, 180, 0, 104, 89, 180, 0, 245, 4, 96, 181, 0, 245, 177]
abbrev dktX2_evening_9 : List UInt8 := dkwX2_evening_9 ++ []
def dkwX2_evening_8 : List UInt8 := [18, 175, 182, 0, 86, 153, 0, 25, 42, 180, 0, 104, 180, 1, 8, 27, 92, 46, 42, 4, 16, 6, 29, 4]
abbrev dktX2_evening_8 : List UInt8 := dkwX2_evening_8 ++ dktX2_evening_9
def dkwX2_evening_7 : List UInt8 := [29, 182, 0, 255, 42, 180, 0, 104, 182, 1, 11, 104, 79, 42, 180, 0, 104, 180, 0, 171, 153, 0, 34, 42]
abbrev dktX2_evening_7 : List UInt8 := dkwX2_evening_7 ++ dktX2_evening_8
def dkwX2_evening_6 : List UInt8 := [180, 0, 104, 180, 1, 8, 27, 21, 4, 154, 0, 7, 3, 167, 0, 23, 42, 180, 0, 104, 42, 180, 0, 22]
abbrev dktX2_evening_6 : List UInt8 := dkwX2_evening_6 ++ dktX2_evening_7
def dkwX2_evening_5 : List UInt8 := [182, 1, 5, 62, 42, 29, 29, 42, 180, 0, 104, 180, 0, 127, 4, 100, 182, 0, 248, 54, 4, 42]
abbrev dktX2_evening_5 : List UInt8 := dkwX2_evening_5 ++ dktX2_evening_6
def dkwX2_evening_4 : List UInt8 := [167, 0, 11, 42, 180, 0, 104, 28, 182, 1, 2, 79, 42, 18, 173, 182, 0, 93, 42, 180, 0, 104]
abbrev dktX2_evening_4 : List UInt8 := dkwX2_evening_4 ++ dktX2_evening_5
def dkwX2_evening_3 : List UInt8 := [180, 0, 154, 153, 0, 24, 42, 180, 0, 104, 42, 180, 0, 22, 42, 180, 0, 104, 180, 0, 146, 182, 0, 255]
abbrev dktX2_evening_3 : List UInt8 := dkwX2_evening_3 ++ dktX2_evening_4
def dkwX2_evening_2 : List UInt8 := [180, 0, 104, 180, 0, 127, 4, 100, 182, 0, 248, 61, 42, 180, 0, 104, 180, 0, 252, 27, 42, 180, 0, 104]
abbrev dktX2_evening_2 : List UInt8 := dkwX2_evening_2 ++ dktX2_evening_3
def dkwX2_evening_1 : List UInt8 := [180, 0, 104, 180, 0, 245, 60, 42, 42, 180, 0, 104, 180, 0, 146, 42, 180, 0, 104, 180, 0, 146, 42]
abbrev dktX2_evening_1 : List UInt8 := dkwX2_evening_1 ++ dktX2_evening_2
def dkwX2_evening_0 : List UInt8 := [42, 42, 180, 0, 104, 180, 0, 245, 16, 9, 162, 0, 7, 4, 167, 0, 4, 3, 182, 0, 225, 42]
abbrev dktX2_evening_0 : List UInt8 := dkwX2_evening_0 ++ dktX2_evening_1
theorem dksX2_evening_0 : cX2_evening.data.toList.drop 0 = dktX2_evening_0 := by decide +kernel
theorem dksX2_evening_1 : cX2_evening.data.toList.drop 22 = dktX2_evening_1 := dk_seg dksX2_evening_0 22 rfl rfl
theorem dksX2_evening_2 : cX2_evening.data.toList.drop 45 = dktX2_evening_2 := dk_seg dksX2_evening_1 23 rfl rfl
theorem dksX2_evening_3 : cX2_evening.data.toList.drop 69 = dktX2_evening_3 := dk_seg dksX2_evening_2 24 rfl rfl
theorem dksX2_evening_4 : cX2_evening.data.toList.drop 93 = dktX2_evening_4 := dk_seg dksX2_evening_3 24 rfl rfl
theorem dksX2_evening_5 : cX2_evening.data.toList.drop 115 = dktX2_evening_5 := dk_seg dksX2_evening_4 22 rfl rfl
theorem dksX2_evening_6 : cX2_evening.data.toList.drop 137 = dktX2_evening_6 := dk_seg dksX2_evening_5 22 rfl rfl
theorem dksX2_evening_7 : cX2_evening.data.toList.drop 161 = dktX2_evening_7 := dk_seg dksX2_evening_6 24 rfl rfl
theorem dksX2_evening_8 : cX2_evening.data.toList.drop 185 = dktX2_evening_8 := dk_seg dksX2_evening_7 24 rfl rfl
theorem dksX2_evening_9 : cX2_evening.data.toList.drop 209 = dktX2_evening_9 := dk_seg dksX2_evening_8 24 rfl rfl
theorem dX2_evening_0 : decode cX2_evening 0 = .ok (.aload_n 0, 1) := dk_42 (dk_at dksX2_evening_0 0 rfl rfl)
theorem dX2_evening_1 : decode cX2_evening 1 = .ok (.aload_n 0, 1) := dk_42 (dk_at dksX2_evening_0 1 rfl rfl)
theorem dX2_evening_2 : decode cX2_evening 2 = .ok (.getfield 104, 3) := dk_180 0 104 (dk_at dksX2_evening_0 2 rfl rfl)
theorem dX2_evening_5 : decode cX2_evening 5 = .ok (.getfield 245, 3) := dk_180 0 245 (dk_at dksX2_evening_0 5 rfl rfl)
theorem dX2_evening_8 : decode cX2_evening 8 = .ok (.bipush 9, 2) := dk_16 9 (dk_at dksX2_evening_0 8 rfl rfl)
theorem dX2_evening_10 : decode cX2_evening 10 = .ok (.if_icmp .ge 7, 3) := dk_162 0 7 (dk_at dksX2_evening_0 10 rfl rfl)
theorem dX2_evening_13 : decode cX2_evening 13 = .ok (.iconst 1, 1) := dk_4 (dk_at dksX2_evening_0 13 rfl rfl)
theorem dX2_evening_14 : decode cX2_evening 14 = .ok (.goto 4, 3) := dk_167 0 4 (dk_at dksX2_evening_0 14 rfl rfl)
theorem dX2_evening_17 : decode cX2_evening 17 = .ok (.iconst 0, 1) := dk_3 (dk_at dksX2_evening_0 17 rfl rfl)
theorem dX2_evening_18 : decode cX2_evening 18 = .ok (.invokevirtual 225, 3) := dk_182 0 225 (dk_at dksX2_evening_0 18 rfl rfl)
theorem dX2_evening_21 : decode cX2_evening 21 = .ok (.aload_n 0, 1) := dk_42 (dk_at dksX2_evening_0 21 rfl rfl)
theorem dX2_evening_22 : decode cX2_evening 22 = .ok (.getfield 104, 3) := dk_180 0 104 (dk_at dksX2_evening_1 0 rfl rfl)
theorem dX2_evening_25 : decode cX2_evening 25 = .ok (.getfield 245, 3) := dk_180 0 245 (dk_at dksX2_evening_1 3 rfl rfl)
theorem dX2_evening_28 : decode cX2_evening 28 = .ok (.istore_n 1, 1) := dk_60 (dk_at dksX2_evening_1 6 rfl rfl)
theorem dX2_evening_29 : decode cX2_evening 29 = .ok (.aload_n 0, 1) := dk_42 (dk_at dksX2_evening_1 7 rfl rfl)
theorem dX2_evening_30 : decode cX2_evening 30 = .ok (.aload_n 0, 1) := dk_42 (dk_at dksX2_evening_1 8 rfl rfl)
theorem dX2_evening_31 : decode cX2_evening 31 = .ok (.getfield 104, 3) := dk_180 0 104 (dk_at dksX2_evening_1 9 rfl rfl)
theorem dX2_evening_34 : decode cX2_evening 34 = .ok (.getfield 146, 3) := dk_180 0 146 (dk_at dksX2_evening_1 12 rfl rfl)
theorem dX2_evening_37 : decode cX2_evening 37 = .ok (.aload_n 0, 1) := dk_42 (dk_at dksX2_evening_1 15 rfl rfl)
theorem dX2_evening_38 : decode cX2_evening 38 = .ok (.getfield 104, 3) := dk_180 0 104 (dk_at dksX2_evening_1 16 rfl rfl)
theorem dX2_evening_41 : decode cX2_evening 41 = .ok (.getfield 146, 3) := dk_180 0 146 (dk_at dksX2_evening_1 19 rfl rfl)
theorem dX2_evening_44 : decode cX2_evening 44 = .ok (.aload_n 0, 1) := dk_42 (dk_at dksX2_evening_1 22 rfl rfl)
theorem dX2_evening_45 : decode cX2_evening 45 = .ok (.getfield 104, 3) := dk_180 0 104 (dk_at dksX2_evening_2 0 rfl rfl)
theorem dX2_evening_48 : decode cX2_evening 48 = .ok (.getfield 127, 3) := dk_180 0 127 (dk_at dksX2_evening_2 3 rfl rfl)
theorem dX2_evening_51 : decode cX2_evening 51 = .ok (.iconst 1, 1) := dk_4 (dk_at dksX2_evening_2 6 rfl rfl)
theorem dX2_evening_52 : decode cX2_evening 52 = .ok (.isub, 1) := dk_100 (dk_at dksX2_evening_2 7 rfl rfl)
theorem dX2_evening_53 : decode cX2_evening 53 = .ok (.invokevirtual 248, 3) := dk_182 0 248 (dk_at dksX2_evening_2 8 rfl rfl)
theorem dX2_evening_56 : decode cX2_evening 56 = .ok (.istore_n 2, 1) := dk_61 (dk_at dksX2_evening_2 11 rfl rfl)
theorem dX2_evening_57 : decode cX2_evening 57 = .ok (.aload_n 0, 1) := dk_42 (dk_at dksX2_evening_2 12 rfl rfl)
theorem dX2_evening_58 : decode cX2_evening 58 = .ok (.getfield 104, 3) := dk_180 0 104 (dk_at dksX2_evening_2 13 rfl rfl)
theorem dX2_evening_61 : decode cX2_evening 61 = .ok (.getfield 252, 3) := dk_180 0 252 (dk_at dksX2_evening_2 16 rfl rfl)
theorem dX2_evening_64 : decode cX2_evening 64 = .ok (.iload_n 1, 1) := dk_27 (dk_at dksX2_evening_2 19 rfl rfl)
theorem dX2_evening_65 : decode cX2_evening 65 = .ok (.aload_n 0, 1) := dk_42 (dk_at dksX2_evening_2 20 rfl rfl)
theorem dX2_evening_66 : decode cX2_evening 66 = .ok (.getfield 104, 3) := dk_180 0 104 (dk_at dksX2_evening_2 21 rfl rfl)
theorem dX2_evening_69 : decode cX2_evening 69 = .ok (.getfield 154, 3) := dk_180 0 154 (dk_at dksX2_evening_3 0 rfl rfl)
theorem dX2_evening_72 : decode cX2_evening 72 = .ok (.ifCond .eq 24, 3) := dk_153 0 24 (dk_at dksX2_evening_3 3 rfl rfl)
theorem dX2_evening_75 : decode cX2_evening 75 = .ok (.aload_n 0, 1) := dk_42 (dk_at dksX2_evening_3 6 rfl rfl)
theorem dX2_evening_76 : decode cX2_evening 76 = .ok (.getfield 104, 3) := dk_180 0 104 (dk_at dksX2_evening_3 7 rfl rfl)
theorem dX2_evening_79 : decode cX2_evening 79 = .ok (.aload_n 0, 1) := dk_42 (dk_at dksX2_evening_3 10 rfl rfl)
theorem dX2_evening_80 : decode cX2_evening 80 = .ok (.getfield 22, 3) := dk_180 0 22 (dk_at dksX2_evening_3 11 rfl rfl)
theorem dX2_evening_83 : decode cX2_evening 83 = .ok (.aload_n 0, 1) := dk_42 (dk_at dksX2_evening_3 14 rfl rfl)
theorem dX2_evening_84 : decode cX2_evening 84 = .ok (.getfield 104, 3) := dk_180 0 104 (dk_at dksX2_evening_3 15 rfl rfl)
theorem dX2_evening_87 : decode cX2_evening 87 = .ok (.getfield 146, 3) := dk_180 0 146 (dk_at dksX2_evening_3 18 rfl rfl)
theorem dX2_evening_90 : decode cX2_evening 90 = .ok (.invokevirtual 255, 3) := dk_182 0 255 (dk_at dksX2_evening_3 21 rfl rfl)
theorem dX2_evening_93 : decode cX2_evening 93 = .ok (.goto 11, 3) := dk_167 0 11 (dk_at dksX2_evening_4 0 rfl rfl)
theorem dX2_evening_96 : decode cX2_evening 96 = .ok (.aload_n 0, 1) := dk_42 (dk_at dksX2_evening_4 3 rfl rfl)
theorem dX2_evening_97 : decode cX2_evening 97 = .ok (.getfield 104, 3) := dk_180 0 104 (dk_at dksX2_evening_4 4 rfl rfl)
theorem dX2_evening_100 : decode cX2_evening 100 = .ok (.iload_n 2, 1) := dk_28 (dk_at dksX2_evening_4 7 rfl rfl)
theorem dX2_evening_101 : decode cX2_evening 101 = .ok (.invokevirtual 258, 3) := dk_182 1 2 (dk_at dksX2_evening_4 8 rfl rfl)
theorem dX2_evening_104 : decode cX2_evening 104 = .ok (.iastore, 1) := dk_79 (dk_at dksX2_evening_4 11 rfl rfl)
theorem dX2_evening_105 : decode cX2_evening 105 = .ok (.aload_n 0, 1) := dk_42 (dk_at dksX2_evening_4 12 rfl rfl)
theorem dX2_evening_106 : decode cX2_evening 106 = .ok (.ldc 173, 2) := dk_18 173 (dk_at dksX2_evening_4 13 rfl rfl)
theorem dX2_evening_108 : decode cX2_evening 108 = .ok (.invokevirtual 93, 3) := dk_182 0 93 (dk_at dksX2_evening_4 15 rfl rfl)
theorem dX2_evening_111 : decode cX2_evening 111 = .ok (.aload_n 0, 1) := dk_42 (dk_at dksX2_evening_4 18 rfl rfl)
theorem dX2_evening_112 : decode cX2_evening 112 = .ok (.getfield 104, 3) := dk_180 0 104 (dk_at dksX2_evening_4 19 rfl rfl)
theorem dX2_evening_115 : decode cX2_evening 115 = .ok (.invokevirtual 261, 3) := dk_182 1 5 (dk_at dksX2_evening_5 0 rfl rfl)
theorem dX2_evening_118 : decode cX2_evening 118 = .ok (.istore_n 3, 1) := dk_62 (dk_at dksX2_evening_5 3 rfl rfl)
theorem dX2_evening_119 : decode cX2_evening 119 = .ok (.aload_n 0, 1) := dk_42 (dk_at dksX2_evening_5 4 rfl rfl)
theorem dX2_evening_120 : decode cX2_evening 120 = .ok (.iload_n 3, 1) := dk_29 (dk_at dksX2_evening_5 5 rfl rfl)
theorem dX2_evening_121 : decode cX2_evening 121 = .ok (.iload_n 3, 1) := dk_29 (dk_at dksX2_evening_5 6 rfl rfl)
theorem dX2_evening_122 : decode cX2_evening 122 = .ok (.aload_n 0, 1) := dk_42 (dk_at dksX2_evening_5 7 rfl rfl)
theorem dX2_evening_123 : decode cX2_evening 123 = .ok (.getfield 104, 3) := dk_180 0 104 (dk_at dksX2_evening_5 8 rfl rfl)
theorem dX2_evening_126 : decode cX2_evening 126 = .ok (.getfield 127, 3) := dk_180 0 127 (dk_at dksX2_evening_5 11 rfl rfl)
theorem dX2_evening_129 : decode cX2_evening 129 = .ok (.iconst 1, 1) := dk_4 (dk_at dksX2_evening_5 14 rfl rfl)
theorem dX2_evening_130 : decode cX2_evening 130 = .ok (.isub, 1) := dk_100 (dk_at dksX2_evening_5 15 rfl rfl)
theorem dX2_evening_131 : decode cX2_evening 131 = .ok (.invokevirtual 248, 3) := dk_182 0 248 (dk_at dksX2_evening_5 16 rfl rfl)
theorem dX2_evening_134 : decode cX2_evening 134 = .ok (.istore 4, 2) := dk_54 4 (dk_at dksX2_evening_5 19 rfl rfl)
theorem dX2_evening_136 : decode cX2_evening 136 = .ok (.aload_n 0, 1) := dk_42 (dk_at dksX2_evening_5 21 rfl rfl)
theorem dX2_evening_137 : decode cX2_evening 137 = .ok (.getfield 104, 3) := dk_180 0 104 (dk_at dksX2_evening_6 0 rfl rfl)
theorem dX2_evening_140 : decode cX2_evening 140 = .ok (.getfield 264, 3) := dk_180 1 8 (dk_at dksX2_evening_6 3 rfl rfl)
theorem dX2_evening_143 : decode cX2_evening 143 = .ok (.iload_n 1, 1) := dk_27 (dk_at dksX2_evening_6 6 rfl rfl)
theorem dX2_evening_144 : decode cX2_evening 144 = .ok (.iload 4, 2) := dk_21 4 (dk_at dksX2_evening_6 7 rfl rfl)
theorem dX2_evening_146 : decode cX2_evening 146 = .ok (.ifCond .ne 7, 3) := dk_154 0 7 (dk_at dksX2_evening_6 9 rfl rfl)
theorem dX2_evening_149 : decode cX2_evening 149 = .ok (.iconst 0, 1) := dk_3 (dk_at dksX2_evening_6 12 rfl rfl)
theorem dX2_evening_150 : decode cX2_evening 150 = .ok (.goto 23, 3) := dk_167 0 23 (dk_at dksX2_evening_6 13 rfl rfl)
theorem dX2_evening_153 : decode cX2_evening 153 = .ok (.aload_n 0, 1) := dk_42 (dk_at dksX2_evening_6 16 rfl rfl)
theorem dX2_evening_154 : decode cX2_evening 154 = .ok (.getfield 104, 3) := dk_180 0 104 (dk_at dksX2_evening_6 17 rfl rfl)
theorem dX2_evening_157 : decode cX2_evening 157 = .ok (.aload_n 0, 1) := dk_42 (dk_at dksX2_evening_6 20 rfl rfl)
theorem dX2_evening_158 : decode cX2_evening 158 = .ok (.getfield 22, 3) := dk_180 0 22 (dk_at dksX2_evening_6 21 rfl rfl)
theorem dX2_evening_161 : decode cX2_evening 161 = .ok (.iload_n 3, 1) := dk_29 (dk_at dksX2_evening_7 0 rfl rfl)
theorem dX2_evening_162 : decode cX2_evening 162 = .ok (.invokevirtual 255, 3) := dk_182 0 255 (dk_at dksX2_evening_7 1 rfl rfl)
theorem dX2_evening_165 : decode cX2_evening 165 = .ok (.aload_n 0, 1) := dk_42 (dk_at dksX2_evening_7 4 rfl rfl)
theorem dX2_evening_166 : decode cX2_evening 166 = .ok (.getfield 104, 3) := dk_180 0 104 (dk_at dksX2_evening_7 5 rfl rfl)
theorem dX2_evening_169 : decode cX2_evening 169 = .ok (.invokevirtual 267, 3) := dk_182 1 11 (dk_at dksX2_evening_7 8 rfl rfl)
theorem dX2_evening_172 : decode cX2_evening 172 = .ok (.imul, 1) := dk_104 (dk_at dksX2_evening_7 11 rfl rfl)
theorem dX2_evening_173 : decode cX2_evening 173 = .ok (.iastore, 1) := dk_79 (dk_at dksX2_evening_7 12 rfl rfl)
theorem dX2_evening_174 : decode cX2_evening 174 = .ok (.aload_n 0, 1) := dk_42 (dk_at dksX2_evening_7 13 rfl rfl)
theorem dX2_evening_175 : decode cX2_evening 175 = .ok (.getfield 104, 3) := dk_180 0 104 (dk_at dksX2_evening_7 14 rfl rfl)
theorem dX2_evening_178 : decode cX2_evening 178 = .ok (.getfield 171, 3) := dk_180 0 171 (dk_at dksX2_evening_7 17 rfl rfl)
theorem dX2_evening_181 : decode cX2_evening 181 = .ok (.ifCond .eq 34, 3) := dk_153 0 34 (dk_at dksX2_evening_7 20 rfl rfl)
theorem dX2_evening_184 : decode cX2_evening 184 = .ok (.aload_n 0, 1) := dk_42 (dk_at dksX2_evening_7 23 rfl rfl)
theorem dX2_evening_185 : decode cX2_evening 185 = .ok (.ldc 175, 2) := dk_18 175 (dk_at dksX2_evening_8 0 rfl rfl)
theorem dX2_evening_187 : decode cX2_evening 187 = .ok (.invokevirtual 86, 3) := dk_182 0 86 (dk_at dksX2_evening_8 2 rfl rfl)
theorem dX2_evening_190 : decode cX2_evening 190 = .ok (.ifCond .eq 25, 3) := dk_153 0 25 (dk_at dksX2_evening_8 5 rfl rfl)
theorem dX2_evening_193 : decode cX2_evening 193 = .ok (.aload_n 0, 1) := dk_42 (dk_at dksX2_evening_8 8 rfl rfl)
theorem dX2_evening_194 : decode cX2_evening 194 = .ok (.getfield 104, 3) := dk_180 0 104 (dk_at dksX2_evening_8 9 rfl rfl)
theorem dX2_evening_197 : decode cX2_evening 197 = .ok (.getfield 264, 3) := dk_180 1 8 (dk_at dksX2_evening_8 12 rfl rfl)
theorem dX2_evening_200 : decode cX2_evening 200 = .ok (.iload_n 1, 1) := dk_27 (dk_at dksX2_evening_8 15 rfl rfl)
theorem dX2_evening_201 : decode cX2_evening 201 = .ok (.dup2, 1) := dk_92 (dk_at dksX2_evening_8 16 rfl rfl)
theorem dX2_evening_202 : decode cX2_evening 202 = .ok (.iaload, 1) := dk_46 (dk_at dksX2_evening_8 17 rfl rfl)
theorem dX2_evening_203 : decode cX2_evening 203 = .ok (.aload_n 0, 1) := dk_42 (dk_at dksX2_evening_8 18 rfl rfl)
theorem dX2_evening_204 : decode cX2_evening 204 = .ok (.iconst 1, 1) := dk_4 (dk_at dksX2_evening_8 19 rfl rfl)
theorem dX2_evening_205 : decode cX2_evening 205 = .ok (.bipush 6, 2) := dk_16 6 (dk_at dksX2_evening_8 20 rfl rfl)
theorem dX2_evening_207 : decode cX2_evening 207 = .ok (.iload_n 3, 1) := dk_29 (dk_at dksX2_evening_8 22 rfl rfl)
theorem dX2_evening_208 : decode cX2_evening 208 = .ok (.iconst 1, 1) := dk_4 (dk_at dksX2_evening_8 23 rfl rfl)
theorem dX2_evening_209 : decode cX2_evening 209 = .ok (.isub, 1) := dk_100 (dk_at dksX2_evening_9 0 rfl rfl)
theorem dX2_evening_210 : decode cX2_evening 210 = .ok (.invokevirtual 248, 3) := dk_182 0 248 (dk_at dksX2_evening_9 1 rfl rfl)
theorem dX2_evening_213 : decode cX2_evening 213 = .ok (.iadd, 1) := dk_96 (dk_at dksX2_evening_9 4 rfl rfl)
theorem dX2_evening_214 : decode cX2_evening 214 = .ok (.iastore, 1) := dk_79 (dk_at dksX2_evening_9 5 rfl rfl)
theorem dX2_evening_215 : decode cX2_evening 215 = .ok (.aload_n 0, 1) := dk_42 (dk_at dksX2_evening_9 6 rfl rfl)
theorem dX2_evening_216 : decode cX2_evening 216 = .ok (.getfield 104, 3) := dk_180 0 104 (dk_at dksX2_evening_9 7 rfl rfl)
theorem dX2_evening_219 : decode cX2_evening 219 = .ok (.dup, 1) := dk_89 (dk_at dksX2_evening_9 10 rfl rfl)
theorem dX2_evening_220 : decode cX2_evening 220 = .ok (.getfield 245, 3) := dk_180 0 245 (dk_at dksX2_evening_9 11 rfl rfl)
theorem dX2_evening_223 : decode cX2_evening 223 = .ok (.iconst 1, 1) := dk_4 (dk_at dksX2_evening_9 14 rfl rfl)
theorem dX2_evening_224 : decode cX2_evening 224 = .ok (.iadd, 1) := dk_96 (dk_at dksX2_evening_9 15 rfl rfl)
theorem dX2_evening_225 : decode cX2_evening 225 = .ok (.putfield 245, 3) := dk_181 0 245 (dk_at dksX2_evening_9 16 rfl rfl)
theorem dX2_evening_228 : decode cX2_evening 228 = .ok (.return_, 1) := dk_177 (dk_at dksX2_evening_9 19 rfl rfl)
abbrev cX2_numbers : ByteArray := prog_13_method_21_code
def yX2_numbers : MethodName := ⟨RX2, "numbers", "(III)I"⟩
def dkwX2_numbers_5 : List UInt8 := [4, 167, 0, 4, 3, 54, 6, 21, 6, 153, 0, 7, 42, 182, 0, 83, 167, 255, 133, 21, 4, 172]
abbrev dktX2_numbers_5 : List UInt8 := dkwX2_numbers_5 ++ []
def dkwX2_numbers_4 : List UInt8 := [182, 0, 89, 191, 21, 6, 154, 0, 18, 21, 5, 28, 162, 0, 16, 42, 180, 0, 51, 16, 44, 160, 0, 7]
abbrev dktX2_numbers_4 : List UInt8 := dkwX2_numbers_4 ++ dktX2_numbers_5
def dkwX2_numbers_3 : List UInt8 := [167, 0, 4, 3, 54, 6, 21, 6, 153, 0, 18, 42, 180, 0, 51, 16, 44, 159, 0, 9, 42, 4]
abbrev dktX2_numbers_3 : List UInt8 := dkwX2_numbers_3 ++ dktX2_numbers_4
def dkwX2_numbers_2 : List UInt8 := [128, 54, 4, 42, 180, 0, 22, 21, 5, 21, 7, 79, 132, 5, 1, 21, 5, 27, 162, 0, 7, 4]
abbrev dktX2_numbers_2 : List UInt8 := dkwX2_numbers_2 ++ dktX2_numbers_3
def dkwX2_numbers_1 : List UInt8 := [21, 7, 184, 0, 241, 153, 0, 9, 42, 6, 182, 0, 89, 191, 42, 182, 0, 83, 21, 4, 4, 21, 7, 120]
abbrev dktX2_numbers_1 : List UInt8 := dkwX2_numbers_1 ++ dktX2_numbers_2
def dkwX2_numbers_0 : List UInt8 := [3, 54, 4, 3, 54, 5, 4, 54, 6, 21, 6, 153, 0, 124, 42, 3, 29, 182, 0, 97, 54, 7, 21, 4]
abbrev dktX2_numbers_0 : List UInt8 := dkwX2_numbers_0 ++ dktX2_numbers_1
theorem dksX2_numbers_0 : cX2_numbers.data.toList.drop 0 = dktX2_numbers_0 := by decide +kernel
theorem dksX2_numbers_1 : cX2_numbers.data.toList.drop 24 = dktX2_numbers_1 := dk_seg dksX2_numbers_0 24 rfl rfl
theorem dksX2_numbers_2 : cX2_numbers.data.toList.drop 48 = dktX2_numbers_2 := dk_seg dksX2_numbers_1 24 rfl rfl
theorem dksX2_numbers_3 : cX2_numbers.data.toList.drop 70 = dktX2_numbers_3 := dk_seg dksX2_numbers_2 22 rfl rfl
theorem dksX2_numbers_4 : cX2_numbers.data.toList.drop 92 = dktX2_numbers_4 := dk_seg dksX2_numbers_3 22 rfl rfl
theorem dksX2_numbers_5 : cX2_numbers.data.toList.drop 116 = dktX2_numbers_5 := dk_seg dksX2_numbers_4 24 rfl rfl
theorem dX2_numbers_0 : decode cX2_numbers 0 = .ok (.iconst 0, 1) := dk_3 (dk_at dksX2_numbers_0 0 rfl rfl)
theorem dX2_numbers_1 : decode cX2_numbers 1 = .ok (.istore 4, 2) := dk_54 4 (dk_at dksX2_numbers_0 1 rfl rfl)
theorem dX2_numbers_3 : decode cX2_numbers 3 = .ok (.iconst 0, 1) := dk_3 (dk_at dksX2_numbers_0 3 rfl rfl)
theorem dX2_numbers_4 : decode cX2_numbers 4 = .ok (.istore 5, 2) := dk_54 5 (dk_at dksX2_numbers_0 4 rfl rfl)
theorem dX2_numbers_6 : decode cX2_numbers 6 = .ok (.iconst 1, 1) := dk_4 (dk_at dksX2_numbers_0 6 rfl rfl)
theorem dX2_numbers_7 : decode cX2_numbers 7 = .ok (.istore 6, 2) := dk_54 6 (dk_at dksX2_numbers_0 7 rfl rfl)
theorem dX2_numbers_9 : decode cX2_numbers 9 = .ok (.iload 6, 2) := dk_21 6 (dk_at dksX2_numbers_0 9 rfl rfl)
theorem dX2_numbers_11 : decode cX2_numbers 11 = .ok (.ifCond .eq 124, 3) := dk_153 0 124 (dk_at dksX2_numbers_0 11 rfl rfl)
theorem dX2_numbers_14 : decode cX2_numbers 14 = .ok (.aload_n 0, 1) := dk_42 (dk_at dksX2_numbers_0 14 rfl rfl)
theorem dX2_numbers_15 : decode cX2_numbers 15 = .ok (.iconst 0, 1) := dk_3 (dk_at dksX2_numbers_0 15 rfl rfl)
theorem dX2_numbers_16 : decode cX2_numbers 16 = .ok (.iload_n 3, 1) := dk_29 (dk_at dksX2_numbers_0 16 rfl rfl)
theorem dX2_numbers_17 : decode cX2_numbers 17 = .ok (.invokevirtual 97, 3) := dk_182 0 97 (dk_at dksX2_numbers_0 17 rfl rfl)
theorem dX2_numbers_20 : decode cX2_numbers 20 = .ok (.istore 7, 2) := dk_54 7 (dk_at dksX2_numbers_0 20 rfl rfl)
theorem dX2_numbers_22 : decode cX2_numbers 22 = .ok (.iload 4, 2) := dk_21 4 (dk_at dksX2_numbers_0 22 rfl rfl)
theorem dX2_numbers_24 : decode cX2_numbers 24 = .ok (.iload 7, 2) := dk_21 7 (dk_at dksX2_numbers_1 0 rfl rfl)
theorem dX2_numbers_26 : decode cX2_numbers 26 = .ok (.invokestatic 241, 3) := dk_184 0 241 (dk_at dksX2_numbers_1 2 rfl rfl)
theorem dX2_numbers_29 : decode cX2_numbers 29 = .ok (.ifCond .eq 9, 3) := dk_153 0 9 (dk_at dksX2_numbers_1 5 rfl rfl)
theorem dX2_numbers_32 : decode cX2_numbers 32 = .ok (.aload_n 0, 1) := dk_42 (dk_at dksX2_numbers_1 8 rfl rfl)
theorem dX2_numbers_33 : decode cX2_numbers 33 = .ok (.iconst 3, 1) := dk_6 (dk_at dksX2_numbers_1 9 rfl rfl)
theorem dX2_numbers_34 : decode cX2_numbers 34 = .ok (.invokevirtual 89, 3) := dk_182 0 89 (dk_at dksX2_numbers_1 10 rfl rfl)
theorem dX2_numbers_37 : decode cX2_numbers 37 = .ok (.athrow, 1) := dk_191 (dk_at dksX2_numbers_1 13 rfl rfl)
theorem dX2_numbers_38 : decode cX2_numbers 38 = .ok (.aload_n 0, 1) := dk_42 (dk_at dksX2_numbers_1 14 rfl rfl)
theorem dX2_numbers_39 : decode cX2_numbers 39 = .ok (.invokevirtual 83, 3) := dk_182 0 83 (dk_at dksX2_numbers_1 15 rfl rfl)
theorem dX2_numbers_42 : decode cX2_numbers 42 = .ok (.iload 4, 2) := dk_21 4 (dk_at dksX2_numbers_1 18 rfl rfl)
theorem dX2_numbers_44 : decode cX2_numbers 44 = .ok (.iconst 1, 1) := dk_4 (dk_at dksX2_numbers_1 20 rfl rfl)
theorem dX2_numbers_45 : decode cX2_numbers 45 = .ok (.iload 7, 2) := dk_21 7 (dk_at dksX2_numbers_1 21 rfl rfl)
theorem dX2_numbers_47 : decode cX2_numbers 47 = .ok (.ishl, 1) := dk_120 (dk_at dksX2_numbers_1 23 rfl rfl)
theorem dX2_numbers_48 : decode cX2_numbers 48 = .ok (.ior, 1) := dk_128 (dk_at dksX2_numbers_2 0 rfl rfl)
theorem dX2_numbers_49 : decode cX2_numbers 49 = .ok (.istore 4, 2) := dk_54 4 (dk_at dksX2_numbers_2 1 rfl rfl)
theorem dX2_numbers_51 : decode cX2_numbers 51 = .ok (.aload_n 0, 1) := dk_42 (dk_at dksX2_numbers_2 3 rfl rfl)
theorem dX2_numbers_52 : decode cX2_numbers 52 = .ok (.getfield 22, 3) := dk_180 0 22 (dk_at dksX2_numbers_2 4 rfl rfl)
theorem dX2_numbers_55 : decode cX2_numbers 55 = .ok (.iload 5, 2) := dk_21 5 (dk_at dksX2_numbers_2 7 rfl rfl)
theorem dX2_numbers_57 : decode cX2_numbers 57 = .ok (.iload 7, 2) := dk_21 7 (dk_at dksX2_numbers_2 9 rfl rfl)
theorem dX2_numbers_59 : decode cX2_numbers 59 = .ok (.iastore, 1) := dk_79 (dk_at dksX2_numbers_2 11 rfl rfl)
theorem dX2_numbers_60 : decode cX2_numbers 60 = .ok (.iinc 5 1, 3) := dk_132 5 1 (dk_at dksX2_numbers_2 12 rfl rfl)
theorem dX2_numbers_63 : decode cX2_numbers 63 = .ok (.iload 5, 2) := dk_21 5 (dk_at dksX2_numbers_2 15 rfl rfl)
theorem dX2_numbers_65 : decode cX2_numbers 65 = .ok (.iload_n 1, 1) := dk_27 (dk_at dksX2_numbers_2 17 rfl rfl)
theorem dX2_numbers_66 : decode cX2_numbers 66 = .ok (.if_icmp .ge 7, 3) := dk_162 0 7 (dk_at dksX2_numbers_2 18 rfl rfl)
theorem dX2_numbers_69 : decode cX2_numbers 69 = .ok (.iconst 1, 1) := dk_4 (dk_at dksX2_numbers_2 21 rfl rfl)
theorem dX2_numbers_70 : decode cX2_numbers 70 = .ok (.goto 4, 3) := dk_167 0 4 (dk_at dksX2_numbers_3 0 rfl rfl)
theorem dX2_numbers_73 : decode cX2_numbers 73 = .ok (.iconst 0, 1) := dk_3 (dk_at dksX2_numbers_3 3 rfl rfl)
theorem dX2_numbers_74 : decode cX2_numbers 74 = .ok (.istore 6, 2) := dk_54 6 (dk_at dksX2_numbers_3 4 rfl rfl)
theorem dX2_numbers_76 : decode cX2_numbers 76 = .ok (.iload 6, 2) := dk_21 6 (dk_at dksX2_numbers_3 6 rfl rfl)
theorem dX2_numbers_78 : decode cX2_numbers 78 = .ok (.ifCond .eq 18, 3) := dk_153 0 18 (dk_at dksX2_numbers_3 8 rfl rfl)
theorem dX2_numbers_81 : decode cX2_numbers 81 = .ok (.aload_n 0, 1) := dk_42 (dk_at dksX2_numbers_3 11 rfl rfl)
theorem dX2_numbers_82 : decode cX2_numbers 82 = .ok (.getfield 51, 3) := dk_180 0 51 (dk_at dksX2_numbers_3 12 rfl rfl)
theorem dX2_numbers_85 : decode cX2_numbers 85 = .ok (.bipush 44, 2) := dk_16 44 (dk_at dksX2_numbers_3 15 rfl rfl)
theorem dX2_numbers_87 : decode cX2_numbers 87 = .ok (.if_icmp .eq 9, 3) := dk_159 0 9 (dk_at dksX2_numbers_3 17 rfl rfl)
theorem dX2_numbers_90 : decode cX2_numbers 90 = .ok (.aload_n 0, 1) := dk_42 (dk_at dksX2_numbers_3 20 rfl rfl)
theorem dX2_numbers_91 : decode cX2_numbers 91 = .ok (.iconst 1, 1) := dk_4 (dk_at dksX2_numbers_3 21 rfl rfl)
theorem dX2_numbers_92 : decode cX2_numbers 92 = .ok (.invokevirtual 89, 3) := dk_182 0 89 (dk_at dksX2_numbers_4 0 rfl rfl)
theorem dX2_numbers_95 : decode cX2_numbers 95 = .ok (.athrow, 1) := dk_191 (dk_at dksX2_numbers_4 3 rfl rfl)
theorem dX2_numbers_96 : decode cX2_numbers 96 = .ok (.iload 6, 2) := dk_21 6 (dk_at dksX2_numbers_4 4 rfl rfl)
theorem dX2_numbers_98 : decode cX2_numbers 98 = .ok (.ifCond .ne 18, 3) := dk_154 0 18 (dk_at dksX2_numbers_4 6 rfl rfl)
theorem dX2_numbers_101 : decode cX2_numbers 101 = .ok (.iload 5, 2) := dk_21 5 (dk_at dksX2_numbers_4 9 rfl rfl)
theorem dX2_numbers_103 : decode cX2_numbers 103 = .ok (.iload_n 2, 1) := dk_28 (dk_at dksX2_numbers_4 11 rfl rfl)
theorem dX2_numbers_104 : decode cX2_numbers 104 = .ok (.if_icmp .ge 16, 3) := dk_162 0 16 (dk_at dksX2_numbers_4 12 rfl rfl)
theorem dX2_numbers_107 : decode cX2_numbers 107 = .ok (.aload_n 0, 1) := dk_42 (dk_at dksX2_numbers_4 15 rfl rfl)
theorem dX2_numbers_108 : decode cX2_numbers 108 = .ok (.getfield 51, 3) := dk_180 0 51 (dk_at dksX2_numbers_4 16 rfl rfl)
theorem dX2_numbers_111 : decode cX2_numbers 111 = .ok (.bipush 44, 2) := dk_16 44 (dk_at dksX2_numbers_4 19 rfl rfl)
theorem dX2_numbers_113 : decode cX2_numbers 113 = .ok (.if_icmp .ne 7, 3) := dk_160 0 7 (dk_at dksX2_numbers_4 21 rfl rfl)
theorem dX2_numbers_116 : decode cX2_numbers 116 = .ok (.iconst 1, 1) := dk_4 (dk_at dksX2_numbers_5 0 rfl rfl)
theorem dX2_numbers_117 : decode cX2_numbers 117 = .ok (.goto 4, 3) := dk_167 0 4 (dk_at dksX2_numbers_5 1 rfl rfl)
theorem dX2_numbers_120 : decode cX2_numbers 120 = .ok (.iconst 0, 1) := dk_3 (dk_at dksX2_numbers_5 4 rfl rfl)
theorem dX2_numbers_121 : decode cX2_numbers 121 = .ok (.istore 6, 2) := dk_54 6 (dk_at dksX2_numbers_5 5 rfl rfl)
theorem dX2_numbers_123 : decode cX2_numbers 123 = .ok (.iload 6, 2) := dk_21 6 (dk_at dksX2_numbers_5 7 rfl rfl)
theorem dX2_numbers_125 : decode cX2_numbers 125 = .ok (.ifCond .eq 7, 3) := dk_153 0 7 (dk_at dksX2_numbers_5 9 rfl rfl)
theorem dX2_numbers_128 : decode cX2_numbers 128 = .ok (.aload_n 0, 1) := dk_42 (dk_at dksX2_numbers_5 12 rfl rfl)
theorem dX2_numbers_129 : decode cX2_numbers 129 = .ok (.invokevirtual 83, 3) := dk_182 0 83 (dk_at dksX2_numbers_5 13 rfl rfl)
theorem dX2_numbers_132 : decode cX2_numbers 132 = .ok (.goto (-123), 3) := dk_167 255 133 (dk_at dksX2_numbers_5 16 rfl rfl)
theorem dX2_numbers_135 : decode cX2_numbers 135 = .ok (.iload 4, 2) := dk_21 4 (dk_at dksX2_numbers_5 19 rfl rfl)
theorem dX2_numbers_137 : decode cX2_numbers 137 = .ok (.ireturn, 1) := dk_172 (dk_at dksX2_numbers_5 21 rfl rfl)
theorem q123 : (Jvm.Cond.initialized "FifthCard$Reader") ∈ lw_all := lw_g (lw_at lw_m1 2 rfl) rfl
theorem q165 : (Jvm.Cond.instantiable "FifthCard$Reader" (11 : Nat)) ∈ lw_all := lw_g (lw_at lw_m1 44 rfl) rfl
theorem q167 : (Jvm.Cond.instanceMethod ({ cls := "FifthCard$Reader", name := "<init>", desc := "([B)V" } : Jvm.MethodName)) ∈ lw_all := lw_g (lw_at lw_m1 46 rfl) rfl
theorem q168 : (Jvm.Cond.code ({ cls := "FifthCard$Reader", name := "<init>", desc := "([B)V" } : Jvm.MethodName) prog_13_method_1_code (2 : Nat) (Option.none : Option Jvm.ClassFile.FieldType)) ∈ lw_all := lw_g (lw_at lw_m1 47 rfl) rfl
theorem q169 : (Jvm.Cond.methodLink "FifthCard$Reader" (3 : Nat) ({ cls := "java/lang/Object", name := "<init>", desc := "()V" } : Jvm.MethodName)) ∈ lw_all := lw_g (lw_at lw_m1 48 rfl) rfl
theorem q170 : (Jvm.Cond.classLink "FifthCard$Reader" (9 : Nat) "FifthCard$Refused") ∈ lw_all := lw_g (lw_at lw_m1 49 rfl) rfl
theorem q210 : (Jvm.Cond.methodLink "FifthCard$Reader" (11 : Nat) ({ cls := "FifthCard$Refused", name := "<init>", desc := "()V" } : Jvm.MethodName)) ∈ lw_all := lw_g (lw_at lw_m1 89 rfl) rfl
theorem q244 : (Jvm.Cond.fieldLink "FifthCard$Reader" (12 : Nat) "FifthCard$Reader" "wrong" "LFifthCard$Refused;") ∈ lw_all := lw_g (lw_at lw_m1 123 rfl) rfl
theorem q245 : (Jvm.Cond.fieldLink "FifthCard$Reader" (26 : Nat) "FifthCard$Reader" "text" "[B") ∈ lw_all := lw_g (lw_at lw_m1 124 rfl) rfl
theorem q246 : (Jvm.Cond.fieldLink "FifthCard$Reader" (18 : Nat) "FifthCard$Reader" "letters" "[C") ∈ lw_all := lw_g (lw_at lw_m1 125 rfl) rfl
theorem q247 : (Jvm.Cond.fieldLink "FifthCard$Reader" (22 : Nat) "FifthCard$Reader" "row" "[I") ∈ lw_all := lw_g (lw_at lw_m1 126 rfl) rfl
theorem q248 : (Jvm.Cond.fieldLink "FifthCard$Reader" (37 : Nat) "FifthCard$Reader" "size" "I") ∈ lw_all := lw_g (lw_at lw_m1 127 rfl) rfl
theorem q249 : (Jvm.Cond.fieldLink "FifthCard$Reader" (44 : Nat) "FifthCard$Reader" "end" "I") ∈ lw_all := lw_g (lw_at lw_m1 128 rfl) rfl
theorem q250 : (Jvm.Cond.fieldLink "FifthCard$Reader" (51 : Nat) "FifthCard$Reader" "token" "I") ∈ lw_all := lw_g (lw_at lw_m1 129 rfl) rfl
theorem q251 : (Jvm.Cond.fieldLink "FifthCard$Reader" (30 : Nat) "FifthCard$Reader" "at" "I") ∈ lw_all := lw_g (lw_at lw_m1 130 rfl) rfl
theorem q252 : (Jvm.Cond.fieldLink "FifthCard$Reader" (72 : Nat) "FifthCard$Reader" "whole" "I") ∈ lw_all := lw_g (lw_at lw_m1 131 rfl) rfl
theorem q253 : (Jvm.Cond.fieldLink "FifthCard$Reader" (65 : Nat) "FifthCard$Reader" "word" "Ljava/lang/String;") ∈ lw_all := lw_g (lw_at lw_m1 132 rfl) rfl
theorem q254 : (Jvm.Cond.fieldLink "FifthCard$Reader" (104 : Nat) "FifthCard$Reader" "trick" "LFifthCard$Trick;") ∈ lw_all := lw_g (lw_at lw_m1 133 rfl) rfl
theorem q255 : (Jvm.Cond.laysFinal "FifthCard$Reader" "FifthCard$Reader" "wrong" "LFifthCard$Refused;") ∈ lw_all := lw_g (lw_at lw_m1 134 rfl) rfl
theorem q256 : (Jvm.Cond.soleField "FifthCard$Reader" "wrong") ∈ lw_all := lw_g (lw_at lw_m1 135 rfl) rfl
theorem q257 : (Jvm.Cond.laysFinal "FifthCard$Reader" "FifthCard$Reader" "text" "[B") ∈ lw_all := lw_g (lw_at lw_m1 136 rfl) rfl
theorem q258 : (Jvm.Cond.soleField "FifthCard$Reader" "text") ∈ lw_all := lw_g (lw_at lw_m1 137 rfl) rfl
theorem q259 : (Jvm.Cond.laysFinal "FifthCard$Reader" "FifthCard$Reader" "letters" "[C") ∈ lw_all := lw_g (lw_at lw_m1 138 rfl) rfl
theorem q260 : (Jvm.Cond.soleField "FifthCard$Reader" "letters") ∈ lw_all := lw_g (lw_at lw_m1 139 rfl) rfl
theorem q261 : (Jvm.Cond.laysFinal "FifthCard$Reader" "FifthCard$Reader" "row" "[I") ∈ lw_all := lw_g (lw_at lw_m1 140 rfl) rfl
theorem q262 : (Jvm.Cond.soleField "FifthCard$Reader" "row") ∈ lw_all := lw_g (lw_at lw_m1 141 rfl) rfl
theorem q263 : (Jvm.Cond.lays "FifthCard$Reader" "FifthCard$Reader" "size" "I") ∈ lw_all := lw_g (lw_at lw_m1 142 rfl) rfl
theorem q264 : (Jvm.Cond.soleField "FifthCard$Reader" "size") ∈ lw_all := lw_g (lw_at lw_m1 143 rfl) rfl
theorem q265 : (Jvm.Cond.lays "FifthCard$Reader" "FifthCard$Reader" "end" "I") ∈ lw_all := lw_g (lw_at lw_m1 144 rfl) rfl
theorem q266 : (Jvm.Cond.soleField "FifthCard$Reader" "end") ∈ lw_all := lw_g (lw_at lw_m1 145 rfl) rfl
theorem q267 : (Jvm.Cond.lays "FifthCard$Reader" "FifthCard$Reader" "token" "I") ∈ lw_all := lw_g (lw_at lw_m1 146 rfl) rfl
theorem q268 : (Jvm.Cond.soleField "FifthCard$Reader" "token") ∈ lw_all := lw_g (lw_at lw_m1 147 rfl) rfl
theorem q269 : (Jvm.Cond.lays "FifthCard$Reader" "FifthCard$Reader" "at" "I") ∈ lw_all := lw_g (lw_at lw_m1 148 rfl) rfl
theorem q270 : (Jvm.Cond.soleField "FifthCard$Reader" "at") ∈ lw_all := lw_g (lw_at lw_m1 149 rfl) rfl
theorem q271 : (Jvm.Cond.lays "FifthCard$Reader" "FifthCard$Reader" "whole" "I") ∈ lw_all := lw_g (lw_at lw_m1 150 rfl) rfl
theorem q272 : (Jvm.Cond.soleField "FifthCard$Reader" "whole") ∈ lw_all := lw_g (lw_at lw_m1 151 rfl) rfl
theorem q273 : (Jvm.Cond.lays "FifthCard$Reader" "FifthCard$Reader" "word" "Ljava/lang/String;") ∈ lw_all := lw_g (lw_at lw_m1 152 rfl) rfl
theorem q274 : (Jvm.Cond.soleField "FifthCard$Reader" "word") ∈ lw_all := lw_g (lw_at lw_m1 153 rfl) rfl
theorem q275 : (Jvm.Cond.lays "FifthCard$Reader" "FifthCard$Reader" "trick" "LFifthCard$Trick;") ∈ lw_all := lw_g (lw_at lw_m1 154 rfl) rfl
theorem q276 : (Jvm.Cond.soleField "FifthCard$Reader" "trick") ∈ lw_all := lw_g (lw_at lw_m1 155 rfl) rfl
theorem q277 : (Jvm.Cond.superclass "FifthCard$Reader" "java/lang/Object") ∈ lw_all := lw_g (lw_at lw_m1 156 rfl) rfl
theorem q547 : (Jvm.Cond.instanceMethod ({ cls := "FifthCard$Reader", name := "read", desc := "(I)LFifthCard$Trick;" } : Jvm.MethodName)) ∈ lw_all := lw_g (lw_at lw_m2 186 rfl) rfl
theorem q548 : (Jvm.Cond.selects "FifthCard$Reader" ({ cls := "FifthCard$Reader", name := "read", desc := "(I)LFifthCard$Trick;" } : Jvm.MethodName) ({ cls := "FifthCard$Reader", name := "read", desc := "(I)LFifthCard$Trick;" } : Jvm.MethodName)) ∈ lw_all := lw_g (lw_at lw_m2 187 rfl) rfl
theorem q549 : (Jvm.Cond.code ({ cls := "FifthCard$Reader", name := "read", desc := "(I)LFifthCard$Trick;" } : Jvm.MethodName) prog_13_method_12_code (2 : Nat) (Option.some (Jvm.ClassFile.FieldType.object "FifthCard$Trick"))) ∈ lw_all := lw_g (lw_at lw_m2 188 rfl) rfl
theorem q550 : (Jvm.Cond.classLink "FifthCard$Reader" (101 : Nat) "FifthCard$Trick") ∈ lw_all := lw_g (lw_at lw_m2 189 rfl) rfl
theorem q552 : (Jvm.Cond.methodLinkNest "FifthCard$Reader" (103 : Nat) ({ cls := "FifthCard$Trick", name := "<init>", desc := "()V" } : Jvm.MethodName) "FifthCard") ∈ lw_tbl := lw_at lw_m2 191 rfl
theorem q558 : (Jvm.Cond.fieldLink "FifthCard$Reader" (229 : Nat) "FifthCard$Trick" "rules" "[LFifthCard$Rule;") ∈ lw_all := lw_g (lw_at lw_m2 197 rfl) rfl
theorem q562 : (Jvm.Cond.fieldLink "FifthCard$Reader" (252 : Nat) "FifthCard$Trick" "evenings" "[I") ∈ lw_all := lw_g (lw_at lw_m2 201 rfl) rfl
theorem q565 : (Jvm.Cond.fieldLink "FifthCard$Reader" (264 : Nat) "FifthCard$Trick" "shown" "[I") ∈ lw_all := lw_g (lw_at lw_m2 204 rfl) rfl
theorem q571 : (Jvm.Cond.fieldLink "FifthCard$Reader" (127 : Nat) "FifthCard$Trick" "cards" "I") ∈ lw_all := lw_g (lw_at lw_m2 210 rfl) rfl
theorem q574 : (Jvm.Cond.fieldLink "FifthCard$Reader" (137 : Nat) "FifthCard$Trick" "suits" "I") ∈ lw_all := lw_g (lw_at lw_m2 213 rfl) rfl
theorem q584 : (Jvm.Cond.fieldLink "FifthCard$Reader" (146 : Nat) "FifthCard$Trick" "hand" "I") ∈ lw_all := lw_g (lw_at lw_m2 223 rfl) rfl
theorem q590 : (Jvm.Cond.fieldLink "FifthCard$Reader" (150 : Nat) "FifthCard$Trick" "kept" "I") ∈ lw_all := lw_g (lw_at lw_m2 229 rfl) rfl
theorem q594 : (Jvm.Cond.fieldLink "FifthCard$Reader" (222 : Nat) "FifthCard$Trick" "ruleMany" "I") ∈ lw_all := lw_g (lw_at lw_m2 233 rfl) rfl
theorem q596 : (Jvm.Cond.fieldLink "FifthCard$Reader" (245 : Nat) "FifthCard$Trick" "eveningMany" "I") ∈ lw_all := lw_g (lw_at lw_m2 235 rfl) rfl
theorem q601 : (Jvm.Cond.fieldLink "FifthCard$Reader" (154 : Nat) "FifthCard$Trick" "stranger" "Z") ∈ lw_all := lw_g (lw_at lw_m3 0 rfl) rfl
theorem q607 : (Jvm.Cond.fieldLink "FifthCard$Reader" (167 : Nat) "FifthCard$Trick" "held" "Z") ∈ lw_all := lw_g (lw_at lw_m3 6 rfl) rfl
theorem q610 : (Jvm.Cond.fieldLink "FifthCard$Reader" (171 : Nat) "FifthCard$Trick" "tilts" "Z") ∈ lw_all := lw_g (lw_at lw_m3 9 rfl) rfl
theorem q640 : (Jvm.Cond.methodLink "FifthCard$Reader" (83 : Nat) ({ cls := "FifthCard$Reader", name := "next", desc := "()V" } : Jvm.MethodName)) ∈ lw_all := lw_g (lw_at lw_m3 39 rfl) rfl
theorem q641 : (Jvm.Cond.privateMethod ({ cls := "FifthCard$Reader", name := "next", desc := "()V" } : Jvm.MethodName)) ∈ lw_tbl := lw_at lw_m3 40 rfl
theorem q642 : (Jvm.Cond.instanceMethod ({ cls := "FifthCard$Reader", name := "next", desc := "()V" } : Jvm.MethodName)) ∈ lw_all := lw_g (lw_at lw_m3 41 rfl) rfl
theorem q643 : (Jvm.Cond.code ({ cls := "FifthCard$Reader", name := "next", desc := "()V" } : Jvm.MethodName) prog_13_method_6_code (3 : Nat) (Option.none : Option Jvm.ClassFile.FieldType)) ∈ lw_all := lw_g (lw_at lw_m3 42 rfl) rfl
theorem q644 : (Jvm.Cond.methodLink "FifthCard$Reader" (47 : Nat) ({ cls := "FifthCard$Reader", name := "see", desc := "(I)I" } : Jvm.MethodName)) ∈ lw_all := lw_g (lw_at lw_m3 43 rfl) rfl
theorem q645 : (Jvm.Cond.privateMethod ({ cls := "FifthCard$Reader", name := "see", desc := "(I)I" } : Jvm.MethodName)) ∈ lw_tbl := lw_at lw_m3 44 rfl
theorem q646 : (Jvm.Cond.instanceMethod ({ cls := "FifthCard$Reader", name := "see", desc := "(I)I" } : Jvm.MethodName)) ∈ lw_all := lw_g (lw_at lw_m3 45 rfl) rfl
theorem q647 : (Jvm.Cond.code ({ cls := "FifthCard$Reader", name := "see", desc := "(I)I" } : Jvm.MethodName) prog_13_method_3_code (2 : Nat) (Option.some Jvm.ClassFile.FieldType.int)) ∈ lw_all := lw_g (lw_at lw_m3 46 rfl) rfl
theorem q648 : (Jvm.Cond.methodLink "FifthCard$Reader" (54 : Nat) ({ cls := "FifthCard$Reader", name := "isSmall", desc := "(I)Z" } : Jvm.MethodName)) ∈ lw_all := lw_g (lw_at lw_m3 47 rfl) rfl
theorem q649 : (Jvm.Cond.static ({ cls := "FifthCard$Reader", name := "isSmall", desc := "(I)Z" } : Jvm.MethodName)) ∈ lw_all := lw_g (lw_at lw_m3 48 rfl) rfl
theorem q650 : (Jvm.Cond.code ({ cls := "FifthCard$Reader", name := "isSmall", desc := "(I)Z" } : Jvm.MethodName) prog_13_method_4_code (1 : Nat) (Option.some Jvm.ClassFile.FieldType.boolean)) ∈ lw_all := lw_g (lw_at lw_m3 49 rfl) rfl
theorem q651 : (Jvm.Cond.methodLinkNest "FifthCard$Reader" (40 : Nat) ({ cls := "FifthCard", name := "in", desc := "(III)Z" } : Jvm.MethodName) "FifthCard") ∈ lw_tbl := lw_at lw_m3 50 rfl
theorem q652 : (Jvm.Cond.classLink "FifthCard$Reader" (58 : Nat) "java/lang/String") ∈ lw_all := lw_g (lw_at lw_m3 51 rfl) rfl
theorem q654 : (Jvm.Cond.methodLink "FifthCard$Reader" (60 : Nat) ({ cls := "java/lang/String", name := "<init>", desc := "([CII)V" } : Jvm.MethodName)) ∈ lw_all := lw_g (lw_at lw_m3 53 rfl) rfl
theorem q730 : (Jvm.Cond.stringRef "FifthCard$Reader" (63 : Nat) "") ∈ lw_tbl := lw_at lw_m3 129 rfl
theorem q731 : (Jvm.Cond.methodLink "FifthCard$Reader" (69 : Nat) ({ cls := "FifthCard$Reader", name := "isDigit", desc := "(I)Z" } : Jvm.MethodName)) ∈ lw_all := lw_g (lw_at lw_m3 130 rfl) rfl
theorem q732 : (Jvm.Cond.static ({ cls := "FifthCard$Reader", name := "isDigit", desc := "(I)Z" } : Jvm.MethodName)) ∈ lw_all := lw_g (lw_at lw_m3 131 rfl) rfl
theorem q733 : (Jvm.Cond.code ({ cls := "FifthCard$Reader", name := "isDigit", desc := "(I)Z" } : Jvm.MethodName) prog_13_method_5_code (1 : Nat) (Option.some Jvm.ClassFile.FieldType.boolean)) ∈ lw_all := lw_g (lw_at lw_m3 132 rfl) rfl
theorem q734 : (Jvm.Cond.methodLink "FifthCard$Reader" (108 : Nat) ({ cls := "FifthCard$Reader", name := "line", desc := "()V" } : Jvm.MethodName)) ∈ lw_all := lw_g (lw_at lw_m3 133 rfl) rfl
theorem q735 : (Jvm.Cond.privateMethod ({ cls := "FifthCard$Reader", name := "line", desc := "()V" } : Jvm.MethodName)) ∈ lw_tbl := lw_at lw_m3 134 rfl
theorem q736 : (Jvm.Cond.instanceMethod ({ cls := "FifthCard$Reader", name := "line", desc := "()V" } : Jvm.MethodName)) ∈ lw_all := lw_g (lw_at lw_m3 135 rfl) rfl
theorem q737 : (Jvm.Cond.code ({ cls := "FifthCard$Reader", name := "line", desc := "()V" } : Jvm.MethodName) prog_13_method_13_code (3 : Nat) (Option.none : Option Jvm.ClassFile.FieldType)) ∈ lw_all := lw_g (lw_at lw_m3 136 rfl) rfl
theorem q738 : (Jvm.Cond.methodLink "FifthCard$Reader" (89 : Nat) ({ cls := "FifthCard$Reader", name := "fail", desc := "(I)LFifthCard$Refused;" } : Jvm.MethodName)) ∈ lw_all := lw_g (lw_at lw_m3 137 rfl) rfl
theorem q739 : (Jvm.Cond.privateMethod ({ cls := "FifthCard$Reader", name := "fail", desc := "(I)LFifthCard$Refused;" } : Jvm.MethodName)) ∈ lw_tbl := lw_at lw_m3 138 rfl
theorem q740 : (Jvm.Cond.instanceMethod ({ cls := "FifthCard$Reader", name := "fail", desc := "(I)LFifthCard$Refused;" } : Jvm.MethodName)) ∈ lw_all := lw_g (lw_at lw_m3 139 rfl) rfl
theorem q741 : (Jvm.Cond.code ({ cls := "FifthCard$Reader", name := "fail", desc := "(I)LFifthCard$Refused;" } : Jvm.MethodName) prog_13_method_2_code (2 : Nat) (Option.some (Jvm.ClassFile.FieldType.object "FifthCard$Refused"))) ∈ lw_all := lw_g (lw_at lw_m3 140 rfl) rfl
theorem q742 : (Jvm.Cond.methodLink "FifthCard$Reader" (34 : Nat) ({ cls := "FifthCard$Refused", name := "at", desc := "(II)LFifthCard$Refused;" } : Jvm.MethodName)) ∈ lw_all := lw_g (lw_at lw_m3 141 rfl) rfl
theorem q746 : (Jvm.Cond.methodLink "FifthCard$Reader" (111 : Nat) ({ cls := "java/lang/String", name := "hashCode", desc := "()I" } : Jvm.MethodName)) ∈ lw_all := lw_g (lw_at lw_m3 145 rfl) rfl
theorem q799 : (Jvm.Cond.stringRef "FifthCard$Reader" (115 : Nat) "trick") ∈ lw_tbl := lw_at lw_m3 198 rfl
theorem q800 : (Jvm.Cond.methodLink "FifthCard$Reader" (75 : Nat) ({ cls := "java/lang/String", name := "equals", desc := "(Ljava/lang/Object;)Z" } : Jvm.MethodName)) ∈ lw_all := lw_g (lw_at lw_m3 199 rfl) rfl
theorem q808 : (Jvm.Cond.stringRef "FifthCard$Reader" (116 : Nat) "rule") ∈ lw_tbl := lw_at lw_m3 207 rfl
theorem q809 : (Jvm.Cond.stringRef "FifthCard$Reader" (118 : Nat) "evening") ∈ lw_tbl := lw_at lw_m3 208 rfl
theorem q810 : (Jvm.Cond.methodLink "FifthCard$Reader" (120 : Nat) ({ cls := "FifthCard$Reader", name := "trickLine", desc := "()V" } : Jvm.MethodName)) ∈ lw_all := lw_g (lw_at lw_m3 209 rfl) rfl
theorem q811 : (Jvm.Cond.privateMethod ({ cls := "FifthCard$Reader", name := "trickLine", desc := "()V" } : Jvm.MethodName)) ∈ lw_tbl := lw_at lw_m3 210 rfl
theorem q812 : (Jvm.Cond.instanceMethod ({ cls := "FifthCard$Reader", name := "trickLine", desc := "()V" } : Jvm.MethodName)) ∈ lw_all := lw_g (lw_at lw_m3 211 rfl) rfl
theorem q813 : (Jvm.Cond.code ({ cls := "FifthCard$Reader", name := "trickLine", desc := "()V" } : Jvm.MethodName) prog_13_method_14_code (4 : Nat) (Option.none : Option Jvm.ClassFile.FieldType)) ∈ lw_all := lw_g (lw_at lw_m3 212 rfl) rfl
theorem q814 : (Jvm.Cond.stringRef "FifthCard$Reader" (130 : Nat) "cards") ∈ lw_tbl := lw_at lw_m3 213 rfl
theorem q815 : (Jvm.Cond.methodLink "FifthCard$Reader" (131 : Nat) ({ cls := "FifthCard$Reader", name := "after", desc := "(Ljava/lang/String;II)I" } : Jvm.MethodName)) ∈ lw_all := lw_g (lw_at lw_m3 214 rfl) rfl
theorem q816 : (Jvm.Cond.privateMethod ({ cls := "FifthCard$Reader", name := "after", desc := "(Ljava/lang/String;II)I" } : Jvm.MethodName)) ∈ lw_tbl := lw_at lw_m3 215 rfl
theorem q817 : (Jvm.Cond.instanceMethod ({ cls := "FifthCard$Reader", name := "after", desc := "(Ljava/lang/String;II)I" } : Jvm.MethodName)) ∈ lw_all := lw_g (lw_at lw_m3 216 rfl) rfl
theorem q818 : (Jvm.Cond.code ({ cls := "FifthCard$Reader", name := "after", desc := "(Ljava/lang/String;II)I" } : Jvm.MethodName) prog_13_method_11_code (5 : Nat) (Option.some Jvm.ClassFile.FieldType.int)) ∈ lw_all := lw_g (lw_at lw_m3 217 rfl) rfl
theorem q819 : (Jvm.Cond.methodLink "FifthCard$Reader" (93 : Nat) ({ cls := "FifthCard$Reader", name := "must", desc := "(Ljava/lang/String;)V" } : Jvm.MethodName)) ∈ lw_all := lw_g (lw_at lw_m3 218 rfl) rfl
theorem q820 : (Jvm.Cond.privateMethod ({ cls := "FifthCard$Reader", name := "must", desc := "(Ljava/lang/String;)V" } : Jvm.MethodName)) ∈ lw_tbl := lw_at lw_m3 219 rfl
theorem q821 : (Jvm.Cond.instanceMethod ({ cls := "FifthCard$Reader", name := "must", desc := "(Ljava/lang/String;)V" } : Jvm.MethodName)) ∈ lw_all := lw_g (lw_at lw_m3 220 rfl) rfl
theorem q822 : (Jvm.Cond.code ({ cls := "FifthCard$Reader", name := "must", desc := "(Ljava/lang/String;)V" } : Jvm.MethodName) prog_13_method_9_code (2 : Nat) (Option.none : Option Jvm.ClassFile.FieldType)) ∈ lw_all := lw_g (lw_at lw_m3 221 rfl) rfl
theorem q823 : (Jvm.Cond.methodLink "FifthCard$Reader" (86 : Nat) ({ cls := "FifthCard$Reader", name := "takes", desc := "(Ljava/lang/String;)Z" } : Jvm.MethodName)) ∈ lw_all := lw_g (lw_at lw_m3 222 rfl) rfl
theorem q824 : (Jvm.Cond.privateMethod ({ cls := "FifthCard$Reader", name := "takes", desc := "(Ljava/lang/String;)Z" } : Jvm.MethodName)) ∈ lw_tbl := lw_at lw_m3 223 rfl
theorem q825 : (Jvm.Cond.instanceMethod ({ cls := "FifthCard$Reader", name := "takes", desc := "(Ljava/lang/String;)Z" } : Jvm.MethodName)) ∈ lw_all := lw_g (lw_at lw_m3 224 rfl) rfl
theorem q826 : (Jvm.Cond.code ({ cls := "FifthCard$Reader", name := "takes", desc := "(Ljava/lang/String;)Z" } : Jvm.MethodName) prog_13_method_8_code (2 : Nat) (Option.some Jvm.ClassFile.FieldType.boolean)) ∈ lw_all := lw_g (lw_at lw_m3 225 rfl) rfl
theorem q827 : (Jvm.Cond.methodLink "FifthCard$Reader" (79 : Nat) ({ cls := "FifthCard$Reader", name := "isWord", desc := "(Ljava/lang/String;)Z" } : Jvm.MethodName)) ∈ lw_all := lw_g (lw_at lw_m3 226 rfl) rfl
theorem q828 : (Jvm.Cond.privateMethod ({ cls := "FifthCard$Reader", name := "isWord", desc := "(Ljava/lang/String;)Z" } : Jvm.MethodName)) ∈ lw_tbl := lw_at lw_m3 227 rfl
theorem q829 : (Jvm.Cond.instanceMethod ({ cls := "FifthCard$Reader", name := "isWord", desc := "(Ljava/lang/String;)Z" } : Jvm.MethodName)) ∈ lw_all := lw_g (lw_at lw_m3 228 rfl) rfl
theorem q830 : (Jvm.Cond.code ({ cls := "FifthCard$Reader", name := "isWord", desc := "(Ljava/lang/String;)Z" } : Jvm.MethodName) prog_13_method_7_code (2 : Nat) (Option.some Jvm.ClassFile.FieldType.boolean)) ∈ lw_all := lw_g (lw_at lw_m3 229 rfl) rfl
theorem q831 : (Jvm.Cond.methodLink "FifthCard$Reader" (97 : Nat) ({ cls := "FifthCard$Reader", name := "numberHere", desc := "(II)I" } : Jvm.MethodName)) ∈ lw_all := lw_g (lw_at lw_m3 230 rfl) rfl
theorem q832 : (Jvm.Cond.privateMethod ({ cls := "FifthCard$Reader", name := "numberHere", desc := "(II)I" } : Jvm.MethodName)) ∈ lw_tbl := lw_at lw_m3 231 rfl
theorem q833 : (Jvm.Cond.instanceMethod ({ cls := "FifthCard$Reader", name := "numberHere", desc := "(II)I" } : Jvm.MethodName)) ∈ lw_all := lw_g (lw_at lw_m3 232 rfl) rfl
theorem q834 : (Jvm.Cond.code ({ cls := "FifthCard$Reader", name := "numberHere", desc := "(II)I" } : Jvm.MethodName) prog_13_method_10_code (3 : Nat) (Option.some Jvm.ClassFile.FieldType.int)) ∈ lw_all := lw_g (lw_at lw_m3 233 rfl) rfl
theorem q835 : (Jvm.Cond.stringRef "FifthCard$Reader" (135 : Nat) "suits") ∈ lw_tbl := lw_at lw_m3 234 rfl
theorem q836 : (Jvm.Cond.stringRef "FifthCard$Reader" (139 : Nat) "hand") ∈ lw_tbl := lw_at lw_m3 235 rfl
theorem q837 : (Jvm.Cond.methodLink "FifthCard$Reader" (141 : Nat) ({ cls := "java/lang/Math", name := "min", desc := "(II)I" } : Jvm.MethodName)) ∈ lw_all := lw_g (lw_at lw_m3 236 rfl) rfl
theorem q840 : (Jvm.Cond.stringRef "FifthCard$Reader" (148 : Nat) "kept") ∈ lw_tbl := lw_at lw_m3 239 rfl
theorem q841 : (Jvm.Cond.stringRef "FifthCard$Reader" (152 : Nat) "stranger") ∈ lw_tbl := lw_at lw_m4 0 rfl
theorem q842 : (Jvm.Cond.stringRef "FifthCard$Reader" (157 : Nat) "she") ∈ lw_tbl := lw_at lw_m4 1 rfl
theorem q843 : (Jvm.Cond.methodLink "FifthCard$Reader" (159 : Nat) ({ cls := "FifthCard$Trick", name := "hands", desc := "(I)J" } : Jvm.MethodName)) ∈ lw_all := lw_g (lw_at lw_m4 2 rfl) rfl
theorem q854 : (Jvm.Cond.constantLong "FifthCard$Reader" (163 : Nat) (2000 : Int64)) ∈ lw_all := lw_g (lw_at lw_m4 13 rfl) rfl
theorem q855 : (Jvm.Cond.stringRef "FifthCard$Reader" (165 : Nat) "held") ∈ lw_tbl := lw_at lw_m4 14 rfl
theorem q856 : (Jvm.Cond.stringRef "FifthCard$Reader" (169 : Nat) "tilts") ∈ lw_tbl := lw_at lw_m4 15 rfl
theorem q857 : (Jvm.Cond.methodLink "FifthCard$Reader" (123 : Nat) ({ cls := "FifthCard$Reader", name := "rule", desc := "()V" } : Jvm.MethodName)) ∈ lw_all := lw_g (lw_at lw_m4 16 rfl) rfl
theorem q858 : (Jvm.Cond.privateMethod ({ cls := "FifthCard$Reader", name := "rule", desc := "()V" } : Jvm.MethodName)) ∈ lw_tbl := lw_at lw_m4 17 rfl
theorem q859 : (Jvm.Cond.instanceMethod ({ cls := "FifthCard$Reader", name := "rule", desc := "()V" } : Jvm.MethodName)) ∈ lw_all := lw_g (lw_at lw_m4 18 rfl) rfl
theorem q860 : (Jvm.Cond.code ({ cls := "FifthCard$Reader", name := "rule", desc := "()V" } : Jvm.MethodName) prog_13_method_20_code (1 : Nat) (Option.none : Option Jvm.ClassFile.FieldType)) ∈ lw_all := lw_g (lw_at lw_m4 19 rfl) rfl
theorem q861 : (Jvm.Cond.methodLink "FifthCard$Reader" (225 : Nat) ({ cls := "FifthCard$Reader", name := "begins", desc := "(Z)V" } : Jvm.MethodName)) ∈ lw_all := lw_g (lw_at lw_m4 20 rfl) rfl
theorem q862 : (Jvm.Cond.privateMethod ({ cls := "FifthCard$Reader", name := "begins", desc := "(Z)V" } : Jvm.MethodName)) ∈ lw_tbl := lw_at lw_m4 21 rfl
theorem q863 : (Jvm.Cond.instanceMethod ({ cls := "FifthCard$Reader", name := "begins", desc := "(Z)V" } : Jvm.MethodName)) ∈ lw_all := lw_g (lw_at lw_m4 22 rfl) rfl
theorem q864 : (Jvm.Cond.code ({ cls := "FifthCard$Reader", name := "begins", desc := "(Z)V" } : Jvm.MethodName) prog_13_method_15_code (2 : Nat) (Option.none : Option Jvm.ClassFile.FieldType)) ∈ lw_all := lw_g (lw_at lw_m4 23 rfl) rfl
theorem q865 : (Jvm.Cond.methodLink "FifthCard$Reader" (233 : Nat) ({ cls := "FifthCard$Reader", name := "newName", desc := "()Ljava/lang/String;" } : Jvm.MethodName)) ∈ lw_all := lw_g (lw_at lw_m4 24 rfl) rfl
theorem q866 : (Jvm.Cond.privateMethod ({ cls := "FifthCard$Reader", name := "newName", desc := "()Ljava/lang/String;" } : Jvm.MethodName)) ∈ lw_tbl := lw_at lw_m4 25 rfl
theorem q867 : (Jvm.Cond.instanceMethod ({ cls := "FifthCard$Reader", name := "newName", desc := "()Ljava/lang/String;" } : Jvm.MethodName)) ∈ lw_all := lw_g (lw_at lw_m4 26 rfl) rfl
theorem q868 : (Jvm.Cond.code ({ cls := "FifthCard$Reader", name := "newName", desc := "()Ljava/lang/String;" } : Jvm.MethodName) prog_13_method_16_code (3 : Nat) (Option.some (Jvm.ClassFile.FieldType.object "java/lang/String"))) ∈ lw_all := lw_g (lw_at lw_m4 27 rfl) rfl
theorem q869 : (Jvm.Cond.stringRef "FifthCard$Reader" (173 : Nat) "shows") ∈ lw_tbl := lw_at lw_m4 28 rfl
theorem q870 : (Jvm.Cond.stringRef "FifthCard$Reader" (175 : Nat) "tilted") ∈ lw_tbl := lw_at lw_m4 29 rfl
theorem q871 : (Jvm.Cond.methodLink "FifthCard$Reader" (177 : Nat) ({ cls := "FifthCard$Trick", name := "isTold", desc := "(Ljava/lang/String;)Z" } : Jvm.MethodName)) ∈ lw_all := lw_g (lw_at lw_m4 30 rfl) rfl
theorem q876 : (Jvm.Cond.methodLink "FifthCard$Reader" (237 : Nat) ({ cls := "FifthCard$Reader", name := "ruleOf", desc := "(Ljava/lang/String;I)LFifthCard$Rule;" } : Jvm.MethodName)) ∈ lw_all := lw_g (lw_at lw_m4 35 rfl) rfl
theorem q877 : (Jvm.Cond.privateMethod ({ cls := "FifthCard$Reader", name := "ruleOf", desc := "(Ljava/lang/String;I)LFifthCard$Rule;" } : Jvm.MethodName)) ∈ lw_tbl := lw_at lw_m4 36 rfl
theorem q878 : (Jvm.Cond.instanceMethod ({ cls := "FifthCard$Reader", name := "ruleOf", desc := "(Ljava/lang/String;I)LFifthCard$Rule;" } : Jvm.MethodName)) ∈ lw_all := lw_g (lw_at lw_m4 37 rfl) rfl
theorem q879 : (Jvm.Cond.code ({ cls := "FifthCard$Reader", name := "ruleOf", desc := "(Ljava/lang/String;I)LFifthCard$Rule;" } : Jvm.MethodName) prog_13_method_19_code (5 : Nat) (Option.some (Jvm.ClassFile.FieldType.object "FifthCard$Rule"))) ∈ lw_all := lw_g (lw_at lw_m4 38 rfl) rfl
theorem q880 : (Jvm.Cond.stringRef "FifthCard$Reader" (196 : Nat) "suit") ∈ lw_tbl := lw_at lw_m4 39 rfl
theorem q881 : (Jvm.Cond.classLink "FifthCard$Reader" (198 : Nat) "FifthCard$Suited") ∈ lw_all := lw_g (lw_at lw_m4 40 rfl) rfl
theorem q883 : (Jvm.Cond.methodLink "FifthCard$Reader" (200 : Nat) ({ cls := "FifthCard$Suited", name := "<init>", desc := "(Ljava/lang/String;I)V" } : Jvm.MethodName)) ∈ lw_all := lw_g (lw_at lw_m4 42 rfl) rfl
theorem q898 : (Jvm.Cond.stringRef "FifthCard$Reader" (203 : Nat) "table") ∈ lw_tbl := lw_at lw_m4 57 rfl
theorem q899 : (Jvm.Cond.classLink "FifthCard$Reader" (205 : Nat) "FifthCard$Tabled") ∈ lw_all := lw_g (lw_at lw_m4 58 rfl) rfl
theorem q901 : (Jvm.Cond.methodLink "FifthCard$Reader" (207 : Nat) ({ cls := "FifthCard$Tabled", name := "<init>", desc := "(Ljava/lang/String;I)V" } : Jvm.MethodName)) ∈ lw_all := lw_g (lw_at lw_m4 60 rfl) rfl
theorem q910 : (Jvm.Cond.stringRef "FifthCard$Reader" (208 : Nat) "keeps") ∈ lw_tbl := lw_at lw_m4 69 rfl
theorem q911 : (Jvm.Cond.methodLink "FifthCard$Reader" (210 : Nat) ({ cls := "FifthCard$Reader", name := "keepHere", desc := "()I" } : Jvm.MethodName)) ∈ lw_all := lw_g (lw_at lw_m4 70 rfl) rfl
theorem q912 : (Jvm.Cond.privateMethod ({ cls := "FifthCard$Reader", name := "keepHere", desc := "()I" } : Jvm.MethodName)) ∈ lw_tbl := lw_at lw_m4 71 rfl
theorem q913 : (Jvm.Cond.instanceMethod ({ cls := "FifthCard$Reader", name := "keepHere", desc := "()I" } : Jvm.MethodName)) ∈ lw_all := lw_g (lw_at lw_m4 72 rfl) rfl
theorem q914 : (Jvm.Cond.code ({ cls := "FifthCard$Reader", name := "keepHere", desc := "()I" } : Jvm.MethodName) prog_13_method_17_code (1 : Nat) (Option.some Jvm.ClassFile.FieldType.int)) ∈ lw_all := lw_g (lw_at lw_m4 73 rfl) rfl
theorem q915 : (Jvm.Cond.stringRef "FifthCard$Reader" (180 : Nat) "low") ∈ lw_tbl := lw_at lw_m4 74 rfl
theorem q916 : (Jvm.Cond.stringRef "FifthCard$Reader" (182 : Nat) "high") ∈ lw_tbl := lw_at lw_m4 75 rfl
theorem q917 : (Jvm.Cond.stringRef "FifthCard$Reader" (184 : Nat) "mid") ∈ lw_tbl := lw_at lw_m4 76 rfl
theorem q918 : (Jvm.Cond.stringRef "FifthCard$Reader" (186 : Nat) "sum") ∈ lw_tbl := lw_at lw_m4 77 rfl
theorem q919 : (Jvm.Cond.stringRef "FifthCard$Reader" (213 : Nat) "tells") ∈ lw_tbl := lw_at lw_m4 78 rfl
theorem q920 : (Jvm.Cond.methodLink "FifthCard$Reader" (215 : Nat) ({ cls := "FifthCard$Reader", name := "tellHere", desc := "()I" } : Jvm.MethodName)) ∈ lw_all := lw_g (lw_at lw_m4 79 rfl) rfl
theorem q921 : (Jvm.Cond.privateMethod ({ cls := "FifthCard$Reader", name := "tellHere", desc := "()I" } : Jvm.MethodName)) ∈ lw_tbl := lw_at lw_m4 80 rfl
theorem q922 : (Jvm.Cond.instanceMethod ({ cls := "FifthCard$Reader", name := "tellHere", desc := "()I" } : Jvm.MethodName)) ∈ lw_all := lw_g (lw_at lw_m4 81 rfl) rfl
theorem q923 : (Jvm.Cond.code ({ cls := "FifthCard$Reader", name := "tellHere", desc := "()I" } : Jvm.MethodName) prog_13_method_18_code (1 : Nat) (Option.some Jvm.ClassFile.FieldType.int)) ∈ lw_all := lw_g (lw_at lw_m4 82 rfl) rfl
theorem q924 : (Jvm.Cond.stringRef "FifthCard$Reader" (188 : Nat) "place") ∈ lw_tbl := lw_at lw_m4 83 rfl
theorem q925 : (Jvm.Cond.stringRef "FifthCard$Reader" (190 : Nat) "rank") ∈ lw_tbl := lw_at lw_m4 84 rfl
theorem q926 : (Jvm.Cond.stringRef "FifthCard$Reader" (192 : Nat) "gap") ∈ lw_tbl := lw_at lw_m4 85 rfl
theorem q927 : (Jvm.Cond.stringRef "FifthCard$Reader" (194 : Nat) "ring") ∈ lw_tbl := lw_at lw_m4 86 rfl
theorem q928 : (Jvm.Cond.methodLinkNest "FifthCard$Reader" (218 : Nat) ({ cls := "FifthCard", name := "spoken", desc := "(Ljava/lang/String;II)LFifthCard$Rule;" } : Jvm.MethodName) "FifthCard") ∈ lw_tbl := lw_at lw_m4 87 rfl
theorem q929 : (Jvm.Cond.methodLink "FifthCard$Reader" (125 : Nat) ({ cls := "FifthCard$Reader", name := "evening", desc := "()V" } : Jvm.MethodName)) ∈ lw_all := lw_g (lw_at lw_m4 88 rfl) rfl
theorem q930 : (Jvm.Cond.privateMethod ({ cls := "FifthCard$Reader", name := "evening", desc := "()V" } : Jvm.MethodName)) ∈ lw_tbl := lw_at lw_m4 89 rfl
theorem q931 : (Jvm.Cond.instanceMethod ({ cls := "FifthCard$Reader", name := "evening", desc := "()V" } : Jvm.MethodName)) ∈ lw_all := lw_g (lw_at lw_m4 90 rfl) rfl
theorem q932 : (Jvm.Cond.code ({ cls := "FifthCard$Reader", name := "evening", desc := "()V" } : Jvm.MethodName) prog_13_method_22_code (5 : Nat) (Option.none : Option Jvm.ClassFile.FieldType)) ∈ lw_all := lw_g (lw_at lw_m4 91 rfl) rfl
theorem q933 : (Jvm.Cond.methodLink "FifthCard$Reader" (248 : Nat) ({ cls := "FifthCard$Reader", name := "numbers", desc := "(III)I" } : Jvm.MethodName)) ∈ lw_all := lw_g (lw_at lw_m4 92 rfl) rfl
theorem q934 : (Jvm.Cond.privateMethod ({ cls := "FifthCard$Reader", name := "numbers", desc := "(III)I" } : Jvm.MethodName)) ∈ lw_tbl := lw_at lw_m4 93 rfl
theorem q935 : (Jvm.Cond.instanceMethod ({ cls := "FifthCard$Reader", name := "numbers", desc := "(III)I" } : Jvm.MethodName)) ∈ lw_all := lw_g (lw_at lw_m4 94 rfl) rfl
theorem q936 : (Jvm.Cond.code ({ cls := "FifthCard$Reader", name := "numbers", desc := "(III)I" } : Jvm.MethodName) prog_13_method_21_code (8 : Nat) (Option.some Jvm.ClassFile.FieldType.int)) ∈ lw_all := lw_g (lw_at lw_m4 95 rfl) rfl
theorem q937 : (Jvm.Cond.methodLinkNest "FifthCard$Reader" (241 : Nat) ({ cls := "FifthCard", name := "has", desc := "(II)Z" } : Jvm.MethodName) "FifthCard") ∈ lw_tbl := lw_at lw_m4 96 rfl
theorem q940 : (Jvm.Cond.methodLink "FifthCard$Reader" (255 : Nat) ({ cls := "FifthCard$Trick", name := "rank", desc := "([II)I" } : Jvm.MethodName)) ∈ lw_all := lw_g (lw_at lw_m4 99 rfl) rfl
theorem q945 : (Jvm.Cond.methodLink "FifthCard$Reader" (258 : Nat) ({ cls := "FifthCard$Trick", name := "rankSet", desc := "(I)I" } : Jvm.MethodName)) ∈ lw_all := lw_g (lw_at lw_m4 104 rfl) rfl
theorem q949 : (Jvm.Cond.methodLink "FifthCard$Reader" (261 : Nat) ({ cls := "FifthCard$Trick", name := "rows", desc := "()I" } : Jvm.MethodName)) ∈ lw_all := lw_g (lw_at lw_m4 108 rfl) rfl
theorem q953 : (Jvm.Cond.methodLink "FifthCard$Reader" (267 : Nat) ({ cls := "FifthCard$Trick", name := "tiltings", desc := "()I" } : Jvm.MethodName)) ∈ lw_all := lw_g (lw_at lw_m4 112 rfl) rfl
theorem q2226 : (Jvm.Cond.castable "FifthCard$Reader" "java/lang/Object") ∈ lw_tbl := lw_at lw_m9 185 rfl
theorem in_X2 : ∀ w ∈ wsX20, w ∈ lw_all := lw_in wsX20 [255, 257, 259, 261, 263, 265, 267, 269, 271, 273, 275] (by decide +kernel) (by decide +kernel)
/-! FifthCard$Refused -/
set_option maxRecDepth 100000
def RX3 : String := "FifthCard$Refused"
def TX3 : u_T := fun k => match k with
  | 0 => ("java/lang/Throwable", "cause", "Ljava/lang/Throwable;", false)
  | 1 => ("java/lang/Throwable", "stackTrace", "[Ljava/lang/StackTraceElement;", false)
  | 2 => ("java/lang/Throwable", "suppressedExceptions", "Ljava/util/List;", false)
  | 3 => ("java/lang/Throwable", "detailMessage", "Ljava/lang/String;", false)
  | 4 => ("java/lang/Throwable", "backtrace", "Ljava/lang/Object;", false)
  | 5 => ("java/lang/Throwable", "depth", "I", false)
  | 6 => ("FifthCard$Refused", "fault", "I", false)
  | _ => ("FifthCard$Refused", "place", "I", false)
def tyX3 : Nat → FieldType := fun k => match k with
  | 0 => .object "java/lang/Throwable"
  | 1 => .array (.object "java/lang/StackTraceElement")
  | 2 => .object "java/util/List"
  | 3 => .object "java/lang/String"
  | 4 => .object "java/lang/Object"
  | 5 => .int
  | 6 => .int
  | _ => .int
abbrev wsX30 : List Cond := u_ws RX3 TX3 8
theorem nmX3 : ∀ a, a < 8 → ∀ b, b < 8 → a ≠ b → (TX3 a).2.1 ≠ (TX3 b).2.1 := by decide +kernel
theorem tyX3_ok : ∀ k, k < 8 → parseFieldDescriptor (TX3 k).2.2.1 = some (tyX3 k) := by decide +kernel
abbrev cX3_init : ByteArray := prog_14_method_1_code
def yX3_init : MethodName := ⟨RX3, "<init>", "()V"⟩
def dkwX3_init_0 : List UInt8 := [42, 1, 1, 3, 3, 183, 0, 3, 42, 2, 181, 0, 9, 177]
abbrev dktX3_init_0 : List UInt8 := dkwX3_init_0 ++ []
theorem dksX3_init_0 : cX3_init.data.toList.drop 0 = dktX3_init_0 := by decide +kernel
theorem dX3_init_0 : decode cX3_init 0 = .ok (.aload_n 0, 1) := dk_42 (dk_at dksX3_init_0 0 rfl rfl)
theorem dX3_init_1 : decode cX3_init 1 = .ok (.aconst_null, 1) := dk_1 (dk_at dksX3_init_0 1 rfl rfl)
theorem dX3_init_2 : decode cX3_init 2 = .ok (.aconst_null, 1) := dk_1 (dk_at dksX3_init_0 2 rfl rfl)
theorem dX3_init_3 : decode cX3_init 3 = .ok (.iconst 0, 1) := dk_3 (dk_at dksX3_init_0 3 rfl rfl)
theorem dX3_init_4 : decode cX3_init 4 = .ok (.iconst 0, 1) := dk_3 (dk_at dksX3_init_0 4 rfl rfl)
theorem dX3_init_5 : decode cX3_init 5 = .ok (.invokespecial 3, 3) := dk_183 0 3 (dk_at dksX3_init_0 5 rfl rfl)
theorem dX3_init_8 : decode cX3_init 8 = .ok (.aload_n 0, 1) := dk_42 (dk_at dksX3_init_0 8 rfl rfl)
theorem dX3_init_9 : decode cX3_init 9 = .ok (.iconst (-1), 1) := dk_2 (dk_at dksX3_init_0 9 rfl rfl)
theorem dX3_init_10 : decode cX3_init 10 = .ok (.putfield 9, 3) := dk_181 0 9 (dk_at dksX3_init_0 10 rfl rfl)
theorem dX3_init_13 : decode cX3_init 13 = .ok (.return_, 1) := dk_177 (dk_at dksX3_init_0 13 rfl rfl)
abbrev cX3_at : ByteArray := prog_14_method_2_code
def yX3_at : MethodName := ⟨RX3, "at", "(II)LFifthCard$Refused;"⟩
def dkwX3_at_0 : List UInt8 := [42, 27, 181, 0, 15, 42, 28, 181, 0, 9, 42, 176]
abbrev dktX3_at_0 : List UInt8 := dkwX3_at_0 ++ []
theorem dksX3_at_0 : cX3_at.data.toList.drop 0 = dktX3_at_0 := by decide +kernel
theorem dX3_at_0 : decode cX3_at 0 = .ok (.aload_n 0, 1) := dk_42 (dk_at dksX3_at_0 0 rfl rfl)
theorem dX3_at_1 : decode cX3_at 1 = .ok (.iload_n 1, 1) := dk_27 (dk_at dksX3_at_0 1 rfl rfl)
theorem dX3_at_2 : decode cX3_at 2 = .ok (.putfield 15, 3) := dk_181 0 15 (dk_at dksX3_at_0 2 rfl rfl)
theorem dX3_at_5 : decode cX3_at 5 = .ok (.aload_n 0, 1) := dk_42 (dk_at dksX3_at_0 5 rfl rfl)
theorem dX3_at_6 : decode cX3_at 6 = .ok (.iload_n 2, 1) := dk_28 (dk_at dksX3_at_0 6 rfl rfl)
theorem dX3_at_7 : decode cX3_at 7 = .ok (.putfield 9, 3) := dk_181 0 9 (dk_at dksX3_at_0 7 rfl rfl)
theorem dX3_at_10 : decode cX3_at 10 = .ok (.aload_n 0, 1) := dk_42 (dk_at dksX3_at_0 10 rfl rfl)
theorem dX3_at_11 : decode cX3_at 11 = .ok (.areturn, 1) := dk_176 (dk_at dksX3_at_0 11 rfl rfl)
theorem q127 : (Jvm.Cond.initialized "FifthCard$Refused") ∈ lw_all := lw_g (lw_at lw_m1 6 rfl) rfl
theorem q171 : (Jvm.Cond.instantiable "FifthCard$Refused" (8 : Nat)) ∈ lw_all := lw_g (lw_at lw_m1 50 rfl) rfl
theorem q172 : (Jvm.Cond.castable "FifthCard$Refused" "FifthCard$Refused") ∈ lw_tbl := lw_at lw_m1 51 rfl
theorem q179 : (Jvm.Cond.selects "FifthCard$Refused" ({ cls := "java/lang/Throwable", name := "fillInStackTrace", desc := "(I)Ljava/lang/Throwable;" } : Jvm.MethodName) ({ cls := "java/lang/Throwable", name := "fillInStackTrace", desc := "(I)Ljava/lang/Throwable;" } : Jvm.MethodName)) ∈ lw_all := lw_g (lw_at lw_m1 58 rfl) rfl
theorem q180 : (Jvm.Cond.selects "FifthCard$Refused" ({ cls := "java/lang/Throwable", name := "fillInStackTrace", desc := "()Ljava/lang/Throwable;" } : Jvm.MethodName) ({ cls := "java/lang/Throwable", name := "fillInStackTrace", desc := "()Ljava/lang/Throwable;" } : Jvm.MethodName)) ∈ lw_all := lw_g (lw_at lw_m1 59 rfl) rfl
theorem q181 : (Jvm.Cond.lays "FifthCard$Refused" "java/lang/Throwable" "cause" "Ljava/lang/Throwable;") ∈ lw_all := lw_g (lw_at lw_m1 60 rfl) rfl
theorem q183 : (Jvm.Cond.lays "FifthCard$Refused" "java/lang/Throwable" "stackTrace" "[Ljava/lang/StackTraceElement;") ∈ lw_all := lw_g (lw_at lw_m1 62 rfl) rfl
theorem q185 : (Jvm.Cond.lays "FifthCard$Refused" "java/lang/Throwable" "suppressedExceptions" "Ljava/util/List;") ∈ lw_all := lw_g (lw_at lw_m1 64 rfl) rfl
theorem q187 : (Jvm.Cond.lays "FifthCard$Refused" "java/lang/Throwable" "detailMessage" "Ljava/lang/String;") ∈ lw_all := lw_g (lw_at lw_m1 66 rfl) rfl
theorem q189 : (Jvm.Cond.lays "FifthCard$Refused" "java/lang/Throwable" "backtrace" "Ljava/lang/Object;") ∈ lw_all := lw_g (lw_at lw_m1 68 rfl) rfl
theorem q211 : (Jvm.Cond.instanceMethod ({ cls := "FifthCard$Refused", name := "<init>", desc := "()V" } : Jvm.MethodName)) ∈ lw_all := lw_g (lw_at lw_m1 90 rfl) rfl
theorem q212 : (Jvm.Cond.code ({ cls := "FifthCard$Refused", name := "<init>", desc := "()V" } : Jvm.MethodName) prog_14_method_1_code (1 : Nat) (Option.none : Option Jvm.ClassFile.FieldType)) ∈ lw_all := lw_g (lw_at lw_m1 91 rfl) rfl
theorem q213 : (Jvm.Cond.methodLink "FifthCard$Refused" (3 : Nat) ({ cls := "java/lang/RuntimeException", name := "<init>", desc := "(Ljava/lang/String;Ljava/lang/Throwable;ZZ)V" } : Jvm.MethodName)) ∈ lw_all := lw_g (lw_at lw_m1 92 rfl) rfl
theorem q222 : (Jvm.Cond.fieldLink "FifthCard$Refused" (15 : Nat) "FifthCard$Refused" "fault" "I") ∈ lw_all := lw_g (lw_at lw_m1 101 rfl) rfl
theorem q224 : (Jvm.Cond.fieldLink "FifthCard$Refused" (9 : Nat) "FifthCard$Refused" "place" "I") ∈ lw_all := lw_g (lw_at lw_m1 103 rfl) rfl
theorem q231 : (Jvm.Cond.lays "FifthCard$Refused" "FifthCard$Refused" "fault" "I") ∈ lw_all := lw_g (lw_at lw_m1 110 rfl) rfl
theorem q232 : (Jvm.Cond.soleField "FifthCard$Refused" "fault") ∈ lw_all := lw_g (lw_at lw_m1 111 rfl) rfl
theorem q233 : (Jvm.Cond.lays "FifthCard$Refused" "FifthCard$Refused" "place" "I") ∈ lw_all := lw_g (lw_at lw_m1 112 rfl) rfl
theorem q234 : (Jvm.Cond.soleField "FifthCard$Refused" "place") ∈ lw_all := lw_g (lw_at lw_m1 113 rfl) rfl
theorem q239 : (Jvm.Cond.lays "FifthCard$Refused" "java/lang/Throwable" "depth" "I") ∈ lw_all := lw_g (lw_at lw_m1 118 rfl) rfl
theorem q242 : (Jvm.Cond.superclass "FifthCard$Refused" "java/lang/RuntimeException") ∈ lw_all := lw_g (lw_at lw_m1 121 rfl) rfl
theorem q743 : (Jvm.Cond.instanceMethod ({ cls := "FifthCard$Refused", name := "at", desc := "(II)LFifthCard$Refused;" } : Jvm.MethodName)) ∈ lw_all := lw_g (lw_at lw_m3 142 rfl) rfl
theorem q744 : (Jvm.Cond.selects "FifthCard$Refused" ({ cls := "FifthCard$Refused", name := "at", desc := "(II)LFifthCard$Refused;" } : Jvm.MethodName) ({ cls := "FifthCard$Refused", name := "at", desc := "(II)LFifthCard$Refused;" } : Jvm.MethodName)) ∈ lw_all := lw_g (lw_at lw_m3 143 rfl) rfl
theorem q745 : (Jvm.Cond.code ({ cls := "FifthCard$Refused", name := "at", desc := "(II)LFifthCard$Refused;" } : Jvm.MethodName) prog_14_method_2_code (3 : Nat) (Option.some (Jvm.ClassFile.FieldType.object "FifthCard$Refused"))) ∈ lw_all := lw_g (lw_at lw_m3 144 rfl) rfl
theorem q2227 : (Jvm.Cond.castable "FifthCard$Refused" "java/lang/Object") ∈ lw_tbl := lw_at lw_m9 186 rfl
theorem in_X3 : ∀ w ∈ wsX30, w ∈ lw_all := lw_in wsX30 [181, 183, 185, 187, 189, 239, 231, 233] (by decide +kernel) (by decide +kernel)
/-! FifthCard$Pairing -/
set_option maxRecDepth 100000
def RX4 : String := "FifthCard$Pairing"
def TX4 : u_T := fun k => match k with
  | 0 => ("FifthCard$Pairing", "tuples", "[I", true)
  | 1 => ("FifthCard$Pairing", "matchRow", "[I", true)
  | 2 => ("FifthCard$Pairing", "matchHand", "[I", true)
  | 3 => ("FifthCard$Pairing", "from", "[I", true)
  | 4 => ("FifthCard$Pairing", "seen", "[I", true)
  | 5 => ("FifthCard$Pairing", "queue", "[I", true)
  | 6 => ("FifthCard$Pairing", "cards", "[I", true)
  | 7 => ("FifthCard$Pairing", "row", "[I", true)
  | 8 => ("FifthCard$Pairing", "each", "I", false)
  | 9 => ("FifthCard$Pairing", "hands", "I", false)
  | 10 => ("FifthCard$Pairing", "tiltings", "I", false)
  | 11 => ("FifthCard$Pairing", "stamp", "I", false)
  | 12 => ("FifthCard$Pairing", "pairs", "I", false)
  | _ => ("FifthCard$Pairing", "isLeast", "Z", false)
def tyX4 : Nat → FieldType := fun k => match k with
  | 0 => .array .int
  | 1 => .array .int
  | 2 => .array .int
  | 3 => .array .int
  | 4 => .array .int
  | 5 => .array .int
  | 6 => .array .int
  | 7 => .array .int
  | 8 => .int
  | 9 => .int
  | 10 => .int
  | 11 => .int
  | 12 => .int
  | _ => .boolean
abbrev wsX40 : List Cond := u_ws RX4 TX4 14
set_option maxRecDepth 100000 in
theorem nmX4 : ∀ a, a < 14 → ∀ b, b < 14 → a ≠ b → (TX4 a).2.1 ≠ (TX4 b).2.1 := by decide +kernel
set_option maxRecDepth 100000 in
theorem tyX4_ok : ∀ k, k < 14 → parseFieldDescriptor (TX4 k).2.2.1 = some (tyX4 k) := by decide +kernel
abbrev cX4_init : ByteArray := prog_10_method_1_code
def yX4_init : MethodName := ⟨RX4, "<init>", "()V"⟩
def dkwX4_init_2 : List UInt8 := [17, 7, 208, 188, 10, 181, 0, 29, 42, 8, 188, 10, 181, 0, 32, 42, 8, 188, 10, 181, 0, 35, 177]
abbrev dktX4_init_2 : List UInt8 := dkwX4_init_2 ++ []
def dkwX4_init_1 : List UInt8 := [188, 10, 181, 0, 20, 42, 18, 16, 188, 10, 181, 0, 23, 42, 18, 16, 188, 10, 181, 0, 26, 42]
abbrev dktX4_init_1 : List UInt8 := dkwX4_init_1 ++ dktX4_init_2
def dkwX4_init_0 : List UInt8 := [42, 183, 0, 3, 42, 18, 9, 188, 10, 181, 0, 10, 42, 18, 16, 188, 10, 181, 0, 17, 42, 17, 7, 208]
abbrev dktX4_init_0 : List UInt8 := dkwX4_init_0 ++ dktX4_init_1
theorem dksX4_init_0 : cX4_init.data.toList.drop 0 = dktX4_init_0 := by decide +kernel
theorem dksX4_init_1 : cX4_init.data.toList.drop 24 = dktX4_init_1 := dk_seg dksX4_init_0 24 rfl rfl
theorem dksX4_init_2 : cX4_init.data.toList.drop 46 = dktX4_init_2 := dk_seg dksX4_init_1 22 rfl rfl
theorem dX4_init_0 : decode cX4_init 0 = .ok (.aload_n 0, 1) := dk_42 (dk_at dksX4_init_0 0 rfl rfl)
theorem dX4_init_1 : decode cX4_init 1 = .ok (.invokespecial 3, 3) := dk_183 0 3 (dk_at dksX4_init_0 1 rfl rfl)
theorem dX4_init_4 : decode cX4_init 4 = .ok (.aload_n 0, 1) := dk_42 (dk_at dksX4_init_0 4 rfl rfl)
theorem dX4_init_5 : decode cX4_init 5 = .ok (.ldc 9, 2) := dk_18 9 (dk_at dksX4_init_0 5 rfl rfl)
theorem dX4_init_7 : decode cX4_init 7 = .ok (.newarray .int, 2) := dk_188_10 (dk_at dksX4_init_0 7 rfl rfl)
theorem dX4_init_9 : decode cX4_init 9 = .ok (.putfield 10, 3) := dk_181 0 10 (dk_at dksX4_init_0 9 rfl rfl)
theorem dX4_init_12 : decode cX4_init 12 = .ok (.aload_n 0, 1) := dk_42 (dk_at dksX4_init_0 12 rfl rfl)
theorem dX4_init_13 : decode cX4_init 13 = .ok (.ldc 16, 2) := dk_18 16 (dk_at dksX4_init_0 13 rfl rfl)
theorem dX4_init_15 : decode cX4_init 15 = .ok (.newarray .int, 2) := dk_188_10 (dk_at dksX4_init_0 15 rfl rfl)
theorem dX4_init_17 : decode cX4_init 17 = .ok (.putfield 17, 3) := dk_181 0 17 (dk_at dksX4_init_0 17 rfl rfl)
theorem dX4_init_20 : decode cX4_init 20 = .ok (.aload_n 0, 1) := dk_42 (dk_at dksX4_init_0 20 rfl rfl)
theorem dX4_init_21 : decode cX4_init 21 = .ok (.sipush 2000, 3) := dk_17 7 208 (dk_at dksX4_init_0 21 rfl rfl)
theorem dX4_init_24 : decode cX4_init 24 = .ok (.newarray .int, 2) := dk_188_10 (dk_at dksX4_init_1 0 rfl rfl)
theorem dX4_init_26 : decode cX4_init 26 = .ok (.putfield 20, 3) := dk_181 0 20 (dk_at dksX4_init_1 2 rfl rfl)
theorem dX4_init_29 : decode cX4_init 29 = .ok (.aload_n 0, 1) := dk_42 (dk_at dksX4_init_1 5 rfl rfl)
theorem dX4_init_30 : decode cX4_init 30 = .ok (.ldc 16, 2) := dk_18 16 (dk_at dksX4_init_1 6 rfl rfl)
theorem dX4_init_32 : decode cX4_init 32 = .ok (.newarray .int, 2) := dk_188_10 (dk_at dksX4_init_1 8 rfl rfl)
theorem dX4_init_34 : decode cX4_init 34 = .ok (.putfield 23, 3) := dk_181 0 23 (dk_at dksX4_init_1 10 rfl rfl)
theorem dX4_init_37 : decode cX4_init 37 = .ok (.aload_n 0, 1) := dk_42 (dk_at dksX4_init_1 13 rfl rfl)
theorem dX4_init_38 : decode cX4_init 38 = .ok (.ldc 16, 2) := dk_18 16 (dk_at dksX4_init_1 14 rfl rfl)
theorem dX4_init_40 : decode cX4_init 40 = .ok (.newarray .int, 2) := dk_188_10 (dk_at dksX4_init_1 16 rfl rfl)
theorem dX4_init_42 : decode cX4_init 42 = .ok (.putfield 26, 3) := dk_181 0 26 (dk_at dksX4_init_1 18 rfl rfl)
theorem dX4_init_45 : decode cX4_init 45 = .ok (.aload_n 0, 1) := dk_42 (dk_at dksX4_init_1 21 rfl rfl)
theorem dX4_init_46 : decode cX4_init 46 = .ok (.sipush 2000, 3) := dk_17 7 208 (dk_at dksX4_init_2 0 rfl rfl)
theorem dX4_init_49 : decode cX4_init 49 = .ok (.newarray .int, 2) := dk_188_10 (dk_at dksX4_init_2 3 rfl rfl)
theorem dX4_init_51 : decode cX4_init 51 = .ok (.putfield 29, 3) := dk_181 0 29 (dk_at dksX4_init_2 5 rfl rfl)
theorem dX4_init_54 : decode cX4_init 54 = .ok (.aload_n 0, 1) := dk_42 (dk_at dksX4_init_2 8 rfl rfl)
theorem dX4_init_55 : decode cX4_init 55 = .ok (.iconst 5, 1) := dk_8 (dk_at dksX4_init_2 9 rfl rfl)
theorem dX4_init_56 : decode cX4_init 56 = .ok (.newarray .int, 2) := dk_188_10 (dk_at dksX4_init_2 10 rfl rfl)
theorem dX4_init_58 : decode cX4_init 58 = .ok (.putfield 32, 3) := dk_181 0 32 (dk_at dksX4_init_2 12 rfl rfl)
theorem dX4_init_61 : decode cX4_init 61 = .ok (.aload_n 0, 1) := dk_42 (dk_at dksX4_init_2 15 rfl rfl)
theorem dX4_init_62 : decode cX4_init 62 = .ok (.iconst 5, 1) := dk_8 (dk_at dksX4_init_2 16 rfl rfl)
theorem dX4_init_63 : decode cX4_init 63 = .ok (.newarray .int, 2) := dk_188_10 (dk_at dksX4_init_2 17 rfl rfl)
theorem dX4_init_65 : decode cX4_init 65 = .ok (.putfield 35, 3) := dk_181 0 35 (dk_at dksX4_init_2 19 rfl rfl)
theorem dX4_init_68 : decode cX4_init 68 = .ok (.return_, 1) := dk_177 (dk_at dksX4_init_2 22 rfl rfl)
abbrev cX4_lay : ByteArray := prog_10_method_2_code
def yX4_lay : MethodName := ⟨RX4, "lay", "(LFifthCard$Trick;)V"⟩
def dkwX4_lay_5 : List UInt8 := [28, 182, 0, 87, 132, 2, 1, 167, 255, 207, 42, 2, 181, 0, 90, 42, 3, 181, 0, 93, 177]
abbrev dktX4_lay_5 : List UInt8 := dkwX4_lay_5 ++ []
def dkwX4_lay_4 : List UInt8 := [180, 0, 55, 154, 0, 10, 43, 180, 0, 59, 153, 0, 12, 42, 43, 28, 182, 0, 83, 167, 0, 9, 42, 43]
abbrev dktX4_lay_4 : List UInt8 := dkwX4_lay_4 ++ dktX4_lay_5
def dkwX4_lay_3 : List UInt8 := [181, 0, 76, 3, 61, 28, 42, 180, 0, 47, 162, 0, 47, 43, 28, 42, 180, 0, 32, 182, 0, 79, 43]
abbrev dktX4_lay_3 : List UInt8 := dkwX4_lay_3 ++ dktX4_lay_4
def dkwX4_lay_2 : List UInt8 := [43, 182, 0, 65, 184, 0, 72, 133, 109, 167, 0, 14, 43, 180, 0, 62, 43, 182, 0, 65, 184, 0, 68, 136]
abbrev dktX4_lay_2 : List UInt8 := dkwX4_lay_2 ++ dktX4_lay_3
def dkwX4_lay_1 : List UInt8 := [180, 0, 55, 154, 0, 10, 43, 180, 0, 59, 153, 0, 26, 43, 180, 0, 62, 43, 182, 0, 65, 184, 0, 68]
abbrev dktX4_lay_1 : List UInt8 := dkwX4_lay_1 ++ dktX4_lay_2
def dkwX4_lay_0 : List UInt8 := [42, 43, 43, 180, 0, 38, 182, 0, 43, 136, 181, 0, 47, 42, 43, 182, 0, 49, 181, 0, 53, 42, 43]
abbrev dktX4_lay_0 : List UInt8 := dkwX4_lay_0 ++ dktX4_lay_1
theorem dksX4_lay_0 : cX4_lay.data.toList.drop 0 = dktX4_lay_0 := by decide +kernel
theorem dksX4_lay_1 : cX4_lay.data.toList.drop 23 = dktX4_lay_1 := dk_seg dksX4_lay_0 23 rfl rfl
theorem dksX4_lay_2 : cX4_lay.data.toList.drop 47 = dktX4_lay_2 := dk_seg dksX4_lay_1 24 rfl rfl
theorem dksX4_lay_3 : cX4_lay.data.toList.drop 71 = dktX4_lay_3 := dk_seg dksX4_lay_2 24 rfl rfl
theorem dksX4_lay_4 : cX4_lay.data.toList.drop 94 = dktX4_lay_4 := dk_seg dksX4_lay_3 23 rfl rfl
theorem dksX4_lay_5 : cX4_lay.data.toList.drop 118 = dktX4_lay_5 := dk_seg dksX4_lay_4 24 rfl rfl
theorem dX4_lay_0 : decode cX4_lay 0 = .ok (.aload_n 0, 1) := dk_42 (dk_at dksX4_lay_0 0 rfl rfl)
theorem dX4_lay_1 : decode cX4_lay 1 = .ok (.aload_n 1, 1) := dk_43 (dk_at dksX4_lay_0 1 rfl rfl)
theorem dX4_lay_2 : decode cX4_lay 2 = .ok (.aload_n 1, 1) := dk_43 (dk_at dksX4_lay_0 2 rfl rfl)
theorem dX4_lay_3 : decode cX4_lay 3 = .ok (.getfield 38, 3) := dk_180 0 38 (dk_at dksX4_lay_0 3 rfl rfl)
theorem dX4_lay_6 : decode cX4_lay 6 = .ok (.invokevirtual 43, 3) := dk_182 0 43 (dk_at dksX4_lay_0 6 rfl rfl)
theorem dX4_lay_9 : decode cX4_lay 9 = .ok (.l2i, 1) := dk_136 (dk_at dksX4_lay_0 9 rfl rfl)
theorem dX4_lay_10 : decode cX4_lay 10 = .ok (.putfield 47, 3) := dk_181 0 47 (dk_at dksX4_lay_0 10 rfl rfl)
theorem dX4_lay_13 : decode cX4_lay 13 = .ok (.aload_n 0, 1) := dk_42 (dk_at dksX4_lay_0 13 rfl rfl)
theorem dX4_lay_14 : decode cX4_lay 14 = .ok (.aload_n 1, 1) := dk_43 (dk_at dksX4_lay_0 14 rfl rfl)
theorem dX4_lay_15 : decode cX4_lay 15 = .ok (.invokevirtual 49, 3) := dk_182 0 49 (dk_at dksX4_lay_0 15 rfl rfl)
theorem dX4_lay_18 : decode cX4_lay 18 = .ok (.putfield 53, 3) := dk_181 0 53 (dk_at dksX4_lay_0 18 rfl rfl)
theorem dX4_lay_21 : decode cX4_lay 21 = .ok (.aload_n 0, 1) := dk_42 (dk_at dksX4_lay_0 21 rfl rfl)
theorem dX4_lay_22 : decode cX4_lay 22 = .ok (.aload_n 1, 1) := dk_43 (dk_at dksX4_lay_0 22 rfl rfl)
theorem dX4_lay_23 : decode cX4_lay 23 = .ok (.getfield 55, 3) := dk_180 0 55 (dk_at dksX4_lay_1 0 rfl rfl)
theorem dX4_lay_26 : decode cX4_lay 26 = .ok (.ifCond .ne 10, 3) := dk_154 0 10 (dk_at dksX4_lay_1 3 rfl rfl)
theorem dX4_lay_29 : decode cX4_lay 29 = .ok (.aload_n 1, 1) := dk_43 (dk_at dksX4_lay_1 6 rfl rfl)
theorem dX4_lay_30 : decode cX4_lay 30 = .ok (.getfield 59, 3) := dk_180 0 59 (dk_at dksX4_lay_1 7 rfl rfl)
theorem dX4_lay_33 : decode cX4_lay 33 = .ok (.ifCond .eq 26, 3) := dk_153 0 26 (dk_at dksX4_lay_1 10 rfl rfl)
theorem dX4_lay_36 : decode cX4_lay 36 = .ok (.aload_n 1, 1) := dk_43 (dk_at dksX4_lay_1 13 rfl rfl)
theorem dX4_lay_37 : decode cX4_lay 37 = .ok (.getfield 62, 3) := dk_180 0 62 (dk_at dksX4_lay_1 14 rfl rfl)
theorem dX4_lay_40 : decode cX4_lay 40 = .ok (.aload_n 1, 1) := dk_43 (dk_at dksX4_lay_1 17 rfl rfl)
theorem dX4_lay_41 : decode cX4_lay 41 = .ok (.invokevirtual 65, 3) := dk_182 0 65 (dk_at dksX4_lay_1 18 rfl rfl)
theorem dX4_lay_44 : decode cX4_lay 44 = .ok (.invokestatic 68, 3) := dk_184 0 68 (dk_at dksX4_lay_1 21 rfl rfl)
theorem dX4_lay_47 : decode cX4_lay 47 = .ok (.aload_n 1, 1) := dk_43 (dk_at dksX4_lay_2 0 rfl rfl)
theorem dX4_lay_48 : decode cX4_lay 48 = .ok (.invokevirtual 65, 3) := dk_182 0 65 (dk_at dksX4_lay_2 1 rfl rfl)
theorem dX4_lay_51 : decode cX4_lay 51 = .ok (.invokestatic 72, 3) := dk_184 0 72 (dk_at dksX4_lay_2 4 rfl rfl)
theorem dX4_lay_54 : decode cX4_lay 54 = .ok (.i2l, 1) := dk_133 (dk_at dksX4_lay_2 7 rfl rfl)
theorem dX4_lay_55 : decode cX4_lay 55 = .ok (.ldiv, 1) := dk_109 (dk_at dksX4_lay_2 8 rfl rfl)
theorem dX4_lay_56 : decode cX4_lay 56 = .ok (.goto 14, 3) := dk_167 0 14 (dk_at dksX4_lay_2 9 rfl rfl)
theorem dX4_lay_59 : decode cX4_lay 59 = .ok (.aload_n 1, 1) := dk_43 (dk_at dksX4_lay_2 12 rfl rfl)
theorem dX4_lay_60 : decode cX4_lay 60 = .ok (.getfield 62, 3) := dk_180 0 62 (dk_at dksX4_lay_2 13 rfl rfl)
theorem dX4_lay_63 : decode cX4_lay 63 = .ok (.aload_n 1, 1) := dk_43 (dk_at dksX4_lay_2 16 rfl rfl)
theorem dX4_lay_64 : decode cX4_lay 64 = .ok (.invokevirtual 65, 3) := dk_182 0 65 (dk_at dksX4_lay_2 17 rfl rfl)
theorem dX4_lay_67 : decode cX4_lay 67 = .ok (.invokestatic 68, 3) := dk_184 0 68 (dk_at dksX4_lay_2 20 rfl rfl)
theorem dX4_lay_70 : decode cX4_lay 70 = .ok (.l2i, 1) := dk_136 (dk_at dksX4_lay_2 23 rfl rfl)
theorem dX4_lay_71 : decode cX4_lay 71 = .ok (.putfield 76, 3) := dk_181 0 76 (dk_at dksX4_lay_3 0 rfl rfl)
theorem dX4_lay_74 : decode cX4_lay 74 = .ok (.iconst 0, 1) := dk_3 (dk_at dksX4_lay_3 3 rfl rfl)
theorem dX4_lay_75 : decode cX4_lay 75 = .ok (.istore_n 2, 1) := dk_61 (dk_at dksX4_lay_3 4 rfl rfl)
theorem dX4_lay_76 : decode cX4_lay 76 = .ok (.iload_n 2, 1) := dk_28 (dk_at dksX4_lay_3 5 rfl rfl)
theorem dX4_lay_77 : decode cX4_lay 77 = .ok (.aload_n 0, 1) := dk_42 (dk_at dksX4_lay_3 6 rfl rfl)
theorem dX4_lay_78 : decode cX4_lay 78 = .ok (.getfield 47, 3) := dk_180 0 47 (dk_at dksX4_lay_3 7 rfl rfl)
theorem dX4_lay_81 : decode cX4_lay 81 = .ok (.if_icmp .ge 47, 3) := dk_162 0 47 (dk_at dksX4_lay_3 10 rfl rfl)
theorem dX4_lay_84 : decode cX4_lay 84 = .ok (.aload_n 1, 1) := dk_43 (dk_at dksX4_lay_3 13 rfl rfl)
theorem dX4_lay_85 : decode cX4_lay 85 = .ok (.iload_n 2, 1) := dk_28 (dk_at dksX4_lay_3 14 rfl rfl)
theorem dX4_lay_86 : decode cX4_lay 86 = .ok (.aload_n 0, 1) := dk_42 (dk_at dksX4_lay_3 15 rfl rfl)
theorem dX4_lay_87 : decode cX4_lay 87 = .ok (.getfield 32, 3) := dk_180 0 32 (dk_at dksX4_lay_3 16 rfl rfl)
theorem dX4_lay_90 : decode cX4_lay 90 = .ok (.invokevirtual 79, 3) := dk_182 0 79 (dk_at dksX4_lay_3 19 rfl rfl)
theorem dX4_lay_93 : decode cX4_lay 93 = .ok (.aload_n 1, 1) := dk_43 (dk_at dksX4_lay_3 22 rfl rfl)
theorem dX4_lay_94 : decode cX4_lay 94 = .ok (.getfield 55, 3) := dk_180 0 55 (dk_at dksX4_lay_4 0 rfl rfl)
theorem dX4_lay_97 : decode cX4_lay 97 = .ok (.ifCond .ne 10, 3) := dk_154 0 10 (dk_at dksX4_lay_4 3 rfl rfl)
theorem dX4_lay_100 : decode cX4_lay 100 = .ok (.aload_n 1, 1) := dk_43 (dk_at dksX4_lay_4 6 rfl rfl)
theorem dX4_lay_101 : decode cX4_lay 101 = .ok (.getfield 59, 3) := dk_180 0 59 (dk_at dksX4_lay_4 7 rfl rfl)
theorem dX4_lay_104 : decode cX4_lay 104 = .ok (.ifCond .eq 12, 3) := dk_153 0 12 (dk_at dksX4_lay_4 10 rfl rfl)
theorem dX4_lay_107 : decode cX4_lay 107 = .ok (.aload_n 0, 1) := dk_42 (dk_at dksX4_lay_4 13 rfl rfl)
theorem dX4_lay_108 : decode cX4_lay 108 = .ok (.aload_n 1, 1) := dk_43 (dk_at dksX4_lay_4 14 rfl rfl)
theorem dX4_lay_109 : decode cX4_lay 109 = .ok (.iload_n 2, 1) := dk_28 (dk_at dksX4_lay_4 15 rfl rfl)
theorem dX4_lay_110 : decode cX4_lay 110 = .ok (.invokevirtual 83, 3) := dk_182 0 83 (dk_at dksX4_lay_4 16 rfl rfl)
theorem dX4_lay_113 : decode cX4_lay 113 = .ok (.goto 9, 3) := dk_167 0 9 (dk_at dksX4_lay_4 19 rfl rfl)
theorem dX4_lay_116 : decode cX4_lay 116 = .ok (.aload_n 0, 1) := dk_42 (dk_at dksX4_lay_4 22 rfl rfl)
theorem dX4_lay_117 : decode cX4_lay 117 = .ok (.aload_n 1, 1) := dk_43 (dk_at dksX4_lay_4 23 rfl rfl)
theorem dX4_lay_118 : decode cX4_lay 118 = .ok (.iload_n 2, 1) := dk_28 (dk_at dksX4_lay_5 0 rfl rfl)
theorem dX4_lay_119 : decode cX4_lay 119 = .ok (.invokevirtual 87, 3) := dk_182 0 87 (dk_at dksX4_lay_5 1 rfl rfl)
theorem dX4_lay_122 : decode cX4_lay 122 = .ok (.iinc 2 1, 3) := dk_132 2 1 (dk_at dksX4_lay_5 4 rfl rfl)
theorem dX4_lay_125 : decode cX4_lay 125 = .ok (.goto (-49), 3) := dk_167 255 207 (dk_at dksX4_lay_5 7 rfl rfl)
theorem dX4_lay_128 : decode cX4_lay 128 = .ok (.aload_n 0, 1) := dk_42 (dk_at dksX4_lay_5 10 rfl rfl)
theorem dX4_lay_129 : decode cX4_lay 129 = .ok (.iconst (-1), 1) := dk_2 (dk_at dksX4_lay_5 11 rfl rfl)
theorem dX4_lay_130 : decode cX4_lay 130 = .ok (.putfield 90, 3) := dk_181 0 90 (dk_at dksX4_lay_5 12 rfl rfl)
theorem dX4_lay_133 : decode cX4_lay 133 = .ok (.aload_n 0, 1) := dk_42 (dk_at dksX4_lay_5 15 rfl rfl)
theorem dX4_lay_134 : decode cX4_lay 134 = .ok (.iconst 0, 1) := dk_3 (dk_at dksX4_lay_5 16 rfl rfl)
theorem dX4_lay_135 : decode cX4_lay 135 = .ok (.putfield 93, 3) := dk_181 0 93 (dk_at dksX4_lay_5 17 rfl rfl)
theorem dX4_lay_138 : decode cX4_lay 138 = .ok (.return_, 1) := dk_177 (dk_at dksX4_lay_5 20 rfl rfl)
abbrev cX4_someLeftOut : ByteArray := prog_10_method_4_code
def yX4_someLeftOut : MethodName := ⟨RX4, "someLeftOut", "(LFifthCard$Trick;I)V"⟩
def dkwX4_someLeftOut_7 : List UInt8 := [132, 4, 1, 167, 255, 95, 177]
abbrev dktX4_someLeftOut_7 : List UInt8 := dkwX4_someLeftOut_7 ++ []
def dkwX4_someLeftOut_6 : List UInt8 := [21, 7, 4, 100, 46, 79, 132, 7, 255, 167, 255, 212, 42, 180, 0, 10, 21, 7, 21, 6, 79, 132, 3, 1]
abbrev dktX4_someLeftOut_6 : List UInt8 := dkwX4_someLeftOut_6 ++ dktX4_someLeftOut_7
def dkwX4_someLeftOut_5 : List UInt8 := [180, 0, 10, 21, 7, 4, 100, 46, 21, 6, 164, 0, 25, 42, 180, 0, 10, 21, 7, 42, 180, 0, 10]
abbrev dktX4_someLeftOut_5 : List UInt8 := dkwX4_someLeftOut_5 ++ dktX4_someLeftOut_6
def dkwX4_someLeftOut_4 : List UInt8 := [54, 6, 42, 180, 0, 76, 28, 104, 29, 96, 54, 7, 21, 7, 42, 180, 0, 76, 28, 104, 164, 0, 39, 42]
abbrev dktX4_someLeftOut_4 : List UInt8 := dkwX4_someLeftOut_4 ++ dktX4_someLeftOut_5
def dkwX4_someLeftOut_3 : List UInt8 := [21, 6, 46, 79, 132, 5, 1, 132, 6, 1, 167, 255, 214, 43, 42, 180, 0, 35, 21, 5, 182, 0, 100]
abbrev dktX4_someLeftOut_3 : List UInt8 := dkwX4_someLeftOut_3 ++ dktX4_someLeftOut_4
def dkwX4_someLeftOut_2 : List UInt8 := [21, 4, 21, 6, 184, 0, 96, 154, 0, 6, 167, 0, 20, 42, 180, 0, 35, 21, 5, 42, 180, 0, 32]
abbrev dktX4_someLeftOut_2 : List UInt8 := dkwX4_someLeftOut_2 ++ dktX4_someLeftOut_3
def dkwX4_someLeftOut_1 : List UInt8 := [182, 0, 65, 159, 0, 6, 167, 0, 135, 3, 54, 5, 3, 54, 6, 21, 6, 43, 180, 0, 62, 162, 0, 39]
abbrev dktX4_someLeftOut_1 : List UInt8 := dkwX4_someLeftOut_1 ++ dktX4_someLeftOut_2
def dkwX4_someLeftOut_0 : List UInt8 := [3, 62, 3, 54, 4, 21, 4, 4, 43, 180, 0, 62, 120, 162, 0, 156, 21, 4, 184, 0, 104, 43]
abbrev dktX4_someLeftOut_0 : List UInt8 := dkwX4_someLeftOut_0 ++ dktX4_someLeftOut_1
theorem dksX4_someLeftOut_0 : cX4_someLeftOut.data.toList.drop 0 = dktX4_someLeftOut_0 := by decide +kernel
theorem dksX4_someLeftOut_1 : cX4_someLeftOut.data.toList.drop 22 = dktX4_someLeftOut_1 := dk_seg dksX4_someLeftOut_0 22 rfl rfl
theorem dksX4_someLeftOut_2 : cX4_someLeftOut.data.toList.drop 46 = dktX4_someLeftOut_2 := dk_seg dksX4_someLeftOut_1 24 rfl rfl
theorem dksX4_someLeftOut_3 : cX4_someLeftOut.data.toList.drop 69 = dktX4_someLeftOut_3 := dk_seg dksX4_someLeftOut_2 23 rfl rfl
theorem dksX4_someLeftOut_4 : cX4_someLeftOut.data.toList.drop 92 = dktX4_someLeftOut_4 := dk_seg dksX4_someLeftOut_3 23 rfl rfl
theorem dksX4_someLeftOut_5 : cX4_someLeftOut.data.toList.drop 116 = dktX4_someLeftOut_5 := dk_seg dksX4_someLeftOut_4 24 rfl rfl
theorem dksX4_someLeftOut_6 : cX4_someLeftOut.data.toList.drop 139 = dktX4_someLeftOut_6 := dk_seg dksX4_someLeftOut_5 23 rfl rfl
theorem dksX4_someLeftOut_7 : cX4_someLeftOut.data.toList.drop 163 = dktX4_someLeftOut_7 := dk_seg dksX4_someLeftOut_6 24 rfl rfl
theorem dX4_someLeftOut_0 : decode cX4_someLeftOut 0 = .ok (.iconst 0, 1) := dk_3 (dk_at dksX4_someLeftOut_0 0 rfl rfl)
theorem dX4_someLeftOut_1 : decode cX4_someLeftOut 1 = .ok (.istore_n 3, 1) := dk_62 (dk_at dksX4_someLeftOut_0 1 rfl rfl)
theorem dX4_someLeftOut_2 : decode cX4_someLeftOut 2 = .ok (.iconst 0, 1) := dk_3 (dk_at dksX4_someLeftOut_0 2 rfl rfl)
theorem dX4_someLeftOut_3 : decode cX4_someLeftOut 3 = .ok (.istore 4, 2) := dk_54 4 (dk_at dksX4_someLeftOut_0 3 rfl rfl)
theorem dX4_someLeftOut_5 : decode cX4_someLeftOut 5 = .ok (.iload 4, 2) := dk_21 4 (dk_at dksX4_someLeftOut_0 5 rfl rfl)
theorem dX4_someLeftOut_7 : decode cX4_someLeftOut 7 = .ok (.iconst 1, 1) := dk_4 (dk_at dksX4_someLeftOut_0 7 rfl rfl)
theorem dX4_someLeftOut_8 : decode cX4_someLeftOut 8 = .ok (.aload_n 1, 1) := dk_43 (dk_at dksX4_someLeftOut_0 8 rfl rfl)
theorem dX4_someLeftOut_9 : decode cX4_someLeftOut 9 = .ok (.getfield 62, 3) := dk_180 0 62 (dk_at dksX4_someLeftOut_0 9 rfl rfl)
theorem dX4_someLeftOut_12 : decode cX4_someLeftOut 12 = .ok (.ishl, 1) := dk_120 (dk_at dksX4_someLeftOut_0 12 rfl rfl)
theorem dX4_someLeftOut_13 : decode cX4_someLeftOut 13 = .ok (.if_icmp .ge 156, 3) := dk_162 0 156 (dk_at dksX4_someLeftOut_0 13 rfl rfl)
theorem dX4_someLeftOut_16 : decode cX4_someLeftOut 16 = .ok (.iload 4, 2) := dk_21 4 (dk_at dksX4_someLeftOut_0 16 rfl rfl)
theorem dX4_someLeftOut_18 : decode cX4_someLeftOut 18 = .ok (.invokestatic 104, 3) := dk_184 0 104 (dk_at dksX4_someLeftOut_0 18 rfl rfl)
theorem dX4_someLeftOut_21 : decode cX4_someLeftOut 21 = .ok (.aload_n 1, 1) := dk_43 (dk_at dksX4_someLeftOut_0 21 rfl rfl)
theorem dX4_someLeftOut_22 : decode cX4_someLeftOut 22 = .ok (.invokevirtual 65, 3) := dk_182 0 65 (dk_at dksX4_someLeftOut_1 0 rfl rfl)
theorem dX4_someLeftOut_25 : decode cX4_someLeftOut 25 = .ok (.if_icmp .eq 6, 3) := dk_159 0 6 (dk_at dksX4_someLeftOut_1 3 rfl rfl)
theorem dX4_someLeftOut_28 : decode cX4_someLeftOut 28 = .ok (.goto 135, 3) := dk_167 0 135 (dk_at dksX4_someLeftOut_1 6 rfl rfl)
theorem dX4_someLeftOut_31 : decode cX4_someLeftOut 31 = .ok (.iconst 0, 1) := dk_3 (dk_at dksX4_someLeftOut_1 9 rfl rfl)
theorem dX4_someLeftOut_32 : decode cX4_someLeftOut 32 = .ok (.istore 5, 2) := dk_54 5 (dk_at dksX4_someLeftOut_1 10 rfl rfl)
theorem dX4_someLeftOut_34 : decode cX4_someLeftOut 34 = .ok (.iconst 0, 1) := dk_3 (dk_at dksX4_someLeftOut_1 12 rfl rfl)
theorem dX4_someLeftOut_35 : decode cX4_someLeftOut 35 = .ok (.istore 6, 2) := dk_54 6 (dk_at dksX4_someLeftOut_1 13 rfl rfl)
theorem dX4_someLeftOut_37 : decode cX4_someLeftOut 37 = .ok (.iload 6, 2) := dk_21 6 (dk_at dksX4_someLeftOut_1 15 rfl rfl)
theorem dX4_someLeftOut_39 : decode cX4_someLeftOut 39 = .ok (.aload_n 1, 1) := dk_43 (dk_at dksX4_someLeftOut_1 17 rfl rfl)
theorem dX4_someLeftOut_40 : decode cX4_someLeftOut 40 = .ok (.getfield 62, 3) := dk_180 0 62 (dk_at dksX4_someLeftOut_1 18 rfl rfl)
theorem dX4_someLeftOut_43 : decode cX4_someLeftOut 43 = .ok (.if_icmp .ge 39, 3) := dk_162 0 39 (dk_at dksX4_someLeftOut_1 21 rfl rfl)
theorem dX4_someLeftOut_46 : decode cX4_someLeftOut 46 = .ok (.iload 4, 2) := dk_21 4 (dk_at dksX4_someLeftOut_2 0 rfl rfl)
theorem dX4_someLeftOut_48 : decode cX4_someLeftOut 48 = .ok (.iload 6, 2) := dk_21 6 (dk_at dksX4_someLeftOut_2 2 rfl rfl)
theorem dX4_someLeftOut_50 : decode cX4_someLeftOut 50 = .ok (.invokestatic 96, 3) := dk_184 0 96 (dk_at dksX4_someLeftOut_2 4 rfl rfl)
theorem dX4_someLeftOut_53 : decode cX4_someLeftOut 53 = .ok (.ifCond .ne 6, 3) := dk_154 0 6 (dk_at dksX4_someLeftOut_2 7 rfl rfl)
theorem dX4_someLeftOut_56 : decode cX4_someLeftOut 56 = .ok (.goto 20, 3) := dk_167 0 20 (dk_at dksX4_someLeftOut_2 10 rfl rfl)
theorem dX4_someLeftOut_59 : decode cX4_someLeftOut 59 = .ok (.aload_n 0, 1) := dk_42 (dk_at dksX4_someLeftOut_2 13 rfl rfl)
theorem dX4_someLeftOut_60 : decode cX4_someLeftOut 60 = .ok (.getfield 35, 3) := dk_180 0 35 (dk_at dksX4_someLeftOut_2 14 rfl rfl)
theorem dX4_someLeftOut_63 : decode cX4_someLeftOut 63 = .ok (.iload 5, 2) := dk_21 5 (dk_at dksX4_someLeftOut_2 17 rfl rfl)
theorem dX4_someLeftOut_65 : decode cX4_someLeftOut 65 = .ok (.aload_n 0, 1) := dk_42 (dk_at dksX4_someLeftOut_2 19 rfl rfl)
theorem dX4_someLeftOut_66 : decode cX4_someLeftOut 66 = .ok (.getfield 32, 3) := dk_180 0 32 (dk_at dksX4_someLeftOut_2 20 rfl rfl)
theorem dX4_someLeftOut_69 : decode cX4_someLeftOut 69 = .ok (.iload 6, 2) := dk_21 6 (dk_at dksX4_someLeftOut_3 0 rfl rfl)
theorem dX4_someLeftOut_71 : decode cX4_someLeftOut 71 = .ok (.iaload, 1) := dk_46 (dk_at dksX4_someLeftOut_3 2 rfl rfl)
theorem dX4_someLeftOut_72 : decode cX4_someLeftOut 72 = .ok (.iastore, 1) := dk_79 (dk_at dksX4_someLeftOut_3 3 rfl rfl)
theorem dX4_someLeftOut_73 : decode cX4_someLeftOut 73 = .ok (.iinc 5 1, 3) := dk_132 5 1 (dk_at dksX4_someLeftOut_3 4 rfl rfl)
theorem dX4_someLeftOut_76 : decode cX4_someLeftOut 76 = .ok (.iinc 6 1, 3) := dk_132 6 1 (dk_at dksX4_someLeftOut_3 7 rfl rfl)
theorem dX4_someLeftOut_79 : decode cX4_someLeftOut 79 = .ok (.goto (-42), 3) := dk_167 255 214 (dk_at dksX4_someLeftOut_3 10 rfl rfl)
theorem dX4_someLeftOut_82 : decode cX4_someLeftOut 82 = .ok (.aload_n 1, 1) := dk_43 (dk_at dksX4_someLeftOut_3 13 rfl rfl)
theorem dX4_someLeftOut_83 : decode cX4_someLeftOut 83 = .ok (.aload_n 0, 1) := dk_42 (dk_at dksX4_someLeftOut_3 14 rfl rfl)
theorem dX4_someLeftOut_84 : decode cX4_someLeftOut 84 = .ok (.getfield 35, 3) := dk_180 0 35 (dk_at dksX4_someLeftOut_3 15 rfl rfl)
theorem dX4_someLeftOut_87 : decode cX4_someLeftOut 87 = .ok (.iload 5, 2) := dk_21 5 (dk_at dksX4_someLeftOut_3 18 rfl rfl)
theorem dX4_someLeftOut_89 : decode cX4_someLeftOut 89 = .ok (.invokevirtual 100, 3) := dk_182 0 100 (dk_at dksX4_someLeftOut_3 20 rfl rfl)
theorem dX4_someLeftOut_92 : decode cX4_someLeftOut 92 = .ok (.istore 6, 2) := dk_54 6 (dk_at dksX4_someLeftOut_4 0 rfl rfl)
theorem dX4_someLeftOut_94 : decode cX4_someLeftOut 94 = .ok (.aload_n 0, 1) := dk_42 (dk_at dksX4_someLeftOut_4 2 rfl rfl)
theorem dX4_someLeftOut_95 : decode cX4_someLeftOut 95 = .ok (.getfield 76, 3) := dk_180 0 76 (dk_at dksX4_someLeftOut_4 3 rfl rfl)
theorem dX4_someLeftOut_98 : decode cX4_someLeftOut 98 = .ok (.iload_n 2, 1) := dk_28 (dk_at dksX4_someLeftOut_4 6 rfl rfl)
theorem dX4_someLeftOut_99 : decode cX4_someLeftOut 99 = .ok (.imul, 1) := dk_104 (dk_at dksX4_someLeftOut_4 7 rfl rfl)
theorem dX4_someLeftOut_100 : decode cX4_someLeftOut 100 = .ok (.iload_n 3, 1) := dk_29 (dk_at dksX4_someLeftOut_4 8 rfl rfl)
theorem dX4_someLeftOut_101 : decode cX4_someLeftOut 101 = .ok (.iadd, 1) := dk_96 (dk_at dksX4_someLeftOut_4 9 rfl rfl)
theorem dX4_someLeftOut_102 : decode cX4_someLeftOut 102 = .ok (.istore 7, 2) := dk_54 7 (dk_at dksX4_someLeftOut_4 10 rfl rfl)
theorem dX4_someLeftOut_104 : decode cX4_someLeftOut 104 = .ok (.iload 7, 2) := dk_21 7 (dk_at dksX4_someLeftOut_4 12 rfl rfl)
theorem dX4_someLeftOut_106 : decode cX4_someLeftOut 106 = .ok (.aload_n 0, 1) := dk_42 (dk_at dksX4_someLeftOut_4 14 rfl rfl)
theorem dX4_someLeftOut_107 : decode cX4_someLeftOut 107 = .ok (.getfield 76, 3) := dk_180 0 76 (dk_at dksX4_someLeftOut_4 15 rfl rfl)
theorem dX4_someLeftOut_110 : decode cX4_someLeftOut 110 = .ok (.iload_n 2, 1) := dk_28 (dk_at dksX4_someLeftOut_4 18 rfl rfl)
theorem dX4_someLeftOut_111 : decode cX4_someLeftOut 111 = .ok (.imul, 1) := dk_104 (dk_at dksX4_someLeftOut_4 19 rfl rfl)
theorem dX4_someLeftOut_112 : decode cX4_someLeftOut 112 = .ok (.if_icmp .le 39, 3) := dk_164 0 39 (dk_at dksX4_someLeftOut_4 20 rfl rfl)
theorem dX4_someLeftOut_115 : decode cX4_someLeftOut 115 = .ok (.aload_n 0, 1) := dk_42 (dk_at dksX4_someLeftOut_4 23 rfl rfl)
theorem dX4_someLeftOut_116 : decode cX4_someLeftOut 116 = .ok (.getfield 10, 3) := dk_180 0 10 (dk_at dksX4_someLeftOut_5 0 rfl rfl)
theorem dX4_someLeftOut_119 : decode cX4_someLeftOut 119 = .ok (.iload 7, 2) := dk_21 7 (dk_at dksX4_someLeftOut_5 3 rfl rfl)
theorem dX4_someLeftOut_121 : decode cX4_someLeftOut 121 = .ok (.iconst 1, 1) := dk_4 (dk_at dksX4_someLeftOut_5 5 rfl rfl)
theorem dX4_someLeftOut_122 : decode cX4_someLeftOut 122 = .ok (.isub, 1) := dk_100 (dk_at dksX4_someLeftOut_5 6 rfl rfl)
theorem dX4_someLeftOut_123 : decode cX4_someLeftOut 123 = .ok (.iaload, 1) := dk_46 (dk_at dksX4_someLeftOut_5 7 rfl rfl)
theorem dX4_someLeftOut_124 : decode cX4_someLeftOut 124 = .ok (.iload 6, 2) := dk_21 6 (dk_at dksX4_someLeftOut_5 8 rfl rfl)
theorem dX4_someLeftOut_126 : decode cX4_someLeftOut 126 = .ok (.if_icmp .le 25, 3) := dk_164 0 25 (dk_at dksX4_someLeftOut_5 10 rfl rfl)
theorem dX4_someLeftOut_129 : decode cX4_someLeftOut 129 = .ok (.aload_n 0, 1) := dk_42 (dk_at dksX4_someLeftOut_5 13 rfl rfl)
theorem dX4_someLeftOut_130 : decode cX4_someLeftOut 130 = .ok (.getfield 10, 3) := dk_180 0 10 (dk_at dksX4_someLeftOut_5 14 rfl rfl)
theorem dX4_someLeftOut_133 : decode cX4_someLeftOut 133 = .ok (.iload 7, 2) := dk_21 7 (dk_at dksX4_someLeftOut_5 17 rfl rfl)
theorem dX4_someLeftOut_135 : decode cX4_someLeftOut 135 = .ok (.aload_n 0, 1) := dk_42 (dk_at dksX4_someLeftOut_5 19 rfl rfl)
theorem dX4_someLeftOut_136 : decode cX4_someLeftOut 136 = .ok (.getfield 10, 3) := dk_180 0 10 (dk_at dksX4_someLeftOut_5 20 rfl rfl)
theorem dX4_someLeftOut_139 : decode cX4_someLeftOut 139 = .ok (.iload 7, 2) := dk_21 7 (dk_at dksX4_someLeftOut_6 0 rfl rfl)
theorem dX4_someLeftOut_141 : decode cX4_someLeftOut 141 = .ok (.iconst 1, 1) := dk_4 (dk_at dksX4_someLeftOut_6 2 rfl rfl)
theorem dX4_someLeftOut_142 : decode cX4_someLeftOut 142 = .ok (.isub, 1) := dk_100 (dk_at dksX4_someLeftOut_6 3 rfl rfl)
theorem dX4_someLeftOut_143 : decode cX4_someLeftOut 143 = .ok (.iaload, 1) := dk_46 (dk_at dksX4_someLeftOut_6 4 rfl rfl)
theorem dX4_someLeftOut_144 : decode cX4_someLeftOut 144 = .ok (.iastore, 1) := dk_79 (dk_at dksX4_someLeftOut_6 5 rfl rfl)
theorem dX4_someLeftOut_145 : decode cX4_someLeftOut 145 = .ok (.iinc 7 (-1), 3) := dk_132 7 255 (dk_at dksX4_someLeftOut_6 6 rfl rfl)
theorem dX4_someLeftOut_148 : decode cX4_someLeftOut 148 = .ok (.goto (-44), 3) := dk_167 255 212 (dk_at dksX4_someLeftOut_6 9 rfl rfl)
theorem dX4_someLeftOut_151 : decode cX4_someLeftOut 151 = .ok (.aload_n 0, 1) := dk_42 (dk_at dksX4_someLeftOut_6 12 rfl rfl)
theorem dX4_someLeftOut_152 : decode cX4_someLeftOut 152 = .ok (.getfield 10, 3) := dk_180 0 10 (dk_at dksX4_someLeftOut_6 13 rfl rfl)
theorem dX4_someLeftOut_155 : decode cX4_someLeftOut 155 = .ok (.iload 7, 2) := dk_21 7 (dk_at dksX4_someLeftOut_6 16 rfl rfl)
theorem dX4_someLeftOut_157 : decode cX4_someLeftOut 157 = .ok (.iload 6, 2) := dk_21 6 (dk_at dksX4_someLeftOut_6 18 rfl rfl)
theorem dX4_someLeftOut_159 : decode cX4_someLeftOut 159 = .ok (.iastore, 1) := dk_79 (dk_at dksX4_someLeftOut_6 20 rfl rfl)
theorem dX4_someLeftOut_160 : decode cX4_someLeftOut 160 = .ok (.iinc 3 1, 3) := dk_132 3 1 (dk_at dksX4_someLeftOut_6 21 rfl rfl)
theorem dX4_someLeftOut_163 : decode cX4_someLeftOut 163 = .ok (.iinc 4 1, 3) := dk_132 4 1 (dk_at dksX4_someLeftOut_7 0 rfl rfl)
theorem dX4_someLeftOut_166 : decode cX4_someLeftOut 166 = .ok (.goto (-161), 3) := dk_167 255 95 (dk_at dksX4_someLeftOut_7 3 rfl rfl)
theorem dX4_someLeftOut_169 : decode cX4_someLeftOut 169 = .ok (.return_, 1) := dk_177 (dk_at dksX4_someLeftOut_7 6 rfl rfl)
abbrev cX4_allOrders : ByteArray := prog_10_method_3_code
def yX4_allOrders : MethodName := ⟨RX4, "allOrders", "(LFifthCard$Trick;I)V"⟩
def dkwX4_allOrders_7 : List UInt8 := [132, 4, 1, 167, 255, 97, 177]
abbrev dktX4_allOrders_7 : List UInt8 := dkwX4_allOrders_7 ++ []
def dkwX4_allOrders_6 : List UInt8 := [180, 0, 10, 42, 180, 0, 76, 28, 104, 21, 4, 96, 43, 42, 180, 0, 35, 29, 182, 0, 100, 79]
abbrev dktX4_allOrders_6 : List UInt8 := dkwX4_allOrders_6 ++ dktX4_allOrders_7
def dkwX4_allOrders_5 : List UInt8 := [54, 6, 42, 180, 0, 35, 21, 7, 42, 180, 0, 32, 21, 10, 46, 79, 132, 7, 1, 167, 255, 145, 42]
abbrev dktX4_allOrders_5 : List UInt8 := dkwX4_allOrders_5 ++ dktX4_allOrders_6
def dkwX4_allOrders_4 : List UInt8 := [153, 0, 7, 3, 167, 0, 4, 4, 100, 54, 9, 132, 10, 1, 167, 255, 218, 21, 6, 4, 21, 10, 120, 128]
abbrev dktX4_allOrders_4 : List UInt8 := dkwX4_allOrders_4 ++ dktX4_allOrders_5
def dkwX4_allOrders_3 : List UInt8 := [21, 6, 21, 10, 184, 0, 96, 154, 0, 8, 21, 9, 158, 0, 29, 21, 9, 21, 6, 21, 10, 184, 0, 96]
abbrev dktX4_allOrders_3 : List UInt8 := dkwX4_allOrders_3 ++ dktX4_allOrders_4
def dkwX4_allOrders_2 : List UInt8 := [184, 0, 68, 136, 54, 8, 21, 5, 21, 8, 108, 54, 9, 21, 5, 21, 8, 112, 54, 5, 3, 54, 10]
abbrev dktX4_allOrders_2 : List UInt8 := dkwX4_allOrders_2 ++ dktX4_allOrders_3
def dkwX4_allOrders_1 : List UInt8 := [3, 54, 7, 21, 7, 29, 162, 0, 111, 43, 180, 0, 62, 21, 7, 100, 4, 100, 29, 21, 7, 100, 4, 100]
abbrev dktX4_allOrders_1 : List UInt8 := dkwX4_allOrders_1 ++ dktX4_allOrders_2
def dkwX4_allOrders_0 : List UInt8 := [43, 182, 0, 65, 62, 3, 54, 4, 21, 4, 42, 180, 0, 76, 162, 0, 156, 21, 4, 54, 5, 3, 54, 6]
abbrev dktX4_allOrders_0 : List UInt8 := dkwX4_allOrders_0 ++ dktX4_allOrders_1
theorem dksX4_allOrders_0 : cX4_allOrders.data.toList.drop 0 = dktX4_allOrders_0 := by decide +kernel
theorem dksX4_allOrders_1 : cX4_allOrders.data.toList.drop 24 = dktX4_allOrders_1 := dk_seg dksX4_allOrders_0 24 rfl rfl
theorem dksX4_allOrders_2 : cX4_allOrders.data.toList.drop 48 = dktX4_allOrders_2 := dk_seg dksX4_allOrders_1 24 rfl rfl
theorem dksX4_allOrders_3 : cX4_allOrders.data.toList.drop 71 = dktX4_allOrders_3 := dk_seg dksX4_allOrders_2 23 rfl rfl
theorem dksX4_allOrders_4 : cX4_allOrders.data.toList.drop 95 = dktX4_allOrders_4 := dk_seg dksX4_allOrders_3 24 rfl rfl
theorem dksX4_allOrders_5 : cX4_allOrders.data.toList.drop 119 = dktX4_allOrders_5 := dk_seg dksX4_allOrders_4 24 rfl rfl
theorem dksX4_allOrders_6 : cX4_allOrders.data.toList.drop 142 = dktX4_allOrders_6 := dk_seg dksX4_allOrders_5 23 rfl rfl
theorem dksX4_allOrders_7 : cX4_allOrders.data.toList.drop 164 = dktX4_allOrders_7 := dk_seg dksX4_allOrders_6 22 rfl rfl
theorem dX4_allOrders_0 : decode cX4_allOrders 0 = .ok (.aload_n 1, 1) := dk_43 (dk_at dksX4_allOrders_0 0 rfl rfl)
theorem dX4_allOrders_1 : decode cX4_allOrders 1 = .ok (.invokevirtual 65, 3) := dk_182 0 65 (dk_at dksX4_allOrders_0 1 rfl rfl)
theorem dX4_allOrders_4 : decode cX4_allOrders 4 = .ok (.istore_n 3, 1) := dk_62 (dk_at dksX4_allOrders_0 4 rfl rfl)
theorem dX4_allOrders_5 : decode cX4_allOrders 5 = .ok (.iconst 0, 1) := dk_3 (dk_at dksX4_allOrders_0 5 rfl rfl)
theorem dX4_allOrders_6 : decode cX4_allOrders 6 = .ok (.istore 4, 2) := dk_54 4 (dk_at dksX4_allOrders_0 6 rfl rfl)
theorem dX4_allOrders_8 : decode cX4_allOrders 8 = .ok (.iload 4, 2) := dk_21 4 (dk_at dksX4_allOrders_0 8 rfl rfl)
theorem dX4_allOrders_10 : decode cX4_allOrders 10 = .ok (.aload_n 0, 1) := dk_42 (dk_at dksX4_allOrders_0 10 rfl rfl)
theorem dX4_allOrders_11 : decode cX4_allOrders 11 = .ok (.getfield 76, 3) := dk_180 0 76 (dk_at dksX4_allOrders_0 11 rfl rfl)
theorem dX4_allOrders_14 : decode cX4_allOrders 14 = .ok (.if_icmp .ge 156, 3) := dk_162 0 156 (dk_at dksX4_allOrders_0 14 rfl rfl)
theorem dX4_allOrders_17 : decode cX4_allOrders 17 = .ok (.iload 4, 2) := dk_21 4 (dk_at dksX4_allOrders_0 17 rfl rfl)
theorem dX4_allOrders_19 : decode cX4_allOrders 19 = .ok (.istore 5, 2) := dk_54 5 (dk_at dksX4_allOrders_0 19 rfl rfl)
theorem dX4_allOrders_21 : decode cX4_allOrders 21 = .ok (.iconst 0, 1) := dk_3 (dk_at dksX4_allOrders_0 21 rfl rfl)
theorem dX4_allOrders_22 : decode cX4_allOrders 22 = .ok (.istore 6, 2) := dk_54 6 (dk_at dksX4_allOrders_0 22 rfl rfl)
theorem dX4_allOrders_24 : decode cX4_allOrders 24 = .ok (.iconst 0, 1) := dk_3 (dk_at dksX4_allOrders_1 0 rfl rfl)
theorem dX4_allOrders_25 : decode cX4_allOrders 25 = .ok (.istore 7, 2) := dk_54 7 (dk_at dksX4_allOrders_1 1 rfl rfl)
theorem dX4_allOrders_27 : decode cX4_allOrders 27 = .ok (.iload 7, 2) := dk_21 7 (dk_at dksX4_allOrders_1 3 rfl rfl)
theorem dX4_allOrders_29 : decode cX4_allOrders 29 = .ok (.iload_n 3, 1) := dk_29 (dk_at dksX4_allOrders_1 5 rfl rfl)
theorem dX4_allOrders_30 : decode cX4_allOrders 30 = .ok (.if_icmp .ge 111, 3) := dk_162 0 111 (dk_at dksX4_allOrders_1 6 rfl rfl)
theorem dX4_allOrders_33 : decode cX4_allOrders 33 = .ok (.aload_n 1, 1) := dk_43 (dk_at dksX4_allOrders_1 9 rfl rfl)
theorem dX4_allOrders_34 : decode cX4_allOrders 34 = .ok (.getfield 62, 3) := dk_180 0 62 (dk_at dksX4_allOrders_1 10 rfl rfl)
theorem dX4_allOrders_37 : decode cX4_allOrders 37 = .ok (.iload 7, 2) := dk_21 7 (dk_at dksX4_allOrders_1 13 rfl rfl)
theorem dX4_allOrders_39 : decode cX4_allOrders 39 = .ok (.isub, 1) := dk_100 (dk_at dksX4_allOrders_1 15 rfl rfl)
theorem dX4_allOrders_40 : decode cX4_allOrders 40 = .ok (.iconst 1, 1) := dk_4 (dk_at dksX4_allOrders_1 16 rfl rfl)
theorem dX4_allOrders_41 : decode cX4_allOrders 41 = .ok (.isub, 1) := dk_100 (dk_at dksX4_allOrders_1 17 rfl rfl)
theorem dX4_allOrders_42 : decode cX4_allOrders 42 = .ok (.iload_n 3, 1) := dk_29 (dk_at dksX4_allOrders_1 18 rfl rfl)
theorem dX4_allOrders_43 : decode cX4_allOrders 43 = .ok (.iload 7, 2) := dk_21 7 (dk_at dksX4_allOrders_1 19 rfl rfl)
theorem dX4_allOrders_45 : decode cX4_allOrders 45 = .ok (.isub, 1) := dk_100 (dk_at dksX4_allOrders_1 21 rfl rfl)
theorem dX4_allOrders_46 : decode cX4_allOrders 46 = .ok (.iconst 1, 1) := dk_4 (dk_at dksX4_allOrders_1 22 rfl rfl)
theorem dX4_allOrders_47 : decode cX4_allOrders 47 = .ok (.isub, 1) := dk_100 (dk_at dksX4_allOrders_1 23 rfl rfl)
theorem dX4_allOrders_48 : decode cX4_allOrders 48 = .ok (.invokestatic 68, 3) := dk_184 0 68 (dk_at dksX4_allOrders_2 0 rfl rfl)
theorem dX4_allOrders_51 : decode cX4_allOrders 51 = .ok (.l2i, 1) := dk_136 (dk_at dksX4_allOrders_2 3 rfl rfl)
theorem dX4_allOrders_52 : decode cX4_allOrders 52 = .ok (.istore 8, 2) := dk_54 8 (dk_at dksX4_allOrders_2 4 rfl rfl)
theorem dX4_allOrders_54 : decode cX4_allOrders 54 = .ok (.iload 5, 2) := dk_21 5 (dk_at dksX4_allOrders_2 6 rfl rfl)
theorem dX4_allOrders_56 : decode cX4_allOrders 56 = .ok (.iload 8, 2) := dk_21 8 (dk_at dksX4_allOrders_2 8 rfl rfl)
theorem dX4_allOrders_58 : decode cX4_allOrders 58 = .ok (.idiv, 1) := dk_108 (dk_at dksX4_allOrders_2 10 rfl rfl)
theorem dX4_allOrders_59 : decode cX4_allOrders 59 = .ok (.istore 9, 2) := dk_54 9 (dk_at dksX4_allOrders_2 11 rfl rfl)
theorem dX4_allOrders_61 : decode cX4_allOrders 61 = .ok (.iload 5, 2) := dk_21 5 (dk_at dksX4_allOrders_2 13 rfl rfl)
theorem dX4_allOrders_63 : decode cX4_allOrders 63 = .ok (.iload 8, 2) := dk_21 8 (dk_at dksX4_allOrders_2 15 rfl rfl)
theorem dX4_allOrders_65 : decode cX4_allOrders 65 = .ok (.irem, 1) := dk_112 (dk_at dksX4_allOrders_2 17 rfl rfl)
theorem dX4_allOrders_66 : decode cX4_allOrders 66 = .ok (.istore 5, 2) := dk_54 5 (dk_at dksX4_allOrders_2 18 rfl rfl)
theorem dX4_allOrders_68 : decode cX4_allOrders 68 = .ok (.iconst 0, 1) := dk_3 (dk_at dksX4_allOrders_2 20 rfl rfl)
theorem dX4_allOrders_69 : decode cX4_allOrders 69 = .ok (.istore 10, 2) := dk_54 10 (dk_at dksX4_allOrders_2 21 rfl rfl)
theorem dX4_allOrders_71 : decode cX4_allOrders 71 = .ok (.iload 6, 2) := dk_21 6 (dk_at dksX4_allOrders_3 0 rfl rfl)
theorem dX4_allOrders_73 : decode cX4_allOrders 73 = .ok (.iload 10, 2) := dk_21 10 (dk_at dksX4_allOrders_3 2 rfl rfl)
theorem dX4_allOrders_75 : decode cX4_allOrders 75 = .ok (.invokestatic 96, 3) := dk_184 0 96 (dk_at dksX4_allOrders_3 4 rfl rfl)
theorem dX4_allOrders_78 : decode cX4_allOrders 78 = .ok (.ifCond .ne 8, 3) := dk_154 0 8 (dk_at dksX4_allOrders_3 7 rfl rfl)
theorem dX4_allOrders_81 : decode cX4_allOrders 81 = .ok (.iload 9, 2) := dk_21 9 (dk_at dksX4_allOrders_3 10 rfl rfl)
theorem dX4_allOrders_83 : decode cX4_allOrders 83 = .ok (.ifCond .le 29, 3) := dk_158 0 29 (dk_at dksX4_allOrders_3 12 rfl rfl)
theorem dX4_allOrders_86 : decode cX4_allOrders 86 = .ok (.iload 9, 2) := dk_21 9 (dk_at dksX4_allOrders_3 15 rfl rfl)
theorem dX4_allOrders_88 : decode cX4_allOrders 88 = .ok (.iload 6, 2) := dk_21 6 (dk_at dksX4_allOrders_3 17 rfl rfl)
theorem dX4_allOrders_90 : decode cX4_allOrders 90 = .ok (.iload 10, 2) := dk_21 10 (dk_at dksX4_allOrders_3 19 rfl rfl)
theorem dX4_allOrders_92 : decode cX4_allOrders 92 = .ok (.invokestatic 96, 3) := dk_184 0 96 (dk_at dksX4_allOrders_3 21 rfl rfl)
theorem dX4_allOrders_95 : decode cX4_allOrders 95 = .ok (.ifCond .eq 7, 3) := dk_153 0 7 (dk_at dksX4_allOrders_4 0 rfl rfl)
theorem dX4_allOrders_98 : decode cX4_allOrders 98 = .ok (.iconst 0, 1) := dk_3 (dk_at dksX4_allOrders_4 3 rfl rfl)
theorem dX4_allOrders_99 : decode cX4_allOrders 99 = .ok (.goto 4, 3) := dk_167 0 4 (dk_at dksX4_allOrders_4 4 rfl rfl)
theorem dX4_allOrders_102 : decode cX4_allOrders 102 = .ok (.iconst 1, 1) := dk_4 (dk_at dksX4_allOrders_4 7 rfl rfl)
theorem dX4_allOrders_103 : decode cX4_allOrders 103 = .ok (.isub, 1) := dk_100 (dk_at dksX4_allOrders_4 8 rfl rfl)
theorem dX4_allOrders_104 : decode cX4_allOrders 104 = .ok (.istore 9, 2) := dk_54 9 (dk_at dksX4_allOrders_4 9 rfl rfl)
theorem dX4_allOrders_106 : decode cX4_allOrders 106 = .ok (.iinc 10 1, 3) := dk_132 10 1 (dk_at dksX4_allOrders_4 11 rfl rfl)
theorem dX4_allOrders_109 : decode cX4_allOrders 109 = .ok (.goto (-38), 3) := dk_167 255 218 (dk_at dksX4_allOrders_4 14 rfl rfl)
theorem dX4_allOrders_112 : decode cX4_allOrders 112 = .ok (.iload 6, 2) := dk_21 6 (dk_at dksX4_allOrders_4 17 rfl rfl)
theorem dX4_allOrders_114 : decode cX4_allOrders 114 = .ok (.iconst 1, 1) := dk_4 (dk_at dksX4_allOrders_4 19 rfl rfl)
theorem dX4_allOrders_115 : decode cX4_allOrders 115 = .ok (.iload 10, 2) := dk_21 10 (dk_at dksX4_allOrders_4 20 rfl rfl)
theorem dX4_allOrders_117 : decode cX4_allOrders 117 = .ok (.ishl, 1) := dk_120 (dk_at dksX4_allOrders_4 22 rfl rfl)
theorem dX4_allOrders_118 : decode cX4_allOrders 118 = .ok (.ior, 1) := dk_128 (dk_at dksX4_allOrders_4 23 rfl rfl)
theorem dX4_allOrders_119 : decode cX4_allOrders 119 = .ok (.istore 6, 2) := dk_54 6 (dk_at dksX4_allOrders_5 0 rfl rfl)
theorem dX4_allOrders_121 : decode cX4_allOrders 121 = .ok (.aload_n 0, 1) := dk_42 (dk_at dksX4_allOrders_5 2 rfl rfl)
theorem dX4_allOrders_122 : decode cX4_allOrders 122 = .ok (.getfield 35, 3) := dk_180 0 35 (dk_at dksX4_allOrders_5 3 rfl rfl)
theorem dX4_allOrders_125 : decode cX4_allOrders 125 = .ok (.iload 7, 2) := dk_21 7 (dk_at dksX4_allOrders_5 6 rfl rfl)
theorem dX4_allOrders_127 : decode cX4_allOrders 127 = .ok (.aload_n 0, 1) := dk_42 (dk_at dksX4_allOrders_5 8 rfl rfl)
theorem dX4_allOrders_128 : decode cX4_allOrders 128 = .ok (.getfield 32, 3) := dk_180 0 32 (dk_at dksX4_allOrders_5 9 rfl rfl)
theorem dX4_allOrders_131 : decode cX4_allOrders 131 = .ok (.iload 10, 2) := dk_21 10 (dk_at dksX4_allOrders_5 12 rfl rfl)
theorem dX4_allOrders_133 : decode cX4_allOrders 133 = .ok (.iaload, 1) := dk_46 (dk_at dksX4_allOrders_5 14 rfl rfl)
theorem dX4_allOrders_134 : decode cX4_allOrders 134 = .ok (.iastore, 1) := dk_79 (dk_at dksX4_allOrders_5 15 rfl rfl)
theorem dX4_allOrders_135 : decode cX4_allOrders 135 = .ok (.iinc 7 1, 3) := dk_132 7 1 (dk_at dksX4_allOrders_5 16 rfl rfl)
theorem dX4_allOrders_138 : decode cX4_allOrders 138 = .ok (.goto (-111), 3) := dk_167 255 145 (dk_at dksX4_allOrders_5 19 rfl rfl)
theorem dX4_allOrders_141 : decode cX4_allOrders 141 = .ok (.aload_n 0, 1) := dk_42 (dk_at dksX4_allOrders_5 22 rfl rfl)
theorem dX4_allOrders_142 : decode cX4_allOrders 142 = .ok (.getfield 10, 3) := dk_180 0 10 (dk_at dksX4_allOrders_6 0 rfl rfl)
theorem dX4_allOrders_145 : decode cX4_allOrders 145 = .ok (.aload_n 0, 1) := dk_42 (dk_at dksX4_allOrders_6 3 rfl rfl)
theorem dX4_allOrders_146 : decode cX4_allOrders 146 = .ok (.getfield 76, 3) := dk_180 0 76 (dk_at dksX4_allOrders_6 4 rfl rfl)
theorem dX4_allOrders_149 : decode cX4_allOrders 149 = .ok (.iload_n 2, 1) := dk_28 (dk_at dksX4_allOrders_6 7 rfl rfl)
theorem dX4_allOrders_150 : decode cX4_allOrders 150 = .ok (.imul, 1) := dk_104 (dk_at dksX4_allOrders_6 8 rfl rfl)
theorem dX4_allOrders_151 : decode cX4_allOrders 151 = .ok (.iload 4, 2) := dk_21 4 (dk_at dksX4_allOrders_6 9 rfl rfl)
theorem dX4_allOrders_153 : decode cX4_allOrders 153 = .ok (.iadd, 1) := dk_96 (dk_at dksX4_allOrders_6 11 rfl rfl)
theorem dX4_allOrders_154 : decode cX4_allOrders 154 = .ok (.aload_n 1, 1) := dk_43 (dk_at dksX4_allOrders_6 12 rfl rfl)
theorem dX4_allOrders_155 : decode cX4_allOrders 155 = .ok (.aload_n 0, 1) := dk_42 (dk_at dksX4_allOrders_6 13 rfl rfl)
theorem dX4_allOrders_156 : decode cX4_allOrders 156 = .ok (.getfield 35, 3) := dk_180 0 35 (dk_at dksX4_allOrders_6 14 rfl rfl)
theorem dX4_allOrders_159 : decode cX4_allOrders 159 = .ok (.iload_n 3, 1) := dk_29 (dk_at dksX4_allOrders_6 17 rfl rfl)
theorem dX4_allOrders_160 : decode cX4_allOrders 160 = .ok (.invokevirtual 100, 3) := dk_182 0 100 (dk_at dksX4_allOrders_6 18 rfl rfl)
theorem dX4_allOrders_163 : decode cX4_allOrders 163 = .ok (.iastore, 1) := dk_79 (dk_at dksX4_allOrders_6 21 rfl rfl)
theorem dX4_allOrders_164 : decode cX4_allOrders 164 = .ok (.iinc 4 1, 3) := dk_132 4 1 (dk_at dksX4_allOrders_7 0 rfl rfl)
theorem dX4_allOrders_167 : decode cX4_allOrders 167 = .ok (.goto (-159), 3) := dk_167 255 97 (dk_at dksX4_allOrders_7 3 rfl rfl)
theorem dX4_allOrders_170 : decode cX4_allOrders 170 = .ok (.return_, 1) := dk_177 (dk_at dksX4_allOrders_7 6 rfl rfl)
abbrev cX4_fits : ByteArray := prog_10_method_7_code
def yX4_fits : MethodName := ⟨RX4, "fits", "(II)Z"⟩
def dkwX4_fits_2 : List UInt8 := [132, 4, 1, 167, 255, 211, 29, 172]
abbrev dktX4_fits_2 : List UInt8 := dkwX4_fits_2 ++ []
def dkwX4_fits_1 : List UInt8 := [180, 0, 76, 27, 104, 21, 4, 96, 46, 28, 42, 180, 0, 53, 108, 160, 0, 7, 4, 167, 0, 4, 3, 62]
abbrev dktX4_fits_1 : List UInt8 := dkwX4_fits_1 ++ dktX4_fits_2
def dkwX4_fits_0 : List UInt8 := [3, 62, 3, 54, 4, 21, 4, 42, 180, 0, 76, 162, 0, 42, 29, 154, 0, 26, 42, 180, 0, 10, 42]
abbrev dktX4_fits_0 : List UInt8 := dkwX4_fits_0 ++ dktX4_fits_1
theorem dksX4_fits_0 : cX4_fits.data.toList.drop 0 = dktX4_fits_0 := by decide +kernel
theorem dksX4_fits_1 : cX4_fits.data.toList.drop 23 = dktX4_fits_1 := dk_seg dksX4_fits_0 23 rfl rfl
theorem dksX4_fits_2 : cX4_fits.data.toList.drop 47 = dktX4_fits_2 := dk_seg dksX4_fits_1 24 rfl rfl
theorem dX4_fits_0 : decode cX4_fits 0 = .ok (.iconst 0, 1) := dk_3 (dk_at dksX4_fits_0 0 rfl rfl)
theorem dX4_fits_1 : decode cX4_fits 1 = .ok (.istore_n 3, 1) := dk_62 (dk_at dksX4_fits_0 1 rfl rfl)
theorem dX4_fits_2 : decode cX4_fits 2 = .ok (.iconst 0, 1) := dk_3 (dk_at dksX4_fits_0 2 rfl rfl)
theorem dX4_fits_3 : decode cX4_fits 3 = .ok (.istore 4, 2) := dk_54 4 (dk_at dksX4_fits_0 3 rfl rfl)
theorem dX4_fits_5 : decode cX4_fits 5 = .ok (.iload 4, 2) := dk_21 4 (dk_at dksX4_fits_0 5 rfl rfl)
theorem dX4_fits_7 : decode cX4_fits 7 = .ok (.aload_n 0, 1) := dk_42 (dk_at dksX4_fits_0 7 rfl rfl)
theorem dX4_fits_8 : decode cX4_fits 8 = .ok (.getfield 76, 3) := dk_180 0 76 (dk_at dksX4_fits_0 8 rfl rfl)
theorem dX4_fits_11 : decode cX4_fits 11 = .ok (.if_icmp .ge 42, 3) := dk_162 0 42 (dk_at dksX4_fits_0 11 rfl rfl)
theorem dX4_fits_14 : decode cX4_fits 14 = .ok (.iload_n 3, 1) := dk_29 (dk_at dksX4_fits_0 14 rfl rfl)
theorem dX4_fits_15 : decode cX4_fits 15 = .ok (.ifCond .ne 26, 3) := dk_154 0 26 (dk_at dksX4_fits_0 15 rfl rfl)
theorem dX4_fits_18 : decode cX4_fits 18 = .ok (.aload_n 0, 1) := dk_42 (dk_at dksX4_fits_0 18 rfl rfl)
theorem dX4_fits_19 : decode cX4_fits 19 = .ok (.getfield 10, 3) := dk_180 0 10 (dk_at dksX4_fits_0 19 rfl rfl)
theorem dX4_fits_22 : decode cX4_fits 22 = .ok (.aload_n 0, 1) := dk_42 (dk_at dksX4_fits_0 22 rfl rfl)
theorem dX4_fits_23 : decode cX4_fits 23 = .ok (.getfield 76, 3) := dk_180 0 76 (dk_at dksX4_fits_1 0 rfl rfl)
theorem dX4_fits_26 : decode cX4_fits 26 = .ok (.iload_n 1, 1) := dk_27 (dk_at dksX4_fits_1 3 rfl rfl)
theorem dX4_fits_27 : decode cX4_fits 27 = .ok (.imul, 1) := dk_104 (dk_at dksX4_fits_1 4 rfl rfl)
theorem dX4_fits_28 : decode cX4_fits 28 = .ok (.iload 4, 2) := dk_21 4 (dk_at dksX4_fits_1 5 rfl rfl)
theorem dX4_fits_30 : decode cX4_fits 30 = .ok (.iadd, 1) := dk_96 (dk_at dksX4_fits_1 7 rfl rfl)
theorem dX4_fits_31 : decode cX4_fits 31 = .ok (.iaload, 1) := dk_46 (dk_at dksX4_fits_1 8 rfl rfl)
theorem dX4_fits_32 : decode cX4_fits 32 = .ok (.iload_n 2, 1) := dk_28 (dk_at dksX4_fits_1 9 rfl rfl)
theorem dX4_fits_33 : decode cX4_fits 33 = .ok (.aload_n 0, 1) := dk_42 (dk_at dksX4_fits_1 10 rfl rfl)
theorem dX4_fits_34 : decode cX4_fits 34 = .ok (.getfield 53, 3) := dk_180 0 53 (dk_at dksX4_fits_1 11 rfl rfl)
theorem dX4_fits_37 : decode cX4_fits 37 = .ok (.idiv, 1) := dk_108 (dk_at dksX4_fits_1 14 rfl rfl)
theorem dX4_fits_38 : decode cX4_fits 38 = .ok (.if_icmp .ne 7, 3) := dk_160 0 7 (dk_at dksX4_fits_1 15 rfl rfl)
theorem dX4_fits_41 : decode cX4_fits 41 = .ok (.iconst 1, 1) := dk_4 (dk_at dksX4_fits_1 18 rfl rfl)
theorem dX4_fits_42 : decode cX4_fits 42 = .ok (.goto 4, 3) := dk_167 0 4 (dk_at dksX4_fits_1 19 rfl rfl)
theorem dX4_fits_45 : decode cX4_fits 45 = .ok (.iconst 0, 1) := dk_3 (dk_at dksX4_fits_1 22 rfl rfl)
theorem dX4_fits_46 : decode cX4_fits 46 = .ok (.istore_n 3, 1) := dk_62 (dk_at dksX4_fits_1 23 rfl rfl)
theorem dX4_fits_47 : decode cX4_fits 47 = .ok (.iinc 4 1, 3) := dk_132 4 1 (dk_at dksX4_fits_2 0 rfl rfl)
theorem dX4_fits_50 : decode cX4_fits 50 = .ok (.goto (-45), 3) := dk_167 255 211 (dk_at dksX4_fits_2 3 rfl rfl)
theorem dX4_fits_53 : decode cX4_fits 53 = .ok (.iload_n 3, 1) := dk_29 (dk_at dksX4_fits_2 6 rfl rfl)
theorem dX4_fits_54 : decode cX4_fits 54 = .ok (.ireturn, 1) := dk_172 (dk_at dksX4_fits_2 7 rfl rfl)
abbrev cX4_fitting : ByteArray := prog_10_method_5_code
def yX4_fitting : MethodName := ⟨RX4, "fitting", "()I"⟩
def dkwX4_fitting_0 : List UInt8 := [42, 180, 0, 76, 42, 180, 0, 53, 104, 172]
abbrev dktX4_fitting_0 : List UInt8 := dkwX4_fitting_0 ++ []
theorem dksX4_fitting_0 : cX4_fitting.data.toList.drop 0 = dktX4_fitting_0 := by decide +kernel
theorem dX4_fitting_0 : decode cX4_fitting 0 = .ok (.aload_n 0, 1) := dk_42 (dk_at dksX4_fitting_0 0 rfl rfl)
theorem dX4_fitting_1 : decode cX4_fitting 1 = .ok (.getfield 76, 3) := dk_180 0 76 (dk_at dksX4_fitting_0 1 rfl rfl)
theorem dX4_fitting_4 : decode cX4_fitting 4 = .ok (.aload_n 0, 1) := dk_42 (dk_at dksX4_fitting_0 4 rfl rfl)
theorem dX4_fitting_5 : decode cX4_fitting 5 = .ok (.getfield 53, 3) := dk_180 0 53 (dk_at dksX4_fitting_0 5 rfl rfl)
theorem dX4_fitting_8 : decode cX4_fitting 8 = .ok (.imul, 1) := dk_104 (dk_at dksX4_fitting_0 8 rfl rfl)
theorem dX4_fitting_9 : decode cX4_fitting 9 = .ok (.ireturn, 1) := dk_172 (dk_at dksX4_fitting_0 9 rfl rfl)
abbrev cX4_least : ByteArray := prog_10_method_11_code
def yX4_least : MethodName := ⟨RX4, "least", "()Z"⟩
def dkwX4_least_3 : List UInt8 := [167, 255, 216, 42, 4, 181, 0, 93, 4, 172]
abbrev dktX4_least_3 : List UInt8 := dkwX4_least_3 ++ []
def dkwX4_least_2 : List UInt8 := [42, 27, 42, 27, 28, 182, 0, 113, 182, 0, 126, 154, 0, 9, 132, 2, 1, 167, 255, 239, 132, 1, 1]
abbrev dktX4_least_2 : List UInt8 := dkwX4_least_2 ++ dktX4_least_3
def dkwX4_least_1 : List UInt8 := [164, 0, 5, 3, 172, 3, 60, 27, 42, 180, 0, 47, 162, 0, 38, 42, 180, 0, 93, 154, 0, 31, 3, 61]
abbrev dktX4_least_1 : List UInt8 := dkwX4_least_1 ++ dktX4_least_2
def dkwX4_least_0 : List UInt8 := [42, 182, 0, 123, 42, 180, 0, 90, 42, 180, 0, 47, 161, 0, 13, 42, 180, 0, 47, 17, 1, 44]
abbrev dktX4_least_0 : List UInt8 := dkwX4_least_0 ++ dktX4_least_1
theorem dksX4_least_0 : cX4_least.data.toList.drop 0 = dktX4_least_0 := by decide +kernel
theorem dksX4_least_1 : cX4_least.data.toList.drop 22 = dktX4_least_1 := dk_seg dksX4_least_0 22 rfl rfl
theorem dksX4_least_2 : cX4_least.data.toList.drop 46 = dktX4_least_2 := dk_seg dksX4_least_1 24 rfl rfl
theorem dksX4_least_3 : cX4_least.data.toList.drop 69 = dktX4_least_3 := dk_seg dksX4_least_2 23 rfl rfl
theorem dX4_least_0 : decode cX4_least 0 = .ok (.aload_n 0, 1) := dk_42 (dk_at dksX4_least_0 0 rfl rfl)
theorem dX4_least_1 : decode cX4_least 1 = .ok (.invokevirtual 123, 3) := dk_182 0 123 (dk_at dksX4_least_0 1 rfl rfl)
theorem dX4_least_4 : decode cX4_least 4 = .ok (.aload_n 0, 1) := dk_42 (dk_at dksX4_least_0 4 rfl rfl)
theorem dX4_least_5 : decode cX4_least 5 = .ok (.getfield 90, 3) := dk_180 0 90 (dk_at dksX4_least_0 5 rfl rfl)
theorem dX4_least_8 : decode cX4_least 8 = .ok (.aload_n 0, 1) := dk_42 (dk_at dksX4_least_0 8 rfl rfl)
theorem dX4_least_9 : decode cX4_least 9 = .ok (.getfield 47, 3) := dk_180 0 47 (dk_at dksX4_least_0 9 rfl rfl)
theorem dX4_least_12 : decode cX4_least 12 = .ok (.if_icmp .lt 13, 3) := dk_161 0 13 (dk_at dksX4_least_0 12 rfl rfl)
theorem dX4_least_15 : decode cX4_least 15 = .ok (.aload_n 0, 1) := dk_42 (dk_at dksX4_least_0 15 rfl rfl)
theorem dX4_least_16 : decode cX4_least 16 = .ok (.getfield 47, 3) := dk_180 0 47 (dk_at dksX4_least_0 16 rfl rfl)
theorem dX4_least_19 : decode cX4_least 19 = .ok (.sipush 300, 3) := dk_17 1 44 (dk_at dksX4_least_0 19 rfl rfl)
theorem dX4_least_22 : decode cX4_least 22 = .ok (.if_icmp .le 5, 3) := dk_164 0 5 (dk_at dksX4_least_1 0 rfl rfl)
theorem dX4_least_25 : decode cX4_least 25 = .ok (.iconst 0, 1) := dk_3 (dk_at dksX4_least_1 3 rfl rfl)
theorem dX4_least_26 : decode cX4_least 26 = .ok (.ireturn, 1) := dk_172 (dk_at dksX4_least_1 4 rfl rfl)
theorem dX4_least_27 : decode cX4_least 27 = .ok (.iconst 0, 1) := dk_3 (dk_at dksX4_least_1 5 rfl rfl)
theorem dX4_least_28 : decode cX4_least 28 = .ok (.istore_n 1, 1) := dk_60 (dk_at dksX4_least_1 6 rfl rfl)
theorem dX4_least_29 : decode cX4_least 29 = .ok (.iload_n 1, 1) := dk_27 (dk_at dksX4_least_1 7 rfl rfl)
theorem dX4_least_30 : decode cX4_least 30 = .ok (.aload_n 0, 1) := dk_42 (dk_at dksX4_least_1 8 rfl rfl)
theorem dX4_least_31 : decode cX4_least 31 = .ok (.getfield 47, 3) := dk_180 0 47 (dk_at dksX4_least_1 9 rfl rfl)
theorem dX4_least_34 : decode cX4_least 34 = .ok (.if_icmp .ge 38, 3) := dk_162 0 38 (dk_at dksX4_least_1 12 rfl rfl)
theorem dX4_least_37 : decode cX4_least 37 = .ok (.aload_n 0, 1) := dk_42 (dk_at dksX4_least_1 15 rfl rfl)
theorem dX4_least_38 : decode cX4_least 38 = .ok (.getfield 93, 3) := dk_180 0 93 (dk_at dksX4_least_1 16 rfl rfl)
theorem dX4_least_41 : decode cX4_least 41 = .ok (.ifCond .ne 31, 3) := dk_154 0 31 (dk_at dksX4_least_1 19 rfl rfl)
theorem dX4_least_44 : decode cX4_least 44 = .ok (.iconst 0, 1) := dk_3 (dk_at dksX4_least_1 22 rfl rfl)
theorem dX4_least_45 : decode cX4_least 45 = .ok (.istore_n 2, 1) := dk_61 (dk_at dksX4_least_1 23 rfl rfl)
theorem dX4_least_46 : decode cX4_least 46 = .ok (.aload_n 0, 1) := dk_42 (dk_at dksX4_least_2 0 rfl rfl)
theorem dX4_least_47 : decode cX4_least 47 = .ok (.iload_n 1, 1) := dk_27 (dk_at dksX4_least_2 1 rfl rfl)
theorem dX4_least_48 : decode cX4_least 48 = .ok (.aload_n 0, 1) := dk_42 (dk_at dksX4_least_2 2 rfl rfl)
theorem dX4_least_49 : decode cX4_least 49 = .ok (.iload_n 1, 1) := dk_27 (dk_at dksX4_least_2 3 rfl rfl)
theorem dX4_least_50 : decode cX4_least 50 = .ok (.iload_n 2, 1) := dk_28 (dk_at dksX4_least_2 4 rfl rfl)
theorem dX4_least_51 : decode cX4_least 51 = .ok (.invokevirtual 113, 3) := dk_182 0 113 (dk_at dksX4_least_2 5 rfl rfl)
theorem dX4_least_54 : decode cX4_least 54 = .ok (.invokevirtual 126, 3) := dk_182 0 126 (dk_at dksX4_least_2 8 rfl rfl)
theorem dX4_least_57 : decode cX4_least 57 = .ok (.ifCond .ne 9, 3) := dk_154 0 9 (dk_at dksX4_least_2 11 rfl rfl)
theorem dX4_least_60 : decode cX4_least 60 = .ok (.iinc 2 1, 3) := dk_132 2 1 (dk_at dksX4_least_2 14 rfl rfl)
theorem dX4_least_63 : decode cX4_least 63 = .ok (.goto (-17), 3) := dk_167 255 239 (dk_at dksX4_least_2 17 rfl rfl)
theorem dX4_least_66 : decode cX4_least 66 = .ok (.iinc 1 1, 3) := dk_132 1 1 (dk_at dksX4_least_2 20 rfl rfl)
theorem dX4_least_69 : decode cX4_least 69 = .ok (.goto (-40), 3) := dk_167 255 216 (dk_at dksX4_least_3 0 rfl rfl)
theorem dX4_least_72 : decode cX4_least 72 = .ok (.aload_n 0, 1) := dk_42 (dk_at dksX4_least_3 3 rfl rfl)
theorem dX4_least_73 : decode cX4_least 73 = .ok (.iconst 1, 1) := dk_4 (dk_at dksX4_least_3 4 rfl rfl)
theorem dX4_least_74 : decode cX4_least 74 = .ok (.putfield 93, 3) := dk_181 0 93 (dk_at dksX4_least_3 5 rfl rfl)
theorem dX4_least_77 : decode cX4_least 77 = .ok (.iconst 1, 1) := dk_4 (dk_at dksX4_least_3 8 rfl rfl)
theorem dX4_least_78 : decode cX4_least 78 = .ok (.ireturn, 1) := dk_172 (dk_at dksX4_least_3 9 rfl rfl)
abbrev cX4_pair : ByteArray := prog_10_method_10_code
def yX4_pair : MethodName := ⟨RX4, "pair", "()V"⟩
def dkwX4_pair_4 : List UInt8 := [167, 255, 222, 177]
abbrev dktX4_pair_4 : List UInt8 := dkwX4_pair_4 ++ []
def dkwX4_pair_3 : List UInt8 := [180, 0, 90, 42, 27, 3, 182, 0, 120, 153, 0, 7, 4, 167, 0, 4, 3, 96, 181, 0, 90, 132, 1, 1]
abbrev dktX4_pair_3 : List UInt8 := dkwX4_pair_3 ++ dktX4_pair_4
def dkwX4_pair_2 : List UInt8 := [132, 1, 1, 167, 255, 238, 42, 3, 181, 0, 90, 3, 60, 27, 42, 180, 0, 47, 162, 0, 32, 42, 89]
abbrev dktX4_pair_2 : List UInt8 := dkwX4_pair_2 ++ dktX4_pair_3
def dkwX4_pair_1 : List UInt8 := [132, 1, 1, 167, 255, 240, 3, 60, 27, 42, 180, 0, 47, 162, 0, 16, 42, 180, 0, 20, 27, 2, 79]
abbrev dktX4_pair_1 : List UInt8 := dkwX4_pair_1 ++ dktX4_pair_2
def dkwX4_pair_0 : List UInt8 := [42, 180, 0, 90, 2, 159, 0, 4, 177, 3, 60, 27, 18, 16, 162, 0, 16, 42, 180, 0, 17, 27, 2, 79]
abbrev dktX4_pair_0 : List UInt8 := dkwX4_pair_0 ++ dktX4_pair_1
theorem dksX4_pair_0 : cX4_pair.data.toList.drop 0 = dktX4_pair_0 := by decide +kernel
theorem dksX4_pair_1 : cX4_pair.data.toList.drop 24 = dktX4_pair_1 := dk_seg dksX4_pair_0 24 rfl rfl
theorem dksX4_pair_2 : cX4_pair.data.toList.drop 47 = dktX4_pair_2 := dk_seg dksX4_pair_1 23 rfl rfl
theorem dksX4_pair_3 : cX4_pair.data.toList.drop 70 = dktX4_pair_3 := dk_seg dksX4_pair_2 23 rfl rfl
theorem dksX4_pair_4 : cX4_pair.data.toList.drop 94 = dktX4_pair_4 := dk_seg dksX4_pair_3 24 rfl rfl
theorem dX4_pair_0 : decode cX4_pair 0 = .ok (.aload_n 0, 1) := dk_42 (dk_at dksX4_pair_0 0 rfl rfl)
theorem dX4_pair_1 : decode cX4_pair 1 = .ok (.getfield 90, 3) := dk_180 0 90 (dk_at dksX4_pair_0 1 rfl rfl)
theorem dX4_pair_4 : decode cX4_pair 4 = .ok (.iconst (-1), 1) := dk_2 (dk_at dksX4_pair_0 4 rfl rfl)
theorem dX4_pair_5 : decode cX4_pair 5 = .ok (.if_icmp .eq 4, 3) := dk_159 0 4 (dk_at dksX4_pair_0 5 rfl rfl)
theorem dX4_pair_8 : decode cX4_pair 8 = .ok (.return_, 1) := dk_177 (dk_at dksX4_pair_0 8 rfl rfl)
theorem dX4_pair_9 : decode cX4_pair 9 = .ok (.iconst 0, 1) := dk_3 (dk_at dksX4_pair_0 9 rfl rfl)
theorem dX4_pair_10 : decode cX4_pair 10 = .ok (.istore_n 1, 1) := dk_60 (dk_at dksX4_pair_0 10 rfl rfl)
theorem dX4_pair_11 : decode cX4_pair 11 = .ok (.iload_n 1, 1) := dk_27 (dk_at dksX4_pair_0 11 rfl rfl)
theorem dX4_pair_12 : decode cX4_pair 12 = .ok (.ldc 16, 2) := dk_18 16 (dk_at dksX4_pair_0 12 rfl rfl)
theorem dX4_pair_14 : decode cX4_pair 14 = .ok (.if_icmp .ge 16, 3) := dk_162 0 16 (dk_at dksX4_pair_0 14 rfl rfl)
theorem dX4_pair_17 : decode cX4_pair 17 = .ok (.aload_n 0, 1) := dk_42 (dk_at dksX4_pair_0 17 rfl rfl)
theorem dX4_pair_18 : decode cX4_pair 18 = .ok (.getfield 17, 3) := dk_180 0 17 (dk_at dksX4_pair_0 18 rfl rfl)
theorem dX4_pair_21 : decode cX4_pair 21 = .ok (.iload_n 1, 1) := dk_27 (dk_at dksX4_pair_0 21 rfl rfl)
theorem dX4_pair_22 : decode cX4_pair 22 = .ok (.iconst (-1), 1) := dk_2 (dk_at dksX4_pair_0 22 rfl rfl)
theorem dX4_pair_23 : decode cX4_pair 23 = .ok (.iastore, 1) := dk_79 (dk_at dksX4_pair_0 23 rfl rfl)
theorem dX4_pair_24 : decode cX4_pair 24 = .ok (.iinc 1 1, 3) := dk_132 1 1 (dk_at dksX4_pair_1 0 rfl rfl)
theorem dX4_pair_27 : decode cX4_pair 27 = .ok (.goto (-16), 3) := dk_167 255 240 (dk_at dksX4_pair_1 3 rfl rfl)
theorem dX4_pair_30 : decode cX4_pair 30 = .ok (.iconst 0, 1) := dk_3 (dk_at dksX4_pair_1 6 rfl rfl)
theorem dX4_pair_31 : decode cX4_pair 31 = .ok (.istore_n 1, 1) := dk_60 (dk_at dksX4_pair_1 7 rfl rfl)
theorem dX4_pair_32 : decode cX4_pair 32 = .ok (.iload_n 1, 1) := dk_27 (dk_at dksX4_pair_1 8 rfl rfl)
theorem dX4_pair_33 : decode cX4_pair 33 = .ok (.aload_n 0, 1) := dk_42 (dk_at dksX4_pair_1 9 rfl rfl)
theorem dX4_pair_34 : decode cX4_pair 34 = .ok (.getfield 47, 3) := dk_180 0 47 (dk_at dksX4_pair_1 10 rfl rfl)
theorem dX4_pair_37 : decode cX4_pair 37 = .ok (.if_icmp .ge 16, 3) := dk_162 0 16 (dk_at dksX4_pair_1 13 rfl rfl)
theorem dX4_pair_40 : decode cX4_pair 40 = .ok (.aload_n 0, 1) := dk_42 (dk_at dksX4_pair_1 16 rfl rfl)
theorem dX4_pair_41 : decode cX4_pair 41 = .ok (.getfield 20, 3) := dk_180 0 20 (dk_at dksX4_pair_1 17 rfl rfl)
theorem dX4_pair_44 : decode cX4_pair 44 = .ok (.iload_n 1, 1) := dk_27 (dk_at dksX4_pair_1 20 rfl rfl)
theorem dX4_pair_45 : decode cX4_pair 45 = .ok (.iconst (-1), 1) := dk_2 (dk_at dksX4_pair_1 21 rfl rfl)
theorem dX4_pair_46 : decode cX4_pair 46 = .ok (.iastore, 1) := dk_79 (dk_at dksX4_pair_1 22 rfl rfl)
theorem dX4_pair_47 : decode cX4_pair 47 = .ok (.iinc 1 1, 3) := dk_132 1 1 (dk_at dksX4_pair_2 0 rfl rfl)
theorem dX4_pair_50 : decode cX4_pair 50 = .ok (.goto (-18), 3) := dk_167 255 238 (dk_at dksX4_pair_2 3 rfl rfl)
theorem dX4_pair_53 : decode cX4_pair 53 = .ok (.aload_n 0, 1) := dk_42 (dk_at dksX4_pair_2 6 rfl rfl)
theorem dX4_pair_54 : decode cX4_pair 54 = .ok (.iconst 0, 1) := dk_3 (dk_at dksX4_pair_2 7 rfl rfl)
theorem dX4_pair_55 : decode cX4_pair 55 = .ok (.putfield 90, 3) := dk_181 0 90 (dk_at dksX4_pair_2 8 rfl rfl)
theorem dX4_pair_58 : decode cX4_pair 58 = .ok (.iconst 0, 1) := dk_3 (dk_at dksX4_pair_2 11 rfl rfl)
theorem dX4_pair_59 : decode cX4_pair 59 = .ok (.istore_n 1, 1) := dk_60 (dk_at dksX4_pair_2 12 rfl rfl)
theorem dX4_pair_60 : decode cX4_pair 60 = .ok (.iload_n 1, 1) := dk_27 (dk_at dksX4_pair_2 13 rfl rfl)
theorem dX4_pair_61 : decode cX4_pair 61 = .ok (.aload_n 0, 1) := dk_42 (dk_at dksX4_pair_2 14 rfl rfl)
theorem dX4_pair_62 : decode cX4_pair 62 = .ok (.getfield 47, 3) := dk_180 0 47 (dk_at dksX4_pair_2 15 rfl rfl)
theorem dX4_pair_65 : decode cX4_pair 65 = .ok (.if_icmp .ge 32, 3) := dk_162 0 32 (dk_at dksX4_pair_2 18 rfl rfl)
theorem dX4_pair_68 : decode cX4_pair 68 = .ok (.aload_n 0, 1) := dk_42 (dk_at dksX4_pair_2 21 rfl rfl)
theorem dX4_pair_69 : decode cX4_pair 69 = .ok (.dup, 1) := dk_89 (dk_at dksX4_pair_2 22 rfl rfl)
theorem dX4_pair_70 : decode cX4_pair 70 = .ok (.getfield 90, 3) := dk_180 0 90 (dk_at dksX4_pair_3 0 rfl rfl)
theorem dX4_pair_73 : decode cX4_pair 73 = .ok (.aload_n 0, 1) := dk_42 (dk_at dksX4_pair_3 3 rfl rfl)
theorem dX4_pair_74 : decode cX4_pair 74 = .ok (.iload_n 1, 1) := dk_27 (dk_at dksX4_pair_3 4 rfl rfl)
theorem dX4_pair_75 : decode cX4_pair 75 = .ok (.iconst 0, 1) := dk_3 (dk_at dksX4_pair_3 5 rfl rfl)
theorem dX4_pair_76 : decode cX4_pair 76 = .ok (.invokevirtual 120, 3) := dk_182 0 120 (dk_at dksX4_pair_3 6 rfl rfl)
theorem dX4_pair_79 : decode cX4_pair 79 = .ok (.ifCond .eq 7, 3) := dk_153 0 7 (dk_at dksX4_pair_3 9 rfl rfl)
theorem dX4_pair_82 : decode cX4_pair 82 = .ok (.iconst 1, 1) := dk_4 (dk_at dksX4_pair_3 12 rfl rfl)
theorem dX4_pair_83 : decode cX4_pair 83 = .ok (.goto 4, 3) := dk_167 0 4 (dk_at dksX4_pair_3 13 rfl rfl)
theorem dX4_pair_86 : decode cX4_pair 86 = .ok (.iconst 0, 1) := dk_3 (dk_at dksX4_pair_3 16 rfl rfl)
theorem dX4_pair_87 : decode cX4_pair 87 = .ok (.iadd, 1) := dk_96 (dk_at dksX4_pair_3 17 rfl rfl)
theorem dX4_pair_88 : decode cX4_pair 88 = .ok (.putfield 90, 3) := dk_181 0 90 (dk_at dksX4_pair_3 18 rfl rfl)
theorem dX4_pair_91 : decode cX4_pair 91 = .ok (.iinc 1 1, 3) := dk_132 1 1 (dk_at dksX4_pair_3 21 rfl rfl)
theorem dX4_pair_94 : decode cX4_pair 94 = .ok (.goto (-34), 3) := dk_167 255 222 (dk_at dksX4_pair_4 0 rfl rfl)
theorem dX4_pair_97 : decode cX4_pair 97 = .ok (.return_, 1) := dk_177 (dk_at dksX4_pair_4 3 rfl rfl)
abbrev cX4_gives : ByteArray := prog_10_method_8_code
def yX4_gives : MethodName := ⟨RX4, "gives", "(II)Z"⟩
def dkwX4_gives_6 : List UInt8 := [132, 3, 1, 132, 6, 1, 167, 255, 152, 132, 4, 1, 167, 255, 128, 3, 172]
abbrev dktX4_gives_6 : List UInt8 := dkwX4_gives_6 ++ []
def dkwX4_gives_5 : List UInt8 := [21, 8, 156, 0, 12, 42, 21, 7, 27, 182, 0, 116, 4, 172, 42, 180, 0, 29, 29, 21, 8, 79]
abbrev dktX4_gives_5 : List UInt8 := dkwX4_gives_5 ++ dktX4_gives_6
def dkwX4_gives_4 : List UInt8 := [167, 0, 48, 42, 180, 0, 26, 21, 7, 42, 180, 0, 107, 79, 42, 180, 0, 23, 21, 7, 21, 5, 79]
abbrev dktX4_gives_4 : List UInt8 := dkwX4_gives_4 ++ dktX4_gives_5
def dkwX4_gives_3 : List UInt8 := [180, 0, 26, 21, 7, 46, 42, 180, 0, 107, 159, 0, 62, 21, 8, 155, 0, 12, 21, 8, 28, 162, 0, 6]
abbrev dktX4_gives_3 : List UInt8 := dkwX4_gives_3 ++ dktX4_gives_4
def dkwX4_gives_2 : List UInt8 := [162, 0, 101, 42, 21, 5, 21, 6, 182, 0, 113, 54, 7, 42, 180, 0, 17, 21, 7, 46, 54, 8, 42]
abbrev dktX4_gives_2 : List UInt8 := dkwX4_gives_2 ++ dktX4_gives_3
def dkwX4_gives_1 : List UInt8 := [29, 162, 0, 128, 42, 180, 0, 29, 21, 4, 46, 54, 5, 3, 54, 6, 21, 6, 42, 182, 0, 110]
abbrev dktX4_gives_1 : List UInt8 := dkwX4_gives_1 ++ dktX4_gives_2
def dkwX4_gives_0 : List UInt8 := [42, 89, 180, 0, 107, 4, 96, 181, 0, 107, 4, 62, 42, 180, 0, 29, 3, 27, 79, 3, 54, 4, 21, 4]
abbrev dktX4_gives_0 : List UInt8 := dkwX4_gives_0 ++ dktX4_gives_1
theorem dksX4_gives_0 : cX4_gives.data.toList.drop 0 = dktX4_gives_0 := by decide +kernel
theorem dksX4_gives_1 : cX4_gives.data.toList.drop 24 = dktX4_gives_1 := dk_seg dksX4_gives_0 24 rfl rfl
theorem dksX4_gives_2 : cX4_gives.data.toList.drop 46 = dktX4_gives_2 := dk_seg dksX4_gives_1 22 rfl rfl
theorem dksX4_gives_3 : cX4_gives.data.toList.drop 69 = dktX4_gives_3 := dk_seg dksX4_gives_2 23 rfl rfl
theorem dksX4_gives_4 : cX4_gives.data.toList.drop 93 = dktX4_gives_4 := dk_seg dksX4_gives_3 24 rfl rfl
theorem dksX4_gives_5 : cX4_gives.data.toList.drop 116 = dktX4_gives_5 := dk_seg dksX4_gives_4 23 rfl rfl
theorem dksX4_gives_6 : cX4_gives.data.toList.drop 138 = dktX4_gives_6 := dk_seg dksX4_gives_5 22 rfl rfl
theorem dX4_gives_0 : decode cX4_gives 0 = .ok (.aload_n 0, 1) := dk_42 (dk_at dksX4_gives_0 0 rfl rfl)
theorem dX4_gives_1 : decode cX4_gives 1 = .ok (.dup, 1) := dk_89 (dk_at dksX4_gives_0 1 rfl rfl)
theorem dX4_gives_2 : decode cX4_gives 2 = .ok (.getfield 107, 3) := dk_180 0 107 (dk_at dksX4_gives_0 2 rfl rfl)
theorem dX4_gives_5 : decode cX4_gives 5 = .ok (.iconst 1, 1) := dk_4 (dk_at dksX4_gives_0 5 rfl rfl)
theorem dX4_gives_6 : decode cX4_gives 6 = .ok (.iadd, 1) := dk_96 (dk_at dksX4_gives_0 6 rfl rfl)
theorem dX4_gives_7 : decode cX4_gives 7 = .ok (.putfield 107, 3) := dk_181 0 107 (dk_at dksX4_gives_0 7 rfl rfl)
theorem dX4_gives_10 : decode cX4_gives 10 = .ok (.iconst 1, 1) := dk_4 (dk_at dksX4_gives_0 10 rfl rfl)
theorem dX4_gives_11 : decode cX4_gives 11 = .ok (.istore_n 3, 1) := dk_62 (dk_at dksX4_gives_0 11 rfl rfl)
theorem dX4_gives_12 : decode cX4_gives 12 = .ok (.aload_n 0, 1) := dk_42 (dk_at dksX4_gives_0 12 rfl rfl)
theorem dX4_gives_13 : decode cX4_gives 13 = .ok (.getfield 29, 3) := dk_180 0 29 (dk_at dksX4_gives_0 13 rfl rfl)
theorem dX4_gives_16 : decode cX4_gives 16 = .ok (.iconst 0, 1) := dk_3 (dk_at dksX4_gives_0 16 rfl rfl)
theorem dX4_gives_17 : decode cX4_gives 17 = .ok (.iload_n 1, 1) := dk_27 (dk_at dksX4_gives_0 17 rfl rfl)
theorem dX4_gives_18 : decode cX4_gives 18 = .ok (.iastore, 1) := dk_79 (dk_at dksX4_gives_0 18 rfl rfl)
theorem dX4_gives_19 : decode cX4_gives 19 = .ok (.iconst 0, 1) := dk_3 (dk_at dksX4_gives_0 19 rfl rfl)
theorem dX4_gives_20 : decode cX4_gives 20 = .ok (.istore 4, 2) := dk_54 4 (dk_at dksX4_gives_0 20 rfl rfl)
theorem dX4_gives_22 : decode cX4_gives 22 = .ok (.iload 4, 2) := dk_21 4 (dk_at dksX4_gives_0 22 rfl rfl)
theorem dX4_gives_24 : decode cX4_gives 24 = .ok (.iload_n 3, 1) := dk_29 (dk_at dksX4_gives_1 0 rfl rfl)
theorem dX4_gives_25 : decode cX4_gives 25 = .ok (.if_icmp .ge 128, 3) := dk_162 0 128 (dk_at dksX4_gives_1 1 rfl rfl)
theorem dX4_gives_28 : decode cX4_gives 28 = .ok (.aload_n 0, 1) := dk_42 (dk_at dksX4_gives_1 4 rfl rfl)
theorem dX4_gives_29 : decode cX4_gives 29 = .ok (.getfield 29, 3) := dk_180 0 29 (dk_at dksX4_gives_1 5 rfl rfl)
theorem dX4_gives_32 : decode cX4_gives 32 = .ok (.iload 4, 2) := dk_21 4 (dk_at dksX4_gives_1 8 rfl rfl)
theorem dX4_gives_34 : decode cX4_gives 34 = .ok (.iaload, 1) := dk_46 (dk_at dksX4_gives_1 10 rfl rfl)
theorem dX4_gives_35 : decode cX4_gives 35 = .ok (.istore 5, 2) := dk_54 5 (dk_at dksX4_gives_1 11 rfl rfl)
theorem dX4_gives_37 : decode cX4_gives 37 = .ok (.iconst 0, 1) := dk_3 (dk_at dksX4_gives_1 13 rfl rfl)
theorem dX4_gives_38 : decode cX4_gives 38 = .ok (.istore 6, 2) := dk_54 6 (dk_at dksX4_gives_1 14 rfl rfl)
theorem dX4_gives_40 : decode cX4_gives 40 = .ok (.iload 6, 2) := dk_21 6 (dk_at dksX4_gives_1 16 rfl rfl)
theorem dX4_gives_42 : decode cX4_gives 42 = .ok (.aload_n 0, 1) := dk_42 (dk_at dksX4_gives_1 18 rfl rfl)
theorem dX4_gives_43 : decode cX4_gives 43 = .ok (.invokevirtual 110, 3) := dk_182 0 110 (dk_at dksX4_gives_1 19 rfl rfl)
theorem dX4_gives_46 : decode cX4_gives 46 = .ok (.if_icmp .ge 101, 3) := dk_162 0 101 (dk_at dksX4_gives_2 0 rfl rfl)
theorem dX4_gives_49 : decode cX4_gives 49 = .ok (.aload_n 0, 1) := dk_42 (dk_at dksX4_gives_2 3 rfl rfl)
theorem dX4_gives_50 : decode cX4_gives 50 = .ok (.iload 5, 2) := dk_21 5 (dk_at dksX4_gives_2 4 rfl rfl)
theorem dX4_gives_52 : decode cX4_gives 52 = .ok (.iload 6, 2) := dk_21 6 (dk_at dksX4_gives_2 6 rfl rfl)
theorem dX4_gives_54 : decode cX4_gives 54 = .ok (.invokevirtual 113, 3) := dk_182 0 113 (dk_at dksX4_gives_2 8 rfl rfl)
theorem dX4_gives_57 : decode cX4_gives 57 = .ok (.istore 7, 2) := dk_54 7 (dk_at dksX4_gives_2 11 rfl rfl)
theorem dX4_gives_59 : decode cX4_gives 59 = .ok (.aload_n 0, 1) := dk_42 (dk_at dksX4_gives_2 13 rfl rfl)
theorem dX4_gives_60 : decode cX4_gives 60 = .ok (.getfield 17, 3) := dk_180 0 17 (dk_at dksX4_gives_2 14 rfl rfl)
theorem dX4_gives_63 : decode cX4_gives 63 = .ok (.iload 7, 2) := dk_21 7 (dk_at dksX4_gives_2 17 rfl rfl)
theorem dX4_gives_65 : decode cX4_gives 65 = .ok (.iaload, 1) := dk_46 (dk_at dksX4_gives_2 19 rfl rfl)
theorem dX4_gives_66 : decode cX4_gives 66 = .ok (.istore 8, 2) := dk_54 8 (dk_at dksX4_gives_2 20 rfl rfl)
theorem dX4_gives_68 : decode cX4_gives 68 = .ok (.aload_n 0, 1) := dk_42 (dk_at dksX4_gives_2 22 rfl rfl)
theorem dX4_gives_69 : decode cX4_gives 69 = .ok (.getfield 26, 3) := dk_180 0 26 (dk_at dksX4_gives_3 0 rfl rfl)
theorem dX4_gives_72 : decode cX4_gives 72 = .ok (.iload 7, 2) := dk_21 7 (dk_at dksX4_gives_3 3 rfl rfl)
theorem dX4_gives_74 : decode cX4_gives 74 = .ok (.iaload, 1) := dk_46 (dk_at dksX4_gives_3 5 rfl rfl)
theorem dX4_gives_75 : decode cX4_gives 75 = .ok (.aload_n 0, 1) := dk_42 (dk_at dksX4_gives_3 6 rfl rfl)
theorem dX4_gives_76 : decode cX4_gives 76 = .ok (.getfield 107, 3) := dk_180 0 107 (dk_at dksX4_gives_3 7 rfl rfl)
theorem dX4_gives_79 : decode cX4_gives 79 = .ok (.if_icmp .eq 62, 3) := dk_159 0 62 (dk_at dksX4_gives_3 10 rfl rfl)
theorem dX4_gives_82 : decode cX4_gives 82 = .ok (.iload 8, 2) := dk_21 8 (dk_at dksX4_gives_3 13 rfl rfl)
theorem dX4_gives_84 : decode cX4_gives 84 = .ok (.ifCond .lt 12, 3) := dk_155 0 12 (dk_at dksX4_gives_3 15 rfl rfl)
theorem dX4_gives_87 : decode cX4_gives 87 = .ok (.iload 8, 2) := dk_21 8 (dk_at dksX4_gives_3 18 rfl rfl)
theorem dX4_gives_89 : decode cX4_gives 89 = .ok (.iload_n 2, 1) := dk_28 (dk_at dksX4_gives_3 20 rfl rfl)
theorem dX4_gives_90 : decode cX4_gives 90 = .ok (.if_icmp .ge 6, 3) := dk_162 0 6 (dk_at dksX4_gives_3 21 rfl rfl)
theorem dX4_gives_93 : decode cX4_gives 93 = .ok (.goto 48, 3) := dk_167 0 48 (dk_at dksX4_gives_4 0 rfl rfl)
theorem dX4_gives_96 : decode cX4_gives 96 = .ok (.aload_n 0, 1) := dk_42 (dk_at dksX4_gives_4 3 rfl rfl)
theorem dX4_gives_97 : decode cX4_gives 97 = .ok (.getfield 26, 3) := dk_180 0 26 (dk_at dksX4_gives_4 4 rfl rfl)
theorem dX4_gives_100 : decode cX4_gives 100 = .ok (.iload 7, 2) := dk_21 7 (dk_at dksX4_gives_4 7 rfl rfl)
theorem dX4_gives_102 : decode cX4_gives 102 = .ok (.aload_n 0, 1) := dk_42 (dk_at dksX4_gives_4 9 rfl rfl)
theorem dX4_gives_103 : decode cX4_gives 103 = .ok (.getfield 107, 3) := dk_180 0 107 (dk_at dksX4_gives_4 10 rfl rfl)
theorem dX4_gives_106 : decode cX4_gives 106 = .ok (.iastore, 1) := dk_79 (dk_at dksX4_gives_4 13 rfl rfl)
theorem dX4_gives_107 : decode cX4_gives 107 = .ok (.aload_n 0, 1) := dk_42 (dk_at dksX4_gives_4 14 rfl rfl)
theorem dX4_gives_108 : decode cX4_gives 108 = .ok (.getfield 23, 3) := dk_180 0 23 (dk_at dksX4_gives_4 15 rfl rfl)
theorem dX4_gives_111 : decode cX4_gives 111 = .ok (.iload 7, 2) := dk_21 7 (dk_at dksX4_gives_4 18 rfl rfl)
theorem dX4_gives_113 : decode cX4_gives 113 = .ok (.iload 5, 2) := dk_21 5 (dk_at dksX4_gives_4 20 rfl rfl)
theorem dX4_gives_115 : decode cX4_gives 115 = .ok (.iastore, 1) := dk_79 (dk_at dksX4_gives_4 22 rfl rfl)
theorem dX4_gives_116 : decode cX4_gives 116 = .ok (.iload 8, 2) := dk_21 8 (dk_at dksX4_gives_5 0 rfl rfl)
theorem dX4_gives_118 : decode cX4_gives 118 = .ok (.ifCond .ge 12, 3) := dk_156 0 12 (dk_at dksX4_gives_5 2 rfl rfl)
theorem dX4_gives_121 : decode cX4_gives 121 = .ok (.aload_n 0, 1) := dk_42 (dk_at dksX4_gives_5 5 rfl rfl)
theorem dX4_gives_122 : decode cX4_gives 122 = .ok (.iload 7, 2) := dk_21 7 (dk_at dksX4_gives_5 6 rfl rfl)
theorem dX4_gives_124 : decode cX4_gives 124 = .ok (.iload_n 1, 1) := dk_27 (dk_at dksX4_gives_5 8 rfl rfl)
theorem dX4_gives_125 : decode cX4_gives 125 = .ok (.invokevirtual 116, 3) := dk_182 0 116 (dk_at dksX4_gives_5 9 rfl rfl)
theorem dX4_gives_128 : decode cX4_gives 128 = .ok (.iconst 1, 1) := dk_4 (dk_at dksX4_gives_5 12 rfl rfl)
theorem dX4_gives_129 : decode cX4_gives 129 = .ok (.ireturn, 1) := dk_172 (dk_at dksX4_gives_5 13 rfl rfl)
theorem dX4_gives_130 : decode cX4_gives 130 = .ok (.aload_n 0, 1) := dk_42 (dk_at dksX4_gives_5 14 rfl rfl)
theorem dX4_gives_131 : decode cX4_gives 131 = .ok (.getfield 29, 3) := dk_180 0 29 (dk_at dksX4_gives_5 15 rfl rfl)
theorem dX4_gives_134 : decode cX4_gives 134 = .ok (.iload_n 3, 1) := dk_29 (dk_at dksX4_gives_5 18 rfl rfl)
theorem dX4_gives_135 : decode cX4_gives 135 = .ok (.iload 8, 2) := dk_21 8 (dk_at dksX4_gives_5 19 rfl rfl)
theorem dX4_gives_137 : decode cX4_gives 137 = .ok (.iastore, 1) := dk_79 (dk_at dksX4_gives_5 21 rfl rfl)
theorem dX4_gives_138 : decode cX4_gives 138 = .ok (.iinc 3 1, 3) := dk_132 3 1 (dk_at dksX4_gives_6 0 rfl rfl)
theorem dX4_gives_141 : decode cX4_gives 141 = .ok (.iinc 6 1, 3) := dk_132 6 1 (dk_at dksX4_gives_6 3 rfl rfl)
theorem dX4_gives_144 : decode cX4_gives 144 = .ok (.goto (-104), 3) := dk_167 255 152 (dk_at dksX4_gives_6 6 rfl rfl)
theorem dX4_gives_147 : decode cX4_gives 147 = .ok (.iinc 4 1, 3) := dk_132 4 1 (dk_at dksX4_gives_6 9 rfl rfl)
theorem dX4_gives_150 : decode cX4_gives 150 = .ok (.goto (-128), 3) := dk_167 255 128 (dk_at dksX4_gives_6 12 rfl rfl)
theorem dX4_gives_153 : decode cX4_gives 153 = .ok (.iconst 0, 1) := dk_3 (dk_at dksX4_gives_6 15 rfl rfl)
theorem dX4_gives_154 : decode cX4_gives 154 = .ok (.ireturn, 1) := dk_172 (dk_at dksX4_gives_6 16 rfl rfl)
abbrev cX4_row : ByteArray := prog_10_method_6_code
def yX4_row : MethodName := ⟨RX4, "row", "(II)I"⟩
def dkwX4_row_1 : List UInt8 := [42, 180, 0, 53, 112, 96, 172]
abbrev dktX4_row_1 : List UInt8 := dkwX4_row_1 ++ []
def dkwX4_row_0 : List UInt8 := [42, 180, 0, 10, 42, 180, 0, 76, 27, 104, 28, 42, 180, 0, 53, 108, 96, 46, 42, 180, 0, 53, 104, 28]
abbrev dktX4_row_0 : List UInt8 := dkwX4_row_0 ++ dktX4_row_1
theorem dksX4_row_0 : cX4_row.data.toList.drop 0 = dktX4_row_0 := by decide +kernel
theorem dksX4_row_1 : cX4_row.data.toList.drop 24 = dktX4_row_1 := dk_seg dksX4_row_0 24 rfl rfl
theorem dX4_row_0 : decode cX4_row 0 = .ok (.aload_n 0, 1) := dk_42 (dk_at dksX4_row_0 0 rfl rfl)
theorem dX4_row_1 : decode cX4_row 1 = .ok (.getfield 10, 3) := dk_180 0 10 (dk_at dksX4_row_0 1 rfl rfl)
theorem dX4_row_4 : decode cX4_row 4 = .ok (.aload_n 0, 1) := dk_42 (dk_at dksX4_row_0 4 rfl rfl)
theorem dX4_row_5 : decode cX4_row 5 = .ok (.getfield 76, 3) := dk_180 0 76 (dk_at dksX4_row_0 5 rfl rfl)
theorem dX4_row_8 : decode cX4_row 8 = .ok (.iload_n 1, 1) := dk_27 (dk_at dksX4_row_0 8 rfl rfl)
theorem dX4_row_9 : decode cX4_row 9 = .ok (.imul, 1) := dk_104 (dk_at dksX4_row_0 9 rfl rfl)
theorem dX4_row_10 : decode cX4_row 10 = .ok (.iload_n 2, 1) := dk_28 (dk_at dksX4_row_0 10 rfl rfl)
theorem dX4_row_11 : decode cX4_row 11 = .ok (.aload_n 0, 1) := dk_42 (dk_at dksX4_row_0 11 rfl rfl)
theorem dX4_row_12 : decode cX4_row 12 = .ok (.getfield 53, 3) := dk_180 0 53 (dk_at dksX4_row_0 12 rfl rfl)
theorem dX4_row_15 : decode cX4_row 15 = .ok (.idiv, 1) := dk_108 (dk_at dksX4_row_0 15 rfl rfl)
theorem dX4_row_16 : decode cX4_row 16 = .ok (.iadd, 1) := dk_96 (dk_at dksX4_row_0 16 rfl rfl)
theorem dX4_row_17 : decode cX4_row 17 = .ok (.iaload, 1) := dk_46 (dk_at dksX4_row_0 17 rfl rfl)
theorem dX4_row_18 : decode cX4_row 18 = .ok (.aload_n 0, 1) := dk_42 (dk_at dksX4_row_0 18 rfl rfl)
theorem dX4_row_19 : decode cX4_row 19 = .ok (.getfield 53, 3) := dk_180 0 53 (dk_at dksX4_row_0 19 rfl rfl)
theorem dX4_row_22 : decode cX4_row 22 = .ok (.imul, 1) := dk_104 (dk_at dksX4_row_0 22 rfl rfl)
theorem dX4_row_23 : decode cX4_row 23 = .ok (.iload_n 2, 1) := dk_28 (dk_at dksX4_row_0 23 rfl rfl)
theorem dX4_row_24 : decode cX4_row 24 = .ok (.aload_n 0, 1) := dk_42 (dk_at dksX4_row_1 0 rfl rfl)
theorem dX4_row_25 : decode cX4_row 25 = .ok (.getfield 53, 3) := dk_180 0 53 (dk_at dksX4_row_1 1 rfl rfl)
theorem dX4_row_28 : decode cX4_row 28 = .ok (.irem, 1) := dk_112 (dk_at dksX4_row_1 4 rfl rfl)
theorem dX4_row_29 : decode cX4_row 29 = .ok (.iadd, 1) := dk_96 (dk_at dksX4_row_1 5 rfl rfl)
theorem dX4_row_30 : decode cX4_row 30 = .ok (.ireturn, 1) := dk_172 (dk_at dksX4_row_1 6 rfl rfl)
abbrev cX4_turns : ByteArray := prog_10_method_9_code
def yX4_turns : MethodName := ⟨RX4, "turns", "(II)V"⟩
def dkwX4_turns_2 : List UInt8 := [28, 159, 0, 7, 4, 167, 0, 4, 3, 54, 4, 167, 255, 202, 177]
abbrev dktX4_turns_2 : List UInt8 := dkwX4_turns_2 ++ []
def dkwX4_turns_1 : List UInt8 := [46, 54, 6, 42, 180, 0, 20, 21, 5, 29, 79, 42, 180, 0, 17, 29, 21, 5, 79, 21, 6, 62, 21, 5]
abbrev dktX4_turns_1 : List UInt8 := dkwX4_turns_1 ++ dktX4_turns_2
def dkwX4_turns_0 : List UInt8 := [27, 62, 4, 54, 4, 21, 4, 153, 0, 55, 42, 180, 0, 23, 29, 46, 54, 5, 42, 180, 0, 20, 21, 5]
abbrev dktX4_turns_0 : List UInt8 := dkwX4_turns_0 ++ dktX4_turns_1
theorem dksX4_turns_0 : cX4_turns.data.toList.drop 0 = dktX4_turns_0 := by decide +kernel
theorem dksX4_turns_1 : cX4_turns.data.toList.drop 24 = dktX4_turns_1 := dk_seg dksX4_turns_0 24 rfl rfl
theorem dksX4_turns_2 : cX4_turns.data.toList.drop 48 = dktX4_turns_2 := dk_seg dksX4_turns_1 24 rfl rfl
theorem dX4_turns_0 : decode cX4_turns 0 = .ok (.iload_n 1, 1) := dk_27 (dk_at dksX4_turns_0 0 rfl rfl)
theorem dX4_turns_1 : decode cX4_turns 1 = .ok (.istore_n 3, 1) := dk_62 (dk_at dksX4_turns_0 1 rfl rfl)
theorem dX4_turns_2 : decode cX4_turns 2 = .ok (.iconst 1, 1) := dk_4 (dk_at dksX4_turns_0 2 rfl rfl)
theorem dX4_turns_3 : decode cX4_turns 3 = .ok (.istore 4, 2) := dk_54 4 (dk_at dksX4_turns_0 3 rfl rfl)
theorem dX4_turns_5 : decode cX4_turns 5 = .ok (.iload 4, 2) := dk_21 4 (dk_at dksX4_turns_0 5 rfl rfl)
theorem dX4_turns_7 : decode cX4_turns 7 = .ok (.ifCond .eq 55, 3) := dk_153 0 55 (dk_at dksX4_turns_0 7 rfl rfl)
theorem dX4_turns_10 : decode cX4_turns 10 = .ok (.aload_n 0, 1) := dk_42 (dk_at dksX4_turns_0 10 rfl rfl)
theorem dX4_turns_11 : decode cX4_turns 11 = .ok (.getfield 23, 3) := dk_180 0 23 (dk_at dksX4_turns_0 11 rfl rfl)
theorem dX4_turns_14 : decode cX4_turns 14 = .ok (.iload_n 3, 1) := dk_29 (dk_at dksX4_turns_0 14 rfl rfl)
theorem dX4_turns_15 : decode cX4_turns 15 = .ok (.iaload, 1) := dk_46 (dk_at dksX4_turns_0 15 rfl rfl)
theorem dX4_turns_16 : decode cX4_turns 16 = .ok (.istore 5, 2) := dk_54 5 (dk_at dksX4_turns_0 16 rfl rfl)
theorem dX4_turns_18 : decode cX4_turns 18 = .ok (.aload_n 0, 1) := dk_42 (dk_at dksX4_turns_0 18 rfl rfl)
theorem dX4_turns_19 : decode cX4_turns 19 = .ok (.getfield 20, 3) := dk_180 0 20 (dk_at dksX4_turns_0 19 rfl rfl)
theorem dX4_turns_22 : decode cX4_turns 22 = .ok (.iload 5, 2) := dk_21 5 (dk_at dksX4_turns_0 22 rfl rfl)
theorem dX4_turns_24 : decode cX4_turns 24 = .ok (.iaload, 1) := dk_46 (dk_at dksX4_turns_1 0 rfl rfl)
theorem dX4_turns_25 : decode cX4_turns 25 = .ok (.istore 6, 2) := dk_54 6 (dk_at dksX4_turns_1 1 rfl rfl)
theorem dX4_turns_27 : decode cX4_turns 27 = .ok (.aload_n 0, 1) := dk_42 (dk_at dksX4_turns_1 3 rfl rfl)
theorem dX4_turns_28 : decode cX4_turns 28 = .ok (.getfield 20, 3) := dk_180 0 20 (dk_at dksX4_turns_1 4 rfl rfl)
theorem dX4_turns_31 : decode cX4_turns 31 = .ok (.iload 5, 2) := dk_21 5 (dk_at dksX4_turns_1 7 rfl rfl)
theorem dX4_turns_33 : decode cX4_turns 33 = .ok (.iload_n 3, 1) := dk_29 (dk_at dksX4_turns_1 9 rfl rfl)
theorem dX4_turns_34 : decode cX4_turns 34 = .ok (.iastore, 1) := dk_79 (dk_at dksX4_turns_1 10 rfl rfl)
theorem dX4_turns_35 : decode cX4_turns 35 = .ok (.aload_n 0, 1) := dk_42 (dk_at dksX4_turns_1 11 rfl rfl)
theorem dX4_turns_36 : decode cX4_turns 36 = .ok (.getfield 17, 3) := dk_180 0 17 (dk_at dksX4_turns_1 12 rfl rfl)
theorem dX4_turns_39 : decode cX4_turns 39 = .ok (.iload_n 3, 1) := dk_29 (dk_at dksX4_turns_1 15 rfl rfl)
theorem dX4_turns_40 : decode cX4_turns 40 = .ok (.iload 5, 2) := dk_21 5 (dk_at dksX4_turns_1 16 rfl rfl)
theorem dX4_turns_42 : decode cX4_turns 42 = .ok (.iastore, 1) := dk_79 (dk_at dksX4_turns_1 18 rfl rfl)
theorem dX4_turns_43 : decode cX4_turns 43 = .ok (.iload 6, 2) := dk_21 6 (dk_at dksX4_turns_1 19 rfl rfl)
theorem dX4_turns_45 : decode cX4_turns 45 = .ok (.istore_n 3, 1) := dk_62 (dk_at dksX4_turns_1 21 rfl rfl)
theorem dX4_turns_46 : decode cX4_turns 46 = .ok (.iload 5, 2) := dk_21 5 (dk_at dksX4_turns_1 22 rfl rfl)
theorem dX4_turns_48 : decode cX4_turns 48 = .ok (.iload_n 2, 1) := dk_28 (dk_at dksX4_turns_2 0 rfl rfl)
theorem dX4_turns_49 : decode cX4_turns 49 = .ok (.if_icmp .eq 7, 3) := dk_159 0 7 (dk_at dksX4_turns_2 1 rfl rfl)
theorem dX4_turns_52 : decode cX4_turns 52 = .ok (.iconst 1, 1) := dk_4 (dk_at dksX4_turns_2 4 rfl rfl)
theorem dX4_turns_53 : decode cX4_turns 53 = .ok (.goto 4, 3) := dk_167 0 4 (dk_at dksX4_turns_2 5 rfl rfl)
theorem dX4_turns_56 : decode cX4_turns 56 = .ok (.iconst 0, 1) := dk_3 (dk_at dksX4_turns_2 8 rfl rfl)
theorem dX4_turns_57 : decode cX4_turns 57 = .ok (.istore 4, 2) := dk_54 4 (dk_at dksX4_turns_2 9 rfl rfl)
theorem dX4_turns_59 : decode cX4_turns 59 = .ok (.goto (-54), 3) := dk_167 255 202 (dk_at dksX4_turns_2 11 rfl rfl)
theorem dX4_turns_62 : decode cX4_turns 62 = .ok (.return_, 1) := dk_177 (dk_at dksX4_turns_2 14 rfl rfl)
abbrev cX4_takes : ByteArray := prog_10_method_12_code
def yX4_takes : MethodName := ⟨RX4, "takes", "(II)Z"⟩
def dkwX4_takes_4 : List UInt8 := [180, 0, 17, 21, 4, 27, 79, 42, 180, 0, 20, 27, 21, 4, 79, 3, 172]
abbrev dktX4_takes_4 : List UInt8 := dkwX4_takes_4 ++ []
def dkwX4_takes_3 : List UInt8 := [96, 182, 0, 120, 153, 0, 5, 4, 172, 42, 180, 0, 17, 28, 29, 79, 42, 180, 0, 20, 29, 28, 79, 42]
abbrev dktX4_takes_3 : List UInt8 := dkwX4_takes_3 ++ dktX4_takes_4
def dkwX4_takes_2 : List UInt8 := [42, 180, 0, 20, 27, 28, 79, 29, 156, 0, 5, 4, 172, 42, 180, 0, 20, 29, 2, 79, 42, 29, 27, 4]
abbrev dktX4_takes_2 : List UInt8 := dkwX4_takes_2 ++ dktX4_takes_3
def dkwX4_takes_1 : List UInt8 := [172, 42, 180, 0, 20, 27, 46, 54, 4, 42, 180, 0, 17, 21, 4, 2, 79, 42, 180, 0, 17, 28, 27, 79]
abbrev dktX4_takes_1 : List UInt8 := dkwX4_takes_1 ++ dktX4_takes_2
def dkwX4_takes_0 : List UInt8 := [42, 180, 0, 17, 28, 46, 62, 29, 27, 160, 0, 5, 4, 172, 29, 155, 0, 10, 29, 27, 162, 0, 5, 3]
abbrev dktX4_takes_0 : List UInt8 := dkwX4_takes_0 ++ dktX4_takes_1
theorem dksX4_takes_0 : cX4_takes.data.toList.drop 0 = dktX4_takes_0 := by decide +kernel
theorem dksX4_takes_1 : cX4_takes.data.toList.drop 24 = dktX4_takes_1 := dk_seg dksX4_takes_0 24 rfl rfl
theorem dksX4_takes_2 : cX4_takes.data.toList.drop 48 = dktX4_takes_2 := dk_seg dksX4_takes_1 24 rfl rfl
theorem dksX4_takes_3 : cX4_takes.data.toList.drop 72 = dktX4_takes_3 := dk_seg dksX4_takes_2 24 rfl rfl
theorem dksX4_takes_4 : cX4_takes.data.toList.drop 96 = dktX4_takes_4 := dk_seg dksX4_takes_3 24 rfl rfl
theorem dX4_takes_0 : decode cX4_takes 0 = .ok (.aload_n 0, 1) := dk_42 (dk_at dksX4_takes_0 0 rfl rfl)
theorem dX4_takes_1 : decode cX4_takes 1 = .ok (.getfield 17, 3) := dk_180 0 17 (dk_at dksX4_takes_0 1 rfl rfl)
theorem dX4_takes_4 : decode cX4_takes 4 = .ok (.iload_n 2, 1) := dk_28 (dk_at dksX4_takes_0 4 rfl rfl)
theorem dX4_takes_5 : decode cX4_takes 5 = .ok (.iaload, 1) := dk_46 (dk_at dksX4_takes_0 5 rfl rfl)
theorem dX4_takes_6 : decode cX4_takes 6 = .ok (.istore_n 3, 1) := dk_62 (dk_at dksX4_takes_0 6 rfl rfl)
theorem dX4_takes_7 : decode cX4_takes 7 = .ok (.iload_n 3, 1) := dk_29 (dk_at dksX4_takes_0 7 rfl rfl)
theorem dX4_takes_8 : decode cX4_takes 8 = .ok (.iload_n 1, 1) := dk_27 (dk_at dksX4_takes_0 8 rfl rfl)
theorem dX4_takes_9 : decode cX4_takes 9 = .ok (.if_icmp .ne 5, 3) := dk_160 0 5 (dk_at dksX4_takes_0 9 rfl rfl)
theorem dX4_takes_12 : decode cX4_takes 12 = .ok (.iconst 1, 1) := dk_4 (dk_at dksX4_takes_0 12 rfl rfl)
theorem dX4_takes_13 : decode cX4_takes 13 = .ok (.ireturn, 1) := dk_172 (dk_at dksX4_takes_0 13 rfl rfl)
theorem dX4_takes_14 : decode cX4_takes 14 = .ok (.iload_n 3, 1) := dk_29 (dk_at dksX4_takes_0 14 rfl rfl)
theorem dX4_takes_15 : decode cX4_takes 15 = .ok (.ifCond .lt 10, 3) := dk_155 0 10 (dk_at dksX4_takes_0 15 rfl rfl)
theorem dX4_takes_18 : decode cX4_takes 18 = .ok (.iload_n 3, 1) := dk_29 (dk_at dksX4_takes_0 18 rfl rfl)
theorem dX4_takes_19 : decode cX4_takes 19 = .ok (.iload_n 1, 1) := dk_27 (dk_at dksX4_takes_0 19 rfl rfl)
theorem dX4_takes_20 : decode cX4_takes 20 = .ok (.if_icmp .ge 5, 3) := dk_162 0 5 (dk_at dksX4_takes_0 20 rfl rfl)
theorem dX4_takes_23 : decode cX4_takes 23 = .ok (.iconst 0, 1) := dk_3 (dk_at dksX4_takes_0 23 rfl rfl)
theorem dX4_takes_24 : decode cX4_takes 24 = .ok (.ireturn, 1) := dk_172 (dk_at dksX4_takes_1 0 rfl rfl)
theorem dX4_takes_25 : decode cX4_takes 25 = .ok (.aload_n 0, 1) := dk_42 (dk_at dksX4_takes_1 1 rfl rfl)
theorem dX4_takes_26 : decode cX4_takes 26 = .ok (.getfield 20, 3) := dk_180 0 20 (dk_at dksX4_takes_1 2 rfl rfl)
theorem dX4_takes_29 : decode cX4_takes 29 = .ok (.iload_n 1, 1) := dk_27 (dk_at dksX4_takes_1 5 rfl rfl)
theorem dX4_takes_30 : decode cX4_takes 30 = .ok (.iaload, 1) := dk_46 (dk_at dksX4_takes_1 6 rfl rfl)
theorem dX4_takes_31 : decode cX4_takes 31 = .ok (.istore 4, 2) := dk_54 4 (dk_at dksX4_takes_1 7 rfl rfl)
theorem dX4_takes_33 : decode cX4_takes 33 = .ok (.aload_n 0, 1) := dk_42 (dk_at dksX4_takes_1 9 rfl rfl)
theorem dX4_takes_34 : decode cX4_takes 34 = .ok (.getfield 17, 3) := dk_180 0 17 (dk_at dksX4_takes_1 10 rfl rfl)
theorem dX4_takes_37 : decode cX4_takes 37 = .ok (.iload 4, 2) := dk_21 4 (dk_at dksX4_takes_1 13 rfl rfl)
theorem dX4_takes_39 : decode cX4_takes 39 = .ok (.iconst (-1), 1) := dk_2 (dk_at dksX4_takes_1 15 rfl rfl)
theorem dX4_takes_40 : decode cX4_takes 40 = .ok (.iastore, 1) := dk_79 (dk_at dksX4_takes_1 16 rfl rfl)
theorem dX4_takes_41 : decode cX4_takes 41 = .ok (.aload_n 0, 1) := dk_42 (dk_at dksX4_takes_1 17 rfl rfl)
theorem dX4_takes_42 : decode cX4_takes 42 = .ok (.getfield 17, 3) := dk_180 0 17 (dk_at dksX4_takes_1 18 rfl rfl)
theorem dX4_takes_45 : decode cX4_takes 45 = .ok (.iload_n 2, 1) := dk_28 (dk_at dksX4_takes_1 21 rfl rfl)
theorem dX4_takes_46 : decode cX4_takes 46 = .ok (.iload_n 1, 1) := dk_27 (dk_at dksX4_takes_1 22 rfl rfl)
theorem dX4_takes_47 : decode cX4_takes 47 = .ok (.iastore, 1) := dk_79 (dk_at dksX4_takes_1 23 rfl rfl)
theorem dX4_takes_48 : decode cX4_takes 48 = .ok (.aload_n 0, 1) := dk_42 (dk_at dksX4_takes_2 0 rfl rfl)
theorem dX4_takes_49 : decode cX4_takes 49 = .ok (.getfield 20, 3) := dk_180 0 20 (dk_at dksX4_takes_2 1 rfl rfl)
theorem dX4_takes_52 : decode cX4_takes 52 = .ok (.iload_n 1, 1) := dk_27 (dk_at dksX4_takes_2 4 rfl rfl)
theorem dX4_takes_53 : decode cX4_takes 53 = .ok (.iload_n 2, 1) := dk_28 (dk_at dksX4_takes_2 5 rfl rfl)
theorem dX4_takes_54 : decode cX4_takes 54 = .ok (.iastore, 1) := dk_79 (dk_at dksX4_takes_2 6 rfl rfl)
theorem dX4_takes_55 : decode cX4_takes 55 = .ok (.iload_n 3, 1) := dk_29 (dk_at dksX4_takes_2 7 rfl rfl)
theorem dX4_takes_56 : decode cX4_takes 56 = .ok (.ifCond .ge 5, 3) := dk_156 0 5 (dk_at dksX4_takes_2 8 rfl rfl)
theorem dX4_takes_59 : decode cX4_takes 59 = .ok (.iconst 1, 1) := dk_4 (dk_at dksX4_takes_2 11 rfl rfl)
theorem dX4_takes_60 : decode cX4_takes 60 = .ok (.ireturn, 1) := dk_172 (dk_at dksX4_takes_2 12 rfl rfl)
theorem dX4_takes_61 : decode cX4_takes 61 = .ok (.aload_n 0, 1) := dk_42 (dk_at dksX4_takes_2 13 rfl rfl)
theorem dX4_takes_62 : decode cX4_takes 62 = .ok (.getfield 20, 3) := dk_180 0 20 (dk_at dksX4_takes_2 14 rfl rfl)
theorem dX4_takes_65 : decode cX4_takes 65 = .ok (.iload_n 3, 1) := dk_29 (dk_at dksX4_takes_2 17 rfl rfl)
theorem dX4_takes_66 : decode cX4_takes 66 = .ok (.iconst (-1), 1) := dk_2 (dk_at dksX4_takes_2 18 rfl rfl)
theorem dX4_takes_67 : decode cX4_takes 67 = .ok (.iastore, 1) := dk_79 (dk_at dksX4_takes_2 19 rfl rfl)
theorem dX4_takes_68 : decode cX4_takes 68 = .ok (.aload_n 0, 1) := dk_42 (dk_at dksX4_takes_2 20 rfl rfl)
theorem dX4_takes_69 : decode cX4_takes 69 = .ok (.iload_n 3, 1) := dk_29 (dk_at dksX4_takes_2 21 rfl rfl)
theorem dX4_takes_70 : decode cX4_takes 70 = .ok (.iload_n 1, 1) := dk_27 (dk_at dksX4_takes_2 22 rfl rfl)
theorem dX4_takes_71 : decode cX4_takes 71 = .ok (.iconst 1, 1) := dk_4 (dk_at dksX4_takes_2 23 rfl rfl)
theorem dX4_takes_72 : decode cX4_takes 72 = .ok (.iadd, 1) := dk_96 (dk_at dksX4_takes_3 0 rfl rfl)
theorem dX4_takes_73 : decode cX4_takes 73 = .ok (.invokevirtual 120, 3) := dk_182 0 120 (dk_at dksX4_takes_3 1 rfl rfl)
theorem dX4_takes_76 : decode cX4_takes 76 = .ok (.ifCond .eq 5, 3) := dk_153 0 5 (dk_at dksX4_takes_3 4 rfl rfl)
theorem dX4_takes_79 : decode cX4_takes 79 = .ok (.iconst 1, 1) := dk_4 (dk_at dksX4_takes_3 7 rfl rfl)
theorem dX4_takes_80 : decode cX4_takes 80 = .ok (.ireturn, 1) := dk_172 (dk_at dksX4_takes_3 8 rfl rfl)
theorem dX4_takes_81 : decode cX4_takes 81 = .ok (.aload_n 0, 1) := dk_42 (dk_at dksX4_takes_3 9 rfl rfl)
theorem dX4_takes_82 : decode cX4_takes 82 = .ok (.getfield 17, 3) := dk_180 0 17 (dk_at dksX4_takes_3 10 rfl rfl)
theorem dX4_takes_85 : decode cX4_takes 85 = .ok (.iload_n 2, 1) := dk_28 (dk_at dksX4_takes_3 13 rfl rfl)
theorem dX4_takes_86 : decode cX4_takes 86 = .ok (.iload_n 3, 1) := dk_29 (dk_at dksX4_takes_3 14 rfl rfl)
theorem dX4_takes_87 : decode cX4_takes 87 = .ok (.iastore, 1) := dk_79 (dk_at dksX4_takes_3 15 rfl rfl)
theorem dX4_takes_88 : decode cX4_takes 88 = .ok (.aload_n 0, 1) := dk_42 (dk_at dksX4_takes_3 16 rfl rfl)
theorem dX4_takes_89 : decode cX4_takes 89 = .ok (.getfield 20, 3) := dk_180 0 20 (dk_at dksX4_takes_3 17 rfl rfl)
theorem dX4_takes_92 : decode cX4_takes 92 = .ok (.iload_n 3, 1) := dk_29 (dk_at dksX4_takes_3 20 rfl rfl)
theorem dX4_takes_93 : decode cX4_takes 93 = .ok (.iload_n 2, 1) := dk_28 (dk_at dksX4_takes_3 21 rfl rfl)
theorem dX4_takes_94 : decode cX4_takes 94 = .ok (.iastore, 1) := dk_79 (dk_at dksX4_takes_3 22 rfl rfl)
theorem dX4_takes_95 : decode cX4_takes 95 = .ok (.aload_n 0, 1) := dk_42 (dk_at dksX4_takes_3 23 rfl rfl)
theorem dX4_takes_96 : decode cX4_takes 96 = .ok (.getfield 17, 3) := dk_180 0 17 (dk_at dksX4_takes_4 0 rfl rfl)
theorem dX4_takes_99 : decode cX4_takes 99 = .ok (.iload 4, 2) := dk_21 4 (dk_at dksX4_takes_4 3 rfl rfl)
theorem dX4_takes_101 : decode cX4_takes 101 = .ok (.iload_n 1, 1) := dk_27 (dk_at dksX4_takes_4 5 rfl rfl)
theorem dX4_takes_102 : decode cX4_takes 102 = .ok (.iastore, 1) := dk_79 (dk_at dksX4_takes_4 6 rfl rfl)
theorem dX4_takes_103 : decode cX4_takes 103 = .ok (.aload_n 0, 1) := dk_42 (dk_at dksX4_takes_4 7 rfl rfl)
theorem dX4_takes_104 : decode cX4_takes 104 = .ok (.getfield 20, 3) := dk_180 0 20 (dk_at dksX4_takes_4 8 rfl rfl)
theorem dX4_takes_107 : decode cX4_takes 107 = .ok (.iload_n 1, 1) := dk_27 (dk_at dksX4_takes_4 11 rfl rfl)
theorem dX4_takes_108 : decode cX4_takes 108 = .ok (.iload 4, 2) := dk_21 4 (dk_at dksX4_takes_4 12 rfl rfl)
theorem dX4_takes_110 : decode cX4_takes 110 = .ok (.iastore, 1) := dk_79 (dk_at dksX4_takes_4 14 rfl rfl)
theorem dX4_takes_111 : decode cX4_takes 111 = .ok (.iconst 0, 1) := dk_3 (dk_at dksX4_takes_4 15 rfl rfl)
theorem dX4_takes_112 : decode cX4_takes 112 = .ok (.ireturn, 1) := dk_172 (dk_at dksX4_takes_4 16 rfl rfl)
abbrev cX4_rowOf : ByteArray := prog_10_method_13_code
def yX4_rowOf : MethodName := ⟨RX4, "rowOf", "(I)I"⟩
def dkwX4_rowOf_0 : List UInt8 := [42, 180, 0, 20, 27, 46, 172]
abbrev dktX4_rowOf_0 : List UInt8 := dkwX4_rowOf_0 ++ []
theorem dksX4_rowOf_0 : cX4_rowOf.data.toList.drop 0 = dktX4_rowOf_0 := by decide +kernel
theorem dX4_rowOf_0 : decode cX4_rowOf 0 = .ok (.aload_n 0, 1) := dk_42 (dk_at dksX4_rowOf_0 0 rfl rfl)
theorem dX4_rowOf_1 : decode cX4_rowOf 1 = .ok (.getfield 20, 3) := dk_180 0 20 (dk_at dksX4_rowOf_0 1 rfl rfl)
theorem dX4_rowOf_4 : decode cX4_rowOf 4 = .ok (.iload_n 1, 1) := dk_27 (dk_at dksX4_rowOf_0 4 rfl rfl)
theorem dX4_rowOf_5 : decode cX4_rowOf 5 = .ok (.iaload, 1) := dk_46 (dk_at dksX4_rowOf_0 5 rfl rfl)
theorem dX4_rowOf_6 : decode cX4_rowOf 6 = .ok (.ireturn, 1) := dk_172 (dk_at dksX4_rowOf_0 6 rfl rfl)
abbrev cX4_begin : ByteArray := prog_10_method_14_code
def yX4_begin : MethodName := ⟨RX4, "begin", "()V"⟩
def dkwX4_begin_0 : List UInt8 := [42, 89, 180, 0, 107, 4, 96, 181, 0, 107, 177]
abbrev dktX4_begin_0 : List UInt8 := dkwX4_begin_0 ++ []
theorem dksX4_begin_0 : cX4_begin.data.toList.drop 0 = dktX4_begin_0 := by decide +kernel
theorem dX4_begin_0 : decode cX4_begin 0 = .ok (.aload_n 0, 1) := dk_42 (dk_at dksX4_begin_0 0 rfl rfl)
theorem dX4_begin_1 : decode cX4_begin 1 = .ok (.dup, 1) := dk_89 (dk_at dksX4_begin_0 1 rfl rfl)
theorem dX4_begin_2 : decode cX4_begin 2 = .ok (.getfield 107, 3) := dk_180 0 107 (dk_at dksX4_begin_0 2 rfl rfl)
theorem dX4_begin_5 : decode cX4_begin 5 = .ok (.iconst 1, 1) := dk_4 (dk_at dksX4_begin_0 5 rfl rfl)
theorem dX4_begin_6 : decode cX4_begin 6 = .ok (.iadd, 1) := dk_96 (dk_at dksX4_begin_0 6 rfl rfl)
theorem dX4_begin_7 : decode cX4_begin 7 = .ok (.putfield 107, 3) := dk_181 0 107 (dk_at dksX4_begin_0 7 rfl rfl)
theorem dX4_begin_10 : decode cX4_begin 10 = .ok (.return_, 1) := dk_177 (dk_at dksX4_begin_0 10 rfl rfl)
abbrev cX4_isThere : ByteArray := prog_10_method_16_code
def yX4_isThere : MethodName := ⟨RX4, "isThere", "(I)Z"⟩
def dkwX4_isThere_0 : List UInt8 := [42, 180, 0, 26, 27, 46, 42, 180, 0, 107, 160, 0, 7, 4, 167, 0, 4, 3, 172]
abbrev dktX4_isThere_0 : List UInt8 := dkwX4_isThere_0 ++ []
theorem dksX4_isThere_0 : cX4_isThere.data.toList.drop 0 = dktX4_isThere_0 := by decide +kernel
theorem dX4_isThere_0 : decode cX4_isThere 0 = .ok (.aload_n 0, 1) := dk_42 (dk_at dksX4_isThere_0 0 rfl rfl)
theorem dX4_isThere_1 : decode cX4_isThere 1 = .ok (.getfield 26, 3) := dk_180 0 26 (dk_at dksX4_isThere_0 1 rfl rfl)
theorem dX4_isThere_4 : decode cX4_isThere 4 = .ok (.iload_n 1, 1) := dk_27 (dk_at dksX4_isThere_0 4 rfl rfl)
theorem dX4_isThere_5 : decode cX4_isThere 5 = .ok (.iaload, 1) := dk_46 (dk_at dksX4_isThere_0 5 rfl rfl)
theorem dX4_isThere_6 : decode cX4_isThere 6 = .ok (.aload_n 0, 1) := dk_42 (dk_at dksX4_isThere_0 6 rfl rfl)
theorem dX4_isThere_7 : decode cX4_isThere 7 = .ok (.getfield 107, 3) := dk_180 0 107 (dk_at dksX4_isThere_0 7 rfl rfl)
theorem dX4_isThere_10 : decode cX4_isThere 10 = .ok (.if_icmp .ne 7, 3) := dk_160 0 7 (dk_at dksX4_isThere_0 10 rfl rfl)
theorem dX4_isThere_13 : decode cX4_isThere 13 = .ok (.iconst 1, 1) := dk_4 (dk_at dksX4_isThere_0 13 rfl rfl)
theorem dX4_isThere_14 : decode cX4_isThere 14 = .ok (.goto 4, 3) := dk_167 0 4 (dk_at dksX4_isThere_0 14 rfl rfl)
theorem dX4_isThere_17 : decode cX4_isThere 17 = .ok (.iconst 0, 1) := dk_3 (dk_at dksX4_isThere_0 17 rfl rfl)
theorem dX4_isThere_18 : decode cX4_isThere 18 = .ok (.ireturn, 1) := dk_172 (dk_at dksX4_isThere_0 18 rfl rfl)
abbrev cX4_mark : ByteArray := prog_10_method_17_code
def yX4_mark : MethodName := ⟨RX4, "mark", "(II)V"⟩
def dkwX4_mark_0 : List UInt8 := [42, 180, 0, 26, 27, 42, 180, 0, 107, 79, 42, 180, 0, 23, 27, 28, 79, 177]
abbrev dktX4_mark_0 : List UInt8 := dkwX4_mark_0 ++ []
theorem dksX4_mark_0 : cX4_mark.data.toList.drop 0 = dktX4_mark_0 := by decide +kernel
theorem dX4_mark_0 : decode cX4_mark 0 = .ok (.aload_n 0, 1) := dk_42 (dk_at dksX4_mark_0 0 rfl rfl)
theorem dX4_mark_1 : decode cX4_mark 1 = .ok (.getfield 26, 3) := dk_180 0 26 (dk_at dksX4_mark_0 1 rfl rfl)
theorem dX4_mark_4 : decode cX4_mark 4 = .ok (.iload_n 1, 1) := dk_27 (dk_at dksX4_mark_0 4 rfl rfl)
theorem dX4_mark_5 : decode cX4_mark 5 = .ok (.aload_n 0, 1) := dk_42 (dk_at dksX4_mark_0 5 rfl rfl)
theorem dX4_mark_6 : decode cX4_mark 6 = .ok (.getfield 107, 3) := dk_180 0 107 (dk_at dksX4_mark_0 6 rfl rfl)
theorem dX4_mark_9 : decode cX4_mark 9 = .ok (.iastore, 1) := dk_79 (dk_at dksX4_mark_0 9 rfl rfl)
theorem dX4_mark_10 : decode cX4_mark 10 = .ok (.aload_n 0, 1) := dk_42 (dk_at dksX4_mark_0 10 rfl rfl)
theorem dX4_mark_11 : decode cX4_mark 11 = .ok (.getfield 23, 3) := dk_180 0 23 (dk_at dksX4_mark_0 11 rfl rfl)
theorem dX4_mark_14 : decode cX4_mark 14 = .ok (.iload_n 1, 1) := dk_27 (dk_at dksX4_mark_0 14 rfl rfl)
theorem dX4_mark_15 : decode cX4_mark 15 = .ok (.iload_n 2, 1) := dk_28 (dk_at dksX4_mark_0 15 rfl rfl)
theorem dX4_mark_16 : decode cX4_mark 16 = .ok (.iastore, 1) := dk_79 (dk_at dksX4_mark_0 16 rfl rfl)
theorem dX4_mark_17 : decode cX4_mark 17 = .ok (.return_, 1) := dk_177 (dk_at dksX4_mark_0 17 rfl rfl)
abbrev cX4_markOf : ByteArray := prog_10_method_18_code
def yX4_markOf : MethodName := ⟨RX4, "markOf", "(I)I"⟩
def dkwX4_markOf_0 : List UInt8 := [42, 180, 0, 23, 27, 46, 172]
abbrev dktX4_markOf_0 : List UInt8 := dkwX4_markOf_0 ++ []
theorem dksX4_markOf_0 : cX4_markOf.data.toList.drop 0 = dktX4_markOf_0 := by decide +kernel
theorem dX4_markOf_0 : decode cX4_markOf 0 = .ok (.aload_n 0, 1) := dk_42 (dk_at dksX4_markOf_0 0 rfl rfl)
theorem dX4_markOf_1 : decode cX4_markOf 1 = .ok (.getfield 23, 3) := dk_180 0 23 (dk_at dksX4_markOf_0 1 rfl rfl)
theorem dX4_markOf_4 : decode cX4_markOf 4 = .ok (.iload_n 1, 1) := dk_27 (dk_at dksX4_markOf_0 4 rfl rfl)
theorem dX4_markOf_5 : decode cX4_markOf 5 = .ok (.iaload, 1) := dk_46 (dk_at dksX4_markOf_0 5 rfl rfl)
theorem dX4_markOf_6 : decode cX4_markOf 6 = .ok (.ireturn, 1) := dk_172 (dk_at dksX4_markOf_0 6 rfl rfl)
abbrev cX4_isMarked : ByteArray := prog_10_method_15_code
def yX4_isMarked : MethodName := ⟨RX4, "isMarked", "(II)Z"⟩
def dkwX4_isMarked_1 : List UInt8 := [167, 0, 4, 3, 172]
abbrev dktX4_isMarked_1 : List UInt8 := dkwX4_isMarked_1 ++ []
def dkwX4_isMarked_0 : List UInt8 := [42, 180, 0, 26, 27, 46, 42, 180, 0, 107, 160, 0, 17, 42, 180, 0, 23, 27, 46, 28, 159, 0, 7, 4]
abbrev dktX4_isMarked_0 : List UInt8 := dkwX4_isMarked_0 ++ dktX4_isMarked_1
theorem dksX4_isMarked_0 : cX4_isMarked.data.toList.drop 0 = dktX4_isMarked_0 := by decide +kernel
theorem dksX4_isMarked_1 : cX4_isMarked.data.toList.drop 24 = dktX4_isMarked_1 := dk_seg dksX4_isMarked_0 24 rfl rfl
theorem dX4_isMarked_0 : decode cX4_isMarked 0 = .ok (.aload_n 0, 1) := dk_42 (dk_at dksX4_isMarked_0 0 rfl rfl)
theorem dX4_isMarked_1 : decode cX4_isMarked 1 = .ok (.getfield 26, 3) := dk_180 0 26 (dk_at dksX4_isMarked_0 1 rfl rfl)
theorem dX4_isMarked_4 : decode cX4_isMarked 4 = .ok (.iload_n 1, 1) := dk_27 (dk_at dksX4_isMarked_0 4 rfl rfl)
theorem dX4_isMarked_5 : decode cX4_isMarked 5 = .ok (.iaload, 1) := dk_46 (dk_at dksX4_isMarked_0 5 rfl rfl)
theorem dX4_isMarked_6 : decode cX4_isMarked 6 = .ok (.aload_n 0, 1) := dk_42 (dk_at dksX4_isMarked_0 6 rfl rfl)
theorem dX4_isMarked_7 : decode cX4_isMarked 7 = .ok (.getfield 107, 3) := dk_180 0 107 (dk_at dksX4_isMarked_0 7 rfl rfl)
theorem dX4_isMarked_10 : decode cX4_isMarked 10 = .ok (.if_icmp .ne 17, 3) := dk_160 0 17 (dk_at dksX4_isMarked_0 10 rfl rfl)
theorem dX4_isMarked_13 : decode cX4_isMarked 13 = .ok (.aload_n 0, 1) := dk_42 (dk_at dksX4_isMarked_0 13 rfl rfl)
theorem dX4_isMarked_14 : decode cX4_isMarked 14 = .ok (.getfield 23, 3) := dk_180 0 23 (dk_at dksX4_isMarked_0 14 rfl rfl)
theorem dX4_isMarked_17 : decode cX4_isMarked 17 = .ok (.iload_n 1, 1) := dk_27 (dk_at dksX4_isMarked_0 17 rfl rfl)
theorem dX4_isMarked_18 : decode cX4_isMarked 18 = .ok (.iaload, 1) := dk_46 (dk_at dksX4_isMarked_0 18 rfl rfl)
theorem dX4_isMarked_19 : decode cX4_isMarked 19 = .ok (.iload_n 2, 1) := dk_28 (dk_at dksX4_isMarked_0 19 rfl rfl)
theorem dX4_isMarked_20 : decode cX4_isMarked 20 = .ok (.if_icmp .eq 7, 3) := dk_159 0 7 (dk_at dksX4_isMarked_0 20 rfl rfl)
theorem dX4_isMarked_23 : decode cX4_isMarked 23 = .ok (.iconst 1, 1) := dk_4 (dk_at dksX4_isMarked_0 23 rfl rfl)
theorem dX4_isMarked_24 : decode cX4_isMarked 24 = .ok (.goto 4, 3) := dk_167 0 4 (dk_at dksX4_isMarked_1 0 rfl rfl)
theorem dX4_isMarked_27 : decode cX4_isMarked 27 = .ok (.iconst 0, 1) := dk_3 (dk_at dksX4_isMarked_1 3 rfl rfl)
theorem dX4_isMarked_28 : decode cX4_isMarked 28 = .ok (.ireturn, 1) := dk_172 (dk_at dksX4_isMarked_1 4 rfl rfl)
theorem q128 : (Jvm.Cond.initialized "FifthCard$Pairing") ∈ lw_all := lw_g (lw_at lw_m1 7 rfl) rfl
theorem q281 : (Jvm.Cond.instantiable "FifthCard$Pairing" (14 : Nat)) ∈ lw_all := lw_g (lw_at lw_m1 160 rfl) rfl
theorem q283 : (Jvm.Cond.instanceMethod ({ cls := "FifthCard$Pairing", name := "<init>", desc := "()V" } : Jvm.MethodName)) ∈ lw_all := lw_g (lw_at lw_m1 162 rfl) rfl
theorem q284 : (Jvm.Cond.code ({ cls := "FifthCard$Pairing", name := "<init>", desc := "()V" } : Jvm.MethodName) prog_10_method_1_code (1 : Nat) (Option.none : Option Jvm.ClassFile.FieldType)) ∈ lw_all := lw_g (lw_at lw_m1 163 rfl) rfl
theorem q285 : (Jvm.Cond.methodLink "FifthCard$Pairing" (3 : Nat) ({ cls := "java/lang/Object", name := "<init>", desc := "()V" } : Jvm.MethodName)) ∈ lw_all := lw_g (lw_at lw_m1 164 rfl) rfl
theorem q286 : (Jvm.Cond.constant "FifthCard$Pairing" (9 : Nat) (95040 : Int32)) ∈ lw_all := lw_g (lw_at lw_m1 165 rfl) rfl
theorem q287 : (Jvm.Cond.constant "FifthCard$Pairing" (16 : Nat) (190080 : Int32)) ∈ lw_all := lw_g (lw_at lw_m1 166 rfl) rfl
theorem q288 : (Jvm.Cond.fieldLink "FifthCard$Pairing" (10 : Nat) "FifthCard$Pairing" "tuples" "[I") ∈ lw_all := lw_g (lw_at lw_m1 167 rfl) rfl
theorem q289 : (Jvm.Cond.fieldLink "FifthCard$Pairing" (17 : Nat) "FifthCard$Pairing" "matchRow" "[I") ∈ lw_all := lw_g (lw_at lw_m1 168 rfl) rfl
theorem q290 : (Jvm.Cond.fieldLink "FifthCard$Pairing" (20 : Nat) "FifthCard$Pairing" "matchHand" "[I") ∈ lw_all := lw_g (lw_at lw_m1 169 rfl) rfl
theorem q291 : (Jvm.Cond.fieldLink "FifthCard$Pairing" (23 : Nat) "FifthCard$Pairing" "from" "[I") ∈ lw_all := lw_g (lw_at lw_m1 170 rfl) rfl
theorem q292 : (Jvm.Cond.fieldLink "FifthCard$Pairing" (26 : Nat) "FifthCard$Pairing" "seen" "[I") ∈ lw_all := lw_g (lw_at lw_m1 171 rfl) rfl
theorem q293 : (Jvm.Cond.fieldLink "FifthCard$Pairing" (29 : Nat) "FifthCard$Pairing" "queue" "[I") ∈ lw_all := lw_g (lw_at lw_m1 172 rfl) rfl
theorem q294 : (Jvm.Cond.fieldLink "FifthCard$Pairing" (32 : Nat) "FifthCard$Pairing" "cards" "[I") ∈ lw_all := lw_g (lw_at lw_m1 173 rfl) rfl
theorem q295 : (Jvm.Cond.fieldLink "FifthCard$Pairing" (35 : Nat) "FifthCard$Pairing" "row" "[I") ∈ lw_all := lw_g (lw_at lw_m1 174 rfl) rfl
theorem q296 : (Jvm.Cond.fieldLink "FifthCard$Pairing" (76 : Nat) "FifthCard$Pairing" "each" "I") ∈ lw_all := lw_g (lw_at lw_m1 175 rfl) rfl
theorem q297 : (Jvm.Cond.fieldLink "FifthCard$Pairing" (47 : Nat) "FifthCard$Pairing" "hands" "I") ∈ lw_all := lw_g (lw_at lw_m1 176 rfl) rfl
theorem q298 : (Jvm.Cond.fieldLink "FifthCard$Pairing" (53 : Nat) "FifthCard$Pairing" "tiltings" "I") ∈ lw_all := lw_g (lw_at lw_m1 177 rfl) rfl
theorem q299 : (Jvm.Cond.fieldLink "FifthCard$Pairing" (107 : Nat) "FifthCard$Pairing" "stamp" "I") ∈ lw_all := lw_g (lw_at lw_m1 178 rfl) rfl
theorem q300 : (Jvm.Cond.fieldLink "FifthCard$Pairing" (90 : Nat) "FifthCard$Pairing" "pairs" "I") ∈ lw_all := lw_g (lw_at lw_m1 179 rfl) rfl
theorem q302 : (Jvm.Cond.fieldLink "FifthCard$Pairing" (93 : Nat) "FifthCard$Pairing" "isLeast" "Z") ∈ lw_all := lw_g (lw_at lw_m1 181 rfl) rfl
theorem q303 : (Jvm.Cond.laysFinal "FifthCard$Pairing" "FifthCard$Pairing" "tuples" "[I") ∈ lw_all := lw_g (lw_at lw_m1 182 rfl) rfl
theorem q304 : (Jvm.Cond.soleField "FifthCard$Pairing" "tuples") ∈ lw_all := lw_g (lw_at lw_m1 183 rfl) rfl
theorem q305 : (Jvm.Cond.laysFinal "FifthCard$Pairing" "FifthCard$Pairing" "matchRow" "[I") ∈ lw_all := lw_g (lw_at lw_m1 184 rfl) rfl
theorem q306 : (Jvm.Cond.soleField "FifthCard$Pairing" "matchRow") ∈ lw_all := lw_g (lw_at lw_m1 185 rfl) rfl
theorem q307 : (Jvm.Cond.laysFinal "FifthCard$Pairing" "FifthCard$Pairing" "matchHand" "[I") ∈ lw_all := lw_g (lw_at lw_m1 186 rfl) rfl
theorem q308 : (Jvm.Cond.soleField "FifthCard$Pairing" "matchHand") ∈ lw_all := lw_g (lw_at lw_m1 187 rfl) rfl
theorem q309 : (Jvm.Cond.laysFinal "FifthCard$Pairing" "FifthCard$Pairing" "from" "[I") ∈ lw_all := lw_g (lw_at lw_m1 188 rfl) rfl
theorem q310 : (Jvm.Cond.soleField "FifthCard$Pairing" "from") ∈ lw_all := lw_g (lw_at lw_m1 189 rfl) rfl
theorem q311 : (Jvm.Cond.laysFinal "FifthCard$Pairing" "FifthCard$Pairing" "seen" "[I") ∈ lw_all := lw_g (lw_at lw_m1 190 rfl) rfl
theorem q312 : (Jvm.Cond.soleField "FifthCard$Pairing" "seen") ∈ lw_all := lw_g (lw_at lw_m1 191 rfl) rfl
theorem q313 : (Jvm.Cond.laysFinal "FifthCard$Pairing" "FifthCard$Pairing" "queue" "[I") ∈ lw_all := lw_g (lw_at lw_m1 192 rfl) rfl
theorem q314 : (Jvm.Cond.soleField "FifthCard$Pairing" "queue") ∈ lw_all := lw_g (lw_at lw_m1 193 rfl) rfl
theorem q315 : (Jvm.Cond.laysFinal "FifthCard$Pairing" "FifthCard$Pairing" "cards" "[I") ∈ lw_all := lw_g (lw_at lw_m1 194 rfl) rfl
theorem q316 : (Jvm.Cond.soleField "FifthCard$Pairing" "cards") ∈ lw_all := lw_g (lw_at lw_m1 195 rfl) rfl
theorem q317 : (Jvm.Cond.laysFinal "FifthCard$Pairing" "FifthCard$Pairing" "row" "[I") ∈ lw_all := lw_g (lw_at lw_m1 196 rfl) rfl
theorem q318 : (Jvm.Cond.soleField "FifthCard$Pairing" "row") ∈ lw_all := lw_g (lw_at lw_m1 197 rfl) rfl
theorem q319 : (Jvm.Cond.lays "FifthCard$Pairing" "FifthCard$Pairing" "each" "I") ∈ lw_all := lw_g (lw_at lw_m1 198 rfl) rfl
theorem q320 : (Jvm.Cond.soleField "FifthCard$Pairing" "each") ∈ lw_all := lw_g (lw_at lw_m1 199 rfl) rfl
theorem q321 : (Jvm.Cond.lays "FifthCard$Pairing" "FifthCard$Pairing" "hands" "I") ∈ lw_all := lw_g (lw_at lw_m1 200 rfl) rfl
theorem q322 : (Jvm.Cond.soleField "FifthCard$Pairing" "hands") ∈ lw_all := lw_g (lw_at lw_m1 201 rfl) rfl
theorem q323 : (Jvm.Cond.lays "FifthCard$Pairing" "FifthCard$Pairing" "tiltings" "I") ∈ lw_all := lw_g (lw_at lw_m1 202 rfl) rfl
theorem q324 : (Jvm.Cond.soleField "FifthCard$Pairing" "tiltings") ∈ lw_all := lw_g (lw_at lw_m1 203 rfl) rfl
theorem q325 : (Jvm.Cond.lays "FifthCard$Pairing" "FifthCard$Pairing" "stamp" "I") ∈ lw_all := lw_g (lw_at lw_m1 204 rfl) rfl
theorem q326 : (Jvm.Cond.soleField "FifthCard$Pairing" "stamp") ∈ lw_all := lw_g (lw_at lw_m1 205 rfl) rfl
theorem q327 : (Jvm.Cond.lays "FifthCard$Pairing" "FifthCard$Pairing" "pairs" "I") ∈ lw_all := lw_g (lw_at lw_m1 206 rfl) rfl
theorem q328 : (Jvm.Cond.soleField "FifthCard$Pairing" "pairs") ∈ lw_all := lw_g (lw_at lw_m1 207 rfl) rfl
theorem q329 : (Jvm.Cond.lays "FifthCard$Pairing" "FifthCard$Pairing" "isLeast" "Z") ∈ lw_all := lw_g (lw_at lw_m1 208 rfl) rfl
theorem q330 : (Jvm.Cond.soleField "FifthCard$Pairing" "isLeast") ∈ lw_all := lw_g (lw_at lw_m1 209 rfl) rfl
theorem q331 : (Jvm.Cond.superclass "FifthCard$Pairing" "java/lang/Object") ∈ lw_all := lw_g (lw_at lw_m1 210 rfl) rfl
theorem q566 : (Jvm.Cond.fieldLink "FifthCard$Pairing" (38 : Nat) "FifthCard$Trick" "cards" "I") ∈ lw_all := lw_g (lw_at lw_m2 205 rfl) rfl
theorem q580 : (Jvm.Cond.fieldLink "FifthCard$Pairing" (62 : Nat) "FifthCard$Trick" "hand" "I") ∈ lw_all := lw_g (lw_at lw_m2 219 rfl) rfl
theorem q597 : (Jvm.Cond.fieldLink "FifthCard$Pairing" (55 : Nat) "FifthCard$Trick" "stranger" "Z") ∈ lw_all := lw_g (lw_at lw_m2 236 rfl) rfl
theorem q603 : (Jvm.Cond.fieldLink "FifthCard$Pairing" (59 : Nat) "FifthCard$Trick" "held" "Z") ∈ lw_all := lw_g (lw_at lw_m3 2 rfl) rfl
theorem q960 : (Jvm.Cond.instanceMethod ({ cls := "FifthCard$Pairing", name := "lay", desc := "(LFifthCard$Trick;)V" } : Jvm.MethodName)) ∈ lw_all := lw_g (lw_at lw_m4 119 rfl) rfl
theorem q961 : (Jvm.Cond.selects "FifthCard$Pairing" ({ cls := "FifthCard$Pairing", name := "lay", desc := "(LFifthCard$Trick;)V" } : Jvm.MethodName) ({ cls := "FifthCard$Pairing", name := "lay", desc := "(LFifthCard$Trick;)V" } : Jvm.MethodName)) ∈ lw_all := lw_g (lw_at lw_m4 120 rfl) rfl
theorem q962 : (Jvm.Cond.code ({ cls := "FifthCard$Pairing", name := "lay", desc := "(LFifthCard$Trick;)V" } : Jvm.MethodName) prog_10_method_2_code (3 : Nat) (Option.none : Option Jvm.ClassFile.FieldType)) ∈ lw_all := lw_g (lw_at lw_m4 121 rfl) rfl
theorem q963 : (Jvm.Cond.methodLink "FifthCard$Pairing" (43 : Nat) ({ cls := "FifthCard$Trick", name := "hands", desc := "(I)J" } : Jvm.MethodName)) ∈ lw_all := lw_g (lw_at lw_m4 122 rfl) rfl
theorem q964 : (Jvm.Cond.methodLink "FifthCard$Pairing" (49 : Nat) ({ cls := "FifthCard$Trick", name := "tiltings", desc := "()I" } : Jvm.MethodName)) ∈ lw_all := lw_g (lw_at lw_m4 123 rfl) rfl
theorem q965 : (Jvm.Cond.methodLink "FifthCard$Pairing" (65 : Nat) ({ cls := "FifthCard$Trick", name := "rows", desc := "()I" } : Jvm.MethodName)) ∈ lw_all := lw_g (lw_at lw_m4 124 rfl) rfl
theorem q966 : (Jvm.Cond.methodLinkNest "FifthCard$Pairing" (68 : Nat) ({ cls := "FifthCard", name := "falling", desc := "(II)J" } : Jvm.MethodName) "FifthCard") ∈ lw_tbl := lw_at lw_m4 125 rfl
theorem q967 : (Jvm.Cond.methodLinkNest "FifthCard$Pairing" (72 : Nat) ({ cls := "FifthCard", name := "factorial", desc := "(I)I" } : Jvm.MethodName) "FifthCard") ∈ lw_tbl := lw_at lw_m4 126 rfl
theorem q968 : (Jvm.Cond.methodLink "FifthCard$Pairing" (79 : Nat) ({ cls := "FifthCard$Trick", name := "layHand", desc := "(I[I)V" } : Jvm.MethodName)) ∈ lw_all := lw_g (lw_at lw_m4 127 rfl) rfl
theorem q976 : (Jvm.Cond.methodLink "FifthCard$Pairing" (83 : Nat) ({ cls := "FifthCard$Pairing", name := "someLeftOut", desc := "(LFifthCard$Trick;I)V" } : Jvm.MethodName)) ∈ lw_all := lw_g (lw_at lw_m4 135 rfl) rfl
theorem q977 : (Jvm.Cond.privateMethod ({ cls := "FifthCard$Pairing", name := "someLeftOut", desc := "(LFifthCard$Trick;I)V" } : Jvm.MethodName)) ∈ lw_tbl := lw_at lw_m4 136 rfl
theorem q978 : (Jvm.Cond.instanceMethod ({ cls := "FifthCard$Pairing", name := "someLeftOut", desc := "(LFifthCard$Trick;I)V" } : Jvm.MethodName)) ∈ lw_all := lw_g (lw_at lw_m4 137 rfl) rfl
theorem q979 : (Jvm.Cond.code ({ cls := "FifthCard$Pairing", name := "someLeftOut", desc := "(LFifthCard$Trick;I)V" } : Jvm.MethodName) prog_10_method_4_code (8 : Nat) (Option.none : Option Jvm.ClassFile.FieldType)) ∈ lw_all := lw_g (lw_at lw_m4 138 rfl) rfl
theorem q980 : (Jvm.Cond.methodLinkNest "FifthCard$Pairing" (104 : Nat) ({ cls := "FifthCard", name := "ones", desc := "(I)I" } : Jvm.MethodName) "FifthCard") ∈ lw_tbl := lw_at lw_m4 139 rfl
theorem q983 : (Jvm.Cond.methodLinkNest "FifthCard$Pairing" (96 : Nat) ({ cls := "FifthCard", name := "has", desc := "(II)Z" } : Jvm.MethodName) "FifthCard") ∈ lw_tbl := lw_at lw_m4 142 rfl
theorem q984 : (Jvm.Cond.methodLink "FifthCard$Pairing" (100 : Nat) ({ cls := "FifthCard$Trick", name := "rank", desc := "([II)I" } : Jvm.MethodName)) ∈ lw_all := lw_g (lw_at lw_m4 143 rfl) rfl
theorem q985 : (Jvm.Cond.methodLink "FifthCard$Pairing" (87 : Nat) ({ cls := "FifthCard$Pairing", name := "allOrders", desc := "(LFifthCard$Trick;I)V" } : Jvm.MethodName)) ∈ lw_all := lw_g (lw_at lw_m4 144 rfl) rfl
theorem q986 : (Jvm.Cond.privateMethod ({ cls := "FifthCard$Pairing", name := "allOrders", desc := "(LFifthCard$Trick;I)V" } : Jvm.MethodName)) ∈ lw_tbl := lw_at lw_m4 145 rfl
theorem q987 : (Jvm.Cond.instanceMethod ({ cls := "FifthCard$Pairing", name := "allOrders", desc := "(LFifthCard$Trick;I)V" } : Jvm.MethodName)) ∈ lw_all := lw_g (lw_at lw_m4 146 rfl) rfl
theorem q988 : (Jvm.Cond.code ({ cls := "FifthCard$Pairing", name := "allOrders", desc := "(LFifthCard$Trick;I)V" } : Jvm.MethodName) prog_10_method_3_code (11 : Nat) (Option.none : Option Jvm.ClassFile.FieldType)) ∈ lw_all := lw_g (lw_at lw_m4 147 rfl) rfl
theorem q1059 : (Jvm.Cond.instanceMethod ({ cls := "FifthCard$Pairing", name := "fits", desc := "(II)Z" } : Jvm.MethodName)) ∈ lw_all := lw_g (lw_at lw_m4 218 rfl) rfl
theorem q1060 : (Jvm.Cond.selects "FifthCard$Pairing" ({ cls := "FifthCard$Pairing", name := "fits", desc := "(II)Z" } : Jvm.MethodName) ({ cls := "FifthCard$Pairing", name := "fits", desc := "(II)Z" } : Jvm.MethodName)) ∈ lw_all := lw_g (lw_at lw_m4 219 rfl) rfl
theorem q1061 : (Jvm.Cond.code ({ cls := "FifthCard$Pairing", name := "fits", desc := "(II)Z" } : Jvm.MethodName) prog_10_method_7_code (5 : Nat) (Option.some Jvm.ClassFile.FieldType.boolean)) ∈ lw_all := lw_g (lw_at lw_m4 220 rfl) rfl
theorem q1067 : (Jvm.Cond.instanceMethod ({ cls := "FifthCard$Pairing", name := "fitting", desc := "()I" } : Jvm.MethodName)) ∈ lw_all := lw_g (lw_at lw_m4 226 rfl) rfl
theorem q1068 : (Jvm.Cond.selects "FifthCard$Pairing" ({ cls := "FifthCard$Pairing", name := "fitting", desc := "()I" } : Jvm.MethodName) ({ cls := "FifthCard$Pairing", name := "fitting", desc := "()I" } : Jvm.MethodName)) ∈ lw_all := lw_g (lw_at lw_m4 227 rfl) rfl
theorem q1069 : (Jvm.Cond.code ({ cls := "FifthCard$Pairing", name := "fitting", desc := "()I" } : Jvm.MethodName) prog_10_method_5_code (1 : Nat) (Option.some Jvm.ClassFile.FieldType.int)) ∈ lw_all := lw_g (lw_at lw_m4 228 rfl) rfl
theorem q1088 : (Jvm.Cond.instanceMethod ({ cls := "FifthCard$Pairing", name := "least", desc := "()Z" } : Jvm.MethodName)) ∈ lw_all := lw_g (lw_at lw_m5 7 rfl) rfl
theorem q1089 : (Jvm.Cond.selects "FifthCard$Pairing" ({ cls := "FifthCard$Pairing", name := "least", desc := "()Z" } : Jvm.MethodName) ({ cls := "FifthCard$Pairing", name := "least", desc := "()Z" } : Jvm.MethodName)) ∈ lw_all := lw_g (lw_at lw_m5 8 rfl) rfl
theorem q1090 : (Jvm.Cond.code ({ cls := "FifthCard$Pairing", name := "least", desc := "()Z" } : Jvm.MethodName) prog_10_method_11_code (3 : Nat) (Option.some Jvm.ClassFile.FieldType.boolean)) ∈ lw_all := lw_g (lw_at lw_m5 9 rfl) rfl
theorem q1091 : (Jvm.Cond.methodLink "FifthCard$Pairing" (123 : Nat) ({ cls := "FifthCard$Pairing", name := "pair", desc := "()V" } : Jvm.MethodName)) ∈ lw_all := lw_g (lw_at lw_m5 10 rfl) rfl
theorem q1092 : (Jvm.Cond.instanceMethod ({ cls := "FifthCard$Pairing", name := "pair", desc := "()V" } : Jvm.MethodName)) ∈ lw_all := lw_g (lw_at lw_m5 11 rfl) rfl
theorem q1093 : (Jvm.Cond.selects "FifthCard$Pairing" ({ cls := "FifthCard$Pairing", name := "pair", desc := "()V" } : Jvm.MethodName) ({ cls := "FifthCard$Pairing", name := "pair", desc := "()V" } : Jvm.MethodName)) ∈ lw_all := lw_g (lw_at lw_m5 12 rfl) rfl
theorem q1094 : (Jvm.Cond.code ({ cls := "FifthCard$Pairing", name := "pair", desc := "()V" } : Jvm.MethodName) prog_10_method_10_code (2 : Nat) (Option.none : Option Jvm.ClassFile.FieldType)) ∈ lw_all := lw_g (lw_at lw_m5 13 rfl) rfl
theorem q1095 : (Jvm.Cond.methodLink "FifthCard$Pairing" (120 : Nat) ({ cls := "FifthCard$Pairing", name := "gives", desc := "(II)Z" } : Jvm.MethodName)) ∈ lw_all := lw_g (lw_at lw_m5 14 rfl) rfl
theorem q1096 : (Jvm.Cond.privateMethod ({ cls := "FifthCard$Pairing", name := "gives", desc := "(II)Z" } : Jvm.MethodName)) ∈ lw_tbl := lw_at lw_m5 15 rfl
theorem q1097 : (Jvm.Cond.instanceMethod ({ cls := "FifthCard$Pairing", name := "gives", desc := "(II)Z" } : Jvm.MethodName)) ∈ lw_all := lw_g (lw_at lw_m5 16 rfl) rfl
theorem q1098 : (Jvm.Cond.code ({ cls := "FifthCard$Pairing", name := "gives", desc := "(II)Z" } : Jvm.MethodName) prog_10_method_8_code (9 : Nat) (Option.some Jvm.ClassFile.FieldType.boolean)) ∈ lw_all := lw_g (lw_at lw_m5 17 rfl) rfl
theorem q1099 : (Jvm.Cond.methodLink "FifthCard$Pairing" (110 : Nat) ({ cls := "FifthCard$Pairing", name := "fitting", desc := "()I" } : Jvm.MethodName)) ∈ lw_all := lw_g (lw_at lw_m5 18 rfl) rfl
theorem q1100 : (Jvm.Cond.methodLink "FifthCard$Pairing" (113 : Nat) ({ cls := "FifthCard$Pairing", name := "row", desc := "(II)I" } : Jvm.MethodName)) ∈ lw_all := lw_g (lw_at lw_m5 19 rfl) rfl
theorem q1101 : (Jvm.Cond.instanceMethod ({ cls := "FifthCard$Pairing", name := "row", desc := "(II)I" } : Jvm.MethodName)) ∈ lw_all := lw_g (lw_at lw_m5 20 rfl) rfl
theorem q1102 : (Jvm.Cond.selects "FifthCard$Pairing" ({ cls := "FifthCard$Pairing", name := "row", desc := "(II)I" } : Jvm.MethodName) ({ cls := "FifthCard$Pairing", name := "row", desc := "(II)I" } : Jvm.MethodName)) ∈ lw_all := lw_g (lw_at lw_m5 21 rfl) rfl
theorem q1103 : (Jvm.Cond.code ({ cls := "FifthCard$Pairing", name := "row", desc := "(II)I" } : Jvm.MethodName) prog_10_method_6_code (3 : Nat) (Option.some Jvm.ClassFile.FieldType.int)) ∈ lw_all := lw_g (lw_at lw_m5 22 rfl) rfl
theorem q1104 : (Jvm.Cond.methodLink "FifthCard$Pairing" (116 : Nat) ({ cls := "FifthCard$Pairing", name := "turns", desc := "(II)V" } : Jvm.MethodName)) ∈ lw_all := lw_g (lw_at lw_m5 23 rfl) rfl
theorem q1105 : (Jvm.Cond.privateMethod ({ cls := "FifthCard$Pairing", name := "turns", desc := "(II)V" } : Jvm.MethodName)) ∈ lw_tbl := lw_at lw_m5 24 rfl
theorem q1106 : (Jvm.Cond.instanceMethod ({ cls := "FifthCard$Pairing", name := "turns", desc := "(II)V" } : Jvm.MethodName)) ∈ lw_all := lw_g (lw_at lw_m5 25 rfl) rfl
theorem q1107 : (Jvm.Cond.code ({ cls := "FifthCard$Pairing", name := "turns", desc := "(II)V" } : Jvm.MethodName) prog_10_method_9_code (7 : Nat) (Option.none : Option Jvm.ClassFile.FieldType)) ∈ lw_all := lw_g (lw_at lw_m5 26 rfl) rfl
theorem q1108 : (Jvm.Cond.methodLink "FifthCard$Pairing" (126 : Nat) ({ cls := "FifthCard$Pairing", name := "takes", desc := "(II)Z" } : Jvm.MethodName)) ∈ lw_all := lw_g (lw_at lw_m5 27 rfl) rfl
theorem q1109 : (Jvm.Cond.privateMethod ({ cls := "FifthCard$Pairing", name := "takes", desc := "(II)Z" } : Jvm.MethodName)) ∈ lw_tbl := lw_at lw_m5 28 rfl
theorem q1110 : (Jvm.Cond.instanceMethod ({ cls := "FifthCard$Pairing", name := "takes", desc := "(II)Z" } : Jvm.MethodName)) ∈ lw_all := lw_g (lw_at lw_m5 29 rfl) rfl
theorem q1111 : (Jvm.Cond.code ({ cls := "FifthCard$Pairing", name := "takes", desc := "(II)Z" } : Jvm.MethodName) prog_10_method_12_code (5 : Nat) (Option.some Jvm.ClassFile.FieldType.boolean)) ∈ lw_all := lw_g (lw_at lw_m5 30 rfl) rfl
theorem q1113 : (Jvm.Cond.instanceMethod ({ cls := "FifthCard$Pairing", name := "rowOf", desc := "(I)I" } : Jvm.MethodName)) ∈ lw_all := lw_g (lw_at lw_m5 32 rfl) rfl
theorem q1114 : (Jvm.Cond.selects "FifthCard$Pairing" ({ cls := "FifthCard$Pairing", name := "rowOf", desc := "(I)I" } : Jvm.MethodName) ({ cls := "FifthCard$Pairing", name := "rowOf", desc := "(I)I" } : Jvm.MethodName)) ∈ lw_all := lw_g (lw_at lw_m5 33 rfl) rfl
theorem q1115 : (Jvm.Cond.code ({ cls := "FifthCard$Pairing", name := "rowOf", desc := "(I)I" } : Jvm.MethodName) prog_10_method_13_code (2 : Nat) (Option.some Jvm.ClassFile.FieldType.int)) ∈ lw_all := lw_g (lw_at lw_m5 34 rfl) rfl
theorem q1216 : (Jvm.Cond.instanceMethod ({ cls := "FifthCard$Pairing", name := "begin", desc := "()V" } : Jvm.MethodName)) ∈ lw_all := lw_g (lw_at lw_m5 135 rfl) rfl
theorem q1217 : (Jvm.Cond.selects "FifthCard$Pairing" ({ cls := "FifthCard$Pairing", name := "begin", desc := "()V" } : Jvm.MethodName) ({ cls := "FifthCard$Pairing", name := "begin", desc := "()V" } : Jvm.MethodName)) ∈ lw_all := lw_g (lw_at lw_m5 136 rfl) rfl
theorem q1218 : (Jvm.Cond.code ({ cls := "FifthCard$Pairing", name := "begin", desc := "()V" } : Jvm.MethodName) prog_10_method_14_code (1 : Nat) (Option.none : Option Jvm.ClassFile.FieldType)) ∈ lw_all := lw_g (lw_at lw_m5 137 rfl) rfl
theorem q1220 : (Jvm.Cond.instanceMethod ({ cls := "FifthCard$Pairing", name := "isThere", desc := "(I)Z" } : Jvm.MethodName)) ∈ lw_all := lw_g (lw_at lw_m5 139 rfl) rfl
theorem q1221 : (Jvm.Cond.selects "FifthCard$Pairing" ({ cls := "FifthCard$Pairing", name := "isThere", desc := "(I)Z" } : Jvm.MethodName) ({ cls := "FifthCard$Pairing", name := "isThere", desc := "(I)Z" } : Jvm.MethodName)) ∈ lw_all := lw_g (lw_at lw_m5 140 rfl) rfl
theorem q1222 : (Jvm.Cond.code ({ cls := "FifthCard$Pairing", name := "isThere", desc := "(I)Z" } : Jvm.MethodName) prog_10_method_16_code (2 : Nat) (Option.some Jvm.ClassFile.FieldType.boolean)) ∈ lw_all := lw_g (lw_at lw_m5 141 rfl) rfl
theorem q1224 : (Jvm.Cond.instanceMethod ({ cls := "FifthCard$Pairing", name := "mark", desc := "(II)V" } : Jvm.MethodName)) ∈ lw_all := lw_g (lw_at lw_m5 143 rfl) rfl
theorem q1225 : (Jvm.Cond.selects "FifthCard$Pairing" ({ cls := "FifthCard$Pairing", name := "mark", desc := "(II)V" } : Jvm.MethodName) ({ cls := "FifthCard$Pairing", name := "mark", desc := "(II)V" } : Jvm.MethodName)) ∈ lw_all := lw_g (lw_at lw_m5 144 rfl) rfl
theorem q1226 : (Jvm.Cond.code ({ cls := "FifthCard$Pairing", name := "mark", desc := "(II)V" } : Jvm.MethodName) prog_10_method_17_code (3 : Nat) (Option.none : Option Jvm.ClassFile.FieldType)) ∈ lw_all := lw_g (lw_at lw_m5 145 rfl) rfl
theorem q1232 : (Jvm.Cond.instanceMethod ({ cls := "FifthCard$Pairing", name := "markOf", desc := "(I)I" } : Jvm.MethodName)) ∈ lw_all := lw_g (lw_at lw_m5 151 rfl) rfl
theorem q1233 : (Jvm.Cond.selects "FifthCard$Pairing" ({ cls := "FifthCard$Pairing", name := "markOf", desc := "(I)I" } : Jvm.MethodName) ({ cls := "FifthCard$Pairing", name := "markOf", desc := "(I)I" } : Jvm.MethodName)) ∈ lw_all := lw_g (lw_at lw_m5 152 rfl) rfl
theorem q1234 : (Jvm.Cond.code ({ cls := "FifthCard$Pairing", name := "markOf", desc := "(I)I" } : Jvm.MethodName) prog_10_method_18_code (2 : Nat) (Option.some Jvm.ClassFile.FieldType.int)) ∈ lw_all := lw_g (lw_at lw_m5 153 rfl) rfl
theorem q1257 : (Jvm.Cond.instanceMethod ({ cls := "FifthCard$Pairing", name := "isMarked", desc := "(II)Z" } : Jvm.MethodName)) ∈ lw_all := lw_g (lw_at lw_m5 176 rfl) rfl
theorem q1258 : (Jvm.Cond.selects "FifthCard$Pairing" ({ cls := "FifthCard$Pairing", name := "isMarked", desc := "(II)Z" } : Jvm.MethodName) ({ cls := "FifthCard$Pairing", name := "isMarked", desc := "(II)Z" } : Jvm.MethodName)) ∈ lw_all := lw_g (lw_at lw_m5 177 rfl) rfl
theorem q1259 : (Jvm.Cond.code ({ cls := "FifthCard$Pairing", name := "isMarked", desc := "(II)Z" } : Jvm.MethodName) prog_10_method_15_code (3 : Nat) (Option.some Jvm.ClassFile.FieldType.boolean)) ∈ lw_all := lw_g (lw_at lw_m5 178 rfl) rfl
theorem q2228 : (Jvm.Cond.castable "FifthCard$Pairing" "java/lang/Object") ∈ lw_tbl := lw_at lw_m9 187 rfl
theorem in_X4 : ∀ w ∈ wsX40, w ∈ lw_all := lw_in wsX40 [303, 305, 307, 309, 311, 313, 315, 317, 319, 321, 323, 325, 327, 329] (by decide +kernel) (by decide +kernel)
/-! FifthCard$Log -/
set_option maxRecDepth 100000
def RX5 : String := "FifthCard$Log"
def TX5 : u_T := fun k => match k with
  | 0 => ("FifthCard$Log", "hands", "[I", true)
  | 1 => ("FifthCard$Log", "rows", "[I", true)
  | 2 => ("FifthCard$Log", "many", "I", false)
  | _ => ("FifthCard$Log", "seed", "I", false)
def tyX5 : Nat → FieldType := fun k => match k with
  | 0 => .array .int
  | 1 => .array .int
  | 2 => .int
  | _ => .int
abbrev wsX50 : List Cond := u_ws RX5 TX5 4
theorem nmX5 : ∀ a, a < 4 → ∀ b, b < 4 → a ≠ b → (TX5 a).2.1 ≠ (TX5 b).2.1 := by decide +kernel
theorem tyX5_ok : ∀ k, k < 4 → parseFieldDescriptor (TX5 k).2.2.1 = some (tyX5 k) := by decide +kernel
abbrev cX5_init : ByteArray := prog_7_method_1_code
def yX5_init : MethodName := ⟨RX5, "<init>", "()V"⟩
def dkwX5_init_0 : List UInt8 := [42, 183, 0, 3, 42, 16, 20, 188, 10, 181, 0, 9, 42, 16, 20, 188, 10, 181, 0, 15, 177]
abbrev dktX5_init_0 : List UInt8 := dkwX5_init_0 ++ []
theorem dksX5_init_0 : cX5_init.data.toList.drop 0 = dktX5_init_0 := by decide +kernel
theorem dX5_init_0 : decode cX5_init 0 = .ok (.aload_n 0, 1) := dk_42 (dk_at dksX5_init_0 0 rfl rfl)
theorem dX5_init_1 : decode cX5_init 1 = .ok (.invokespecial 3, 3) := dk_183 0 3 (dk_at dksX5_init_0 1 rfl rfl)
theorem dX5_init_4 : decode cX5_init 4 = .ok (.aload_n 0, 1) := dk_42 (dk_at dksX5_init_0 4 rfl rfl)
theorem dX5_init_5 : decode cX5_init 5 = .ok (.bipush 20, 2) := dk_16 20 (dk_at dksX5_init_0 5 rfl rfl)
theorem dX5_init_7 : decode cX5_init 7 = .ok (.newarray .int, 2) := dk_188_10 (dk_at dksX5_init_0 7 rfl rfl)
theorem dX5_init_9 : decode cX5_init 9 = .ok (.putfield 9, 3) := dk_181 0 9 (dk_at dksX5_init_0 9 rfl rfl)
theorem dX5_init_12 : decode cX5_init 12 = .ok (.aload_n 0, 1) := dk_42 (dk_at dksX5_init_0 12 rfl rfl)
theorem dX5_init_13 : decode cX5_init 13 = .ok (.bipush 20, 2) := dk_16 20 (dk_at dksX5_init_0 13 rfl rfl)
theorem dX5_init_15 : decode cX5_init 15 = .ok (.newarray .int, 2) := dk_188_10 (dk_at dksX5_init_0 15 rfl rfl)
theorem dX5_init_17 : decode cX5_init 17 = .ok (.putfield 15, 3) := dk_181 0 15 (dk_at dksX5_init_0 17 rfl rfl)
theorem dX5_init_20 : decode cX5_init 20 = .ok (.return_, 1) := dk_177 (dk_at dksX5_init_0 20 rfl rfl)
abbrev cX5_add : ByteArray := prog_7_method_3_code
def yX5_add : MethodName := ⟨RX5, "add", "(II)V"⟩
def dkwX5_add_1 : List UInt8 := [180, 0, 18, 4, 96, 181, 0, 18, 177]
abbrev dktX5_add_1 : List UInt8 := dkwX5_add_1 ++ []
def dkwX5_add_0 : List UInt8 := [42, 180, 0, 9, 42, 180, 0, 18, 27, 79, 42, 180, 0, 15, 42, 180, 0, 18, 28, 79, 42, 89]
abbrev dktX5_add_0 : List UInt8 := dkwX5_add_0 ++ dktX5_add_1
theorem dksX5_add_0 : cX5_add.data.toList.drop 0 = dktX5_add_0 := by decide +kernel
theorem dksX5_add_1 : cX5_add.data.toList.drop 22 = dktX5_add_1 := dk_seg dksX5_add_0 22 rfl rfl
theorem dX5_add_0 : decode cX5_add 0 = .ok (.aload_n 0, 1) := dk_42 (dk_at dksX5_add_0 0 rfl rfl)
theorem dX5_add_1 : decode cX5_add 1 = .ok (.getfield 9, 3) := dk_180 0 9 (dk_at dksX5_add_0 1 rfl rfl)
theorem dX5_add_4 : decode cX5_add 4 = .ok (.aload_n 0, 1) := dk_42 (dk_at dksX5_add_0 4 rfl rfl)
theorem dX5_add_5 : decode cX5_add 5 = .ok (.getfield 18, 3) := dk_180 0 18 (dk_at dksX5_add_0 5 rfl rfl)
theorem dX5_add_8 : decode cX5_add 8 = .ok (.iload_n 1, 1) := dk_27 (dk_at dksX5_add_0 8 rfl rfl)
theorem dX5_add_9 : decode cX5_add 9 = .ok (.iastore, 1) := dk_79 (dk_at dksX5_add_0 9 rfl rfl)
theorem dX5_add_10 : decode cX5_add 10 = .ok (.aload_n 0, 1) := dk_42 (dk_at dksX5_add_0 10 rfl rfl)
theorem dX5_add_11 : decode cX5_add 11 = .ok (.getfield 15, 3) := dk_180 0 15 (dk_at dksX5_add_0 11 rfl rfl)
theorem dX5_add_14 : decode cX5_add 14 = .ok (.aload_n 0, 1) := dk_42 (dk_at dksX5_add_0 14 rfl rfl)
theorem dX5_add_15 : decode cX5_add 15 = .ok (.getfield 18, 3) := dk_180 0 18 (dk_at dksX5_add_0 15 rfl rfl)
theorem dX5_add_18 : decode cX5_add 18 = .ok (.iload_n 2, 1) := dk_28 (dk_at dksX5_add_0 18 rfl rfl)
theorem dX5_add_19 : decode cX5_add 19 = .ok (.iastore, 1) := dk_79 (dk_at dksX5_add_0 19 rfl rfl)
theorem dX5_add_20 : decode cX5_add 20 = .ok (.aload_n 0, 1) := dk_42 (dk_at dksX5_add_0 20 rfl rfl)
theorem dX5_add_21 : decode cX5_add 21 = .ok (.dup, 1) := dk_89 (dk_at dksX5_add_0 21 rfl rfl)
theorem dX5_add_22 : decode cX5_add 22 = .ok (.getfield 18, 3) := dk_180 0 18 (dk_at dksX5_add_1 0 rfl rfl)
theorem dX5_add_25 : decode cX5_add 25 = .ok (.iconst 1, 1) := dk_4 (dk_at dksX5_add_1 3 rfl rfl)
theorem dX5_add_26 : decode cX5_add 26 = .ok (.iadd, 1) := dk_96 (dk_at dksX5_add_1 4 rfl rfl)
theorem dX5_add_27 : decode cX5_add 27 = .ok (.putfield 18, 3) := dk_181 0 18 (dk_at dksX5_add_1 5 rfl rfl)
theorem dX5_add_30 : decode cX5_add 30 = .ok (.return_, 1) := dk_177 (dk_at dksX5_add_1 8 rfl rfl)
abbrev cX5_become : ByteArray := prog_7_method_2_code
def yX5_become : MethodName := ⟨RX5, "become", "(LFifthCard$Log;)V"⟩
def dkwX5_become_2 : List UInt8 := [177]
abbrev dktX5_become_2 : List UInt8 := dkwX5_become_2 ++ []
def dkwX5_become_1 : List UInt8 := [180, 0, 9, 3, 16, 20, 184, 0, 25, 43, 180, 0, 15, 3, 42, 180, 0, 15, 3, 16, 20, 184, 0, 25]
abbrev dktX5_become_1 : List UInt8 := dkwX5_become_1 ++ dktX5_become_2
def dkwX5_become_0 : List UInt8 := [42, 43, 180, 0, 18, 181, 0, 18, 42, 43, 180, 0, 22, 181, 0, 22, 43, 180, 0, 9, 3, 42]
abbrev dktX5_become_0 : List UInt8 := dkwX5_become_0 ++ dktX5_become_1
theorem dksX5_become_0 : cX5_become.data.toList.drop 0 = dktX5_become_0 := by decide +kernel
theorem dksX5_become_1 : cX5_become.data.toList.drop 22 = dktX5_become_1 := dk_seg dksX5_become_0 22 rfl rfl
theorem dksX5_become_2 : cX5_become.data.toList.drop 46 = dktX5_become_2 := dk_seg dksX5_become_1 24 rfl rfl
theorem dX5_become_0 : decode cX5_become 0 = .ok (.aload_n 0, 1) := dk_42 (dk_at dksX5_become_0 0 rfl rfl)
theorem dX5_become_1 : decode cX5_become 1 = .ok (.aload_n 1, 1) := dk_43 (dk_at dksX5_become_0 1 rfl rfl)
theorem dX5_become_2 : decode cX5_become 2 = .ok (.getfield 18, 3) := dk_180 0 18 (dk_at dksX5_become_0 2 rfl rfl)
theorem dX5_become_5 : decode cX5_become 5 = .ok (.putfield 18, 3) := dk_181 0 18 (dk_at dksX5_become_0 5 rfl rfl)
theorem dX5_become_8 : decode cX5_become 8 = .ok (.aload_n 0, 1) := dk_42 (dk_at dksX5_become_0 8 rfl rfl)
theorem dX5_become_9 : decode cX5_become 9 = .ok (.aload_n 1, 1) := dk_43 (dk_at dksX5_become_0 9 rfl rfl)
theorem dX5_become_10 : decode cX5_become 10 = .ok (.getfield 22, 3) := dk_180 0 22 (dk_at dksX5_become_0 10 rfl rfl)
theorem dX5_become_13 : decode cX5_become 13 = .ok (.putfield 22, 3) := dk_181 0 22 (dk_at dksX5_become_0 13 rfl rfl)
theorem dX5_become_16 : decode cX5_become 16 = .ok (.aload_n 1, 1) := dk_43 (dk_at dksX5_become_0 16 rfl rfl)
theorem dX5_become_17 : decode cX5_become 17 = .ok (.getfield 9, 3) := dk_180 0 9 (dk_at dksX5_become_0 17 rfl rfl)
theorem dX5_become_20 : decode cX5_become 20 = .ok (.iconst 0, 1) := dk_3 (dk_at dksX5_become_0 20 rfl rfl)
theorem dX5_become_21 : decode cX5_become 21 = .ok (.aload_n 0, 1) := dk_42 (dk_at dksX5_become_0 21 rfl rfl)
theorem dX5_become_22 : decode cX5_become 22 = .ok (.getfield 9, 3) := dk_180 0 9 (dk_at dksX5_become_1 0 rfl rfl)
theorem dX5_become_25 : decode cX5_become 25 = .ok (.iconst 0, 1) := dk_3 (dk_at dksX5_become_1 3 rfl rfl)
theorem dX5_become_26 : decode cX5_become 26 = .ok (.bipush 20, 2) := dk_16 20 (dk_at dksX5_become_1 4 rfl rfl)
theorem dX5_become_28 : decode cX5_become 28 = .ok (.invokestatic 25, 3) := dk_184 0 25 (dk_at dksX5_become_1 6 rfl rfl)
theorem dX5_become_31 : decode cX5_become 31 = .ok (.aload_n 1, 1) := dk_43 (dk_at dksX5_become_1 9 rfl rfl)
theorem dX5_become_32 : decode cX5_become 32 = .ok (.getfield 15, 3) := dk_180 0 15 (dk_at dksX5_become_1 10 rfl rfl)
theorem dX5_become_35 : decode cX5_become 35 = .ok (.iconst 0, 1) := dk_3 (dk_at dksX5_become_1 13 rfl rfl)
theorem dX5_become_36 : decode cX5_become 36 = .ok (.aload_n 0, 1) := dk_42 (dk_at dksX5_become_1 14 rfl rfl)
theorem dX5_become_37 : decode cX5_become 37 = .ok (.getfield 15, 3) := dk_180 0 15 (dk_at dksX5_become_1 15 rfl rfl)
theorem dX5_become_40 : decode cX5_become 40 = .ok (.iconst 0, 1) := dk_3 (dk_at dksX5_become_1 18 rfl rfl)
theorem dX5_become_41 : decode cX5_become 41 = .ok (.bipush 20, 2) := dk_16 20 (dk_at dksX5_become_1 19 rfl rfl)
theorem dX5_become_43 : decode cX5_become 43 = .ok (.invokestatic 25, 3) := dk_184 0 25 (dk_at dksX5_become_1 21 rfl rfl)
theorem dX5_become_46 : decode cX5_become 46 = .ok (.return_, 1) := dk_177 (dk_at dksX5_become_2 0 rfl rfl)
theorem q129 : (Jvm.Cond.initialized "FifthCard$Log") ∈ lw_all := lw_g (lw_at lw_m1 8 rfl) rfl
theorem q335 : (Jvm.Cond.instantiable "FifthCard$Log" (4 : Nat)) ∈ lw_all := lw_g (lw_at lw_m1 214 rfl) rfl
theorem q337 : (Jvm.Cond.instanceMethod ({ cls := "FifthCard$Log", name := "<init>", desc := "()V" } : Jvm.MethodName)) ∈ lw_all := lw_g (lw_at lw_m1 216 rfl) rfl
theorem q338 : (Jvm.Cond.code ({ cls := "FifthCard$Log", name := "<init>", desc := "()V" } : Jvm.MethodName) prog_7_method_1_code (1 : Nat) (Option.none : Option Jvm.ClassFile.FieldType)) ∈ lw_all := lw_g (lw_at lw_m1 217 rfl) rfl
theorem q339 : (Jvm.Cond.methodLink "FifthCard$Log" (3 : Nat) ({ cls := "java/lang/Object", name := "<init>", desc := "()V" } : Jvm.MethodName)) ∈ lw_all := lw_g (lw_at lw_m1 218 rfl) rfl
theorem q340 : (Jvm.Cond.fieldLink "FifthCard$Log" (9 : Nat) "FifthCard$Log" "hands" "[I") ∈ lw_all := lw_g (lw_at lw_m1 219 rfl) rfl
theorem q342 : (Jvm.Cond.fieldLink "FifthCard$Log" (15 : Nat) "FifthCard$Log" "rows" "[I") ∈ lw_all := lw_g (lw_at lw_m1 221 rfl) rfl
theorem q344 : (Jvm.Cond.fieldLink "FifthCard$Log" (18 : Nat) "FifthCard$Log" "many" "I") ∈ lw_all := lw_g (lw_at lw_m1 223 rfl) rfl
theorem q346 : (Jvm.Cond.fieldLink "FifthCard$Log" (22 : Nat) "FifthCard$Log" "seed" "I") ∈ lw_all := lw_g (lw_at lw_m1 225 rfl) rfl
theorem q348 : (Jvm.Cond.laysFinal "FifthCard$Log" "FifthCard$Log" "hands" "[I") ∈ lw_all := lw_g (lw_at lw_m1 227 rfl) rfl
theorem q349 : (Jvm.Cond.soleField "FifthCard$Log" "hands") ∈ lw_all := lw_g (lw_at lw_m1 228 rfl) rfl
theorem q350 : (Jvm.Cond.laysFinal "FifthCard$Log" "FifthCard$Log" "rows" "[I") ∈ lw_all := lw_g (lw_at lw_m1 229 rfl) rfl
theorem q351 : (Jvm.Cond.soleField "FifthCard$Log" "rows") ∈ lw_all := lw_g (lw_at lw_m1 230 rfl) rfl
theorem q352 : (Jvm.Cond.lays "FifthCard$Log" "FifthCard$Log" "many" "I") ∈ lw_all := lw_g (lw_at lw_m1 231 rfl) rfl
theorem q353 : (Jvm.Cond.soleField "FifthCard$Log" "many") ∈ lw_all := lw_g (lw_at lw_m1 232 rfl) rfl
theorem q354 : (Jvm.Cond.lays "FifthCard$Log" "FifthCard$Log" "seed" "I") ∈ lw_all := lw_g (lw_at lw_m1 233 rfl) rfl
theorem q355 : (Jvm.Cond.soleField "FifthCard$Log" "seed") ∈ lw_all := lw_g (lw_at lw_m1 234 rfl) rfl
theorem q356 : (Jvm.Cond.superclass "FifthCard$Log" "java/lang/Object") ∈ lw_all := lw_g (lw_at lw_m1 235 rfl) rfl
theorem q990 : (Jvm.Cond.instanceMethod ({ cls := "FifthCard$Log", name := "add", desc := "(II)V" } : Jvm.MethodName)) ∈ lw_all := lw_g (lw_at lw_m4 149 rfl) rfl
theorem q991 : (Jvm.Cond.selects "FifthCard$Log" ({ cls := "FifthCard$Log", name := "add", desc := "(II)V" } : Jvm.MethodName) ({ cls := "FifthCard$Log", name := "add", desc := "(II)V" } : Jvm.MethodName)) ∈ lw_all := lw_g (lw_at lw_m4 150 rfl) rfl
theorem q992 : (Jvm.Cond.code ({ cls := "FifthCard$Log", name := "add", desc := "(II)V" } : Jvm.MethodName) prog_7_method_3_code (3 : Nat) (Option.none : Option Jvm.ClassFile.FieldType)) ∈ lw_all := lw_g (lw_at lw_m4 151 rfl) rfl
theorem q1381 : (Jvm.Cond.instanceMethod ({ cls := "FifthCard$Log", name := "become", desc := "(LFifthCard$Log;)V" } : Jvm.MethodName)) ∈ lw_all := lw_g (lw_at lw_m6 60 rfl) rfl
theorem q1382 : (Jvm.Cond.selects "FifthCard$Log" ({ cls := "FifthCard$Log", name := "become", desc := "(LFifthCard$Log;)V" } : Jvm.MethodName) ({ cls := "FifthCard$Log", name := "become", desc := "(LFifthCard$Log;)V" } : Jvm.MethodName)) ∈ lw_all := lw_g (lw_at lw_m6 61 rfl) rfl
theorem q1383 : (Jvm.Cond.code ({ cls := "FifthCard$Log", name := "become", desc := "(LFifthCard$Log;)V" } : Jvm.MethodName) prog_7_method_2_code (2 : Nat) (Option.none : Option Jvm.ClassFile.FieldType)) ∈ lw_all := lw_g (lw_at lw_m6 62 rfl) rfl
theorem q1384 : (Jvm.Cond.methodLink "FifthCard$Log" (25 : Nat) ({ cls := "java/lang/System", name := "arraycopy", desc := "(Ljava/lang/Object;ILjava/lang/Object;II)V" } : Jvm.MethodName)) ∈ lw_all := lw_g (lw_at lw_m6 63 rfl) rfl
theorem q2229 : (Jvm.Cond.castable "FifthCard$Log" "java/lang/Object") ∈ lw_tbl := lw_at lw_m9 188 rfl
theorem in_X5 : ∀ w ∈ wsX50, w ∈ lw_all := lw_in wsX50 [348, 350, 352, 354] (by decide +kernel) (by decide +kernel)
/-! FifthCard$Keep -/
set_option maxRecDepth 100000
def RX6 : String := "FifthCard$Keep"
abbrev cX6_init : ByteArray := prog_5_method_1_code
def yX6_init : MethodName := ⟨RX6, "<init>", "()V"⟩
theorem dX6_init_0 : decode cX6_init 0 = .ok (.aload_n 0, 1) := by decide +kernel
theorem dX6_init_1 : decode cX6_init 1 = .ok (.invokespecial 1, 3) := by decide +kernel
theorem dX6_init_4 : decode cX6_init 4 = .ok (.return_, 1) := by decide +kernel
theorem q130 : (Jvm.Cond.initialized "FifthCard$Keep") ∈ lw_all := lw_g (lw_at lw_m1 9 rfl) rfl
theorem q368 : (Jvm.Cond.instanceMethod ({ cls := "FifthCard$Keep", name := "<init>", desc := "()V" } : Jvm.MethodName)) ∈ lw_all := lw_g (lw_at lw_m2 7 rfl) rfl
theorem q369 : (Jvm.Cond.code ({ cls := "FifthCard$Keep", name := "<init>", desc := "()V" } : Jvm.MethodName) prog_5_method_1_code (1 : Nat) (Option.none : Option Jvm.ClassFile.FieldType)) ∈ lw_all := lw_g (lw_at lw_m2 8 rfl) rfl
theorem q370 : (Jvm.Cond.methodLink "FifthCard$Keep" (1 : Nat) ({ cls := "java/lang/Object", name := "<init>", desc := "()V" } : Jvm.MethodName)) ∈ lw_all := lw_g (lw_at lw_m2 9 rfl) rfl
theorem q1127 : (Jvm.Cond.declares ({ cls := "FifthCard$Keep", name := "index", desc := "([ILFifthCard$Trick;)I" } : Jvm.MethodName)) ∈ lw_tbl := lw_at lw_m5 46 rfl
theorem q1128 : (Jvm.Cond.sameMethod "FifthCard$Keep" "FifthCard$Keep" "index" "([ILFifthCard$Trick;)I") ∈ lw_all := lw_g (lw_at lw_m5 47 rfl) rfl
/-! FifthCard$Low -/
set_option maxRecDepth 100000
def RX7 : String := "FifthCard$Low"
abbrev cX7_init : ByteArray := prog_8_method_1_code
def yX7_init : MethodName := ⟨RX7, "<init>", "()V"⟩
theorem dX7_init_0 : decode cX7_init 0 = .ok (.aload_n 0, 1) := by decide +kernel
theorem dX7_init_1 : decode cX7_init 1 = .ok (.invokespecial 1, 3) := by decide +kernel
theorem dX7_init_4 : decode cX7_init 4 = .ok (.return_, 1) := by decide +kernel
abbrev cX7_index : ByteArray := prog_8_method_2_code
def yX7_index : MethodName := ⟨RX7, "index", "([ILFifthCard$Trick;)I"⟩
theorem dX7_index_0 : decode cX7_index 0 = .ok (.iconst 0, 1) := by decide +kernel
theorem dX7_index_1 : decode cX7_index 1 = .ok (.ireturn, 1) := by decide +kernel
theorem q131 : (Jvm.Cond.initialized "FifthCard$Low") ∈ lw_all := lw_g (lw_at lw_m1 10 rfl) rfl
theorem q363 : (Jvm.Cond.instantiable "FifthCard$Low" (0 : Nat)) ∈ lw_all := lw_g (lw_at lw_m2 2 rfl) rfl
theorem q365 : (Jvm.Cond.instanceMethod ({ cls := "FifthCard$Low", name := "<init>", desc := "()V" } : Jvm.MethodName)) ∈ lw_all := lw_g (lw_at lw_m2 4 rfl) rfl
theorem q366 : (Jvm.Cond.code ({ cls := "FifthCard$Low", name := "<init>", desc := "()V" } : Jvm.MethodName) prog_8_method_1_code (1 : Nat) (Option.none : Option Jvm.ClassFile.FieldType)) ∈ lw_all := lw_g (lw_at lw_m2 5 rfl) rfl
theorem q367 : (Jvm.Cond.methodLinkNest "FifthCard$Low" (1 : Nat) ({ cls := "FifthCard$Keep", name := "<init>", desc := "()V" } : Jvm.MethodName) "FifthCard") ∈ lw_tbl := lw_at lw_m2 6 rfl
theorem q371 : (Jvm.Cond.superclass "FifthCard$Low" "FifthCard$Keep") ∈ lw_all := lw_g (lw_at lw_m2 10 rfl) rfl
theorem q1135 : (Jvm.Cond.selects "FifthCard$Low" ({ cls := "FifthCard$Keep", name := "index", desc := "([ILFifthCard$Trick;)I" } : Jvm.MethodName) ({ cls := "FifthCard$Low", name := "index", desc := "([ILFifthCard$Trick;)I" } : Jvm.MethodName)) ∈ lw_all := lw_g (lw_at lw_m5 54 rfl) rfl
theorem q1136 : (Jvm.Cond.instanceMethod ({ cls := "FifthCard$Low", name := "index", desc := "([ILFifthCard$Trick;)I" } : Jvm.MethodName)) ∈ lw_all := lw_g (lw_at lw_m5 55 rfl) rfl
theorem q1137 : (Jvm.Cond.code ({ cls := "FifthCard$Low", name := "index", desc := "([ILFifthCard$Trick;)I" } : Jvm.MethodName) prog_8_method_2_code (3 : Nat) (Option.some Jvm.ClassFile.FieldType.int)) ∈ lw_all := lw_g (lw_at lw_m5 56 rfl) rfl
theorem q2230 : (Jvm.Cond.castable "FifthCard$Low" "java/lang/Object") ∈ lw_tbl := lw_at lw_m9 189 rfl
/-! FifthCard$High -/
set_option maxRecDepth 100000
def RX8 : String := "FifthCard$High"
abbrev cX8_init : ByteArray := prog_4_method_1_code
def yX8_init : MethodName := ⟨RX8, "<init>", "()V"⟩
theorem dX8_init_0 : decode cX8_init 0 = .ok (.aload_n 0, 1) := by decide +kernel
theorem dX8_init_1 : decode cX8_init 1 = .ok (.invokespecial 1, 3) := by decide +kernel
theorem dX8_init_4 : decode cX8_init 4 = .ok (.return_, 1) := by decide +kernel
abbrev cX8_index : ByteArray := prog_4_method_2_code
def yX8_index : MethodName := ⟨RX8, "index", "([ILFifthCard$Trick;)I"⟩
def dkwX8_index_0 : List UInt8 := [44, 180, 0, 7, 4, 100, 172]
abbrev dktX8_index_0 : List UInt8 := dkwX8_index_0 ++ []
theorem dksX8_index_0 : cX8_index.data.toList.drop 0 = dktX8_index_0 := by decide +kernel
theorem dX8_index_0 : decode cX8_index 0 = .ok (.aload_n 2, 1) := dk_44 (dk_at dksX8_index_0 0 rfl rfl)
theorem dX8_index_1 : decode cX8_index 1 = .ok (.getfield 7, 3) := dk_180 0 7 (dk_at dksX8_index_0 1 rfl rfl)
theorem dX8_index_4 : decode cX8_index 4 = .ok (.iconst 1, 1) := dk_4 (dk_at dksX8_index_0 4 rfl rfl)
theorem dX8_index_5 : decode cX8_index 5 = .ok (.isub, 1) := dk_100 (dk_at dksX8_index_0 5 rfl rfl)
theorem dX8_index_6 : decode cX8_index 6 = .ok (.ireturn, 1) := dk_172 (dk_at dksX8_index_0 6 rfl rfl)
theorem q132 : (Jvm.Cond.initialized "FifthCard$High") ∈ lw_all := lw_g (lw_at lw_m1 11 rfl) rfl
theorem q373 : (Jvm.Cond.instantiable "FifthCard$High" (0 : Nat)) ∈ lw_all := lw_g (lw_at lw_m2 12 rfl) rfl
theorem q375 : (Jvm.Cond.instanceMethod ({ cls := "FifthCard$High", name := "<init>", desc := "()V" } : Jvm.MethodName)) ∈ lw_all := lw_g (lw_at lw_m2 14 rfl) rfl
theorem q376 : (Jvm.Cond.code ({ cls := "FifthCard$High", name := "<init>", desc := "()V" } : Jvm.MethodName) prog_4_method_1_code (1 : Nat) (Option.none : Option Jvm.ClassFile.FieldType)) ∈ lw_all := lw_g (lw_at lw_m2 15 rfl) rfl
theorem q377 : (Jvm.Cond.methodLinkNest "FifthCard$High" (1 : Nat) ({ cls := "FifthCard$Keep", name := "<init>", desc := "()V" } : Jvm.MethodName) "FifthCard") ∈ lw_tbl := lw_at lw_m2 16 rfl
theorem q378 : (Jvm.Cond.superclass "FifthCard$High" "FifthCard$Keep") ∈ lw_all := lw_g (lw_at lw_m2 17 rfl) rfl
theorem q577 : (Jvm.Cond.fieldLink "FifthCard$High" (7 : Nat) "FifthCard$Trick" "hand" "I") ∈ lw_all := lw_g (lw_at lw_m2 216 rfl) rfl
theorem q1132 : (Jvm.Cond.selects "FifthCard$High" ({ cls := "FifthCard$Keep", name := "index", desc := "([ILFifthCard$Trick;)I" } : Jvm.MethodName) ({ cls := "FifthCard$High", name := "index", desc := "([ILFifthCard$Trick;)I" } : Jvm.MethodName)) ∈ lw_all := lw_g (lw_at lw_m5 51 rfl) rfl
theorem q1133 : (Jvm.Cond.instanceMethod ({ cls := "FifthCard$High", name := "index", desc := "([ILFifthCard$Trick;)I" } : Jvm.MethodName)) ∈ lw_all := lw_g (lw_at lw_m5 52 rfl) rfl
theorem q1134 : (Jvm.Cond.code ({ cls := "FifthCard$High", name := "index", desc := "([ILFifthCard$Trick;)I" } : Jvm.MethodName) prog_4_method_2_code (3 : Nat) (Option.some Jvm.ClassFile.FieldType.int)) ∈ lw_all := lw_g (lw_at lw_m5 53 rfl) rfl
theorem q2231 : (Jvm.Cond.castable "FifthCard$High" "java/lang/Object") ∈ lw_tbl := lw_at lw_m9 190 rfl
/-! FifthCard$Mid -/
set_option maxRecDepth 100000
def RX9 : String := "FifthCard$Mid"
abbrev cX9_init : ByteArray := prog_9_method_1_code
def yX9_init : MethodName := ⟨RX9, "<init>", "()V"⟩
theorem dX9_init_0 : decode cX9_init 0 = .ok (.aload_n 0, 1) := by decide +kernel
theorem dX9_init_1 : decode cX9_init 1 = .ok (.invokespecial 1, 3) := by decide +kernel
theorem dX9_init_4 : decode cX9_init 4 = .ok (.return_, 1) := by decide +kernel
abbrev cX9_index : ByteArray := prog_9_method_2_code
def yX9_index : MethodName := ⟨RX9, "index", "([ILFifthCard$Trick;)I"⟩
def dkwX9_index_0 : List UInt8 := [44, 180, 0, 7, 44, 180, 0, 13, 100, 5, 108, 172]
abbrev dktX9_index_0 : List UInt8 := dkwX9_index_0 ++ []
theorem dksX9_index_0 : cX9_index.data.toList.drop 0 = dktX9_index_0 := by decide +kernel
theorem dX9_index_0 : decode cX9_index 0 = .ok (.aload_n 2, 1) := dk_44 (dk_at dksX9_index_0 0 rfl rfl)
theorem dX9_index_1 : decode cX9_index 1 = .ok (.getfield 7, 3) := dk_180 0 7 (dk_at dksX9_index_0 1 rfl rfl)
theorem dX9_index_4 : decode cX9_index 4 = .ok (.aload_n 2, 1) := dk_44 (dk_at dksX9_index_0 4 rfl rfl)
theorem dX9_index_5 : decode cX9_index 5 = .ok (.getfield 13, 3) := dk_180 0 13 (dk_at dksX9_index_0 5 rfl rfl)
theorem dX9_index_8 : decode cX9_index 8 = .ok (.isub, 1) := dk_100 (dk_at dksX9_index_0 8 rfl rfl)
theorem dX9_index_9 : decode cX9_index 9 = .ok (.iconst 2, 1) := dk_5 (dk_at dksX9_index_0 9 rfl rfl)
theorem dX9_index_10 : decode cX9_index 10 = .ok (.idiv, 1) := dk_108 (dk_at dksX9_index_0 10 rfl rfl)
theorem dX9_index_11 : decode cX9_index 11 = .ok (.ireturn, 1) := dk_172 (dk_at dksX9_index_0 11 rfl rfl)
theorem q133 : (Jvm.Cond.initialized "FifthCard$Mid") ∈ lw_all := lw_g (lw_at lw_m1 12 rfl) rfl
theorem q380 : (Jvm.Cond.instantiable "FifthCard$Mid" (0 : Nat)) ∈ lw_all := lw_g (lw_at lw_m2 19 rfl) rfl
theorem q382 : (Jvm.Cond.instanceMethod ({ cls := "FifthCard$Mid", name := "<init>", desc := "()V" } : Jvm.MethodName)) ∈ lw_all := lw_g (lw_at lw_m2 21 rfl) rfl
theorem q383 : (Jvm.Cond.code ({ cls := "FifthCard$Mid", name := "<init>", desc := "()V" } : Jvm.MethodName) prog_9_method_1_code (1 : Nat) (Option.none : Option Jvm.ClassFile.FieldType)) ∈ lw_all := lw_g (lw_at lw_m2 22 rfl) rfl
theorem q384 : (Jvm.Cond.methodLinkNest "FifthCard$Mid" (1 : Nat) ({ cls := "FifthCard$Keep", name := "<init>", desc := "()V" } : Jvm.MethodName) "FifthCard") ∈ lw_tbl := lw_at lw_m2 23 rfl
theorem q385 : (Jvm.Cond.superclass "FifthCard$Mid" "FifthCard$Keep") ∈ lw_all := lw_g (lw_at lw_m2 24 rfl) rfl
theorem q578 : (Jvm.Cond.fieldLink "FifthCard$Mid" (7 : Nat) "FifthCard$Trick" "hand" "I") ∈ lw_all := lw_g (lw_at lw_m2 217 rfl) rfl
theorem q587 : (Jvm.Cond.fieldLink "FifthCard$Mid" (13 : Nat) "FifthCard$Trick" "kept" "I") ∈ lw_all := lw_g (lw_at lw_m2 226 rfl) rfl
theorem q1138 : (Jvm.Cond.selects "FifthCard$Mid" ({ cls := "FifthCard$Keep", name := "index", desc := "([ILFifthCard$Trick;)I" } : Jvm.MethodName) ({ cls := "FifthCard$Mid", name := "index", desc := "([ILFifthCard$Trick;)I" } : Jvm.MethodName)) ∈ lw_all := lw_g (lw_at lw_m5 57 rfl) rfl
theorem q1139 : (Jvm.Cond.instanceMethod ({ cls := "FifthCard$Mid", name := "index", desc := "([ILFifthCard$Trick;)I" } : Jvm.MethodName)) ∈ lw_all := lw_g (lw_at lw_m5 58 rfl) rfl
theorem q1140 : (Jvm.Cond.code ({ cls := "FifthCard$Mid", name := "index", desc := "([ILFifthCard$Trick;)I" } : Jvm.MethodName) prog_9_method_2_code (3 : Nat) (Option.some Jvm.ClassFile.FieldType.int)) ∈ lw_all := lw_g (lw_at lw_m5 59 rfl) rfl
theorem q2232 : (Jvm.Cond.castable "FifthCard$Mid" "java/lang/Object") ∈ lw_tbl := lw_at lw_m9 191 rfl
/-! FifthCard$BySum -/
set_option maxRecDepth 100000
def RX10 : String := "FifthCard$BySum"
abbrev cX10_init : ByteArray := prog_2_method_1_code
def yX10_init : MethodName := ⟨RX10, "<init>", "()V"⟩
theorem dX10_init_0 : decode cX10_init 0 = .ok (.aload_n 0, 1) := by decide +kernel
theorem dX10_init_1 : decode cX10_init 1 = .ok (.invokespecial 1, 3) := by decide +kernel
theorem dX10_init_4 : decode cX10_init 4 = .ok (.return_, 1) := by decide +kernel
abbrev cX10_index : ByteArray := prog_2_method_2_code
def yX10_index : MethodName := ⟨RX10, "index", "([ILFifthCard$Trick;)I"⟩
def dkwX10_index_1 : List UInt8 := [167, 255, 237, 29, 44, 180, 0, 7, 112, 172]
abbrev dktX10_index_1 : List UInt8 := dkwX10_index_1 ++ []
def dkwX10_index_0 : List UInt8 := [3, 62, 3, 54, 4, 21, 4, 44, 180, 0, 7, 162, 0, 16, 29, 43, 21, 4, 46, 96, 62, 132, 4, 1]
abbrev dktX10_index_0 : List UInt8 := dkwX10_index_0 ++ dktX10_index_1
theorem dksX10_index_0 : cX10_index.data.toList.drop 0 = dktX10_index_0 := by decide +kernel
theorem dksX10_index_1 : cX10_index.data.toList.drop 24 = dktX10_index_1 := dk_seg dksX10_index_0 24 rfl rfl
theorem dX10_index_0 : decode cX10_index 0 = .ok (.iconst 0, 1) := dk_3 (dk_at dksX10_index_0 0 rfl rfl)
theorem dX10_index_1 : decode cX10_index 1 = .ok (.istore_n 3, 1) := dk_62 (dk_at dksX10_index_0 1 rfl rfl)
theorem dX10_index_2 : decode cX10_index 2 = .ok (.iconst 0, 1) := dk_3 (dk_at dksX10_index_0 2 rfl rfl)
theorem dX10_index_3 : decode cX10_index 3 = .ok (.istore 4, 2) := dk_54 4 (dk_at dksX10_index_0 3 rfl rfl)
theorem dX10_index_5 : decode cX10_index 5 = .ok (.iload 4, 2) := dk_21 4 (dk_at dksX10_index_0 5 rfl rfl)
theorem dX10_index_7 : decode cX10_index 7 = .ok (.aload_n 2, 1) := dk_44 (dk_at dksX10_index_0 7 rfl rfl)
theorem dX10_index_8 : decode cX10_index 8 = .ok (.getfield 7, 3) := dk_180 0 7 (dk_at dksX10_index_0 8 rfl rfl)
theorem dX10_index_11 : decode cX10_index 11 = .ok (.if_icmp .ge 16, 3) := dk_162 0 16 (dk_at dksX10_index_0 11 rfl rfl)
theorem dX10_index_14 : decode cX10_index 14 = .ok (.iload_n 3, 1) := dk_29 (dk_at dksX10_index_0 14 rfl rfl)
theorem dX10_index_15 : decode cX10_index 15 = .ok (.aload_n 1, 1) := dk_43 (dk_at dksX10_index_0 15 rfl rfl)
theorem dX10_index_16 : decode cX10_index 16 = .ok (.iload 4, 2) := dk_21 4 (dk_at dksX10_index_0 16 rfl rfl)
theorem dX10_index_18 : decode cX10_index 18 = .ok (.iaload, 1) := dk_46 (dk_at dksX10_index_0 18 rfl rfl)
theorem dX10_index_19 : decode cX10_index 19 = .ok (.iadd, 1) := dk_96 (dk_at dksX10_index_0 19 rfl rfl)
theorem dX10_index_20 : decode cX10_index 20 = .ok (.istore_n 3, 1) := dk_62 (dk_at dksX10_index_0 20 rfl rfl)
theorem dX10_index_21 : decode cX10_index 21 = .ok (.iinc 4 1, 3) := dk_132 4 1 (dk_at dksX10_index_0 21 rfl rfl)
theorem dX10_index_24 : decode cX10_index 24 = .ok (.goto (-19), 3) := dk_167 255 237 (dk_at dksX10_index_1 0 rfl rfl)
theorem dX10_index_27 : decode cX10_index 27 = .ok (.iload_n 3, 1) := dk_29 (dk_at dksX10_index_1 3 rfl rfl)
theorem dX10_index_28 : decode cX10_index 28 = .ok (.aload_n 2, 1) := dk_44 (dk_at dksX10_index_1 4 rfl rfl)
theorem dX10_index_29 : decode cX10_index 29 = .ok (.getfield 7, 3) := dk_180 0 7 (dk_at dksX10_index_1 5 rfl rfl)
theorem dX10_index_32 : decode cX10_index 32 = .ok (.irem, 1) := dk_112 (dk_at dksX10_index_1 8 rfl rfl)
theorem dX10_index_33 : decode cX10_index 33 = .ok (.ireturn, 1) := dk_172 (dk_at dksX10_index_1 9 rfl rfl)
theorem q134 : (Jvm.Cond.initialized "FifthCard$BySum") ∈ lw_all := lw_g (lw_at lw_m1 13 rfl) rfl
theorem q387 : (Jvm.Cond.instantiable "FifthCard$BySum" (0 : Nat)) ∈ lw_all := lw_g (lw_at lw_m2 26 rfl) rfl
theorem q389 : (Jvm.Cond.instanceMethod ({ cls := "FifthCard$BySum", name := "<init>", desc := "()V" } : Jvm.MethodName)) ∈ lw_all := lw_g (lw_at lw_m2 28 rfl) rfl
theorem q390 : (Jvm.Cond.code ({ cls := "FifthCard$BySum", name := "<init>", desc := "()V" } : Jvm.MethodName) prog_2_method_1_code (1 : Nat) (Option.none : Option Jvm.ClassFile.FieldType)) ∈ lw_all := lw_g (lw_at lw_m2 29 rfl) rfl
theorem q391 : (Jvm.Cond.methodLinkNest "FifthCard$BySum" (1 : Nat) ({ cls := "FifthCard$Keep", name := "<init>", desc := "()V" } : Jvm.MethodName) "FifthCard") ∈ lw_tbl := lw_at lw_m2 30 rfl
theorem q392 : (Jvm.Cond.superclass "FifthCard$BySum" "FifthCard$Keep") ∈ lw_all := lw_g (lw_at lw_m2 31 rfl) rfl
theorem q579 : (Jvm.Cond.fieldLink "FifthCard$BySum" (7 : Nat) "FifthCard$Trick" "hand" "I") ∈ lw_all := lw_g (lw_at lw_m2 218 rfl) rfl
theorem q1129 : (Jvm.Cond.selects "FifthCard$BySum" ({ cls := "FifthCard$Keep", name := "index", desc := "([ILFifthCard$Trick;)I" } : Jvm.MethodName) ({ cls := "FifthCard$BySum", name := "index", desc := "([ILFifthCard$Trick;)I" } : Jvm.MethodName)) ∈ lw_all := lw_g (lw_at lw_m5 48 rfl) rfl
theorem q1130 : (Jvm.Cond.instanceMethod ({ cls := "FifthCard$BySum", name := "index", desc := "([ILFifthCard$Trick;)I" } : Jvm.MethodName)) ∈ lw_all := lw_g (lw_at lw_m5 49 rfl) rfl
theorem q1131 : (Jvm.Cond.code ({ cls := "FifthCard$BySum", name := "index", desc := "([ILFifthCard$Trick;)I" } : Jvm.MethodName) prog_2_method_2_code (5 : Nat) (Option.some Jvm.ClassFile.FieldType.int)) ∈ lw_all := lw_g (lw_at lw_m5 50 rfl) rfl
theorem q2233 : (Jvm.Cond.castable "FifthCard$BySum" "java/lang/Object") ∈ lw_tbl := lw_at lw_m9 192 rfl
/-! FifthCard$Tell -/
set_option maxRecDepth 100000
def RX11 : String := "FifthCard$Tell"
abbrev cX11_init : ByteArray := prog_20_method_1_code
def yX11_init : MethodName := ⟨RX11, "<init>", "()V"⟩
theorem dX11_init_0 : decode cX11_init 0 = .ok (.aload_n 0, 1) := by decide +kernel
theorem dX11_init_1 : decode cX11_init 1 = .ok (.invokespecial 1, 3) := by decide +kernel
theorem dX11_init_4 : decode cX11_init 4 = .ok (.return_, 1) := by decide +kernel
theorem q135 : (Jvm.Cond.initialized "FifthCard$Tell") ∈ lw_all := lw_g (lw_at lw_m1 14 rfl) rfl
theorem q399 : (Jvm.Cond.instanceMethod ({ cls := "FifthCard$Tell", name := "<init>", desc := "()V" } : Jvm.MethodName)) ∈ lw_all := lw_g (lw_at lw_m2 38 rfl) rfl
theorem q400 : (Jvm.Cond.code ({ cls := "FifthCard$Tell", name := "<init>", desc := "()V" } : Jvm.MethodName) prog_20_method_1_code (1 : Nat) (Option.none : Option Jvm.ClassFile.FieldType)) ∈ lw_all := lw_g (lw_at lw_m2 39 rfl) rfl
theorem q401 : (Jvm.Cond.methodLink "FifthCard$Tell" (1 : Nat) ({ cls := "java/lang/Object", name := "<init>", desc := "()V" } : Jvm.MethodName)) ∈ lw_all := lw_g (lw_at lw_m2 40 rfl) rfl
theorem q1143 : (Jvm.Cond.declares ({ cls := "FifthCard$Tell", name := "of", desc := "(IIILFifthCard$Trick;)I" } : Jvm.MethodName)) ∈ lw_tbl := lw_at lw_m5 62 rfl
theorem q1144 : (Jvm.Cond.sameMethod "FifthCard$Tell" "FifthCard$Tell" "of" "(IIILFifthCard$Trick;)I") ∈ lw_all := lw_g (lw_at lw_m5 63 rfl) rfl
/-! FifthCard$Place -/
set_option maxRecDepth 100000
def RX12 : String := "FifthCard$Place"
abbrev cX12_init : ByteArray := prog_11_method_1_code
def yX12_init : MethodName := ⟨RX12, "<init>", "()V"⟩
theorem dX12_init_0 : decode cX12_init 0 = .ok (.aload_n 0, 1) := by decide +kernel
theorem dX12_init_1 : decode cX12_init 1 = .ok (.invokespecial 1, 3) := by decide +kernel
theorem dX12_init_4 : decode cX12_init 4 = .ok (.return_, 1) := by decide +kernel
abbrev cX12_of : ByteArray := prog_11_method_2_code
def yX12_of : MethodName := ⟨RX12, "of", "(IIILFifthCard$Trick;)I"⟩
theorem dX12_of_0 : decode cX12_of 0 = .ok (.iload_n 1, 1) := by decide +kernel
theorem dX12_of_1 : decode cX12_of 1 = .ok (.ireturn, 1) := by decide +kernel
theorem q136 : (Jvm.Cond.initialized "FifthCard$Place") ∈ lw_all := lw_g (lw_at lw_m1 15 rfl) rfl
theorem q394 : (Jvm.Cond.instantiable "FifthCard$Place" (0 : Nat)) ∈ lw_all := lw_g (lw_at lw_m2 33 rfl) rfl
theorem q396 : (Jvm.Cond.instanceMethod ({ cls := "FifthCard$Place", name := "<init>", desc := "()V" } : Jvm.MethodName)) ∈ lw_all := lw_g (lw_at lw_m2 35 rfl) rfl
theorem q397 : (Jvm.Cond.code ({ cls := "FifthCard$Place", name := "<init>", desc := "()V" } : Jvm.MethodName) prog_11_method_1_code (1 : Nat) (Option.none : Option Jvm.ClassFile.FieldType)) ∈ lw_all := lw_g (lw_at lw_m2 36 rfl) rfl
theorem q398 : (Jvm.Cond.methodLinkNest "FifthCard$Place" (1 : Nat) ({ cls := "FifthCard$Tell", name := "<init>", desc := "()V" } : Jvm.MethodName) "FifthCard") ∈ lw_tbl := lw_at lw_m2 37 rfl
theorem q402 : (Jvm.Cond.superclass "FifthCard$Place" "FifthCard$Tell") ∈ lw_all := lw_g (lw_at lw_m2 41 rfl) rfl
theorem q1153 : (Jvm.Cond.selects "FifthCard$Place" ({ cls := "FifthCard$Tell", name := "of", desc := "(IIILFifthCard$Trick;)I" } : Jvm.MethodName) ({ cls := "FifthCard$Place", name := "of", desc := "(IIILFifthCard$Trick;)I" } : Jvm.MethodName)) ∈ lw_all := lw_g (lw_at lw_m5 72 rfl) rfl
theorem q1154 : (Jvm.Cond.instanceMethod ({ cls := "FifthCard$Place", name := "of", desc := "(IIILFifthCard$Trick;)I" } : Jvm.MethodName)) ∈ lw_all := lw_g (lw_at lw_m5 73 rfl) rfl
theorem q1155 : (Jvm.Cond.code ({ cls := "FifthCard$Place", name := "of", desc := "(IIILFifthCard$Trick;)I" } : Jvm.MethodName) prog_11_method_2_code (5 : Nat) (Option.some Jvm.ClassFile.FieldType.int)) ∈ lw_all := lw_g (lw_at lw_m5 74 rfl) rfl
theorem q2234 : (Jvm.Cond.castable "FifthCard$Place" "java/lang/Object") ∈ lw_tbl := lw_at lw_m9 193 rfl
/-! FifthCard$Rank -/
set_option maxRecDepth 100000
def RX13 : String := "FifthCard$Rank"
abbrev cX13_init : ByteArray := prog_12_method_1_code
def yX13_init : MethodName := ⟨RX13, "<init>", "()V"⟩
theorem dX13_init_0 : decode cX13_init 0 = .ok (.aload_n 0, 1) := by decide +kernel
theorem dX13_init_1 : decode cX13_init 1 = .ok (.invokespecial 1, 3) := by decide +kernel
theorem dX13_init_4 : decode cX13_init 4 = .ok (.return_, 1) := by decide +kernel
abbrev cX13_of : ByteArray := prog_12_method_2_code
def yX13_of : MethodName := ⟨RX13, "of", "(IIILFifthCard$Trick;)I"⟩
def dkwX13_of_0 : List UInt8 := [27, 25, 4, 182, 0, 7, 112, 172]
abbrev dktX13_of_0 : List UInt8 := dkwX13_of_0 ++ []
theorem dksX13_of_0 : cX13_of.data.toList.drop 0 = dktX13_of_0 := by decide +kernel
theorem dX13_of_0 : decode cX13_of 0 = .ok (.iload_n 1, 1) := dk_27 (dk_at dksX13_of_0 0 rfl rfl)
theorem dX13_of_1 : decode cX13_of 1 = .ok (.aload 4, 2) := dk_25 4 (dk_at dksX13_of_0 1 rfl rfl)
theorem dX13_of_3 : decode cX13_of 3 = .ok (.invokevirtual 7, 3) := dk_182 0 7 (dk_at dksX13_of_0 3 rfl rfl)
theorem dX13_of_6 : decode cX13_of 6 = .ok (.irem, 1) := dk_112 (dk_at dksX13_of_0 6 rfl rfl)
theorem dX13_of_7 : decode cX13_of 7 = .ok (.ireturn, 1) := dk_172 (dk_at dksX13_of_0 7 rfl rfl)
theorem q137 : (Jvm.Cond.initialized "FifthCard$Rank") ∈ lw_all := lw_g (lw_at lw_m1 16 rfl) rfl
theorem q404 : (Jvm.Cond.instantiable "FifthCard$Rank" (0 : Nat)) ∈ lw_all := lw_g (lw_at lw_m2 43 rfl) rfl
theorem q406 : (Jvm.Cond.instanceMethod ({ cls := "FifthCard$Rank", name := "<init>", desc := "()V" } : Jvm.MethodName)) ∈ lw_all := lw_g (lw_at lw_m2 45 rfl) rfl
theorem q407 : (Jvm.Cond.code ({ cls := "FifthCard$Rank", name := "<init>", desc := "()V" } : Jvm.MethodName) prog_12_method_1_code (1 : Nat) (Option.none : Option Jvm.ClassFile.FieldType)) ∈ lw_all := lw_g (lw_at lw_m2 46 rfl) rfl
theorem q408 : (Jvm.Cond.methodLinkNest "FifthCard$Rank" (1 : Nat) ({ cls := "FifthCard$Tell", name := "<init>", desc := "()V" } : Jvm.MethodName) "FifthCard") ∈ lw_tbl := lw_at lw_m2 47 rfl
theorem q409 : (Jvm.Cond.superclass "FifthCard$Rank" "FifthCard$Tell") ∈ lw_all := lw_g (lw_at lw_m2 48 rfl) rfl
theorem q1156 : (Jvm.Cond.selects "FifthCard$Rank" ({ cls := "FifthCard$Tell", name := "of", desc := "(IIILFifthCard$Trick;)I" } : Jvm.MethodName) ({ cls := "FifthCard$Rank", name := "of", desc := "(IIILFifthCard$Trick;)I" } : Jvm.MethodName)) ∈ lw_all := lw_g (lw_at lw_m5 75 rfl) rfl
theorem q1157 : (Jvm.Cond.instanceMethod ({ cls := "FifthCard$Rank", name := "of", desc := "(IIILFifthCard$Trick;)I" } : Jvm.MethodName)) ∈ lw_all := lw_g (lw_at lw_m5 76 rfl) rfl
theorem q1158 : (Jvm.Cond.code ({ cls := "FifthCard$Rank", name := "of", desc := "(IIILFifthCard$Trick;)I" } : Jvm.MethodName) prog_12_method_2_code (5 : Nat) (Option.some Jvm.ClassFile.FieldType.int)) ∈ lw_all := lw_g (lw_at lw_m5 77 rfl) rfl
theorem q1159 : (Jvm.Cond.methodLink "FifthCard$Rank" (7 : Nat) ({ cls := "FifthCard$Trick", name := "ranks", desc := "()I" } : Jvm.MethodName)) ∈ lw_all := lw_g (lw_at lw_m5 78 rfl) rfl
theorem q2235 : (Jvm.Cond.castable "FifthCard$Rank" "java/lang/Object") ∈ lw_tbl := lw_at lw_m9 194 rfl
/-! FifthCard$Gap -/
set_option maxRecDepth 100000
def RX14 : String := "FifthCard$Gap"
abbrev cX14_init : ByteArray := prog_3_method_1_code
def yX14_init : MethodName := ⟨RX14, "<init>", "()V"⟩
theorem dX14_init_0 : decode cX14_init 0 = .ok (.aload_n 0, 1) := by decide +kernel
theorem dX14_init_1 : decode cX14_init 1 = .ok (.invokespecial 1, 3) := by decide +kernel
theorem dX14_init_4 : decode cX14_init 4 = .ok (.return_, 1) := by decide +kernel
abbrev cX14_of : ByteArray := prog_3_method_2_code
def yX14_of : MethodName := ⟨RX14, "of", "(IIILFifthCard$Trick;)I"⟩
def dkwX14_of_1 : List UInt8 := [154, 0, 9, 132, 5, 1, 167, 255, 230, 21, 5, 172]
abbrev dktX14_of_1 : List UInt8 := dkwX14_of_1 ++ []
def dkwX14_of_0 : List UInt8 := [4, 54, 5, 28, 27, 21, 5, 100, 25, 4, 180, 0, 7, 96, 25, 4, 180, 0, 7, 112, 184, 0, 13]
abbrev dktX14_of_0 : List UInt8 := dkwX14_of_0 ++ dktX14_of_1
theorem dksX14_of_0 : cX14_of.data.toList.drop 0 = dktX14_of_0 := by decide +kernel
theorem dksX14_of_1 : cX14_of.data.toList.drop 23 = dktX14_of_1 := dk_seg dksX14_of_0 23 rfl rfl
theorem dX14_of_0 : decode cX14_of 0 = .ok (.iconst 1, 1) := dk_4 (dk_at dksX14_of_0 0 rfl rfl)
theorem dX14_of_1 : decode cX14_of 1 = .ok (.istore 5, 2) := dk_54 5 (dk_at dksX14_of_0 1 rfl rfl)
theorem dX14_of_3 : decode cX14_of 3 = .ok (.iload_n 2, 1) := dk_28 (dk_at dksX14_of_0 3 rfl rfl)
theorem dX14_of_4 : decode cX14_of 4 = .ok (.iload_n 1, 1) := dk_27 (dk_at dksX14_of_0 4 rfl rfl)
theorem dX14_of_5 : decode cX14_of 5 = .ok (.iload 5, 2) := dk_21 5 (dk_at dksX14_of_0 5 rfl rfl)
theorem dX14_of_7 : decode cX14_of 7 = .ok (.isub, 1) := dk_100 (dk_at dksX14_of_0 7 rfl rfl)
theorem dX14_of_8 : decode cX14_of 8 = .ok (.aload 4, 2) := dk_25 4 (dk_at dksX14_of_0 8 rfl rfl)
theorem dX14_of_10 : decode cX14_of 10 = .ok (.getfield 7, 3) := dk_180 0 7 (dk_at dksX14_of_0 10 rfl rfl)
theorem dX14_of_13 : decode cX14_of 13 = .ok (.iadd, 1) := dk_96 (dk_at dksX14_of_0 13 rfl rfl)
theorem dX14_of_14 : decode cX14_of 14 = .ok (.aload 4, 2) := dk_25 4 (dk_at dksX14_of_0 14 rfl rfl)
theorem dX14_of_16 : decode cX14_of 16 = .ok (.getfield 7, 3) := dk_180 0 7 (dk_at dksX14_of_0 16 rfl rfl)
theorem dX14_of_19 : decode cX14_of 19 = .ok (.irem, 1) := dk_112 (dk_at dksX14_of_0 19 rfl rfl)
theorem dX14_of_20 : decode cX14_of 20 = .ok (.invokestatic 13, 3) := dk_184 0 13 (dk_at dksX14_of_0 20 rfl rfl)
theorem dX14_of_23 : decode cX14_of 23 = .ok (.ifCond .ne 9, 3) := dk_154 0 9 (dk_at dksX14_of_1 0 rfl rfl)
theorem dX14_of_26 : decode cX14_of 26 = .ok (.iinc 5 1, 3) := dk_132 5 1 (dk_at dksX14_of_1 3 rfl rfl)
theorem dX14_of_29 : decode cX14_of 29 = .ok (.goto (-26), 3) := dk_167 255 230 (dk_at dksX14_of_1 6 rfl rfl)
theorem dX14_of_32 : decode cX14_of 32 = .ok (.iload 5, 2) := dk_21 5 (dk_at dksX14_of_1 9 rfl rfl)
theorem dX14_of_34 : decode cX14_of 34 = .ok (.ireturn, 1) := dk_172 (dk_at dksX14_of_1 11 rfl rfl)
theorem q138 : (Jvm.Cond.initialized "FifthCard$Gap") ∈ lw_all := lw_g (lw_at lw_m1 17 rfl) rfl
theorem q411 : (Jvm.Cond.instantiable "FifthCard$Gap" (0 : Nat)) ∈ lw_all := lw_g (lw_at lw_m2 50 rfl) rfl
theorem q413 : (Jvm.Cond.instanceMethod ({ cls := "FifthCard$Gap", name := "<init>", desc := "()V" } : Jvm.MethodName)) ∈ lw_all := lw_g (lw_at lw_m2 52 rfl) rfl
theorem q414 : (Jvm.Cond.code ({ cls := "FifthCard$Gap", name := "<init>", desc := "()V" } : Jvm.MethodName) prog_3_method_1_code (1 : Nat) (Option.none : Option Jvm.ClassFile.FieldType)) ∈ lw_all := lw_g (lw_at lw_m2 53 rfl) rfl
theorem q415 : (Jvm.Cond.methodLinkNest "FifthCard$Gap" (1 : Nat) ({ cls := "FifthCard$Tell", name := "<init>", desc := "()V" } : Jvm.MethodName) "FifthCard") ∈ lw_tbl := lw_at lw_m2 54 rfl
theorem q416 : (Jvm.Cond.superclass "FifthCard$Gap" "FifthCard$Tell") ∈ lw_all := lw_g (lw_at lw_m2 55 rfl) rfl
theorem q567 : (Jvm.Cond.fieldLink "FifthCard$Gap" (7 : Nat) "FifthCard$Trick" "cards" "I") ∈ lw_all := lw_g (lw_at lw_m2 206 rfl) rfl
theorem q1145 : (Jvm.Cond.selects "FifthCard$Gap" ({ cls := "FifthCard$Tell", name := "of", desc := "(IIILFifthCard$Trick;)I" } : Jvm.MethodName) ({ cls := "FifthCard$Gap", name := "of", desc := "(IIILFifthCard$Trick;)I" } : Jvm.MethodName)) ∈ lw_all := lw_g (lw_at lw_m5 64 rfl) rfl
theorem q1146 : (Jvm.Cond.instanceMethod ({ cls := "FifthCard$Gap", name := "of", desc := "(IIILFifthCard$Trick;)I" } : Jvm.MethodName)) ∈ lw_all := lw_g (lw_at lw_m5 65 rfl) rfl
theorem q1147 : (Jvm.Cond.code ({ cls := "FifthCard$Gap", name := "of", desc := "(IIILFifthCard$Trick;)I" } : Jvm.MethodName) prog_3_method_2_code (6 : Nat) (Option.some Jvm.ClassFile.FieldType.int)) ∈ lw_all := lw_g (lw_at lw_m5 66 rfl) rfl
theorem q1148 : (Jvm.Cond.methodLinkNest "FifthCard$Gap" (13 : Nat) ({ cls := "FifthCard", name := "has", desc := "(II)Z" } : Jvm.MethodName) "FifthCard") ∈ lw_tbl := lw_at lw_m5 67 rfl
theorem q2236 : (Jvm.Cond.castable "FifthCard$Gap" "java/lang/Object") ∈ lw_tbl := lw_at lw_m9 195 rfl
/-! FifthCard$Ring -/
set_option maxRecDepth 100000
def RX15 : String := "FifthCard$Ring"
abbrev cX15_init : ByteArray := prog_15_method_1_code
def yX15_init : MethodName := ⟨RX15, "<init>", "()V"⟩
theorem dX15_init_0 : decode cX15_init 0 = .ok (.aload_n 0, 1) := by decide +kernel
theorem dX15_init_1 : decode cX15_init 1 = .ok (.invokespecial 1, 3) := by decide +kernel
theorem dX15_init_4 : decode cX15_init 4 = .ok (.return_, 1) := by decide +kernel
abbrev cX15_of : ByteArray := prog_15_method_2_code
def yX15_of : MethodName := ⟨RX15, "of", "(IIILFifthCard$Trick;)I"⟩
def dkwX15_of_1 : List UInt8 := [167, 0, 4, 4, 96, 54, 5, 132, 6, 1, 167, 255, 228, 21, 5, 25, 4, 180, 0, 13, 108, 172]
abbrev dktX15_of_1 : List UInt8 := dkwX15_of_1 ++ []
def dkwX15_of_0 : List UInt8 := [3, 54, 5, 3, 54, 6, 21, 6, 27, 162, 0, 28, 21, 5, 28, 21, 6, 184, 0, 7, 153, 0, 7, 3]
abbrev dktX15_of_0 : List UInt8 := dkwX15_of_0 ++ dktX15_of_1
theorem dksX15_of_0 : cX15_of.data.toList.drop 0 = dktX15_of_0 := by decide +kernel
theorem dksX15_of_1 : cX15_of.data.toList.drop 24 = dktX15_of_1 := dk_seg dksX15_of_0 24 rfl rfl
theorem dX15_of_0 : decode cX15_of 0 = .ok (.iconst 0, 1) := dk_3 (dk_at dksX15_of_0 0 rfl rfl)
theorem dX15_of_1 : decode cX15_of 1 = .ok (.istore 5, 2) := dk_54 5 (dk_at dksX15_of_0 1 rfl rfl)
theorem dX15_of_3 : decode cX15_of 3 = .ok (.iconst 0, 1) := dk_3 (dk_at dksX15_of_0 3 rfl rfl)
theorem dX15_of_4 : decode cX15_of 4 = .ok (.istore 6, 2) := dk_54 6 (dk_at dksX15_of_0 4 rfl rfl)
theorem dX15_of_6 : decode cX15_of 6 = .ok (.iload 6, 2) := dk_21 6 (dk_at dksX15_of_0 6 rfl rfl)
theorem dX15_of_8 : decode cX15_of 8 = .ok (.iload_n 1, 1) := dk_27 (dk_at dksX15_of_0 8 rfl rfl)
theorem dX15_of_9 : decode cX15_of 9 = .ok (.if_icmp .ge 28, 3) := dk_162 0 28 (dk_at dksX15_of_0 9 rfl rfl)
theorem dX15_of_12 : decode cX15_of 12 = .ok (.iload 5, 2) := dk_21 5 (dk_at dksX15_of_0 12 rfl rfl)
theorem dX15_of_14 : decode cX15_of 14 = .ok (.iload_n 2, 1) := dk_28 (dk_at dksX15_of_0 14 rfl rfl)
theorem dX15_of_15 : decode cX15_of 15 = .ok (.iload 6, 2) := dk_21 6 (dk_at dksX15_of_0 15 rfl rfl)
theorem dX15_of_17 : decode cX15_of 17 = .ok (.invokestatic 7, 3) := dk_184 0 7 (dk_at dksX15_of_0 17 rfl rfl)
theorem dX15_of_20 : decode cX15_of 20 = .ok (.ifCond .eq 7, 3) := dk_153 0 7 (dk_at dksX15_of_0 20 rfl rfl)
theorem dX15_of_23 : decode cX15_of 23 = .ok (.iconst 0, 1) := dk_3 (dk_at dksX15_of_0 23 rfl rfl)
theorem dX15_of_24 : decode cX15_of 24 = .ok (.goto 4, 3) := dk_167 0 4 (dk_at dksX15_of_1 0 rfl rfl)
theorem dX15_of_27 : decode cX15_of 27 = .ok (.iconst 1, 1) := dk_4 (dk_at dksX15_of_1 3 rfl rfl)
theorem dX15_of_28 : decode cX15_of 28 = .ok (.iadd, 1) := dk_96 (dk_at dksX15_of_1 4 rfl rfl)
theorem dX15_of_29 : decode cX15_of 29 = .ok (.istore 5, 2) := dk_54 5 (dk_at dksX15_of_1 5 rfl rfl)
theorem dX15_of_31 : decode cX15_of 31 = .ok (.iinc 6 1, 3) := dk_132 6 1 (dk_at dksX15_of_1 7 rfl rfl)
theorem dX15_of_34 : decode cX15_of 34 = .ok (.goto (-28), 3) := dk_167 255 228 (dk_at dksX15_of_1 10 rfl rfl)
theorem dX15_of_37 : decode cX15_of 37 = .ok (.iload 5, 2) := dk_21 5 (dk_at dksX15_of_1 13 rfl rfl)
theorem dX15_of_39 : decode cX15_of 39 = .ok (.aload 4, 2) := dk_25 4 (dk_at dksX15_of_1 15 rfl rfl)
theorem dX15_of_41 : decode cX15_of 41 = .ok (.getfield 13, 3) := dk_180 0 13 (dk_at dksX15_of_1 17 rfl rfl)
theorem dX15_of_44 : decode cX15_of 44 = .ok (.idiv, 1) := dk_108 (dk_at dksX15_of_1 20 rfl rfl)
theorem dX15_of_45 : decode cX15_of 45 = .ok (.ireturn, 1) := dk_172 (dk_at dksX15_of_1 21 rfl rfl)
theorem q139 : (Jvm.Cond.initialized "FifthCard$Ring") ∈ lw_all := lw_g (lw_at lw_m1 18 rfl) rfl
theorem q418 : (Jvm.Cond.instantiable "FifthCard$Ring" (0 : Nat)) ∈ lw_all := lw_g (lw_at lw_m2 57 rfl) rfl
theorem q420 : (Jvm.Cond.instanceMethod ({ cls := "FifthCard$Ring", name := "<init>", desc := "()V" } : Jvm.MethodName)) ∈ lw_all := lw_g (lw_at lw_m2 59 rfl) rfl
theorem q421 : (Jvm.Cond.code ({ cls := "FifthCard$Ring", name := "<init>", desc := "()V" } : Jvm.MethodName) prog_15_method_1_code (1 : Nat) (Option.none : Option Jvm.ClassFile.FieldType)) ∈ lw_all := lw_g (lw_at lw_m2 60 rfl) rfl
theorem q422 : (Jvm.Cond.methodLinkNest "FifthCard$Ring" (1 : Nat) ({ cls := "FifthCard$Tell", name := "<init>", desc := "()V" } : Jvm.MethodName) "FifthCard") ∈ lw_tbl := lw_at lw_m2 61 rfl
theorem q423 : (Jvm.Cond.superclass "FifthCard$Ring" "FifthCard$Tell") ∈ lw_all := lw_g (lw_at lw_m2 62 rfl) rfl
theorem q581 : (Jvm.Cond.fieldLink "FifthCard$Ring" (13 : Nat) "FifthCard$Trick" "hand" "I") ∈ lw_all := lw_g (lw_at lw_m2 220 rfl) rfl
theorem q1163 : (Jvm.Cond.selects "FifthCard$Ring" ({ cls := "FifthCard$Tell", name := "of", desc := "(IIILFifthCard$Trick;)I" } : Jvm.MethodName) ({ cls := "FifthCard$Ring", name := "of", desc := "(IIILFifthCard$Trick;)I" } : Jvm.MethodName)) ∈ lw_all := lw_g (lw_at lw_m5 82 rfl) rfl
theorem q1164 : (Jvm.Cond.instanceMethod ({ cls := "FifthCard$Ring", name := "of", desc := "(IIILFifthCard$Trick;)I" } : Jvm.MethodName)) ∈ lw_all := lw_g (lw_at lw_m5 83 rfl) rfl
theorem q1165 : (Jvm.Cond.code ({ cls := "FifthCard$Ring", name := "of", desc := "(IIILFifthCard$Trick;)I" } : Jvm.MethodName) prog_15_method_2_code (7 : Nat) (Option.some Jvm.ClassFile.FieldType.int)) ∈ lw_all := lw_g (lw_at lw_m5 84 rfl) rfl
theorem q1166 : (Jvm.Cond.methodLinkNest "FifthCard$Ring" (7 : Nat) ({ cls := "FifthCard", name := "has", desc := "(II)Z" } : Jvm.MethodName) "FifthCard") ∈ lw_tbl := lw_at lw_m5 85 rfl
theorem q2237 : (Jvm.Cond.castable "FifthCard$Ring" "java/lang/Object") ∈ lw_tbl := lw_at lw_m9 196 rfl
/-! FifthCard$KeptSum -/
set_option maxRecDepth 100000
def RX16 : String := "FifthCard$KeptSum"
abbrev cX16_init : ByteArray := prog_6_method_1_code
def yX16_init : MethodName := ⟨RX16, "<init>", "()V"⟩
theorem dX16_init_0 : decode cX16_init 0 = .ok (.aload_n 0, 1) := by decide +kernel
theorem dX16_init_1 : decode cX16_init 1 = .ok (.invokespecial 1, 3) := by decide +kernel
theorem dX16_init_4 : decode cX16_init 4 = .ok (.return_, 1) := by decide +kernel
abbrev cX16_of : ByteArray := prog_6_method_2_code
def yX16_of : MethodName := ⟨RX16, "of", "(IIILFifthCard$Trick;)I"⟩
def dkwX16_of_2 : List UInt8 := [167, 255, 214, 21, 5, 25, 4, 180, 0, 7, 112, 172]
abbrev dktX16_of_2 : List UInt8 := dkwX16_of_2 ++ []
def dkwX16_of_1 : List UInt8 := [153, 0, 17, 28, 21, 6, 184, 0, 13, 154, 0, 8, 21, 6, 167, 0, 4, 3, 96, 54, 5, 132, 6, 1]
abbrev dktX16_of_1 : List UInt8 := dkwX16_of_1 ++ dktX16_of_2
def dkwX16_of_0 : List UInt8 := [3, 54, 5, 3, 54, 6, 21, 6, 25, 4, 180, 0, 7, 162, 0, 38, 21, 5, 29, 21, 6, 184, 0, 13]
abbrev dktX16_of_0 : List UInt8 := dkwX16_of_0 ++ dktX16_of_1
theorem dksX16_of_0 : cX16_of.data.toList.drop 0 = dktX16_of_0 := by decide +kernel
theorem dksX16_of_1 : cX16_of.data.toList.drop 24 = dktX16_of_1 := dk_seg dksX16_of_0 24 rfl rfl
theorem dksX16_of_2 : cX16_of.data.toList.drop 48 = dktX16_of_2 := dk_seg dksX16_of_1 24 rfl rfl
theorem dX16_of_0 : decode cX16_of 0 = .ok (.iconst 0, 1) := dk_3 (dk_at dksX16_of_0 0 rfl rfl)
theorem dX16_of_1 : decode cX16_of 1 = .ok (.istore 5, 2) := dk_54 5 (dk_at dksX16_of_0 1 rfl rfl)
theorem dX16_of_3 : decode cX16_of 3 = .ok (.iconst 0, 1) := dk_3 (dk_at dksX16_of_0 3 rfl rfl)
theorem dX16_of_4 : decode cX16_of 4 = .ok (.istore 6, 2) := dk_54 6 (dk_at dksX16_of_0 4 rfl rfl)
theorem dX16_of_6 : decode cX16_of 6 = .ok (.iload 6, 2) := dk_21 6 (dk_at dksX16_of_0 6 rfl rfl)
theorem dX16_of_8 : decode cX16_of 8 = .ok (.aload 4, 2) := dk_25 4 (dk_at dksX16_of_0 8 rfl rfl)
theorem dX16_of_10 : decode cX16_of 10 = .ok (.getfield 7, 3) := dk_180 0 7 (dk_at dksX16_of_0 10 rfl rfl)
theorem dX16_of_13 : decode cX16_of 13 = .ok (.if_icmp .ge 38, 3) := dk_162 0 38 (dk_at dksX16_of_0 13 rfl rfl)
theorem dX16_of_16 : decode cX16_of 16 = .ok (.iload 5, 2) := dk_21 5 (dk_at dksX16_of_0 16 rfl rfl)
theorem dX16_of_18 : decode cX16_of 18 = .ok (.iload_n 3, 1) := dk_29 (dk_at dksX16_of_0 18 rfl rfl)
theorem dX16_of_19 : decode cX16_of 19 = .ok (.iload 6, 2) := dk_21 6 (dk_at dksX16_of_0 19 rfl rfl)
theorem dX16_of_21 : decode cX16_of 21 = .ok (.invokestatic 13, 3) := dk_184 0 13 (dk_at dksX16_of_0 21 rfl rfl)
theorem dX16_of_24 : decode cX16_of 24 = .ok (.ifCond .eq 17, 3) := dk_153 0 17 (dk_at dksX16_of_1 0 rfl rfl)
theorem dX16_of_27 : decode cX16_of 27 = .ok (.iload_n 2, 1) := dk_28 (dk_at dksX16_of_1 3 rfl rfl)
theorem dX16_of_28 : decode cX16_of 28 = .ok (.iload 6, 2) := dk_21 6 (dk_at dksX16_of_1 4 rfl rfl)
theorem dX16_of_30 : decode cX16_of 30 = .ok (.invokestatic 13, 3) := dk_184 0 13 (dk_at dksX16_of_1 6 rfl rfl)
theorem dX16_of_33 : decode cX16_of 33 = .ok (.ifCond .ne 8, 3) := dk_154 0 8 (dk_at dksX16_of_1 9 rfl rfl)
theorem dX16_of_36 : decode cX16_of 36 = .ok (.iload 6, 2) := dk_21 6 (dk_at dksX16_of_1 12 rfl rfl)
theorem dX16_of_38 : decode cX16_of 38 = .ok (.goto 4, 3) := dk_167 0 4 (dk_at dksX16_of_1 14 rfl rfl)
theorem dX16_of_41 : decode cX16_of 41 = .ok (.iconst 0, 1) := dk_3 (dk_at dksX16_of_1 17 rfl rfl)
theorem dX16_of_42 : decode cX16_of 42 = .ok (.iadd, 1) := dk_96 (dk_at dksX16_of_1 18 rfl rfl)
theorem dX16_of_43 : decode cX16_of 43 = .ok (.istore 5, 2) := dk_54 5 (dk_at dksX16_of_1 19 rfl rfl)
theorem dX16_of_45 : decode cX16_of 45 = .ok (.iinc 6 1, 3) := dk_132 6 1 (dk_at dksX16_of_1 21 rfl rfl)
theorem dX16_of_48 : decode cX16_of 48 = .ok (.goto (-42), 3) := dk_167 255 214 (dk_at dksX16_of_2 0 rfl rfl)
theorem dX16_of_51 : decode cX16_of 51 = .ok (.iload 5, 2) := dk_21 5 (dk_at dksX16_of_2 3 rfl rfl)
theorem dX16_of_53 : decode cX16_of 53 = .ok (.aload 4, 2) := dk_25 4 (dk_at dksX16_of_2 5 rfl rfl)
theorem dX16_of_55 : decode cX16_of 55 = .ok (.getfield 7, 3) := dk_180 0 7 (dk_at dksX16_of_2 7 rfl rfl)
theorem dX16_of_58 : decode cX16_of 58 = .ok (.irem, 1) := dk_112 (dk_at dksX16_of_2 10 rfl rfl)
theorem dX16_of_59 : decode cX16_of 59 = .ok (.ireturn, 1) := dk_172 (dk_at dksX16_of_2 11 rfl rfl)
theorem q140 : (Jvm.Cond.initialized "FifthCard$KeptSum") ∈ lw_all := lw_g (lw_at lw_m1 19 rfl) rfl
theorem q425 : (Jvm.Cond.instantiable "FifthCard$KeptSum" (0 : Nat)) ∈ lw_all := lw_g (lw_at lw_m2 64 rfl) rfl
theorem q427 : (Jvm.Cond.instanceMethod ({ cls := "FifthCard$KeptSum", name := "<init>", desc := "()V" } : Jvm.MethodName)) ∈ lw_all := lw_g (lw_at lw_m2 66 rfl) rfl
theorem q428 : (Jvm.Cond.code ({ cls := "FifthCard$KeptSum", name := "<init>", desc := "()V" } : Jvm.MethodName) prog_6_method_1_code (1 : Nat) (Option.none : Option Jvm.ClassFile.FieldType)) ∈ lw_all := lw_g (lw_at lw_m2 67 rfl) rfl
theorem q429 : (Jvm.Cond.methodLinkNest "FifthCard$KeptSum" (1 : Nat) ({ cls := "FifthCard$Tell", name := "<init>", desc := "()V" } : Jvm.MethodName) "FifthCard") ∈ lw_tbl := lw_at lw_m2 68 rfl
theorem q430 : (Jvm.Cond.superclass "FifthCard$KeptSum" "FifthCard$Tell") ∈ lw_all := lw_g (lw_at lw_m2 69 rfl) rfl
theorem q568 : (Jvm.Cond.fieldLink "FifthCard$KeptSum" (7 : Nat) "FifthCard$Trick" "cards" "I") ∈ lw_all := lw_g (lw_at lw_m2 207 rfl) rfl
theorem q1149 : (Jvm.Cond.selects "FifthCard$KeptSum" ({ cls := "FifthCard$Tell", name := "of", desc := "(IIILFifthCard$Trick;)I" } : Jvm.MethodName) ({ cls := "FifthCard$KeptSum", name := "of", desc := "(IIILFifthCard$Trick;)I" } : Jvm.MethodName)) ∈ lw_all := lw_g (lw_at lw_m5 68 rfl) rfl
theorem q1150 : (Jvm.Cond.instanceMethod ({ cls := "FifthCard$KeptSum", name := "of", desc := "(IIILFifthCard$Trick;)I" } : Jvm.MethodName)) ∈ lw_all := lw_g (lw_at lw_m5 69 rfl) rfl
theorem q1151 : (Jvm.Cond.code ({ cls := "FifthCard$KeptSum", name := "of", desc := "(IIILFifthCard$Trick;)I" } : Jvm.MethodName) prog_6_method_2_code (7 : Nat) (Option.some Jvm.ClassFile.FieldType.int)) ∈ lw_all := lw_g (lw_at lw_m5 70 rfl) rfl
theorem q1152 : (Jvm.Cond.methodLinkNest "FifthCard$KeptSum" (13 : Nat) ({ cls := "FifthCard", name := "has", desc := "(II)Z" } : Jvm.MethodName) "FifthCard") ∈ lw_tbl := lw_at lw_m5 71 rfl
theorem q2238 : (Jvm.Cond.castable "FifthCard$KeptSum" "java/lang/Object") ∈ lw_tbl := lw_at lw_m9 197 rfl
/-! FifthCard$Rule -/
set_option maxRecDepth 100000
def RX17 : String := "FifthCard$Rule"
abbrev cX17_init : ByteArray := prog_16_method_1_code
def yX17_init : MethodName := ⟨RX17, "<init>", "(Ljava/lang/String;I)V"⟩
def dkwX17_init_0 : List UInt8 := [42, 183, 0, 3, 42, 17, 7, 208, 188, 10, 181, 0, 9, 42, 43, 181, 0, 15, 42, 28, 181, 0, 19, 177]
abbrev dktX17_init_0 : List UInt8 := dkwX17_init_0 ++ []
theorem dksX17_init_0 : cX17_init.data.toList.drop 0 = dktX17_init_0 := by decide +kernel
theorem dX17_init_0 : decode cX17_init 0 = .ok (.aload_n 0, 1) := dk_42 (dk_at dksX17_init_0 0 rfl rfl)
theorem dX17_init_1 : decode cX17_init 1 = .ok (.invokespecial 3, 3) := dk_183 0 3 (dk_at dksX17_init_0 1 rfl rfl)
theorem dX17_init_4 : decode cX17_init 4 = .ok (.aload_n 0, 1) := dk_42 (dk_at dksX17_init_0 4 rfl rfl)
theorem dX17_init_5 : decode cX17_init 5 = .ok (.sipush 2000, 3) := dk_17 7 208 (dk_at dksX17_init_0 5 rfl rfl)
theorem dX17_init_8 : decode cX17_init 8 = .ok (.newarray .int, 2) := dk_188_10 (dk_at dksX17_init_0 8 rfl rfl)
theorem dX17_init_10 : decode cX17_init 10 = .ok (.putfield 9, 3) := dk_181 0 9 (dk_at dksX17_init_0 10 rfl rfl)
theorem dX17_init_13 : decode cX17_init 13 = .ok (.aload_n 0, 1) := dk_42 (dk_at dksX17_init_0 13 rfl rfl)
theorem dX17_init_14 : decode cX17_init 14 = .ok (.aload_n 1, 1) := dk_43 (dk_at dksX17_init_0 14 rfl rfl)
theorem dX17_init_15 : decode cX17_init 15 = .ok (.putfield 15, 3) := dk_181 0 15 (dk_at dksX17_init_0 15 rfl rfl)
theorem dX17_init_18 : decode cX17_init 18 = .ok (.aload_n 0, 1) := dk_42 (dk_at dksX17_init_0 18 rfl rfl)
theorem dX17_init_19 : decode cX17_init 19 = .ok (.iload_n 2, 1) := dk_28 (dk_at dksX17_init_0 19 rfl rfl)
theorem dX17_init_20 : decode cX17_init 20 = .ok (.putfield 19, 3) := dk_181 0 19 (dk_at dksX17_init_0 20 rfl rfl)
theorem dX17_init_23 : decode cX17_init 23 = .ok (.return_, 1) := dk_177 (dk_at dksX17_init_0 23 rfl rfl)
theorem q141 : (Jvm.Cond.initialized "FifthCard$Rule") ∈ lw_all := lw_g (lw_at lw_m1 20 rfl) rfl
theorem q437 : (Jvm.Cond.instanceMethod ({ cls := "FifthCard$Rule", name := "<init>", desc := "(Ljava/lang/String;I)V" } : Jvm.MethodName)) ∈ lw_all := lw_g (lw_at lw_m2 76 rfl) rfl
theorem q438 : (Jvm.Cond.code ({ cls := "FifthCard$Rule", name := "<init>", desc := "(Ljava/lang/String;I)V" } : Jvm.MethodName) prog_16_method_1_code (3 : Nat) (Option.none : Option Jvm.ClassFile.FieldType)) ∈ lw_all := lw_g (lw_at lw_m2 77 rfl) rfl
theorem q439 : (Jvm.Cond.methodLink "FifthCard$Rule" (3 : Nat) ({ cls := "java/lang/Object", name := "<init>", desc := "()V" } : Jvm.MethodName)) ∈ lw_all := lw_g (lw_at lw_m2 78 rfl) rfl
theorem q446 : (Jvm.Cond.fieldLink "FifthCard$Rule" (15 : Nat) "FifthCard$Rule" "name" "Ljava/lang/String;") ∈ lw_all := lw_g (lw_at lw_m2 85 rfl) rfl
theorem q448 : (Jvm.Cond.fieldLink "FifthCard$Rule" (19 : Nat) "FifthCard$Rule" "number" "I") ∈ lw_all := lw_g (lw_at lw_m2 87 rfl) rfl
theorem q449 : (Jvm.Cond.fieldLink "FifthCard$Rule" (9 : Nat) "FifthCard$Rule" "rows" "[I") ∈ lw_all := lw_g (lw_at lw_m2 88 rfl) rfl
theorem q465 : (Jvm.Cond.soleField "FifthCard$Rule" "name") ∈ lw_all := lw_g (lw_at lw_m2 104 rfl) rfl
theorem q467 : (Jvm.Cond.soleField "FifthCard$Rule" "number") ∈ lw_all := lw_g (lw_at lw_m2 106 rfl) rfl
theorem q469 : (Jvm.Cond.soleField "FifthCard$Rule" "rows") ∈ lw_all := lw_g (lw_at lw_m2 108 rfl) rfl
theorem q471 : (Jvm.Cond.soleField "FifthCard$Rule" "isLaid") ∈ lw_all := lw_g (lw_at lw_m2 110 rfl) rfl
theorem q1117 : (Jvm.Cond.declares ({ cls := "FifthCard$Rule", name := "lay", desc := "([ILFifthCard$Trick;)I" } : Jvm.MethodName)) ∈ lw_tbl := lw_at lw_m5 36 rfl
theorem q1118 : (Jvm.Cond.sameMethod "FifthCard$Rule" "FifthCard$Rule" "lay" "([ILFifthCard$Trick;)I") ∈ lw_all := lw_g (lw_at lw_m5 37 rfl) rfl
theorem q1400 : (Jvm.Cond.declares ({ cls := "FifthCard$Rule", name := "words", desc := "()I" } : Jvm.MethodName)) ∈ lw_tbl := lw_at lw_m6 79 rfl
theorem q1401 : (Jvm.Cond.sameMethod "FifthCard$Rule" "FifthCard$Rule" "words" "()I") ∈ lw_all := lw_g (lw_at lw_m6 80 rfl) rfl
/-! FifthCard$Spoken -/
set_option maxRecDepth 100000
def RX18 : String := "FifthCard$Spoken"
def TX18 : u_T := fun k => match k with
  | 0 => ("FifthCard$Rule", "name", "Ljava/lang/String;", true)
  | 1 => ("FifthCard$Rule", "number", "I", true)
  | 2 => ("FifthCard$Rule", "rows", "[I", true)
  | 3 => ("FifthCard$Rule", "isLaid", "Z", false)
  | 4 => ("FifthCard$Spoken", "keep", "LFifthCard$Keep;", true)
  | 5 => ("FifthCard$Spoken", "tell", "LFifthCard$Tell;", true)
  | 6 => ("FifthCard$Spoken", "words", "I", true)
  | 7 => ("FifthCard$Spoken", "rising", "[I", true)
  | 8 => ("FifthCard$Spoken", "rest", "[I", true)
  | _ => ("FifthCard$Spoken", "order", "[I", true)
def tyX18 : Nat → FieldType := fun k => match k with
  | 0 => .object "java/lang/String"
  | 1 => .int
  | 2 => .array .int
  | 3 => .boolean
  | 4 => .object "FifthCard$Keep"
  | 5 => .object "FifthCard$Tell"
  | 6 => .int
  | 7 => .array .int
  | 8 => .array .int
  | _ => .array .int
abbrev wsX180 : List Cond := u_ws RX18 TX18 10
theorem nmX18 : ∀ a, a < 10 → ∀ b, b < 10 → a ≠ b → (TX18 a).2.1 ≠ (TX18 b).2.1 := by decide +kernel
theorem tyX18_ok : ∀ k, k < 10 → parseFieldDescriptor (TX18 k).2.2.1 = some (tyX18 k) := by decide +kernel
abbrev cX18_init : ByteArray := prog_17_method_1_code
def yX18_init : MethodName := ⟨RX18, "<init>", "(Ljava/lang/String;ILFifthCard$Keep;LFifthCard$Tell;I)V"⟩
def dkwX18_init_1 : List UInt8 := [181, 0, 18, 42, 45, 181, 0, 21, 42, 25, 4, 181, 0, 25, 42, 21, 5, 181, 0, 29, 177]
abbrev dktX18_init_1 : List UInt8 := dkwX18_init_1 ++ []
def dkwX18_init_0 : List UInt8 := [42, 43, 28, 183, 0, 3, 42, 8, 188, 10, 181, 0, 9, 42, 8, 188, 10, 181, 0, 15, 42, 8, 188, 10]
abbrev dktX18_init_0 : List UInt8 := dkwX18_init_0 ++ dktX18_init_1
theorem dksX18_init_0 : cX18_init.data.toList.drop 0 = dktX18_init_0 := by decide +kernel
theorem dksX18_init_1 : cX18_init.data.toList.drop 24 = dktX18_init_1 := dk_seg dksX18_init_0 24 rfl rfl
theorem dX18_init_0 : decode cX18_init 0 = .ok (.aload_n 0, 1) := dk_42 (dk_at dksX18_init_0 0 rfl rfl)
theorem dX18_init_1 : decode cX18_init 1 = .ok (.aload_n 1, 1) := dk_43 (dk_at dksX18_init_0 1 rfl rfl)
theorem dX18_init_2 : decode cX18_init 2 = .ok (.iload_n 2, 1) := dk_28 (dk_at dksX18_init_0 2 rfl rfl)
theorem dX18_init_3 : decode cX18_init 3 = .ok (.invokespecial 3, 3) := dk_183 0 3 (dk_at dksX18_init_0 3 rfl rfl)
theorem dX18_init_6 : decode cX18_init 6 = .ok (.aload_n 0, 1) := dk_42 (dk_at dksX18_init_0 6 rfl rfl)
theorem dX18_init_7 : decode cX18_init 7 = .ok (.iconst 5, 1) := dk_8 (dk_at dksX18_init_0 7 rfl rfl)
theorem dX18_init_8 : decode cX18_init 8 = .ok (.newarray .int, 2) := dk_188_10 (dk_at dksX18_init_0 8 rfl rfl)
theorem dX18_init_10 : decode cX18_init 10 = .ok (.putfield 9, 3) := dk_181 0 9 (dk_at dksX18_init_0 10 rfl rfl)
theorem dX18_init_13 : decode cX18_init 13 = .ok (.aload_n 0, 1) := dk_42 (dk_at dksX18_init_0 13 rfl rfl)
theorem dX18_init_14 : decode cX18_init 14 = .ok (.iconst 5, 1) := dk_8 (dk_at dksX18_init_0 14 rfl rfl)
theorem dX18_init_15 : decode cX18_init 15 = .ok (.newarray .int, 2) := dk_188_10 (dk_at dksX18_init_0 15 rfl rfl)
theorem dX18_init_17 : decode cX18_init 17 = .ok (.putfield 15, 3) := dk_181 0 15 (dk_at dksX18_init_0 17 rfl rfl)
theorem dX18_init_20 : decode cX18_init 20 = .ok (.aload_n 0, 1) := dk_42 (dk_at dksX18_init_0 20 rfl rfl)
theorem dX18_init_21 : decode cX18_init 21 = .ok (.iconst 5, 1) := dk_8 (dk_at dksX18_init_0 21 rfl rfl)
theorem dX18_init_22 : decode cX18_init 22 = .ok (.newarray .int, 2) := dk_188_10 (dk_at dksX18_init_0 22 rfl rfl)
theorem dX18_init_24 : decode cX18_init 24 = .ok (.putfield 18, 3) := dk_181 0 18 (dk_at dksX18_init_1 0 rfl rfl)
theorem dX18_init_27 : decode cX18_init 27 = .ok (.aload_n 0, 1) := dk_42 (dk_at dksX18_init_1 3 rfl rfl)
theorem dX18_init_28 : decode cX18_init 28 = .ok (.aload_n 3, 1) := dk_45 (dk_at dksX18_init_1 4 rfl rfl)
theorem dX18_init_29 : decode cX18_init 29 = .ok (.putfield 21, 3) := dk_181 0 21 (dk_at dksX18_init_1 5 rfl rfl)
theorem dX18_init_32 : decode cX18_init 32 = .ok (.aload_n 0, 1) := dk_42 (dk_at dksX18_init_1 8 rfl rfl)
theorem dX18_init_33 : decode cX18_init 33 = .ok (.aload 4, 2) := dk_25 4 (dk_at dksX18_init_1 9 rfl rfl)
theorem dX18_init_35 : decode cX18_init 35 = .ok (.putfield 25, 3) := dk_181 0 25 (dk_at dksX18_init_1 11 rfl rfl)
theorem dX18_init_38 : decode cX18_init 38 = .ok (.aload_n 0, 1) := dk_42 (dk_at dksX18_init_1 14 rfl rfl)
theorem dX18_init_39 : decode cX18_init 39 = .ok (.iload 5, 2) := dk_21 5 (dk_at dksX18_init_1 15 rfl rfl)
theorem dX18_init_41 : decode cX18_init 41 = .ok (.putfield 29, 3) := dk_181 0 29 (dk_at dksX18_init_1 17 rfl rfl)
theorem dX18_init_44 : decode cX18_init 44 = .ok (.return_, 1) := dk_177 (dk_at dksX18_init_1 20 rfl rfl)
abbrev cX18_lay : ByteArray := prog_17_method_3_code
def yX18_lay : MethodName := ⟨RX18, "lay", "([ILFifthCard$Trick;)I"⟩
def dkwX18_lay_12 : List UInt8 := [21, 7, 21, 9, 108, 44, 182, 0, 75, 112, 96, 172]
abbrev dktX18_lay_12 : List UInt8 := dkwX18_lay_12 ++ []
def dkwX18_lay_11 : List UInt8 := [112, 42, 180, 0, 18, 184, 0, 83, 44, 42, 180, 0, 18, 21, 8, 182, 0, 71, 44, 182, 0, 75, 104]
abbrev dktX18_lay_11 : List UInt8 := dkwX18_lay_11 ++ dktX18_lay_12
def dkwX18_lay_10 : List UInt8 := [182, 0, 75, 112, 96, 172, 21, 8, 184, 0, 79, 54, 9, 42, 180, 0, 15, 3, 21, 8, 21, 7, 21, 9]
abbrev dktX18_lay_10 : List UInt8 := dkwX18_lay_10 ++ dktX18_lay_11
def dkwX18_lay_9 : List UInt8 := [180, 0, 68, 153, 0, 27, 44, 42, 180, 0, 15, 21, 8, 182, 0, 71, 44, 182, 0, 75, 104, 21, 7, 44]
abbrev dktX18_lay_9 : List UInt8 := dkwX18_lay_9 ++ dktX18_lay_10
def dkwX18_lay_8 : List UInt8 := [43, 21, 9, 46, 79, 132, 8, 1, 132, 9, 1, 167, 255, 215, 44, 180, 0, 64, 154, 0, 10, 44]
abbrev dktX18_lay_8 : List UInt8 := dkwX18_lay_8 ++ dktX18_lay_9
def dkwX18_lay_7 : List UInt8 := [162, 0, 38, 21, 6, 43, 21, 9, 46, 184, 0, 54, 154, 0, 6, 167, 0, 17, 42, 180, 0, 15, 21, 8]
abbrev dktX18_lay_7 : List UInt8 := dkwX18_lay_7 ++ dktX18_lay_8
def dkwX18_lay_6 : List UInt8 := [182, 0, 58, 96, 54, 7, 132, 8, 1, 167, 255, 211, 3, 54, 8, 3, 54, 9, 21, 9, 44, 180, 0, 33]
abbrev dktX18_lay_6 : List UInt8 := dkwX18_lay_6 ++ dktX18_lay_7
def dkwX18_lay_5 : List UInt8 := [184, 0, 54, 153, 0, 26, 21, 7, 44, 180, 0, 51, 104, 42, 180, 0, 25, 21, 8, 21, 6, 29, 44]
abbrev dktX18_lay_5 : List UInt8 := dkwX18_lay_5 ++ dktX18_lay_6
def dkwX18_lay_4 : List UInt8 := [2, 130, 126, 54, 6, 3, 54, 7, 3, 54, 8, 21, 8, 44, 180, 0, 51, 162, 0, 42, 21, 5, 21, 8]
abbrev dktX18_lay_4 : List UInt8 := dkwX18_lay_4 ++ dktX18_lay_5
def dkwX18_lay_3 : List UInt8 := [21, 5, 4, 42, 180, 0, 9, 21, 4, 4, 96, 44, 180, 0, 33, 112, 46, 120, 128, 54, 5, 29, 21, 5]
abbrev dktX18_lay_3 : List UInt8 := dkwX18_lay_3 ++ dktX18_lay_4
def dkwX18_lay_2 : List UInt8 := [182, 0, 42, 54, 4, 4, 42, 180, 0, 9, 21, 4, 46, 120, 54, 5, 44, 180, 0, 48, 5, 160, 0, 24]
abbrev dktX18_lay_2 : List UInt8 := dkwX18_lay_2 ++ dktX18_lay_3
def dkwX18_lay_1 : List UInt8 := [132, 4, 1, 167, 255, 235, 29, 42, 180, 0, 9, 184, 0, 38, 87, 42, 180, 0, 21, 42, 180, 0, 9, 44]
abbrev dktX18_lay_1 : List UInt8 := dkwX18_lay_1 ++ dktX18_lay_2
def dkwX18_lay_0 : List UInt8 := [3, 62, 3, 54, 4, 21, 4, 44, 180, 0, 33, 162, 0, 18, 29, 4, 43, 21, 4, 46, 120, 128, 62]
abbrev dktX18_lay_0 : List UInt8 := dkwX18_lay_0 ++ dktX18_lay_1
theorem dksX18_lay_0 : cX18_lay.data.toList.drop 0 = dktX18_lay_0 := by decide +kernel
theorem dksX18_lay_1 : cX18_lay.data.toList.drop 23 = dktX18_lay_1 := dk_seg dksX18_lay_0 23 rfl rfl
theorem dksX18_lay_2 : cX18_lay.data.toList.drop 47 = dktX18_lay_2 := dk_seg dksX18_lay_1 24 rfl rfl
theorem dksX18_lay_3 : cX18_lay.data.toList.drop 71 = dktX18_lay_3 := dk_seg dksX18_lay_2 24 rfl rfl
theorem dksX18_lay_4 : cX18_lay.data.toList.drop 95 = dktX18_lay_4 := dk_seg dksX18_lay_3 24 rfl rfl
theorem dksX18_lay_5 : cX18_lay.data.toList.drop 119 = dktX18_lay_5 := dk_seg dksX18_lay_4 24 rfl rfl
theorem dksX18_lay_6 : cX18_lay.data.toList.drop 142 = dktX18_lay_6 := dk_seg dksX18_lay_5 23 rfl rfl
theorem dksX18_lay_7 : cX18_lay.data.toList.drop 166 = dktX18_lay_7 := dk_seg dksX18_lay_6 24 rfl rfl
theorem dksX18_lay_8 : cX18_lay.data.toList.drop 190 = dktX18_lay_8 := dk_seg dksX18_lay_7 24 rfl rfl
theorem dksX18_lay_9 : cX18_lay.data.toList.drop 212 = dktX18_lay_9 := dk_seg dksX18_lay_8 22 rfl rfl
theorem dksX18_lay_10 : cX18_lay.data.toList.drop 236 = dktX18_lay_10 := dk_seg dksX18_lay_9 24 rfl rfl
theorem dksX18_lay_11 : cX18_lay.data.toList.drop 260 = dktX18_lay_11 := dk_seg dksX18_lay_10 24 rfl rfl
theorem dksX18_lay_12 : cX18_lay.data.toList.drop 283 = dktX18_lay_12 := dk_seg dksX18_lay_11 23 rfl rfl
theorem dX18_lay_0 : decode cX18_lay 0 = .ok (.iconst 0, 1) := dk_3 (dk_at dksX18_lay_0 0 rfl rfl)
theorem dX18_lay_1 : decode cX18_lay 1 = .ok (.istore_n 3, 1) := dk_62 (dk_at dksX18_lay_0 1 rfl rfl)
theorem dX18_lay_2 : decode cX18_lay 2 = .ok (.iconst 0, 1) := dk_3 (dk_at dksX18_lay_0 2 rfl rfl)
theorem dX18_lay_3 : decode cX18_lay 3 = .ok (.istore 4, 2) := dk_54 4 (dk_at dksX18_lay_0 3 rfl rfl)
theorem dX18_lay_5 : decode cX18_lay 5 = .ok (.iload 4, 2) := dk_21 4 (dk_at dksX18_lay_0 5 rfl rfl)
theorem dX18_lay_7 : decode cX18_lay 7 = .ok (.aload_n 2, 1) := dk_44 (dk_at dksX18_lay_0 7 rfl rfl)
theorem dX18_lay_8 : decode cX18_lay 8 = .ok (.getfield 33, 3) := dk_180 0 33 (dk_at dksX18_lay_0 8 rfl rfl)
theorem dX18_lay_11 : decode cX18_lay 11 = .ok (.if_icmp .ge 18, 3) := dk_162 0 18 (dk_at dksX18_lay_0 11 rfl rfl)
theorem dX18_lay_14 : decode cX18_lay 14 = .ok (.iload_n 3, 1) := dk_29 (dk_at dksX18_lay_0 14 rfl rfl)
theorem dX18_lay_15 : decode cX18_lay 15 = .ok (.iconst 1, 1) := dk_4 (dk_at dksX18_lay_0 15 rfl rfl)
theorem dX18_lay_16 : decode cX18_lay 16 = .ok (.aload_n 1, 1) := dk_43 (dk_at dksX18_lay_0 16 rfl rfl)
theorem dX18_lay_17 : decode cX18_lay 17 = .ok (.iload 4, 2) := dk_21 4 (dk_at dksX18_lay_0 17 rfl rfl)
theorem dX18_lay_19 : decode cX18_lay 19 = .ok (.iaload, 1) := dk_46 (dk_at dksX18_lay_0 19 rfl rfl)
theorem dX18_lay_20 : decode cX18_lay 20 = .ok (.ishl, 1) := dk_120 (dk_at dksX18_lay_0 20 rfl rfl)
theorem dX18_lay_21 : decode cX18_lay 21 = .ok (.ior, 1) := dk_128 (dk_at dksX18_lay_0 21 rfl rfl)
theorem dX18_lay_22 : decode cX18_lay 22 = .ok (.istore_n 3, 1) := dk_62 (dk_at dksX18_lay_0 22 rfl rfl)
theorem dX18_lay_23 : decode cX18_lay 23 = .ok (.iinc 4 1, 3) := dk_132 4 1 (dk_at dksX18_lay_1 0 rfl rfl)
theorem dX18_lay_26 : decode cX18_lay 26 = .ok (.goto (-21), 3) := dk_167 255 235 (dk_at dksX18_lay_1 3 rfl rfl)
theorem dX18_lay_29 : decode cX18_lay 29 = .ok (.iload_n 3, 1) := dk_29 (dk_at dksX18_lay_1 6 rfl rfl)
theorem dX18_lay_30 : decode cX18_lay 30 = .ok (.aload_n 0, 1) := dk_42 (dk_at dksX18_lay_1 7 rfl rfl)
theorem dX18_lay_31 : decode cX18_lay 31 = .ok (.getfield 9, 3) := dk_180 0 9 (dk_at dksX18_lay_1 8 rfl rfl)
theorem dX18_lay_34 : decode cX18_lay 34 = .ok (.invokestatic 38, 3) := dk_184 0 38 (dk_at dksX18_lay_1 11 rfl rfl)
theorem dX18_lay_37 : decode cX18_lay 37 = .ok (.pop, 1) := dk_87 (dk_at dksX18_lay_1 14 rfl rfl)
theorem dX18_lay_38 : decode cX18_lay 38 = .ok (.aload_n 0, 1) := dk_42 (dk_at dksX18_lay_1 15 rfl rfl)
theorem dX18_lay_39 : decode cX18_lay 39 = .ok (.getfield 21, 3) := dk_180 0 21 (dk_at dksX18_lay_1 16 rfl rfl)
theorem dX18_lay_42 : decode cX18_lay 42 = .ok (.aload_n 0, 1) := dk_42 (dk_at dksX18_lay_1 19 rfl rfl)
theorem dX18_lay_43 : decode cX18_lay 43 = .ok (.getfield 9, 3) := dk_180 0 9 (dk_at dksX18_lay_1 20 rfl rfl)
theorem dX18_lay_46 : decode cX18_lay 46 = .ok (.aload_n 2, 1) := dk_44 (dk_at dksX18_lay_1 23 rfl rfl)
theorem dX18_lay_47 : decode cX18_lay 47 = .ok (.invokevirtual 42, 3) := dk_182 0 42 (dk_at dksX18_lay_2 0 rfl rfl)
theorem dX18_lay_50 : decode cX18_lay 50 = .ok (.istore 4, 2) := dk_54 4 (dk_at dksX18_lay_2 3 rfl rfl)
theorem dX18_lay_52 : decode cX18_lay 52 = .ok (.iconst 1, 1) := dk_4 (dk_at dksX18_lay_2 5 rfl rfl)
theorem dX18_lay_53 : decode cX18_lay 53 = .ok (.aload_n 0, 1) := dk_42 (dk_at dksX18_lay_2 6 rfl rfl)
theorem dX18_lay_54 : decode cX18_lay 54 = .ok (.getfield 9, 3) := dk_180 0 9 (dk_at dksX18_lay_2 7 rfl rfl)
theorem dX18_lay_57 : decode cX18_lay 57 = .ok (.iload 4, 2) := dk_21 4 (dk_at dksX18_lay_2 10 rfl rfl)
theorem dX18_lay_59 : decode cX18_lay 59 = .ok (.iaload, 1) := dk_46 (dk_at dksX18_lay_2 12 rfl rfl)
theorem dX18_lay_60 : decode cX18_lay 60 = .ok (.ishl, 1) := dk_120 (dk_at dksX18_lay_2 13 rfl rfl)
theorem dX18_lay_61 : decode cX18_lay 61 = .ok (.istore 5, 2) := dk_54 5 (dk_at dksX18_lay_2 14 rfl rfl)
theorem dX18_lay_63 : decode cX18_lay 63 = .ok (.aload_n 2, 1) := dk_44 (dk_at dksX18_lay_2 16 rfl rfl)
theorem dX18_lay_64 : decode cX18_lay 64 = .ok (.getfield 48, 3) := dk_180 0 48 (dk_at dksX18_lay_2 17 rfl rfl)
theorem dX18_lay_67 : decode cX18_lay 67 = .ok (.iconst 2, 1) := dk_5 (dk_at dksX18_lay_2 20 rfl rfl)
theorem dX18_lay_68 : decode cX18_lay 68 = .ok (.if_icmp .ne 24, 3) := dk_160 0 24 (dk_at dksX18_lay_2 21 rfl rfl)
theorem dX18_lay_71 : decode cX18_lay 71 = .ok (.iload 5, 2) := dk_21 5 (dk_at dksX18_lay_3 0 rfl rfl)
theorem dX18_lay_73 : decode cX18_lay 73 = .ok (.iconst 1, 1) := dk_4 (dk_at dksX18_lay_3 2 rfl rfl)
theorem dX18_lay_74 : decode cX18_lay 74 = .ok (.aload_n 0, 1) := dk_42 (dk_at dksX18_lay_3 3 rfl rfl)
theorem dX18_lay_75 : decode cX18_lay 75 = .ok (.getfield 9, 3) := dk_180 0 9 (dk_at dksX18_lay_3 4 rfl rfl)
theorem dX18_lay_78 : decode cX18_lay 78 = .ok (.iload 4, 2) := dk_21 4 (dk_at dksX18_lay_3 7 rfl rfl)
theorem dX18_lay_80 : decode cX18_lay 80 = .ok (.iconst 1, 1) := dk_4 (dk_at dksX18_lay_3 9 rfl rfl)
theorem dX18_lay_81 : decode cX18_lay 81 = .ok (.iadd, 1) := dk_96 (dk_at dksX18_lay_3 10 rfl rfl)
theorem dX18_lay_82 : decode cX18_lay 82 = .ok (.aload_n 2, 1) := dk_44 (dk_at dksX18_lay_3 11 rfl rfl)
theorem dX18_lay_83 : decode cX18_lay 83 = .ok (.getfield 33, 3) := dk_180 0 33 (dk_at dksX18_lay_3 12 rfl rfl)
theorem dX18_lay_86 : decode cX18_lay 86 = .ok (.irem, 1) := dk_112 (dk_at dksX18_lay_3 15 rfl rfl)
theorem dX18_lay_87 : decode cX18_lay 87 = .ok (.iaload, 1) := dk_46 (dk_at dksX18_lay_3 16 rfl rfl)
theorem dX18_lay_88 : decode cX18_lay 88 = .ok (.ishl, 1) := dk_120 (dk_at dksX18_lay_3 17 rfl rfl)
theorem dX18_lay_89 : decode cX18_lay 89 = .ok (.ior, 1) := dk_128 (dk_at dksX18_lay_3 18 rfl rfl)
theorem dX18_lay_90 : decode cX18_lay 90 = .ok (.istore 5, 2) := dk_54 5 (dk_at dksX18_lay_3 19 rfl rfl)
theorem dX18_lay_92 : decode cX18_lay 92 = .ok (.iload_n 3, 1) := dk_29 (dk_at dksX18_lay_3 21 rfl rfl)
theorem dX18_lay_93 : decode cX18_lay 93 = .ok (.iload 5, 2) := dk_21 5 (dk_at dksX18_lay_3 22 rfl rfl)
theorem dX18_lay_95 : decode cX18_lay 95 = .ok (.iconst (-1), 1) := dk_2 (dk_at dksX18_lay_4 0 rfl rfl)
theorem dX18_lay_96 : decode cX18_lay 96 = .ok (.ixor, 1) := dk_130 (dk_at dksX18_lay_4 1 rfl rfl)
theorem dX18_lay_97 : decode cX18_lay 97 = .ok (.iand, 1) := dk_126 (dk_at dksX18_lay_4 2 rfl rfl)
theorem dX18_lay_98 : decode cX18_lay 98 = .ok (.istore 6, 2) := dk_54 6 (dk_at dksX18_lay_4 3 rfl rfl)
theorem dX18_lay_100 : decode cX18_lay 100 = .ok (.iconst 0, 1) := dk_3 (dk_at dksX18_lay_4 5 rfl rfl)
theorem dX18_lay_101 : decode cX18_lay 101 = .ok (.istore 7, 2) := dk_54 7 (dk_at dksX18_lay_4 6 rfl rfl)
theorem dX18_lay_103 : decode cX18_lay 103 = .ok (.iconst 0, 1) := dk_3 (dk_at dksX18_lay_4 8 rfl rfl)
theorem dX18_lay_104 : decode cX18_lay 104 = .ok (.istore 8, 2) := dk_54 8 (dk_at dksX18_lay_4 9 rfl rfl)
theorem dX18_lay_106 : decode cX18_lay 106 = .ok (.iload 8, 2) := dk_21 8 (dk_at dksX18_lay_4 11 rfl rfl)
theorem dX18_lay_108 : decode cX18_lay 108 = .ok (.aload_n 2, 1) := dk_44 (dk_at dksX18_lay_4 13 rfl rfl)
theorem dX18_lay_109 : decode cX18_lay 109 = .ok (.getfield 51, 3) := dk_180 0 51 (dk_at dksX18_lay_4 14 rfl rfl)
theorem dX18_lay_112 : decode cX18_lay 112 = .ok (.if_icmp .ge 42, 3) := dk_162 0 42 (dk_at dksX18_lay_4 17 rfl rfl)
theorem dX18_lay_115 : decode cX18_lay 115 = .ok (.iload 5, 2) := dk_21 5 (dk_at dksX18_lay_4 20 rfl rfl)
theorem dX18_lay_117 : decode cX18_lay 117 = .ok (.iload 8, 2) := dk_21 8 (dk_at dksX18_lay_4 22 rfl rfl)
theorem dX18_lay_119 : decode cX18_lay 119 = .ok (.invokestatic 54, 3) := dk_184 0 54 (dk_at dksX18_lay_5 0 rfl rfl)
theorem dX18_lay_122 : decode cX18_lay 122 = .ok (.ifCond .eq 26, 3) := dk_153 0 26 (dk_at dksX18_lay_5 3 rfl rfl)
theorem dX18_lay_125 : decode cX18_lay 125 = .ok (.iload 7, 2) := dk_21 7 (dk_at dksX18_lay_5 6 rfl rfl)
theorem dX18_lay_127 : decode cX18_lay 127 = .ok (.aload_n 2, 1) := dk_44 (dk_at dksX18_lay_5 8 rfl rfl)
theorem dX18_lay_128 : decode cX18_lay 128 = .ok (.getfield 51, 3) := dk_180 0 51 (dk_at dksX18_lay_5 9 rfl rfl)
theorem dX18_lay_131 : decode cX18_lay 131 = .ok (.imul, 1) := dk_104 (dk_at dksX18_lay_5 12 rfl rfl)
theorem dX18_lay_132 : decode cX18_lay 132 = .ok (.aload_n 0, 1) := dk_42 (dk_at dksX18_lay_5 13 rfl rfl)
theorem dX18_lay_133 : decode cX18_lay 133 = .ok (.getfield 25, 3) := dk_180 0 25 (dk_at dksX18_lay_5 14 rfl rfl)
theorem dX18_lay_136 : decode cX18_lay 136 = .ok (.iload 8, 2) := dk_21 8 (dk_at dksX18_lay_5 17 rfl rfl)
theorem dX18_lay_138 : decode cX18_lay 138 = .ok (.iload 6, 2) := dk_21 6 (dk_at dksX18_lay_5 19 rfl rfl)
theorem dX18_lay_140 : decode cX18_lay 140 = .ok (.iload_n 3, 1) := dk_29 (dk_at dksX18_lay_5 21 rfl rfl)
theorem dX18_lay_141 : decode cX18_lay 141 = .ok (.aload_n 2, 1) := dk_44 (dk_at dksX18_lay_5 22 rfl rfl)
theorem dX18_lay_142 : decode cX18_lay 142 = .ok (.invokevirtual 58, 3) := dk_182 0 58 (dk_at dksX18_lay_6 0 rfl rfl)
theorem dX18_lay_145 : decode cX18_lay 145 = .ok (.iadd, 1) := dk_96 (dk_at dksX18_lay_6 3 rfl rfl)
theorem dX18_lay_146 : decode cX18_lay 146 = .ok (.istore 7, 2) := dk_54 7 (dk_at dksX18_lay_6 4 rfl rfl)
theorem dX18_lay_148 : decode cX18_lay 148 = .ok (.iinc 8 1, 3) := dk_132 8 1 (dk_at dksX18_lay_6 6 rfl rfl)
theorem dX18_lay_151 : decode cX18_lay 151 = .ok (.goto (-45), 3) := dk_167 255 211 (dk_at dksX18_lay_6 9 rfl rfl)
theorem dX18_lay_154 : decode cX18_lay 154 = .ok (.iconst 0, 1) := dk_3 (dk_at dksX18_lay_6 12 rfl rfl)
theorem dX18_lay_155 : decode cX18_lay 155 = .ok (.istore 8, 2) := dk_54 8 (dk_at dksX18_lay_6 13 rfl rfl)
theorem dX18_lay_157 : decode cX18_lay 157 = .ok (.iconst 0, 1) := dk_3 (dk_at dksX18_lay_6 15 rfl rfl)
theorem dX18_lay_158 : decode cX18_lay 158 = .ok (.istore 9, 2) := dk_54 9 (dk_at dksX18_lay_6 16 rfl rfl)
theorem dX18_lay_160 : decode cX18_lay 160 = .ok (.iload 9, 2) := dk_21 9 (dk_at dksX18_lay_6 18 rfl rfl)
theorem dX18_lay_162 : decode cX18_lay 162 = .ok (.aload_n 2, 1) := dk_44 (dk_at dksX18_lay_6 20 rfl rfl)
theorem dX18_lay_163 : decode cX18_lay 163 = .ok (.getfield 33, 3) := dk_180 0 33 (dk_at dksX18_lay_6 21 rfl rfl)
theorem dX18_lay_166 : decode cX18_lay 166 = .ok (.if_icmp .ge 38, 3) := dk_162 0 38 (dk_at dksX18_lay_7 0 rfl rfl)
theorem dX18_lay_169 : decode cX18_lay 169 = .ok (.iload 6, 2) := dk_21 6 (dk_at dksX18_lay_7 3 rfl rfl)
theorem dX18_lay_171 : decode cX18_lay 171 = .ok (.aload_n 1, 1) := dk_43 (dk_at dksX18_lay_7 5 rfl rfl)
theorem dX18_lay_172 : decode cX18_lay 172 = .ok (.iload 9, 2) := dk_21 9 (dk_at dksX18_lay_7 6 rfl rfl)
theorem dX18_lay_174 : decode cX18_lay 174 = .ok (.iaload, 1) := dk_46 (dk_at dksX18_lay_7 8 rfl rfl)
theorem dX18_lay_175 : decode cX18_lay 175 = .ok (.invokestatic 54, 3) := dk_184 0 54 (dk_at dksX18_lay_7 9 rfl rfl)
theorem dX18_lay_178 : decode cX18_lay 178 = .ok (.ifCond .ne 6, 3) := dk_154 0 6 (dk_at dksX18_lay_7 12 rfl rfl)
theorem dX18_lay_181 : decode cX18_lay 181 = .ok (.goto 17, 3) := dk_167 0 17 (dk_at dksX18_lay_7 15 rfl rfl)
theorem dX18_lay_184 : decode cX18_lay 184 = .ok (.aload_n 0, 1) := dk_42 (dk_at dksX18_lay_7 18 rfl rfl)
theorem dX18_lay_185 : decode cX18_lay 185 = .ok (.getfield 15, 3) := dk_180 0 15 (dk_at dksX18_lay_7 19 rfl rfl)
theorem dX18_lay_188 : decode cX18_lay 188 = .ok (.iload 8, 2) := dk_21 8 (dk_at dksX18_lay_7 22 rfl rfl)
theorem dX18_lay_190 : decode cX18_lay 190 = .ok (.aload_n 1, 1) := dk_43 (dk_at dksX18_lay_8 0 rfl rfl)
theorem dX18_lay_191 : decode cX18_lay 191 = .ok (.iload 9, 2) := dk_21 9 (dk_at dksX18_lay_8 1 rfl rfl)
theorem dX18_lay_193 : decode cX18_lay 193 = .ok (.iaload, 1) := dk_46 (dk_at dksX18_lay_8 3 rfl rfl)
theorem dX18_lay_194 : decode cX18_lay 194 = .ok (.iastore, 1) := dk_79 (dk_at dksX18_lay_8 4 rfl rfl)
theorem dX18_lay_195 : decode cX18_lay 195 = .ok (.iinc 8 1, 3) := dk_132 8 1 (dk_at dksX18_lay_8 5 rfl rfl)
theorem dX18_lay_198 : decode cX18_lay 198 = .ok (.iinc 9 1, 3) := dk_132 9 1 (dk_at dksX18_lay_8 8 rfl rfl)
theorem dX18_lay_201 : decode cX18_lay 201 = .ok (.goto (-41), 3) := dk_167 255 215 (dk_at dksX18_lay_8 11 rfl rfl)
theorem dX18_lay_204 : decode cX18_lay 204 = .ok (.aload_n 2, 1) := dk_44 (dk_at dksX18_lay_8 14 rfl rfl)
theorem dX18_lay_205 : decode cX18_lay 205 = .ok (.getfield 64, 3) := dk_180 0 64 (dk_at dksX18_lay_8 15 rfl rfl)
theorem dX18_lay_208 : decode cX18_lay 208 = .ok (.ifCond .ne 10, 3) := dk_154 0 10 (dk_at dksX18_lay_8 18 rfl rfl)
theorem dX18_lay_211 : decode cX18_lay 211 = .ok (.aload_n 2, 1) := dk_44 (dk_at dksX18_lay_8 21 rfl rfl)
theorem dX18_lay_212 : decode cX18_lay 212 = .ok (.getfield 68, 3) := dk_180 0 68 (dk_at dksX18_lay_9 0 rfl rfl)
theorem dX18_lay_215 : decode cX18_lay 215 = .ok (.ifCond .eq 27, 3) := dk_153 0 27 (dk_at dksX18_lay_9 3 rfl rfl)
theorem dX18_lay_218 : decode cX18_lay 218 = .ok (.aload_n 2, 1) := dk_44 (dk_at dksX18_lay_9 6 rfl rfl)
theorem dX18_lay_219 : decode cX18_lay 219 = .ok (.aload_n 0, 1) := dk_42 (dk_at dksX18_lay_9 7 rfl rfl)
theorem dX18_lay_220 : decode cX18_lay 220 = .ok (.getfield 15, 3) := dk_180 0 15 (dk_at dksX18_lay_9 8 rfl rfl)
theorem dX18_lay_223 : decode cX18_lay 223 = .ok (.iload 8, 2) := dk_21 8 (dk_at dksX18_lay_9 11 rfl rfl)
theorem dX18_lay_225 : decode cX18_lay 225 = .ok (.invokevirtual 71, 3) := dk_182 0 71 (dk_at dksX18_lay_9 13 rfl rfl)
theorem dX18_lay_228 : decode cX18_lay 228 = .ok (.aload_n 2, 1) := dk_44 (dk_at dksX18_lay_9 16 rfl rfl)
theorem dX18_lay_229 : decode cX18_lay 229 = .ok (.invokevirtual 75, 3) := dk_182 0 75 (dk_at dksX18_lay_9 17 rfl rfl)
theorem dX18_lay_232 : decode cX18_lay 232 = .ok (.imul, 1) := dk_104 (dk_at dksX18_lay_9 20 rfl rfl)
theorem dX18_lay_233 : decode cX18_lay 233 = .ok (.iload 7, 2) := dk_21 7 (dk_at dksX18_lay_9 21 rfl rfl)
theorem dX18_lay_235 : decode cX18_lay 235 = .ok (.aload_n 2, 1) := dk_44 (dk_at dksX18_lay_9 23 rfl rfl)
theorem dX18_lay_236 : decode cX18_lay 236 = .ok (.invokevirtual 75, 3) := dk_182 0 75 (dk_at dksX18_lay_10 0 rfl rfl)
theorem dX18_lay_239 : decode cX18_lay 239 = .ok (.irem, 1) := dk_112 (dk_at dksX18_lay_10 3 rfl rfl)
theorem dX18_lay_240 : decode cX18_lay 240 = .ok (.iadd, 1) := dk_96 (dk_at dksX18_lay_10 4 rfl rfl)
theorem dX18_lay_241 : decode cX18_lay 241 = .ok (.ireturn, 1) := dk_172 (dk_at dksX18_lay_10 5 rfl rfl)
theorem dX18_lay_242 : decode cX18_lay 242 = .ok (.iload 8, 2) := dk_21 8 (dk_at dksX18_lay_10 6 rfl rfl)
theorem dX18_lay_244 : decode cX18_lay 244 = .ok (.invokestatic 79, 3) := dk_184 0 79 (dk_at dksX18_lay_10 8 rfl rfl)
theorem dX18_lay_247 : decode cX18_lay 247 = .ok (.istore 9, 2) := dk_54 9 (dk_at dksX18_lay_10 11 rfl rfl)
theorem dX18_lay_249 : decode cX18_lay 249 = .ok (.aload_n 0, 1) := dk_42 (dk_at dksX18_lay_10 13 rfl rfl)
theorem dX18_lay_250 : decode cX18_lay 250 = .ok (.getfield 15, 3) := dk_180 0 15 (dk_at dksX18_lay_10 14 rfl rfl)
theorem dX18_lay_253 : decode cX18_lay 253 = .ok (.iconst 0, 1) := dk_3 (dk_at dksX18_lay_10 17 rfl rfl)
theorem dX18_lay_254 : decode cX18_lay 254 = .ok (.iload 8, 2) := dk_21 8 (dk_at dksX18_lay_10 18 rfl rfl)
theorem dX18_lay_256 : decode cX18_lay 256 = .ok (.iload 7, 2) := dk_21 7 (dk_at dksX18_lay_10 20 rfl rfl)
theorem dX18_lay_258 : decode cX18_lay 258 = .ok (.iload 9, 2) := dk_21 9 (dk_at dksX18_lay_10 22 rfl rfl)
theorem dX18_lay_260 : decode cX18_lay 260 = .ok (.irem, 1) := dk_112 (dk_at dksX18_lay_11 0 rfl rfl)
theorem dX18_lay_261 : decode cX18_lay 261 = .ok (.aload_n 0, 1) := dk_42 (dk_at dksX18_lay_11 1 rfl rfl)
theorem dX18_lay_262 : decode cX18_lay 262 = .ok (.getfield 18, 3) := dk_180 0 18 (dk_at dksX18_lay_11 2 rfl rfl)
theorem dX18_lay_265 : decode cX18_lay 265 = .ok (.invokestatic 83, 3) := dk_184 0 83 (dk_at dksX18_lay_11 5 rfl rfl)
theorem dX18_lay_268 : decode cX18_lay 268 = .ok (.aload_n 2, 1) := dk_44 (dk_at dksX18_lay_11 8 rfl rfl)
theorem dX18_lay_269 : decode cX18_lay 269 = .ok (.aload_n 0, 1) := dk_42 (dk_at dksX18_lay_11 9 rfl rfl)
theorem dX18_lay_270 : decode cX18_lay 270 = .ok (.getfield 18, 3) := dk_180 0 18 (dk_at dksX18_lay_11 10 rfl rfl)
theorem dX18_lay_273 : decode cX18_lay 273 = .ok (.iload 8, 2) := dk_21 8 (dk_at dksX18_lay_11 13 rfl rfl)
theorem dX18_lay_275 : decode cX18_lay 275 = .ok (.invokevirtual 71, 3) := dk_182 0 71 (dk_at dksX18_lay_11 15 rfl rfl)
theorem dX18_lay_278 : decode cX18_lay 278 = .ok (.aload_n 2, 1) := dk_44 (dk_at dksX18_lay_11 18 rfl rfl)
theorem dX18_lay_279 : decode cX18_lay 279 = .ok (.invokevirtual 75, 3) := dk_182 0 75 (dk_at dksX18_lay_11 19 rfl rfl)
theorem dX18_lay_282 : decode cX18_lay 282 = .ok (.imul, 1) := dk_104 (dk_at dksX18_lay_11 22 rfl rfl)
theorem dX18_lay_283 : decode cX18_lay 283 = .ok (.iload 7, 2) := dk_21 7 (dk_at dksX18_lay_12 0 rfl rfl)
theorem dX18_lay_285 : decode cX18_lay 285 = .ok (.iload 9, 2) := dk_21 9 (dk_at dksX18_lay_12 2 rfl rfl)
theorem dX18_lay_287 : decode cX18_lay 287 = .ok (.idiv, 1) := dk_108 (dk_at dksX18_lay_12 4 rfl rfl)
theorem dX18_lay_288 : decode cX18_lay 288 = .ok (.aload_n 2, 1) := dk_44 (dk_at dksX18_lay_12 5 rfl rfl)
theorem dX18_lay_289 : decode cX18_lay 289 = .ok (.invokevirtual 75, 3) := dk_182 0 75 (dk_at dksX18_lay_12 6 rfl rfl)
theorem dX18_lay_292 : decode cX18_lay 292 = .ok (.irem, 1) := dk_112 (dk_at dksX18_lay_12 9 rfl rfl)
theorem dX18_lay_293 : decode cX18_lay 293 = .ok (.iadd, 1) := dk_96 (dk_at dksX18_lay_12 10 rfl rfl)
theorem dX18_lay_294 : decode cX18_lay 294 = .ok (.ireturn, 1) := dk_172 (dk_at dksX18_lay_12 11 rfl rfl)
abbrev cX18_words : ByteArray := prog_17_method_2_code
def yX18_words : MethodName := ⟨RX18, "words", "()I"⟩
theorem dX18_words_0 : decode cX18_words 0 = .ok (.aload_n 0, 1) := by decide +kernel
theorem dX18_words_1 : decode cX18_words 1 = .ok (.getfield 29, 3) := by decide +kernel
theorem dX18_words_4 : decode cX18_words 4 = .ok (.ireturn, 1) := by decide +kernel
theorem q142 : (Jvm.Cond.initialized "FifthCard$Spoken") ∈ lw_all := lw_g (lw_at lw_m1 21 rfl) rfl
theorem q432 : (Jvm.Cond.instantiable "FifthCard$Spoken" (10 : Nat)) ∈ lw_all := lw_g (lw_at lw_m2 71 rfl) rfl
theorem q434 : (Jvm.Cond.instanceMethod ({ cls := "FifthCard$Spoken", name := "<init>", desc := "(Ljava/lang/String;ILFifthCard$Keep;LFifthCard$Tell;I)V" } : Jvm.MethodName)) ∈ lw_all := lw_g (lw_at lw_m2 73 rfl) rfl
theorem q435 : (Jvm.Cond.code ({ cls := "FifthCard$Spoken", name := "<init>", desc := "(Ljava/lang/String;ILFifthCard$Keep;LFifthCard$Tell;I)V" } : Jvm.MethodName) prog_17_method_1_code (6 : Nat) (Option.none : Option Jvm.ClassFile.FieldType)) ∈ lw_all := lw_g (lw_at lw_m2 74 rfl) rfl
theorem q436 : (Jvm.Cond.methodLink "FifthCard$Spoken" (3 : Nat) ({ cls := "FifthCard$Rule", name := "<init>", desc := "(Ljava/lang/String;I)V" } : Jvm.MethodName)) ∈ lw_all := lw_g (lw_at lw_m2 75 rfl) rfl
theorem q440 : (Jvm.Cond.fieldLink "FifthCard$Spoken" (21 : Nat) "FifthCard$Spoken" "keep" "LFifthCard$Keep;") ∈ lw_all := lw_g (lw_at lw_m2 79 rfl) rfl
theorem q441 : (Jvm.Cond.fieldLink "FifthCard$Spoken" (25 : Nat) "FifthCard$Spoken" "tell" "LFifthCard$Tell;") ∈ lw_all := lw_g (lw_at lw_m2 80 rfl) rfl
theorem q442 : (Jvm.Cond.fieldLink "FifthCard$Spoken" (29 : Nat) "FifthCard$Spoken" "words" "I") ∈ lw_all := lw_g (lw_at lw_m2 81 rfl) rfl
theorem q443 : (Jvm.Cond.fieldLink "FifthCard$Spoken" (9 : Nat) "FifthCard$Spoken" "rising" "[I") ∈ lw_all := lw_g (lw_at lw_m2 82 rfl) rfl
theorem q444 : (Jvm.Cond.fieldLink "FifthCard$Spoken" (15 : Nat) "FifthCard$Spoken" "rest" "[I") ∈ lw_all := lw_g (lw_at lw_m2 83 rfl) rfl
theorem q445 : (Jvm.Cond.fieldLink "FifthCard$Spoken" (18 : Nat) "FifthCard$Spoken" "order" "[I") ∈ lw_all := lw_g (lw_at lw_m2 84 rfl) rfl
theorem q452 : (Jvm.Cond.laysFinal "FifthCard$Spoken" "FifthCard$Spoken" "keep" "LFifthCard$Keep;") ∈ lw_all := lw_g (lw_at lw_m2 91 rfl) rfl
theorem q453 : (Jvm.Cond.soleField "FifthCard$Spoken" "keep") ∈ lw_all := lw_g (lw_at lw_m2 92 rfl) rfl
theorem q454 : (Jvm.Cond.laysFinal "FifthCard$Spoken" "FifthCard$Spoken" "tell" "LFifthCard$Tell;") ∈ lw_all := lw_g (lw_at lw_m2 93 rfl) rfl
theorem q455 : (Jvm.Cond.soleField "FifthCard$Spoken" "tell") ∈ lw_all := lw_g (lw_at lw_m2 94 rfl) rfl
theorem q456 : (Jvm.Cond.laysFinal "FifthCard$Spoken" "FifthCard$Spoken" "words" "I") ∈ lw_all := lw_g (lw_at lw_m2 95 rfl) rfl
theorem q457 : (Jvm.Cond.soleField "FifthCard$Spoken" "words") ∈ lw_all := lw_g (lw_at lw_m2 96 rfl) rfl
theorem q458 : (Jvm.Cond.laysFinal "FifthCard$Spoken" "FifthCard$Spoken" "rising" "[I") ∈ lw_all := lw_g (lw_at lw_m2 97 rfl) rfl
theorem q459 : (Jvm.Cond.soleField "FifthCard$Spoken" "rising") ∈ lw_all := lw_g (lw_at lw_m2 98 rfl) rfl
theorem q460 : (Jvm.Cond.laysFinal "FifthCard$Spoken" "FifthCard$Spoken" "rest" "[I") ∈ lw_all := lw_g (lw_at lw_m2 99 rfl) rfl
theorem q461 : (Jvm.Cond.soleField "FifthCard$Spoken" "rest") ∈ lw_all := lw_g (lw_at lw_m2 100 rfl) rfl
theorem q462 : (Jvm.Cond.laysFinal "FifthCard$Spoken" "FifthCard$Spoken" "order" "[I") ∈ lw_all := lw_g (lw_at lw_m2 101 rfl) rfl
theorem q463 : (Jvm.Cond.soleField "FifthCard$Spoken" "order") ∈ lw_all := lw_g (lw_at lw_m2 102 rfl) rfl
theorem q464 : (Jvm.Cond.laysFinal "FifthCard$Spoken" "FifthCard$Rule" "name" "Ljava/lang/String;") ∈ lw_all := lw_g (lw_at lw_m2 103 rfl) rfl
theorem q466 : (Jvm.Cond.laysFinal "FifthCard$Spoken" "FifthCard$Rule" "number" "I") ∈ lw_all := lw_g (lw_at lw_m2 105 rfl) rfl
theorem q468 : (Jvm.Cond.laysFinal "FifthCard$Spoken" "FifthCard$Rule" "rows" "[I") ∈ lw_all := lw_g (lw_at lw_m2 107 rfl) rfl
theorem q470 : (Jvm.Cond.lays "FifthCard$Spoken" "FifthCard$Rule" "isLaid" "Z") ∈ lw_all := lw_g (lw_at lw_m2 109 rfl) rfl
theorem q472 : (Jvm.Cond.superclass "FifthCard$Spoken" "FifthCard$Rule") ∈ lw_all := lw_g (lw_at lw_m2 111 rfl) rfl
theorem q570 : (Jvm.Cond.fieldLink "FifthCard$Spoken" (51 : Nat) "FifthCard$Trick" "cards" "I") ∈ lw_all := lw_g (lw_at lw_m2 209 rfl) rfl
theorem q582 : (Jvm.Cond.fieldLink "FifthCard$Spoken" (33 : Nat) "FifthCard$Trick" "hand" "I") ∈ lw_all := lw_g (lw_at lw_m2 221 rfl) rfl
theorem q589 : (Jvm.Cond.fieldLink "FifthCard$Spoken" (48 : Nat) "FifthCard$Trick" "kept" "I") ∈ lw_all := lw_g (lw_at lw_m2 228 rfl) rfl
theorem q599 : (Jvm.Cond.fieldLink "FifthCard$Spoken" (64 : Nat) "FifthCard$Trick" "stranger" "Z") ∈ lw_all := lw_g (lw_at lw_m2 238 rfl) rfl
theorem q605 : (Jvm.Cond.fieldLink "FifthCard$Spoken" (68 : Nat) "FifthCard$Trick" "held" "Z") ∈ lw_all := lw_g (lw_at lw_m3 4 rfl) rfl
theorem q1119 : (Jvm.Cond.selects "FifthCard$Spoken" ({ cls := "FifthCard$Rule", name := "lay", desc := "([ILFifthCard$Trick;)I" } : Jvm.MethodName) ({ cls := "FifthCard$Spoken", name := "lay", desc := "([ILFifthCard$Trick;)I" } : Jvm.MethodName)) ∈ lw_all := lw_g (lw_at lw_m5 38 rfl) rfl
theorem q1120 : (Jvm.Cond.instanceMethod ({ cls := "FifthCard$Spoken", name := "lay", desc := "([ILFifthCard$Trick;)I" } : Jvm.MethodName)) ∈ lw_all := lw_g (lw_at lw_m5 39 rfl) rfl
theorem q1121 : (Jvm.Cond.code ({ cls := "FifthCard$Spoken", name := "lay", desc := "([ILFifthCard$Trick;)I" } : Jvm.MethodName) prog_17_method_3_code (10 : Nat) (Option.some Jvm.ClassFile.FieldType.int)) ∈ lw_all := lw_g (lw_at lw_m5 40 rfl) rfl
theorem q1122 : (Jvm.Cond.methodLinkNest "FifthCard$Spoken" (38 : Nat) ({ cls := "FifthCard", name := "spread", desc := "(I[I)I" } : Jvm.MethodName) "FifthCard") ∈ lw_tbl := lw_at lw_m5 41 rfl
theorem q1126 : (Jvm.Cond.methodLink "FifthCard$Spoken" (42 : Nat) ({ cls := "FifthCard$Keep", name := "index", desc := "([ILFifthCard$Trick;)I" } : Jvm.MethodName)) ∈ lw_all := lw_g (lw_at lw_m5 45 rfl) rfl
theorem q1141 : (Jvm.Cond.methodLinkNest "FifthCard$Spoken" (54 : Nat) ({ cls := "FifthCard", name := "has", desc := "(II)Z" } : Jvm.MethodName) "FifthCard") ∈ lw_tbl := lw_at lw_m5 60 rfl
theorem q1142 : (Jvm.Cond.methodLink "FifthCard$Spoken" (58 : Nat) ({ cls := "FifthCard$Tell", name := "of", desc := "(IIILFifthCard$Trick;)I" } : Jvm.MethodName)) ∈ lw_all := lw_g (lw_at lw_m5 61 rfl) rfl
theorem q1167 : (Jvm.Cond.methodLink "FifthCard$Spoken" (71 : Nat) ({ cls := "FifthCard$Trick", name := "rank", desc := "([II)I" } : Jvm.MethodName)) ∈ lw_all := lw_g (lw_at lw_m5 86 rfl) rfl
theorem q1168 : (Jvm.Cond.methodLink "FifthCard$Spoken" (75 : Nat) ({ cls := "FifthCard$Trick", name := "tiltings", desc := "()I" } : Jvm.MethodName)) ∈ lw_all := lw_g (lw_at lw_m5 87 rfl) rfl
theorem q1169 : (Jvm.Cond.methodLinkNest "FifthCard$Spoken" (79 : Nat) ({ cls := "FifthCard", name := "factorial", desc := "(I)I" } : Jvm.MethodName) "FifthCard") ∈ lw_tbl := lw_at lw_m5 88 rfl
theorem q1170 : (Jvm.Cond.methodLinkNest "FifthCard$Spoken" (83 : Nat) ({ cls := "FifthCard", name := "arrange", desc := "([IIII[I)V" } : Jvm.MethodName) "FifthCard") ∈ lw_tbl := lw_at lw_m5 89 rfl
theorem q1402 : (Jvm.Cond.selects "FifthCard$Spoken" ({ cls := "FifthCard$Rule", name := "words", desc := "()I" } : Jvm.MethodName) ({ cls := "FifthCard$Spoken", name := "words", desc := "()I" } : Jvm.MethodName)) ∈ lw_all := lw_g (lw_at lw_m6 81 rfl) rfl
theorem q1403 : (Jvm.Cond.instanceMethod ({ cls := "FifthCard$Spoken", name := "words", desc := "()I" } : Jvm.MethodName)) ∈ lw_all := lw_g (lw_at lw_m6 82 rfl) rfl
theorem q1404 : (Jvm.Cond.code ({ cls := "FifthCard$Spoken", name := "words", desc := "()I" } : Jvm.MethodName) prog_17_method_2_code (1 : Nat) (Option.some Jvm.ClassFile.FieldType.int)) ∈ lw_all := lw_g (lw_at lw_m6 83 rfl) rfl
theorem q2239 : (Jvm.Cond.castable "FifthCard$Spoken" "java/lang/Object") ∈ lw_tbl := lw_at lw_m9 198 rfl
theorem q2249 : (Jvm.Cond.castable "FifthCard$Spoken" "FifthCard$Rule") ∈ lw_tbl := lw_at lw_m9 208 rfl
theorem in_X18 : ∀ w ∈ wsX180, w ∈ lw_all := lw_in wsX180 [464, 466, 468, 470, 452, 454, 456, 458, 460, 462] (by decide +kernel) (by decide +kernel)
/-! FifthCard$Trick -/
set_option maxRecDepth 100000
def RX20 : String := "FifthCard$Trick"
def TX20 : u_T := fun k => match k with
  | 0 => ("FifthCard$Trick", "rules", "[LFifthCard$Rule;", true)
  | 1 => ("FifthCard$Trick", "evenings", "[I", true)
  | 2 => ("FifthCard$Trick", "shown", "[I", true)
  | 3 => ("FifthCard$Trick", "cards", "I", false)
  | 4 => ("FifthCard$Trick", "suits", "I", false)
  | 5 => ("FifthCard$Trick", "hand", "I", false)
  | 6 => ("FifthCard$Trick", "kept", "I", false)
  | 7 => ("FifthCard$Trick", "ruleMany", "I", false)
  | 8 => ("FifthCard$Trick", "eveningMany", "I", false)
  | 9 => ("FifthCard$Trick", "stranger", "Z", false)
  | 10 => ("FifthCard$Trick", "held", "Z", false)
  | 11 => ("FifthCard$Trick", "tilts", "Z", false)
  | _ => ("FifthCard$Trick", "digits", "[I", true)
def tyX20 : Nat → FieldType := fun k => match k with
  | 0 => .array (.object "FifthCard$Rule")
  | 1 => .array .int
  | 2 => .array .int
  | 3 => .int
  | 4 => .int
  | 5 => .int
  | 6 => .int
  | 7 => .int
  | 8 => .int
  | 9 => .boolean
  | 10 => .boolean
  | 11 => .boolean
  | _ => .array .int
abbrev wsX200 : List Cond := u_ws RX20 TX20 13
set_option maxRecDepth 100000 in
theorem nmX20 : ∀ a, a < 13 → ∀ b, b < 13 → a ≠ b → (TX20 a).2.1 ≠ (TX20 b).2.1 := by decide +kernel
set_option maxRecDepth 100000 in
theorem tyX20_ok : ∀ k, k < 13 → parseFieldDescriptor (TX20 k).2.2.1 = some (tyX20 k) := by decide +kernel
abbrev cX20_init : ByteArray := prog_21_method_1_code
def yX20_init : MethodName := ⟨RX20, "<init>", "()V"⟩
def dkwX20_init_1 : List UInt8 := [188, 10, 181, 0, 21, 42, 8, 188, 10, 181, 0, 24, 177]
abbrev dktX20_init_1 : List UInt8 := dkwX20_init_1 ++ []
def dkwX20_init_0 : List UInt8 := [42, 183, 0, 3, 42, 7, 189, 0, 9, 181, 0, 11, 42, 16, 9, 188, 10, 181, 0, 17, 42, 16, 9]
abbrev dktX20_init_0 : List UInt8 := dkwX20_init_0 ++ dktX20_init_1
theorem dksX20_init_0 : cX20_init.data.toList.drop 0 = dktX20_init_0 := by decide +kernel
theorem dksX20_init_1 : cX20_init.data.toList.drop 23 = dktX20_init_1 := dk_seg dksX20_init_0 23 rfl rfl
theorem dX20_init_0 : decode cX20_init 0 = .ok (.aload_n 0, 1) := dk_42 (dk_at dksX20_init_0 0 rfl rfl)
theorem dX20_init_1 : decode cX20_init 1 = .ok (.invokespecial 3, 3) := dk_183 0 3 (dk_at dksX20_init_0 1 rfl rfl)
theorem dX20_init_4 : decode cX20_init 4 = .ok (.aload_n 0, 1) := dk_42 (dk_at dksX20_init_0 4 rfl rfl)
theorem dX20_init_5 : decode cX20_init 5 = .ok (.iconst 4, 1) := dk_7 (dk_at dksX20_init_0 5 rfl rfl)
theorem dX20_init_6 : decode cX20_init 6 = .ok (.anewarray 9, 3) := dk_189 0 9 (dk_at dksX20_init_0 6 rfl rfl)
theorem dX20_init_9 : decode cX20_init 9 = .ok (.putfield 11, 3) := dk_181 0 11 (dk_at dksX20_init_0 9 rfl rfl)
theorem dX20_init_12 : decode cX20_init 12 = .ok (.aload_n 0, 1) := dk_42 (dk_at dksX20_init_0 12 rfl rfl)
theorem dX20_init_13 : decode cX20_init 13 = .ok (.bipush 9, 2) := dk_16 9 (dk_at dksX20_init_0 13 rfl rfl)
theorem dX20_init_15 : decode cX20_init 15 = .ok (.newarray .int, 2) := dk_188_10 (dk_at dksX20_init_0 15 rfl rfl)
theorem dX20_init_17 : decode cX20_init 17 = .ok (.putfield 17, 3) := dk_181 0 17 (dk_at dksX20_init_0 17 rfl rfl)
theorem dX20_init_20 : decode cX20_init 20 = .ok (.aload_n 0, 1) := dk_42 (dk_at dksX20_init_0 20 rfl rfl)
theorem dX20_init_21 : decode cX20_init 21 = .ok (.bipush 9, 2) := dk_16 9 (dk_at dksX20_init_0 21 rfl rfl)
theorem dX20_init_23 : decode cX20_init 23 = .ok (.newarray .int, 2) := dk_188_10 (dk_at dksX20_init_1 0 rfl rfl)
theorem dX20_init_25 : decode cX20_init 25 = .ok (.putfield 21, 3) := dk_181 0 21 (dk_at dksX20_init_1 2 rfl rfl)
theorem dX20_init_28 : decode cX20_init 28 = .ok (.aload_n 0, 1) := dk_42 (dk_at dksX20_init_1 5 rfl rfl)
theorem dX20_init_29 : decode cX20_init 29 = .ok (.iconst 5, 1) := dk_8 (dk_at dksX20_init_1 6 rfl rfl)
theorem dX20_init_30 : decode cX20_init 30 = .ok (.newarray .int, 2) := dk_188_10 (dk_at dksX20_init_1 7 rfl rfl)
theorem dX20_init_32 : decode cX20_init 32 = .ok (.putfield 24, 3) := dk_181 0 24 (dk_at dksX20_init_1 9 rfl rfl)
theorem dX20_init_35 : decode cX20_init 35 = .ok (.return_, 1) := dk_177 (dk_at dksX20_init_1 12 rfl rfl)
abbrev cX20_hands : ByteArray := prog_21_method_5_code
def yX20_hands : MethodName := ⟨RX20, "hands", "(I)J"⟩
def dkwX20_hands_1 : List UInt8 := [184, 0, 51, 42, 180, 0, 27, 184, 0, 55, 133, 109, 173]
abbrev dktX20_hands_1 : List UInt8 := dkwX20_hands_1 ++ []
def dkwX20_hands_0 : List UInt8 := [42, 180, 0, 48, 153, 0, 14, 27, 42, 180, 0, 27, 184, 0, 51, 167, 0, 20, 27, 42, 180, 0, 27]
abbrev dktX20_hands_0 : List UInt8 := dkwX20_hands_0 ++ dktX20_hands_1
theorem dksX20_hands_0 : cX20_hands.data.toList.drop 0 = dktX20_hands_0 := by decide +kernel
theorem dksX20_hands_1 : cX20_hands.data.toList.drop 23 = dktX20_hands_1 := dk_seg dksX20_hands_0 23 rfl rfl
theorem dX20_hands_0 : decode cX20_hands 0 = .ok (.aload_n 0, 1) := dk_42 (dk_at dksX20_hands_0 0 rfl rfl)
theorem dX20_hands_1 : decode cX20_hands 1 = .ok (.getfield 48, 3) := dk_180 0 48 (dk_at dksX20_hands_0 1 rfl rfl)
theorem dX20_hands_4 : decode cX20_hands 4 = .ok (.ifCond .eq 14, 3) := dk_153 0 14 (dk_at dksX20_hands_0 4 rfl rfl)
theorem dX20_hands_7 : decode cX20_hands 7 = .ok (.iload_n 1, 1) := dk_27 (dk_at dksX20_hands_0 7 rfl rfl)
theorem dX20_hands_8 : decode cX20_hands 8 = .ok (.aload_n 0, 1) := dk_42 (dk_at dksX20_hands_0 8 rfl rfl)
theorem dX20_hands_9 : decode cX20_hands 9 = .ok (.getfield 27, 3) := dk_180 0 27 (dk_at dksX20_hands_0 9 rfl rfl)
theorem dX20_hands_12 : decode cX20_hands 12 = .ok (.invokestatic 51, 3) := dk_184 0 51 (dk_at dksX20_hands_0 12 rfl rfl)
theorem dX20_hands_15 : decode cX20_hands 15 = .ok (.goto 20, 3) := dk_167 0 20 (dk_at dksX20_hands_0 15 rfl rfl)
theorem dX20_hands_18 : decode cX20_hands 18 = .ok (.iload_n 1, 1) := dk_27 (dk_at dksX20_hands_0 18 rfl rfl)
theorem dX20_hands_19 : decode cX20_hands 19 = .ok (.aload_n 0, 1) := dk_42 (dk_at dksX20_hands_0 19 rfl rfl)
theorem dX20_hands_20 : decode cX20_hands 20 = .ok (.getfield 27, 3) := dk_180 0 27 (dk_at dksX20_hands_0 20 rfl rfl)
theorem dX20_hands_23 : decode cX20_hands 23 = .ok (.invokestatic 51, 3) := dk_184 0 51 (dk_at dksX20_hands_1 0 rfl rfl)
theorem dX20_hands_26 : decode cX20_hands 26 = .ok (.aload_n 0, 1) := dk_42 (dk_at dksX20_hands_1 3 rfl rfl)
theorem dX20_hands_27 : decode cX20_hands 27 = .ok (.getfield 27, 3) := dk_180 0 27 (dk_at dksX20_hands_1 4 rfl rfl)
theorem dX20_hands_30 : decode cX20_hands 30 = .ok (.invokestatic 55, 3) := dk_184 0 55 (dk_at dksX20_hands_1 7 rfl rfl)
theorem dX20_hands_33 : decode cX20_hands 33 = .ok (.i2l, 1) := dk_133 (dk_at dksX20_hands_1 10 rfl rfl)
theorem dX20_hands_34 : decode cX20_hands 34 = .ok (.ldiv, 1) := dk_109 (dk_at dksX20_hands_1 11 rfl rfl)
theorem dX20_hands_35 : decode cX20_hands 35 = .ok (.lreturn, 1) := dk_173 (dk_at dksX20_hands_1 12 rfl rfl)
abbrev cX20_isTold : ByteArray := prog_21_method_7_code
def yX20_isTold : MethodName := ⟨RX20, "isTold", "(Ljava/lang/String;)Z"⟩
def dkwX20_isTold_1 : List UInt8 := [180, 0, 68, 43, 182, 0, 72, 153, 0, 7, 4, 167, 0, 4, 3, 61, 132, 3, 1, 167, 255, 219, 28, 172]
abbrev dktX20_isTold_1 : List UInt8 := dkwX20_isTold_1 ++ []
def dkwX20_isTold_0 : List UInt8 := [3, 61, 3, 62, 29, 42, 180, 0, 65, 162, 0, 35, 28, 154, 0, 19, 42, 180, 0, 11, 29, 50]
abbrev dktX20_isTold_0 : List UInt8 := dkwX20_isTold_0 ++ dktX20_isTold_1
theorem dksX20_isTold_0 : cX20_isTold.data.toList.drop 0 = dktX20_isTold_0 := by decide +kernel
theorem dksX20_isTold_1 : cX20_isTold.data.toList.drop 22 = dktX20_isTold_1 := dk_seg dksX20_isTold_0 22 rfl rfl
theorem dX20_isTold_0 : decode cX20_isTold 0 = .ok (.iconst 0, 1) := dk_3 (dk_at dksX20_isTold_0 0 rfl rfl)
theorem dX20_isTold_1 : decode cX20_isTold 1 = .ok (.istore_n 2, 1) := dk_61 (dk_at dksX20_isTold_0 1 rfl rfl)
theorem dX20_isTold_2 : decode cX20_isTold 2 = .ok (.iconst 0, 1) := dk_3 (dk_at dksX20_isTold_0 2 rfl rfl)
theorem dX20_isTold_3 : decode cX20_isTold 3 = .ok (.istore_n 3, 1) := dk_62 (dk_at dksX20_isTold_0 3 rfl rfl)
theorem dX20_isTold_4 : decode cX20_isTold 4 = .ok (.iload_n 3, 1) := dk_29 (dk_at dksX20_isTold_0 4 rfl rfl)
theorem dX20_isTold_5 : decode cX20_isTold 5 = .ok (.aload_n 0, 1) := dk_42 (dk_at dksX20_isTold_0 5 rfl rfl)
theorem dX20_isTold_6 : decode cX20_isTold 6 = .ok (.getfield 65, 3) := dk_180 0 65 (dk_at dksX20_isTold_0 6 rfl rfl)
theorem dX20_isTold_9 : decode cX20_isTold 9 = .ok (.if_icmp .ge 35, 3) := dk_162 0 35 (dk_at dksX20_isTold_0 9 rfl rfl)
theorem dX20_isTold_12 : decode cX20_isTold 12 = .ok (.iload_n 2, 1) := dk_28 (dk_at dksX20_isTold_0 12 rfl rfl)
theorem dX20_isTold_13 : decode cX20_isTold 13 = .ok (.ifCond .ne 19, 3) := dk_154 0 19 (dk_at dksX20_isTold_0 13 rfl rfl)
theorem dX20_isTold_16 : decode cX20_isTold 16 = .ok (.aload_n 0, 1) := dk_42 (dk_at dksX20_isTold_0 16 rfl rfl)
theorem dX20_isTold_17 : decode cX20_isTold 17 = .ok (.getfield 11, 3) := dk_180 0 11 (dk_at dksX20_isTold_0 17 rfl rfl)
theorem dX20_isTold_20 : decode cX20_isTold 20 = .ok (.iload_n 3, 1) := dk_29 (dk_at dksX20_isTold_0 20 rfl rfl)
theorem dX20_isTold_21 : decode cX20_isTold 21 = .ok (.aaload, 1) := dk_50 (dk_at dksX20_isTold_0 21 rfl rfl)
theorem dX20_isTold_22 : decode cX20_isTold 22 = .ok (.getfield 68, 3) := dk_180 0 68 (dk_at dksX20_isTold_1 0 rfl rfl)
theorem dX20_isTold_25 : decode cX20_isTold 25 = .ok (.aload_n 1, 1) := dk_43 (dk_at dksX20_isTold_1 3 rfl rfl)
theorem dX20_isTold_26 : decode cX20_isTold 26 = .ok (.invokevirtual 72, 3) := dk_182 0 72 (dk_at dksX20_isTold_1 4 rfl rfl)
theorem dX20_isTold_29 : decode cX20_isTold 29 = .ok (.ifCond .eq 7, 3) := dk_153 0 7 (dk_at dksX20_isTold_1 7 rfl rfl)
theorem dX20_isTold_32 : decode cX20_isTold 32 = .ok (.iconst 1, 1) := dk_4 (dk_at dksX20_isTold_1 10 rfl rfl)
theorem dX20_isTold_33 : decode cX20_isTold 33 = .ok (.goto 4, 3) := dk_167 0 4 (dk_at dksX20_isTold_1 11 rfl rfl)
theorem dX20_isTold_36 : decode cX20_isTold 36 = .ok (.iconst 0, 1) := dk_3 (dk_at dksX20_isTold_1 14 rfl rfl)
theorem dX20_isTold_37 : decode cX20_isTold 37 = .ok (.istore_n 2, 1) := dk_61 (dk_at dksX20_isTold_1 15 rfl rfl)
theorem dX20_isTold_38 : decode cX20_isTold 38 = .ok (.iinc 3 1, 3) := dk_132 3 1 (dk_at dksX20_isTold_1 16 rfl rfl)
theorem dX20_isTold_41 : decode cX20_isTold 41 = .ok (.goto (-37), 3) := dk_167 255 219 (dk_at dksX20_isTold_1 19 rfl rfl)
theorem dX20_isTold_44 : decode cX20_isTold 44 = .ok (.iload_n 2, 1) := dk_28 (dk_at dksX20_isTold_1 22 rfl rfl)
theorem dX20_isTold_45 : decode cX20_isTold 45 = .ok (.ireturn, 1) := dk_172 (dk_at dksX20_isTold_1 23 rfl rfl)
abbrev cX20_rank : ByteArray := prog_21_method_8_code
def yX20_rank : MethodName := ⟨RX20, "rank", "([II)I"⟩
def dkwX20_rank_3 : List UInt8 := [43, 21, 5, 46, 120, 128, 54, 4, 132, 5, 1, 167, 255, 182, 29, 172]
abbrev dktX20_rank_3 : List UInt8 := dkwX20_rank_3 ++ []
def dkwX20_rank_2 : List UInt8 := [54, 6, 132, 7, 1, 167, 255, 224, 29, 42, 180, 0, 34, 21, 5, 100, 104, 21, 6, 96, 62, 21, 4, 4]
abbrev dktX20_rank_2 : List UInt8 := dkwX20_rank_2 ++ dktX20_rank_3
def dkwX20_rank_1 : List UInt8 := [21, 5, 46, 162, 0, 29, 21, 6, 21, 4, 21, 7, 184, 0, 78, 153, 0, 7, 3, 167, 0, 4, 4, 96]
abbrev dktX20_rank_1 : List UInt8 := dkwX20_rank_1 ++ dktX20_rank_2
def dkwX20_rank_0 : List UInt8 := [3, 62, 3, 54, 4, 3, 54, 5, 21, 5, 28, 162, 0, 74, 3, 54, 6, 3, 54, 7, 21, 7, 43]
abbrev dktX20_rank_0 : List UInt8 := dkwX20_rank_0 ++ dktX20_rank_1
theorem dksX20_rank_0 : cX20_rank.data.toList.drop 0 = dktX20_rank_0 := by decide +kernel
theorem dksX20_rank_1 : cX20_rank.data.toList.drop 23 = dktX20_rank_1 := dk_seg dksX20_rank_0 23 rfl rfl
theorem dksX20_rank_2 : cX20_rank.data.toList.drop 47 = dktX20_rank_2 := dk_seg dksX20_rank_1 24 rfl rfl
theorem dksX20_rank_3 : cX20_rank.data.toList.drop 71 = dktX20_rank_3 := dk_seg dksX20_rank_2 24 rfl rfl
theorem dX20_rank_0 : decode cX20_rank 0 = .ok (.iconst 0, 1) := dk_3 (dk_at dksX20_rank_0 0 rfl rfl)
theorem dX20_rank_1 : decode cX20_rank 1 = .ok (.istore_n 3, 1) := dk_62 (dk_at dksX20_rank_0 1 rfl rfl)
theorem dX20_rank_2 : decode cX20_rank 2 = .ok (.iconst 0, 1) := dk_3 (dk_at dksX20_rank_0 2 rfl rfl)
theorem dX20_rank_3 : decode cX20_rank 3 = .ok (.istore 4, 2) := dk_54 4 (dk_at dksX20_rank_0 3 rfl rfl)
theorem dX20_rank_5 : decode cX20_rank 5 = .ok (.iconst 0, 1) := dk_3 (dk_at dksX20_rank_0 5 rfl rfl)
theorem dX20_rank_6 : decode cX20_rank 6 = .ok (.istore 5, 2) := dk_54 5 (dk_at dksX20_rank_0 6 rfl rfl)
theorem dX20_rank_8 : decode cX20_rank 8 = .ok (.iload 5, 2) := dk_21 5 (dk_at dksX20_rank_0 8 rfl rfl)
theorem dX20_rank_10 : decode cX20_rank 10 = .ok (.iload_n 2, 1) := dk_28 (dk_at dksX20_rank_0 10 rfl rfl)
theorem dX20_rank_11 : decode cX20_rank 11 = .ok (.if_icmp .ge 74, 3) := dk_162 0 74 (dk_at dksX20_rank_0 11 rfl rfl)
theorem dX20_rank_14 : decode cX20_rank 14 = .ok (.iconst 0, 1) := dk_3 (dk_at dksX20_rank_0 14 rfl rfl)
theorem dX20_rank_15 : decode cX20_rank 15 = .ok (.istore 6, 2) := dk_54 6 (dk_at dksX20_rank_0 15 rfl rfl)
theorem dX20_rank_17 : decode cX20_rank 17 = .ok (.iconst 0, 1) := dk_3 (dk_at dksX20_rank_0 17 rfl rfl)
theorem dX20_rank_18 : decode cX20_rank 18 = .ok (.istore 7, 2) := dk_54 7 (dk_at dksX20_rank_0 18 rfl rfl)
theorem dX20_rank_20 : decode cX20_rank 20 = .ok (.iload 7, 2) := dk_21 7 (dk_at dksX20_rank_0 20 rfl rfl)
theorem dX20_rank_22 : decode cX20_rank 22 = .ok (.aload_n 1, 1) := dk_43 (dk_at dksX20_rank_0 22 rfl rfl)
theorem dX20_rank_23 : decode cX20_rank 23 = .ok (.iload 5, 2) := dk_21 5 (dk_at dksX20_rank_1 0 rfl rfl)
theorem dX20_rank_25 : decode cX20_rank 25 = .ok (.iaload, 1) := dk_46 (dk_at dksX20_rank_1 2 rfl rfl)
theorem dX20_rank_26 : decode cX20_rank 26 = .ok (.if_icmp .ge 29, 3) := dk_162 0 29 (dk_at dksX20_rank_1 3 rfl rfl)
theorem dX20_rank_29 : decode cX20_rank 29 = .ok (.iload 6, 2) := dk_21 6 (dk_at dksX20_rank_1 6 rfl rfl)
theorem dX20_rank_31 : decode cX20_rank 31 = .ok (.iload 4, 2) := dk_21 4 (dk_at dksX20_rank_1 8 rfl rfl)
theorem dX20_rank_33 : decode cX20_rank 33 = .ok (.iload 7, 2) := dk_21 7 (dk_at dksX20_rank_1 10 rfl rfl)
theorem dX20_rank_35 : decode cX20_rank 35 = .ok (.invokestatic 78, 3) := dk_184 0 78 (dk_at dksX20_rank_1 12 rfl rfl)
theorem dX20_rank_38 : decode cX20_rank 38 = .ok (.ifCond .eq 7, 3) := dk_153 0 7 (dk_at dksX20_rank_1 15 rfl rfl)
theorem dX20_rank_41 : decode cX20_rank 41 = .ok (.iconst 0, 1) := dk_3 (dk_at dksX20_rank_1 18 rfl rfl)
theorem dX20_rank_42 : decode cX20_rank 42 = .ok (.goto 4, 3) := dk_167 0 4 (dk_at dksX20_rank_1 19 rfl rfl)
theorem dX20_rank_45 : decode cX20_rank 45 = .ok (.iconst 1, 1) := dk_4 (dk_at dksX20_rank_1 22 rfl rfl)
theorem dX20_rank_46 : decode cX20_rank 46 = .ok (.iadd, 1) := dk_96 (dk_at dksX20_rank_1 23 rfl rfl)
theorem dX20_rank_47 : decode cX20_rank 47 = .ok (.istore 6, 2) := dk_54 6 (dk_at dksX20_rank_2 0 rfl rfl)
theorem dX20_rank_49 : decode cX20_rank 49 = .ok (.iinc 7 1, 3) := dk_132 7 1 (dk_at dksX20_rank_2 2 rfl rfl)
theorem dX20_rank_52 : decode cX20_rank 52 = .ok (.goto (-32), 3) := dk_167 255 224 (dk_at dksX20_rank_2 5 rfl rfl)
theorem dX20_rank_55 : decode cX20_rank 55 = .ok (.iload_n 3, 1) := dk_29 (dk_at dksX20_rank_2 8 rfl rfl)
theorem dX20_rank_56 : decode cX20_rank 56 = .ok (.aload_n 0, 1) := dk_42 (dk_at dksX20_rank_2 9 rfl rfl)
theorem dX20_rank_57 : decode cX20_rank 57 = .ok (.getfield 34, 3) := dk_180 0 34 (dk_at dksX20_rank_2 10 rfl rfl)
theorem dX20_rank_60 : decode cX20_rank 60 = .ok (.iload 5, 2) := dk_21 5 (dk_at dksX20_rank_2 13 rfl rfl)
theorem dX20_rank_62 : decode cX20_rank 62 = .ok (.isub, 1) := dk_100 (dk_at dksX20_rank_2 15 rfl rfl)
theorem dX20_rank_63 : decode cX20_rank 63 = .ok (.imul, 1) := dk_104 (dk_at dksX20_rank_2 16 rfl rfl)
theorem dX20_rank_64 : decode cX20_rank 64 = .ok (.iload 6, 2) := dk_21 6 (dk_at dksX20_rank_2 17 rfl rfl)
theorem dX20_rank_66 : decode cX20_rank 66 = .ok (.iadd, 1) := dk_96 (dk_at dksX20_rank_2 19 rfl rfl)
theorem dX20_rank_67 : decode cX20_rank 67 = .ok (.istore_n 3, 1) := dk_62 (dk_at dksX20_rank_2 20 rfl rfl)
theorem dX20_rank_68 : decode cX20_rank 68 = .ok (.iload 4, 2) := dk_21 4 (dk_at dksX20_rank_2 21 rfl rfl)
theorem dX20_rank_70 : decode cX20_rank 70 = .ok (.iconst 1, 1) := dk_4 (dk_at dksX20_rank_2 23 rfl rfl)
theorem dX20_rank_71 : decode cX20_rank 71 = .ok (.aload_n 1, 1) := dk_43 (dk_at dksX20_rank_3 0 rfl rfl)
theorem dX20_rank_72 : decode cX20_rank 72 = .ok (.iload 5, 2) := dk_21 5 (dk_at dksX20_rank_3 1 rfl rfl)
theorem dX20_rank_74 : decode cX20_rank 74 = .ok (.iaload, 1) := dk_46 (dk_at dksX20_rank_3 3 rfl rfl)
theorem dX20_rank_75 : decode cX20_rank 75 = .ok (.ishl, 1) := dk_120 (dk_at dksX20_rank_3 4 rfl rfl)
theorem dX20_rank_76 : decode cX20_rank 76 = .ok (.ior, 1) := dk_128 (dk_at dksX20_rank_3 5 rfl rfl)
theorem dX20_rank_77 : decode cX20_rank 77 = .ok (.istore 4, 2) := dk_54 4 (dk_at dksX20_rank_3 6 rfl rfl)
theorem dX20_rank_79 : decode cX20_rank 79 = .ok (.iinc 5 1, 3) := dk_132 5 1 (dk_at dksX20_rank_3 8 rfl rfl)
theorem dX20_rank_82 : decode cX20_rank 82 = .ok (.goto (-74), 3) := dk_167 255 182 (dk_at dksX20_rank_3 11 rfl rfl)
theorem dX20_rank_85 : decode cX20_rank 85 = .ok (.iload_n 3, 1) := dk_29 (dk_at dksX20_rank_3 14 rfl rfl)
theorem dX20_rank_86 : decode cX20_rank 86 = .ok (.ireturn, 1) := dk_172 (dk_at dksX20_rank_3 15 rfl rfl)
abbrev cX20_rankSet : ByteArray := prog_21_method_10_code
def yX20_rankSet : MethodName := ⟨RX20, "rankSet", "(I)I"⟩
def dkwX20_rankSet_3 : List UInt8 := [172]
abbrev dktX20_rankSet_3 : List UInt8 := dkwX20_rankSet_3 ++ []
def dkwX20_rankSet_2 : List UInt8 := [29, 4, 100, 184, 0, 51, 29, 4, 100, 184, 0, 55, 133, 109, 136, 96, 61, 132, 4, 1, 167, 255, 198, 28]
abbrev dktX20_rankSet_2 : List UInt8 := dkwX20_rankSet_2 ++ dktX20_rankSet_3
def dkwX20_rankSet_1 : List UInt8 := [21, 4, 184, 0, 78, 153, 0, 9, 132, 3, 255, 167, 0, 30, 28, 42, 180, 0, 34, 4, 100, 21, 4, 100]
abbrev dktX20_rankSet_1 : List UInt8 := dkwX20_rankSet_1 ++ dktX20_rankSet_2
def dkwX20_rankSet_0 : List UInt8 := [3, 61, 42, 180, 0, 27, 62, 3, 54, 4, 21, 4, 42, 180, 0, 34, 162, 0, 55, 29, 158, 0, 51, 27]
abbrev dktX20_rankSet_0 : List UInt8 := dkwX20_rankSet_0 ++ dktX20_rankSet_1
theorem dksX20_rankSet_0 : cX20_rankSet.data.toList.drop 0 = dktX20_rankSet_0 := by decide +kernel
theorem dksX20_rankSet_1 : cX20_rankSet.data.toList.drop 24 = dktX20_rankSet_1 := dk_seg dksX20_rankSet_0 24 rfl rfl
theorem dksX20_rankSet_2 : cX20_rankSet.data.toList.drop 48 = dktX20_rankSet_2 := dk_seg dksX20_rankSet_1 24 rfl rfl
theorem dksX20_rankSet_3 : cX20_rankSet.data.toList.drop 72 = dktX20_rankSet_3 := dk_seg dksX20_rankSet_2 24 rfl rfl
theorem dX20_rankSet_0 : decode cX20_rankSet 0 = .ok (.iconst 0, 1) := dk_3 (dk_at dksX20_rankSet_0 0 rfl rfl)
theorem dX20_rankSet_1 : decode cX20_rankSet 1 = .ok (.istore_n 2, 1) := dk_61 (dk_at dksX20_rankSet_0 1 rfl rfl)
theorem dX20_rankSet_2 : decode cX20_rankSet 2 = .ok (.aload_n 0, 1) := dk_42 (dk_at dksX20_rankSet_0 2 rfl rfl)
theorem dX20_rankSet_3 : decode cX20_rankSet 3 = .ok (.getfield 27, 3) := dk_180 0 27 (dk_at dksX20_rankSet_0 3 rfl rfl)
theorem dX20_rankSet_6 : decode cX20_rankSet 6 = .ok (.istore_n 3, 1) := dk_62 (dk_at dksX20_rankSet_0 6 rfl rfl)
theorem dX20_rankSet_7 : decode cX20_rankSet 7 = .ok (.iconst 0, 1) := dk_3 (dk_at dksX20_rankSet_0 7 rfl rfl)
theorem dX20_rankSet_8 : decode cX20_rankSet 8 = .ok (.istore 4, 2) := dk_54 4 (dk_at dksX20_rankSet_0 8 rfl rfl)
theorem dX20_rankSet_10 : decode cX20_rankSet 10 = .ok (.iload 4, 2) := dk_21 4 (dk_at dksX20_rankSet_0 10 rfl rfl)
theorem dX20_rankSet_12 : decode cX20_rankSet 12 = .ok (.aload_n 0, 1) := dk_42 (dk_at dksX20_rankSet_0 12 rfl rfl)
theorem dX20_rankSet_13 : decode cX20_rankSet 13 = .ok (.getfield 34, 3) := dk_180 0 34 (dk_at dksX20_rankSet_0 13 rfl rfl)
theorem dX20_rankSet_16 : decode cX20_rankSet 16 = .ok (.if_icmp .ge 55, 3) := dk_162 0 55 (dk_at dksX20_rankSet_0 16 rfl rfl)
theorem dX20_rankSet_19 : decode cX20_rankSet 19 = .ok (.iload_n 3, 1) := dk_29 (dk_at dksX20_rankSet_0 19 rfl rfl)
theorem dX20_rankSet_20 : decode cX20_rankSet 20 = .ok (.ifCond .le 51, 3) := dk_158 0 51 (dk_at dksX20_rankSet_0 20 rfl rfl)
theorem dX20_rankSet_23 : decode cX20_rankSet 23 = .ok (.iload_n 1, 1) := dk_27 (dk_at dksX20_rankSet_0 23 rfl rfl)
theorem dX20_rankSet_24 : decode cX20_rankSet 24 = .ok (.iload 4, 2) := dk_21 4 (dk_at dksX20_rankSet_1 0 rfl rfl)
theorem dX20_rankSet_26 : decode cX20_rankSet 26 = .ok (.invokestatic 78, 3) := dk_184 0 78 (dk_at dksX20_rankSet_1 2 rfl rfl)
theorem dX20_rankSet_29 : decode cX20_rankSet 29 = .ok (.ifCond .eq 9, 3) := dk_153 0 9 (dk_at dksX20_rankSet_1 5 rfl rfl)
theorem dX20_rankSet_32 : decode cX20_rankSet 32 = .ok (.iinc 3 (-1), 3) := dk_132 3 255 (dk_at dksX20_rankSet_1 8 rfl rfl)
theorem dX20_rankSet_35 : decode cX20_rankSet 35 = .ok (.goto 30, 3) := dk_167 0 30 (dk_at dksX20_rankSet_1 11 rfl rfl)
theorem dX20_rankSet_38 : decode cX20_rankSet 38 = .ok (.iload_n 2, 1) := dk_28 (dk_at dksX20_rankSet_1 14 rfl rfl)
theorem dX20_rankSet_39 : decode cX20_rankSet 39 = .ok (.aload_n 0, 1) := dk_42 (dk_at dksX20_rankSet_1 15 rfl rfl)
theorem dX20_rankSet_40 : decode cX20_rankSet 40 = .ok (.getfield 34, 3) := dk_180 0 34 (dk_at dksX20_rankSet_1 16 rfl rfl)
theorem dX20_rankSet_43 : decode cX20_rankSet 43 = .ok (.iconst 1, 1) := dk_4 (dk_at dksX20_rankSet_1 19 rfl rfl)
theorem dX20_rankSet_44 : decode cX20_rankSet 44 = .ok (.isub, 1) := dk_100 (dk_at dksX20_rankSet_1 20 rfl rfl)
theorem dX20_rankSet_45 : decode cX20_rankSet 45 = .ok (.iload 4, 2) := dk_21 4 (dk_at dksX20_rankSet_1 21 rfl rfl)
theorem dX20_rankSet_47 : decode cX20_rankSet 47 = .ok (.isub, 1) := dk_100 (dk_at dksX20_rankSet_1 23 rfl rfl)
theorem dX20_rankSet_48 : decode cX20_rankSet 48 = .ok (.iload_n 3, 1) := dk_29 (dk_at dksX20_rankSet_2 0 rfl rfl)
theorem dX20_rankSet_49 : decode cX20_rankSet 49 = .ok (.iconst 1, 1) := dk_4 (dk_at dksX20_rankSet_2 1 rfl rfl)
theorem dX20_rankSet_50 : decode cX20_rankSet 50 = .ok (.isub, 1) := dk_100 (dk_at dksX20_rankSet_2 2 rfl rfl)
theorem dX20_rankSet_51 : decode cX20_rankSet 51 = .ok (.invokestatic 51, 3) := dk_184 0 51 (dk_at dksX20_rankSet_2 3 rfl rfl)
theorem dX20_rankSet_54 : decode cX20_rankSet 54 = .ok (.iload_n 3, 1) := dk_29 (dk_at dksX20_rankSet_2 6 rfl rfl)
theorem dX20_rankSet_55 : decode cX20_rankSet 55 = .ok (.iconst 1, 1) := dk_4 (dk_at dksX20_rankSet_2 7 rfl rfl)
theorem dX20_rankSet_56 : decode cX20_rankSet 56 = .ok (.isub, 1) := dk_100 (dk_at dksX20_rankSet_2 8 rfl rfl)
theorem dX20_rankSet_57 : decode cX20_rankSet 57 = .ok (.invokestatic 55, 3) := dk_184 0 55 (dk_at dksX20_rankSet_2 9 rfl rfl)
theorem dX20_rankSet_60 : decode cX20_rankSet 60 = .ok (.i2l, 1) := dk_133 (dk_at dksX20_rankSet_2 12 rfl rfl)
theorem dX20_rankSet_61 : decode cX20_rankSet 61 = .ok (.ldiv, 1) := dk_109 (dk_at dksX20_rankSet_2 13 rfl rfl)
theorem dX20_rankSet_62 : decode cX20_rankSet 62 = .ok (.l2i, 1) := dk_136 (dk_at dksX20_rankSet_2 14 rfl rfl)
theorem dX20_rankSet_63 : decode cX20_rankSet 63 = .ok (.iadd, 1) := dk_96 (dk_at dksX20_rankSet_2 15 rfl rfl)
theorem dX20_rankSet_64 : decode cX20_rankSet 64 = .ok (.istore_n 2, 1) := dk_61 (dk_at dksX20_rankSet_2 16 rfl rfl)
theorem dX20_rankSet_65 : decode cX20_rankSet 65 = .ok (.iinc 4 1, 3) := dk_132 4 1 (dk_at dksX20_rankSet_2 17 rfl rfl)
theorem dX20_rankSet_68 : decode cX20_rankSet 68 = .ok (.goto (-58), 3) := dk_167 255 198 (dk_at dksX20_rankSet_2 20 rfl rfl)
theorem dX20_rankSet_71 : decode cX20_rankSet 71 = .ok (.iload_n 2, 1) := dk_28 (dk_at dksX20_rankSet_2 23 rfl rfl)
theorem dX20_rankSet_72 : decode cX20_rankSet 72 = .ok (.ireturn, 1) := dk_172 (dk_at dksX20_rankSet_3 0 rfl rfl)
abbrev cX20_rows : ByteArray := prog_21_method_2_code
def yX20_rows : MethodName := ⟨RX20, "rows", "()I"⟩
def dkwX20_rows_0 : List UInt8 := [42, 180, 0, 27, 42, 180, 0, 31, 100, 172]
abbrev dktX20_rows_0 : List UInt8 := dkwX20_rows_0 ++ []
theorem dksX20_rows_0 : cX20_rows.data.toList.drop 0 = dktX20_rows_0 := by decide +kernel
theorem dX20_rows_0 : decode cX20_rows 0 = .ok (.aload_n 0, 1) := dk_42 (dk_at dksX20_rows_0 0 rfl rfl)
theorem dX20_rows_1 : decode cX20_rows 1 = .ok (.getfield 27, 3) := dk_180 0 27 (dk_at dksX20_rows_0 1 rfl rfl)
theorem dX20_rows_4 : decode cX20_rows 4 = .ok (.aload_n 0, 1) := dk_42 (dk_at dksX20_rows_0 4 rfl rfl)
theorem dX20_rows_5 : decode cX20_rows 5 = .ok (.getfield 31, 3) := dk_180 0 31 (dk_at dksX20_rows_0 5 rfl rfl)
theorem dX20_rows_8 : decode cX20_rows 8 = .ok (.isub, 1) := dk_100 (dk_at dksX20_rows_0 8 rfl rfl)
theorem dX20_rows_9 : decode cX20_rows 9 = .ok (.ireturn, 1) := dk_172 (dk_at dksX20_rows_0 9 rfl rfl)
abbrev cX20_tiltings : ByteArray := prog_21_method_4_code
def yX20_tiltings : MethodName := ⟨RX20, "tiltings", "()I"⟩
def dkwX20_tiltings_0 : List UInt8 := [42, 180, 0, 40, 153, 0, 12, 4, 42, 182, 0, 44, 120, 167, 0, 4, 4, 172]
abbrev dktX20_tiltings_0 : List UInt8 := dkwX20_tiltings_0 ++ []
theorem dksX20_tiltings_0 : cX20_tiltings.data.toList.drop 0 = dktX20_tiltings_0 := by decide +kernel
theorem dX20_tiltings_0 : decode cX20_tiltings 0 = .ok (.aload_n 0, 1) := dk_42 (dk_at dksX20_tiltings_0 0 rfl rfl)
theorem dX20_tiltings_1 : decode cX20_tiltings 1 = .ok (.getfield 40, 3) := dk_180 0 40 (dk_at dksX20_tiltings_0 1 rfl rfl)
theorem dX20_tiltings_4 : decode cX20_tiltings 4 = .ok (.ifCond .eq 12, 3) := dk_153 0 12 (dk_at dksX20_tiltings_0 4 rfl rfl)
theorem dX20_tiltings_7 : decode cX20_tiltings 7 = .ok (.iconst 1, 1) := dk_4 (dk_at dksX20_tiltings_0 7 rfl rfl)
theorem dX20_tiltings_8 : decode cX20_tiltings 8 = .ok (.aload_n 0, 1) := dk_42 (dk_at dksX20_tiltings_0 8 rfl rfl)
theorem dX20_tiltings_9 : decode cX20_tiltings 9 = .ok (.invokevirtual 44, 3) := dk_182 0 44 (dk_at dksX20_tiltings_0 9 rfl rfl)
theorem dX20_tiltings_12 : decode cX20_tiltings 12 = .ok (.ishl, 1) := dk_120 (dk_at dksX20_tiltings_0 12 rfl rfl)
theorem dX20_tiltings_13 : decode cX20_tiltings 13 = .ok (.goto 4, 3) := dk_167 0 4 (dk_at dksX20_tiltings_0 13 rfl rfl)
theorem dX20_tiltings_16 : decode cX20_tiltings 16 = .ok (.iconst 1, 1) := dk_4 (dk_at dksX20_tiltings_0 16 rfl rfl)
theorem dX20_tiltings_17 : decode cX20_tiltings 17 = .ok (.ireturn, 1) := dk_172 (dk_at dksX20_tiltings_0 17 rfl rfl)
abbrev cX20_layHand : ByteArray := prog_21_method_11_code
def yX20_layHand : MethodName := ⟨RX20, "layHand", "(I[I)V"⟩
def dkwX20_layHand_4 : List UInt8 := [62, 132, 5, 1, 167, 255, 183, 177]
abbrev dktX20_layHand_4 : List UInt8 := dkwX20_layHand_4 ++ []
def dkwX20_layHand_3 : List UInt8 := [54, 6, 29, 21, 6, 162, 0, 15, 44, 21, 4, 21, 5, 79, 132, 4, 1, 167, 0, 8, 29, 21, 6, 100]
abbrev dktX20_layHand_3 : List UInt8 := dkwX20_layHand_3 ++ dktX20_layHand_4
def dkwX20_layHand_2 : List UInt8 := [21, 4, 100, 4, 100, 184, 0, 51, 42, 180, 0, 27, 21, 4, 100, 4, 100, 184, 0, 55, 133, 109, 136]
abbrev dktX20_layHand_2 : List UInt8 := dkwX20_layHand_2 ++ dktX20_layHand_3
def dkwX20_layHand_1 : List UInt8 := [54, 5, 21, 4, 42, 180, 0, 27, 162, 0, 70, 42, 180, 0, 34, 4, 100, 21, 5, 100, 42, 180, 0, 27]
abbrev dktX20_layHand_1 : List UInt8 := dkwX20_layHand_1 ++ dktX20_layHand_2
def dkwX20_layHand_0 : List UInt8 := [42, 180, 0, 48, 153, 0, 14, 42, 27, 42, 180, 0, 27, 44, 182, 0, 82, 177, 27, 62, 3, 54, 4, 3]
abbrev dktX20_layHand_0 : List UInt8 := dkwX20_layHand_0 ++ dktX20_layHand_1
theorem dksX20_layHand_0 : cX20_layHand.data.toList.drop 0 = dktX20_layHand_0 := by decide +kernel
theorem dksX20_layHand_1 : cX20_layHand.data.toList.drop 24 = dktX20_layHand_1 := dk_seg dksX20_layHand_0 24 rfl rfl
theorem dksX20_layHand_2 : cX20_layHand.data.toList.drop 48 = dktX20_layHand_2 := dk_seg dksX20_layHand_1 24 rfl rfl
theorem dksX20_layHand_3 : cX20_layHand.data.toList.drop 71 = dktX20_layHand_3 := dk_seg dksX20_layHand_2 23 rfl rfl
theorem dksX20_layHand_4 : cX20_layHand.data.toList.drop 95 = dktX20_layHand_4 := dk_seg dksX20_layHand_3 24 rfl rfl
theorem dX20_layHand_0 : decode cX20_layHand 0 = .ok (.aload_n 0, 1) := dk_42 (dk_at dksX20_layHand_0 0 rfl rfl)
theorem dX20_layHand_1 : decode cX20_layHand 1 = .ok (.getfield 48, 3) := dk_180 0 48 (dk_at dksX20_layHand_0 1 rfl rfl)
theorem dX20_layHand_4 : decode cX20_layHand 4 = .ok (.ifCond .eq 14, 3) := dk_153 0 14 (dk_at dksX20_layHand_0 4 rfl rfl)
theorem dX20_layHand_7 : decode cX20_layHand 7 = .ok (.aload_n 0, 1) := dk_42 (dk_at dksX20_layHand_0 7 rfl rfl)
theorem dX20_layHand_8 : decode cX20_layHand 8 = .ok (.iload_n 1, 1) := dk_27 (dk_at dksX20_layHand_0 8 rfl rfl)
theorem dX20_layHand_9 : decode cX20_layHand 9 = .ok (.aload_n 0, 1) := dk_42 (dk_at dksX20_layHand_0 9 rfl rfl)
theorem dX20_layHand_10 : decode cX20_layHand 10 = .ok (.getfield 27, 3) := dk_180 0 27 (dk_at dksX20_layHand_0 10 rfl rfl)
theorem dX20_layHand_13 : decode cX20_layHand 13 = .ok (.aload_n 2, 1) := dk_44 (dk_at dksX20_layHand_0 13 rfl rfl)
theorem dX20_layHand_14 : decode cX20_layHand 14 = .ok (.invokevirtual 82, 3) := dk_182 0 82 (dk_at dksX20_layHand_0 14 rfl rfl)
theorem dX20_layHand_17 : decode cX20_layHand 17 = .ok (.return_, 1) := dk_177 (dk_at dksX20_layHand_0 17 rfl rfl)
theorem dX20_layHand_18 : decode cX20_layHand 18 = .ok (.iload_n 1, 1) := dk_27 (dk_at dksX20_layHand_0 18 rfl rfl)
theorem dX20_layHand_19 : decode cX20_layHand 19 = .ok (.istore_n 3, 1) := dk_62 (dk_at dksX20_layHand_0 19 rfl rfl)
theorem dX20_layHand_20 : decode cX20_layHand 20 = .ok (.iconst 0, 1) := dk_3 (dk_at dksX20_layHand_0 20 rfl rfl)
theorem dX20_layHand_21 : decode cX20_layHand 21 = .ok (.istore 4, 2) := dk_54 4 (dk_at dksX20_layHand_0 21 rfl rfl)
theorem dX20_layHand_23 : decode cX20_layHand 23 = .ok (.iconst 0, 1) := dk_3 (dk_at dksX20_layHand_0 23 rfl rfl)
theorem dX20_layHand_24 : decode cX20_layHand 24 = .ok (.istore 5, 2) := dk_54 5 (dk_at dksX20_layHand_1 0 rfl rfl)
theorem dX20_layHand_26 : decode cX20_layHand 26 = .ok (.iload 4, 2) := dk_21 4 (dk_at dksX20_layHand_1 2 rfl rfl)
theorem dX20_layHand_28 : decode cX20_layHand 28 = .ok (.aload_n 0, 1) := dk_42 (dk_at dksX20_layHand_1 4 rfl rfl)
theorem dX20_layHand_29 : decode cX20_layHand 29 = .ok (.getfield 27, 3) := dk_180 0 27 (dk_at dksX20_layHand_1 5 rfl rfl)
theorem dX20_layHand_32 : decode cX20_layHand 32 = .ok (.if_icmp .ge 70, 3) := dk_162 0 70 (dk_at dksX20_layHand_1 8 rfl rfl)
theorem dX20_layHand_35 : decode cX20_layHand 35 = .ok (.aload_n 0, 1) := dk_42 (dk_at dksX20_layHand_1 11 rfl rfl)
theorem dX20_layHand_36 : decode cX20_layHand 36 = .ok (.getfield 34, 3) := dk_180 0 34 (dk_at dksX20_layHand_1 12 rfl rfl)
theorem dX20_layHand_39 : decode cX20_layHand 39 = .ok (.iconst 1, 1) := dk_4 (dk_at dksX20_layHand_1 15 rfl rfl)
theorem dX20_layHand_40 : decode cX20_layHand 40 = .ok (.isub, 1) := dk_100 (dk_at dksX20_layHand_1 16 rfl rfl)
theorem dX20_layHand_41 : decode cX20_layHand 41 = .ok (.iload 5, 2) := dk_21 5 (dk_at dksX20_layHand_1 17 rfl rfl)
theorem dX20_layHand_43 : decode cX20_layHand 43 = .ok (.isub, 1) := dk_100 (dk_at dksX20_layHand_1 19 rfl rfl)
theorem dX20_layHand_44 : decode cX20_layHand 44 = .ok (.aload_n 0, 1) := dk_42 (dk_at dksX20_layHand_1 20 rfl rfl)
theorem dX20_layHand_45 : decode cX20_layHand 45 = .ok (.getfield 27, 3) := dk_180 0 27 (dk_at dksX20_layHand_1 21 rfl rfl)
theorem dX20_layHand_48 : decode cX20_layHand 48 = .ok (.iload 4, 2) := dk_21 4 (dk_at dksX20_layHand_2 0 rfl rfl)
theorem dX20_layHand_50 : decode cX20_layHand 50 = .ok (.isub, 1) := dk_100 (dk_at dksX20_layHand_2 2 rfl rfl)
theorem dX20_layHand_51 : decode cX20_layHand 51 = .ok (.iconst 1, 1) := dk_4 (dk_at dksX20_layHand_2 3 rfl rfl)
theorem dX20_layHand_52 : decode cX20_layHand 52 = .ok (.isub, 1) := dk_100 (dk_at dksX20_layHand_2 4 rfl rfl)
theorem dX20_layHand_53 : decode cX20_layHand 53 = .ok (.invokestatic 51, 3) := dk_184 0 51 (dk_at dksX20_layHand_2 5 rfl rfl)
theorem dX20_layHand_56 : decode cX20_layHand 56 = .ok (.aload_n 0, 1) := dk_42 (dk_at dksX20_layHand_2 8 rfl rfl)
theorem dX20_layHand_57 : decode cX20_layHand 57 = .ok (.getfield 27, 3) := dk_180 0 27 (dk_at dksX20_layHand_2 9 rfl rfl)
theorem dX20_layHand_60 : decode cX20_layHand 60 = .ok (.iload 4, 2) := dk_21 4 (dk_at dksX20_layHand_2 12 rfl rfl)
theorem dX20_layHand_62 : decode cX20_layHand 62 = .ok (.isub, 1) := dk_100 (dk_at dksX20_layHand_2 14 rfl rfl)
theorem dX20_layHand_63 : decode cX20_layHand 63 = .ok (.iconst 1, 1) := dk_4 (dk_at dksX20_layHand_2 15 rfl rfl)
theorem dX20_layHand_64 : decode cX20_layHand 64 = .ok (.isub, 1) := dk_100 (dk_at dksX20_layHand_2 16 rfl rfl)
theorem dX20_layHand_65 : decode cX20_layHand 65 = .ok (.invokestatic 55, 3) := dk_184 0 55 (dk_at dksX20_layHand_2 17 rfl rfl)
theorem dX20_layHand_68 : decode cX20_layHand 68 = .ok (.i2l, 1) := dk_133 (dk_at dksX20_layHand_2 20 rfl rfl)
theorem dX20_layHand_69 : decode cX20_layHand 69 = .ok (.ldiv, 1) := dk_109 (dk_at dksX20_layHand_2 21 rfl rfl)
theorem dX20_layHand_70 : decode cX20_layHand 70 = .ok (.l2i, 1) := dk_136 (dk_at dksX20_layHand_2 22 rfl rfl)
theorem dX20_layHand_71 : decode cX20_layHand 71 = .ok (.istore 6, 2) := dk_54 6 (dk_at dksX20_layHand_3 0 rfl rfl)
theorem dX20_layHand_73 : decode cX20_layHand 73 = .ok (.iload_n 3, 1) := dk_29 (dk_at dksX20_layHand_3 2 rfl rfl)
theorem dX20_layHand_74 : decode cX20_layHand 74 = .ok (.iload 6, 2) := dk_21 6 (dk_at dksX20_layHand_3 3 rfl rfl)
theorem dX20_layHand_76 : decode cX20_layHand 76 = .ok (.if_icmp .ge 15, 3) := dk_162 0 15 (dk_at dksX20_layHand_3 5 rfl rfl)
theorem dX20_layHand_79 : decode cX20_layHand 79 = .ok (.aload_n 2, 1) := dk_44 (dk_at dksX20_layHand_3 8 rfl rfl)
theorem dX20_layHand_80 : decode cX20_layHand 80 = .ok (.iload 4, 2) := dk_21 4 (dk_at dksX20_layHand_3 9 rfl rfl)
theorem dX20_layHand_82 : decode cX20_layHand 82 = .ok (.iload 5, 2) := dk_21 5 (dk_at dksX20_layHand_3 11 rfl rfl)
theorem dX20_layHand_84 : decode cX20_layHand 84 = .ok (.iastore, 1) := dk_79 (dk_at dksX20_layHand_3 13 rfl rfl)
theorem dX20_layHand_85 : decode cX20_layHand 85 = .ok (.iinc 4 1, 3) := dk_132 4 1 (dk_at dksX20_layHand_3 14 rfl rfl)
theorem dX20_layHand_88 : decode cX20_layHand 88 = .ok (.goto 8, 3) := dk_167 0 8 (dk_at dksX20_layHand_3 17 rfl rfl)
theorem dX20_layHand_91 : decode cX20_layHand 91 = .ok (.iload_n 3, 1) := dk_29 (dk_at dksX20_layHand_3 20 rfl rfl)
theorem dX20_layHand_92 : decode cX20_layHand 92 = .ok (.iload 6, 2) := dk_21 6 (dk_at dksX20_layHand_3 21 rfl rfl)
theorem dX20_layHand_94 : decode cX20_layHand 94 = .ok (.isub, 1) := dk_100 (dk_at dksX20_layHand_3 23 rfl rfl)
theorem dX20_layHand_95 : decode cX20_layHand 95 = .ok (.istore_n 3, 1) := dk_62 (dk_at dksX20_layHand_4 0 rfl rfl)
theorem dX20_layHand_96 : decode cX20_layHand 96 = .ok (.iinc 5 1, 3) := dk_132 5 1 (dk_at dksX20_layHand_4 1 rfl rfl)
theorem dX20_layHand_99 : decode cX20_layHand 99 = .ok (.goto (-73), 3) := dk_167 255 183 (dk_at dksX20_layHand_4 4 rfl rfl)
theorem dX20_layHand_102 : decode cX20_layHand 102 = .ok (.return_, 1) := dk_177 (dk_at dksX20_layHand_4 7 rfl rfl)
abbrev cX20_unrank : ByteArray := prog_21_method_9_code
def yX20_unrank : MethodName := ⟨RX20, "unrank", "(II[I)V"⟩
def dkwX20_unrank_5 : List UInt8 := [21, 7, 21, 8, 79, 21, 6, 4, 21, 8, 120, 128, 54, 6, 132, 7, 1, 167, 255, 181, 177]
abbrev dktX20_unrank_5 : List UInt8 := dkwX20_unrank_5 ++ []
def dkwX20_unrank_4 : List UInt8 := [21, 8, 184, 0, 78, 153, 0, 7, 3, 167, 0, 4, 4, 100, 54, 9, 132, 8, 1, 167, 255, 218, 45]
abbrev dktX20_unrank_4 : List UInt8 := dkwX20_unrank_4 ++ dktX20_unrank_5
def dkwX20_unrank_3 : List UInt8 := [21, 7, 46, 54, 9, 21, 6, 21, 8, 184, 0, 78, 154, 0, 8, 21, 9, 158, 0, 29, 21, 9, 21, 6]
abbrev dktX20_unrank_3 : List UInt8 := dkwX20_unrank_3 ++ dktX20_unrank_4
def dkwX20_unrank_2 : List UInt8 := [132, 6, 255, 167, 255, 221, 3, 54, 6, 3, 54, 7, 21, 7, 28, 162, 0, 75, 3, 54, 8, 25, 5]
abbrev dktX20_unrank_2 : List UInt8 := dkwX20_unrank_2 ++ dktX20_unrank_3
def dkwX20_unrank_1 : List UInt8 := [21, 4, 42, 180, 0, 34, 21, 6, 100, 112, 79, 21, 4, 42, 180, 0, 34, 21, 6, 100, 108, 54, 4]
abbrev dktX20_unrank_1 : List UInt8 := dkwX20_unrank_1 ++ dktX20_unrank_2
def dkwX20_unrank_0 : List UInt8 := [27, 54, 4, 42, 180, 0, 24, 58, 5, 28, 4, 100, 54, 6, 21, 6, 155, 0, 36, 25, 5, 21, 6]
abbrev dktX20_unrank_0 : List UInt8 := dkwX20_unrank_0 ++ dktX20_unrank_1
theorem dksX20_unrank_0 : cX20_unrank.data.toList.drop 0 = dktX20_unrank_0 := by decide +kernel
theorem dksX20_unrank_1 : cX20_unrank.data.toList.drop 23 = dktX20_unrank_1 := dk_seg dksX20_unrank_0 23 rfl rfl
theorem dksX20_unrank_2 : cX20_unrank.data.toList.drop 46 = dktX20_unrank_2 := dk_seg dksX20_unrank_1 23 rfl rfl
theorem dksX20_unrank_3 : cX20_unrank.data.toList.drop 69 = dktX20_unrank_3 := dk_seg dksX20_unrank_2 23 rfl rfl
theorem dksX20_unrank_4 : cX20_unrank.data.toList.drop 93 = dktX20_unrank_4 := dk_seg dksX20_unrank_3 24 rfl rfl
theorem dksX20_unrank_5 : cX20_unrank.data.toList.drop 116 = dktX20_unrank_5 := dk_seg dksX20_unrank_4 23 rfl rfl
theorem dX20_unrank_0 : decode cX20_unrank 0 = .ok (.iload_n 1, 1) := dk_27 (dk_at dksX20_unrank_0 0 rfl rfl)
theorem dX20_unrank_1 : decode cX20_unrank 1 = .ok (.istore 4, 2) := dk_54 4 (dk_at dksX20_unrank_0 1 rfl rfl)
theorem dX20_unrank_3 : decode cX20_unrank 3 = .ok (.aload_n 0, 1) := dk_42 (dk_at dksX20_unrank_0 3 rfl rfl)
theorem dX20_unrank_4 : decode cX20_unrank 4 = .ok (.getfield 24, 3) := dk_180 0 24 (dk_at dksX20_unrank_0 4 rfl rfl)
theorem dX20_unrank_7 : decode cX20_unrank 7 = .ok (.astore 5, 2) := dk_58 5 (dk_at dksX20_unrank_0 7 rfl rfl)
theorem dX20_unrank_9 : decode cX20_unrank 9 = .ok (.iload_n 2, 1) := dk_28 (dk_at dksX20_unrank_0 9 rfl rfl)
theorem dX20_unrank_10 : decode cX20_unrank 10 = .ok (.iconst 1, 1) := dk_4 (dk_at dksX20_unrank_0 10 rfl rfl)
theorem dX20_unrank_11 : decode cX20_unrank 11 = .ok (.isub, 1) := dk_100 (dk_at dksX20_unrank_0 11 rfl rfl)
theorem dX20_unrank_12 : decode cX20_unrank 12 = .ok (.istore 6, 2) := dk_54 6 (dk_at dksX20_unrank_0 12 rfl rfl)
theorem dX20_unrank_14 : decode cX20_unrank 14 = .ok (.iload 6, 2) := dk_21 6 (dk_at dksX20_unrank_0 14 rfl rfl)
theorem dX20_unrank_16 : decode cX20_unrank 16 = .ok (.ifCond .lt 36, 3) := dk_155 0 36 (dk_at dksX20_unrank_0 16 rfl rfl)
theorem dX20_unrank_19 : decode cX20_unrank 19 = .ok (.aload 5, 2) := dk_25 5 (dk_at dksX20_unrank_0 19 rfl rfl)
theorem dX20_unrank_21 : decode cX20_unrank 21 = .ok (.iload 6, 2) := dk_21 6 (dk_at dksX20_unrank_0 21 rfl rfl)
theorem dX20_unrank_23 : decode cX20_unrank 23 = .ok (.iload 4, 2) := dk_21 4 (dk_at dksX20_unrank_1 0 rfl rfl)
theorem dX20_unrank_25 : decode cX20_unrank 25 = .ok (.aload_n 0, 1) := dk_42 (dk_at dksX20_unrank_1 2 rfl rfl)
theorem dX20_unrank_26 : decode cX20_unrank 26 = .ok (.getfield 34, 3) := dk_180 0 34 (dk_at dksX20_unrank_1 3 rfl rfl)
theorem dX20_unrank_29 : decode cX20_unrank 29 = .ok (.iload 6, 2) := dk_21 6 (dk_at dksX20_unrank_1 6 rfl rfl)
theorem dX20_unrank_31 : decode cX20_unrank 31 = .ok (.isub, 1) := dk_100 (dk_at dksX20_unrank_1 8 rfl rfl)
theorem dX20_unrank_32 : decode cX20_unrank 32 = .ok (.irem, 1) := dk_112 (dk_at dksX20_unrank_1 9 rfl rfl)
theorem dX20_unrank_33 : decode cX20_unrank 33 = .ok (.iastore, 1) := dk_79 (dk_at dksX20_unrank_1 10 rfl rfl)
theorem dX20_unrank_34 : decode cX20_unrank 34 = .ok (.iload 4, 2) := dk_21 4 (dk_at dksX20_unrank_1 11 rfl rfl)
theorem dX20_unrank_36 : decode cX20_unrank 36 = .ok (.aload_n 0, 1) := dk_42 (dk_at dksX20_unrank_1 13 rfl rfl)
theorem dX20_unrank_37 : decode cX20_unrank 37 = .ok (.getfield 34, 3) := dk_180 0 34 (dk_at dksX20_unrank_1 14 rfl rfl)
theorem dX20_unrank_40 : decode cX20_unrank 40 = .ok (.iload 6, 2) := dk_21 6 (dk_at dksX20_unrank_1 17 rfl rfl)
theorem dX20_unrank_42 : decode cX20_unrank 42 = .ok (.isub, 1) := dk_100 (dk_at dksX20_unrank_1 19 rfl rfl)
theorem dX20_unrank_43 : decode cX20_unrank 43 = .ok (.idiv, 1) := dk_108 (dk_at dksX20_unrank_1 20 rfl rfl)
theorem dX20_unrank_44 : decode cX20_unrank 44 = .ok (.istore 4, 2) := dk_54 4 (dk_at dksX20_unrank_1 21 rfl rfl)
theorem dX20_unrank_46 : decode cX20_unrank 46 = .ok (.iinc 6 (-1), 3) := dk_132 6 255 (dk_at dksX20_unrank_2 0 rfl rfl)
theorem dX20_unrank_49 : decode cX20_unrank 49 = .ok (.goto (-35), 3) := dk_167 255 221 (dk_at dksX20_unrank_2 3 rfl rfl)
theorem dX20_unrank_52 : decode cX20_unrank 52 = .ok (.iconst 0, 1) := dk_3 (dk_at dksX20_unrank_2 6 rfl rfl)
theorem dX20_unrank_53 : decode cX20_unrank 53 = .ok (.istore 6, 2) := dk_54 6 (dk_at dksX20_unrank_2 7 rfl rfl)
theorem dX20_unrank_55 : decode cX20_unrank 55 = .ok (.iconst 0, 1) := dk_3 (dk_at dksX20_unrank_2 9 rfl rfl)
theorem dX20_unrank_56 : decode cX20_unrank 56 = .ok (.istore 7, 2) := dk_54 7 (dk_at dksX20_unrank_2 10 rfl rfl)
theorem dX20_unrank_58 : decode cX20_unrank 58 = .ok (.iload 7, 2) := dk_21 7 (dk_at dksX20_unrank_2 12 rfl rfl)
theorem dX20_unrank_60 : decode cX20_unrank 60 = .ok (.iload_n 2, 1) := dk_28 (dk_at dksX20_unrank_2 14 rfl rfl)
theorem dX20_unrank_61 : decode cX20_unrank 61 = .ok (.if_icmp .ge 75, 3) := dk_162 0 75 (dk_at dksX20_unrank_2 15 rfl rfl)
theorem dX20_unrank_64 : decode cX20_unrank 64 = .ok (.iconst 0, 1) := dk_3 (dk_at dksX20_unrank_2 18 rfl rfl)
theorem dX20_unrank_65 : decode cX20_unrank 65 = .ok (.istore 8, 2) := dk_54 8 (dk_at dksX20_unrank_2 19 rfl rfl)
theorem dX20_unrank_67 : decode cX20_unrank 67 = .ok (.aload 5, 2) := dk_25 5 (dk_at dksX20_unrank_2 21 rfl rfl)
theorem dX20_unrank_69 : decode cX20_unrank 69 = .ok (.iload 7, 2) := dk_21 7 (dk_at dksX20_unrank_3 0 rfl rfl)
theorem dX20_unrank_71 : decode cX20_unrank 71 = .ok (.iaload, 1) := dk_46 (dk_at dksX20_unrank_3 2 rfl rfl)
theorem dX20_unrank_72 : decode cX20_unrank 72 = .ok (.istore 9, 2) := dk_54 9 (dk_at dksX20_unrank_3 3 rfl rfl)
theorem dX20_unrank_74 : decode cX20_unrank 74 = .ok (.iload 6, 2) := dk_21 6 (dk_at dksX20_unrank_3 5 rfl rfl)
theorem dX20_unrank_76 : decode cX20_unrank 76 = .ok (.iload 8, 2) := dk_21 8 (dk_at dksX20_unrank_3 7 rfl rfl)
theorem dX20_unrank_78 : decode cX20_unrank 78 = .ok (.invokestatic 78, 3) := dk_184 0 78 (dk_at dksX20_unrank_3 9 rfl rfl)
theorem dX20_unrank_81 : decode cX20_unrank 81 = .ok (.ifCond .ne 8, 3) := dk_154 0 8 (dk_at dksX20_unrank_3 12 rfl rfl)
theorem dX20_unrank_84 : decode cX20_unrank 84 = .ok (.iload 9, 2) := dk_21 9 (dk_at dksX20_unrank_3 15 rfl rfl)
theorem dX20_unrank_86 : decode cX20_unrank 86 = .ok (.ifCond .le 29, 3) := dk_158 0 29 (dk_at dksX20_unrank_3 17 rfl rfl)
theorem dX20_unrank_89 : decode cX20_unrank 89 = .ok (.iload 9, 2) := dk_21 9 (dk_at dksX20_unrank_3 20 rfl rfl)
theorem dX20_unrank_91 : decode cX20_unrank 91 = .ok (.iload 6, 2) := dk_21 6 (dk_at dksX20_unrank_3 22 rfl rfl)
theorem dX20_unrank_93 : decode cX20_unrank 93 = .ok (.iload 8, 2) := dk_21 8 (dk_at dksX20_unrank_4 0 rfl rfl)
theorem dX20_unrank_95 : decode cX20_unrank 95 = .ok (.invokestatic 78, 3) := dk_184 0 78 (dk_at dksX20_unrank_4 2 rfl rfl)
theorem dX20_unrank_98 : decode cX20_unrank 98 = .ok (.ifCond .eq 7, 3) := dk_153 0 7 (dk_at dksX20_unrank_4 5 rfl rfl)
theorem dX20_unrank_101 : decode cX20_unrank 101 = .ok (.iconst 0, 1) := dk_3 (dk_at dksX20_unrank_4 8 rfl rfl)
theorem dX20_unrank_102 : decode cX20_unrank 102 = .ok (.goto 4, 3) := dk_167 0 4 (dk_at dksX20_unrank_4 9 rfl rfl)
theorem dX20_unrank_105 : decode cX20_unrank 105 = .ok (.iconst 1, 1) := dk_4 (dk_at dksX20_unrank_4 12 rfl rfl)
theorem dX20_unrank_106 : decode cX20_unrank 106 = .ok (.isub, 1) := dk_100 (dk_at dksX20_unrank_4 13 rfl rfl)
theorem dX20_unrank_107 : decode cX20_unrank 107 = .ok (.istore 9, 2) := dk_54 9 (dk_at dksX20_unrank_4 14 rfl rfl)
theorem dX20_unrank_109 : decode cX20_unrank 109 = .ok (.iinc 8 1, 3) := dk_132 8 1 (dk_at dksX20_unrank_4 16 rfl rfl)
theorem dX20_unrank_112 : decode cX20_unrank 112 = .ok (.goto (-38), 3) := dk_167 255 218 (dk_at dksX20_unrank_4 19 rfl rfl)
theorem dX20_unrank_115 : decode cX20_unrank 115 = .ok (.aload_n 3, 1) := dk_45 (dk_at dksX20_unrank_4 22 rfl rfl)
theorem dX20_unrank_116 : decode cX20_unrank 116 = .ok (.iload 7, 2) := dk_21 7 (dk_at dksX20_unrank_5 0 rfl rfl)
theorem dX20_unrank_118 : decode cX20_unrank 118 = .ok (.iload 8, 2) := dk_21 8 (dk_at dksX20_unrank_5 2 rfl rfl)
theorem dX20_unrank_120 : decode cX20_unrank 120 = .ok (.iastore, 1) := dk_79 (dk_at dksX20_unrank_5 4 rfl rfl)
theorem dX20_unrank_121 : decode cX20_unrank 121 = .ok (.iload 6, 2) := dk_21 6 (dk_at dksX20_unrank_5 5 rfl rfl)
theorem dX20_unrank_123 : decode cX20_unrank 123 = .ok (.iconst 1, 1) := dk_4 (dk_at dksX20_unrank_5 7 rfl rfl)
theorem dX20_unrank_124 : decode cX20_unrank 124 = .ok (.iload 8, 2) := dk_21 8 (dk_at dksX20_unrank_5 8 rfl rfl)
theorem dX20_unrank_126 : decode cX20_unrank 126 = .ok (.ishl, 1) := dk_120 (dk_at dksX20_unrank_5 10 rfl rfl)
theorem dX20_unrank_127 : decode cX20_unrank 127 = .ok (.ior, 1) := dk_128 (dk_at dksX20_unrank_5 11 rfl rfl)
theorem dX20_unrank_128 : decode cX20_unrank 128 = .ok (.istore 6, 2) := dk_54 6 (dk_at dksX20_unrank_5 12 rfl rfl)
theorem dX20_unrank_130 : decode cX20_unrank 130 = .ok (.iinc 7 1, 3) := dk_132 7 1 (dk_at dksX20_unrank_5 14 rfl rfl)
theorem dX20_unrank_133 : decode cX20_unrank 133 = .ok (.goto (-75), 3) := dk_167 255 181 (dk_at dksX20_unrank_5 17 rfl rfl)
theorem dX20_unrank_136 : decode cX20_unrank 136 = .ok (.return_, 1) := dk_177 (dk_at dksX20_unrank_5 20 rfl rfl)
abbrev cX20_handOf : ByteArray := prog_21_method_13_code
def yX20_handOf : MethodName := ⟨RX20, "handOf", "([I)I"⟩
def dkwX20_handOf_1 : List UInt8 := [180, 0, 27, 184, 0, 90, 182, 0, 93, 172]
abbrev dktX20_handOf_1 : List UInt8 := dkwX20_handOf_1 ++ []
def dkwX20_handOf_0 : List UInt8 := [42, 180, 0, 48, 153, 0, 15, 42, 43, 42, 180, 0, 27, 182, 0, 86, 167, 0, 15, 42, 43, 42]
abbrev dktX20_handOf_0 : List UInt8 := dkwX20_handOf_0 ++ dktX20_handOf_1
theorem dksX20_handOf_0 : cX20_handOf.data.toList.drop 0 = dktX20_handOf_0 := by decide +kernel
theorem dksX20_handOf_1 : cX20_handOf.data.toList.drop 22 = dktX20_handOf_1 := dk_seg dksX20_handOf_0 22 rfl rfl
theorem dX20_handOf_0 : decode cX20_handOf 0 = .ok (.aload_n 0, 1) := dk_42 (dk_at dksX20_handOf_0 0 rfl rfl)
theorem dX20_handOf_1 : decode cX20_handOf 1 = .ok (.getfield 48, 3) := dk_180 0 48 (dk_at dksX20_handOf_0 1 rfl rfl)
theorem dX20_handOf_4 : decode cX20_handOf 4 = .ok (.ifCond .eq 15, 3) := dk_153 0 15 (dk_at dksX20_handOf_0 4 rfl rfl)
theorem dX20_handOf_7 : decode cX20_handOf 7 = .ok (.aload_n 0, 1) := dk_42 (dk_at dksX20_handOf_0 7 rfl rfl)
theorem dX20_handOf_8 : decode cX20_handOf 8 = .ok (.aload_n 1, 1) := dk_43 (dk_at dksX20_handOf_0 8 rfl rfl)
theorem dX20_handOf_9 : decode cX20_handOf 9 = .ok (.aload_n 0, 1) := dk_42 (dk_at dksX20_handOf_0 9 rfl rfl)
theorem dX20_handOf_10 : decode cX20_handOf 10 = .ok (.getfield 27, 3) := dk_180 0 27 (dk_at dksX20_handOf_0 10 rfl rfl)
theorem dX20_handOf_13 : decode cX20_handOf 13 = .ok (.invokevirtual 86, 3) := dk_182 0 86 (dk_at dksX20_handOf_0 13 rfl rfl)
theorem dX20_handOf_16 : decode cX20_handOf 16 = .ok (.goto 15, 3) := dk_167 0 15 (dk_at dksX20_handOf_0 16 rfl rfl)
theorem dX20_handOf_19 : decode cX20_handOf 19 = .ok (.aload_n 0, 1) := dk_42 (dk_at dksX20_handOf_0 19 rfl rfl)
theorem dX20_handOf_20 : decode cX20_handOf 20 = .ok (.aload_n 1, 1) := dk_43 (dk_at dksX20_handOf_0 20 rfl rfl)
theorem dX20_handOf_21 : decode cX20_handOf 21 = .ok (.aload_n 0, 1) := dk_42 (dk_at dksX20_handOf_0 21 rfl rfl)
theorem dX20_handOf_22 : decode cX20_handOf 22 = .ok (.getfield 27, 3) := dk_180 0 27 (dk_at dksX20_handOf_1 0 rfl rfl)
theorem dX20_handOf_25 : decode cX20_handOf 25 = .ok (.invokestatic 90, 3) := dk_184 0 90 (dk_at dksX20_handOf_1 3 rfl rfl)
theorem dX20_handOf_28 : decode cX20_handOf 28 = .ok (.invokevirtual 93, 3) := dk_182 0 93 (dk_at dksX20_handOf_1 6 rfl rfl)
theorem dX20_handOf_31 : decode cX20_handOf 31 = .ok (.ireturn, 1) := dk_172 (dk_at dksX20_handOf_1 9 rfl rfl)
abbrev cX20_setOf : ByteArray := prog_21_method_12_code
def yX20_setOf : MethodName := ⟨RX20, "setOf", "([II)I"⟩
def dkwX20_setOf_1 : List UInt8 := [172]
abbrev dktX20_setOf_1 : List UInt8 := dkwX20_setOf_1 ++ []
def dkwX20_setOf_0 : List UInt8 := [3, 61, 3, 62, 29, 27, 162, 0, 17, 28, 4, 42, 29, 46, 120, 128, 61, 132, 3, 1, 167, 255, 240, 28]
abbrev dktX20_setOf_0 : List UInt8 := dkwX20_setOf_0 ++ dktX20_setOf_1
theorem dksX20_setOf_0 : cX20_setOf.data.toList.drop 0 = dktX20_setOf_0 := by decide +kernel
theorem dksX20_setOf_1 : cX20_setOf.data.toList.drop 24 = dktX20_setOf_1 := dk_seg dksX20_setOf_0 24 rfl rfl
theorem dX20_setOf_0 : decode cX20_setOf 0 = .ok (.iconst 0, 1) := dk_3 (dk_at dksX20_setOf_0 0 rfl rfl)
theorem dX20_setOf_1 : decode cX20_setOf 1 = .ok (.istore_n 2, 1) := dk_61 (dk_at dksX20_setOf_0 1 rfl rfl)
theorem dX20_setOf_2 : decode cX20_setOf 2 = .ok (.iconst 0, 1) := dk_3 (dk_at dksX20_setOf_0 2 rfl rfl)
theorem dX20_setOf_3 : decode cX20_setOf 3 = .ok (.istore_n 3, 1) := dk_62 (dk_at dksX20_setOf_0 3 rfl rfl)
theorem dX20_setOf_4 : decode cX20_setOf 4 = .ok (.iload_n 3, 1) := dk_29 (dk_at dksX20_setOf_0 4 rfl rfl)
theorem dX20_setOf_5 : decode cX20_setOf 5 = .ok (.iload_n 1, 1) := dk_27 (dk_at dksX20_setOf_0 5 rfl rfl)
theorem dX20_setOf_6 : decode cX20_setOf 6 = .ok (.if_icmp .ge 17, 3) := dk_162 0 17 (dk_at dksX20_setOf_0 6 rfl rfl)
theorem dX20_setOf_9 : decode cX20_setOf 9 = .ok (.iload_n 2, 1) := dk_28 (dk_at dksX20_setOf_0 9 rfl rfl)
theorem dX20_setOf_10 : decode cX20_setOf 10 = .ok (.iconst 1, 1) := dk_4 (dk_at dksX20_setOf_0 10 rfl rfl)
theorem dX20_setOf_11 : decode cX20_setOf 11 = .ok (.aload_n 0, 1) := dk_42 (dk_at dksX20_setOf_0 11 rfl rfl)
theorem dX20_setOf_12 : decode cX20_setOf 12 = .ok (.iload_n 3, 1) := dk_29 (dk_at dksX20_setOf_0 12 rfl rfl)
theorem dX20_setOf_13 : decode cX20_setOf 13 = .ok (.iaload, 1) := dk_46 (dk_at dksX20_setOf_0 13 rfl rfl)
theorem dX20_setOf_14 : decode cX20_setOf 14 = .ok (.ishl, 1) := dk_120 (dk_at dksX20_setOf_0 14 rfl rfl)
theorem dX20_setOf_15 : decode cX20_setOf 15 = .ok (.ior, 1) := dk_128 (dk_at dksX20_setOf_0 15 rfl rfl)
theorem dX20_setOf_16 : decode cX20_setOf 16 = .ok (.istore_n 2, 1) := dk_61 (dk_at dksX20_setOf_0 16 rfl rfl)
theorem dX20_setOf_17 : decode cX20_setOf 17 = .ok (.iinc 3 1, 3) := dk_132 3 1 (dk_at dksX20_setOf_0 17 rfl rfl)
theorem dX20_setOf_20 : decode cX20_setOf 20 = .ok (.goto (-16), 3) := dk_167 255 240 (dk_at dksX20_setOf_0 20 rfl rfl)
theorem dX20_setOf_23 : decode cX20_setOf 23 = .ok (.iload_n 2, 1) := dk_28 (dk_at dksX20_setOf_0 23 rfl rfl)
theorem dX20_setOf_24 : decode cX20_setOf 24 = .ok (.ireturn, 1) := dk_172 (dk_at dksX20_setOf_1 0 rfl rfl)
abbrev cX20_ranks : ByteArray := prog_21_method_3_code
def yX20_ranks : MethodName := ⟨RX20, "ranks", "()I"⟩
def dkwX20_ranks_0 : List UInt8 := [42, 180, 0, 34, 42, 180, 0, 37, 108, 172]
abbrev dktX20_ranks_0 : List UInt8 := dkwX20_ranks_0 ++ []
theorem dksX20_ranks_0 : cX20_ranks.data.toList.drop 0 = dktX20_ranks_0 := by decide +kernel
theorem dX20_ranks_0 : decode cX20_ranks 0 = .ok (.aload_n 0, 1) := dk_42 (dk_at dksX20_ranks_0 0 rfl rfl)
theorem dX20_ranks_1 : decode cX20_ranks 1 = .ok (.getfield 34, 3) := dk_180 0 34 (dk_at dksX20_ranks_0 1 rfl rfl)
theorem dX20_ranks_4 : decode cX20_ranks 4 = .ok (.aload_n 0, 1) := dk_42 (dk_at dksX20_ranks_0 4 rfl rfl)
theorem dX20_ranks_5 : decode cX20_ranks 5 = .ok (.getfield 37, 3) := dk_180 0 37 (dk_at dksX20_ranks_0 5 rfl rfl)
theorem dX20_ranks_8 : decode cX20_ranks 8 = .ok (.idiv, 1) := dk_108 (dk_at dksX20_ranks_0 8 rfl rfl)
theorem dX20_ranks_9 : decode cX20_ranks 9 = .ok (.ireturn, 1) := dk_172 (dk_at dksX20_ranks_0 9 rfl rfl)
abbrev cX20_rowsOf : ByteArray := prog_21_method_6_code
def yX20_rowsOf : MethodName := ⟨RX20, "rowsOf", "(I)J"⟩
def dkwX20_rowsOf_1 : List UInt8 := [167, 0, 4, 4, 133, 109, 42, 182, 0, 62, 133, 105, 173]
abbrev dktX20_rowsOf_1 : List UInt8 := dkwX20_rowsOf_1 ++ []
def dkwX20_rowsOf_0 : List UInt8 := [27, 42, 182, 0, 44, 184, 0, 51, 42, 180, 0, 59, 153, 0, 13, 42, 182, 0, 44, 184, 0, 55]
abbrev dktX20_rowsOf_0 : List UInt8 := dkwX20_rowsOf_0 ++ dktX20_rowsOf_1
theorem dksX20_rowsOf_0 : cX20_rowsOf.data.toList.drop 0 = dktX20_rowsOf_0 := by decide +kernel
theorem dksX20_rowsOf_1 : cX20_rowsOf.data.toList.drop 22 = dktX20_rowsOf_1 := dk_seg dksX20_rowsOf_0 22 rfl rfl
theorem dX20_rowsOf_0 : decode cX20_rowsOf 0 = .ok (.iload_n 1, 1) := dk_27 (dk_at dksX20_rowsOf_0 0 rfl rfl)
theorem dX20_rowsOf_1 : decode cX20_rowsOf 1 = .ok (.aload_n 0, 1) := dk_42 (dk_at dksX20_rowsOf_0 1 rfl rfl)
theorem dX20_rowsOf_2 : decode cX20_rowsOf 2 = .ok (.invokevirtual 44, 3) := dk_182 0 44 (dk_at dksX20_rowsOf_0 2 rfl rfl)
theorem dX20_rowsOf_5 : decode cX20_rowsOf 5 = .ok (.invokestatic 51, 3) := dk_184 0 51 (dk_at dksX20_rowsOf_0 5 rfl rfl)
theorem dX20_rowsOf_8 : decode cX20_rowsOf 8 = .ok (.aload_n 0, 1) := dk_42 (dk_at dksX20_rowsOf_0 8 rfl rfl)
theorem dX20_rowsOf_9 : decode cX20_rowsOf 9 = .ok (.getfield 59, 3) := dk_180 0 59 (dk_at dksX20_rowsOf_0 9 rfl rfl)
theorem dX20_rowsOf_12 : decode cX20_rowsOf 12 = .ok (.ifCond .eq 13, 3) := dk_153 0 13 (dk_at dksX20_rowsOf_0 12 rfl rfl)
theorem dX20_rowsOf_15 : decode cX20_rowsOf 15 = .ok (.aload_n 0, 1) := dk_42 (dk_at dksX20_rowsOf_0 15 rfl rfl)
theorem dX20_rowsOf_16 : decode cX20_rowsOf 16 = .ok (.invokevirtual 44, 3) := dk_182 0 44 (dk_at dksX20_rowsOf_0 16 rfl rfl)
theorem dX20_rowsOf_19 : decode cX20_rowsOf 19 = .ok (.invokestatic 55, 3) := dk_184 0 55 (dk_at dksX20_rowsOf_0 19 rfl rfl)
theorem dX20_rowsOf_22 : decode cX20_rowsOf 22 = .ok (.goto 4, 3) := dk_167 0 4 (dk_at dksX20_rowsOf_1 0 rfl rfl)
theorem dX20_rowsOf_25 : decode cX20_rowsOf 25 = .ok (.iconst 1, 1) := dk_4 (dk_at dksX20_rowsOf_1 3 rfl rfl)
theorem dX20_rowsOf_26 : decode cX20_rowsOf 26 = .ok (.i2l, 1) := dk_133 (dk_at dksX20_rowsOf_1 4 rfl rfl)
theorem dX20_rowsOf_27 : decode cX20_rowsOf 27 = .ok (.ldiv, 1) := dk_109 (dk_at dksX20_rowsOf_1 5 rfl rfl)
theorem dX20_rowsOf_28 : decode cX20_rowsOf 28 = .ok (.aload_n 0, 1) := dk_42 (dk_at dksX20_rowsOf_1 6 rfl rfl)
theorem dX20_rowsOf_29 : decode cX20_rowsOf 29 = .ok (.invokevirtual 62, 3) := dk_182 0 62 (dk_at dksX20_rowsOf_1 7 rfl rfl)
theorem dX20_rowsOf_32 : decode cX20_rowsOf 32 = .ok (.i2l, 1) := dk_133 (dk_at dksX20_rowsOf_1 10 rfl rfl)
theorem dX20_rowsOf_33 : decode cX20_rowsOf 33 = .ok (.lmul, 1) := dk_105 (dk_at dksX20_rowsOf_1 11 rfl rfl)
theorem dX20_rowsOf_34 : decode cX20_rowsOf 34 = .ok (.lreturn, 1) := dk_173 (dk_at dksX20_rowsOf_1 12 rfl rfl)
theorem q144 : (Jvm.Cond.initialized "FifthCard$Trick") ∈ lw_all := lw_g (lw_at lw_m1 23 rfl) rfl
theorem q447 : (Jvm.Cond.fieldLink "FifthCard$Trick" (68 : Nat) "FifthCard$Rule" "name" "Ljava/lang/String;") ∈ lw_all := lw_g (lw_at lw_m2 86 rfl) rfl
theorem q551 : (Jvm.Cond.instantiable "FifthCard$Trick" (13 : Nat)) ∈ lw_all := lw_g (lw_at lw_m2 190 rfl) rfl
theorem q553 : (Jvm.Cond.instanceMethod ({ cls := "FifthCard$Trick", name := "<init>", desc := "()V" } : Jvm.MethodName)) ∈ lw_all := lw_g (lw_at lw_m2 192 rfl) rfl
theorem q554 : (Jvm.Cond.code ({ cls := "FifthCard$Trick", name := "<init>", desc := "()V" } : Jvm.MethodName) prog_21_method_1_code (1 : Nat) (Option.none : Option Jvm.ClassFile.FieldType)) ∈ lw_all := lw_g (lw_at lw_m2 193 rfl) rfl
theorem q555 : (Jvm.Cond.methodLink "FifthCard$Trick" (3 : Nat) ({ cls := "java/lang/Object", name := "<init>", desc := "()V" } : Jvm.MethodName)) ∈ lw_all := lw_g (lw_at lw_m2 194 rfl) rfl
theorem q556 : (Jvm.Cond.classLink "FifthCard$Trick" (9 : Nat) "FifthCard$Rule") ∈ lw_all := lw_g (lw_at lw_m2 195 rfl) rfl
theorem q557 : (Jvm.Cond.fieldLink "FifthCard$Trick" (11 : Nat) "FifthCard$Trick" "rules" "[LFifthCard$Rule;") ∈ lw_all := lw_g (lw_at lw_m2 196 rfl) rfl
theorem q560 : (Jvm.Cond.fieldLink "FifthCard$Trick" (17 : Nat) "FifthCard$Trick" "evenings" "[I") ∈ lw_all := lw_g (lw_at lw_m2 199 rfl) rfl
theorem q563 : (Jvm.Cond.fieldLink "FifthCard$Trick" (21 : Nat) "FifthCard$Trick" "shown" "[I") ∈ lw_all := lw_g (lw_at lw_m2 202 rfl) rfl
theorem q569 : (Jvm.Cond.fieldLink "FifthCard$Trick" (34 : Nat) "FifthCard$Trick" "cards" "I") ∈ lw_all := lw_g (lw_at lw_m2 208 rfl) rfl
theorem q573 : (Jvm.Cond.fieldLink "FifthCard$Trick" (37 : Nat) "FifthCard$Trick" "suits" "I") ∈ lw_all := lw_g (lw_at lw_m2 212 rfl) rfl
theorem q576 : (Jvm.Cond.fieldLink "FifthCard$Trick" (27 : Nat) "FifthCard$Trick" "hand" "I") ∈ lw_all := lw_g (lw_at lw_m2 215 rfl) rfl
theorem q586 : (Jvm.Cond.fieldLink "FifthCard$Trick" (31 : Nat) "FifthCard$Trick" "kept" "I") ∈ lw_all := lw_g (lw_at lw_m2 225 rfl) rfl
theorem q592 : (Jvm.Cond.fieldLink "FifthCard$Trick" (65 : Nat) "FifthCard$Trick" "ruleMany" "I") ∈ lw_all := lw_g (lw_at lw_m2 231 rfl) rfl
theorem q600 : (Jvm.Cond.fieldLink "FifthCard$Trick" (48 : Nat) "FifthCard$Trick" "stranger" "Z") ∈ lw_all := lw_g (lw_at lw_m2 239 rfl) rfl
theorem q606 : (Jvm.Cond.fieldLink "FifthCard$Trick" (59 : Nat) "FifthCard$Trick" "held" "Z") ∈ lw_all := lw_g (lw_at lw_m3 5 rfl) rfl
theorem q609 : (Jvm.Cond.fieldLink "FifthCard$Trick" (40 : Nat) "FifthCard$Trick" "tilts" "Z") ∈ lw_all := lw_g (lw_at lw_m3 8 rfl) rfl
theorem q612 : (Jvm.Cond.fieldLink "FifthCard$Trick" (24 : Nat) "FifthCard$Trick" "digits" "[I") ∈ lw_all := lw_g (lw_at lw_m3 11 rfl) rfl
theorem q613 : (Jvm.Cond.laysFinal "FifthCard$Trick" "FifthCard$Trick" "rules" "[LFifthCard$Rule;") ∈ lw_all := lw_g (lw_at lw_m3 12 rfl) rfl
theorem q614 : (Jvm.Cond.soleField "FifthCard$Trick" "rules") ∈ lw_all := lw_g (lw_at lw_m3 13 rfl) rfl
theorem q615 : (Jvm.Cond.laysFinal "FifthCard$Trick" "FifthCard$Trick" "evenings" "[I") ∈ lw_all := lw_g (lw_at lw_m3 14 rfl) rfl
theorem q616 : (Jvm.Cond.soleField "FifthCard$Trick" "evenings") ∈ lw_all := lw_g (lw_at lw_m3 15 rfl) rfl
theorem q617 : (Jvm.Cond.laysFinal "FifthCard$Trick" "FifthCard$Trick" "shown" "[I") ∈ lw_all := lw_g (lw_at lw_m3 16 rfl) rfl
theorem q618 : (Jvm.Cond.soleField "FifthCard$Trick" "shown") ∈ lw_all := lw_g (lw_at lw_m3 17 rfl) rfl
theorem q619 : (Jvm.Cond.lays "FifthCard$Trick" "FifthCard$Trick" "cards" "I") ∈ lw_all := lw_g (lw_at lw_m3 18 rfl) rfl
theorem q620 : (Jvm.Cond.soleField "FifthCard$Trick" "cards") ∈ lw_all := lw_g (lw_at lw_m3 19 rfl) rfl
theorem q621 : (Jvm.Cond.lays "FifthCard$Trick" "FifthCard$Trick" "suits" "I") ∈ lw_all := lw_g (lw_at lw_m3 20 rfl) rfl
theorem q622 : (Jvm.Cond.soleField "FifthCard$Trick" "suits") ∈ lw_all := lw_g (lw_at lw_m3 21 rfl) rfl
theorem q623 : (Jvm.Cond.lays "FifthCard$Trick" "FifthCard$Trick" "hand" "I") ∈ lw_all := lw_g (lw_at lw_m3 22 rfl) rfl
theorem q624 : (Jvm.Cond.soleField "FifthCard$Trick" "hand") ∈ lw_all := lw_g (lw_at lw_m3 23 rfl) rfl
theorem q625 : (Jvm.Cond.lays "FifthCard$Trick" "FifthCard$Trick" "kept" "I") ∈ lw_all := lw_g (lw_at lw_m3 24 rfl) rfl
theorem q626 : (Jvm.Cond.soleField "FifthCard$Trick" "kept") ∈ lw_all := lw_g (lw_at lw_m3 25 rfl) rfl
theorem q627 : (Jvm.Cond.lays "FifthCard$Trick" "FifthCard$Trick" "ruleMany" "I") ∈ lw_all := lw_g (lw_at lw_m3 26 rfl) rfl
theorem q628 : (Jvm.Cond.soleField "FifthCard$Trick" "ruleMany") ∈ lw_all := lw_g (lw_at lw_m3 27 rfl) rfl
theorem q629 : (Jvm.Cond.lays "FifthCard$Trick" "FifthCard$Trick" "eveningMany" "I") ∈ lw_all := lw_g (lw_at lw_m3 28 rfl) rfl
theorem q630 : (Jvm.Cond.soleField "FifthCard$Trick" "eveningMany") ∈ lw_all := lw_g (lw_at lw_m3 29 rfl) rfl
theorem q631 : (Jvm.Cond.lays "FifthCard$Trick" "FifthCard$Trick" "stranger" "Z") ∈ lw_all := lw_g (lw_at lw_m3 30 rfl) rfl
theorem q632 : (Jvm.Cond.soleField "FifthCard$Trick" "stranger") ∈ lw_all := lw_g (lw_at lw_m3 31 rfl) rfl
theorem q633 : (Jvm.Cond.lays "FifthCard$Trick" "FifthCard$Trick" "held" "Z") ∈ lw_all := lw_g (lw_at lw_m3 32 rfl) rfl
theorem q634 : (Jvm.Cond.soleField "FifthCard$Trick" "held") ∈ lw_all := lw_g (lw_at lw_m3 33 rfl) rfl
theorem q635 : (Jvm.Cond.lays "FifthCard$Trick" "FifthCard$Trick" "tilts" "Z") ∈ lw_all := lw_g (lw_at lw_m3 34 rfl) rfl
theorem q636 : (Jvm.Cond.soleField "FifthCard$Trick" "tilts") ∈ lw_all := lw_g (lw_at lw_m3 35 rfl) rfl
theorem q637 : (Jvm.Cond.laysFinal "FifthCard$Trick" "FifthCard$Trick" "digits" "[I") ∈ lw_all := lw_g (lw_at lw_m3 36 rfl) rfl
theorem q638 : (Jvm.Cond.soleField "FifthCard$Trick" "digits") ∈ lw_all := lw_g (lw_at lw_m3 37 rfl) rfl
theorem q639 : (Jvm.Cond.superclass "FifthCard$Trick" "java/lang/Object") ∈ lw_all := lw_g (lw_at lw_m3 38 rfl) rfl
theorem q844 : (Jvm.Cond.instanceMethod ({ cls := "FifthCard$Trick", name := "hands", desc := "(I)J" } : Jvm.MethodName)) ∈ lw_all := lw_g (lw_at lw_m4 3 rfl) rfl
theorem q845 : (Jvm.Cond.selects "FifthCard$Trick" ({ cls := "FifthCard$Trick", name := "hands", desc := "(I)J" } : Jvm.MethodName) ({ cls := "FifthCard$Trick", name := "hands", desc := "(I)J" } : Jvm.MethodName)) ∈ lw_all := lw_g (lw_at lw_m4 4 rfl) rfl
theorem q846 : (Jvm.Cond.code ({ cls := "FifthCard$Trick", name := "hands", desc := "(I)J" } : Jvm.MethodName) prog_21_method_5_code (2 : Nat) (Option.some Jvm.ClassFile.FieldType.long)) ∈ lw_all := lw_g (lw_at lw_m4 5 rfl) rfl
theorem q847 : (Jvm.Cond.methodLinkNest "FifthCard$Trick" (51 : Nat) ({ cls := "FifthCard", name := "falling", desc := "(II)J" } : Jvm.MethodName) "FifthCard") ∈ lw_tbl := lw_at lw_m4 6 rfl
theorem q850 : (Jvm.Cond.methodLinkNest "FifthCard$Trick" (55 : Nat) ({ cls := "FifthCard", name := "factorial", desc := "(I)I" } : Jvm.MethodName) "FifthCard") ∈ lw_tbl := lw_at lw_m4 9 rfl
theorem q872 : (Jvm.Cond.instanceMethod ({ cls := "FifthCard$Trick", name := "isTold", desc := "(Ljava/lang/String;)Z" } : Jvm.MethodName)) ∈ lw_all := lw_g (lw_at lw_m4 31 rfl) rfl
theorem q873 : (Jvm.Cond.selects "FifthCard$Trick" ({ cls := "FifthCard$Trick", name := "isTold", desc := "(Ljava/lang/String;)Z" } : Jvm.MethodName) ({ cls := "FifthCard$Trick", name := "isTold", desc := "(Ljava/lang/String;)Z" } : Jvm.MethodName)) ∈ lw_all := lw_g (lw_at lw_m4 32 rfl) rfl
theorem q874 : (Jvm.Cond.code ({ cls := "FifthCard$Trick", name := "isTold", desc := "(Ljava/lang/String;)Z" } : Jvm.MethodName) prog_21_method_7_code (4 : Nat) (Option.some Jvm.ClassFile.FieldType.boolean)) ∈ lw_all := lw_g (lw_at lw_m4 33 rfl) rfl
theorem q875 : (Jvm.Cond.methodLink "FifthCard$Trick" (72 : Nat) ({ cls := "java/lang/String", name := "equals", desc := "(Ljava/lang/Object;)Z" } : Jvm.MethodName)) ∈ lw_all := lw_g (lw_at lw_m4 34 rfl) rfl
theorem q941 : (Jvm.Cond.instanceMethod ({ cls := "FifthCard$Trick", name := "rank", desc := "([II)I" } : Jvm.MethodName)) ∈ lw_all := lw_g (lw_at lw_m4 100 rfl) rfl
theorem q942 : (Jvm.Cond.selects "FifthCard$Trick" ({ cls := "FifthCard$Trick", name := "rank", desc := "([II)I" } : Jvm.MethodName) ({ cls := "FifthCard$Trick", name := "rank", desc := "([II)I" } : Jvm.MethodName)) ∈ lw_all := lw_g (lw_at lw_m4 101 rfl) rfl
theorem q943 : (Jvm.Cond.code ({ cls := "FifthCard$Trick", name := "rank", desc := "([II)I" } : Jvm.MethodName) prog_21_method_8_code (8 : Nat) (Option.some Jvm.ClassFile.FieldType.int)) ∈ lw_all := lw_g (lw_at lw_m4 102 rfl) rfl
theorem q944 : (Jvm.Cond.methodLinkNest "FifthCard$Trick" (78 : Nat) ({ cls := "FifthCard", name := "has", desc := "(II)Z" } : Jvm.MethodName) "FifthCard") ∈ lw_tbl := lw_at lw_m4 103 rfl
theorem q946 : (Jvm.Cond.instanceMethod ({ cls := "FifthCard$Trick", name := "rankSet", desc := "(I)I" } : Jvm.MethodName)) ∈ lw_all := lw_g (lw_at lw_m4 105 rfl) rfl
theorem q947 : (Jvm.Cond.selects "FifthCard$Trick" ({ cls := "FifthCard$Trick", name := "rankSet", desc := "(I)I" } : Jvm.MethodName) ({ cls := "FifthCard$Trick", name := "rankSet", desc := "(I)I" } : Jvm.MethodName)) ∈ lw_all := lw_g (lw_at lw_m4 106 rfl) rfl
theorem q948 : (Jvm.Cond.code ({ cls := "FifthCard$Trick", name := "rankSet", desc := "(I)I" } : Jvm.MethodName) prog_21_method_10_code (5 : Nat) (Option.some Jvm.ClassFile.FieldType.int)) ∈ lw_all := lw_g (lw_at lw_m4 107 rfl) rfl
theorem q950 : (Jvm.Cond.instanceMethod ({ cls := "FifthCard$Trick", name := "rows", desc := "()I" } : Jvm.MethodName)) ∈ lw_all := lw_g (lw_at lw_m4 109 rfl) rfl
theorem q951 : (Jvm.Cond.selects "FifthCard$Trick" ({ cls := "FifthCard$Trick", name := "rows", desc := "()I" } : Jvm.MethodName) ({ cls := "FifthCard$Trick", name := "rows", desc := "()I" } : Jvm.MethodName)) ∈ lw_all := lw_g (lw_at lw_m4 110 rfl) rfl
theorem q952 : (Jvm.Cond.code ({ cls := "FifthCard$Trick", name := "rows", desc := "()I" } : Jvm.MethodName) prog_21_method_2_code (1 : Nat) (Option.some Jvm.ClassFile.FieldType.int)) ∈ lw_all := lw_g (lw_at lw_m4 111 rfl) rfl
theorem q954 : (Jvm.Cond.instanceMethod ({ cls := "FifthCard$Trick", name := "tiltings", desc := "()I" } : Jvm.MethodName)) ∈ lw_all := lw_g (lw_at lw_m4 113 rfl) rfl
theorem q955 : (Jvm.Cond.selects "FifthCard$Trick" ({ cls := "FifthCard$Trick", name := "tiltings", desc := "()I" } : Jvm.MethodName) ({ cls := "FifthCard$Trick", name := "tiltings", desc := "()I" } : Jvm.MethodName)) ∈ lw_all := lw_g (lw_at lw_m4 114 rfl) rfl
theorem q956 : (Jvm.Cond.code ({ cls := "FifthCard$Trick", name := "tiltings", desc := "()I" } : Jvm.MethodName) prog_21_method_4_code (1 : Nat) (Option.some Jvm.ClassFile.FieldType.int)) ∈ lw_all := lw_g (lw_at lw_m4 115 rfl) rfl
theorem q957 : (Jvm.Cond.methodLink "FifthCard$Trick" (44 : Nat) ({ cls := "FifthCard$Trick", name := "rows", desc := "()I" } : Jvm.MethodName)) ∈ lw_all := lw_g (lw_at lw_m4 116 rfl) rfl
theorem q969 : (Jvm.Cond.instanceMethod ({ cls := "FifthCard$Trick", name := "layHand", desc := "(I[I)V" } : Jvm.MethodName)) ∈ lw_all := lw_g (lw_at lw_m4 128 rfl) rfl
theorem q970 : (Jvm.Cond.selects "FifthCard$Trick" ({ cls := "FifthCard$Trick", name := "layHand", desc := "(I[I)V" } : Jvm.MethodName) ({ cls := "FifthCard$Trick", name := "layHand", desc := "(I[I)V" } : Jvm.MethodName)) ∈ lw_all := lw_g (lw_at lw_m4 129 rfl) rfl
theorem q971 : (Jvm.Cond.code ({ cls := "FifthCard$Trick", name := "layHand", desc := "(I[I)V" } : Jvm.MethodName) prog_21_method_11_code (7 : Nat) (Option.none : Option Jvm.ClassFile.FieldType)) ∈ lw_all := lw_g (lw_at lw_m4 130 rfl) rfl
theorem q972 : (Jvm.Cond.methodLink "FifthCard$Trick" (82 : Nat) ({ cls := "FifthCard$Trick", name := "unrank", desc := "(II[I)V" } : Jvm.MethodName)) ∈ lw_all := lw_g (lw_at lw_m4 131 rfl) rfl
theorem q973 : (Jvm.Cond.instanceMethod ({ cls := "FifthCard$Trick", name := "unrank", desc := "(II[I)V" } : Jvm.MethodName)) ∈ lw_all := lw_g (lw_at lw_m4 132 rfl) rfl
theorem q974 : (Jvm.Cond.selects "FifthCard$Trick" ({ cls := "FifthCard$Trick", name := "unrank", desc := "(II[I)V" } : Jvm.MethodName) ({ cls := "FifthCard$Trick", name := "unrank", desc := "(II[I)V" } : Jvm.MethodName)) ∈ lw_all := lw_g (lw_at lw_m4 133 rfl) rfl
theorem q975 : (Jvm.Cond.code ({ cls := "FifthCard$Trick", name := "unrank", desc := "(II[I)V" } : Jvm.MethodName) prog_21_method_9_code (10 : Nat) (Option.none : Option Jvm.ClassFile.FieldType)) ∈ lw_all := lw_g (lw_at lw_m4 134 rfl) rfl
theorem q1033 : (Jvm.Cond.instanceMethod ({ cls := "FifthCard$Trick", name := "handOf", desc := "([I)I" } : Jvm.MethodName)) ∈ lw_all := lw_g (lw_at lw_m4 192 rfl) rfl
theorem q1034 : (Jvm.Cond.selects "FifthCard$Trick" ({ cls := "FifthCard$Trick", name := "handOf", desc := "([I)I" } : Jvm.MethodName) ({ cls := "FifthCard$Trick", name := "handOf", desc := "([I)I" } : Jvm.MethodName)) ∈ lw_all := lw_g (lw_at lw_m4 193 rfl) rfl
theorem q1035 : (Jvm.Cond.code ({ cls := "FifthCard$Trick", name := "handOf", desc := "([I)I" } : Jvm.MethodName) prog_21_method_13_code (2 : Nat) (Option.some Jvm.ClassFile.FieldType.int)) ∈ lw_all := lw_g (lw_at lw_m4 194 rfl) rfl
theorem q1036 : (Jvm.Cond.methodLink "FifthCard$Trick" (86 : Nat) ({ cls := "FifthCard$Trick", name := "rank", desc := "([II)I" } : Jvm.MethodName)) ∈ lw_all := lw_g (lw_at lw_m4 195 rfl) rfl
theorem q1037 : (Jvm.Cond.methodLink "FifthCard$Trick" (90 : Nat) ({ cls := "FifthCard$Trick", name := "setOf", desc := "([II)I" } : Jvm.MethodName)) ∈ lw_all := lw_g (lw_at lw_m4 196 rfl) rfl
theorem q1038 : (Jvm.Cond.static ({ cls := "FifthCard$Trick", name := "setOf", desc := "([II)I" } : Jvm.MethodName)) ∈ lw_all := lw_g (lw_at lw_m4 197 rfl) rfl
theorem q1039 : (Jvm.Cond.code ({ cls := "FifthCard$Trick", name := "setOf", desc := "([II)I" } : Jvm.MethodName) prog_21_method_12_code (4 : Nat) (Option.some Jvm.ClassFile.FieldType.int)) ∈ lw_all := lw_g (lw_at lw_m4 198 rfl) rfl
theorem q1040 : (Jvm.Cond.methodLink "FifthCard$Trick" (93 : Nat) ({ cls := "FifthCard$Trick", name := "rankSet", desc := "(I)I" } : Jvm.MethodName)) ∈ lw_all := lw_g (lw_at lw_m4 199 rfl) rfl
theorem q1160 : (Jvm.Cond.instanceMethod ({ cls := "FifthCard$Trick", name := "ranks", desc := "()I" } : Jvm.MethodName)) ∈ lw_all := lw_g (lw_at lw_m5 79 rfl) rfl
theorem q1161 : (Jvm.Cond.selects "FifthCard$Trick" ({ cls := "FifthCard$Trick", name := "ranks", desc := "()I" } : Jvm.MethodName) ({ cls := "FifthCard$Trick", name := "ranks", desc := "()I" } : Jvm.MethodName)) ∈ lw_all := lw_g (lw_at lw_m5 80 rfl) rfl
theorem q1162 : (Jvm.Cond.code ({ cls := "FifthCard$Trick", name := "ranks", desc := "()I" } : Jvm.MethodName) prog_21_method_3_code (1 : Nat) (Option.some Jvm.ClassFile.FieldType.int)) ∈ lw_all := lw_g (lw_at lw_m5 81 rfl) rfl
theorem q1286 : (Jvm.Cond.instanceMethod ({ cls := "FifthCard$Trick", name := "rowsOf", desc := "(I)J" } : Jvm.MethodName)) ∈ lw_all := lw_g (lw_at lw_m5 205 rfl) rfl
theorem q1287 : (Jvm.Cond.selects "FifthCard$Trick" ({ cls := "FifthCard$Trick", name := "rowsOf", desc := "(I)J" } : Jvm.MethodName) ({ cls := "FifthCard$Trick", name := "rowsOf", desc := "(I)J" } : Jvm.MethodName)) ∈ lw_all := lw_g (lw_at lw_m5 206 rfl) rfl
theorem q1288 : (Jvm.Cond.code ({ cls := "FifthCard$Trick", name := "rowsOf", desc := "(I)J" } : Jvm.MethodName) prog_21_method_6_code (2 : Nat) (Option.some Jvm.ClassFile.FieldType.long)) ∈ lw_all := lw_g (lw_at lw_m5 207 rfl) rfl
theorem q1289 : (Jvm.Cond.methodLink "FifthCard$Trick" (62 : Nat) ({ cls := "FifthCard$Trick", name := "tiltings", desc := "()I" } : Jvm.MethodName)) ∈ lw_all := lw_g (lw_at lw_m5 208 rfl) rfl
theorem q2241 : (Jvm.Cond.castable "FifthCard$Trick" "java/lang/Object") ∈ lw_tbl := lw_at lw_m9 200 rfl
theorem in_X20 : ∀ w ∈ wsX200, w ∈ lw_all := lw_in wsX200 [613, 615, 617, 619, 621, 623, 625, 627, 629, 631, 633, 635, 637] (by decide +kernel) (by decide +kernel)
/-! FifthCard$Suited -/
set_option maxRecDepth 100000
def RX21 : String := "FifthCard$Suited"
def TX21 : u_T := fun k => match k with
  | 0 => ("FifthCard$Rule", "name", "Ljava/lang/String;", true)
  | 1 => ("FifthCard$Rule", "number", "I", true)
  | 2 => ("FifthCard$Rule", "rows", "[I", true)
  | 3 => ("FifthCard$Rule", "isLaid", "Z", false)
  | 4 => ("FifthCard$Suited", "rest", "[I", true)
  | _ => ("FifthCard$Suited", "order", "[I", true)
def tyX21 : Nat → FieldType := fun k => match k with
  | 0 => .object "java/lang/String"
  | 1 => .int
  | 2 => .array .int
  | 3 => .boolean
  | 4 => .array .int
  | _ => .array .int
abbrev wsX210 : List Cond := u_ws RX21 TX21 6
theorem nmX21 : ∀ a, a < 6 → ∀ b, b < 6 → a ≠ b → (TX21 a).2.1 ≠ (TX21 b).2.1 := by decide +kernel
theorem tyX21_ok : ∀ k, k < 6 → parseFieldDescriptor (TX21 k).2.2.1 = some (tyX21 k) := by decide +kernel
abbrev cX21_init : ByteArray := prog_18_method_1_code
def yX21_init : MethodName := ⟨RX21, "<init>", "(Ljava/lang/String;I)V"⟩
def dkwX21_init_0 : List UInt8 := [42, 43, 28, 183, 0, 3, 42, 8, 188, 10, 181, 0, 9, 42, 8, 188, 10, 181, 0, 15, 177]
abbrev dktX21_init_0 : List UInt8 := dkwX21_init_0 ++ []
theorem dksX21_init_0 : cX21_init.data.toList.drop 0 = dktX21_init_0 := by decide +kernel
theorem dX21_init_0 : decode cX21_init 0 = .ok (.aload_n 0, 1) := dk_42 (dk_at dksX21_init_0 0 rfl rfl)
theorem dX21_init_1 : decode cX21_init 1 = .ok (.aload_n 1, 1) := dk_43 (dk_at dksX21_init_0 1 rfl rfl)
theorem dX21_init_2 : decode cX21_init 2 = .ok (.iload_n 2, 1) := dk_28 (dk_at dksX21_init_0 2 rfl rfl)
theorem dX21_init_3 : decode cX21_init 3 = .ok (.invokespecial 3, 3) := dk_183 0 3 (dk_at dksX21_init_0 3 rfl rfl)
theorem dX21_init_6 : decode cX21_init 6 = .ok (.aload_n 0, 1) := dk_42 (dk_at dksX21_init_0 6 rfl rfl)
theorem dX21_init_7 : decode cX21_init 7 = .ok (.iconst 5, 1) := dk_8 (dk_at dksX21_init_0 7 rfl rfl)
theorem dX21_init_8 : decode cX21_init 8 = .ok (.newarray .int, 2) := dk_188_10 (dk_at dksX21_init_0 8 rfl rfl)
theorem dX21_init_10 : decode cX21_init 10 = .ok (.putfield 9, 3) := dk_181 0 9 (dk_at dksX21_init_0 10 rfl rfl)
theorem dX21_init_13 : decode cX21_init 13 = .ok (.aload_n 0, 1) := dk_42 (dk_at dksX21_init_0 13 rfl rfl)
theorem dX21_init_14 : decode cX21_init 14 = .ok (.iconst 5, 1) := dk_8 (dk_at dksX21_init_0 14 rfl rfl)
theorem dX21_init_15 : decode cX21_init 15 = .ok (.newarray .int, 2) := dk_188_10 (dk_at dksX21_init_0 15 rfl rfl)
theorem dX21_init_17 : decode cX21_init 17 = .ok (.putfield 15, 3) := dk_181 0 15 (dk_at dksX21_init_0 17 rfl rfl)
theorem dX21_init_20 : decode cX21_init 20 = .ok (.return_, 1) := dk_177 (dk_at dksX21_init_0 20 rfl rfl)
abbrev cX21_lay : ByteArray := prog_18_method_3_code
def yX21_lay : MethodName := ⟨RX21, "lay", "([ILFifthCard$Trick;)I"⟩
def dkwX21_lay_4 : List UInt8 := [167, 255, 193, 16, 254, 172]
abbrev dktX21_lay_4 : List UInt8 := dkwX21_lay_4 ++ []
def dkwX21_lay_3 : List UInt8 := [42, 43, 43, 21, 4, 46, 43, 21, 5, 46, 44, 182, 0, 38, 172, 132, 5, 1, 167, 255, 214, 132, 4, 1]
abbrev dktX21_lay_3 : List UInt8 := dkwX21_lay_3 ++ dktX21_lay_4
def dkwX21_lay_2 : List UInt8 := [21, 5, 44, 180, 0, 35, 162, 0, 39, 43, 21, 4, 46, 29, 108, 43, 21, 5, 46, 29, 108, 160, 0, 18]
abbrev dktX21_lay_2 : List UInt8 := dkwX21_lay_2 ++ dktX21_lay_3
def dkwX21_lay_1 : List UInt8 := [172, 44, 182, 0, 31, 62, 3, 54, 4, 21, 4, 44, 180, 0, 35, 162, 0, 60, 21, 4, 4, 96, 54, 5]
abbrev dktX21_lay_1 : List UInt8 := dkwX21_lay_1 ++ dktX21_lay_2
def dkwX21_lay_0 : List UInt8 := [44, 180, 0, 18, 154, 0, 18, 44, 180, 0, 24, 154, 0, 11, 44, 180, 0, 27, 4, 159, 0, 6, 16, 254]
abbrev dktX21_lay_0 : List UInt8 := dkwX21_lay_0 ++ dktX21_lay_1
theorem dksX21_lay_0 : cX21_lay.data.toList.drop 0 = dktX21_lay_0 := by decide +kernel
theorem dksX21_lay_1 : cX21_lay.data.toList.drop 24 = dktX21_lay_1 := dk_seg dksX21_lay_0 24 rfl rfl
theorem dksX21_lay_2 : cX21_lay.data.toList.drop 48 = dktX21_lay_2 := dk_seg dksX21_lay_1 24 rfl rfl
theorem dksX21_lay_3 : cX21_lay.data.toList.drop 72 = dktX21_lay_3 := dk_seg dksX21_lay_2 24 rfl rfl
theorem dksX21_lay_4 : cX21_lay.data.toList.drop 96 = dktX21_lay_4 := dk_seg dksX21_lay_3 24 rfl rfl
theorem dX21_lay_0 : decode cX21_lay 0 = .ok (.aload_n 2, 1) := dk_44 (dk_at dksX21_lay_0 0 rfl rfl)
theorem dX21_lay_1 : decode cX21_lay 1 = .ok (.getfield 18, 3) := dk_180 0 18 (dk_at dksX21_lay_0 1 rfl rfl)
theorem dX21_lay_4 : decode cX21_lay 4 = .ok (.ifCond .ne 18, 3) := dk_154 0 18 (dk_at dksX21_lay_0 4 rfl rfl)
theorem dX21_lay_7 : decode cX21_lay 7 = .ok (.aload_n 2, 1) := dk_44 (dk_at dksX21_lay_0 7 rfl rfl)
theorem dX21_lay_8 : decode cX21_lay 8 = .ok (.getfield 24, 3) := dk_180 0 24 (dk_at dksX21_lay_0 8 rfl rfl)
theorem dX21_lay_11 : decode cX21_lay 11 = .ok (.ifCond .ne 11, 3) := dk_154 0 11 (dk_at dksX21_lay_0 11 rfl rfl)
theorem dX21_lay_14 : decode cX21_lay 14 = .ok (.aload_n 2, 1) := dk_44 (dk_at dksX21_lay_0 14 rfl rfl)
theorem dX21_lay_15 : decode cX21_lay 15 = .ok (.getfield 27, 3) := dk_180 0 27 (dk_at dksX21_lay_0 15 rfl rfl)
theorem dX21_lay_18 : decode cX21_lay 18 = .ok (.iconst 1, 1) := dk_4 (dk_at dksX21_lay_0 18 rfl rfl)
theorem dX21_lay_19 : decode cX21_lay 19 = .ok (.if_icmp .eq 6, 3) := dk_159 0 6 (dk_at dksX21_lay_0 19 rfl rfl)
theorem dX21_lay_22 : decode cX21_lay 22 = .ok (.bipush (-2), 2) := dk_16 254 (dk_at dksX21_lay_0 22 rfl rfl)
theorem dX21_lay_24 : decode cX21_lay 24 = .ok (.ireturn, 1) := dk_172 (dk_at dksX21_lay_1 0 rfl rfl)
theorem dX21_lay_25 : decode cX21_lay 25 = .ok (.aload_n 2, 1) := dk_44 (dk_at dksX21_lay_1 1 rfl rfl)
theorem dX21_lay_26 : decode cX21_lay 26 = .ok (.invokevirtual 31, 3) := dk_182 0 31 (dk_at dksX21_lay_1 2 rfl rfl)
theorem dX21_lay_29 : decode cX21_lay 29 = .ok (.istore_n 3, 1) := dk_62 (dk_at dksX21_lay_1 5 rfl rfl)
theorem dX21_lay_30 : decode cX21_lay 30 = .ok (.iconst 0, 1) := dk_3 (dk_at dksX21_lay_1 6 rfl rfl)
theorem dX21_lay_31 : decode cX21_lay 31 = .ok (.istore 4, 2) := dk_54 4 (dk_at dksX21_lay_1 7 rfl rfl)
theorem dX21_lay_33 : decode cX21_lay 33 = .ok (.iload 4, 2) := dk_21 4 (dk_at dksX21_lay_1 9 rfl rfl)
theorem dX21_lay_35 : decode cX21_lay 35 = .ok (.aload_n 2, 1) := dk_44 (dk_at dksX21_lay_1 11 rfl rfl)
theorem dX21_lay_36 : decode cX21_lay 36 = .ok (.getfield 35, 3) := dk_180 0 35 (dk_at dksX21_lay_1 12 rfl rfl)
theorem dX21_lay_39 : decode cX21_lay 39 = .ok (.if_icmp .ge 60, 3) := dk_162 0 60 (dk_at dksX21_lay_1 15 rfl rfl)
theorem dX21_lay_42 : decode cX21_lay 42 = .ok (.iload 4, 2) := dk_21 4 (dk_at dksX21_lay_1 18 rfl rfl)
theorem dX21_lay_44 : decode cX21_lay 44 = .ok (.iconst 1, 1) := dk_4 (dk_at dksX21_lay_1 20 rfl rfl)
theorem dX21_lay_45 : decode cX21_lay 45 = .ok (.iadd, 1) := dk_96 (dk_at dksX21_lay_1 21 rfl rfl)
theorem dX21_lay_46 : decode cX21_lay 46 = .ok (.istore 5, 2) := dk_54 5 (dk_at dksX21_lay_1 22 rfl rfl)
theorem dX21_lay_48 : decode cX21_lay 48 = .ok (.iload 5, 2) := dk_21 5 (dk_at dksX21_lay_2 0 rfl rfl)
theorem dX21_lay_50 : decode cX21_lay 50 = .ok (.aload_n 2, 1) := dk_44 (dk_at dksX21_lay_2 2 rfl rfl)
theorem dX21_lay_51 : decode cX21_lay 51 = .ok (.getfield 35, 3) := dk_180 0 35 (dk_at dksX21_lay_2 3 rfl rfl)
theorem dX21_lay_54 : decode cX21_lay 54 = .ok (.if_icmp .ge 39, 3) := dk_162 0 39 (dk_at dksX21_lay_2 6 rfl rfl)
theorem dX21_lay_57 : decode cX21_lay 57 = .ok (.aload_n 1, 1) := dk_43 (dk_at dksX21_lay_2 9 rfl rfl)
theorem dX21_lay_58 : decode cX21_lay 58 = .ok (.iload 4, 2) := dk_21 4 (dk_at dksX21_lay_2 10 rfl rfl)
theorem dX21_lay_60 : decode cX21_lay 60 = .ok (.iaload, 1) := dk_46 (dk_at dksX21_lay_2 12 rfl rfl)
theorem dX21_lay_61 : decode cX21_lay 61 = .ok (.iload_n 3, 1) := dk_29 (dk_at dksX21_lay_2 13 rfl rfl)
theorem dX21_lay_62 : decode cX21_lay 62 = .ok (.idiv, 1) := dk_108 (dk_at dksX21_lay_2 14 rfl rfl)
theorem dX21_lay_63 : decode cX21_lay 63 = .ok (.aload_n 1, 1) := dk_43 (dk_at dksX21_lay_2 15 rfl rfl)
theorem dX21_lay_64 : decode cX21_lay 64 = .ok (.iload 5, 2) := dk_21 5 (dk_at dksX21_lay_2 16 rfl rfl)
theorem dX21_lay_66 : decode cX21_lay 66 = .ok (.iaload, 1) := dk_46 (dk_at dksX21_lay_2 18 rfl rfl)
theorem dX21_lay_67 : decode cX21_lay 67 = .ok (.iload_n 3, 1) := dk_29 (dk_at dksX21_lay_2 19 rfl rfl)
theorem dX21_lay_68 : decode cX21_lay 68 = .ok (.idiv, 1) := dk_108 (dk_at dksX21_lay_2 20 rfl rfl)
theorem dX21_lay_69 : decode cX21_lay 69 = .ok (.if_icmp .ne 18, 3) := dk_160 0 18 (dk_at dksX21_lay_2 21 rfl rfl)
theorem dX21_lay_72 : decode cX21_lay 72 = .ok (.aload_n 0, 1) := dk_42 (dk_at dksX21_lay_3 0 rfl rfl)
theorem dX21_lay_73 : decode cX21_lay 73 = .ok (.aload_n 1, 1) := dk_43 (dk_at dksX21_lay_3 1 rfl rfl)
theorem dX21_lay_74 : decode cX21_lay 74 = .ok (.aload_n 1, 1) := dk_43 (dk_at dksX21_lay_3 2 rfl rfl)
theorem dX21_lay_75 : decode cX21_lay 75 = .ok (.iload 4, 2) := dk_21 4 (dk_at dksX21_lay_3 3 rfl rfl)
theorem dX21_lay_77 : decode cX21_lay 77 = .ok (.iaload, 1) := dk_46 (dk_at dksX21_lay_3 5 rfl rfl)
theorem dX21_lay_78 : decode cX21_lay 78 = .ok (.aload_n 1, 1) := dk_43 (dk_at dksX21_lay_3 6 rfl rfl)
theorem dX21_lay_79 : decode cX21_lay 79 = .ok (.iload 5, 2) := dk_21 5 (dk_at dksX21_lay_3 7 rfl rfl)
theorem dX21_lay_81 : decode cX21_lay 81 = .ok (.iaload, 1) := dk_46 (dk_at dksX21_lay_3 9 rfl rfl)
theorem dX21_lay_82 : decode cX21_lay 82 = .ok (.aload_n 2, 1) := dk_44 (dk_at dksX21_lay_3 10 rfl rfl)
theorem dX21_lay_83 : decode cX21_lay 83 = .ok (.invokevirtual 38, 3) := dk_182 0 38 (dk_at dksX21_lay_3 11 rfl rfl)
theorem dX21_lay_86 : decode cX21_lay 86 = .ok (.ireturn, 1) := dk_172 (dk_at dksX21_lay_3 14 rfl rfl)
theorem dX21_lay_87 : decode cX21_lay 87 = .ok (.iinc 5 1, 3) := dk_132 5 1 (dk_at dksX21_lay_3 15 rfl rfl)
theorem dX21_lay_90 : decode cX21_lay 90 = .ok (.goto (-42), 3) := dk_167 255 214 (dk_at dksX21_lay_3 18 rfl rfl)
theorem dX21_lay_93 : decode cX21_lay 93 = .ok (.iinc 4 1, 3) := dk_132 4 1 (dk_at dksX21_lay_3 21 rfl rfl)
theorem dX21_lay_96 : decode cX21_lay 96 = .ok (.goto (-63), 3) := dk_167 255 193 (dk_at dksX21_lay_4 0 rfl rfl)
theorem dX21_lay_99 : decode cX21_lay 99 = .ok (.bipush (-2), 2) := dk_16 254 (dk_at dksX21_lay_4 3 rfl rfl)
theorem dX21_lay_101 : decode cX21_lay 101 = .ok (.ireturn, 1) := dk_172 (dk_at dksX21_lay_4 5 rfl rfl)
abbrev cX21_laysBy : ByteArray := prog_18_method_4_code
def yX21_laysBy : MethodName := ⟨RX21, "laysBy", "([IIILFifthCard$Trick;)I"⟩
def dkwX21_laysBy_7 : List UInt8 := [25, 4, 182, 0, 54, 104, 172]
abbrev dktX21_laysBy_7 : List UInt8 := dkwX21_laysBy_7 ++ []
def dkwX21_laysBy_6 : List UInt8 := [21, 6, 4, 100, 42, 180, 0, 15, 184, 0, 46, 25, 4, 42, 180, 0, 15, 21, 8, 4, 96, 182, 0, 50]
abbrev dktX21_laysBy_6 : List UInt8 := dkwX21_laysBy_6 ++ dktX21_laysBy_7
def dkwX21_laysBy_5 : List UInt8 := [184, 0, 42, 164, 0, 6, 16, 254, 172, 42, 180, 0, 15, 3, 21, 7, 79, 42, 180, 0, 9, 4, 21, 8]
abbrev dktX21_laysBy_5 : List UInt8 := dkwX21_laysBy_5 ++ dktX21_laysBy_6
def dkwX21_laysBy_4 : List UInt8 := [180, 0, 9, 21, 8, 43, 21, 9, 46, 79, 132, 8, 1, 132, 9, 1, 167, 255, 210, 21, 6, 21, 8]
abbrev dktX21_laysBy_4 : List UInt8 := dkwX21_laysBy_4 ++ dktX21_laysBy_5
def dkwX21_laysBy_3 : List UInt8 := [162, 0, 42, 43, 21, 9, 46, 28, 159, 0, 28, 43, 21, 9, 46, 29, 160, 0, 6, 167, 0, 17, 42]
abbrev dktX21_laysBy_3 : List UInt8 := dkwX21_laysBy_3 ++ dktX21_laysBy_4
def dkwX21_laysBy_2 : List UInt8 := [167, 0, 8, 21, 5, 21, 6, 100, 54, 6, 3, 54, 8, 3, 54, 9, 21, 9, 25, 4, 180, 0, 35]
abbrev dktX21_laysBy_2 : List UInt8 := dkwX21_laysBy_2 ++ dktX21_laysBy_3
def dkwX21_laysBy_1 : List UInt8 := [5, 21, 6, 104, 21, 5, 163, 0, 7, 28, 167, 0, 4, 29, 54, 7, 21, 7, 28, 160, 0, 8, 21, 6]
abbrev dktX21_laysBy_1 : List UInt8 := dkwX21_laysBy_1 ++ dktX21_laysBy_2
def dkwX21_laysBy_0 : List UInt8 := [25, 4, 182, 0, 31, 54, 5, 29, 21, 5, 112, 28, 21, 5, 112, 100, 21, 5, 96, 21, 5, 112, 54, 6]
abbrev dktX21_laysBy_0 : List UInt8 := dkwX21_laysBy_0 ++ dktX21_laysBy_1
theorem dksX21_laysBy_0 : cX21_laysBy.data.toList.drop 0 = dktX21_laysBy_0 := by decide +kernel
theorem dksX21_laysBy_1 : cX21_laysBy.data.toList.drop 24 = dktX21_laysBy_1 := dk_seg dksX21_laysBy_0 24 rfl rfl
theorem dksX21_laysBy_2 : cX21_laysBy.data.toList.drop 48 = dktX21_laysBy_2 := dk_seg dksX21_laysBy_1 24 rfl rfl
theorem dksX21_laysBy_3 : cX21_laysBy.data.toList.drop 71 = dktX21_laysBy_3 := dk_seg dksX21_laysBy_2 23 rfl rfl
theorem dksX21_laysBy_4 : cX21_laysBy.data.toList.drop 94 = dktX21_laysBy_4 := dk_seg dksX21_laysBy_3 23 rfl rfl
theorem dksX21_laysBy_5 : cX21_laysBy.data.toList.drop 117 = dktX21_laysBy_5 := dk_seg dksX21_laysBy_4 23 rfl rfl
theorem dksX21_laysBy_6 : cX21_laysBy.data.toList.drop 141 = dktX21_laysBy_6 := dk_seg dksX21_laysBy_5 24 rfl rfl
theorem dksX21_laysBy_7 : cX21_laysBy.data.toList.drop 165 = dktX21_laysBy_7 := dk_seg dksX21_laysBy_6 24 rfl rfl
theorem dX21_laysBy_0 : decode cX21_laysBy 0 = .ok (.aload 4, 2) := dk_25 4 (dk_at dksX21_laysBy_0 0 rfl rfl)
theorem dX21_laysBy_2 : decode cX21_laysBy 2 = .ok (.invokevirtual 31, 3) := dk_182 0 31 (dk_at dksX21_laysBy_0 2 rfl rfl)
theorem dX21_laysBy_5 : decode cX21_laysBy 5 = .ok (.istore 5, 2) := dk_54 5 (dk_at dksX21_laysBy_0 5 rfl rfl)
theorem dX21_laysBy_7 : decode cX21_laysBy 7 = .ok (.iload_n 3, 1) := dk_29 (dk_at dksX21_laysBy_0 7 rfl rfl)
theorem dX21_laysBy_8 : decode cX21_laysBy 8 = .ok (.iload 5, 2) := dk_21 5 (dk_at dksX21_laysBy_0 8 rfl rfl)
theorem dX21_laysBy_10 : decode cX21_laysBy 10 = .ok (.irem, 1) := dk_112 (dk_at dksX21_laysBy_0 10 rfl rfl)
theorem dX21_laysBy_11 : decode cX21_laysBy 11 = .ok (.iload_n 2, 1) := dk_28 (dk_at dksX21_laysBy_0 11 rfl rfl)
theorem dX21_laysBy_12 : decode cX21_laysBy 12 = .ok (.iload 5, 2) := dk_21 5 (dk_at dksX21_laysBy_0 12 rfl rfl)
theorem dX21_laysBy_14 : decode cX21_laysBy 14 = .ok (.irem, 1) := dk_112 (dk_at dksX21_laysBy_0 14 rfl rfl)
theorem dX21_laysBy_15 : decode cX21_laysBy 15 = .ok (.isub, 1) := dk_100 (dk_at dksX21_laysBy_0 15 rfl rfl)
theorem dX21_laysBy_16 : decode cX21_laysBy 16 = .ok (.iload 5, 2) := dk_21 5 (dk_at dksX21_laysBy_0 16 rfl rfl)
theorem dX21_laysBy_18 : decode cX21_laysBy 18 = .ok (.iadd, 1) := dk_96 (dk_at dksX21_laysBy_0 18 rfl rfl)
theorem dX21_laysBy_19 : decode cX21_laysBy 19 = .ok (.iload 5, 2) := dk_21 5 (dk_at dksX21_laysBy_0 19 rfl rfl)
theorem dX21_laysBy_21 : decode cX21_laysBy 21 = .ok (.irem, 1) := dk_112 (dk_at dksX21_laysBy_0 21 rfl rfl)
theorem dX21_laysBy_22 : decode cX21_laysBy 22 = .ok (.istore 6, 2) := dk_54 6 (dk_at dksX21_laysBy_0 22 rfl rfl)
theorem dX21_laysBy_24 : decode cX21_laysBy 24 = .ok (.iconst 2, 1) := dk_5 (dk_at dksX21_laysBy_1 0 rfl rfl)
theorem dX21_laysBy_25 : decode cX21_laysBy 25 = .ok (.iload 6, 2) := dk_21 6 (dk_at dksX21_laysBy_1 1 rfl rfl)
theorem dX21_laysBy_27 : decode cX21_laysBy 27 = .ok (.imul, 1) := dk_104 (dk_at dksX21_laysBy_1 3 rfl rfl)
theorem dX21_laysBy_28 : decode cX21_laysBy 28 = .ok (.iload 5, 2) := dk_21 5 (dk_at dksX21_laysBy_1 4 rfl rfl)
theorem dX21_laysBy_30 : decode cX21_laysBy 30 = .ok (.if_icmp .gt 7, 3) := dk_163 0 7 (dk_at dksX21_laysBy_1 6 rfl rfl)
theorem dX21_laysBy_33 : decode cX21_laysBy 33 = .ok (.iload_n 2, 1) := dk_28 (dk_at dksX21_laysBy_1 9 rfl rfl)
theorem dX21_laysBy_34 : decode cX21_laysBy 34 = .ok (.goto 4, 3) := dk_167 0 4 (dk_at dksX21_laysBy_1 10 rfl rfl)
theorem dX21_laysBy_37 : decode cX21_laysBy 37 = .ok (.iload_n 3, 1) := dk_29 (dk_at dksX21_laysBy_1 13 rfl rfl)
theorem dX21_laysBy_38 : decode cX21_laysBy 38 = .ok (.istore 7, 2) := dk_54 7 (dk_at dksX21_laysBy_1 14 rfl rfl)
theorem dX21_laysBy_40 : decode cX21_laysBy 40 = .ok (.iload 7, 2) := dk_21 7 (dk_at dksX21_laysBy_1 16 rfl rfl)
theorem dX21_laysBy_42 : decode cX21_laysBy 42 = .ok (.iload_n 2, 1) := dk_28 (dk_at dksX21_laysBy_1 18 rfl rfl)
theorem dX21_laysBy_43 : decode cX21_laysBy 43 = .ok (.if_icmp .ne 8, 3) := dk_160 0 8 (dk_at dksX21_laysBy_1 19 rfl rfl)
theorem dX21_laysBy_46 : decode cX21_laysBy 46 = .ok (.iload 6, 2) := dk_21 6 (dk_at dksX21_laysBy_1 22 rfl rfl)
theorem dX21_laysBy_48 : decode cX21_laysBy 48 = .ok (.goto 8, 3) := dk_167 0 8 (dk_at dksX21_laysBy_2 0 rfl rfl)
theorem dX21_laysBy_51 : decode cX21_laysBy 51 = .ok (.iload 5, 2) := dk_21 5 (dk_at dksX21_laysBy_2 3 rfl rfl)
theorem dX21_laysBy_53 : decode cX21_laysBy 53 = .ok (.iload 6, 2) := dk_21 6 (dk_at dksX21_laysBy_2 5 rfl rfl)
theorem dX21_laysBy_55 : decode cX21_laysBy 55 = .ok (.isub, 1) := dk_100 (dk_at dksX21_laysBy_2 7 rfl rfl)
theorem dX21_laysBy_56 : decode cX21_laysBy 56 = .ok (.istore 6, 2) := dk_54 6 (dk_at dksX21_laysBy_2 8 rfl rfl)
theorem dX21_laysBy_58 : decode cX21_laysBy 58 = .ok (.iconst 0, 1) := dk_3 (dk_at dksX21_laysBy_2 10 rfl rfl)
theorem dX21_laysBy_59 : decode cX21_laysBy 59 = .ok (.istore 8, 2) := dk_54 8 (dk_at dksX21_laysBy_2 11 rfl rfl)
theorem dX21_laysBy_61 : decode cX21_laysBy 61 = .ok (.iconst 0, 1) := dk_3 (dk_at dksX21_laysBy_2 13 rfl rfl)
theorem dX21_laysBy_62 : decode cX21_laysBy 62 = .ok (.istore 9, 2) := dk_54 9 (dk_at dksX21_laysBy_2 14 rfl rfl)
theorem dX21_laysBy_64 : decode cX21_laysBy 64 = .ok (.iload 9, 2) := dk_21 9 (dk_at dksX21_laysBy_2 16 rfl rfl)
theorem dX21_laysBy_66 : decode cX21_laysBy 66 = .ok (.aload 4, 2) := dk_25 4 (dk_at dksX21_laysBy_2 18 rfl rfl)
theorem dX21_laysBy_68 : decode cX21_laysBy 68 = .ok (.getfield 35, 3) := dk_180 0 35 (dk_at dksX21_laysBy_2 20 rfl rfl)
theorem dX21_laysBy_71 : decode cX21_laysBy 71 = .ok (.if_icmp .ge 42, 3) := dk_162 0 42 (dk_at dksX21_laysBy_3 0 rfl rfl)
theorem dX21_laysBy_74 : decode cX21_laysBy 74 = .ok (.aload_n 1, 1) := dk_43 (dk_at dksX21_laysBy_3 3 rfl rfl)
theorem dX21_laysBy_75 : decode cX21_laysBy 75 = .ok (.iload 9, 2) := dk_21 9 (dk_at dksX21_laysBy_3 4 rfl rfl)
theorem dX21_laysBy_77 : decode cX21_laysBy 77 = .ok (.iaload, 1) := dk_46 (dk_at dksX21_laysBy_3 6 rfl rfl)
theorem dX21_laysBy_78 : decode cX21_laysBy 78 = .ok (.iload_n 2, 1) := dk_28 (dk_at dksX21_laysBy_3 7 rfl rfl)
theorem dX21_laysBy_79 : decode cX21_laysBy 79 = .ok (.if_icmp .eq 28, 3) := dk_159 0 28 (dk_at dksX21_laysBy_3 8 rfl rfl)
theorem dX21_laysBy_82 : decode cX21_laysBy 82 = .ok (.aload_n 1, 1) := dk_43 (dk_at dksX21_laysBy_3 11 rfl rfl)
theorem dX21_laysBy_83 : decode cX21_laysBy 83 = .ok (.iload 9, 2) := dk_21 9 (dk_at dksX21_laysBy_3 12 rfl rfl)
theorem dX21_laysBy_85 : decode cX21_laysBy 85 = .ok (.iaload, 1) := dk_46 (dk_at dksX21_laysBy_3 14 rfl rfl)
theorem dX21_laysBy_86 : decode cX21_laysBy 86 = .ok (.iload_n 3, 1) := dk_29 (dk_at dksX21_laysBy_3 15 rfl rfl)
theorem dX21_laysBy_87 : decode cX21_laysBy 87 = .ok (.if_icmp .ne 6, 3) := dk_160 0 6 (dk_at dksX21_laysBy_3 16 rfl rfl)
theorem dX21_laysBy_90 : decode cX21_laysBy 90 = .ok (.goto 17, 3) := dk_167 0 17 (dk_at dksX21_laysBy_3 19 rfl rfl)
theorem dX21_laysBy_93 : decode cX21_laysBy 93 = .ok (.aload_n 0, 1) := dk_42 (dk_at dksX21_laysBy_3 22 rfl rfl)
theorem dX21_laysBy_94 : decode cX21_laysBy 94 = .ok (.getfield 9, 3) := dk_180 0 9 (dk_at dksX21_laysBy_4 0 rfl rfl)
theorem dX21_laysBy_97 : decode cX21_laysBy 97 = .ok (.iload 8, 2) := dk_21 8 (dk_at dksX21_laysBy_4 3 rfl rfl)
theorem dX21_laysBy_99 : decode cX21_laysBy 99 = .ok (.aload_n 1, 1) := dk_43 (dk_at dksX21_laysBy_4 5 rfl rfl)
theorem dX21_laysBy_100 : decode cX21_laysBy 100 = .ok (.iload 9, 2) := dk_21 9 (dk_at dksX21_laysBy_4 6 rfl rfl)
theorem dX21_laysBy_102 : decode cX21_laysBy 102 = .ok (.iaload, 1) := dk_46 (dk_at dksX21_laysBy_4 8 rfl rfl)
theorem dX21_laysBy_103 : decode cX21_laysBy 103 = .ok (.iastore, 1) := dk_79 (dk_at dksX21_laysBy_4 9 rfl rfl)
theorem dX21_laysBy_104 : decode cX21_laysBy 104 = .ok (.iinc 8 1, 3) := dk_132 8 1 (dk_at dksX21_laysBy_4 10 rfl rfl)
theorem dX21_laysBy_107 : decode cX21_laysBy 107 = .ok (.iinc 9 1, 3) := dk_132 9 1 (dk_at dksX21_laysBy_4 13 rfl rfl)
theorem dX21_laysBy_110 : decode cX21_laysBy 110 = .ok (.goto (-46), 3) := dk_167 255 210 (dk_at dksX21_laysBy_4 16 rfl rfl)
theorem dX21_laysBy_113 : decode cX21_laysBy 113 = .ok (.iload 6, 2) := dk_21 6 (dk_at dksX21_laysBy_4 19 rfl rfl)
theorem dX21_laysBy_115 : decode cX21_laysBy 115 = .ok (.iload 8, 2) := dk_21 8 (dk_at dksX21_laysBy_4 21 rfl rfl)
theorem dX21_laysBy_117 : decode cX21_laysBy 117 = .ok (.invokestatic 42, 3) := dk_184 0 42 (dk_at dksX21_laysBy_5 0 rfl rfl)
theorem dX21_laysBy_120 : decode cX21_laysBy 120 = .ok (.if_icmp .le 6, 3) := dk_164 0 6 (dk_at dksX21_laysBy_5 3 rfl rfl)
theorem dX21_laysBy_123 : decode cX21_laysBy 123 = .ok (.bipush (-2), 2) := dk_16 254 (dk_at dksX21_laysBy_5 6 rfl rfl)
theorem dX21_laysBy_125 : decode cX21_laysBy 125 = .ok (.ireturn, 1) := dk_172 (dk_at dksX21_laysBy_5 8 rfl rfl)
theorem dX21_laysBy_126 : decode cX21_laysBy 126 = .ok (.aload_n 0, 1) := dk_42 (dk_at dksX21_laysBy_5 9 rfl rfl)
theorem dX21_laysBy_127 : decode cX21_laysBy 127 = .ok (.getfield 15, 3) := dk_180 0 15 (dk_at dksX21_laysBy_5 10 rfl rfl)
theorem dX21_laysBy_130 : decode cX21_laysBy 130 = .ok (.iconst 0, 1) := dk_3 (dk_at dksX21_laysBy_5 13 rfl rfl)
theorem dX21_laysBy_131 : decode cX21_laysBy 131 = .ok (.iload 7, 2) := dk_21 7 (dk_at dksX21_laysBy_5 14 rfl rfl)
theorem dX21_laysBy_133 : decode cX21_laysBy 133 = .ok (.iastore, 1) := dk_79 (dk_at dksX21_laysBy_5 16 rfl rfl)
theorem dX21_laysBy_134 : decode cX21_laysBy 134 = .ok (.aload_n 0, 1) := dk_42 (dk_at dksX21_laysBy_5 17 rfl rfl)
theorem dX21_laysBy_135 : decode cX21_laysBy 135 = .ok (.getfield 9, 3) := dk_180 0 9 (dk_at dksX21_laysBy_5 18 rfl rfl)
theorem dX21_laysBy_138 : decode cX21_laysBy 138 = .ok (.iconst 1, 1) := dk_4 (dk_at dksX21_laysBy_5 21 rfl rfl)
theorem dX21_laysBy_139 : decode cX21_laysBy 139 = .ok (.iload 8, 2) := dk_21 8 (dk_at dksX21_laysBy_5 22 rfl rfl)
theorem dX21_laysBy_141 : decode cX21_laysBy 141 = .ok (.iload 6, 2) := dk_21 6 (dk_at dksX21_laysBy_6 0 rfl rfl)
theorem dX21_laysBy_143 : decode cX21_laysBy 143 = .ok (.iconst 1, 1) := dk_4 (dk_at dksX21_laysBy_6 2 rfl rfl)
theorem dX21_laysBy_144 : decode cX21_laysBy 144 = .ok (.isub, 1) := dk_100 (dk_at dksX21_laysBy_6 3 rfl rfl)
theorem dX21_laysBy_145 : decode cX21_laysBy 145 = .ok (.aload_n 0, 1) := dk_42 (dk_at dksX21_laysBy_6 4 rfl rfl)
theorem dX21_laysBy_146 : decode cX21_laysBy 146 = .ok (.getfield 15, 3) := dk_180 0 15 (dk_at dksX21_laysBy_6 5 rfl rfl)
theorem dX21_laysBy_149 : decode cX21_laysBy 149 = .ok (.invokestatic 46, 3) := dk_184 0 46 (dk_at dksX21_laysBy_6 8 rfl rfl)
theorem dX21_laysBy_152 : decode cX21_laysBy 152 = .ok (.aload 4, 2) := dk_25 4 (dk_at dksX21_laysBy_6 11 rfl rfl)
theorem dX21_laysBy_154 : decode cX21_laysBy 154 = .ok (.aload_n 0, 1) := dk_42 (dk_at dksX21_laysBy_6 13 rfl rfl)
theorem dX21_laysBy_155 : decode cX21_laysBy 155 = .ok (.getfield 15, 3) := dk_180 0 15 (dk_at dksX21_laysBy_6 14 rfl rfl)
theorem dX21_laysBy_158 : decode cX21_laysBy 158 = .ok (.iload 8, 2) := dk_21 8 (dk_at dksX21_laysBy_6 17 rfl rfl)
theorem dX21_laysBy_160 : decode cX21_laysBy 160 = .ok (.iconst 1, 1) := dk_4 (dk_at dksX21_laysBy_6 19 rfl rfl)
theorem dX21_laysBy_161 : decode cX21_laysBy 161 = .ok (.iadd, 1) := dk_96 (dk_at dksX21_laysBy_6 20 rfl rfl)
theorem dX21_laysBy_162 : decode cX21_laysBy 162 = .ok (.invokevirtual 50, 3) := dk_182 0 50 (dk_at dksX21_laysBy_6 21 rfl rfl)
theorem dX21_laysBy_165 : decode cX21_laysBy 165 = .ok (.aload 4, 2) := dk_25 4 (dk_at dksX21_laysBy_7 0 rfl rfl)
theorem dX21_laysBy_167 : decode cX21_laysBy 167 = .ok (.invokevirtual 54, 3) := dk_182 0 54 (dk_at dksX21_laysBy_7 2 rfl rfl)
theorem dX21_laysBy_170 : decode cX21_laysBy 170 = .ok (.imul, 1) := dk_104 (dk_at dksX21_laysBy_7 5 rfl rfl)
theorem dX21_laysBy_171 : decode cX21_laysBy 171 = .ok (.ireturn, 1) := dk_172 (dk_at dksX21_laysBy_7 6 rfl rfl)
abbrev cX21_words : ByteArray := prog_18_method_2_code
def yX21_words : MethodName := ⟨RX21, "words", "()I"⟩
theorem dX21_words_0 : decode cX21_words 0 = .ok (.bipush 20, 2) := by decide +kernel
theorem dX21_words_2 : decode cX21_words 2 = .ok (.ireturn, 1) := by decide +kernel
theorem q151 : (Jvm.Cond.initialized "FifthCard$Suited") ∈ lw_all := lw_g (lw_at lw_m1 30 rfl) rfl
theorem q583 : (Jvm.Cond.fieldLink "FifthCard$Suited" (35 : Nat) "FifthCard$Trick" "hand" "I") ∈ lw_all := lw_g (lw_at lw_m2 222 rfl) rfl
theorem q588 : (Jvm.Cond.fieldLink "FifthCard$Suited" (27 : Nat) "FifthCard$Trick" "kept" "I") ∈ lw_all := lw_g (lw_at lw_m2 227 rfl) rfl
theorem q598 : (Jvm.Cond.fieldLink "FifthCard$Suited" (18 : Nat) "FifthCard$Trick" "stranger" "Z") ∈ lw_all := lw_g (lw_at lw_m2 237 rfl) rfl
theorem q604 : (Jvm.Cond.fieldLink "FifthCard$Suited" (24 : Nat) "FifthCard$Trick" "held" "Z") ∈ lw_all := lw_g (lw_at lw_m3 3 rfl) rfl
theorem q882 : (Jvm.Cond.instantiable "FifthCard$Suited" (6 : Nat)) ∈ lw_all := lw_g (lw_at lw_m4 41 rfl) rfl
theorem q884 : (Jvm.Cond.instanceMethod ({ cls := "FifthCard$Suited", name := "<init>", desc := "(Ljava/lang/String;I)V" } : Jvm.MethodName)) ∈ lw_all := lw_g (lw_at lw_m4 43 rfl) rfl
theorem q885 : (Jvm.Cond.code ({ cls := "FifthCard$Suited", name := "<init>", desc := "(Ljava/lang/String;I)V" } : Jvm.MethodName) prog_18_method_1_code (3 : Nat) (Option.none : Option Jvm.ClassFile.FieldType)) ∈ lw_all := lw_g (lw_at lw_m4 44 rfl) rfl
theorem q886 : (Jvm.Cond.methodLink "FifthCard$Suited" (3 : Nat) ({ cls := "FifthCard$Rule", name := "<init>", desc := "(Ljava/lang/String;I)V" } : Jvm.MethodName)) ∈ lw_all := lw_g (lw_at lw_m4 45 rfl) rfl
theorem q887 : (Jvm.Cond.fieldLink "FifthCard$Suited" (9 : Nat) "FifthCard$Suited" "rest" "[I") ∈ lw_all := lw_g (lw_at lw_m4 46 rfl) rfl
theorem q888 : (Jvm.Cond.fieldLink "FifthCard$Suited" (15 : Nat) "FifthCard$Suited" "order" "[I") ∈ lw_all := lw_g (lw_at lw_m4 47 rfl) rfl
theorem q889 : (Jvm.Cond.laysFinal "FifthCard$Suited" "FifthCard$Suited" "rest" "[I") ∈ lw_all := lw_g (lw_at lw_m4 48 rfl) rfl
theorem q890 : (Jvm.Cond.soleField "FifthCard$Suited" "rest") ∈ lw_all := lw_g (lw_at lw_m4 49 rfl) rfl
theorem q891 : (Jvm.Cond.laysFinal "FifthCard$Suited" "FifthCard$Suited" "order" "[I") ∈ lw_all := lw_g (lw_at lw_m4 50 rfl) rfl
theorem q892 : (Jvm.Cond.soleField "FifthCard$Suited" "order") ∈ lw_all := lw_g (lw_at lw_m4 51 rfl) rfl
theorem q893 : (Jvm.Cond.laysFinal "FifthCard$Suited" "FifthCard$Rule" "name" "Ljava/lang/String;") ∈ lw_all := lw_g (lw_at lw_m4 52 rfl) rfl
theorem q894 : (Jvm.Cond.laysFinal "FifthCard$Suited" "FifthCard$Rule" "number" "I") ∈ lw_all := lw_g (lw_at lw_m4 53 rfl) rfl
theorem q895 : (Jvm.Cond.laysFinal "FifthCard$Suited" "FifthCard$Rule" "rows" "[I") ∈ lw_all := lw_g (lw_at lw_m4 54 rfl) rfl
theorem q896 : (Jvm.Cond.lays "FifthCard$Suited" "FifthCard$Rule" "isLaid" "Z") ∈ lw_all := lw_g (lw_at lw_m4 55 rfl) rfl
theorem q897 : (Jvm.Cond.superclass "FifthCard$Suited" "FifthCard$Rule") ∈ lw_all := lw_g (lw_at lw_m4 56 rfl) rfl
theorem q1174 : (Jvm.Cond.selects "FifthCard$Suited" ({ cls := "FifthCard$Rule", name := "lay", desc := "([ILFifthCard$Trick;)I" } : Jvm.MethodName) ({ cls := "FifthCard$Suited", name := "lay", desc := "([ILFifthCard$Trick;)I" } : Jvm.MethodName)) ∈ lw_all := lw_g (lw_at lw_m5 93 rfl) rfl
theorem q1175 : (Jvm.Cond.instanceMethod ({ cls := "FifthCard$Suited", name := "lay", desc := "([ILFifthCard$Trick;)I" } : Jvm.MethodName)) ∈ lw_all := lw_g (lw_at lw_m5 94 rfl) rfl
theorem q1176 : (Jvm.Cond.code ({ cls := "FifthCard$Suited", name := "lay", desc := "([ILFifthCard$Trick;)I" } : Jvm.MethodName) prog_18_method_3_code (6 : Nat) (Option.some Jvm.ClassFile.FieldType.int)) ∈ lw_all := lw_g (lw_at lw_m5 95 rfl) rfl
theorem q1177 : (Jvm.Cond.methodLink "FifthCard$Suited" (31 : Nat) ({ cls := "FifthCard$Trick", name := "ranks", desc := "()I" } : Jvm.MethodName)) ∈ lw_all := lw_g (lw_at lw_m5 96 rfl) rfl
theorem q1178 : (Jvm.Cond.methodLink "FifthCard$Suited" (38 : Nat) ({ cls := "FifthCard$Suited", name := "laysBy", desc := "([IIILFifthCard$Trick;)I" } : Jvm.MethodName)) ∈ lw_all := lw_g (lw_at lw_m5 97 rfl) rfl
theorem q1179 : (Jvm.Cond.privateMethod ({ cls := "FifthCard$Suited", name := "laysBy", desc := "([IIILFifthCard$Trick;)I" } : Jvm.MethodName)) ∈ lw_tbl := lw_at lw_m5 98 rfl
theorem q1180 : (Jvm.Cond.instanceMethod ({ cls := "FifthCard$Suited", name := "laysBy", desc := "([IIILFifthCard$Trick;)I" } : Jvm.MethodName)) ∈ lw_all := lw_g (lw_at lw_m5 99 rfl) rfl
theorem q1181 : (Jvm.Cond.code ({ cls := "FifthCard$Suited", name := "laysBy", desc := "([IIILFifthCard$Trick;)I" } : Jvm.MethodName) prog_18_method_4_code (10 : Nat) (Option.some Jvm.ClassFile.FieldType.int)) ∈ lw_all := lw_g (lw_at lw_m5 100 rfl) rfl
theorem q1182 : (Jvm.Cond.methodLinkNest "FifthCard$Suited" (42 : Nat) ({ cls := "FifthCard", name := "factorial", desc := "(I)I" } : Jvm.MethodName) "FifthCard") ∈ lw_tbl := lw_at lw_m5 101 rfl
theorem q1183 : (Jvm.Cond.methodLinkNest "FifthCard$Suited" (46 : Nat) ({ cls := "FifthCard", name := "arrange", desc := "([IIII[I)V" } : Jvm.MethodName) "FifthCard") ∈ lw_tbl := lw_at lw_m5 102 rfl
theorem q1184 : (Jvm.Cond.methodLink "FifthCard$Suited" (50 : Nat) ({ cls := "FifthCard$Trick", name := "rank", desc := "([II)I" } : Jvm.MethodName)) ∈ lw_all := lw_g (lw_at lw_m5 103 rfl) rfl
theorem q1185 : (Jvm.Cond.methodLink "FifthCard$Suited" (54 : Nat) ({ cls := "FifthCard$Trick", name := "tiltings", desc := "()I" } : Jvm.MethodName)) ∈ lw_all := lw_g (lw_at lw_m5 104 rfl) rfl
theorem q1405 : (Jvm.Cond.selects "FifthCard$Suited" ({ cls := "FifthCard$Rule", name := "words", desc := "()I" } : Jvm.MethodName) ({ cls := "FifthCard$Suited", name := "words", desc := "()I" } : Jvm.MethodName)) ∈ lw_all := lw_g (lw_at lw_m6 84 rfl) rfl
theorem q1406 : (Jvm.Cond.instanceMethod ({ cls := "FifthCard$Suited", name := "words", desc := "()I" } : Jvm.MethodName)) ∈ lw_all := lw_g (lw_at lw_m6 85 rfl) rfl
theorem q1407 : (Jvm.Cond.code ({ cls := "FifthCard$Suited", name := "words", desc := "()I" } : Jvm.MethodName) prog_18_method_2_code (1 : Nat) (Option.some Jvm.ClassFile.FieldType.int)) ∈ lw_all := lw_g (lw_at lw_m6 86 rfl) rfl
theorem q2244 : (Jvm.Cond.castable "FifthCard$Suited" "java/lang/Object") ∈ lw_tbl := lw_at lw_m9 203 rfl
theorem q2250 : (Jvm.Cond.castable "FifthCard$Suited" "FifthCard$Rule") ∈ lw_tbl := lw_at lw_m9 209 rfl
theorem in_X21 : ∀ w ∈ wsX210, w ∈ lw_all := lw_in wsX210 [893, 894, 895, 896, 889, 891] (by decide +kernel) (by decide +kernel)
/-! FifthCard$Tabled -/
set_option maxRecDepth 100000
def RX22 : String := "FifthCard$Tabled"
def TX22 : u_T := fun k => match k with
  | 0 => ("FifthCard$Rule", "name", "Ljava/lang/String;", true)
  | 1 => ("FifthCard$Rule", "number", "I", true)
  | 2 => ("FifthCard$Rule", "rows", "[I", true)
  | _ => ("FifthCard$Rule", "isLaid", "Z", false)
def tyX22 : Nat → FieldType := fun k => match k with
  | 0 => .object "java/lang/String"
  | 1 => .int
  | 2 => .array .int
  | _ => .boolean
abbrev wsX220 : List Cond := u_ws RX22 TX22 4
theorem nmX22 : ∀ a, a < 4 → ∀ b, b < 4 → a ≠ b → (TX22 a).2.1 ≠ (TX22 b).2.1 := by decide +kernel
theorem tyX22_ok : ∀ k, k < 4 → parseFieldDescriptor (TX22 k).2.2.1 = some (tyX22 k) := by decide +kernel
abbrev cX22_init : ByteArray := prog_19_method_1_code
def yX22_init : MethodName := ⟨RX22, "<init>", "(Ljava/lang/String;I)V"⟩
def dkwX22_init_0 : List UInt8 := [42, 43, 28, 183, 0, 3, 177]
abbrev dktX22_init_0 : List UInt8 := dkwX22_init_0 ++ []
theorem dksX22_init_0 : cX22_init.data.toList.drop 0 = dktX22_init_0 := by decide +kernel
theorem dX22_init_0 : decode cX22_init 0 = .ok (.aload_n 0, 1) := dk_42 (dk_at dksX22_init_0 0 rfl rfl)
theorem dX22_init_1 : decode cX22_init 1 = .ok (.aload_n 1, 1) := dk_43 (dk_at dksX22_init_0 1 rfl rfl)
theorem dX22_init_2 : decode cX22_init 2 = .ok (.iload_n 2, 1) := dk_28 (dk_at dksX22_init_0 2 rfl rfl)
theorem dX22_init_3 : decode cX22_init 3 = .ok (.invokespecial 3, 3) := dk_183 0 3 (dk_at dksX22_init_0 3 rfl rfl)
theorem dX22_init_6 : decode cX22_init 6 = .ok (.return_, 1) := dk_177 (dk_at dksX22_init_0 6 rfl rfl)
abbrev cX22_lay : ByteArray := prog_19_method_3_code
def yX22_lay : MethodName := ⟨RX22, "lay", "([ILFifthCard$Trick;)I"⟩
theorem dX22_lay_0 : decode cX22_lay 0 = .ok (.bipush (-2), 2) := by decide +kernel
theorem dX22_lay_2 : decode cX22_lay 2 = .ok (.ireturn, 1) := by decide +kernel
abbrev cX22_words : ByteArray := prog_19_method_2_code
def yX22_words : MethodName := ⟨RX22, "words", "()I"⟩
theorem dX22_words_0 : decode cX22_words 0 = .ok (.bipush 21, 2) := by decide +kernel
theorem dX22_words_2 : decode cX22_words 2 = .ok (.ireturn, 1) := by decide +kernel
theorem q152 : (Jvm.Cond.initialized "FifthCard$Tabled") ∈ lw_all := lw_g (lw_at lw_m1 31 rfl) rfl
theorem q900 : (Jvm.Cond.instantiable "FifthCard$Tabled" (4 : Nat)) ∈ lw_all := lw_g (lw_at lw_m4 59 rfl) rfl
theorem q902 : (Jvm.Cond.instanceMethod ({ cls := "FifthCard$Tabled", name := "<init>", desc := "(Ljava/lang/String;I)V" } : Jvm.MethodName)) ∈ lw_all := lw_g (lw_at lw_m4 61 rfl) rfl
theorem q903 : (Jvm.Cond.code ({ cls := "FifthCard$Tabled", name := "<init>", desc := "(Ljava/lang/String;I)V" } : Jvm.MethodName) prog_19_method_1_code (3 : Nat) (Option.none : Option Jvm.ClassFile.FieldType)) ∈ lw_all := lw_g (lw_at lw_m4 62 rfl) rfl
theorem q904 : (Jvm.Cond.methodLink "FifthCard$Tabled" (3 : Nat) ({ cls := "FifthCard$Rule", name := "<init>", desc := "(Ljava/lang/String;I)V" } : Jvm.MethodName)) ∈ lw_all := lw_g (lw_at lw_m4 63 rfl) rfl
theorem q905 : (Jvm.Cond.laysFinal "FifthCard$Tabled" "FifthCard$Rule" "name" "Ljava/lang/String;") ∈ lw_all := lw_g (lw_at lw_m4 64 rfl) rfl
theorem q906 : (Jvm.Cond.laysFinal "FifthCard$Tabled" "FifthCard$Rule" "number" "I") ∈ lw_all := lw_g (lw_at lw_m4 65 rfl) rfl
theorem q907 : (Jvm.Cond.laysFinal "FifthCard$Tabled" "FifthCard$Rule" "rows" "[I") ∈ lw_all := lw_g (lw_at lw_m4 66 rfl) rfl
theorem q908 : (Jvm.Cond.lays "FifthCard$Tabled" "FifthCard$Rule" "isLaid" "Z") ∈ lw_all := lw_g (lw_at lw_m4 67 rfl) rfl
theorem q909 : (Jvm.Cond.superclass "FifthCard$Tabled" "FifthCard$Rule") ∈ lw_all := lw_g (lw_at lw_m4 68 rfl) rfl
theorem q1186 : (Jvm.Cond.selects "FifthCard$Tabled" ({ cls := "FifthCard$Rule", name := "lay", desc := "([ILFifthCard$Trick;)I" } : Jvm.MethodName) ({ cls := "FifthCard$Tabled", name := "lay", desc := "([ILFifthCard$Trick;)I" } : Jvm.MethodName)) ∈ lw_all := lw_g (lw_at lw_m5 105 rfl) rfl
theorem q1187 : (Jvm.Cond.instanceMethod ({ cls := "FifthCard$Tabled", name := "lay", desc := "([ILFifthCard$Trick;)I" } : Jvm.MethodName)) ∈ lw_all := lw_g (lw_at lw_m5 106 rfl) rfl
theorem q1188 : (Jvm.Cond.code ({ cls := "FifthCard$Tabled", name := "lay", desc := "([ILFifthCard$Trick;)I" } : Jvm.MethodName) prog_19_method_3_code (3 : Nat) (Option.some Jvm.ClassFile.FieldType.int)) ∈ lw_all := lw_g (lw_at lw_m5 107 rfl) rfl
theorem q1408 : (Jvm.Cond.selects "FifthCard$Tabled" ({ cls := "FifthCard$Rule", name := "words", desc := "()I" } : Jvm.MethodName) ({ cls := "FifthCard$Tabled", name := "words", desc := "()I" } : Jvm.MethodName)) ∈ lw_all := lw_g (lw_at lw_m6 87 rfl) rfl
theorem q1409 : (Jvm.Cond.instanceMethod ({ cls := "FifthCard$Tabled", name := "words", desc := "()I" } : Jvm.MethodName)) ∈ lw_all := lw_g (lw_at lw_m6 88 rfl) rfl
theorem q1410 : (Jvm.Cond.code ({ cls := "FifthCard$Tabled", name := "words", desc := "()I" } : Jvm.MethodName) prog_19_method_2_code (1 : Nat) (Option.some Jvm.ClassFile.FieldType.int)) ∈ lw_all := lw_g (lw_at lw_m6 89 rfl) rfl
theorem q2245 : (Jvm.Cond.castable "FifthCard$Tabled" "java/lang/Object") ∈ lw_tbl := lw_at lw_m9 204 rfl
theorem q2251 : (Jvm.Cond.castable "FifthCard$Tabled" "FifthCard$Rule") ∈ lw_tbl := lw_at lw_m9 210 rfl
theorem in_X22 : ∀ w ∈ wsX220, w ∈ lw_all := lw_in wsX220 [905, 906, 907, 908] (by decide +kernel) (by decide +kernel)
/-! FifthCardModel$Trick -/
set_option maxRecDepth 100000
def RX23 : String := "FifthCardModel$Trick"
def TX23 : u_T := fun k => match k with
  | 0 => ("FifthCardModel$Trick", "cards", "I", false)
  | 1 => ("FifthCardModel$Trick", "suits", "I", false)
  | 2 => ("FifthCardModel$Trick", "hand", "I", false)
  | 3 => ("FifthCardModel$Trick", "kept", "I", false)
  | 4 => ("FifthCardModel$Trick", "shown", "I", false)
  | 5 => ("FifthCardModel$Trick", "rules", "I", false)
  | 6 => ("FifthCardModel$Trick", "evenings", "I", false)
  | 7 => ("FifthCardModel$Trick", "isStranger", "Z", false)
  | 8 => ("FifthCardModel$Trick", "isHeld", "Z", false)
  | 9 => ("FifthCardModel$Trick", "isTilted", "Z", false)
  | 10 => ("FifthCardModel$Trick", "rule", "[I", true)
  | 11 => ("FifthCardModel$Trick", "eveningCards", "[I", true)
  | 12 => ("FifthCardModel$Trick", "eveningRow", "[I", true)
  | 13 => ("FifthCardModel$Trick", "eveningTilts", "[I", true)
  | _ => ("FifthCardModel$Trick", "name", "[J", true)
def tyX23 : Nat → FieldType := fun k => match k with
  | 0 => .int
  | 1 => .int
  | 2 => .int
  | 3 => .int
  | 4 => .int
  | 5 => .int
  | 6 => .int
  | 7 => .boolean
  | 8 => .boolean
  | 9 => .boolean
  | 10 => .array .int
  | 11 => .array .int
  | 12 => .array .int
  | 13 => .array .int
  | _ => .array .long
abbrev wsX230 : List Cond := u_ws RX23 TX23 15
set_option maxRecDepth 100000 in
theorem nmX23 : ∀ a, a < 15 → ∀ b, b < 15 → a ≠ b → (TX23 a).2.1 ≠ (TX23 b).2.1 := by decide +kernel
set_option maxRecDepth 100000 in
theorem tyX23_ok : ∀ k, k < 15 → parseFieldDescriptor (TX23 k).2.2.1 = some (tyX23 k) := by decide +kernel
abbrev cX23_init : ByteArray := prog_24_method_1_code
def yX23_init : MethodName := ⟨RX23, "<init>", "()V"⟩
def dkwX23_init_1 : List UInt8 := [181, 0, 18, 42, 16, 9, 188, 10, 181, 0, 21, 42, 7, 188, 11, 181, 0, 24, 177]
abbrev dktX23_init_1 : List UInt8 := dkwX23_init_1 ++ []
def dkwX23_init_0 : List UInt8 := [42, 183, 0, 3, 42, 7, 188, 10, 181, 0, 9, 42, 16, 45, 188, 10, 181, 0, 15, 42, 16, 45, 188, 10]
abbrev dktX23_init_0 : List UInt8 := dkwX23_init_0 ++ dktX23_init_1
theorem dksX23_init_0 : cX23_init.data.toList.drop 0 = dktX23_init_0 := by decide +kernel
theorem dksX23_init_1 : cX23_init.data.toList.drop 24 = dktX23_init_1 := dk_seg dksX23_init_0 24 rfl rfl
theorem dX23_init_0 : decode cX23_init 0 = .ok (.aload_n 0, 1) := dk_42 (dk_at dksX23_init_0 0 rfl rfl)
theorem dX23_init_1 : decode cX23_init 1 = .ok (.invokespecial 3, 3) := dk_183 0 3 (dk_at dksX23_init_0 1 rfl rfl)
theorem dX23_init_4 : decode cX23_init 4 = .ok (.aload_n 0, 1) := dk_42 (dk_at dksX23_init_0 4 rfl rfl)
theorem dX23_init_5 : decode cX23_init 5 = .ok (.iconst 4, 1) := dk_7 (dk_at dksX23_init_0 5 rfl rfl)
theorem dX23_init_6 : decode cX23_init 6 = .ok (.newarray .int, 2) := dk_188_10 (dk_at dksX23_init_0 6 rfl rfl)
theorem dX23_init_8 : decode cX23_init 8 = .ok (.putfield 9, 3) := dk_181 0 9 (dk_at dksX23_init_0 8 rfl rfl)
theorem dX23_init_11 : decode cX23_init 11 = .ok (.aload_n 0, 1) := dk_42 (dk_at dksX23_init_0 11 rfl rfl)
theorem dX23_init_12 : decode cX23_init 12 = .ok (.bipush 45, 2) := dk_16 45 (dk_at dksX23_init_0 12 rfl rfl)
theorem dX23_init_14 : decode cX23_init 14 = .ok (.newarray .int, 2) := dk_188_10 (dk_at dksX23_init_0 14 rfl rfl)
theorem dX23_init_16 : decode cX23_init 16 = .ok (.putfield 15, 3) := dk_181 0 15 (dk_at dksX23_init_0 16 rfl rfl)
theorem dX23_init_19 : decode cX23_init 19 = .ok (.aload_n 0, 1) := dk_42 (dk_at dksX23_init_0 19 rfl rfl)
theorem dX23_init_20 : decode cX23_init 20 = .ok (.bipush 45, 2) := dk_16 45 (dk_at dksX23_init_0 20 rfl rfl)
theorem dX23_init_22 : decode cX23_init 22 = .ok (.newarray .int, 2) := dk_188_10 (dk_at dksX23_init_0 22 rfl rfl)
theorem dX23_init_24 : decode cX23_init 24 = .ok (.putfield 18, 3) := dk_181 0 18 (dk_at dksX23_init_1 0 rfl rfl)
theorem dX23_init_27 : decode cX23_init 27 = .ok (.aload_n 0, 1) := dk_42 (dk_at dksX23_init_1 3 rfl rfl)
theorem dX23_init_28 : decode cX23_init 28 = .ok (.bipush 9, 2) := dk_16 9 (dk_at dksX23_init_1 4 rfl rfl)
theorem dX23_init_30 : decode cX23_init 30 = .ok (.newarray .int, 2) := dk_188_10 (dk_at dksX23_init_1 6 rfl rfl)
theorem dX23_init_32 : decode cX23_init 32 = .ok (.putfield 21, 3) := dk_181 0 21 (dk_at dksX23_init_1 8 rfl rfl)
theorem dX23_init_35 : decode cX23_init 35 = .ok (.aload_n 0, 1) := dk_42 (dk_at dksX23_init_1 11 rfl rfl)
theorem dX23_init_36 : decode cX23_init 36 = .ok (.iconst 4, 1) := dk_7 (dk_at dksX23_init_1 12 rfl rfl)
theorem dX23_init_37 : decode cX23_init 37 = .ok (.newarray .long, 2) := dk_188_11 (dk_at dksX23_init_1 13 rfl rfl)
theorem dX23_init_39 : decode cX23_init 39 = .ok (.putfield 24, 3) := dk_181 0 24 (dk_at dksX23_init_1 15 rfl rfl)
theorem dX23_init_42 : decode cX23_init 42 = .ok (.return_, 1) := dk_177 (dk_at dksX23_init_1 18 rfl rfl)
abbrev cX23_handsOf : ByteArray := prog_24_method_2_code
def yX23_handsOf : MethodName := ⟨RX23, "handsOf", "(I)J"⟩
def dkwX23_handsOf_1 : List UInt8 := [184, 0, 40, 173]
abbrev dktX23_handsOf_1 : List UInt8 := dkwX23_handsOf_1 ++ []
def dkwX23_handsOf_0 : List UInt8 := [42, 180, 0, 28, 153, 0, 14, 27, 42, 180, 0, 32, 184, 0, 36, 167, 0, 11, 27, 42, 180, 0, 32]
abbrev dktX23_handsOf_0 : List UInt8 := dkwX23_handsOf_0 ++ dktX23_handsOf_1
theorem dksX23_handsOf_0 : cX23_handsOf.data.toList.drop 0 = dktX23_handsOf_0 := by decide +kernel
theorem dksX23_handsOf_1 : cX23_handsOf.data.toList.drop 23 = dktX23_handsOf_1 := dk_seg dksX23_handsOf_0 23 rfl rfl
theorem dX23_handsOf_0 : decode cX23_handsOf 0 = .ok (.aload_n 0, 1) := dk_42 (dk_at dksX23_handsOf_0 0 rfl rfl)
theorem dX23_handsOf_1 : decode cX23_handsOf 1 = .ok (.getfield 28, 3) := dk_180 0 28 (dk_at dksX23_handsOf_0 1 rfl rfl)
theorem dX23_handsOf_4 : decode cX23_handsOf 4 = .ok (.ifCond .eq 14, 3) := dk_153 0 14 (dk_at dksX23_handsOf_0 4 rfl rfl)
theorem dX23_handsOf_7 : decode cX23_handsOf 7 = .ok (.iload_n 1, 1) := dk_27 (dk_at dksX23_handsOf_0 7 rfl rfl)
theorem dX23_handsOf_8 : decode cX23_handsOf 8 = .ok (.aload_n 0, 1) := dk_42 (dk_at dksX23_handsOf_0 8 rfl rfl)
theorem dX23_handsOf_9 : decode cX23_handsOf 9 = .ok (.getfield 32, 3) := dk_180 0 32 (dk_at dksX23_handsOf_0 9 rfl rfl)
theorem dX23_handsOf_12 : decode cX23_handsOf 12 = .ok (.invokestatic 36, 3) := dk_184 0 36 (dk_at dksX23_handsOf_0 12 rfl rfl)
theorem dX23_handsOf_15 : decode cX23_handsOf 15 = .ok (.goto 11, 3) := dk_167 0 11 (dk_at dksX23_handsOf_0 15 rfl rfl)
theorem dX23_handsOf_18 : decode cX23_handsOf 18 = .ok (.iload_n 1, 1) := dk_27 (dk_at dksX23_handsOf_0 18 rfl rfl)
theorem dX23_handsOf_19 : decode cX23_handsOf 19 = .ok (.aload_n 0, 1) := dk_42 (dk_at dksX23_handsOf_0 19 rfl rfl)
theorem dX23_handsOf_20 : decode cX23_handsOf 20 = .ok (.getfield 32, 3) := dk_180 0 32 (dk_at dksX23_handsOf_0 20 rfl rfl)
theorem dX23_handsOf_23 : decode cX23_handsOf 23 = .ok (.invokestatic 40, 3) := dk_184 0 40 (dk_at dksX23_handsOf_1 0 rfl rfl)
theorem dX23_handsOf_26 : decode cX23_handsOf 26 = .ok (.lreturn, 1) := dk_173 (dk_at dksX23_handsOf_1 3 rfl rfl)
abbrev cX23_tilts : ByteArray := prog_24_method_3_code
def yX23_tilts : MethodName := ⟨RX23, "tilts", "()I"⟩
def dkwX23_tilts_0 : List UInt8 := [42, 180, 0, 43, 153, 0, 12, 4, 42, 180, 0, 46, 120, 167, 0, 4, 4, 172]
abbrev dktX23_tilts_0 : List UInt8 := dkwX23_tilts_0 ++ []
theorem dksX23_tilts_0 : cX23_tilts.data.toList.drop 0 = dktX23_tilts_0 := by decide +kernel
theorem dX23_tilts_0 : decode cX23_tilts 0 = .ok (.aload_n 0, 1) := dk_42 (dk_at dksX23_tilts_0 0 rfl rfl)
theorem dX23_tilts_1 : decode cX23_tilts 1 = .ok (.getfield 43, 3) := dk_180 0 43 (dk_at dksX23_tilts_0 1 rfl rfl)
theorem dX23_tilts_4 : decode cX23_tilts 4 = .ok (.ifCond .eq 12, 3) := dk_153 0 12 (dk_at dksX23_tilts_0 4 rfl rfl)
theorem dX23_tilts_7 : decode cX23_tilts 7 = .ok (.iconst 1, 1) := dk_4 (dk_at dksX23_tilts_0 7 rfl rfl)
theorem dX23_tilts_8 : decode cX23_tilts 8 = .ok (.aload_n 0, 1) := dk_42 (dk_at dksX23_tilts_0 8 rfl rfl)
theorem dX23_tilts_9 : decode cX23_tilts 9 = .ok (.getfield 46, 3) := dk_180 0 46 (dk_at dksX23_tilts_0 9 rfl rfl)
theorem dX23_tilts_12 : decode cX23_tilts 12 = .ok (.ishl, 1) := dk_120 (dk_at dksX23_tilts_0 12 rfl rfl)
theorem dX23_tilts_13 : decode cX23_tilts 13 = .ok (.goto 4, 3) := dk_167 0 4 (dk_at dksX23_tilts_0 13 rfl rfl)
theorem dX23_tilts_16 : decode cX23_tilts 16 = .ok (.iconst 1, 1) := dk_4 (dk_at dksX23_tilts_0 16 rfl rfl)
theorem dX23_tilts_17 : decode cX23_tilts 17 = .ok (.ireturn, 1) := dk_172 (dk_at dksX23_tilts_0 17 rfl rfl)
theorem q153 : (Jvm.Cond.initialized "FifthCardModel$Trick") ∈ lw_all := lw_g (lw_at lw_m1 32 rfl) rfl
theorem q1608 : (Jvm.Cond.instantiable "FifthCardModel$Trick" (15 : Nat)) ∈ lw_all := lw_g (lw_at lw_m7 47 rfl) rfl
theorem q1610 : (Jvm.Cond.instanceMethod ({ cls := "FifthCardModel$Trick", name := "<init>", desc := "()V" } : Jvm.MethodName)) ∈ lw_all := lw_g (lw_at lw_m7 49 rfl) rfl
theorem q1611 : (Jvm.Cond.code ({ cls := "FifthCardModel$Trick", name := "<init>", desc := "()V" } : Jvm.MethodName) prog_24_method_1_code (1 : Nat) (Option.none : Option Jvm.ClassFile.FieldType)) ∈ lw_all := lw_g (lw_at lw_m7 50 rfl) rfl
theorem q1612 : (Jvm.Cond.methodLink "FifthCardModel$Trick" (3 : Nat) ({ cls := "java/lang/Object", name := "<init>", desc := "()V" } : Jvm.MethodName)) ∈ lw_all := lw_g (lw_at lw_m7 51 rfl) rfl
theorem q1615 : (Jvm.Cond.fieldLink "FifthCardModel$Trick" (32 : Nat) "FifthCardModel$Trick" "hand" "I") ∈ lw_all := lw_g (lw_at lw_m7 54 rfl) rfl
theorem q1618 : (Jvm.Cond.fieldLink "FifthCardModel$Trick" (46 : Nat) "FifthCardModel$Trick" "shown" "I") ∈ lw_all := lw_g (lw_at lw_m7 57 rfl) rfl
theorem q1622 : (Jvm.Cond.fieldLink "FifthCardModel$Trick" (28 : Nat) "FifthCardModel$Trick" "isStranger" "Z") ∈ lw_all := lw_g (lw_at lw_m7 61 rfl) rfl
theorem q1625 : (Jvm.Cond.fieldLink "FifthCardModel$Trick" (43 : Nat) "FifthCardModel$Trick" "isTilted" "Z") ∈ lw_all := lw_g (lw_at lw_m7 64 rfl) rfl
theorem q1627 : (Jvm.Cond.fieldLink "FifthCardModel$Trick" (9 : Nat) "FifthCardModel$Trick" "rule" "[I") ∈ lw_all := lw_g (lw_at lw_m7 66 rfl) rfl
theorem q1629 : (Jvm.Cond.fieldLink "FifthCardModel$Trick" (15 : Nat) "FifthCardModel$Trick" "eveningCards" "[I") ∈ lw_all := lw_g (lw_at lw_m7 68 rfl) rfl
theorem q1631 : (Jvm.Cond.fieldLink "FifthCardModel$Trick" (18 : Nat) "FifthCardModel$Trick" "eveningRow" "[I") ∈ lw_all := lw_g (lw_at lw_m7 70 rfl) rfl
theorem q1633 : (Jvm.Cond.fieldLink "FifthCardModel$Trick" (21 : Nat) "FifthCardModel$Trick" "eveningTilts" "[I") ∈ lw_all := lw_g (lw_at lw_m7 72 rfl) rfl
theorem q1635 : (Jvm.Cond.fieldLink "FifthCardModel$Trick" (24 : Nat) "FifthCardModel$Trick" "name" "[J") ∈ lw_all := lw_g (lw_at lw_m7 74 rfl) rfl
theorem q1637 : (Jvm.Cond.lays "FifthCardModel$Trick" "FifthCardModel$Trick" "cards" "I") ∈ lw_all := lw_g (lw_at lw_m7 76 rfl) rfl
theorem q1638 : (Jvm.Cond.soleField "FifthCardModel$Trick" "cards") ∈ lw_all := lw_g (lw_at lw_m7 77 rfl) rfl
theorem q1639 : (Jvm.Cond.lays "FifthCardModel$Trick" "FifthCardModel$Trick" "suits" "I") ∈ lw_all := lw_g (lw_at lw_m7 78 rfl) rfl
theorem q1640 : (Jvm.Cond.soleField "FifthCardModel$Trick" "suits") ∈ lw_all := lw_g (lw_at lw_m7 79 rfl) rfl
theorem q1641 : (Jvm.Cond.lays "FifthCardModel$Trick" "FifthCardModel$Trick" "hand" "I") ∈ lw_all := lw_g (lw_at lw_m7 80 rfl) rfl
theorem q1642 : (Jvm.Cond.soleField "FifthCardModel$Trick" "hand") ∈ lw_all := lw_g (lw_at lw_m7 81 rfl) rfl
theorem q1643 : (Jvm.Cond.lays "FifthCardModel$Trick" "FifthCardModel$Trick" "kept" "I") ∈ lw_all := lw_g (lw_at lw_m7 82 rfl) rfl
theorem q1644 : (Jvm.Cond.soleField "FifthCardModel$Trick" "kept") ∈ lw_all := lw_g (lw_at lw_m7 83 rfl) rfl
theorem q1645 : (Jvm.Cond.lays "FifthCardModel$Trick" "FifthCardModel$Trick" "shown" "I") ∈ lw_all := lw_g (lw_at lw_m7 84 rfl) rfl
theorem q1646 : (Jvm.Cond.soleField "FifthCardModel$Trick" "shown") ∈ lw_all := lw_g (lw_at lw_m7 85 rfl) rfl
theorem q1647 : (Jvm.Cond.lays "FifthCardModel$Trick" "FifthCardModel$Trick" "rules" "I") ∈ lw_all := lw_g (lw_at lw_m7 86 rfl) rfl
theorem q1648 : (Jvm.Cond.soleField "FifthCardModel$Trick" "rules") ∈ lw_all := lw_g (lw_at lw_m7 87 rfl) rfl
theorem q1649 : (Jvm.Cond.lays "FifthCardModel$Trick" "FifthCardModel$Trick" "evenings" "I") ∈ lw_all := lw_g (lw_at lw_m7 88 rfl) rfl
theorem q1650 : (Jvm.Cond.soleField "FifthCardModel$Trick" "evenings") ∈ lw_all := lw_g (lw_at lw_m7 89 rfl) rfl
theorem q1651 : (Jvm.Cond.lays "FifthCardModel$Trick" "FifthCardModel$Trick" "isStranger" "Z") ∈ lw_all := lw_g (lw_at lw_m7 90 rfl) rfl
theorem q1652 : (Jvm.Cond.soleField "FifthCardModel$Trick" "isStranger") ∈ lw_all := lw_g (lw_at lw_m7 91 rfl) rfl
theorem q1653 : (Jvm.Cond.lays "FifthCardModel$Trick" "FifthCardModel$Trick" "isHeld" "Z") ∈ lw_all := lw_g (lw_at lw_m7 92 rfl) rfl
theorem q1654 : (Jvm.Cond.soleField "FifthCardModel$Trick" "isHeld") ∈ lw_all := lw_g (lw_at lw_m7 93 rfl) rfl
theorem q1655 : (Jvm.Cond.lays "FifthCardModel$Trick" "FifthCardModel$Trick" "isTilted" "Z") ∈ lw_all := lw_g (lw_at lw_m7 94 rfl) rfl
theorem q1656 : (Jvm.Cond.soleField "FifthCardModel$Trick" "isTilted") ∈ lw_all := lw_g (lw_at lw_m7 95 rfl) rfl
theorem q1657 : (Jvm.Cond.laysFinal "FifthCardModel$Trick" "FifthCardModel$Trick" "rule" "[I") ∈ lw_all := lw_g (lw_at lw_m7 96 rfl) rfl
theorem q1658 : (Jvm.Cond.soleField "FifthCardModel$Trick" "rule") ∈ lw_all := lw_g (lw_at lw_m7 97 rfl) rfl
theorem q1659 : (Jvm.Cond.laysFinal "FifthCardModel$Trick" "FifthCardModel$Trick" "eveningCards" "[I") ∈ lw_all := lw_g (lw_at lw_m7 98 rfl) rfl
theorem q1660 : (Jvm.Cond.soleField "FifthCardModel$Trick" "eveningCards") ∈ lw_all := lw_g (lw_at lw_m7 99 rfl) rfl
theorem q1661 : (Jvm.Cond.laysFinal "FifthCardModel$Trick" "FifthCardModel$Trick" "eveningRow" "[I") ∈ lw_all := lw_g (lw_at lw_m7 100 rfl) rfl
theorem q1662 : (Jvm.Cond.soleField "FifthCardModel$Trick" "eveningRow") ∈ lw_all := lw_g (lw_at lw_m7 101 rfl) rfl
theorem q1663 : (Jvm.Cond.laysFinal "FifthCardModel$Trick" "FifthCardModel$Trick" "eveningTilts" "[I") ∈ lw_all := lw_g (lw_at lw_m7 102 rfl) rfl
theorem q1664 : (Jvm.Cond.soleField "FifthCardModel$Trick" "eveningTilts") ∈ lw_all := lw_g (lw_at lw_m7 103 rfl) rfl
theorem q1665 : (Jvm.Cond.laysFinal "FifthCardModel$Trick" "FifthCardModel$Trick" "name" "[J") ∈ lw_all := lw_g (lw_at lw_m7 104 rfl) rfl
theorem q1666 : (Jvm.Cond.soleField "FifthCardModel$Trick" "name") ∈ lw_all := lw_g (lw_at lw_m7 105 rfl) rfl
theorem q1667 : (Jvm.Cond.superclass "FifthCardModel$Trick" "java/lang/Object") ∈ lw_all := lw_g (lw_at lw_m7 106 rfl) rfl
theorem q1758 : (Jvm.Cond.instanceMethod ({ cls := "FifthCardModel$Trick", name := "handsOf", desc := "(I)J" } : Jvm.MethodName)) ∈ lw_all := lw_g (lw_at lw_m7 197 rfl) rfl
theorem q1759 : (Jvm.Cond.selects "FifthCardModel$Trick" ({ cls := "FifthCardModel$Trick", name := "handsOf", desc := "(I)J" } : Jvm.MethodName) ({ cls := "FifthCardModel$Trick", name := "handsOf", desc := "(I)J" } : Jvm.MethodName)) ∈ lw_all := lw_g (lw_at lw_m7 198 rfl) rfl
theorem q1760 : (Jvm.Cond.code ({ cls := "FifthCardModel$Trick", name := "handsOf", desc := "(I)J" } : Jvm.MethodName) prog_24_method_2_code (2 : Nat) (Option.some Jvm.ClassFile.FieldType.long)) ∈ lw_all := lw_g (lw_at lw_m7 199 rfl) rfl
theorem q1761 : (Jvm.Cond.methodLinkNest "FifthCardModel$Trick" (36 : Nat) ({ cls := "FifthCardModel", name := "rowsOf", desc := "(II)J" } : Jvm.MethodName) "FifthCardModel") ∈ lw_tbl := lw_at lw_m7 200 rfl
theorem q1764 : (Jvm.Cond.methodLinkNest "FifthCardModel$Trick" (40 : Nat) ({ cls := "FifthCardModel", name := "setsOf", desc := "(II)J" } : Jvm.MethodName) "FifthCardModel") ∈ lw_tbl := lw_at lw_m7 203 rfl
theorem q1864 : (Jvm.Cond.instanceMethod ({ cls := "FifthCardModel$Trick", name := "tilts", desc := "()I" } : Jvm.MethodName)) ∈ lw_all := lw_g (lw_at lw_m8 63 rfl) rfl
theorem q1865 : (Jvm.Cond.selects "FifthCardModel$Trick" ({ cls := "FifthCardModel$Trick", name := "tilts", desc := "()I" } : Jvm.MethodName) ({ cls := "FifthCardModel$Trick", name := "tilts", desc := "()I" } : Jvm.MethodName)) ∈ lw_all := lw_g (lw_at lw_m8 64 rfl) rfl
theorem q1866 : (Jvm.Cond.code ({ cls := "FifthCardModel$Trick", name := "tilts", desc := "()I" } : Jvm.MethodName) prog_24_method_3_code (1 : Nat) (Option.some Jvm.ClassFile.FieldType.int)) ∈ lw_all := lw_g (lw_at lw_m8 65 rfl) rfl
theorem q2246 : (Jvm.Cond.castable "FifthCardModel$Trick" "java/lang/Object") ∈ lw_tbl := lw_at lw_m9 205 rfl
theorem in_X23 : ∀ w ∈ wsX230, w ∈ lw_all := lw_in wsX230 [1637, 1639, 1641, 1643, 1645, 1647, 1649, 1651, 1653, 1655, 1657, 1659, 1661, 1663, 1665] (by decide +kernel) (by decide +kernel)
