/-! NotAtOnceLaw -/
set_option maxRecDepth 100000
def RX0 : String := "NotAtOnceLaw"
abbrev cX0_led : ByteArray := method_3_code
def yX0_led : MethodName := ⟨RX0, "led", "(LNotAtOnce;I[J)I"⟩
def dkwX0_led_0 : List UInt8 := [44, 3, 42, 27, 182, 0, 7, 133, 80, 167, 0, 6, 78, 4, 172, 3, 172]
abbrev dktX0_led_0 : List UInt8 := dkwX0_led_0 ++ []
theorem dksX0_led_0 : cX0_led.data.toList.drop 0 = dktX0_led_0 := by decide +kernel
theorem dX0_led_0 : decode cX0_led 0 = .ok (.aload_n 2, 1) := dk_44 (dk_at dksX0_led_0 0 rfl rfl)
theorem dX0_led_1 : decode cX0_led 1 = .ok (.iconst 0, 1) := dk_3 (dk_at dksX0_led_0 1 rfl rfl)
theorem dX0_led_2 : decode cX0_led 2 = .ok (.aload_n 0, 1) := dk_42 (dk_at dksX0_led_0 2 rfl rfl)
theorem dX0_led_3 : decode cX0_led 3 = .ok (.iload_n 1, 1) := dk_27 (dk_at dksX0_led_0 3 rfl rfl)
theorem dX0_led_4 : decode cX0_led 4 = .ok (.invokevirtual 7, 3) := dk_182 0 7 (dk_at dksX0_led_0 4 rfl rfl)
theorem dX0_led_7 : decode cX0_led 7 = .ok (.i2l, 1) := dk_133 (dk_at dksX0_led_0 7 rfl rfl)
theorem dX0_led_8 : decode cX0_led 8 = .ok (.lastore, 1) := dk_80 (dk_at dksX0_led_0 8 rfl rfl)
theorem dX0_led_9 : decode cX0_led 9 = .ok (.goto 6, 3) := dk_167 0 6 (dk_at dksX0_led_0 9 rfl rfl)
theorem dX0_led_12 : decode cX0_led 12 = .ok (.astore_n 3, 1) := dk_78 (dk_at dksX0_led_0 12 rfl rfl)
theorem dX0_led_13 : decode cX0_led 13 = .ok (.iconst 1, 1) := dk_4 (dk_at dksX0_led_0 13 rfl rfl)
theorem dX0_led_14 : decode cX0_led 14 = .ok (.ireturn, 1) := dk_172 (dk_at dksX0_led_0 14 rfl rfl)
theorem dX0_led_15 : decode cX0_led 15 = .ok (.iconst 0, 1) := dk_3 (dk_at dksX0_led_0 15 rfl rfl)
theorem dX0_led_16 : decode cX0_led 16 = .ok (.ireturn, 1) := dk_172 (dk_at dksX0_led_0 16 rfl rfl)
theorem q112 : (Jvm.Cond.initialized "NotAtOnceLaw") ∈ lw_all := lw_g (lw_at lw_m1 0 rfl) rfl
theorem q151 : (Jvm.Cond.classLink "NotAtOnceLaw" (8 : Nat) "NotAtOnce") ∈ lw_all := lw_g (lw_at lw_m1 39 rfl) rfl
theorem q153 : (Jvm.Cond.methodLink "NotAtOnceLaw" (15 : Nat) ({ cls := "NotAtOnce", name := "<init>", desc := "()V" } : Jvm.MethodName)) ∈ lw_all := lw_g (lw_at lw_m1 41 rfl) rfl
theorem q248 : (Jvm.Cond.methodLink "NotAtOnceLaw" (19 : Nat) ({ cls := "NotAtOnce", name := "feed", desc := "(IIIII)I" } : Jvm.MethodName)) ∈ lw_all := lw_g (lw_at lw_m1 136 rfl) rfl
theorem q252 : (Jvm.Cond.methodLink "NotAtOnceLaw" (24 : Nat) ({ cls := "NotAtOnce", name := "book", desc := "(I)I" } : Jvm.MethodName)) ∈ lw_all := lw_g (lw_at lw_m1 140 rfl) rfl
theorem q981 : (Jvm.Cond.methodLink "NotAtOnceLaw" (28 : Nat) ({ cls := "NotAtOnce", name := "fault", desc := "()I" } : Jvm.MethodName)) ∈ lw_all := lw_g (lw_at lw_m4 149 rfl) rfl
theorem q985 : (Jvm.Cond.methodLink "NotAtOnceLaw" (33 : Nat) ({ cls := "NotAtOnce", name := "where", desc := "()I" } : Jvm.MethodName)) ∈ lw_all := lw_g (lw_at lw_m4 153 rfl) rfl
theorem q989 : (Jvm.Cond.methodLink "NotAtOnceLaw" (37 : Nat) ({ cls := "NotAtOnce", name := "share", desc := "(Z)I" } : Jvm.MethodName)) ∈ lw_all := lw_g (lw_at lw_m4 157 rfl) rfl
theorem q1055 : (Jvm.Cond.methodLink "NotAtOnceLaw" (42 : Nat) ({ cls := "NotAtOnce", name := "togethe\x72", desc := "(IIIIZZ)I" } : Jvm.MethodName)) ∈ lw_all := lw_g (lw_at lw_m4 223 rfl) rfl
theorem q1068 : (Jvm.Cond.methodLink "NotAtOnceLaw" (47 : Nat) ({ cls := "NotAtOnce", name := "extend", desc := "(II)I" } : Jvm.MethodName)) ∈ lw_all := lw_g (lw_at lw_m4 236 rfl) rfl
theorem q1103 : (Jvm.Cond.methodLink "NotAtOnceLaw" (52 : Nat) ({ cls := "NotAtOnce", name := "level", desc := "()I" } : Jvm.MethodName)) ∈ lw_all := lw_g (lw_at lw_m5 31 rfl) rfl
theorem q1119 : (Jvm.Cond.methodLink "NotAtOnceLaw" (56 : Nat) ({ cls := "NotAtOnce", name := "hidden", desc := "()I" } : Jvm.MethodName)) ∈ lw_all := lw_g (lw_at lw_m5 47 rfl) rfl
theorem q1124 : (Jvm.Cond.methodLink "NotAtOnceLaw" (60 : Nat) ({ cls := "NotAtOnce", name := "answe\x72", desc := "(I)I" } : Jvm.MethodName)) ∈ lw_all := lw_g (lw_at lw_m5 52 rfl) rfl
theorem q1128 : (Jvm.Cond.methodLink "NotAtOnceLaw" (64 : Nat) ({ cls := "NotAtOnce", name := "disturbed", desc := "()I" } : Jvm.MethodName)) ∈ lw_all := lw_g (lw_at lw_m5 56 rfl) rfl
theorem q1169 : (Jvm.Cond.methodLink "NotAtOnceLaw" (68 : Nat) ({ cls := "NotAtOnce", name := "same", desc := "(I)I" } : Jvm.MethodName)) ∈ lw_all := lw_g (lw_at lw_m5 97 rfl) rfl
theorem q1185 : (Jvm.Cond.methodLink "NotAtOnceLaw" (72 : Nat) ({ cls := "NotAtOnce", name := "cycles", desc := "()I" } : Jvm.MethodName)) ∈ lw_all := lw_g (lw_at lw_m5 113 rfl) rfl
theorem q1209 : (Jvm.Cond.methodLink "NotAtOnceLaw" (76 : Nat) ({ cls := "NotAtOnce", name := "cycle", desc := "(I)I" } : Jvm.MethodName)) ∈ lw_all := lw_g (lw_at lw_m5 137 rfl) rfl
theorem q1213 : (Jvm.Cond.methodLink "NotAtOnceLaw" (80 : Nat) ({ cls := "NotAtOnce", name := "excess", desc := "(I)I" } : Jvm.MethodName)) ∈ lw_all := lw_g (lw_at lw_m5 141 rfl) rfl
theorem q1227 : (Jvm.Cond.methodLink "NotAtOnceLaw" (84 : Nat) ({ cls := "NotAtOnce", name := "widest", desc := "()I" } : Jvm.MethodName)) ∈ lw_all := lw_g (lw_at lw_m5 155 rfl) rfl
theorem q1231 : (Jvm.Cond.methodLink "NotAtOnceLaw" (88 : Nat) ({ cls := "NotAtOnce", name := "stake", desc := "(III)Z" } : Jvm.MethodName)) ∈ lw_all := lw_g (lw_at lw_m5 159 rfl) rfl
theorem q1243 : (Jvm.Cond.methodLink "NotAtOnceLaw" (93 : Nat) ({ cls := "NotAtOnce", name := "wins", desc := "()I" } : Jvm.MethodName)) ∈ lw_all := lw_g (lw_at lw_m5 171 rfl) rfl
theorem q1251 : (Jvm.Cond.methodLink "NotAtOnceLaw" (97 : Nat) ({ cls := "NotAtOnce", name := "worst", desc := "()I" } : Jvm.MethodName)) ∈ lw_all := lw_g (lw_at lw_m5 179 rfl) rfl
theorem q1263 : (Jvm.Cond.methodLink "NotAtOnceLaw" (101 : Nat) ({ cls := "NotAtOnce", name := "worstAt", desc := "()I" } : Jvm.MethodName)) ∈ lw_all := lw_g (lw_at lw_m5 191 rfl) rfl
theorem q1267 : (Jvm.Cond.methodLink "NotAtOnceLaw" (105 : Nat) ({ cls := "NotAtOnce", name := "bars", desc := "()I" } : Jvm.MethodName)) ∈ lw_all := lw_g (lw_at lw_m5 195 rfl) rfl
theorem q1271 : (Jvm.Cond.methodLink "NotAtOnceLaw" (109 : Nat) ({ cls := "NotAtOnce", name := "fai\x72", desc := "(Z)I" } : Jvm.MethodName)) ∈ lw_all := lw_g (lw_at lw_m5 199 rfl) rfl
theorem q1275 : (Jvm.Cond.methodLink "NotAtOnceLaw" (113 : Nat) ({ cls := "NotAtOnce", name := "ways", desc := "()I" } : Jvm.MethodName)) ∈ lw_all := lw_g (lw_at lw_m5 203 rfl) rfl
theorem q1297 : (Jvm.Cond.methodLink "NotAtOnceLaw" (117 : Nat) ({ cls := "NotAtOnce", name := "forced", desc := "(I)I" } : Jvm.MethodName)) ∈ lw_all := lw_g (lw_at lw_m5 225 rfl) rfl
theorem q1302 : (Jvm.Cond.methodLink "NotAtOnceLaw" (121 : Nat) ({ cls := "NotAtOnce", name := "core", desc := "()I" } : Jvm.MethodName)) ∈ lw_all := lw_g (lw_at lw_m5 230 rfl) rfl
theorem q1312 : (Jvm.Cond.methodLink "NotAtOnceLaw" (125 : Nat) ({ cls := "NotAtOnce", name := "can", desc := "(I)I" } : Jvm.MethodName)) ∈ lw_all := lw_g (lw_at lw_m6 0 rfl) rfl
theorem q1316 : (Jvm.Cond.methodLink "NotAtOnceLaw" (129 : Nat) ({ cls := "NotAtOnce", name := "game", desc := "()I" } : Jvm.MethodName)) ∈ lw_all := lw_g (lw_at lw_m6 4 rfl) rfl
theorem q1324 : (Jvm.Cond.methodLink "NotAtOnceLaw" (133 : Nat) ({ cls := "NotAtOnce", name := "square", desc := "(II)I" } : Jvm.MethodName)) ∈ lw_all := lw_g (lw_at lw_m6 12 rfl) rfl
theorem q1337 : (Jvm.Cond.methodLink "NotAtOnceLaw" (137 : Nat) ({ cls := "NotAtOnce", name := "corners", desc := "()I" } : Jvm.MethodName)) ∈ lw_all := lw_g (lw_at lw_m6 25 rfl) rfl
theorem q1404 : (Jvm.Cond.methodLink "NotAtOnceLaw" (141 : Nat) ({ cls := "NotAtOnce", name := "colours", desc := "()I" } : Jvm.MethodName)) ∈ lw_all := lw_g (lw_at lw_m6 92 rfl) rfl
theorem q1428 : (Jvm.Cond.methodLink "NotAtOnceLaw" (145 : Nat) ({ cls := "NotAtOnce", name := "ones", desc := "()I" } : Jvm.MethodName)) ∈ lw_all := lw_g (lw_at lw_m6 116 rfl) rfl
theorem q1432 : (Jvm.Cond.methodLink "NotAtOnceLaw" (149 : Nat) ({ cls := "NotAtOnce", name := "spare", desc := "()I" } : Jvm.MethodName)) ∈ lw_all := lw_g (lw_at lw_m6 120 rfl) rfl
theorem q1436 : (Jvm.Cond.methodLink "NotAtOnceLaw" (153 : Nat) ({ cls := "NotAtOnce", name := "critical", desc := "()I" } : Jvm.MethodName)) ∈ lw_all := lw_g (lw_at lw_m6 124 rfl) rfl
theorem q1440 : (Jvm.Cond.methodLink "NotAtOnceLaw" (157 : Nat) ({ cls := "NotAtOnce", name := "memory", desc := "()I" } : Jvm.MethodName)) ∈ lw_all := lw_g (lw_at lw_m6 128 rfl) rfl
theorem q1482 : (Jvm.Cond.methodLink "NotAtOnceLaw" (161 : Nat) ({ cls := "NotAtOnce", name := "machine", desc := "(IIZ)I" } : Jvm.MethodName)) ∈ lw_all := lw_g (lw_at lw_m6 170 rfl) rfl
theorem q1486 : (Jvm.Cond.methodLink "NotAtOnceLaw" (166 : Nat) ({ cls := "NotAtOnce", name := "flip", desc := "(I)Z" } : Jvm.MethodName)) ∈ lw_all := lw_g (lw_at lw_m6 174 rfl) rfl
theorem q1540 : (Jvm.Cond.methodLink "NotAtOnceLaw" (171 : Nat) ({ cls := "NotAtOnce", name := "drop", desc := "(I)Z" } : Jvm.MethodName)) ∈ lw_all := lw_g (lw_at lw_m6 228 rfl) rfl
theorem q1544 : (Jvm.Cond.methodLink "NotAtOnceLaw" (175 : Nat) ({ cls := "NotAtOnce", name := "forget", desc := "(I)Z" } : Jvm.MethodName)) ∈ lw_all := lw_g (lw_at lw_m6 232 rfl) rfl
theorem q1572 : (Jvm.Cond.methodLink "NotAtOnceLaw" (179 : Nat) ({ cls := "NotAtOnce", name := "shift", desc := "(IIII)Z" } : Jvm.MethodName)) ∈ lw_all := lw_g (lw_at lw_m7 20 rfl) rfl
theorem q1576 : (Jvm.Cond.methodLink "NotAtOnceLaw" (184 : Nat) ({ cls := "NotAtOnce", name := "undo", desc := "()Z" } : Jvm.MethodName)) ∈ lw_all := lw_g (lw_at lw_m7 24 rfl) rfl
theorem q1589 : (Jvm.Cond.methodLink "NotAtOnceLaw" (189 : Nat) ({ cls := "NotAtOnce", name := "redo", desc := "()Z" } : Jvm.MethodName)) ∈ lw_all := lw_g (lw_at lw_m7 37 rfl) rfl
theorem q1593 : (Jvm.Cond.methodLink "NotAtOnceLaw" (193 : Nat) ({ cls := "NotAtOnce", name := "mark", desc := "()I" } : Jvm.MethodName)) ∈ lw_all := lw_g (lw_at lw_m7 41 rfl) rfl
theorem q1597 : (Jvm.Cond.methodLink "NotAtOnceLaw" (197 : Nat) ({ cls := "NotAtOnce", name := "back", desc := "(I)Z" } : Jvm.MethodName)) ∈ lw_all := lw_g (lw_at lw_m7 45 rfl) rfl
theorem q1602 : (Jvm.Cond.methodLink "NotAtOnceLaw" (201 : Nat) ({ cls := "NotAtOnce", name := "act", desc := "(II)I" } : Jvm.MethodName)) ∈ lw_all := lw_g (lw_at lw_m7 50 rfl) rfl
theorem q1606 : (Jvm.Cond.methodLink "NotAtOnceLaw" (205 : Nat) ({ cls := "NotAtOnce", name := "times", desc := "(II)I" } : Jvm.MethodName)) ∈ lw_all := lw_g (lw_at lw_m7 54 rfl) rfl
theorem q1610 : (Jvm.Cond.methodLink "NotAtOnceLaw" (209 : Nat) ({ cls := "NotAtOnce", name := "look", desc := "(IZ)I" } : Jvm.MethodName)) ∈ lw_all := lw_g (lw_at lw_m7 58 rfl) rfl
theorem q1616 : (Jvm.Cond.methodLink "NotAtOnceLaw" (214 : Nat) ({ cls := "NotAtOnce", name := "coins", desc := "(II)I" } : Jvm.MethodName)) ∈ lw_all := lw_g (lw_at lw_m7 64 rfl) rfl
theorem q1620 : (Jvm.Cond.methodLink "NotAtOnceLaw" (227 : Nat) ({ cls := "NotAtOnce", name := "size", desc := "(I)I" } : Jvm.MethodName)) ∈ lw_all := lw_g (lw_at lw_m7 68 rfl) rfl
theorem q1624 : (Jvm.Cond.methodLink "NotAtOnceLaw" (231 : Nat) ({ cls := "NotAtOnce", name := "trouble", desc := "()I" } : Jvm.MethodName)) ∈ lw_all := lw_g (lw_at lw_m7 72 rfl) rfl
theorem q1628 : (Jvm.Cond.methodLink "NotAtOnceLaw" (218 : Nat) ({ cls := "NotAtOnceLaw", name := "led", desc := "(LNotAtOnce;I[J)I" } : Jvm.MethodName)) ∈ lw_all := lw_g (lw_at lw_m7 76 rfl) rfl
theorem q1629 : (Jvm.Cond.static ({ cls := "NotAtOnceLaw", name := "led", desc := "(LNotAtOnce;I[J)I" } : Jvm.MethodName)) ∈ lw_all := lw_g (lw_at lw_m7 77 rfl) rfl
theorem q1630 : (Jvm.Cond.codeWith ({ cls := "NotAtOnceLaw", name := "led", desc := "(LNotAtOnce;I[J)I" } : Jvm.MethodName) method_3_code (4 : Nat) (Option.some Jvm.ClassFile.FieldType.int) [((0 : Nat), (9 : Nat), (12 : Nat), (13 : Nat))]) ∈ lw_all := lw_g (lw_at lw_m7 78 rfl) rfl
theorem q1631 : (Jvm.Cond.classLink "NotAtOnceLaw" (13 : Nat) "java/util/NoSuchElementException") ∈ lw_all := lw_g (lw_at lw_m7 79 rfl) rfl
theorem q1632 : (Jvm.Cond.methodLink "NotAtOnceLaw" (7 : Nat) ({ cls := "NotAtOnce", name := "led", desc := "(I)I" } : Jvm.MethodName)) ∈ lw_all := lw_g (lw_at lw_m7 80 rfl) rfl
theorem q1697 : (Jvm.Cond.classLink "NotAtOnceLaw" (16 : Nat) "NotAtOnceModel") ∈ lw_all := lw_g (lw_at lw_m7 145 rfl) rfl
theorem q1699 : (Jvm.Cond.methodLink "NotAtOnceLaw" (18 : Nat) ({ cls := "NotAtOnceModel", name := "<init>", desc := "()V" } : Jvm.MethodName)) ∈ lw_all := lw_g (lw_at lw_m7 147 rfl) rfl
theorem q1824 : (Jvm.Cond.methodLink "NotAtOnceLaw" (224 : Nat) ({ cls := "NotAtOnceModel", name := "thrown", desc := "()I" } : Jvm.MethodName)) ∈ lw_all := lw_g (lw_at lw_m8 32 rfl) rfl
theorem q1828 : (Jvm.Cond.methodLink "NotAtOnceLaw" (23 : Nat) ({ cls := "NotAtOnceModel", name := "feed", desc := "(IIIII)I" } : Jvm.MethodName)) ∈ lw_all := lw_g (lw_at lw_m8 36 rfl) rfl
theorem q1832 : (Jvm.Cond.methodLink "NotAtOnceLaw" (27 : Nat) ({ cls := "NotAtOnceModel", name := "book", desc := "(I)I" } : Jvm.MethodName)) ∈ lw_all := lw_g (lw_at lw_m8 40 rfl) rfl
theorem q1975 : (Jvm.Cond.methodLink "NotAtOnceLaw" (32 : Nat) ({ cls := "NotAtOnceModel", name := "fault", desc := "()I" } : Jvm.MethodName)) ∈ lw_all := lw_g (lw_at lw_m8 183 rfl) rfl
theorem q1979 : (Jvm.Cond.methodLink "NotAtOnceLaw" (36 : Nat) ({ cls := "NotAtOnceModel", name := "where", desc := "()I" } : Jvm.MethodName)) ∈ lw_all := lw_g (lw_at lw_m8 187 rfl) rfl
theorem q1983 : (Jvm.Cond.methodLink "NotAtOnceLaw" (41 : Nat) ({ cls := "NotAtOnceModel", name := "share", desc := "(Z)I" } : Jvm.MethodName)) ∈ lw_all := lw_g (lw_at lw_m8 191 rfl) rfl
theorem q2028 : (Jvm.Cond.methodLink "NotAtOnceLaw" (46 : Nat) ({ cls := "NotAtOnceModel", name := "togethe\x72", desc := "(IIIIZZ)I" } : Jvm.MethodName)) ∈ lw_all := lw_g (lw_at lw_m8 236 rfl) rfl
theorem q2039 : (Jvm.Cond.methodLink "NotAtOnceLaw" (51 : Nat) ({ cls := "NotAtOnceModel", name := "extend", desc := "(II)I" } : Jvm.MethodName)) ∈ lw_all := lw_g (lw_at lw_m9 7 rfl) rfl
theorem q2059 : (Jvm.Cond.methodLink "NotAtOnceLaw" (55 : Nat) ({ cls := "NotAtOnceModel", name := "level", desc := "()I" } : Jvm.MethodName)) ∈ lw_all := lw_g (lw_at lw_m9 27 rfl) rfl
theorem q2063 : (Jvm.Cond.methodLink "NotAtOnceLaw" (59 : Nat) ({ cls := "NotAtOnceModel", name := "hidden", desc := "()I" } : Jvm.MethodName)) ∈ lw_all := lw_g (lw_at lw_m9 31 rfl) rfl
theorem q2071 : (Jvm.Cond.methodLink "NotAtOnceLaw" (63 : Nat) ({ cls := "NotAtOnceModel", name := "answe\x72", desc := "(I)I" } : Jvm.MethodName)) ∈ lw_all := lw_g (lw_at lw_m9 39 rfl) rfl
theorem q2075 : (Jvm.Cond.methodLink "NotAtOnceLaw" (67 : Nat) ({ cls := "NotAtOnceModel", name := "disturbed", desc := "()I" } : Jvm.MethodName)) ∈ lw_all := lw_g (lw_at lw_m9 43 rfl) rfl
theorem q2083 : (Jvm.Cond.methodLink "NotAtOnceLaw" (71 : Nat) ({ cls := "NotAtOnceModel", name := "same", desc := "(I)I" } : Jvm.MethodName)) ∈ lw_all := lw_g (lw_at lw_m9 51 rfl) rfl
theorem q2095 : (Jvm.Cond.methodLink "NotAtOnceLaw" (75 : Nat) ({ cls := "NotAtOnceModel", name := "cycles", desc := "()I" } : Jvm.MethodName)) ∈ lw_all := lw_g (lw_at lw_m9 63 rfl) rfl
theorem q2110 : (Jvm.Cond.methodLink "NotAtOnceLaw" (79 : Nat) ({ cls := "NotAtOnceModel", name := "cycle", desc := "(I)I" } : Jvm.MethodName)) ∈ lw_all := lw_g (lw_at lw_m9 78 rfl) rfl
theorem q2114 : (Jvm.Cond.methodLink "NotAtOnceLaw" (83 : Nat) ({ cls := "NotAtOnceModel", name := "excess", desc := "(I)I" } : Jvm.MethodName)) ∈ lw_all := lw_g (lw_at lw_m9 82 rfl) rfl
theorem q2123 : (Jvm.Cond.methodLink "NotAtOnceLaw" (87 : Nat) ({ cls := "NotAtOnceModel", name := "widest", desc := "()I" } : Jvm.MethodName)) ∈ lw_all := lw_g (lw_at lw_m9 91 rfl) rfl
theorem q2127 : (Jvm.Cond.methodLink "NotAtOnceLaw" (92 : Nat) ({ cls := "NotAtOnceModel", name := "stake", desc := "(III)Z" } : Jvm.MethodName)) ∈ lw_all := lw_g (lw_at lw_m9 95 rfl) rfl
theorem q2135 : (Jvm.Cond.methodLink "NotAtOnceLaw" (96 : Nat) ({ cls := "NotAtOnceModel", name := "wins", desc := "()I" } : Jvm.MethodName)) ∈ lw_all := lw_g (lw_at lw_m9 103 rfl) rfl
theorem q2143 : (Jvm.Cond.methodLink "NotAtOnceLaw" (100 : Nat) ({ cls := "NotAtOnceModel", name := "worst", desc := "()I" } : Jvm.MethodName)) ∈ lw_all := lw_g (lw_at lw_m9 111 rfl) rfl
theorem q2155 : (Jvm.Cond.methodLink "NotAtOnceLaw" (104 : Nat) ({ cls := "NotAtOnceModel", name := "worstAt", desc := "()I" } : Jvm.MethodName)) ∈ lw_all := lw_g (lw_at lw_m9 123 rfl) rfl
theorem q2159 : (Jvm.Cond.methodLink "NotAtOnceLaw" (108 : Nat) ({ cls := "NotAtOnceModel", name := "bars", desc := "()I" } : Jvm.MethodName)) ∈ lw_all := lw_g (lw_at lw_m9 127 rfl) rfl
theorem q2163 : (Jvm.Cond.methodLink "NotAtOnceLaw" (112 : Nat) ({ cls := "NotAtOnceModel", name := "fai\x72", desc := "(Z)I" } : Jvm.MethodName)) ∈ lw_all := lw_g (lw_at lw_m9 131 rfl) rfl
theorem q2167 : (Jvm.Cond.methodLink "NotAtOnceLaw" (116 : Nat) ({ cls := "NotAtOnceModel", name := "ways", desc := "()I" } : Jvm.MethodName)) ∈ lw_all := lw_g (lw_at lw_m9 135 rfl) rfl
theorem q2179 : (Jvm.Cond.methodLink "NotAtOnceLaw" (120 : Nat) ({ cls := "NotAtOnceModel", name := "forced", desc := "(I)I" } : Jvm.MethodName)) ∈ lw_all := lw_g (lw_at lw_m9 147 rfl) rfl
theorem q2183 : (Jvm.Cond.methodLink "NotAtOnceLaw" (124 : Nat) ({ cls := "NotAtOnceModel", name := "core", desc := "()I" } : Jvm.MethodName)) ∈ lw_all := lw_g (lw_at lw_m9 151 rfl) rfl
theorem q2191 : (Jvm.Cond.methodLink "NotAtOnceLaw" (128 : Nat) ({ cls := "NotAtOnceModel", name := "can", desc := "(I)I" } : Jvm.MethodName)) ∈ lw_all := lw_g (lw_at lw_m9 159 rfl) rfl
theorem q2195 : (Jvm.Cond.methodLink "NotAtOnceLaw" (132 : Nat) ({ cls := "NotAtOnceModel", name := "game", desc := "()I" } : Jvm.MethodName)) ∈ lw_all := lw_g (lw_at lw_m9 163 rfl) rfl
theorem q2199 : (Jvm.Cond.methodLink "NotAtOnceLaw" (136 : Nat) ({ cls := "NotAtOnceModel", name := "square", desc := "(II)I" } : Jvm.MethodName)) ∈ lw_all := lw_g (lw_at lw_m9 167 rfl) rfl
theorem q2211 : (Jvm.Cond.methodLink "NotAtOnceLaw" (140 : Nat) ({ cls := "NotAtOnceModel", name := "corners", desc := "()I" } : Jvm.MethodName)) ∈ lw_all := lw_g (lw_at lw_m9 179 rfl) rfl
theorem q2219 : (Jvm.Cond.methodLink "NotAtOnceLaw" (144 : Nat) ({ cls := "NotAtOnceModel", name := "colours", desc := "()I" } : Jvm.MethodName)) ∈ lw_all := lw_g (lw_at lw_m9 187 rfl) rfl
theorem q2236 : (Jvm.Cond.methodLink "NotAtOnceLaw" (148 : Nat) ({ cls := "NotAtOnceModel", name := "ones", desc := "()I" } : Jvm.MethodName)) ∈ lw_all := lw_g (lw_at lw_m9 204 rfl) rfl
theorem q2240 : (Jvm.Cond.methodLink "NotAtOnceLaw" (152 : Nat) ({ cls := "NotAtOnceModel", name := "spare", desc := "()I" } : Jvm.MethodName)) ∈ lw_all := lw_g (lw_at lw_m9 208 rfl) rfl
theorem q2248 : (Jvm.Cond.methodLink "NotAtOnceLaw" (156 : Nat) ({ cls := "NotAtOnceModel", name := "critical", desc := "()I" } : Jvm.MethodName)) ∈ lw_all := lw_g (lw_at lw_m9 216 rfl) rfl
theorem q2252 : (Jvm.Cond.methodLink "NotAtOnceLaw" (160 : Nat) ({ cls := "NotAtOnceModel", name := "memory", desc := "()I" } : Jvm.MethodName)) ∈ lw_all := lw_g (lw_at lw_m9 220 rfl) rfl
theorem q2264 : (Jvm.Cond.methodLink "NotAtOnceLaw" (165 : Nat) ({ cls := "NotAtOnceModel", name := "machine", desc := "(IIZ)I" } : Jvm.MethodName)) ∈ lw_all := lw_g (lw_at lw_m9 232 rfl) rfl
theorem q2268 : (Jvm.Cond.methodLink "NotAtOnceLaw" (170 : Nat) ({ cls := "NotAtOnceModel", name := "flip", desc := "(I)Z" } : Jvm.MethodName)) ∈ lw_all := lw_g (lw_at lw_m9 236 rfl) rfl
theorem q2282 : (Jvm.Cond.methodLink "NotAtOnceLaw" (174 : Nat) ({ cls := "NotAtOnceModel", name := "drop", desc := "(I)Z" } : Jvm.MethodName)) ∈ lw_all := lw_g (lw_at lw_m10 10 rfl) rfl
theorem q2290 : (Jvm.Cond.methodLink "NotAtOnceLaw" (178 : Nat) ({ cls := "NotAtOnceModel", name := "forget", desc := "(I)Z" } : Jvm.MethodName)) ∈ lw_all := lw_g (lw_at lw_m10 18 rfl) rfl
theorem q2294 : (Jvm.Cond.methodLink "NotAtOnceLaw" (183 : Nat) ({ cls := "NotAtOnceModel", name := "shift", desc := "(IIII)Z" } : Jvm.MethodName)) ∈ lw_all := lw_g (lw_at lw_m10 22 rfl) rfl
theorem q2298 : (Jvm.Cond.methodLink "NotAtOnceLaw" (188 : Nat) ({ cls := "NotAtOnceModel", name := "undo", desc := "()Z" } : Jvm.MethodName)) ∈ lw_all := lw_g (lw_at lw_m10 26 rfl) rfl
theorem q2302 : (Jvm.Cond.methodLink "NotAtOnceLaw" (192 : Nat) ({ cls := "NotAtOnceModel", name := "redo", desc := "()Z" } : Jvm.MethodName)) ∈ lw_all := lw_g (lw_at lw_m10 30 rfl) rfl
theorem q2306 : (Jvm.Cond.methodLink "NotAtOnceLaw" (196 : Nat) ({ cls := "NotAtOnceModel", name := "mark", desc := "()I" } : Jvm.MethodName)) ∈ lw_all := lw_g (lw_at lw_m10 34 rfl) rfl
theorem q2310 : (Jvm.Cond.methodLink "NotAtOnceLaw" (200 : Nat) ({ cls := "NotAtOnceModel", name := "back", desc := "(I)Z" } : Jvm.MethodName)) ∈ lw_all := lw_g (lw_at lw_m10 38 rfl) rfl
theorem q2314 : (Jvm.Cond.methodLink "NotAtOnceLaw" (204 : Nat) ({ cls := "NotAtOnceModel", name := "act", desc := "(II)I" } : Jvm.MethodName)) ∈ lw_all := lw_g (lw_at lw_m10 42 rfl) rfl
theorem q2318 : (Jvm.Cond.methodLink "NotAtOnceLaw" (208 : Nat) ({ cls := "NotAtOnceModel", name := "times", desc := "(II)I" } : Jvm.MethodName)) ∈ lw_all := lw_g (lw_at lw_m10 46 rfl) rfl
theorem q2322 : (Jvm.Cond.methodLink "NotAtOnceLaw" (213 : Nat) ({ cls := "NotAtOnceModel", name := "look", desc := "(IZ)I" } : Jvm.MethodName)) ∈ lw_all := lw_g (lw_at lw_m10 50 rfl) rfl
theorem q2326 : (Jvm.Cond.methodLink "NotAtOnceLaw" (217 : Nat) ({ cls := "NotAtOnceModel", name := "coins", desc := "(II)I" } : Jvm.MethodName)) ∈ lw_all := lw_g (lw_at lw_m10 54 rfl) rfl
theorem q2330 : (Jvm.Cond.methodLink "NotAtOnceLaw" (223 : Nat) ({ cls := "NotAtOnceModel", name := "led", desc := "(I)I" } : Jvm.MethodName)) ∈ lw_all := lw_g (lw_at lw_m10 58 rfl) rfl
theorem q2334 : (Jvm.Cond.methodLink "NotAtOnceLaw" (230 : Nat) ({ cls := "NotAtOnceModel", name := "size", desc := "(I)I" } : Jvm.MethodName)) ∈ lw_all := lw_g (lw_at lw_m10 62 rfl) rfl
theorem q2338 : (Jvm.Cond.methodLink "NotAtOnceLaw" (234 : Nat) ({ cls := "NotAtOnceModel", name := "trouble", desc := "()I" } : Jvm.MethodName)) ∈ lw_all := lw_g (lw_at lw_m10 66 rfl) rfl
/-! NotAtOnce$Program -/
set_option maxRecDepth 100000
def RX2 : String := "NotAtOnce$Program"
def TX2 : u_T := fun k => match k with
  | 0 => ("NotAtOnce$Program", "cell", "[J", true)
  | 1 => ("NotAtOnce$Program", "base", "[I", true)
  | 2 => ("NotAtOnce$Program", "rows", "I", false)
  | 3 => ("NotAtOnce$Program", "numbers", "I", false)
  | 4 => ("NotAtOnce$Program", "wide", "I", false)
  | _ => ("NotAtOnce$Program", "low", "J", false)
def tyX2 : Nat → FieldType := fun k => match k with
  | 0 => .array .long
  | 1 => .array .int
  | 2 => .int
  | 3 => .int
  | 4 => .int
  | _ => .long
abbrev wsX20 : List Cond := u_ws RX2 TX2 6
theorem nmX2 : ∀ a, a < 6 → ∀ b, b < 6 → a ≠ b → (TX2 a).2.1 ≠ (TX2 b).2.1 := by decide +kernel
theorem tyX2_ok : ∀ k, k < 6 → parseFieldDescriptor (TX2 k).2.2.1 = some (tyX2 k) := by decide +kernel
abbrev cX2_init : ByteArray := prog_8_method_1_code
def yX2_init : MethodName := ⟨RX2, "<init>", "()V"⟩
def dkwX2_init_0 : List UInt8 := [42, 183, 0, 5, 42, 17, 13, 102, 188, 11, 181, 0, 11, 42, 16, 33, 188, 10, 181, 0, 15, 177]
abbrev dktX2_init_0 : List UInt8 := dkwX2_init_0 ++ []
theorem dksX2_init_0 : cX2_init.data.toList.drop 0 = dktX2_init_0 := by decide +kernel
theorem dX2_init_0 : decode cX2_init 0 = .ok (.aload_n 0, 1) := dk_42 (dk_at dksX2_init_0 0 rfl rfl)
theorem dX2_init_1 : decode cX2_init 1 = .ok (.invokespecial 5, 3) := dk_183 0 5 (dk_at dksX2_init_0 1 rfl rfl)
theorem dX2_init_4 : decode cX2_init 4 = .ok (.aload_n 0, 1) := dk_42 (dk_at dksX2_init_0 4 rfl rfl)
theorem dX2_init_5 : decode cX2_init 5 = .ok (.sipush 3430, 3) := dk_17 13 102 (dk_at dksX2_init_0 5 rfl rfl)
theorem dX2_init_8 : decode cX2_init 8 = .ok (.newarray .long, 2) := dk_188_11 (dk_at dksX2_init_0 8 rfl rfl)
theorem dX2_init_10 : decode cX2_init 10 = .ok (.putfield 11, 3) := dk_181 0 11 (dk_at dksX2_init_0 10 rfl rfl)
theorem dX2_init_13 : decode cX2_init 13 = .ok (.aload_n 0, 1) := dk_42 (dk_at dksX2_init_0 13 rfl rfl)
theorem dX2_init_14 : decode cX2_init 14 = .ok (.bipush 33, 2) := dk_16 33 (dk_at dksX2_init_0 14 rfl rfl)
theorem dX2_init_16 : decode cX2_init 16 = .ok (.newarray .int, 2) := dk_188_10 (dk_at dksX2_init_0 16 rfl rfl)
theorem dX2_init_18 : decode cX2_init 18 = .ok (.putfield 15, 3) := dk_181 0 15 (dk_at dksX2_init_0 18 rfl rfl)
theorem dX2_init_21 : decode cX2_init 21 = .ok (.return_, 1) := dk_177 (dk_at dksX2_init_0 21 rfl rfl)
abbrev cX2_lays : ByteArray := prog_8_method_4_code
def yX2_lays : MethodName := ⟨RX2, "lays", "(LNotAtOnce$Table;II)V"⟩
def dkwX2_lays_13 : List UInt8 := [21, 5, 20, 0, 55, 182, 0, 44, 132, 5, 1, 167, 255, 231, 42, 10, 181, 0, 57, 177]
abbrev dktX2_lays_13 : List UInt8 := dkwX2_lays_13 ++ []
def dkwX2_lays_12 : List UInt8 := [132, 5, 1, 167, 255, 216, 3, 54, 5, 21, 5, 42, 180, 0, 19, 162, 0, 22, 42, 42, 180, 0, 23]
abbrev dktX2_lays_12 : List UInt8 := dkwX2_lays_12 ++ dktX2_lays_13
def dkwX2_lays_11 : List UInt8 := [180, 0, 19, 21, 5, 96, 10, 182, 0, 44, 42, 180, 0, 15, 21, 5, 42, 180, 0, 19, 21, 5, 96, 79]
abbrev dktX2_lays_11 : List UInt8 := dkwX2_lays_11 ++ dktX2_lays_12
def dkwX2_lays_10 : List UInt8 := [132, 5, 1, 167, 255, 150, 3, 54, 5, 21, 5, 42, 180, 0, 23, 162, 0, 37, 42, 21, 5, 42]
abbrev dktX2_lays_10 : List UInt8 := dkwX2_lays_10 ++ dktX2_lays_11
def dkwX2_lays_9 : List UInt8 := [21, 7, 46, 133, 182, 0, 44, 132, 7, 1, 167, 255, 221, 21, 4, 25, 6, 182, 0, 36, 96, 54, 4]
abbrev dktX2_lays_9 : List UInt8 := dkwX2_lays_9 ++ dktX2_lays_10
def dkwX2_lays_8 : List UInt8 := [25, 6, 182, 0, 36, 162, 0, 31, 42, 21, 4, 21, 7, 96, 42, 180, 0, 41, 25, 6, 180, 0, 52]
abbrev dktX2_lays_8 : List UInt8 := dkwX2_lays_8 ++ dktX2_lays_9
def dkwX2_lays_7 : List UInt8 := [21, 7, 182, 0, 48, 96, 21, 7, 10, 182, 0, 44, 132, 7, 1, 167, 255, 227, 3, 54, 7, 21, 7]
abbrev dktX2_lays_7 : List UInt8 := dkwX2_lays_7 ++ dktX2_lays_8
def dkwX2_lays_6 : List UInt8 := [21, 5, 182, 0, 32, 58, 6, 3, 54, 7, 21, 7, 42, 180, 0, 19, 162, 0, 26, 42, 21, 4, 25, 6]
abbrev dktX2_lays_6 : List UInt8 := dkwX2_lays_6 ++ dktX2_lays_7
def dkwX2_lays_5 : List UInt8 := [180, 0, 41, 29, 133, 182, 0, 44, 4, 54, 4, 3, 54, 5, 21, 5, 43, 182, 0, 26, 162, 0, 103, 43]
abbrev dktX2_lays_5 : List UInt8 := dkwX2_lays_5 ++ dktX2_lays_6
def dkwX2_lays_4 : List UInt8 := [180, 0, 19, 162, 0, 17, 42, 3, 21, 4, 10, 182, 0, 44, 132, 4, 1, 167, 255, 236, 42, 3, 42]
abbrev dktX2_lays_4 : List UInt8 := dkwX2_lays_4 ++ dktX2_lays_5
def dkwX2_lays_3 : List UInt8 := [167, 255, 226, 42, 42, 180, 0, 19, 42, 180, 0, 23, 96, 181, 0, 41, 3, 54, 4, 21, 4, 42]
abbrev dktX2_lays_3 : List UInt8 := dkwX2_lays_3 ++ dktX2_lays_4
def dkwX2_lays_2 : List UInt8 := [162, 0, 27, 42, 89, 180, 0, 23, 43, 21, 4, 182, 0, 32, 182, 0, 36, 96, 181, 0, 23, 132, 4, 1]
abbrev dktX2_lays_2 : List UInt8 := dkwX2_lays_2 ++ dktX2_lays_3
def dkwX2_lays_1 : List UInt8 := [167, 255, 235, 42, 28, 181, 0, 19, 42, 4, 181, 0, 23, 3, 54, 4, 21, 4, 43, 182, 0, 26]
abbrev dktX2_lays_1 : List UInt8 := dkwX2_lays_1 ++ dktX2_lays_2
def dkwX2_lays_0 : List UInt8 := [3, 54, 4, 21, 4, 42, 180, 0, 11, 190, 162, 0, 17, 42, 180, 0, 11, 21, 4, 9, 80, 132, 4, 1]
abbrev dktX2_lays_0 : List UInt8 := dkwX2_lays_0 ++ dktX2_lays_1
theorem dksX2_lays_0 : cX2_lays.data.toList.drop 0 = dktX2_lays_0 := by decide +kernel
theorem dksX2_lays_1 : cX2_lays.data.toList.drop 24 = dktX2_lays_1 := dk_seg dksX2_lays_0 24 rfl rfl
theorem dksX2_lays_2 : cX2_lays.data.toList.drop 46 = dktX2_lays_2 := dk_seg dksX2_lays_1 22 rfl rfl
theorem dksX2_lays_3 : cX2_lays.data.toList.drop 70 = dktX2_lays_3 := dk_seg dksX2_lays_2 24 rfl rfl
theorem dksX2_lays_4 : cX2_lays.data.toList.drop 92 = dktX2_lays_4 := dk_seg dksX2_lays_3 22 rfl rfl
theorem dksX2_lays_5 : cX2_lays.data.toList.drop 115 = dktX2_lays_5 := dk_seg dksX2_lays_4 23 rfl rfl
theorem dksX2_lays_6 : cX2_lays.data.toList.drop 139 = dktX2_lays_6 := dk_seg dksX2_lays_5 24 rfl rfl
theorem dksX2_lays_7 : cX2_lays.data.toList.drop 163 = dktX2_lays_7 := dk_seg dksX2_lays_6 24 rfl rfl
theorem dksX2_lays_8 : cX2_lays.data.toList.drop 186 = dktX2_lays_8 := dk_seg dksX2_lays_7 23 rfl rfl
theorem dksX2_lays_9 : cX2_lays.data.toList.drop 209 = dktX2_lays_9 := dk_seg dksX2_lays_8 23 rfl rfl
theorem dksX2_lays_10 : cX2_lays.data.toList.drop 232 = dktX2_lays_10 := dk_seg dksX2_lays_9 23 rfl rfl
theorem dksX2_lays_11 : cX2_lays.data.toList.drop 254 = dktX2_lays_11 := dk_seg dksX2_lays_10 22 rfl rfl
theorem dksX2_lays_12 : cX2_lays.data.toList.drop 278 = dktX2_lays_12 := dk_seg dksX2_lays_11 24 rfl rfl
theorem dksX2_lays_13 : cX2_lays.data.toList.drop 301 = dktX2_lays_13 := dk_seg dksX2_lays_12 23 rfl rfl
theorem dX2_lays_0 : decode cX2_lays 0 = .ok (.iconst 0, 1) := dk_3 (dk_at dksX2_lays_0 0 rfl rfl)
theorem dX2_lays_1 : decode cX2_lays 1 = .ok (.istore 4, 2) := dk_54 4 (dk_at dksX2_lays_0 1 rfl rfl)
theorem dX2_lays_3 : decode cX2_lays 3 = .ok (.iload 4, 2) := dk_21 4 (dk_at dksX2_lays_0 3 rfl rfl)
theorem dX2_lays_5 : decode cX2_lays 5 = .ok (.aload_n 0, 1) := dk_42 (dk_at dksX2_lays_0 5 rfl rfl)
theorem dX2_lays_6 : decode cX2_lays 6 = .ok (.getfield 11, 3) := dk_180 0 11 (dk_at dksX2_lays_0 6 rfl rfl)
theorem dX2_lays_9 : decode cX2_lays 9 = .ok (.arraylength, 1) := dk_190 (dk_at dksX2_lays_0 9 rfl rfl)
theorem dX2_lays_10 : decode cX2_lays 10 = .ok (.if_icmp .ge 17, 3) := dk_162 0 17 (dk_at dksX2_lays_0 10 rfl rfl)
theorem dX2_lays_13 : decode cX2_lays 13 = .ok (.aload_n 0, 1) := dk_42 (dk_at dksX2_lays_0 13 rfl rfl)
theorem dX2_lays_14 : decode cX2_lays 14 = .ok (.getfield 11, 3) := dk_180 0 11 (dk_at dksX2_lays_0 14 rfl rfl)
theorem dX2_lays_17 : decode cX2_lays 17 = .ok (.iload 4, 2) := dk_21 4 (dk_at dksX2_lays_0 17 rfl rfl)
theorem dX2_lays_19 : decode cX2_lays 19 = .ok (.lconst 0, 1) := dk_9 (dk_at dksX2_lays_0 19 rfl rfl)
theorem dX2_lays_20 : decode cX2_lays 20 = .ok (.lastore, 1) := dk_80 (dk_at dksX2_lays_0 20 rfl rfl)
theorem dX2_lays_21 : decode cX2_lays 21 = .ok (.iinc 4 1, 3) := dk_132 4 1 (dk_at dksX2_lays_0 21 rfl rfl)
theorem dX2_lays_24 : decode cX2_lays 24 = .ok (.goto (-21), 3) := dk_167 255 235 (dk_at dksX2_lays_1 0 rfl rfl)
theorem dX2_lays_27 : decode cX2_lays 27 = .ok (.aload_n 0, 1) := dk_42 (dk_at dksX2_lays_1 3 rfl rfl)
theorem dX2_lays_28 : decode cX2_lays 28 = .ok (.iload_n 2, 1) := dk_28 (dk_at dksX2_lays_1 4 rfl rfl)
theorem dX2_lays_29 : decode cX2_lays 29 = .ok (.putfield 19, 3) := dk_181 0 19 (dk_at dksX2_lays_1 5 rfl rfl)
theorem dX2_lays_32 : decode cX2_lays 32 = .ok (.aload_n 0, 1) := dk_42 (dk_at dksX2_lays_1 8 rfl rfl)
theorem dX2_lays_33 : decode cX2_lays 33 = .ok (.iconst 1, 1) := dk_4 (dk_at dksX2_lays_1 9 rfl rfl)
theorem dX2_lays_34 : decode cX2_lays 34 = .ok (.putfield 23, 3) := dk_181 0 23 (dk_at dksX2_lays_1 10 rfl rfl)
theorem dX2_lays_37 : decode cX2_lays 37 = .ok (.iconst 0, 1) := dk_3 (dk_at dksX2_lays_1 13 rfl rfl)
theorem dX2_lays_38 : decode cX2_lays 38 = .ok (.istore 4, 2) := dk_54 4 (dk_at dksX2_lays_1 14 rfl rfl)
theorem dX2_lays_40 : decode cX2_lays 40 = .ok (.iload 4, 2) := dk_21 4 (dk_at dksX2_lays_1 16 rfl rfl)
theorem dX2_lays_42 : decode cX2_lays 42 = .ok (.aload_n 1, 1) := dk_43 (dk_at dksX2_lays_1 18 rfl rfl)
theorem dX2_lays_43 : decode cX2_lays 43 = .ok (.invokevirtual 26, 3) := dk_182 0 26 (dk_at dksX2_lays_1 19 rfl rfl)
theorem dX2_lays_46 : decode cX2_lays 46 = .ok (.if_icmp .ge 27, 3) := dk_162 0 27 (dk_at dksX2_lays_2 0 rfl rfl)
theorem dX2_lays_49 : decode cX2_lays 49 = .ok (.aload_n 0, 1) := dk_42 (dk_at dksX2_lays_2 3 rfl rfl)
theorem dX2_lays_50 : decode cX2_lays 50 = .ok (.dup, 1) := dk_89 (dk_at dksX2_lays_2 4 rfl rfl)
theorem dX2_lays_51 : decode cX2_lays 51 = .ok (.getfield 23, 3) := dk_180 0 23 (dk_at dksX2_lays_2 5 rfl rfl)
theorem dX2_lays_54 : decode cX2_lays 54 = .ok (.aload_n 1, 1) := dk_43 (dk_at dksX2_lays_2 8 rfl rfl)
theorem dX2_lays_55 : decode cX2_lays 55 = .ok (.iload 4, 2) := dk_21 4 (dk_at dksX2_lays_2 9 rfl rfl)
theorem dX2_lays_57 : decode cX2_lays 57 = .ok (.invokevirtual 32, 3) := dk_182 0 32 (dk_at dksX2_lays_2 11 rfl rfl)
theorem dX2_lays_60 : decode cX2_lays 60 = .ok (.invokevirtual 36, 3) := dk_182 0 36 (dk_at dksX2_lays_2 14 rfl rfl)
theorem dX2_lays_63 : decode cX2_lays 63 = .ok (.iadd, 1) := dk_96 (dk_at dksX2_lays_2 17 rfl rfl)
theorem dX2_lays_64 : decode cX2_lays 64 = .ok (.putfield 23, 3) := dk_181 0 23 (dk_at dksX2_lays_2 18 rfl rfl)
theorem dX2_lays_67 : decode cX2_lays 67 = .ok (.iinc 4 1, 3) := dk_132 4 1 (dk_at dksX2_lays_2 21 rfl rfl)
theorem dX2_lays_70 : decode cX2_lays 70 = .ok (.goto (-30), 3) := dk_167 255 226 (dk_at dksX2_lays_3 0 rfl rfl)
theorem dX2_lays_73 : decode cX2_lays 73 = .ok (.aload_n 0, 1) := dk_42 (dk_at dksX2_lays_3 3 rfl rfl)
theorem dX2_lays_74 : decode cX2_lays 74 = .ok (.aload_n 0, 1) := dk_42 (dk_at dksX2_lays_3 4 rfl rfl)
theorem dX2_lays_75 : decode cX2_lays 75 = .ok (.getfield 19, 3) := dk_180 0 19 (dk_at dksX2_lays_3 5 rfl rfl)
theorem dX2_lays_78 : decode cX2_lays 78 = .ok (.aload_n 0, 1) := dk_42 (dk_at dksX2_lays_3 8 rfl rfl)
theorem dX2_lays_79 : decode cX2_lays 79 = .ok (.getfield 23, 3) := dk_180 0 23 (dk_at dksX2_lays_3 9 rfl rfl)
theorem dX2_lays_82 : decode cX2_lays 82 = .ok (.iadd, 1) := dk_96 (dk_at dksX2_lays_3 12 rfl rfl)
theorem dX2_lays_83 : decode cX2_lays 83 = .ok (.putfield 41, 3) := dk_181 0 41 (dk_at dksX2_lays_3 13 rfl rfl)
theorem dX2_lays_86 : decode cX2_lays 86 = .ok (.iconst 0, 1) := dk_3 (dk_at dksX2_lays_3 16 rfl rfl)
theorem dX2_lays_87 : decode cX2_lays 87 = .ok (.istore 4, 2) := dk_54 4 (dk_at dksX2_lays_3 17 rfl rfl)
theorem dX2_lays_89 : decode cX2_lays 89 = .ok (.iload 4, 2) := dk_21 4 (dk_at dksX2_lays_3 19 rfl rfl)
theorem dX2_lays_91 : decode cX2_lays 91 = .ok (.aload_n 0, 1) := dk_42 (dk_at dksX2_lays_3 21 rfl rfl)
theorem dX2_lays_92 : decode cX2_lays 92 = .ok (.getfield 19, 3) := dk_180 0 19 (dk_at dksX2_lays_4 0 rfl rfl)
theorem dX2_lays_95 : decode cX2_lays 95 = .ok (.if_icmp .ge 17, 3) := dk_162 0 17 (dk_at dksX2_lays_4 3 rfl rfl)
theorem dX2_lays_98 : decode cX2_lays 98 = .ok (.aload_n 0, 1) := dk_42 (dk_at dksX2_lays_4 6 rfl rfl)
theorem dX2_lays_99 : decode cX2_lays 99 = .ok (.iconst 0, 1) := dk_3 (dk_at dksX2_lays_4 7 rfl rfl)
theorem dX2_lays_100 : decode cX2_lays 100 = .ok (.iload 4, 2) := dk_21 4 (dk_at dksX2_lays_4 8 rfl rfl)
theorem dX2_lays_102 : decode cX2_lays 102 = .ok (.lconst 1, 1) := dk_10 (dk_at dksX2_lays_4 10 rfl rfl)
theorem dX2_lays_103 : decode cX2_lays 103 = .ok (.invokevirtual 44, 3) := dk_182 0 44 (dk_at dksX2_lays_4 11 rfl rfl)
theorem dX2_lays_106 : decode cX2_lays 106 = .ok (.iinc 4 1, 3) := dk_132 4 1 (dk_at dksX2_lays_4 14 rfl rfl)
theorem dX2_lays_109 : decode cX2_lays 109 = .ok (.goto (-20), 3) := dk_167 255 236 (dk_at dksX2_lays_4 17 rfl rfl)
theorem dX2_lays_112 : decode cX2_lays 112 = .ok (.aload_n 0, 1) := dk_42 (dk_at dksX2_lays_4 20 rfl rfl)
theorem dX2_lays_113 : decode cX2_lays 113 = .ok (.iconst 0, 1) := dk_3 (dk_at dksX2_lays_4 21 rfl rfl)
theorem dX2_lays_114 : decode cX2_lays 114 = .ok (.aload_n 0, 1) := dk_42 (dk_at dksX2_lays_4 22 rfl rfl)
theorem dX2_lays_115 : decode cX2_lays 115 = .ok (.getfield 41, 3) := dk_180 0 41 (dk_at dksX2_lays_5 0 rfl rfl)
theorem dX2_lays_118 : decode cX2_lays 118 = .ok (.iload_n 3, 1) := dk_29 (dk_at dksX2_lays_5 3 rfl rfl)
theorem dX2_lays_119 : decode cX2_lays 119 = .ok (.i2l, 1) := dk_133 (dk_at dksX2_lays_5 4 rfl rfl)
theorem dX2_lays_120 : decode cX2_lays 120 = .ok (.invokevirtual 44, 3) := dk_182 0 44 (dk_at dksX2_lays_5 5 rfl rfl)
theorem dX2_lays_123 : decode cX2_lays 123 = .ok (.iconst 1, 1) := dk_4 (dk_at dksX2_lays_5 8 rfl rfl)
theorem dX2_lays_124 : decode cX2_lays 124 = .ok (.istore 4, 2) := dk_54 4 (dk_at dksX2_lays_5 9 rfl rfl)
theorem dX2_lays_126 : decode cX2_lays 126 = .ok (.iconst 0, 1) := dk_3 (dk_at dksX2_lays_5 11 rfl rfl)
theorem dX2_lays_127 : decode cX2_lays 127 = .ok (.istore 5, 2) := dk_54 5 (dk_at dksX2_lays_5 12 rfl rfl)
theorem dX2_lays_129 : decode cX2_lays 129 = .ok (.iload 5, 2) := dk_21 5 (dk_at dksX2_lays_5 14 rfl rfl)
theorem dX2_lays_131 : decode cX2_lays 131 = .ok (.aload_n 1, 1) := dk_43 (dk_at dksX2_lays_5 16 rfl rfl)
theorem dX2_lays_132 : decode cX2_lays 132 = .ok (.invokevirtual 26, 3) := dk_182 0 26 (dk_at dksX2_lays_5 17 rfl rfl)
theorem dX2_lays_135 : decode cX2_lays 135 = .ok (.if_icmp .ge 103, 3) := dk_162 0 103 (dk_at dksX2_lays_5 20 rfl rfl)
theorem dX2_lays_138 : decode cX2_lays 138 = .ok (.aload_n 1, 1) := dk_43 (dk_at dksX2_lays_5 23 rfl rfl)
theorem dX2_lays_139 : decode cX2_lays 139 = .ok (.iload 5, 2) := dk_21 5 (dk_at dksX2_lays_6 0 rfl rfl)
theorem dX2_lays_141 : decode cX2_lays 141 = .ok (.invokevirtual 32, 3) := dk_182 0 32 (dk_at dksX2_lays_6 2 rfl rfl)
theorem dX2_lays_144 : decode cX2_lays 144 = .ok (.astore 6, 2) := dk_58 6 (dk_at dksX2_lays_6 5 rfl rfl)
theorem dX2_lays_146 : decode cX2_lays 146 = .ok (.iconst 0, 1) := dk_3 (dk_at dksX2_lays_6 7 rfl rfl)
theorem dX2_lays_147 : decode cX2_lays 147 = .ok (.istore 7, 2) := dk_54 7 (dk_at dksX2_lays_6 8 rfl rfl)
theorem dX2_lays_149 : decode cX2_lays 149 = .ok (.iload 7, 2) := dk_21 7 (dk_at dksX2_lays_6 10 rfl rfl)
theorem dX2_lays_151 : decode cX2_lays 151 = .ok (.aload_n 0, 1) := dk_42 (dk_at dksX2_lays_6 12 rfl rfl)
theorem dX2_lays_152 : decode cX2_lays 152 = .ok (.getfield 19, 3) := dk_180 0 19 (dk_at dksX2_lays_6 13 rfl rfl)
theorem dX2_lays_155 : decode cX2_lays 155 = .ok (.if_icmp .ge 26, 3) := dk_162 0 26 (dk_at dksX2_lays_6 16 rfl rfl)
theorem dX2_lays_158 : decode cX2_lays 158 = .ok (.aload_n 0, 1) := dk_42 (dk_at dksX2_lays_6 19 rfl rfl)
theorem dX2_lays_159 : decode cX2_lays 159 = .ok (.iload 4, 2) := dk_21 4 (dk_at dksX2_lays_6 20 rfl rfl)
theorem dX2_lays_161 : decode cX2_lays 161 = .ok (.aload 6, 2) := dk_25 6 (dk_at dksX2_lays_6 22 rfl rfl)
theorem dX2_lays_163 : decode cX2_lays 163 = .ok (.iload 7, 2) := dk_21 7 (dk_at dksX2_lays_7 0 rfl rfl)
theorem dX2_lays_165 : decode cX2_lays 165 = .ok (.invokevirtual 48, 3) := dk_182 0 48 (dk_at dksX2_lays_7 2 rfl rfl)
theorem dX2_lays_168 : decode cX2_lays 168 = .ok (.iadd, 1) := dk_96 (dk_at dksX2_lays_7 5 rfl rfl)
theorem dX2_lays_169 : decode cX2_lays 169 = .ok (.iload 7, 2) := dk_21 7 (dk_at dksX2_lays_7 6 rfl rfl)
theorem dX2_lays_171 : decode cX2_lays 171 = .ok (.lconst 1, 1) := dk_10 (dk_at dksX2_lays_7 8 rfl rfl)
theorem dX2_lays_172 : decode cX2_lays 172 = .ok (.invokevirtual 44, 3) := dk_182 0 44 (dk_at dksX2_lays_7 9 rfl rfl)
theorem dX2_lays_175 : decode cX2_lays 175 = .ok (.iinc 7 1, 3) := dk_132 7 1 (dk_at dksX2_lays_7 12 rfl rfl)
theorem dX2_lays_178 : decode cX2_lays 178 = .ok (.goto (-29), 3) := dk_167 255 227 (dk_at dksX2_lays_7 15 rfl rfl)
theorem dX2_lays_181 : decode cX2_lays 181 = .ok (.iconst 0, 1) := dk_3 (dk_at dksX2_lays_7 18 rfl rfl)
theorem dX2_lays_182 : decode cX2_lays 182 = .ok (.istore 7, 2) := dk_54 7 (dk_at dksX2_lays_7 19 rfl rfl)
theorem dX2_lays_184 : decode cX2_lays 184 = .ok (.iload 7, 2) := dk_21 7 (dk_at dksX2_lays_7 21 rfl rfl)
theorem dX2_lays_186 : decode cX2_lays 186 = .ok (.aload 6, 2) := dk_25 6 (dk_at dksX2_lays_8 0 rfl rfl)
theorem dX2_lays_188 : decode cX2_lays 188 = .ok (.invokevirtual 36, 3) := dk_182 0 36 (dk_at dksX2_lays_8 2 rfl rfl)
theorem dX2_lays_191 : decode cX2_lays 191 = .ok (.if_icmp .ge 31, 3) := dk_162 0 31 (dk_at dksX2_lays_8 5 rfl rfl)
theorem dX2_lays_194 : decode cX2_lays 194 = .ok (.aload_n 0, 1) := dk_42 (dk_at dksX2_lays_8 8 rfl rfl)
theorem dX2_lays_195 : decode cX2_lays 195 = .ok (.iload 4, 2) := dk_21 4 (dk_at dksX2_lays_8 9 rfl rfl)
theorem dX2_lays_197 : decode cX2_lays 197 = .ok (.iload 7, 2) := dk_21 7 (dk_at dksX2_lays_8 11 rfl rfl)
theorem dX2_lays_199 : decode cX2_lays 199 = .ok (.iadd, 1) := dk_96 (dk_at dksX2_lays_8 13 rfl rfl)
theorem dX2_lays_200 : decode cX2_lays 200 = .ok (.aload_n 0, 1) := dk_42 (dk_at dksX2_lays_8 14 rfl rfl)
theorem dX2_lays_201 : decode cX2_lays 201 = .ok (.getfield 41, 3) := dk_180 0 41 (dk_at dksX2_lays_8 15 rfl rfl)
theorem dX2_lays_204 : decode cX2_lays 204 = .ok (.aload 6, 2) := dk_25 6 (dk_at dksX2_lays_8 18 rfl rfl)
theorem dX2_lays_206 : decode cX2_lays 206 = .ok (.getfield 52, 3) := dk_180 0 52 (dk_at dksX2_lays_8 20 rfl rfl)
theorem dX2_lays_209 : decode cX2_lays 209 = .ok (.iload 7, 2) := dk_21 7 (dk_at dksX2_lays_9 0 rfl rfl)
theorem dX2_lays_211 : decode cX2_lays 211 = .ok (.iaload, 1) := dk_46 (dk_at dksX2_lays_9 2 rfl rfl)
theorem dX2_lays_212 : decode cX2_lays 212 = .ok (.i2l, 1) := dk_133 (dk_at dksX2_lays_9 3 rfl rfl)
theorem dX2_lays_213 : decode cX2_lays 213 = .ok (.invokevirtual 44, 3) := dk_182 0 44 (dk_at dksX2_lays_9 4 rfl rfl)
theorem dX2_lays_216 : decode cX2_lays 216 = .ok (.iinc 7 1, 3) := dk_132 7 1 (dk_at dksX2_lays_9 7 rfl rfl)
theorem dX2_lays_219 : decode cX2_lays 219 = .ok (.goto (-35), 3) := dk_167 255 221 (dk_at dksX2_lays_9 10 rfl rfl)
theorem dX2_lays_222 : decode cX2_lays 222 = .ok (.iload 4, 2) := dk_21 4 (dk_at dksX2_lays_9 13 rfl rfl)
theorem dX2_lays_224 : decode cX2_lays 224 = .ok (.aload 6, 2) := dk_25 6 (dk_at dksX2_lays_9 15 rfl rfl)
theorem dX2_lays_226 : decode cX2_lays 226 = .ok (.invokevirtual 36, 3) := dk_182 0 36 (dk_at dksX2_lays_9 17 rfl rfl)
theorem dX2_lays_229 : decode cX2_lays 229 = .ok (.iadd, 1) := dk_96 (dk_at dksX2_lays_9 20 rfl rfl)
theorem dX2_lays_230 : decode cX2_lays 230 = .ok (.istore 4, 2) := dk_54 4 (dk_at dksX2_lays_9 21 rfl rfl)
theorem dX2_lays_232 : decode cX2_lays 232 = .ok (.iinc 5 1, 3) := dk_132 5 1 (dk_at dksX2_lays_10 0 rfl rfl)
theorem dX2_lays_235 : decode cX2_lays 235 = .ok (.goto (-106), 3) := dk_167 255 150 (dk_at dksX2_lays_10 3 rfl rfl)
theorem dX2_lays_238 : decode cX2_lays 238 = .ok (.iconst 0, 1) := dk_3 (dk_at dksX2_lays_10 6 rfl rfl)
theorem dX2_lays_239 : decode cX2_lays 239 = .ok (.istore 5, 2) := dk_54 5 (dk_at dksX2_lays_10 7 rfl rfl)
theorem dX2_lays_241 : decode cX2_lays 241 = .ok (.iload 5, 2) := dk_21 5 (dk_at dksX2_lays_10 9 rfl rfl)
theorem dX2_lays_243 : decode cX2_lays 243 = .ok (.aload_n 0, 1) := dk_42 (dk_at dksX2_lays_10 11 rfl rfl)
theorem dX2_lays_244 : decode cX2_lays 244 = .ok (.getfield 23, 3) := dk_180 0 23 (dk_at dksX2_lays_10 12 rfl rfl)
theorem dX2_lays_247 : decode cX2_lays 247 = .ok (.if_icmp .ge 37, 3) := dk_162 0 37 (dk_at dksX2_lays_10 15 rfl rfl)
theorem dX2_lays_250 : decode cX2_lays 250 = .ok (.aload_n 0, 1) := dk_42 (dk_at dksX2_lays_10 18 rfl rfl)
theorem dX2_lays_251 : decode cX2_lays 251 = .ok (.iload 5, 2) := dk_21 5 (dk_at dksX2_lays_10 19 rfl rfl)
theorem dX2_lays_253 : decode cX2_lays 253 = .ok (.aload_n 0, 1) := dk_42 (dk_at dksX2_lays_10 21 rfl rfl)
theorem dX2_lays_254 : decode cX2_lays 254 = .ok (.getfield 19, 3) := dk_180 0 19 (dk_at dksX2_lays_11 0 rfl rfl)
theorem dX2_lays_257 : decode cX2_lays 257 = .ok (.iload 5, 2) := dk_21 5 (dk_at dksX2_lays_11 3 rfl rfl)
theorem dX2_lays_259 : decode cX2_lays 259 = .ok (.iadd, 1) := dk_96 (dk_at dksX2_lays_11 5 rfl rfl)
theorem dX2_lays_260 : decode cX2_lays 260 = .ok (.lconst 1, 1) := dk_10 (dk_at dksX2_lays_11 6 rfl rfl)
theorem dX2_lays_261 : decode cX2_lays 261 = .ok (.invokevirtual 44, 3) := dk_182 0 44 (dk_at dksX2_lays_11 7 rfl rfl)
theorem dX2_lays_264 : decode cX2_lays 264 = .ok (.aload_n 0, 1) := dk_42 (dk_at dksX2_lays_11 10 rfl rfl)
theorem dX2_lays_265 : decode cX2_lays 265 = .ok (.getfield 15, 3) := dk_180 0 15 (dk_at dksX2_lays_11 11 rfl rfl)
theorem dX2_lays_268 : decode cX2_lays 268 = .ok (.iload 5, 2) := dk_21 5 (dk_at dksX2_lays_11 14 rfl rfl)
theorem dX2_lays_270 : decode cX2_lays 270 = .ok (.aload_n 0, 1) := dk_42 (dk_at dksX2_lays_11 16 rfl rfl)
theorem dX2_lays_271 : decode cX2_lays 271 = .ok (.getfield 19, 3) := dk_180 0 19 (dk_at dksX2_lays_11 17 rfl rfl)
theorem dX2_lays_274 : decode cX2_lays 274 = .ok (.iload 5, 2) := dk_21 5 (dk_at dksX2_lays_11 20 rfl rfl)
theorem dX2_lays_276 : decode cX2_lays 276 = .ok (.iadd, 1) := dk_96 (dk_at dksX2_lays_11 22 rfl rfl)
theorem dX2_lays_277 : decode cX2_lays 277 = .ok (.iastore, 1) := dk_79 (dk_at dksX2_lays_11 23 rfl rfl)
theorem dX2_lays_278 : decode cX2_lays 278 = .ok (.iinc 5 1, 3) := dk_132 5 1 (dk_at dksX2_lays_12 0 rfl rfl)
theorem dX2_lays_281 : decode cX2_lays 281 = .ok (.goto (-40), 3) := dk_167 255 216 (dk_at dksX2_lays_12 3 rfl rfl)
theorem dX2_lays_284 : decode cX2_lays 284 = .ok (.iconst 0, 1) := dk_3 (dk_at dksX2_lays_12 6 rfl rfl)
theorem dX2_lays_285 : decode cX2_lays 285 = .ok (.istore 5, 2) := dk_54 5 (dk_at dksX2_lays_12 7 rfl rfl)
theorem dX2_lays_287 : decode cX2_lays 287 = .ok (.iload 5, 2) := dk_21 5 (dk_at dksX2_lays_12 9 rfl rfl)
theorem dX2_lays_289 : decode cX2_lays 289 = .ok (.aload_n 0, 1) := dk_42 (dk_at dksX2_lays_12 11 rfl rfl)
theorem dX2_lays_290 : decode cX2_lays 290 = .ok (.getfield 19, 3) := dk_180 0 19 (dk_at dksX2_lays_12 12 rfl rfl)
theorem dX2_lays_293 : decode cX2_lays 293 = .ok (.if_icmp .ge 22, 3) := dk_162 0 22 (dk_at dksX2_lays_12 15 rfl rfl)
theorem dX2_lays_296 : decode cX2_lays 296 = .ok (.aload_n 0, 1) := dk_42 (dk_at dksX2_lays_12 18 rfl rfl)
theorem dX2_lays_297 : decode cX2_lays 297 = .ok (.aload_n 0, 1) := dk_42 (dk_at dksX2_lays_12 19 rfl rfl)
theorem dX2_lays_298 : decode cX2_lays 298 = .ok (.getfield 23, 3) := dk_180 0 23 (dk_at dksX2_lays_12 20 rfl rfl)
theorem dX2_lays_301 : decode cX2_lays 301 = .ok (.iload 5, 2) := dk_21 5 (dk_at dksX2_lays_13 0 rfl rfl)
theorem dX2_lays_303 : decode cX2_lays 303 = .ok (.ldc2_w 55, 3) := dk_20 0 55 (dk_at dksX2_lays_13 2 rfl rfl)
theorem dX2_lays_306 : decode cX2_lays 306 = .ok (.invokevirtual 44, 3) := dk_182 0 44 (dk_at dksX2_lays_13 5 rfl rfl)
theorem dX2_lays_309 : decode cX2_lays 309 = .ok (.iinc 5 1, 3) := dk_132 5 1 (dk_at dksX2_lays_13 8 rfl rfl)
theorem dX2_lays_312 : decode cX2_lays 312 = .ok (.goto (-25), 3) := dk_167 255 231 (dk_at dksX2_lays_13 11 rfl rfl)
theorem dX2_lays_315 : decode cX2_lays 315 = .ok (.aload_n 0, 1) := dk_42 (dk_at dksX2_lays_13 14 rfl rfl)
theorem dX2_lays_316 : decode cX2_lays 316 = .ok (.lconst 1, 1) := dk_10 (dk_at dksX2_lays_13 15 rfl rfl)
theorem dX2_lays_317 : decode cX2_lays 317 = .ok (.putfield 57, 3) := dk_181 0 57 (dk_at dksX2_lays_13 16 rfl rfl)
theorem dX2_lays_320 : decode cX2_lays 320 = .ok (.return_, 1) := dk_177 (dk_at dksX2_lays_13 19 rfl rfl)
abbrev cX2_put : ByteArray := prog_8_method_3_code
def yX2_put : MethodName := ⟨RX2, "put", "(IIJ)V"⟩
def dkwX2_put_0 : List UInt8 := [42, 180, 0, 11, 27, 16, 98, 104, 28, 96, 33, 80, 177]
abbrev dktX2_put_0 : List UInt8 := dkwX2_put_0 ++ []
theorem dksX2_put_0 : cX2_put.data.toList.drop 0 = dktX2_put_0 := by decide +kernel
theorem dX2_put_0 : decode cX2_put 0 = .ok (.aload_n 0, 1) := dk_42 (dk_at dksX2_put_0 0 rfl rfl)
theorem dX2_put_1 : decode cX2_put 1 = .ok (.getfield 11, 3) := dk_180 0 11 (dk_at dksX2_put_0 1 rfl rfl)
theorem dX2_put_4 : decode cX2_put 4 = .ok (.iload_n 1, 1) := dk_27 (dk_at dksX2_put_0 4 rfl rfl)
theorem dX2_put_5 : decode cX2_put 5 = .ok (.bipush 98, 2) := dk_16 98 (dk_at dksX2_put_0 5 rfl rfl)
theorem dX2_put_7 : decode cX2_put 7 = .ok (.imul, 1) := dk_104 (dk_at dksX2_put_0 7 rfl rfl)
theorem dX2_put_8 : decode cX2_put 8 = .ok (.iload_n 2, 1) := dk_28 (dk_at dksX2_put_0 8 rfl rfl)
theorem dX2_put_9 : decode cX2_put 9 = .ok (.iadd, 1) := dk_96 (dk_at dksX2_put_0 9 rfl rfl)
theorem dX2_put_10 : decode cX2_put 10 = .ok (.lload_n 3, 1) := dk_33 (dk_at dksX2_put_0 10 rfl rfl)
theorem dX2_put_11 : decode cX2_put 11 = .ok (.lastore, 1) := dk_80 (dk_at dksX2_put_0 11 rfl rfl)
theorem dX2_put_12 : decode cX2_put 12 = .ok (.return_, 1) := dk_177 (dk_at dksX2_put_0 12 rfl rfl)
abbrev cX2_most : ByteArray := prog_8_method_10_code
def yX2_most : MethodName := ⟨RX2, "most", "(Z)J"⟩
def dkwX2_most_2 : List UInt8 := [180, 0, 23, 42, 180, 0, 41, 182, 0, 61, 173]
abbrev dktX2_most_2 : List UInt8 := dkwX2_most_2 ++ []
def dkwX2_most_1 : List UInt8 := [182, 0, 69, 61, 167, 255, 235, 42, 27, 153, 0, 12, 42, 180, 0, 23, 4, 96, 167, 0, 7, 42]
abbrev dktX2_most_1 : List UInt8 := dkwX2_most_1 ++ dktX2_most_2
def dkwX2_most_0 : List UInt8 := [42, 27, 182, 0, 69, 61, 28, 2, 159, 0, 22, 42, 42, 28, 182, 0, 73, 28, 182, 0, 76, 42, 27]
abbrev dktX2_most_0 : List UInt8 := dkwX2_most_0 ++ dktX2_most_1
theorem dksX2_most_0 : cX2_most.data.toList.drop 0 = dktX2_most_0 := by decide +kernel
theorem dksX2_most_1 : cX2_most.data.toList.drop 23 = dktX2_most_1 := dk_seg dksX2_most_0 23 rfl rfl
theorem dksX2_most_2 : cX2_most.data.toList.drop 45 = dktX2_most_2 := dk_seg dksX2_most_1 22 rfl rfl
theorem dX2_most_0 : decode cX2_most 0 = .ok (.aload_n 0, 1) := dk_42 (dk_at dksX2_most_0 0 rfl rfl)
theorem dX2_most_1 : decode cX2_most 1 = .ok (.iload_n 1, 1) := dk_27 (dk_at dksX2_most_0 1 rfl rfl)
theorem dX2_most_2 : decode cX2_most 2 = .ok (.invokevirtual 69, 3) := dk_182 0 69 (dk_at dksX2_most_0 2 rfl rfl)
theorem dX2_most_5 : decode cX2_most 5 = .ok (.istore_n 2, 1) := dk_61 (dk_at dksX2_most_0 5 rfl rfl)
theorem dX2_most_6 : decode cX2_most 6 = .ok (.iload_n 2, 1) := dk_28 (dk_at dksX2_most_0 6 rfl rfl)
theorem dX2_most_7 : decode cX2_most 7 = .ok (.iconst (-1), 1) := dk_2 (dk_at dksX2_most_0 7 rfl rfl)
theorem dX2_most_8 : decode cX2_most 8 = .ok (.if_icmp .eq 22, 3) := dk_159 0 22 (dk_at dksX2_most_0 8 rfl rfl)
theorem dX2_most_11 : decode cX2_most 11 = .ok (.aload_n 0, 1) := dk_42 (dk_at dksX2_most_0 11 rfl rfl)
theorem dX2_most_12 : decode cX2_most 12 = .ok (.aload_n 0, 1) := dk_42 (dk_at dksX2_most_0 12 rfl rfl)
theorem dX2_most_13 : decode cX2_most 13 = .ok (.iload_n 2, 1) := dk_28 (dk_at dksX2_most_0 13 rfl rfl)
theorem dX2_most_14 : decode cX2_most 14 = .ok (.invokevirtual 73, 3) := dk_182 0 73 (dk_at dksX2_most_0 14 rfl rfl)
theorem dX2_most_17 : decode cX2_most 17 = .ok (.iload_n 2, 1) := dk_28 (dk_at dksX2_most_0 17 rfl rfl)
theorem dX2_most_18 : decode cX2_most 18 = .ok (.invokevirtual 76, 3) := dk_182 0 76 (dk_at dksX2_most_0 18 rfl rfl)
theorem dX2_most_21 : decode cX2_most 21 = .ok (.aload_n 0, 1) := dk_42 (dk_at dksX2_most_0 21 rfl rfl)
theorem dX2_most_22 : decode cX2_most 22 = .ok (.iload_n 1, 1) := dk_27 (dk_at dksX2_most_0 22 rfl rfl)
theorem dX2_most_23 : decode cX2_most 23 = .ok (.invokevirtual 69, 3) := dk_182 0 69 (dk_at dksX2_most_1 0 rfl rfl)
theorem dX2_most_26 : decode cX2_most 26 = .ok (.istore_n 2, 1) := dk_61 (dk_at dksX2_most_1 3 rfl rfl)
theorem dX2_most_27 : decode cX2_most 27 = .ok (.goto (-21), 3) := dk_167 255 235 (dk_at dksX2_most_1 4 rfl rfl)
theorem dX2_most_30 : decode cX2_most 30 = .ok (.aload_n 0, 1) := dk_42 (dk_at dksX2_most_1 7 rfl rfl)
theorem dX2_most_31 : decode cX2_most 31 = .ok (.iload_n 1, 1) := dk_27 (dk_at dksX2_most_1 8 rfl rfl)
theorem dX2_most_32 : decode cX2_most 32 = .ok (.ifCond .eq 12, 3) := dk_153 0 12 (dk_at dksX2_most_1 9 rfl rfl)
theorem dX2_most_35 : decode cX2_most 35 = .ok (.aload_n 0, 1) := dk_42 (dk_at dksX2_most_1 12 rfl rfl)
theorem dX2_most_36 : decode cX2_most 36 = .ok (.getfield 23, 3) := dk_180 0 23 (dk_at dksX2_most_1 13 rfl rfl)
theorem dX2_most_39 : decode cX2_most 39 = .ok (.iconst 1, 1) := dk_4 (dk_at dksX2_most_1 16 rfl rfl)
theorem dX2_most_40 : decode cX2_most 40 = .ok (.iadd, 1) := dk_96 (dk_at dksX2_most_1 17 rfl rfl)
theorem dX2_most_41 : decode cX2_most 41 = .ok (.goto 7, 3) := dk_167 0 7 (dk_at dksX2_most_1 18 rfl rfl)
theorem dX2_most_44 : decode cX2_most 44 = .ok (.aload_n 0, 1) := dk_42 (dk_at dksX2_most_1 21 rfl rfl)
theorem dX2_most_45 : decode cX2_most 45 = .ok (.getfield 23, 3) := dk_180 0 23 (dk_at dksX2_most_2 0 rfl rfl)
theorem dX2_most_48 : decode cX2_most 48 = .ok (.aload_n 0, 1) := dk_42 (dk_at dksX2_most_2 3 rfl rfl)
theorem dX2_most_49 : decode cX2_most 49 = .ok (.getfield 41, 3) := dk_180 0 41 (dk_at dksX2_most_2 4 rfl rfl)
theorem dX2_most_52 : decode cX2_most 52 = .ok (.invokevirtual 61, 3) := dk_182 0 61 (dk_at dksX2_most_2 7 rfl rfl)
theorem dX2_most_55 : decode cX2_most 55 = .ok (.lreturn, 1) := dk_173 (dk_at dksX2_most_2 10 rfl rfl)
abbrev cX2_enters : ByteArray := prog_8_method_7_code
def yX2_enters : MethodName := ⟨RX2, "enters", "(Z)I"⟩
def dkwX2_enters_2 : List UInt8 := [153, 0, 5, 29, 172, 132, 3, 1, 167, 255, 223, 2, 172]
abbrev dktX2_enters_2 : List UInt8 := dkwX2_enters_2 ++ []
def dkwX2_enters_1 : List UInt8 := [180, 0, 41, 162, 0, 31, 42, 28, 29, 182, 0, 61, 9, 148, 156, 0, 14, 42, 29, 27, 182, 0, 65]
abbrev dktX2_enters_1 : List UInt8 := dkwX2_enters_1 ++ dktX2_enters_2
def dkwX2_enters_0 : List UInt8 := [27, 153, 0, 12, 42, 180, 0, 23, 4, 96, 167, 0, 7, 42, 180, 0, 23, 61, 3, 62, 29, 42]
abbrev dktX2_enters_0 : List UInt8 := dkwX2_enters_0 ++ dktX2_enters_1
theorem dksX2_enters_0 : cX2_enters.data.toList.drop 0 = dktX2_enters_0 := by decide +kernel
theorem dksX2_enters_1 : cX2_enters.data.toList.drop 22 = dktX2_enters_1 := dk_seg dksX2_enters_0 22 rfl rfl
theorem dksX2_enters_2 : cX2_enters.data.toList.drop 45 = dktX2_enters_2 := dk_seg dksX2_enters_1 23 rfl rfl
theorem dX2_enters_0 : decode cX2_enters 0 = .ok (.iload_n 1, 1) := dk_27 (dk_at dksX2_enters_0 0 rfl rfl)
theorem dX2_enters_1 : decode cX2_enters 1 = .ok (.ifCond .eq 12, 3) := dk_153 0 12 (dk_at dksX2_enters_0 1 rfl rfl)
theorem dX2_enters_4 : decode cX2_enters 4 = .ok (.aload_n 0, 1) := dk_42 (dk_at dksX2_enters_0 4 rfl rfl)
theorem dX2_enters_5 : decode cX2_enters 5 = .ok (.getfield 23, 3) := dk_180 0 23 (dk_at dksX2_enters_0 5 rfl rfl)
theorem dX2_enters_8 : decode cX2_enters 8 = .ok (.iconst 1, 1) := dk_4 (dk_at dksX2_enters_0 8 rfl rfl)
theorem dX2_enters_9 : decode cX2_enters 9 = .ok (.iadd, 1) := dk_96 (dk_at dksX2_enters_0 9 rfl rfl)
theorem dX2_enters_10 : decode cX2_enters 10 = .ok (.goto 7, 3) := dk_167 0 7 (dk_at dksX2_enters_0 10 rfl rfl)
theorem dX2_enters_13 : decode cX2_enters 13 = .ok (.aload_n 0, 1) := dk_42 (dk_at dksX2_enters_0 13 rfl rfl)
theorem dX2_enters_14 : decode cX2_enters 14 = .ok (.getfield 23, 3) := dk_180 0 23 (dk_at dksX2_enters_0 14 rfl rfl)
theorem dX2_enters_17 : decode cX2_enters 17 = .ok (.istore_n 2, 1) := dk_61 (dk_at dksX2_enters_0 17 rfl rfl)
theorem dX2_enters_18 : decode cX2_enters 18 = .ok (.iconst 0, 1) := dk_3 (dk_at dksX2_enters_0 18 rfl rfl)
theorem dX2_enters_19 : decode cX2_enters 19 = .ok (.istore_n 3, 1) := dk_62 (dk_at dksX2_enters_0 19 rfl rfl)
theorem dX2_enters_20 : decode cX2_enters 20 = .ok (.iload_n 3, 1) := dk_29 (dk_at dksX2_enters_0 20 rfl rfl)
theorem dX2_enters_21 : decode cX2_enters 21 = .ok (.aload_n 0, 1) := dk_42 (dk_at dksX2_enters_0 21 rfl rfl)
theorem dX2_enters_22 : decode cX2_enters 22 = .ok (.getfield 41, 3) := dk_180 0 41 (dk_at dksX2_enters_1 0 rfl rfl)
theorem dX2_enters_25 : decode cX2_enters 25 = .ok (.if_icmp .ge 31, 3) := dk_162 0 31 (dk_at dksX2_enters_1 3 rfl rfl)
theorem dX2_enters_28 : decode cX2_enters 28 = .ok (.aload_n 0, 1) := dk_42 (dk_at dksX2_enters_1 6 rfl rfl)
theorem dX2_enters_29 : decode cX2_enters 29 = .ok (.iload_n 2, 1) := dk_28 (dk_at dksX2_enters_1 7 rfl rfl)
theorem dX2_enters_30 : decode cX2_enters 30 = .ok (.iload_n 3, 1) := dk_29 (dk_at dksX2_enters_1 8 rfl rfl)
theorem dX2_enters_31 : decode cX2_enters 31 = .ok (.invokevirtual 61, 3) := dk_182 0 61 (dk_at dksX2_enters_1 9 rfl rfl)
theorem dX2_enters_34 : decode cX2_enters 34 = .ok (.lconst 0, 1) := dk_9 (dk_at dksX2_enters_1 12 rfl rfl)
theorem dX2_enters_35 : decode cX2_enters 35 = .ok (.lcmp, 1) := dk_148 (dk_at dksX2_enters_1 13 rfl rfl)
theorem dX2_enters_36 : decode cX2_enters 36 = .ok (.ifCond .ge 14, 3) := dk_156 0 14 (dk_at dksX2_enters_1 14 rfl rfl)
theorem dX2_enters_39 : decode cX2_enters 39 = .ok (.aload_n 0, 1) := dk_42 (dk_at dksX2_enters_1 17 rfl rfl)
theorem dX2_enters_40 : decode cX2_enters 40 = .ok (.iload_n 3, 1) := dk_29 (dk_at dksX2_enters_1 18 rfl rfl)
theorem dX2_enters_41 : decode cX2_enters 41 = .ok (.iload_n 1, 1) := dk_27 (dk_at dksX2_enters_1 19 rfl rfl)
theorem dX2_enters_42 : decode cX2_enters 42 = .ok (.invokevirtual 65, 3) := dk_182 0 65 (dk_at dksX2_enters_1 20 rfl rfl)
theorem dX2_enters_45 : decode cX2_enters 45 = .ok (.ifCond .eq 5, 3) := dk_153 0 5 (dk_at dksX2_enters_2 0 rfl rfl)
theorem dX2_enters_48 : decode cX2_enters 48 = .ok (.iload_n 3, 1) := dk_29 (dk_at dksX2_enters_2 3 rfl rfl)
theorem dX2_enters_49 : decode cX2_enters 49 = .ok (.ireturn, 1) := dk_172 (dk_at dksX2_enters_2 4 rfl rfl)
theorem dX2_enters_50 : decode cX2_enters 50 = .ok (.iinc 3 1, 3) := dk_132 3 1 (dk_at dksX2_enters_2 5 rfl rfl)
theorem dX2_enters_53 : decode cX2_enters 53 = .ok (.goto (-33), 3) := dk_167 255 223 (dk_at dksX2_enters_2 8 rfl rfl)
theorem dX2_enters_56 : decode cX2_enters 56 = .ok (.iconst (-1), 1) := dk_2 (dk_at dksX2_enters_2 11 rfl rfl)
theorem dX2_enters_57 : decode cX2_enters 57 = .ok (.ireturn, 1) := dk_172 (dk_at dksX2_enters_2 12 rfl rfl)
abbrev cX2_at : ByteArray := prog_8_method_2_code
def yX2_at : MethodName := ⟨RX2, "at", "(II)J"⟩
def dkwX2_at_0 : List UInt8 := [42, 180, 0, 11, 27, 16, 98, 104, 28, 96, 47, 173]
abbrev dktX2_at_0 : List UInt8 := dkwX2_at_0 ++ []
theorem dksX2_at_0 : cX2_at.data.toList.drop 0 = dktX2_at_0 := by decide +kernel
theorem dX2_at_0 : decode cX2_at 0 = .ok (.aload_n 0, 1) := dk_42 (dk_at dksX2_at_0 0 rfl rfl)
theorem dX2_at_1 : decode cX2_at 1 = .ok (.getfield 11, 3) := dk_180 0 11 (dk_at dksX2_at_0 1 rfl rfl)
theorem dX2_at_4 : decode cX2_at 4 = .ok (.iload_n 1, 1) := dk_27 (dk_at dksX2_at_0 4 rfl rfl)
theorem dX2_at_5 : decode cX2_at 5 = .ok (.bipush 98, 2) := dk_16 98 (dk_at dksX2_at_0 5 rfl rfl)
theorem dX2_at_7 : decode cX2_at 7 = .ok (.imul, 1) := dk_104 (dk_at dksX2_at_0 7 rfl rfl)
theorem dX2_at_8 : decode cX2_at 8 = .ok (.iload_n 2, 1) := dk_28 (dk_at dksX2_at_0 8 rfl rfl)
theorem dX2_at_9 : decode cX2_at 9 = .ok (.iadd, 1) := dk_96 (dk_at dksX2_at_0 9 rfl rfl)
theorem dX2_at_10 : decode cX2_at 10 = .ok (.laload, 1) := dk_47 (dk_at dksX2_at_0 10 rfl rfl)
theorem dX2_at_11 : decode cX2_at 11 = .ok (.lreturn, 1) := dk_173 (dk_at dksX2_at_0 11 rfl rfl)
abbrev cX2_isFree : ByteArray := prog_8_method_6_code
def yX2_isFree : MethodName := ⟨RX2, "isFree", "(IZ)Z"⟩
def dkwX2_isFree_0 : List UInt8 := [28, 153, 0, 17, 42, 42, 180, 0, 23, 27, 182, 0, 61, 9, 148, 154, 0, 7, 4, 167, 0, 4, 3, 172]
abbrev dktX2_isFree_0 : List UInt8 := dkwX2_isFree_0 ++ []
theorem dksX2_isFree_0 : cX2_isFree.data.toList.drop 0 = dktX2_isFree_0 := by decide +kernel
theorem dX2_isFree_0 : decode cX2_isFree 0 = .ok (.iload_n 2, 1) := dk_28 (dk_at dksX2_isFree_0 0 rfl rfl)
theorem dX2_isFree_1 : decode cX2_isFree 1 = .ok (.ifCond .eq 17, 3) := dk_153 0 17 (dk_at dksX2_isFree_0 1 rfl rfl)
theorem dX2_isFree_4 : decode cX2_isFree 4 = .ok (.aload_n 0, 1) := dk_42 (dk_at dksX2_isFree_0 4 rfl rfl)
theorem dX2_isFree_5 : decode cX2_isFree 5 = .ok (.aload_n 0, 1) := dk_42 (dk_at dksX2_isFree_0 5 rfl rfl)
theorem dX2_isFree_6 : decode cX2_isFree 6 = .ok (.getfield 23, 3) := dk_180 0 23 (dk_at dksX2_isFree_0 6 rfl rfl)
theorem dX2_isFree_9 : decode cX2_isFree 9 = .ok (.iload_n 1, 1) := dk_27 (dk_at dksX2_isFree_0 9 rfl rfl)
theorem dX2_isFree_10 : decode cX2_isFree 10 = .ok (.invokevirtual 61, 3) := dk_182 0 61 (dk_at dksX2_isFree_0 10 rfl rfl)
theorem dX2_isFree_13 : decode cX2_isFree 13 = .ok (.lconst 0, 1) := dk_9 (dk_at dksX2_isFree_0 13 rfl rfl)
theorem dX2_isFree_14 : decode cX2_isFree 14 = .ok (.lcmp, 1) := dk_148 (dk_at dksX2_isFree_0 14 rfl rfl)
theorem dX2_isFree_15 : decode cX2_isFree 15 = .ok (.ifCond .ne 7, 3) := dk_154 0 7 (dk_at dksX2_isFree_0 15 rfl rfl)
theorem dX2_isFree_18 : decode cX2_isFree 18 = .ok (.iconst 1, 1) := dk_4 (dk_at dksX2_isFree_0 18 rfl rfl)
theorem dX2_isFree_19 : decode cX2_isFree 19 = .ok (.goto 4, 3) := dk_167 0 4 (dk_at dksX2_isFree_0 19 rfl rfl)
theorem dX2_isFree_22 : decode cX2_isFree 22 = .ok (.iconst 0, 1) := dk_3 (dk_at dksX2_isFree_0 22 rfl rfl)
theorem dX2_isFree_23 : decode cX2_isFree 23 = .ok (.ireturn, 1) := dk_172 (dk_at dksX2_isFree_0 23 rfl rfl)
abbrev cX2_leaves : ByteArray := prog_8_method_8_code
def yX2_leaves : MethodName := ⟨RX2, "leaves", "(I)I"⟩
def dkwX2_leaves_4 : List UInt8 := [28, 46, 162, 0, 5, 29, 61, 132, 3, 1, 167, 255, 155, 28, 172]
abbrev dktX2_leaves_4 : List UInt8 := dkwX2_leaves_4 ++ []
def dkwX2_leaves_3 : List UInt8 := [22, 4, 9, 148, 155, 0, 25, 22, 4, 9, 148, 154, 0, 20, 42, 180, 0, 15, 29, 46, 42, 180, 0, 15]
abbrev dktX2_leaves_3 : List UInt8 := dkwX2_leaves_3 ++ dktX2_leaves_4
def dkwX2_leaves_2 : List UInt8 := [27, 182, 0, 61, 105, 42, 28, 42, 180, 0, 41, 182, 0, 61, 42, 29, 27, 182, 0, 61, 105, 101, 55, 4]
abbrev dktX2_leaves_2 : List UInt8 := dkwX2_leaves_2 ++ dktX2_leaves_3
def dkwX2_leaves_1 : List UInt8 := [167, 0, 79, 28, 2, 160, 0, 8, 29, 61, 167, 0, 69, 42, 29, 42, 180, 0, 41, 182, 0, 61, 42, 28]
abbrev dktX2_leaves_1 : List UInt8 := dkwX2_leaves_1 ++ dktX2_leaves_2
def dkwX2_leaves_0 : List UInt8 := [2, 61, 3, 62, 29, 42, 180, 0, 23, 162, 0, 99, 42, 29, 27, 182, 0, 61, 9, 148, 157, 0, 6]
abbrev dktX2_leaves_0 : List UInt8 := dkwX2_leaves_0 ++ dktX2_leaves_1
theorem dksX2_leaves_0 : cX2_leaves.data.toList.drop 0 = dktX2_leaves_0 := by decide +kernel
theorem dksX2_leaves_1 : cX2_leaves.data.toList.drop 23 = dktX2_leaves_1 := dk_seg dksX2_leaves_0 23 rfl rfl
theorem dksX2_leaves_2 : cX2_leaves.data.toList.drop 47 = dktX2_leaves_2 := dk_seg dksX2_leaves_1 24 rfl rfl
theorem dksX2_leaves_3 : cX2_leaves.data.toList.drop 71 = dktX2_leaves_3 := dk_seg dksX2_leaves_2 24 rfl rfl
theorem dksX2_leaves_4 : cX2_leaves.data.toList.drop 95 = dktX2_leaves_4 := dk_seg dksX2_leaves_3 24 rfl rfl
theorem dX2_leaves_0 : decode cX2_leaves 0 = .ok (.iconst (-1), 1) := dk_2 (dk_at dksX2_leaves_0 0 rfl rfl)
theorem dX2_leaves_1 : decode cX2_leaves 1 = .ok (.istore_n 2, 1) := dk_61 (dk_at dksX2_leaves_0 1 rfl rfl)
theorem dX2_leaves_2 : decode cX2_leaves 2 = .ok (.iconst 0, 1) := dk_3 (dk_at dksX2_leaves_0 2 rfl rfl)
theorem dX2_leaves_3 : decode cX2_leaves 3 = .ok (.istore_n 3, 1) := dk_62 (dk_at dksX2_leaves_0 3 rfl rfl)
theorem dX2_leaves_4 : decode cX2_leaves 4 = .ok (.iload_n 3, 1) := dk_29 (dk_at dksX2_leaves_0 4 rfl rfl)
theorem dX2_leaves_5 : decode cX2_leaves 5 = .ok (.aload_n 0, 1) := dk_42 (dk_at dksX2_leaves_0 5 rfl rfl)
theorem dX2_leaves_6 : decode cX2_leaves 6 = .ok (.getfield 23, 3) := dk_180 0 23 (dk_at dksX2_leaves_0 6 rfl rfl)
theorem dX2_leaves_9 : decode cX2_leaves 9 = .ok (.if_icmp .ge 99, 3) := dk_162 0 99 (dk_at dksX2_leaves_0 9 rfl rfl)
theorem dX2_leaves_12 : decode cX2_leaves 12 = .ok (.aload_n 0, 1) := dk_42 (dk_at dksX2_leaves_0 12 rfl rfl)
theorem dX2_leaves_13 : decode cX2_leaves 13 = .ok (.iload_n 3, 1) := dk_29 (dk_at dksX2_leaves_0 13 rfl rfl)
theorem dX2_leaves_14 : decode cX2_leaves 14 = .ok (.iload_n 1, 1) := dk_27 (dk_at dksX2_leaves_0 14 rfl rfl)
theorem dX2_leaves_15 : decode cX2_leaves 15 = .ok (.invokevirtual 61, 3) := dk_182 0 61 (dk_at dksX2_leaves_0 15 rfl rfl)
theorem dX2_leaves_18 : decode cX2_leaves 18 = .ok (.lconst 0, 1) := dk_9 (dk_at dksX2_leaves_0 18 rfl rfl)
theorem dX2_leaves_19 : decode cX2_leaves 19 = .ok (.lcmp, 1) := dk_148 (dk_at dksX2_leaves_0 19 rfl rfl)
theorem dX2_leaves_20 : decode cX2_leaves 20 = .ok (.ifCond .gt 6, 3) := dk_157 0 6 (dk_at dksX2_leaves_0 20 rfl rfl)
theorem dX2_leaves_23 : decode cX2_leaves 23 = .ok (.goto 79, 3) := dk_167 0 79 (dk_at dksX2_leaves_1 0 rfl rfl)
theorem dX2_leaves_26 : decode cX2_leaves 26 = .ok (.iload_n 2, 1) := dk_28 (dk_at dksX2_leaves_1 3 rfl rfl)
theorem dX2_leaves_27 : decode cX2_leaves 27 = .ok (.iconst (-1), 1) := dk_2 (dk_at dksX2_leaves_1 4 rfl rfl)
theorem dX2_leaves_28 : decode cX2_leaves 28 = .ok (.if_icmp .ne 8, 3) := dk_160 0 8 (dk_at dksX2_leaves_1 5 rfl rfl)
theorem dX2_leaves_31 : decode cX2_leaves 31 = .ok (.iload_n 3, 1) := dk_29 (dk_at dksX2_leaves_1 8 rfl rfl)
theorem dX2_leaves_32 : decode cX2_leaves 32 = .ok (.istore_n 2, 1) := dk_61 (dk_at dksX2_leaves_1 9 rfl rfl)
theorem dX2_leaves_33 : decode cX2_leaves 33 = .ok (.goto 69, 3) := dk_167 0 69 (dk_at dksX2_leaves_1 10 rfl rfl)
theorem dX2_leaves_36 : decode cX2_leaves 36 = .ok (.aload_n 0, 1) := dk_42 (dk_at dksX2_leaves_1 13 rfl rfl)
theorem dX2_leaves_37 : decode cX2_leaves 37 = .ok (.iload_n 3, 1) := dk_29 (dk_at dksX2_leaves_1 14 rfl rfl)
theorem dX2_leaves_38 : decode cX2_leaves 38 = .ok (.aload_n 0, 1) := dk_42 (dk_at dksX2_leaves_1 15 rfl rfl)
theorem dX2_leaves_39 : decode cX2_leaves 39 = .ok (.getfield 41, 3) := dk_180 0 41 (dk_at dksX2_leaves_1 16 rfl rfl)
theorem dX2_leaves_42 : decode cX2_leaves 42 = .ok (.invokevirtual 61, 3) := dk_182 0 61 (dk_at dksX2_leaves_1 19 rfl rfl)
theorem dX2_leaves_45 : decode cX2_leaves 45 = .ok (.aload_n 0, 1) := dk_42 (dk_at dksX2_leaves_1 22 rfl rfl)
theorem dX2_leaves_46 : decode cX2_leaves 46 = .ok (.iload_n 2, 1) := dk_28 (dk_at dksX2_leaves_1 23 rfl rfl)
theorem dX2_leaves_47 : decode cX2_leaves 47 = .ok (.iload_n 1, 1) := dk_27 (dk_at dksX2_leaves_2 0 rfl rfl)
theorem dX2_leaves_48 : decode cX2_leaves 48 = .ok (.invokevirtual 61, 3) := dk_182 0 61 (dk_at dksX2_leaves_2 1 rfl rfl)
theorem dX2_leaves_51 : decode cX2_leaves 51 = .ok (.lmul, 1) := dk_105 (dk_at dksX2_leaves_2 4 rfl rfl)
theorem dX2_leaves_52 : decode cX2_leaves 52 = .ok (.aload_n 0, 1) := dk_42 (dk_at dksX2_leaves_2 5 rfl rfl)
theorem dX2_leaves_53 : decode cX2_leaves 53 = .ok (.iload_n 2, 1) := dk_28 (dk_at dksX2_leaves_2 6 rfl rfl)
theorem dX2_leaves_54 : decode cX2_leaves 54 = .ok (.aload_n 0, 1) := dk_42 (dk_at dksX2_leaves_2 7 rfl rfl)
theorem dX2_leaves_55 : decode cX2_leaves 55 = .ok (.getfield 41, 3) := dk_180 0 41 (dk_at dksX2_leaves_2 8 rfl rfl)
theorem dX2_leaves_58 : decode cX2_leaves 58 = .ok (.invokevirtual 61, 3) := dk_182 0 61 (dk_at dksX2_leaves_2 11 rfl rfl)
theorem dX2_leaves_61 : decode cX2_leaves 61 = .ok (.aload_n 0, 1) := dk_42 (dk_at dksX2_leaves_2 14 rfl rfl)
theorem dX2_leaves_62 : decode cX2_leaves 62 = .ok (.iload_n 3, 1) := dk_29 (dk_at dksX2_leaves_2 15 rfl rfl)
theorem dX2_leaves_63 : decode cX2_leaves 63 = .ok (.iload_n 1, 1) := dk_27 (dk_at dksX2_leaves_2 16 rfl rfl)
theorem dX2_leaves_64 : decode cX2_leaves 64 = .ok (.invokevirtual 61, 3) := dk_182 0 61 (dk_at dksX2_leaves_2 17 rfl rfl)
theorem dX2_leaves_67 : decode cX2_leaves 67 = .ok (.lmul, 1) := dk_105 (dk_at dksX2_leaves_2 20 rfl rfl)
theorem dX2_leaves_68 : decode cX2_leaves 68 = .ok (.lsub, 1) := dk_101 (dk_at dksX2_leaves_2 21 rfl rfl)
theorem dX2_leaves_69 : decode cX2_leaves 69 = .ok (.lstore 4, 2) := dk_55 4 (dk_at dksX2_leaves_2 22 rfl rfl)
theorem dX2_leaves_71 : decode cX2_leaves 71 = .ok (.lload 4, 2) := dk_22 4 (dk_at dksX2_leaves_3 0 rfl rfl)
theorem dX2_leaves_73 : decode cX2_leaves 73 = .ok (.lconst 0, 1) := dk_9 (dk_at dksX2_leaves_3 2 rfl rfl)
theorem dX2_leaves_74 : decode cX2_leaves 74 = .ok (.lcmp, 1) := dk_148 (dk_at dksX2_leaves_3 3 rfl rfl)
theorem dX2_leaves_75 : decode cX2_leaves 75 = .ok (.ifCond .lt 25, 3) := dk_155 0 25 (dk_at dksX2_leaves_3 4 rfl rfl)
theorem dX2_leaves_78 : decode cX2_leaves 78 = .ok (.lload 4, 2) := dk_22 4 (dk_at dksX2_leaves_3 7 rfl rfl)
theorem dX2_leaves_80 : decode cX2_leaves 80 = .ok (.lconst 0, 1) := dk_9 (dk_at dksX2_leaves_3 9 rfl rfl)
theorem dX2_leaves_81 : decode cX2_leaves 81 = .ok (.lcmp, 1) := dk_148 (dk_at dksX2_leaves_3 10 rfl rfl)
theorem dX2_leaves_82 : decode cX2_leaves 82 = .ok (.ifCond .ne 20, 3) := dk_154 0 20 (dk_at dksX2_leaves_3 11 rfl rfl)
theorem dX2_leaves_85 : decode cX2_leaves 85 = .ok (.aload_n 0, 1) := dk_42 (dk_at dksX2_leaves_3 14 rfl rfl)
theorem dX2_leaves_86 : decode cX2_leaves 86 = .ok (.getfield 15, 3) := dk_180 0 15 (dk_at dksX2_leaves_3 15 rfl rfl)
theorem dX2_leaves_89 : decode cX2_leaves 89 = .ok (.iload_n 3, 1) := dk_29 (dk_at dksX2_leaves_3 18 rfl rfl)
theorem dX2_leaves_90 : decode cX2_leaves 90 = .ok (.iaload, 1) := dk_46 (dk_at dksX2_leaves_3 19 rfl rfl)
theorem dX2_leaves_91 : decode cX2_leaves 91 = .ok (.aload_n 0, 1) := dk_42 (dk_at dksX2_leaves_3 20 rfl rfl)
theorem dX2_leaves_92 : decode cX2_leaves 92 = .ok (.getfield 15, 3) := dk_180 0 15 (dk_at dksX2_leaves_3 21 rfl rfl)
theorem dX2_leaves_95 : decode cX2_leaves 95 = .ok (.iload_n 2, 1) := dk_28 (dk_at dksX2_leaves_4 0 rfl rfl)
theorem dX2_leaves_96 : decode cX2_leaves 96 = .ok (.iaload, 1) := dk_46 (dk_at dksX2_leaves_4 1 rfl rfl)
theorem dX2_leaves_97 : decode cX2_leaves 97 = .ok (.if_icmp .ge 5, 3) := dk_162 0 5 (dk_at dksX2_leaves_4 2 rfl rfl)
theorem dX2_leaves_100 : decode cX2_leaves 100 = .ok (.iload_n 3, 1) := dk_29 (dk_at dksX2_leaves_4 5 rfl rfl)
theorem dX2_leaves_101 : decode cX2_leaves 101 = .ok (.istore_n 2, 1) := dk_61 (dk_at dksX2_leaves_4 6 rfl rfl)
theorem dX2_leaves_102 : decode cX2_leaves 102 = .ok (.iinc 3 1, 3) := dk_132 3 1 (dk_at dksX2_leaves_4 7 rfl rfl)
theorem dX2_leaves_105 : decode cX2_leaves 105 = .ok (.goto (-101), 3) := dk_167 255 155 (dk_at dksX2_leaves_4 10 rfl rfl)
theorem dX2_leaves_108 : decode cX2_leaves 108 = .ok (.iload_n 2, 1) := dk_28 (dk_at dksX2_leaves_4 13 rfl rfl)
theorem dX2_leaves_109 : decode cX2_leaves 109 = .ok (.ireturn, 1) := dk_172 (dk_at dksX2_leaves_4 14 rfl rfl)
abbrev cX2_turns : ByteArray := prog_8_method_9_code
def yX2_turns : MethodName := ⟨RX2, "turns", "(II)V"⟩
def dkwX2_turns_4 : List UInt8 := [167, 255, 172, 42, 33, 181, 0, 57, 42, 180, 0, 15, 27, 28, 79, 177]
abbrev dktX2_turns_4 : List UInt8 := dkwX2_turns_4 ++ []
def dkwX2_turns_3 : List UInt8 := [182, 0, 61, 105, 101, 42, 180, 0, 57, 109, 182, 0, 44, 132, 8, 1, 167, 255, 210, 132, 5, 1]
abbrev dktX2_turns_3 : List UInt8 := dkwX2_turns_3 ++ dktX2_turns_4
def dkwX2_turns_2 : List UInt8 := [163, 0, 43, 42, 21, 5, 21, 8, 42, 21, 5, 21, 8, 182, 0, 61, 33, 105, 22, 6, 42, 27, 21, 8]
abbrev dktX2_turns_2 : List UInt8 := dkwX2_turns_2 ++ dktX2_turns_3
def dkwX2_turns_1 : List UInt8 := [160, 0, 6, 167, 0, 64, 42, 21, 5, 28, 182, 0, 61, 55, 6, 3, 54, 8, 21, 8, 42, 180, 0, 41]
abbrev dktX2_turns_1 : List UInt8 := dkwX2_turns_1 ++ dktX2_turns_2
def dkwX2_turns_0 : List UInt8 := [42, 27, 28, 182, 0, 61, 66, 3, 54, 5, 21, 5, 42, 180, 0, 23, 5, 96, 162, 0, 79, 21, 5, 27]
abbrev dktX2_turns_0 : List UInt8 := dkwX2_turns_0 ++ dktX2_turns_1
theorem dksX2_turns_0 : cX2_turns.data.toList.drop 0 = dktX2_turns_0 := by decide +kernel
theorem dksX2_turns_1 : cX2_turns.data.toList.drop 24 = dktX2_turns_1 := dk_seg dksX2_turns_0 24 rfl rfl
theorem dksX2_turns_2 : cX2_turns.data.toList.drop 48 = dktX2_turns_2 := dk_seg dksX2_turns_1 24 rfl rfl
theorem dksX2_turns_3 : cX2_turns.data.toList.drop 72 = dktX2_turns_3 := dk_seg dksX2_turns_2 24 rfl rfl
theorem dksX2_turns_4 : cX2_turns.data.toList.drop 94 = dktX2_turns_4 := dk_seg dksX2_turns_3 22 rfl rfl
theorem dX2_turns_0 : decode cX2_turns 0 = .ok (.aload_n 0, 1) := dk_42 (dk_at dksX2_turns_0 0 rfl rfl)
theorem dX2_turns_1 : decode cX2_turns 1 = .ok (.iload_n 1, 1) := dk_27 (dk_at dksX2_turns_0 1 rfl rfl)
theorem dX2_turns_2 : decode cX2_turns 2 = .ok (.iload_n 2, 1) := dk_28 (dk_at dksX2_turns_0 2 rfl rfl)
theorem dX2_turns_3 : decode cX2_turns 3 = .ok (.invokevirtual 61, 3) := dk_182 0 61 (dk_at dksX2_turns_0 3 rfl rfl)
theorem dX2_turns_6 : decode cX2_turns 6 = .ok (.lstore_n 3, 1) := dk_66 (dk_at dksX2_turns_0 6 rfl rfl)
theorem dX2_turns_7 : decode cX2_turns 7 = .ok (.iconst 0, 1) := dk_3 (dk_at dksX2_turns_0 7 rfl rfl)
theorem dX2_turns_8 : decode cX2_turns 8 = .ok (.istore 5, 2) := dk_54 5 (dk_at dksX2_turns_0 8 rfl rfl)
theorem dX2_turns_10 : decode cX2_turns 10 = .ok (.iload 5, 2) := dk_21 5 (dk_at dksX2_turns_0 10 rfl rfl)
theorem dX2_turns_12 : decode cX2_turns 12 = .ok (.aload_n 0, 1) := dk_42 (dk_at dksX2_turns_0 12 rfl rfl)
theorem dX2_turns_13 : decode cX2_turns 13 = .ok (.getfield 23, 3) := dk_180 0 23 (dk_at dksX2_turns_0 13 rfl rfl)
theorem dX2_turns_16 : decode cX2_turns 16 = .ok (.iconst 2, 1) := dk_5 (dk_at dksX2_turns_0 16 rfl rfl)
theorem dX2_turns_17 : decode cX2_turns 17 = .ok (.iadd, 1) := dk_96 (dk_at dksX2_turns_0 17 rfl rfl)
theorem dX2_turns_18 : decode cX2_turns 18 = .ok (.if_icmp .ge 79, 3) := dk_162 0 79 (dk_at dksX2_turns_0 18 rfl rfl)
theorem dX2_turns_21 : decode cX2_turns 21 = .ok (.iload 5, 2) := dk_21 5 (dk_at dksX2_turns_0 21 rfl rfl)
theorem dX2_turns_23 : decode cX2_turns 23 = .ok (.iload_n 1, 1) := dk_27 (dk_at dksX2_turns_0 23 rfl rfl)
theorem dX2_turns_24 : decode cX2_turns 24 = .ok (.if_icmp .ne 6, 3) := dk_160 0 6 (dk_at dksX2_turns_1 0 rfl rfl)
theorem dX2_turns_27 : decode cX2_turns 27 = .ok (.goto 64, 3) := dk_167 0 64 (dk_at dksX2_turns_1 3 rfl rfl)
theorem dX2_turns_30 : decode cX2_turns 30 = .ok (.aload_n 0, 1) := dk_42 (dk_at dksX2_turns_1 6 rfl rfl)
theorem dX2_turns_31 : decode cX2_turns 31 = .ok (.iload 5, 2) := dk_21 5 (dk_at dksX2_turns_1 7 rfl rfl)
theorem dX2_turns_33 : decode cX2_turns 33 = .ok (.iload_n 2, 1) := dk_28 (dk_at dksX2_turns_1 9 rfl rfl)
theorem dX2_turns_34 : decode cX2_turns 34 = .ok (.invokevirtual 61, 3) := dk_182 0 61 (dk_at dksX2_turns_1 10 rfl rfl)
theorem dX2_turns_37 : decode cX2_turns 37 = .ok (.lstore 6, 2) := dk_55 6 (dk_at dksX2_turns_1 13 rfl rfl)
theorem dX2_turns_39 : decode cX2_turns 39 = .ok (.iconst 0, 1) := dk_3 (dk_at dksX2_turns_1 15 rfl rfl)
theorem dX2_turns_40 : decode cX2_turns 40 = .ok (.istore 8, 2) := dk_54 8 (dk_at dksX2_turns_1 16 rfl rfl)
theorem dX2_turns_42 : decode cX2_turns 42 = .ok (.iload 8, 2) := dk_21 8 (dk_at dksX2_turns_1 18 rfl rfl)
theorem dX2_turns_44 : decode cX2_turns 44 = .ok (.aload_n 0, 1) := dk_42 (dk_at dksX2_turns_1 20 rfl rfl)
theorem dX2_turns_45 : decode cX2_turns 45 = .ok (.getfield 41, 3) := dk_180 0 41 (dk_at dksX2_turns_1 21 rfl rfl)
theorem dX2_turns_48 : decode cX2_turns 48 = .ok (.if_icmp .gt 43, 3) := dk_163 0 43 (dk_at dksX2_turns_2 0 rfl rfl)
theorem dX2_turns_51 : decode cX2_turns 51 = .ok (.aload_n 0, 1) := dk_42 (dk_at dksX2_turns_2 3 rfl rfl)
theorem dX2_turns_52 : decode cX2_turns 52 = .ok (.iload 5, 2) := dk_21 5 (dk_at dksX2_turns_2 4 rfl rfl)
theorem dX2_turns_54 : decode cX2_turns 54 = .ok (.iload 8, 2) := dk_21 8 (dk_at dksX2_turns_2 6 rfl rfl)
theorem dX2_turns_56 : decode cX2_turns 56 = .ok (.aload_n 0, 1) := dk_42 (dk_at dksX2_turns_2 8 rfl rfl)
theorem dX2_turns_57 : decode cX2_turns 57 = .ok (.iload 5, 2) := dk_21 5 (dk_at dksX2_turns_2 9 rfl rfl)
theorem dX2_turns_59 : decode cX2_turns 59 = .ok (.iload 8, 2) := dk_21 8 (dk_at dksX2_turns_2 11 rfl rfl)
theorem dX2_turns_61 : decode cX2_turns 61 = .ok (.invokevirtual 61, 3) := dk_182 0 61 (dk_at dksX2_turns_2 13 rfl rfl)
theorem dX2_turns_64 : decode cX2_turns 64 = .ok (.lload_n 3, 1) := dk_33 (dk_at dksX2_turns_2 16 rfl rfl)
theorem dX2_turns_65 : decode cX2_turns 65 = .ok (.lmul, 1) := dk_105 (dk_at dksX2_turns_2 17 rfl rfl)
theorem dX2_turns_66 : decode cX2_turns 66 = .ok (.lload 6, 2) := dk_22 6 (dk_at dksX2_turns_2 18 rfl rfl)
theorem dX2_turns_68 : decode cX2_turns 68 = .ok (.aload_n 0, 1) := dk_42 (dk_at dksX2_turns_2 20 rfl rfl)
theorem dX2_turns_69 : decode cX2_turns 69 = .ok (.iload_n 1, 1) := dk_27 (dk_at dksX2_turns_2 21 rfl rfl)
theorem dX2_turns_70 : decode cX2_turns 70 = .ok (.iload 8, 2) := dk_21 8 (dk_at dksX2_turns_2 22 rfl rfl)
theorem dX2_turns_72 : decode cX2_turns 72 = .ok (.invokevirtual 61, 3) := dk_182 0 61 (dk_at dksX2_turns_3 0 rfl rfl)
theorem dX2_turns_75 : decode cX2_turns 75 = .ok (.lmul, 1) := dk_105 (dk_at dksX2_turns_3 3 rfl rfl)
theorem dX2_turns_76 : decode cX2_turns 76 = .ok (.lsub, 1) := dk_101 (dk_at dksX2_turns_3 4 rfl rfl)
theorem dX2_turns_77 : decode cX2_turns 77 = .ok (.aload_n 0, 1) := dk_42 (dk_at dksX2_turns_3 5 rfl rfl)
theorem dX2_turns_78 : decode cX2_turns 78 = .ok (.getfield 57, 3) := dk_180 0 57 (dk_at dksX2_turns_3 6 rfl rfl)
theorem dX2_turns_81 : decode cX2_turns 81 = .ok (.ldiv, 1) := dk_109 (dk_at dksX2_turns_3 9 rfl rfl)
theorem dX2_turns_82 : decode cX2_turns 82 = .ok (.invokevirtual 44, 3) := dk_182 0 44 (dk_at dksX2_turns_3 10 rfl rfl)
theorem dX2_turns_85 : decode cX2_turns 85 = .ok (.iinc 8 1, 3) := dk_132 8 1 (dk_at dksX2_turns_3 13 rfl rfl)
theorem dX2_turns_88 : decode cX2_turns 88 = .ok (.goto (-46), 3) := dk_167 255 210 (dk_at dksX2_turns_3 16 rfl rfl)
theorem dX2_turns_91 : decode cX2_turns 91 = .ok (.iinc 5 1, 3) := dk_132 5 1 (dk_at dksX2_turns_3 19 rfl rfl)
theorem dX2_turns_94 : decode cX2_turns 94 = .ok (.goto (-84), 3) := dk_167 255 172 (dk_at dksX2_turns_4 0 rfl rfl)
theorem dX2_turns_97 : decode cX2_turns 97 = .ok (.aload_n 0, 1) := dk_42 (dk_at dksX2_turns_4 3 rfl rfl)
theorem dX2_turns_98 : decode cX2_turns 98 = .ok (.lload_n 3, 1) := dk_33 (dk_at dksX2_turns_4 4 rfl rfl)
theorem dX2_turns_99 : decode cX2_turns 99 = .ok (.putfield 57, 3) := dk_181 0 57 (dk_at dksX2_turns_4 5 rfl rfl)
theorem dX2_turns_102 : decode cX2_turns 102 = .ok (.aload_n 0, 1) := dk_42 (dk_at dksX2_turns_4 8 rfl rfl)
theorem dX2_turns_103 : decode cX2_turns 103 = .ok (.getfield 15, 3) := dk_180 0 15 (dk_at dksX2_turns_4 9 rfl rfl)
theorem dX2_turns_106 : decode cX2_turns 106 = .ok (.iload_n 1, 1) := dk_27 (dk_at dksX2_turns_4 12 rfl rfl)
theorem dX2_turns_107 : decode cX2_turns 107 = .ok (.iload_n 2, 1) := dk_28 (dk_at dksX2_turns_4 13 rfl rfl)
theorem dX2_turns_108 : decode cX2_turns 108 = .ok (.iastore, 1) := dk_79 (dk_at dksX2_turns_4 14 rfl rfl)
theorem dX2_turns_109 : decode cX2_turns 109 = .ok (.return_, 1) := dk_177 (dk_at dksX2_turns_4 15 rfl rfl)
abbrev cX2_wants : ByteArray := prog_8_method_5_code
def yX2_wants : MethodName := ⟨RX2, "wants", "(IJ)V"⟩
def dkwX2_wants_0 : List UInt8 := [42, 42, 180, 0, 23, 4, 96, 27, 32, 117, 182, 0, 44, 177]
abbrev dktX2_wants_0 : List UInt8 := dkwX2_wants_0 ++ []
theorem dksX2_wants_0 : cX2_wants.data.toList.drop 0 = dktX2_wants_0 := by decide +kernel
theorem dX2_wants_0 : decode cX2_wants 0 = .ok (.aload_n 0, 1) := dk_42 (dk_at dksX2_wants_0 0 rfl rfl)
theorem dX2_wants_1 : decode cX2_wants 1 = .ok (.aload_n 0, 1) := dk_42 (dk_at dksX2_wants_0 1 rfl rfl)
theorem dX2_wants_2 : decode cX2_wants 2 = .ok (.getfield 23, 3) := dk_180 0 23 (dk_at dksX2_wants_0 2 rfl rfl)
theorem dX2_wants_5 : decode cX2_wants 5 = .ok (.iconst 1, 1) := dk_4 (dk_at dksX2_wants_0 5 rfl rfl)
theorem dX2_wants_6 : decode cX2_wants 6 = .ok (.iadd, 1) := dk_96 (dk_at dksX2_wants_0 6 rfl rfl)
theorem dX2_wants_7 : decode cX2_wants 7 = .ok (.iload_n 1, 1) := dk_27 (dk_at dksX2_wants_0 7 rfl rfl)
theorem dX2_wants_8 : decode cX2_wants 8 = .ok (.lload_n 2, 1) := dk_32 (dk_at dksX2_wants_0 8 rfl rfl)
theorem dX2_wants_9 : decode cX2_wants 9 = .ok (.lneg, 1) := dk_117 (dk_at dksX2_wants_0 9 rfl rfl)
theorem dX2_wants_10 : decode cX2_wants 10 = .ok (.invokevirtual 44, 3) := dk_182 0 44 (dk_at dksX2_wants_0 10 rfl rfl)
theorem dX2_wants_13 : decode cX2_wants 13 = .ok (.return_, 1) := dk_177 (dk_at dksX2_wants_0 13 rfl rfl)
theorem q114 : (Jvm.Cond.initialized "NotAtOnce$Program") ∈ lw_all := lw_g (lw_at lw_m1 2 rfl) rfl
theorem q160 : (Jvm.Cond.instantiable "NotAtOnce$Program" (6 : Nat)) ∈ lw_all := lw_g (lw_at lw_m1 48 rfl) rfl
theorem q162 : (Jvm.Cond.instanceMethod ({ cls := "NotAtOnce$Program", name := "<init>", desc := "()V" } : Jvm.MethodName)) ∈ lw_all := lw_g (lw_at lw_m1 50 rfl) rfl
theorem q163 : (Jvm.Cond.code ({ cls := "NotAtOnce$Program", name := "<init>", desc := "()V" } : Jvm.MethodName) prog_8_method_1_code (1 : Nat) (Option.none : Option Jvm.ClassFile.FieldType)) ∈ lw_all := lw_g (lw_at lw_m1 51 rfl) rfl
theorem q164 : (Jvm.Cond.methodLink "NotAtOnce$Program" (5 : Nat) ({ cls := "java/lang/Object", name := "<init>", desc := "()V" } : Jvm.MethodName)) ∈ lw_all := lw_g (lw_at lw_m1 52 rfl) rfl
theorem q165 : (Jvm.Cond.fieldLink "NotAtOnce$Program" (11 : Nat) "NotAtOnce$Program" "cell" "[J") ∈ lw_all := lw_g (lw_at lw_m1 53 rfl) rfl
theorem q166 : (Jvm.Cond.fieldLink "NotAtOnce$Program" (15 : Nat) "NotAtOnce$Program" "base" "[I") ∈ lw_all := lw_g (lw_at lw_m1 54 rfl) rfl
theorem q167 : (Jvm.Cond.fieldLink "NotAtOnce$Program" (23 : Nat) "NotAtOnce$Program" "rows" "I") ∈ lw_all := lw_g (lw_at lw_m1 55 rfl) rfl
theorem q168 : (Jvm.Cond.fieldLink "NotAtOnce$Program" (19 : Nat) "NotAtOnce$Program" "numbers" "I") ∈ lw_all := lw_g (lw_at lw_m1 56 rfl) rfl
theorem q169 : (Jvm.Cond.fieldLink "NotAtOnce$Program" (41 : Nat) "NotAtOnce$Program" "wide" "I") ∈ lw_all := lw_g (lw_at lw_m1 57 rfl) rfl
theorem q170 : (Jvm.Cond.fieldLink "NotAtOnce$Program" (57 : Nat) "NotAtOnce$Program" "low" "J") ∈ lw_all := lw_g (lw_at lw_m1 58 rfl) rfl
theorem q172 : (Jvm.Cond.laysFinal "NotAtOnce$Program" "NotAtOnce$Program" "cell" "[J") ∈ lw_all := lw_g (lw_at lw_m1 60 rfl) rfl
theorem q173 : (Jvm.Cond.soleField "NotAtOnce$Program" "cell") ∈ lw_all := lw_g (lw_at lw_m1 61 rfl) rfl
theorem q174 : (Jvm.Cond.laysFinal "NotAtOnce$Program" "NotAtOnce$Program" "base" "[I") ∈ lw_all := lw_g (lw_at lw_m1 62 rfl) rfl
theorem q175 : (Jvm.Cond.soleField "NotAtOnce$Program" "base") ∈ lw_all := lw_g (lw_at lw_m1 63 rfl) rfl
theorem q176 : (Jvm.Cond.lays "NotAtOnce$Program" "NotAtOnce$Program" "rows" "I") ∈ lw_all := lw_g (lw_at lw_m1 64 rfl) rfl
theorem q177 : (Jvm.Cond.soleField "NotAtOnce$Program" "rows") ∈ lw_all := lw_g (lw_at lw_m1 65 rfl) rfl
theorem q178 : (Jvm.Cond.lays "NotAtOnce$Program" "NotAtOnce$Program" "numbers" "I") ∈ lw_all := lw_g (lw_at lw_m1 66 rfl) rfl
theorem q179 : (Jvm.Cond.soleField "NotAtOnce$Program" "numbers") ∈ lw_all := lw_g (lw_at lw_m1 67 rfl) rfl
theorem q180 : (Jvm.Cond.lays "NotAtOnce$Program" "NotAtOnce$Program" "wide" "I") ∈ lw_all := lw_g (lw_at lw_m1 68 rfl) rfl
theorem q181 : (Jvm.Cond.soleField "NotAtOnce$Program" "wide") ∈ lw_all := lw_g (lw_at lw_m1 69 rfl) rfl
theorem q182 : (Jvm.Cond.lays "NotAtOnce$Program" "NotAtOnce$Program" "low" "J") ∈ lw_all := lw_g (lw_at lw_m1 70 rfl) rfl
theorem q183 : (Jvm.Cond.soleField "NotAtOnce$Program" "low") ∈ lw_all := lw_g (lw_at lw_m1 71 rfl) rfl
theorem q184 : (Jvm.Cond.superclass "NotAtOnce$Program" "java/lang/Object") ∈ lw_all := lw_g (lw_at lw_m1 72 rfl) rfl
theorem q768 : (Jvm.Cond.selects "NotAtOnce$Program" ({ cls := "java/lang/Object", name := "getClass", desc := "()Ljava/lang/Class;" } : Jvm.MethodName) ({ cls := "java/lang/Object", name := "getClass", desc := "()Ljava/lang/Class;" } : Jvm.MethodName)) ∈ lw_all := lw_g (lw_at lw_m3 176 rfl) rfl
theorem q832 : (Jvm.Cond.fieldLink "NotAtOnce$Program" (52 : Nat) "NotAtOnce$Asked" "times" "[I") ∈ lw_all := lw_g (lw_at lw_m4 0 rfl) rfl
theorem q1002 : (Jvm.Cond.instanceMethod ({ cls := "NotAtOnce$Program", name := "lays", desc := "(LNotAtOnce$Table;II)V" } : Jvm.MethodName)) ∈ lw_all := lw_g (lw_at lw_m4 170 rfl) rfl
theorem q1003 : (Jvm.Cond.selects "NotAtOnce$Program" ({ cls := "NotAtOnce$Program", name := "lays", desc := "(LNotAtOnce$Table;II)V" } : Jvm.MethodName) ({ cls := "NotAtOnce$Program", name := "lays", desc := "(LNotAtOnce$Table;II)V" } : Jvm.MethodName)) ∈ lw_all := lw_g (lw_at lw_m4 171 rfl) rfl
theorem q1004 : (Jvm.Cond.code ({ cls := "NotAtOnce$Program", name := "lays", desc := "(LNotAtOnce$Table;II)V" } : Jvm.MethodName) prog_8_method_4_code (8 : Nat) (Option.none : Option Jvm.ClassFile.FieldType)) ∈ lw_all := lw_g (lw_at lw_m4 172 rfl) rfl
theorem q1005 : (Jvm.Cond.methodLink "NotAtOnce$Program" (26 : Nat) ({ cls := "NotAtOnce$Table", name := "size", desc := "()I" } : Jvm.MethodName)) ∈ lw_all := lw_g (lw_at lw_m4 173 rfl) rfl
theorem q1006 : (Jvm.Cond.methodLink "NotAtOnce$Program" (32 : Nat) ({ cls := "NotAtOnce$Table", name := "set", desc := "(I)LNotAtOnce$Asked;" } : Jvm.MethodName)) ∈ lw_all := lw_g (lw_at lw_m4 174 rfl) rfl
theorem q1010 : (Jvm.Cond.methodLink "NotAtOnce$Program" (36 : Nat) ({ cls := "NotAtOnce$Asked", name := "outcomes", desc := "()I" } : Jvm.MethodName)) ∈ lw_all := lw_g (lw_at lw_m4 178 rfl) rfl
theorem q1011 : (Jvm.Cond.methodLink "NotAtOnce$Program" (44 : Nat) ({ cls := "NotAtOnce$Program", name := "put", desc := "(IIJ)V" } : Jvm.MethodName)) ∈ lw_all := lw_g (lw_at lw_m4 179 rfl) rfl
theorem q1012 : (Jvm.Cond.privateMethod ({ cls := "NotAtOnce$Program", name := "put", desc := "(IIJ)V" } : Jvm.MethodName)) ∈ lw_tbl := lw_at lw_m4 180 rfl
theorem q1013 : (Jvm.Cond.instanceMethod ({ cls := "NotAtOnce$Program", name := "put", desc := "(IIJ)V" } : Jvm.MethodName)) ∈ lw_all := lw_g (lw_at lw_m4 181 rfl) rfl
theorem q1014 : (Jvm.Cond.code ({ cls := "NotAtOnce$Program", name := "put", desc := "(IIJ)V" } : Jvm.MethodName) prog_8_method_3_code (5 : Nat) (Option.none : Option Jvm.ClassFile.FieldType)) ∈ lw_all := lw_g (lw_at lw_m4 182 rfl) rfl
theorem q1015 : (Jvm.Cond.methodLink "NotAtOnce$Program" (48 : Nat) ({ cls := "NotAtOnce$Asked", name := "outcome", desc := "(I)I" } : Jvm.MethodName)) ∈ lw_all := lw_g (lw_at lw_m4 183 rfl) rfl
theorem q1024 : (Jvm.Cond.constantLong "NotAtOnce$Program" (55 : Nat) (-1 : Int64)) ∈ lw_all := lw_g (lw_at lw_m4 192 rfl) rfl
theorem q1026 : (Jvm.Cond.instanceMethod ({ cls := "NotAtOnce$Program", name := "most", desc := "(Z)J" } : Jvm.MethodName)) ∈ lw_all := lw_g (lw_at lw_m4 194 rfl) rfl
theorem q1027 : (Jvm.Cond.selects "NotAtOnce$Program" ({ cls := "NotAtOnce$Program", name := "most", desc := "(Z)J" } : Jvm.MethodName) ({ cls := "NotAtOnce$Program", name := "most", desc := "(Z)J" } : Jvm.MethodName)) ∈ lw_all := lw_g (lw_at lw_m4 195 rfl) rfl
theorem q1028 : (Jvm.Cond.code ({ cls := "NotAtOnce$Program", name := "most", desc := "(Z)J" } : Jvm.MethodName) prog_8_method_10_code (3 : Nat) (Option.some Jvm.ClassFile.FieldType.long)) ∈ lw_all := lw_g (lw_at lw_m4 196 rfl) rfl
theorem q1029 : (Jvm.Cond.methodLink "NotAtOnce$Program" (69 : Nat) ({ cls := "NotAtOnce$Program", name := "enters", desc := "(Z)I" } : Jvm.MethodName)) ∈ lw_all := lw_g (lw_at lw_m4 197 rfl) rfl
theorem q1030 : (Jvm.Cond.privateMethod ({ cls := "NotAtOnce$Program", name := "enters", desc := "(Z)I" } : Jvm.MethodName)) ∈ lw_tbl := lw_at lw_m4 198 rfl
theorem q1031 : (Jvm.Cond.instanceMethod ({ cls := "NotAtOnce$Program", name := "enters", desc := "(Z)I" } : Jvm.MethodName)) ∈ lw_all := lw_g (lw_at lw_m4 199 rfl) rfl
theorem q1032 : (Jvm.Cond.code ({ cls := "NotAtOnce$Program", name := "enters", desc := "(Z)I" } : Jvm.MethodName) prog_8_method_7_code (4 : Nat) (Option.some Jvm.ClassFile.FieldType.int)) ∈ lw_all := lw_g (lw_at lw_m4 200 rfl) rfl
theorem q1033 : (Jvm.Cond.methodLink "NotAtOnce$Program" (61 : Nat) ({ cls := "NotAtOnce$Program", name := "at", desc := "(II)J" } : Jvm.MethodName)) ∈ lw_all := lw_g (lw_at lw_m4 201 rfl) rfl
theorem q1034 : (Jvm.Cond.privateMethod ({ cls := "NotAtOnce$Program", name := "at", desc := "(II)J" } : Jvm.MethodName)) ∈ lw_tbl := lw_at lw_m4 202 rfl
theorem q1035 : (Jvm.Cond.instanceMethod ({ cls := "NotAtOnce$Program", name := "at", desc := "(II)J" } : Jvm.MethodName)) ∈ lw_all := lw_g (lw_at lw_m4 203 rfl) rfl
theorem q1036 : (Jvm.Cond.code ({ cls := "NotAtOnce$Program", name := "at", desc := "(II)J" } : Jvm.MethodName) prog_8_method_2_code (3 : Nat) (Option.some Jvm.ClassFile.FieldType.long)) ∈ lw_all := lw_g (lw_at lw_m4 204 rfl) rfl
theorem q1037 : (Jvm.Cond.methodLink "NotAtOnce$Program" (65 : Nat) ({ cls := "NotAtOnce$Program", name := "isFree", desc := "(IZ)Z" } : Jvm.MethodName)) ∈ lw_all := lw_g (lw_at lw_m4 205 rfl) rfl
theorem q1038 : (Jvm.Cond.privateMethod ({ cls := "NotAtOnce$Program", name := "isFree", desc := "(IZ)Z" } : Jvm.MethodName)) ∈ lw_tbl := lw_at lw_m4 206 rfl
theorem q1039 : (Jvm.Cond.instanceMethod ({ cls := "NotAtOnce$Program", name := "isFree", desc := "(IZ)Z" } : Jvm.MethodName)) ∈ lw_all := lw_g (lw_at lw_m4 207 rfl) rfl
theorem q1040 : (Jvm.Cond.code ({ cls := "NotAtOnce$Program", name := "isFree", desc := "(IZ)Z" } : Jvm.MethodName) prog_8_method_6_code (3 : Nat) (Option.some Jvm.ClassFile.FieldType.boolean)) ∈ lw_all := lw_g (lw_at lw_m4 208 rfl) rfl
theorem q1041 : (Jvm.Cond.methodLink "NotAtOnce$Program" (73 : Nat) ({ cls := "NotAtOnce$Program", name := "leaves", desc := "(I)I" } : Jvm.MethodName)) ∈ lw_all := lw_g (lw_at lw_m4 209 rfl) rfl
theorem q1042 : (Jvm.Cond.privateMethod ({ cls := "NotAtOnce$Program", name := "leaves", desc := "(I)I" } : Jvm.MethodName)) ∈ lw_tbl := lw_at lw_m4 210 rfl
theorem q1043 : (Jvm.Cond.instanceMethod ({ cls := "NotAtOnce$Program", name := "leaves", desc := "(I)I" } : Jvm.MethodName)) ∈ lw_all := lw_g (lw_at lw_m4 211 rfl) rfl
theorem q1044 : (Jvm.Cond.code ({ cls := "NotAtOnce$Program", name := "leaves", desc := "(I)I" } : Jvm.MethodName) prog_8_method_8_code (6 : Nat) (Option.some Jvm.ClassFile.FieldType.int)) ∈ lw_all := lw_g (lw_at lw_m4 212 rfl) rfl
theorem q1045 : (Jvm.Cond.methodLink "NotAtOnce$Program" (76 : Nat) ({ cls := "NotAtOnce$Program", name := "turns", desc := "(II)V" } : Jvm.MethodName)) ∈ lw_all := lw_g (lw_at lw_m4 213 rfl) rfl
theorem q1046 : (Jvm.Cond.privateMethod ({ cls := "NotAtOnce$Program", name := "turns", desc := "(II)V" } : Jvm.MethodName)) ∈ lw_tbl := lw_at lw_m4 214 rfl
theorem q1047 : (Jvm.Cond.instanceMethod ({ cls := "NotAtOnce$Program", name := "turns", desc := "(II)V" } : Jvm.MethodName)) ∈ lw_all := lw_g (lw_at lw_m4 215 rfl) rfl
theorem q1048 : (Jvm.Cond.code ({ cls := "NotAtOnce$Program", name := "turns", desc := "(II)V" } : Jvm.MethodName) prog_8_method_9_code (9 : Nat) (Option.none : Option Jvm.ClassFile.FieldType)) ∈ lw_all := lw_g (lw_at lw_m4 216 rfl) rfl
theorem q1065 : (Jvm.Cond.instanceMethod ({ cls := "NotAtOnce$Program", name := "wants", desc := "(IJ)V" } : Jvm.MethodName)) ∈ lw_all := lw_g (lw_at lw_m4 233 rfl) rfl
theorem q1066 : (Jvm.Cond.selects "NotAtOnce$Program" ({ cls := "NotAtOnce$Program", name := "wants", desc := "(IJ)V" } : Jvm.MethodName) ({ cls := "NotAtOnce$Program", name := "wants", desc := "(IJ)V" } : Jvm.MethodName)) ∈ lw_all := lw_g (lw_at lw_m4 234 rfl) rfl
theorem q1067 : (Jvm.Cond.code ({ cls := "NotAtOnce$Program", name := "wants", desc := "(IJ)V" } : Jvm.MethodName) prog_8_method_5_code (4 : Nat) (Option.none : Option Jvm.ClassFile.FieldType)) ∈ lw_all := lw_g (lw_at lw_m4 235 rfl) rfl
theorem q2351 : (Jvm.Cond.castable "NotAtOnce$Program" "java/lang/Object") ∈ lw_tbl := lw_at lw_m10 79 rfl
theorem in_X2 : ∀ w ∈ wsX20, w ∈ lw_all := lw_in wsX20 [172, 174, 176, 178, 180, 182] (by decide +kernel) (by decide +kernel)
/-! NotAtOnce$Reader -/
set_option maxRecDepth 100000
def RX4 : String := "NotAtOnce$Reade\x72"
def TX4 : u_T := fun k => match k with
  | 0 => ("NotAtOnce$Reade\x72", "tokens", "LNotAtOnce$Tokens;", true)
  | 1 => ("NotAtOnce$Reade\x72", "book", "LNotAtOnce$Book;", true)
  | 2 => ("NotAtOnce$Reade\x72", "looks", "Ljava/util/ArrayList;", true)
  | 3 => ("NotAtOnce$Reade\x72", "points", "Ljava/util/ArrayList;", true)
  | 4 => ("NotAtOnce$Reade\x72", "now", "LNotAtOnce$Token;", false)
  | 5 => ("NotAtOnce$Reade\x72", "fault", "I", false)
  | _ => ("NotAtOnce$Reade\x72", "place", "I", false)
def tyX4 : Nat → FieldType := fun k => match k with
  | 0 => .object "NotAtOnce$Tokens"
  | 1 => .object "NotAtOnce$Book"
  | 2 => .object "java/util/ArrayList"
  | 3 => .object "java/util/ArrayList"
  | 4 => .object "NotAtOnce$Token"
  | 5 => .int
  | _ => .int
abbrev wsX40 : List Cond := u_ws RX4 TX4 7
theorem nmX4 : ∀ a, a < 7 → ∀ b, b < 7 → a ≠ b → (TX4 a).2.1 ≠ (TX4 b).2.1 := by decide +kernel
theorem tyX4_ok : ∀ k, k < 7 → parseFieldDescriptor (TX4 k).2.2.1 = some (tyX4 k) := by decide +kernel
abbrev cX4_init : ByteArray := prog_10_method_1_code
def yX4_init : MethodName := ⟨RX4, "<init>", "(LNotAtOnce$Tokens;)V"⟩
def dkwX4_init_2 : List UInt8 := [181, 0, 38, 177]
abbrev dktX4_init_2 : List UInt8 := dkwX4_init_2 ++ []
def dkwX4_init_1 : List UInt8 := [181, 0, 21, 42, 187, 0, 18, 89, 183, 0, 20, 181, 0, 25, 42, 43, 181, 0, 28, 42, 43, 182, 0, 32]
abbrev dktX4_init_1 : List UInt8 := dkwX4_init_1 ++ dktX4_init_2
def dkwX4_init_0 : List UInt8 := [42, 183, 0, 3, 42, 187, 0, 9, 89, 183, 0, 11, 181, 0, 12, 42, 187, 0, 18, 89, 183, 0, 20]
abbrev dktX4_init_0 : List UInt8 := dkwX4_init_0 ++ dktX4_init_1
theorem dksX4_init_0 : cX4_init.data.toList.drop 0 = dktX4_init_0 := by decide +kernel
theorem dksX4_init_1 : cX4_init.data.toList.drop 23 = dktX4_init_1 := dk_seg dksX4_init_0 23 rfl rfl
theorem dksX4_init_2 : cX4_init.data.toList.drop 47 = dktX4_init_2 := dk_seg dksX4_init_1 24 rfl rfl
theorem dX4_init_0 : decode cX4_init 0 = .ok (.aload_n 0, 1) := dk_42 (dk_at dksX4_init_0 0 rfl rfl)
theorem dX4_init_1 : decode cX4_init 1 = .ok (.invokespecial 3, 3) := dk_183 0 3 (dk_at dksX4_init_0 1 rfl rfl)
theorem dX4_init_4 : decode cX4_init 4 = .ok (.aload_n 0, 1) := dk_42 (dk_at dksX4_init_0 4 rfl rfl)
theorem dX4_init_5 : decode cX4_init 5 = .ok (.new 9, 3) := dk_187 0 9 (dk_at dksX4_init_0 5 rfl rfl)
theorem dX4_init_8 : decode cX4_init 8 = .ok (.dup, 1) := dk_89 (dk_at dksX4_init_0 8 rfl rfl)
theorem dX4_init_9 : decode cX4_init 9 = .ok (.invokespecial 11, 3) := dk_183 0 11 (dk_at dksX4_init_0 9 rfl rfl)
theorem dX4_init_12 : decode cX4_init 12 = .ok (.putfield 12, 3) := dk_181 0 12 (dk_at dksX4_init_0 12 rfl rfl)
theorem dX4_init_15 : decode cX4_init 15 = .ok (.aload_n 0, 1) := dk_42 (dk_at dksX4_init_0 15 rfl rfl)
theorem dX4_init_16 : decode cX4_init 16 = .ok (.new 18, 3) := dk_187 0 18 (dk_at dksX4_init_0 16 rfl rfl)
theorem dX4_init_19 : decode cX4_init 19 = .ok (.dup, 1) := dk_89 (dk_at dksX4_init_0 19 rfl rfl)
theorem dX4_init_20 : decode cX4_init 20 = .ok (.invokespecial 20, 3) := dk_183 0 20 (dk_at dksX4_init_0 20 rfl rfl)
theorem dX4_init_23 : decode cX4_init 23 = .ok (.putfield 21, 3) := dk_181 0 21 (dk_at dksX4_init_1 0 rfl rfl)
theorem dX4_init_26 : decode cX4_init 26 = .ok (.aload_n 0, 1) := dk_42 (dk_at dksX4_init_1 3 rfl rfl)
theorem dX4_init_27 : decode cX4_init 27 = .ok (.new 18, 3) := dk_187 0 18 (dk_at dksX4_init_1 4 rfl rfl)
theorem dX4_init_30 : decode cX4_init 30 = .ok (.dup, 1) := dk_89 (dk_at dksX4_init_1 7 rfl rfl)
theorem dX4_init_31 : decode cX4_init 31 = .ok (.invokespecial 20, 3) := dk_183 0 20 (dk_at dksX4_init_1 8 rfl rfl)
theorem dX4_init_34 : decode cX4_init 34 = .ok (.putfield 25, 3) := dk_181 0 25 (dk_at dksX4_init_1 11 rfl rfl)
theorem dX4_init_37 : decode cX4_init 37 = .ok (.aload_n 0, 1) := dk_42 (dk_at dksX4_init_1 14 rfl rfl)
theorem dX4_init_38 : decode cX4_init 38 = .ok (.aload_n 1, 1) := dk_43 (dk_at dksX4_init_1 15 rfl rfl)
theorem dX4_init_39 : decode cX4_init 39 = .ok (.putfield 28, 3) := dk_181 0 28 (dk_at dksX4_init_1 16 rfl rfl)
theorem dX4_init_42 : decode cX4_init 42 = .ok (.aload_n 0, 1) := dk_42 (dk_at dksX4_init_1 19 rfl rfl)
theorem dX4_init_43 : decode cX4_init 43 = .ok (.aload_n 1, 1) := dk_43 (dk_at dksX4_init_1 20 rfl rfl)
theorem dX4_init_44 : decode cX4_init 44 = .ok (.invokevirtual 32, 3) := dk_182 0 32 (dk_at dksX4_init_1 21 rfl rfl)
theorem dX4_init_47 : decode cX4_init 47 = .ok (.putfield 38, 3) := dk_181 0 38 (dk_at dksX4_init_2 0 rfl rfl)
theorem dX4_init_50 : decode cX4_init 50 = .ok (.return_, 1) := dk_177 (dk_at dksX4_init_2 3 rfl rfl)
abbrev cX4_read : ByteArray := prog_10_method_13_code
def yX4_read : MethodName := ⟨RX4, "read", "()LNotAtOnce$Book;"⟩
def dkwX4_read_4 : List UInt8 := [42, 180, 0, 12, 176]
abbrev dktX4_read_4 : List UInt8 := dkwX4_read_4 ++ []
def dkwX4_read_3 : List UInt8 := [180, 0, 12, 42, 180, 0, 25, 182, 0, 85, 181, 0, 132, 42, 182, 0, 46, 153, 0, 7, 1, 167, 0, 7]
abbrev dktX4_read_3 : List UInt8 := dkwX4_read_3 ++ dktX4_read_4
def dkwX4_read_2 : List UInt8 := [153, 0, 9, 42, 16, 6, 182, 0, 70, 42, 180, 0, 12, 42, 180, 0, 21, 182, 0, 85, 181, 0, 130, 42]
abbrev dktX4_read_2 : List UInt8 := dkwX4_read_2 ++ dktX4_read_3
def dkwX4_read_1 : List UInt8 := [42, 4, 182, 0, 70, 42, 180, 0, 12, 180, 0, 124, 153, 0, 13, 42, 180, 0, 21, 182, 0, 127]
abbrev dktX4_read_1 : List UInt8 := dkwX4_read_1 ++ dktX4_read_2
def dkwX4_read_0 : List UInt8 := [42, 182, 0, 118, 42, 16, 59, 182, 0, 121, 154, 255, 246, 42, 180, 0, 38, 180, 0, 56, 4, 159, 0, 8]
abbrev dktX4_read_0 : List UInt8 := dkwX4_read_0 ++ dktX4_read_1
theorem dksX4_read_0 : cX4_read.data.toList.drop 0 = dktX4_read_0 := by decide +kernel
theorem dksX4_read_1 : cX4_read.data.toList.drop 24 = dktX4_read_1 := dk_seg dksX4_read_0 24 rfl rfl
theorem dksX4_read_2 : cX4_read.data.toList.drop 46 = dktX4_read_2 := dk_seg dksX4_read_1 22 rfl rfl
theorem dksX4_read_3 : cX4_read.data.toList.drop 70 = dktX4_read_3 := dk_seg dksX4_read_2 24 rfl rfl
theorem dksX4_read_4 : cX4_read.data.toList.drop 94 = dktX4_read_4 := dk_seg dksX4_read_3 24 rfl rfl
theorem dX4_read_0 : decode cX4_read 0 = .ok (.aload_n 0, 1) := dk_42 (dk_at dksX4_read_0 0 rfl rfl)
theorem dX4_read_1 : decode cX4_read 1 = .ok (.invokevirtual 118, 3) := dk_182 0 118 (dk_at dksX4_read_0 1 rfl rfl)
theorem dX4_read_4 : decode cX4_read 4 = .ok (.aload_n 0, 1) := dk_42 (dk_at dksX4_read_0 4 rfl rfl)
theorem dX4_read_5 : decode cX4_read 5 = .ok (.bipush 59, 2) := dk_16 59 (dk_at dksX4_read_0 5 rfl rfl)
theorem dX4_read_7 : decode cX4_read 7 = .ok (.invokevirtual 121, 3) := dk_182 0 121 (dk_at dksX4_read_0 7 rfl rfl)
theorem dX4_read_10 : decode cX4_read 10 = .ok (.ifCond .ne (-10), 3) := dk_154 255 246 (dk_at dksX4_read_0 10 rfl rfl)
theorem dX4_read_13 : decode cX4_read 13 = .ok (.aload_n 0, 1) := dk_42 (dk_at dksX4_read_0 13 rfl rfl)
theorem dX4_read_14 : decode cX4_read 14 = .ok (.getfield 38, 3) := dk_180 0 38 (dk_at dksX4_read_0 14 rfl rfl)
theorem dX4_read_17 : decode cX4_read 17 = .ok (.getfield 56, 3) := dk_180 0 56 (dk_at dksX4_read_0 17 rfl rfl)
theorem dX4_read_20 : decode cX4_read 20 = .ok (.iconst 1, 1) := dk_4 (dk_at dksX4_read_0 20 rfl rfl)
theorem dX4_read_21 : decode cX4_read 21 = .ok (.if_icmp .eq 8, 3) := dk_159 0 8 (dk_at dksX4_read_0 21 rfl rfl)
theorem dX4_read_24 : decode cX4_read 24 = .ok (.aload_n 0, 1) := dk_42 (dk_at dksX4_read_1 0 rfl rfl)
theorem dX4_read_25 : decode cX4_read 25 = .ok (.iconst 1, 1) := dk_4 (dk_at dksX4_read_1 1 rfl rfl)
theorem dX4_read_26 : decode cX4_read 26 = .ok (.invokevirtual 70, 3) := dk_182 0 70 (dk_at dksX4_read_1 2 rfl rfl)
theorem dX4_read_29 : decode cX4_read 29 = .ok (.aload_n 0, 1) := dk_42 (dk_at dksX4_read_1 5 rfl rfl)
theorem dX4_read_30 : decode cX4_read 30 = .ok (.getfield 12, 3) := dk_180 0 12 (dk_at dksX4_read_1 6 rfl rfl)
theorem dX4_read_33 : decode cX4_read 33 = .ok (.getfield 124, 3) := dk_180 0 124 (dk_at dksX4_read_1 9 rfl rfl)
theorem dX4_read_36 : decode cX4_read 36 = .ok (.ifCond .eq 13, 3) := dk_153 0 13 (dk_at dksX4_read_1 12 rfl rfl)
theorem dX4_read_39 : decode cX4_read 39 = .ok (.aload_n 0, 1) := dk_42 (dk_at dksX4_read_1 15 rfl rfl)
theorem dX4_read_40 : decode cX4_read 40 = .ok (.getfield 21, 3) := dk_180 0 21 (dk_at dksX4_read_1 16 rfl rfl)
theorem dX4_read_43 : decode cX4_read 43 = .ok (.invokevirtual 127, 3) := dk_182 0 127 (dk_at dksX4_read_1 19 rfl rfl)
theorem dX4_read_46 : decode cX4_read 46 = .ok (.ifCond .eq 9, 3) := dk_153 0 9 (dk_at dksX4_read_2 0 rfl rfl)
theorem dX4_read_49 : decode cX4_read 49 = .ok (.aload_n 0, 1) := dk_42 (dk_at dksX4_read_2 3 rfl rfl)
theorem dX4_read_50 : decode cX4_read 50 = .ok (.bipush 6, 2) := dk_16 6 (dk_at dksX4_read_2 4 rfl rfl)
theorem dX4_read_52 : decode cX4_read 52 = .ok (.invokevirtual 70, 3) := dk_182 0 70 (dk_at dksX4_read_2 6 rfl rfl)
theorem dX4_read_55 : decode cX4_read 55 = .ok (.aload_n 0, 1) := dk_42 (dk_at dksX4_read_2 9 rfl rfl)
theorem dX4_read_56 : decode cX4_read 56 = .ok (.getfield 12, 3) := dk_180 0 12 (dk_at dksX4_read_2 10 rfl rfl)
theorem dX4_read_59 : decode cX4_read 59 = .ok (.aload_n 0, 1) := dk_42 (dk_at dksX4_read_2 13 rfl rfl)
theorem dX4_read_60 : decode cX4_read 60 = .ok (.getfield 21, 3) := dk_180 0 21 (dk_at dksX4_read_2 14 rfl rfl)
theorem dX4_read_63 : decode cX4_read 63 = .ok (.invokevirtual 85, 3) := dk_182 0 85 (dk_at dksX4_read_2 17 rfl rfl)
theorem dX4_read_66 : decode cX4_read 66 = .ok (.putfield 130, 3) := dk_181 0 130 (dk_at dksX4_read_2 20 rfl rfl)
theorem dX4_read_69 : decode cX4_read 69 = .ok (.aload_n 0, 1) := dk_42 (dk_at dksX4_read_2 23 rfl rfl)
theorem dX4_read_70 : decode cX4_read 70 = .ok (.getfield 12, 3) := dk_180 0 12 (dk_at dksX4_read_3 0 rfl rfl)
theorem dX4_read_73 : decode cX4_read 73 = .ok (.aload_n 0, 1) := dk_42 (dk_at dksX4_read_3 3 rfl rfl)
theorem dX4_read_74 : decode cX4_read 74 = .ok (.getfield 25, 3) := dk_180 0 25 (dk_at dksX4_read_3 4 rfl rfl)
theorem dX4_read_77 : decode cX4_read 77 = .ok (.invokevirtual 85, 3) := dk_182 0 85 (dk_at dksX4_read_3 7 rfl rfl)
theorem dX4_read_80 : decode cX4_read 80 = .ok (.putfield 132, 3) := dk_181 0 132 (dk_at dksX4_read_3 10 rfl rfl)
theorem dX4_read_83 : decode cX4_read 83 = .ok (.aload_n 0, 1) := dk_42 (dk_at dksX4_read_3 13 rfl rfl)
theorem dX4_read_84 : decode cX4_read 84 = .ok (.invokevirtual 46, 3) := dk_182 0 46 (dk_at dksX4_read_3 14 rfl rfl)
theorem dX4_read_87 : decode cX4_read 87 = .ok (.ifCond .eq 7, 3) := dk_153 0 7 (dk_at dksX4_read_3 17 rfl rfl)
theorem dX4_read_90 : decode cX4_read 90 = .ok (.aconst_null, 1) := dk_1 (dk_at dksX4_read_3 20 rfl rfl)
theorem dX4_read_91 : decode cX4_read 91 = .ok (.goto 7, 3) := dk_167 0 7 (dk_at dksX4_read_3 21 rfl rfl)
theorem dX4_read_94 : decode cX4_read 94 = .ok (.aload_n 0, 1) := dk_42 (dk_at dksX4_read_4 0 rfl rfl)
theorem dX4_read_95 : decode cX4_read 95 = .ok (.getfield 12, 3) := dk_180 0 12 (dk_at dksX4_read_4 1 rfl rfl)
theorem dX4_read_98 : decode cX4_read 98 = .ok (.areturn, 1) := dk_176 (dk_at dksX4_read_4 4 rfl rfl)
abbrev cX4_line : ByteArray := prog_10_method_14_code
def yX4_line : MethodName := ⟨RX4, "line", "()V"⟩
def dkwX4_line_11 : List UInt8 := [167, 0, 22, 42, 182, 0, 163, 167, 0, 15, 42, 182, 0, 165, 167, 0, 8, 42, 4, 182, 0, 70, 177]
abbrev dktX4_line_11 : List UInt8 := dkwX4_line_11 ++ []
def dkwX4_line_10 : List UInt8 := [180, 0, 25, 16, 9, 182, 0, 154, 167, 0, 36, 42, 182, 0, 158, 167, 0, 29, 42, 182, 0, 160]
abbrev dktX4_line_10 : List UInt8 := dkwX4_line_10 ++ dktX4_line_11
def dkwX4_line_9 : List UInt8 := [42, 182, 0, 152, 167, 0, 62, 42, 42, 180, 0, 21, 16, 6, 182, 0, 154, 167, 0, 49, 42, 42]
abbrev dktX4_line_9 : List UInt8 := dkwX4_line_9 ++ dktX4_line_10
def dkwX4_line_8 : List UInt8 := [170, 0, 0, 0, 0, 0, 104, 0, 0, 0, 0, 0, 0, 0, 6, 0, 0, 0, 43, 0, 0, 0, 50, 0, 0, 0, 63, 0, 0, 0, 76, 0, 0, 0, 83, 0, 0, 0, 90, 0, 0, 0, 97]
abbrev dktX4_line_8 : List UInt8 := dkwX4_line_8 ++ dktX4_line_9
def dkwX4_line_7 : List UInt8 := [61, 28]
abbrev dktX4_line_7 : List UInt8 := dkwX4_line_7 ++ dktX4_line_8
def dkwX4_line_6 : List UInt8 := [18, 148, 182, 0, 95, 153, 0, 20, 8, 61, 167, 0, 15, 43, 18, 150, 182, 0, 95, 153, 0, 6, 16, 6]
abbrev dktX4_line_6 : List UInt8 := dkwX4_line_6 ++ dktX4_line_7
def dkwX4_line_5 : List UInt8 := [153, 0, 48, 6, 61, 167, 0, 43, 43, 18, 147, 182, 0, 95, 153, 0, 34, 7, 61, 167, 0, 29, 43]
abbrev dktX4_line_5 : List UInt8 := dkwX4_line_5 ++ dktX4_line_6
def dkwX4_line_4 : List UInt8 := [61, 167, 0, 71, 43, 18, 143, 182, 0, 95, 153, 0, 62, 5, 61, 167, 0, 57, 43, 18, 145, 182, 0, 95]
abbrev dktX4_line_4 : List UInt8 := dkwX4_line_4 ++ dktX4_line_5
def dkwX4_line_3 : List UInt8 := [43, 18, 139, 182, 0, 95, 153, 0, 90, 3, 61, 167, 0, 85, 43, 18, 141, 182, 0, 95, 153, 0, 76, 4]
abbrev dktX4_line_3 : List UInt8 := dkwX4_line_3 ++ dktX4_line_4
def dkwX4_line_2 : List UInt8 := [171, 0, 0, 0, 0, 162, 0, 0, 0, 7, 0, 1, 161, 162, 0, 0, 0, 66, 0, 1, 184, 42, 0, 0, 0, 136, 0, 1, 186, 139, 0, 0, 0, 150, 0, 1, 188, 98, 0, 0, 0, 108, 0, 50, 175, 244, 0, 0, 0, 122, 0, 50, 198, 159, 0, 0, 0, 80, 6, 94, 85, 144, 0, 0, 0, 94]
abbrev dktX4_line_2 : List UInt8 := dkwX4_line_2 ++ dktX4_line_3
def dkwX4_line_1 : List UInt8 := [2, 61, 43, 182, 0, 136]
abbrev dktX4_line_1 : List UInt8 := dkwX4_line_1 ++ dktX4_line_2
def dkwX4_line_0 : List UInt8 := [42, 180, 0, 38, 180, 0, 56, 5, 160, 0, 13, 42, 180, 0, 38, 180, 0, 102, 167, 0, 5, 18, 134, 76]
abbrev dktX4_line_0 : List UInt8 := dkwX4_line_0 ++ dktX4_line_1
theorem dksX4_line_0 : cX4_line.data.toList.drop 0 = dktX4_line_0 := by decide +kernel
theorem dksX4_line_1 : cX4_line.data.toList.drop 24 = dktX4_line_1 := dk_seg dksX4_line_0 24 rfl rfl
theorem dksX4_line_2 : cX4_line.data.toList.drop 30 = dktX4_line_2 := dk_seg dksX4_line_1 6 rfl rfl
theorem dksX4_line_3 : cX4_line.data.toList.drop 96 = dktX4_line_3 := dk_seg dksX4_line_2 66 rfl rfl
theorem dksX4_line_4 : cX4_line.data.toList.drop 120 = dktX4_line_4 := dk_seg dksX4_line_3 24 rfl rfl
theorem dksX4_line_5 : cX4_line.data.toList.drop 144 = dktX4_line_5 := dk_seg dksX4_line_4 24 rfl rfl
theorem dksX4_line_6 : cX4_line.data.toList.drop 167 = dktX4_line_6 := dk_seg dksX4_line_5 23 rfl rfl
theorem dksX4_line_7 : cX4_line.data.toList.drop 191 = dktX4_line_7 := dk_seg dksX4_line_6 24 rfl rfl
theorem dksX4_line_8 : cX4_line.data.toList.drop 193 = dktX4_line_8 := dk_seg dksX4_line_7 2 rfl rfl
theorem dksX4_line_9 : cX4_line.data.toList.drop 236 = dktX4_line_9 := dk_seg dksX4_line_8 43 rfl rfl
theorem dksX4_line_10 : cX4_line.data.toList.drop 258 = dktX4_line_10 := dk_seg dksX4_line_9 22 rfl rfl
theorem dksX4_line_11 : cX4_line.data.toList.drop 280 = dktX4_line_11 := dk_seg dksX4_line_10 22 rfl rfl
theorem dX4_line_0 : decode cX4_line 0 = .ok (.aload_n 0, 1) := dk_42 (dk_at dksX4_line_0 0 rfl rfl)
theorem dX4_line_1 : decode cX4_line 1 = .ok (.getfield 38, 3) := dk_180 0 38 (dk_at dksX4_line_0 1 rfl rfl)
theorem dX4_line_4 : decode cX4_line 4 = .ok (.getfield 56, 3) := dk_180 0 56 (dk_at dksX4_line_0 4 rfl rfl)
theorem dX4_line_7 : decode cX4_line 7 = .ok (.iconst 2, 1) := dk_5 (dk_at dksX4_line_0 7 rfl rfl)
theorem dX4_line_8 : decode cX4_line 8 = .ok (.if_icmp .ne 13, 3) := dk_160 0 13 (dk_at dksX4_line_0 8 rfl rfl)
theorem dX4_line_11 : decode cX4_line 11 = .ok (.aload_n 0, 1) := dk_42 (dk_at dksX4_line_0 11 rfl rfl)
theorem dX4_line_12 : decode cX4_line 12 = .ok (.getfield 38, 3) := dk_180 0 38 (dk_at dksX4_line_0 12 rfl rfl)
theorem dX4_line_15 : decode cX4_line 15 = .ok (.getfield 102, 3) := dk_180 0 102 (dk_at dksX4_line_0 15 rfl rfl)
theorem dX4_line_18 : decode cX4_line 18 = .ok (.goto 5, 3) := dk_167 0 5 (dk_at dksX4_line_0 18 rfl rfl)
theorem dX4_line_21 : decode cX4_line 21 = .ok (.ldc 134, 2) := dk_18 134 (dk_at dksX4_line_0 21 rfl rfl)
theorem dX4_line_23 : decode cX4_line 23 = .ok (.astore_n 1, 1) := dk_76 (dk_at dksX4_line_0 23 rfl rfl)
theorem dX4_line_24 : decode cX4_line 24 = .ok (.iconst (-1), 1) := dk_2 (dk_at dksX4_line_1 0 rfl rfl)
theorem dX4_line_25 : decode cX4_line 25 = .ok (.istore_n 2, 1) := dk_61 (dk_at dksX4_line_1 1 rfl rfl)
theorem dX4_line_26 : decode cX4_line 26 = .ok (.aload_n 1, 1) := dk_43 (dk_at dksX4_line_1 2 rfl rfl)
theorem dX4_line_27 : decode cX4_line 27 = .ok (.invokevirtual 136, 3) := dk_182 0 136 (dk_at dksX4_line_1 3 rfl rfl)
theorem dX4_line_30 : decode cX4_line 30 = .ok (.lookupswitch 162 #[(106914, 66), (112682, 136), (113291, 150), (113762, 108), (3321844, 122), (3327647, 80), (106845584, 94)], 66) := by decide +kernel
theorem dX4_line_96 : decode cX4_line 96 = .ok (.aload_n 1, 1) := dk_43 (dk_at dksX4_line_3 0 rfl rfl)
theorem dX4_line_97 : decode cX4_line 97 = .ok (.ldc 139, 2) := dk_18 139 (dk_at dksX4_line_3 1 rfl rfl)
theorem dX4_line_99 : decode cX4_line 99 = .ok (.invokevirtual 95, 3) := dk_182 0 95 (dk_at dksX4_line_3 3 rfl rfl)
theorem dX4_line_102 : decode cX4_line 102 = .ok (.ifCond .eq 90, 3) := dk_153 0 90 (dk_at dksX4_line_3 6 rfl rfl)
theorem dX4_line_105 : decode cX4_line 105 = .ok (.iconst 0, 1) := dk_3 (dk_at dksX4_line_3 9 rfl rfl)
theorem dX4_line_106 : decode cX4_line 106 = .ok (.istore_n 2, 1) := dk_61 (dk_at dksX4_line_3 10 rfl rfl)
theorem dX4_line_107 : decode cX4_line 107 = .ok (.goto 85, 3) := dk_167 0 85 (dk_at dksX4_line_3 11 rfl rfl)
theorem dX4_line_110 : decode cX4_line 110 = .ok (.aload_n 1, 1) := dk_43 (dk_at dksX4_line_3 14 rfl rfl)
theorem dX4_line_111 : decode cX4_line 111 = .ok (.ldc 141, 2) := dk_18 141 (dk_at dksX4_line_3 15 rfl rfl)
theorem dX4_line_113 : decode cX4_line 113 = .ok (.invokevirtual 95, 3) := dk_182 0 95 (dk_at dksX4_line_3 17 rfl rfl)
theorem dX4_line_116 : decode cX4_line 116 = .ok (.ifCond .eq 76, 3) := dk_153 0 76 (dk_at dksX4_line_3 20 rfl rfl)
theorem dX4_line_119 : decode cX4_line 119 = .ok (.iconst 1, 1) := dk_4 (dk_at dksX4_line_3 23 rfl rfl)
theorem dX4_line_120 : decode cX4_line 120 = .ok (.istore_n 2, 1) := dk_61 (dk_at dksX4_line_4 0 rfl rfl)
theorem dX4_line_121 : decode cX4_line 121 = .ok (.goto 71, 3) := dk_167 0 71 (dk_at dksX4_line_4 1 rfl rfl)
theorem dX4_line_124 : decode cX4_line 124 = .ok (.aload_n 1, 1) := dk_43 (dk_at dksX4_line_4 4 rfl rfl)
theorem dX4_line_125 : decode cX4_line 125 = .ok (.ldc 143, 2) := dk_18 143 (dk_at dksX4_line_4 5 rfl rfl)
theorem dX4_line_127 : decode cX4_line 127 = .ok (.invokevirtual 95, 3) := dk_182 0 95 (dk_at dksX4_line_4 7 rfl rfl)
theorem dX4_line_130 : decode cX4_line 130 = .ok (.ifCond .eq 62, 3) := dk_153 0 62 (dk_at dksX4_line_4 10 rfl rfl)
theorem dX4_line_133 : decode cX4_line 133 = .ok (.iconst 2, 1) := dk_5 (dk_at dksX4_line_4 13 rfl rfl)
theorem dX4_line_134 : decode cX4_line 134 = .ok (.istore_n 2, 1) := dk_61 (dk_at dksX4_line_4 14 rfl rfl)
theorem dX4_line_135 : decode cX4_line 135 = .ok (.goto 57, 3) := dk_167 0 57 (dk_at dksX4_line_4 15 rfl rfl)
theorem dX4_line_138 : decode cX4_line 138 = .ok (.aload_n 1, 1) := dk_43 (dk_at dksX4_line_4 18 rfl rfl)
theorem dX4_line_139 : decode cX4_line 139 = .ok (.ldc 145, 2) := dk_18 145 (dk_at dksX4_line_4 19 rfl rfl)
theorem dX4_line_141 : decode cX4_line 141 = .ok (.invokevirtual 95, 3) := dk_182 0 95 (dk_at dksX4_line_4 21 rfl rfl)
theorem dX4_line_144 : decode cX4_line 144 = .ok (.ifCond .eq 48, 3) := dk_153 0 48 (dk_at dksX4_line_5 0 rfl rfl)
theorem dX4_line_147 : decode cX4_line 147 = .ok (.iconst 3, 1) := dk_6 (dk_at dksX4_line_5 3 rfl rfl)
theorem dX4_line_148 : decode cX4_line 148 = .ok (.istore_n 2, 1) := dk_61 (dk_at dksX4_line_5 4 rfl rfl)
theorem dX4_line_149 : decode cX4_line 149 = .ok (.goto 43, 3) := dk_167 0 43 (dk_at dksX4_line_5 5 rfl rfl)
theorem dX4_line_152 : decode cX4_line 152 = .ok (.aload_n 1, 1) := dk_43 (dk_at dksX4_line_5 8 rfl rfl)
theorem dX4_line_153 : decode cX4_line 153 = .ok (.ldc 147, 2) := dk_18 147 (dk_at dksX4_line_5 9 rfl rfl)
theorem dX4_line_155 : decode cX4_line 155 = .ok (.invokevirtual 95, 3) := dk_182 0 95 (dk_at dksX4_line_5 11 rfl rfl)
theorem dX4_line_158 : decode cX4_line 158 = .ok (.ifCond .eq 34, 3) := dk_153 0 34 (dk_at dksX4_line_5 14 rfl rfl)
theorem dX4_line_161 : decode cX4_line 161 = .ok (.iconst 4, 1) := dk_7 (dk_at dksX4_line_5 17 rfl rfl)
theorem dX4_line_162 : decode cX4_line 162 = .ok (.istore_n 2, 1) := dk_61 (dk_at dksX4_line_5 18 rfl rfl)
theorem dX4_line_163 : decode cX4_line 163 = .ok (.goto 29, 3) := dk_167 0 29 (dk_at dksX4_line_5 19 rfl rfl)
theorem dX4_line_166 : decode cX4_line 166 = .ok (.aload_n 1, 1) := dk_43 (dk_at dksX4_line_5 22 rfl rfl)
theorem dX4_line_167 : decode cX4_line 167 = .ok (.ldc 148, 2) := dk_18 148 (dk_at dksX4_line_6 0 rfl rfl)
theorem dX4_line_169 : decode cX4_line 169 = .ok (.invokevirtual 95, 3) := dk_182 0 95 (dk_at dksX4_line_6 2 rfl rfl)
theorem dX4_line_172 : decode cX4_line 172 = .ok (.ifCond .eq 20, 3) := dk_153 0 20 (dk_at dksX4_line_6 5 rfl rfl)
theorem dX4_line_175 : decode cX4_line 175 = .ok (.iconst 5, 1) := dk_8 (dk_at dksX4_line_6 8 rfl rfl)
theorem dX4_line_176 : decode cX4_line 176 = .ok (.istore_n 2, 1) := dk_61 (dk_at dksX4_line_6 9 rfl rfl)
theorem dX4_line_177 : decode cX4_line 177 = .ok (.goto 15, 3) := dk_167 0 15 (dk_at dksX4_line_6 10 rfl rfl)
theorem dX4_line_180 : decode cX4_line 180 = .ok (.aload_n 1, 1) := dk_43 (dk_at dksX4_line_6 13 rfl rfl)
theorem dX4_line_181 : decode cX4_line 181 = .ok (.ldc 150, 2) := dk_18 150 (dk_at dksX4_line_6 14 rfl rfl)
theorem dX4_line_183 : decode cX4_line 183 = .ok (.invokevirtual 95, 3) := dk_182 0 95 (dk_at dksX4_line_6 16 rfl rfl)
theorem dX4_line_186 : decode cX4_line 186 = .ok (.ifCond .eq 6, 3) := dk_153 0 6 (dk_at dksX4_line_6 19 rfl rfl)
theorem dX4_line_189 : decode cX4_line 189 = .ok (.bipush 6, 2) := dk_16 6 (dk_at dksX4_line_6 22 rfl rfl)
theorem dX4_line_191 : decode cX4_line 191 = .ok (.istore_n 2, 1) := dk_61 (dk_at dksX4_line_7 0 rfl rfl)
theorem dX4_line_192 : decode cX4_line 192 = .ok (.iload_n 2, 1) := dk_28 (dk_at dksX4_line_7 1 rfl rfl)
theorem dX4_line_193 : decode cX4_line 193 = .ok (.tableswitch 104 0 6 #[43, 50, 63, 76, 83, 90, 97], 43) := by decide +kernel
theorem dX4_line_236 : decode cX4_line 236 = .ok (.aload_n 0, 1) := dk_42 (dk_at dksX4_line_9 0 rfl rfl)
theorem dX4_line_237 : decode cX4_line 237 = .ok (.invokevirtual 152, 3) := dk_182 0 152 (dk_at dksX4_line_9 1 rfl rfl)
theorem dX4_line_240 : decode cX4_line 240 = .ok (.goto 62, 3) := dk_167 0 62 (dk_at dksX4_line_9 4 rfl rfl)
theorem dX4_line_243 : decode cX4_line 243 = .ok (.aload_n 0, 1) := dk_42 (dk_at dksX4_line_9 7 rfl rfl)
theorem dX4_line_244 : decode cX4_line 244 = .ok (.aload_n 0, 1) := dk_42 (dk_at dksX4_line_9 8 rfl rfl)
theorem dX4_line_245 : decode cX4_line 245 = .ok (.getfield 21, 3) := dk_180 0 21 (dk_at dksX4_line_9 9 rfl rfl)
theorem dX4_line_248 : decode cX4_line 248 = .ok (.bipush 6, 2) := dk_16 6 (dk_at dksX4_line_9 12 rfl rfl)
theorem dX4_line_250 : decode cX4_line 250 = .ok (.invokevirtual 154, 3) := dk_182 0 154 (dk_at dksX4_line_9 14 rfl rfl)
theorem dX4_line_253 : decode cX4_line 253 = .ok (.goto 49, 3) := dk_167 0 49 (dk_at dksX4_line_9 17 rfl rfl)
theorem dX4_line_256 : decode cX4_line 256 = .ok (.aload_n 0, 1) := dk_42 (dk_at dksX4_line_9 20 rfl rfl)
theorem dX4_line_257 : decode cX4_line 257 = .ok (.aload_n 0, 1) := dk_42 (dk_at dksX4_line_9 21 rfl rfl)
theorem dX4_line_258 : decode cX4_line 258 = .ok (.getfield 25, 3) := dk_180 0 25 (dk_at dksX4_line_10 0 rfl rfl)
theorem dX4_line_261 : decode cX4_line 261 = .ok (.bipush 9, 2) := dk_16 9 (dk_at dksX4_line_10 3 rfl rfl)
theorem dX4_line_263 : decode cX4_line 263 = .ok (.invokevirtual 154, 3) := dk_182 0 154 (dk_at dksX4_line_10 5 rfl rfl)
theorem dX4_line_266 : decode cX4_line 266 = .ok (.goto 36, 3) := dk_167 0 36 (dk_at dksX4_line_10 8 rfl rfl)
theorem dX4_line_269 : decode cX4_line 269 = .ok (.aload_n 0, 1) := dk_42 (dk_at dksX4_line_10 11 rfl rfl)
theorem dX4_line_270 : decode cX4_line 270 = .ok (.invokevirtual 158, 3) := dk_182 0 158 (dk_at dksX4_line_10 12 rfl rfl)
theorem dX4_line_273 : decode cX4_line 273 = .ok (.goto 29, 3) := dk_167 0 29 (dk_at dksX4_line_10 15 rfl rfl)
theorem dX4_line_276 : decode cX4_line 276 = .ok (.aload_n 0, 1) := dk_42 (dk_at dksX4_line_10 18 rfl rfl)
theorem dX4_line_277 : decode cX4_line 277 = .ok (.invokevirtual 160, 3) := dk_182 0 160 (dk_at dksX4_line_10 19 rfl rfl)
theorem dX4_line_280 : decode cX4_line 280 = .ok (.goto 22, 3) := dk_167 0 22 (dk_at dksX4_line_11 0 rfl rfl)
theorem dX4_line_283 : decode cX4_line 283 = .ok (.aload_n 0, 1) := dk_42 (dk_at dksX4_line_11 3 rfl rfl)
theorem dX4_line_284 : decode cX4_line 284 = .ok (.invokevirtual 163, 3) := dk_182 0 163 (dk_at dksX4_line_11 4 rfl rfl)
theorem dX4_line_287 : decode cX4_line 287 = .ok (.goto 15, 3) := dk_167 0 15 (dk_at dksX4_line_11 7 rfl rfl)
theorem dX4_line_290 : decode cX4_line 290 = .ok (.aload_n 0, 1) := dk_42 (dk_at dksX4_line_11 10 rfl rfl)
theorem dX4_line_291 : decode cX4_line 291 = .ok (.invokevirtual 165, 3) := dk_182 0 165 (dk_at dksX4_line_11 11 rfl rfl)
theorem dX4_line_294 : decode cX4_line 294 = .ok (.goto 8, 3) := dk_167 0 8 (dk_at dksX4_line_11 14 rfl rfl)
theorem dX4_line_297 : decode cX4_line 297 = .ok (.aload_n 0, 1) := dk_42 (dk_at dksX4_line_11 17 rfl rfl)
theorem dX4_line_298 : decode cX4_line 298 = .ok (.iconst 1, 1) := dk_4 (dk_at dksX4_line_11 18 rfl rfl)
theorem dX4_line_299 : decode cX4_line 299 = .ok (.invokevirtual 70, 3) := dk_182 0 70 (dk_at dksX4_line_11 19 rfl rfl)
theorem dX4_line_302 : decode cX4_line 302 = .ok (.return_, 1) := dk_177 (dk_at dksX4_line_11 22 rfl rfl)
abbrev cX4_law : ByteArray := prog_10_method_15_code
def yX4_law : MethodName := ⟨RX4, "law", "()V"⟩
def dkwX4_law_2 : List UInt8 := [181, 0, 124, 177]
abbrev dktX4_law_2 : List UInt8 := dkwX4_law_2 ++ []
def dkwX4_law_1 : List UInt8 := [182, 0, 168, 42, 4, 16, 60, 182, 0, 172, 60, 42, 182, 0, 46, 154, 0, 11, 42, 180, 0, 12, 27]
abbrev dktX4_law_1 : List UInt8 := dkwX4_law_1 ++ dktX4_law_2
def dkwX4_law_0 : List UInt8 := [42, 180, 0, 12, 180, 0, 124, 158, 0, 8, 42, 6, 182, 0, 70, 42, 182, 0, 63, 42, 18, 167]
abbrev dktX4_law_0 : List UInt8 := dkwX4_law_0 ++ dktX4_law_1
theorem dksX4_law_0 : cX4_law.data.toList.drop 0 = dktX4_law_0 := by decide +kernel
theorem dksX4_law_1 : cX4_law.data.toList.drop 22 = dktX4_law_1 := dk_seg dksX4_law_0 22 rfl rfl
theorem dksX4_law_2 : cX4_law.data.toList.drop 45 = dktX4_law_2 := dk_seg dksX4_law_1 23 rfl rfl
theorem dX4_law_0 : decode cX4_law 0 = .ok (.aload_n 0, 1) := dk_42 (dk_at dksX4_law_0 0 rfl rfl)
theorem dX4_law_1 : decode cX4_law 1 = .ok (.getfield 12, 3) := dk_180 0 12 (dk_at dksX4_law_0 1 rfl rfl)
theorem dX4_law_4 : decode cX4_law 4 = .ok (.getfield 124, 3) := dk_180 0 124 (dk_at dksX4_law_0 4 rfl rfl)
theorem dX4_law_7 : decode cX4_law 7 = .ok (.ifCond .le 8, 3) := dk_158 0 8 (dk_at dksX4_law_0 7 rfl rfl)
theorem dX4_law_10 : decode cX4_law 10 = .ok (.aload_n 0, 1) := dk_42 (dk_at dksX4_law_0 10 rfl rfl)
theorem dX4_law_11 : decode cX4_law 11 = .ok (.iconst 3, 1) := dk_6 (dk_at dksX4_law_0 11 rfl rfl)
theorem dX4_law_12 : decode cX4_law 12 = .ok (.invokevirtual 70, 3) := dk_182 0 70 (dk_at dksX4_law_0 12 rfl rfl)
theorem dX4_law_15 : decode cX4_law 15 = .ok (.aload_n 0, 1) := dk_42 (dk_at dksX4_law_0 15 rfl rfl)
theorem dX4_law_16 : decode cX4_law 16 = .ok (.invokevirtual 63, 3) := dk_182 0 63 (dk_at dksX4_law_0 16 rfl rfl)
theorem dX4_law_19 : decode cX4_law 19 = .ok (.aload_n 0, 1) := dk_42 (dk_at dksX4_law_0 19 rfl rfl)
theorem dX4_law_20 : decode cX4_law 20 = .ok (.ldc 167, 2) := dk_18 167 (dk_at dksX4_law_0 20 rfl rfl)
theorem dX4_law_22 : decode cX4_law 22 = .ok (.invokevirtual 168, 3) := dk_182 0 168 (dk_at dksX4_law_1 0 rfl rfl)
theorem dX4_law_25 : decode cX4_law 25 = .ok (.aload_n 0, 1) := dk_42 (dk_at dksX4_law_1 3 rfl rfl)
theorem dX4_law_26 : decode cX4_law 26 = .ok (.iconst 1, 1) := dk_4 (dk_at dksX4_law_1 4 rfl rfl)
theorem dX4_law_27 : decode cX4_law 27 = .ok (.bipush 60, 2) := dk_16 60 (dk_at dksX4_law_1 5 rfl rfl)
theorem dX4_law_29 : decode cX4_law 29 = .ok (.invokevirtual 172, 3) := dk_182 0 172 (dk_at dksX4_law_1 7 rfl rfl)
theorem dX4_law_32 : decode cX4_law 32 = .ok (.istore_n 1, 1) := dk_60 (dk_at dksX4_law_1 10 rfl rfl)
theorem dX4_law_33 : decode cX4_law 33 = .ok (.aload_n 0, 1) := dk_42 (dk_at dksX4_law_1 11 rfl rfl)
theorem dX4_law_34 : decode cX4_law 34 = .ok (.invokevirtual 46, 3) := dk_182 0 46 (dk_at dksX4_law_1 12 rfl rfl)
theorem dX4_law_37 : decode cX4_law 37 = .ok (.ifCond .ne 11, 3) := dk_154 0 11 (dk_at dksX4_law_1 15 rfl rfl)
theorem dX4_law_40 : decode cX4_law 40 = .ok (.aload_n 0, 1) := dk_42 (dk_at dksX4_law_1 18 rfl rfl)
theorem dX4_law_41 : decode cX4_law 41 = .ok (.getfield 12, 3) := dk_180 0 12 (dk_at dksX4_law_1 19 rfl rfl)
theorem dX4_law_44 : decode cX4_law 44 = .ok (.iload_n 1, 1) := dk_27 (dk_at dksX4_law_1 22 rfl rfl)
theorem dX4_law_45 : decode cX4_law 45 = .ok (.putfield 124, 3) := dk_181 0 124 (dk_at dksX4_law_2 0 rfl rfl)
theorem dX4_law_48 : decode cX4_law 48 = .ok (.return_, 1) := dk_177 (dk_at dksX4_law_2 3 rfl rfl)
abbrev cX4_wrong : ByteArray := prog_10_method_3_code
def yX4_wrong : MethodName := ⟨RX4, "wrong", "(I)V"⟩
def dkwX4_wrong_1 : List UInt8 := [177]
abbrev dktX4_wrong_1 : List UInt8 := dkwX4_wrong_1 ++ []
def dkwX4_wrong_0 : List UInt8 := [42, 182, 0, 46, 153, 0, 4, 177, 42, 27, 181, 0, 42, 42, 42, 180, 0, 38, 180, 0, 50, 181, 0, 55]
abbrev dktX4_wrong_0 : List UInt8 := dkwX4_wrong_0 ++ dktX4_wrong_1
theorem dksX4_wrong_0 : cX4_wrong.data.toList.drop 0 = dktX4_wrong_0 := by decide +kernel
theorem dksX4_wrong_1 : cX4_wrong.data.toList.drop 24 = dktX4_wrong_1 := dk_seg dksX4_wrong_0 24 rfl rfl
theorem dX4_wrong_0 : decode cX4_wrong 0 = .ok (.aload_n 0, 1) := dk_42 (dk_at dksX4_wrong_0 0 rfl rfl)
theorem dX4_wrong_1 : decode cX4_wrong 1 = .ok (.invokevirtual 46, 3) := dk_182 0 46 (dk_at dksX4_wrong_0 1 rfl rfl)
theorem dX4_wrong_4 : decode cX4_wrong 4 = .ok (.ifCond .eq 4, 3) := dk_153 0 4 (dk_at dksX4_wrong_0 4 rfl rfl)
theorem dX4_wrong_7 : decode cX4_wrong 7 = .ok (.return_, 1) := dk_177 (dk_at dksX4_wrong_0 7 rfl rfl)
theorem dX4_wrong_8 : decode cX4_wrong 8 = .ok (.aload_n 0, 1) := dk_42 (dk_at dksX4_wrong_0 8 rfl rfl)
theorem dX4_wrong_9 : decode cX4_wrong 9 = .ok (.iload_n 1, 1) := dk_27 (dk_at dksX4_wrong_0 9 rfl rfl)
theorem dX4_wrong_10 : decode cX4_wrong 10 = .ok (.putfield 42, 3) := dk_181 0 42 (dk_at dksX4_wrong_0 10 rfl rfl)
theorem dX4_wrong_13 : decode cX4_wrong 13 = .ok (.aload_n 0, 1) := dk_42 (dk_at dksX4_wrong_0 13 rfl rfl)
theorem dX4_wrong_14 : decode cX4_wrong 14 = .ok (.aload_n 0, 1) := dk_42 (dk_at dksX4_wrong_0 14 rfl rfl)
theorem dX4_wrong_15 : decode cX4_wrong 15 = .ok (.getfield 38, 3) := dk_180 0 38 (dk_at dksX4_wrong_0 15 rfl rfl)
theorem dX4_wrong_18 : decode cX4_wrong 18 = .ok (.getfield 50, 3) := dk_180 0 50 (dk_at dksX4_wrong_0 18 rfl rfl)
theorem dX4_wrong_21 : decode cX4_wrong 21 = .ok (.putfield 55, 3) := dk_181 0 55 (dk_at dksX4_wrong_0 21 rfl rfl)
theorem dX4_wrong_24 : decode cX4_wrong 24 = .ok (.return_, 1) := dk_177 (dk_at dksX4_wrong_1 0 rfl rfl)
abbrev cX4_isOver : ByteArray := prog_10_method_2_code
def yX4_isOver : MethodName := ⟨RX4, "isOve\x72", "()Z"⟩
def dkwX4_isOver_0 : List UInt8 := [42, 180, 0, 42, 158, 0, 7, 4, 167, 0, 4, 3, 172]
abbrev dktX4_isOver_0 : List UInt8 := dkwX4_isOver_0 ++ []
theorem dksX4_isOver_0 : cX4_isOver.data.toList.drop 0 = dktX4_isOver_0 := by decide +kernel
theorem dX4_isOver_0 : decode cX4_isOver 0 = .ok (.aload_n 0, 1) := dk_42 (dk_at dksX4_isOver_0 0 rfl rfl)
theorem dX4_isOver_1 : decode cX4_isOver 1 = .ok (.getfield 42, 3) := dk_180 0 42 (dk_at dksX4_isOver_0 1 rfl rfl)
theorem dX4_isOver_4 : decode cX4_isOver 4 = .ok (.ifCond .le 7, 3) := dk_158 0 7 (dk_at dksX4_isOver_0 4 rfl rfl)
theorem dX4_isOver_7 : decode cX4_isOver 7 = .ok (.iconst 1, 1) := dk_4 (dk_at dksX4_isOver_0 7 rfl rfl)
theorem dX4_isOver_8 : decode cX4_isOver 8 = .ok (.goto 4, 3) := dk_167 0 4 (dk_at dksX4_isOver_0 8 rfl rfl)
theorem dX4_isOver_11 : decode cX4_isOver 11 = .ok (.iconst 0, 1) := dk_3 (dk_at dksX4_isOver_0 11 rfl rfl)
theorem dX4_isOver_12 : decode cX4_isOver 12 = .ok (.ireturn, 1) := dk_172 (dk_at dksX4_isOver_0 12 rfl rfl)
abbrev cX4_on : ByteArray := prog_10_method_4_code
def yX4_on : MethodName := ⟨RX4, "on", "()V"⟩
def dkwX4_on_1 : List UInt8 := [182, 0, 32, 181, 0, 38, 177]
abbrev dktX4_on_1 : List UInt8 := dkwX4_on_1 ++ []
def dkwX4_on_0 : List UInt8 := [42, 182, 0, 46, 154, 0, 25, 42, 180, 0, 38, 180, 0, 56, 4, 159, 0, 14, 42, 42, 180, 0, 28]
abbrev dktX4_on_0 : List UInt8 := dkwX4_on_0 ++ dktX4_on_1
theorem dksX4_on_0 : cX4_on.data.toList.drop 0 = dktX4_on_0 := by decide +kernel
theorem dksX4_on_1 : cX4_on.data.toList.drop 23 = dktX4_on_1 := dk_seg dksX4_on_0 23 rfl rfl
theorem dX4_on_0 : decode cX4_on 0 = .ok (.aload_n 0, 1) := dk_42 (dk_at dksX4_on_0 0 rfl rfl)
theorem dX4_on_1 : decode cX4_on 1 = .ok (.invokevirtual 46, 3) := dk_182 0 46 (dk_at dksX4_on_0 1 rfl rfl)
theorem dX4_on_4 : decode cX4_on 4 = .ok (.ifCond .ne 25, 3) := dk_154 0 25 (dk_at dksX4_on_0 4 rfl rfl)
theorem dX4_on_7 : decode cX4_on 7 = .ok (.aload_n 0, 1) := dk_42 (dk_at dksX4_on_0 7 rfl rfl)
theorem dX4_on_8 : decode cX4_on 8 = .ok (.getfield 38, 3) := dk_180 0 38 (dk_at dksX4_on_0 8 rfl rfl)
theorem dX4_on_11 : decode cX4_on 11 = .ok (.getfield 56, 3) := dk_180 0 56 (dk_at dksX4_on_0 11 rfl rfl)
theorem dX4_on_14 : decode cX4_on 14 = .ok (.iconst 1, 1) := dk_4 (dk_at dksX4_on_0 14 rfl rfl)
theorem dX4_on_15 : decode cX4_on 15 = .ok (.if_icmp .eq 14, 3) := dk_159 0 14 (dk_at dksX4_on_0 15 rfl rfl)
theorem dX4_on_18 : decode cX4_on 18 = .ok (.aload_n 0, 1) := dk_42 (dk_at dksX4_on_0 18 rfl rfl)
theorem dX4_on_19 : decode cX4_on 19 = .ok (.aload_n 0, 1) := dk_42 (dk_at dksX4_on_0 19 rfl rfl)
theorem dX4_on_20 : decode cX4_on 20 = .ok (.getfield 28, 3) := dk_180 0 28 (dk_at dksX4_on_0 20 rfl rfl)
theorem dX4_on_23 : decode cX4_on 23 = .ok (.invokevirtual 32, 3) := dk_182 0 32 (dk_at dksX4_on_1 0 rfl rfl)
theorem dX4_on_26 : decode cX4_on 26 = .ok (.putfield 38, 3) := dk_181 0 38 (dk_at dksX4_on_1 3 rfl rfl)
theorem dX4_on_29 : decode cX4_on 29 = .ok (.return_, 1) := dk_177 (dk_at dksX4_on_1 6 rfl rfl)
abbrev cX4_needs : ByteArray := prog_10_method_6_code
def yX4_needs : MethodName := ⟨RX4, "needs", "(Ljava/lang/String;)V"⟩
def dkwX4_needs_0 : List UInt8 := [42, 180, 0, 38, 43, 182, 0, 66, 154, 0, 8, 42, 4, 182, 0, 70, 42, 182, 0, 63, 177]
abbrev dktX4_needs_0 : List UInt8 := dkwX4_needs_0 ++ []
theorem dksX4_needs_0 : cX4_needs.data.toList.drop 0 = dktX4_needs_0 := by decide +kernel
theorem dX4_needs_0 : decode cX4_needs 0 = .ok (.aload_n 0, 1) := dk_42 (dk_at dksX4_needs_0 0 rfl rfl)
theorem dX4_needs_1 : decode cX4_needs 1 = .ok (.getfield 38, 3) := dk_180 0 38 (dk_at dksX4_needs_0 1 rfl rfl)
theorem dX4_needs_4 : decode cX4_needs 4 = .ok (.aload_n 1, 1) := dk_43 (dk_at dksX4_needs_0 4 rfl rfl)
theorem dX4_needs_5 : decode cX4_needs 5 = .ok (.invokevirtual 66, 3) := dk_182 0 66 (dk_at dksX4_needs_0 5 rfl rfl)
theorem dX4_needs_8 : decode cX4_needs 8 = .ok (.ifCond .ne 8, 3) := dk_154 0 8 (dk_at dksX4_needs_0 8 rfl rfl)
theorem dX4_needs_11 : decode cX4_needs 11 = .ok (.aload_n 0, 1) := dk_42 (dk_at dksX4_needs_0 11 rfl rfl)
theorem dX4_needs_12 : decode cX4_needs 12 = .ok (.iconst 1, 1) := dk_4 (dk_at dksX4_needs_0 12 rfl rfl)
theorem dX4_needs_13 : decode cX4_needs 13 = .ok (.invokevirtual 70, 3) := dk_182 0 70 (dk_at dksX4_needs_0 13 rfl rfl)
theorem dX4_needs_16 : decode cX4_needs 16 = .ok (.aload_n 0, 1) := dk_42 (dk_at dksX4_needs_0 16 rfl rfl)
theorem dX4_needs_17 : decode cX4_needs 17 = .ok (.invokevirtual 63, 3) := dk_182 0 63 (dk_at dksX4_needs_0 17 rfl rfl)
theorem dX4_needs_20 : decode cX4_needs 20 = .ok (.return_, 1) := dk_177 (dk_at dksX4_needs_0 20 rfl rfl)
abbrev cX4_whole : ByteArray := prog_10_method_9_code
def yX4_whole : MethodName := ⟨RX4, "whole", "(II)I"⟩
def dkwX4_whole_0 : List UInt8 := [42, 27, 28, 182, 0, 81, 62, 42, 182, 0, 63, 29, 172]
abbrev dktX4_whole_0 : List UInt8 := dkwX4_whole_0 ++ []
theorem dksX4_whole_0 : cX4_whole.data.toList.drop 0 = dktX4_whole_0 := by decide +kernel
theorem dX4_whole_0 : decode cX4_whole 0 = .ok (.aload_n 0, 1) := dk_42 (dk_at dksX4_whole_0 0 rfl rfl)
theorem dX4_whole_1 : decode cX4_whole 1 = .ok (.iload_n 1, 1) := dk_27 (dk_at dksX4_whole_0 1 rfl rfl)
theorem dX4_whole_2 : decode cX4_whole 2 = .ok (.iload_n 2, 1) := dk_28 (dk_at dksX4_whole_0 2 rfl rfl)
theorem dX4_whole_3 : decode cX4_whole 3 = .ok (.invokevirtual 81, 3) := dk_182 0 81 (dk_at dksX4_whole_0 3 rfl rfl)
theorem dX4_whole_6 : decode cX4_whole 6 = .ok (.istore_n 3, 1) := dk_62 (dk_at dksX4_whole_0 6 rfl rfl)
theorem dX4_whole_7 : decode cX4_whole 7 = .ok (.aload_n 0, 1) := dk_42 (dk_at dksX4_whole_0 7 rfl rfl)
theorem dX4_whole_8 : decode cX4_whole 8 = .ok (.invokevirtual 63, 3) := dk_182 0 63 (dk_at dksX4_whole_0 8 rfl rfl)
theorem dX4_whole_11 : decode cX4_whole 11 = .ok (.iload_n 3, 1) := dk_29 (dk_at dksX4_whole_0 11 rfl rfl)
theorem dX4_whole_12 : decode cX4_whole 12 = .ok (.ireturn, 1) := dk_172 (dk_at dksX4_whole_0 12 rfl rfl)
abbrev cX4_bounded : ByteArray := prog_10_method_8_code
def yX4_bounded : MethodName := ⟨RX4, "bounded", "(II)I"⟩
def dkwX4_bounded_1 : List UInt8 := [180, 0, 74, 27, 28, 184, 0, 77, 154, 0, 8, 42, 7, 182, 0, 70, 42, 180, 0, 38, 180, 0, 74, 172]
abbrev dktX4_bounded_1 : List UInt8 := dkwX4_bounded_1 ++ []
def dkwX4_bounded_0 : List UInt8 := [42, 180, 0, 38, 180, 0, 56, 6, 159, 0, 11, 42, 4, 182, 0, 70, 167, 0, 23, 42, 180, 0, 38]
abbrev dktX4_bounded_0 : List UInt8 := dkwX4_bounded_0 ++ dktX4_bounded_1
theorem dksX4_bounded_0 : cX4_bounded.data.toList.drop 0 = dktX4_bounded_0 := by decide +kernel
theorem dksX4_bounded_1 : cX4_bounded.data.toList.drop 23 = dktX4_bounded_1 := dk_seg dksX4_bounded_0 23 rfl rfl
theorem dX4_bounded_0 : decode cX4_bounded 0 = .ok (.aload_n 0, 1) := dk_42 (dk_at dksX4_bounded_0 0 rfl rfl)
theorem dX4_bounded_1 : decode cX4_bounded 1 = .ok (.getfield 38, 3) := dk_180 0 38 (dk_at dksX4_bounded_0 1 rfl rfl)
theorem dX4_bounded_4 : decode cX4_bounded 4 = .ok (.getfield 56, 3) := dk_180 0 56 (dk_at dksX4_bounded_0 4 rfl rfl)
theorem dX4_bounded_7 : decode cX4_bounded 7 = .ok (.iconst 3, 1) := dk_6 (dk_at dksX4_bounded_0 7 rfl rfl)
theorem dX4_bounded_8 : decode cX4_bounded 8 = .ok (.if_icmp .eq 11, 3) := dk_159 0 11 (dk_at dksX4_bounded_0 8 rfl rfl)
theorem dX4_bounded_11 : decode cX4_bounded 11 = .ok (.aload_n 0, 1) := dk_42 (dk_at dksX4_bounded_0 11 rfl rfl)
theorem dX4_bounded_12 : decode cX4_bounded 12 = .ok (.iconst 1, 1) := dk_4 (dk_at dksX4_bounded_0 12 rfl rfl)
theorem dX4_bounded_13 : decode cX4_bounded 13 = .ok (.invokevirtual 70, 3) := dk_182 0 70 (dk_at dksX4_bounded_0 13 rfl rfl)
theorem dX4_bounded_16 : decode cX4_bounded 16 = .ok (.goto 23, 3) := dk_167 0 23 (dk_at dksX4_bounded_0 16 rfl rfl)
theorem dX4_bounded_19 : decode cX4_bounded 19 = .ok (.aload_n 0, 1) := dk_42 (dk_at dksX4_bounded_0 19 rfl rfl)
theorem dX4_bounded_20 : decode cX4_bounded 20 = .ok (.getfield 38, 3) := dk_180 0 38 (dk_at dksX4_bounded_0 20 rfl rfl)
theorem dX4_bounded_23 : decode cX4_bounded 23 = .ok (.getfield 74, 3) := dk_180 0 74 (dk_at dksX4_bounded_1 0 rfl rfl)
theorem dX4_bounded_26 : decode cX4_bounded 26 = .ok (.iload_n 1, 1) := dk_27 (dk_at dksX4_bounded_1 3 rfl rfl)
theorem dX4_bounded_27 : decode cX4_bounded 27 = .ok (.iload_n 2, 1) := dk_28 (dk_at dksX4_bounded_1 4 rfl rfl)
theorem dX4_bounded_28 : decode cX4_bounded 28 = .ok (.invokestatic 77, 3) := dk_184 0 77 (dk_at dksX4_bounded_1 5 rfl rfl)
theorem dX4_bounded_31 : decode cX4_bounded 31 = .ok (.ifCond .ne 8, 3) := dk_154 0 8 (dk_at dksX4_bounded_1 8 rfl rfl)
theorem dX4_bounded_34 : decode cX4_bounded 34 = .ok (.aload_n 0, 1) := dk_42 (dk_at dksX4_bounded_1 11 rfl rfl)
theorem dX4_bounded_35 : decode cX4_bounded 35 = .ok (.iconst 4, 1) := dk_7 (dk_at dksX4_bounded_1 12 rfl rfl)
theorem dX4_bounded_36 : decode cX4_bounded 36 = .ok (.invokevirtual 70, 3) := dk_182 0 70 (dk_at dksX4_bounded_1 13 rfl rfl)
theorem dX4_bounded_39 : decode cX4_bounded 39 = .ok (.aload_n 0, 1) := dk_42 (dk_at dksX4_bounded_1 16 rfl rfl)
theorem dX4_bounded_40 : decode cX4_bounded 40 = .ok (.getfield 38, 3) := dk_180 0 38 (dk_at dksX4_bounded_1 17 rfl rfl)
theorem dX4_bounded_43 : decode cX4_bounded 43 = .ok (.getfield 74, 3) := dk_180 0 74 (dk_at dksX4_bounded_1 20 rfl rfl)
theorem dX4_bounded_46 : decode cX4_bounded 46 = .ok (.ireturn, 1) := dk_172 (dk_at dksX4_bounded_1 23 rfl rfl)
abbrev cX4_names : ByteArray := prog_10_method_16_code
def yX4_names : MethodName := ⟨RX4, "names", "(Ljava/util/ArrayList;I)V"⟩
def dkwX4_names_4 : List UInt8 := [16, 44, 182, 0, 121, 154, 255, 165, 177]
abbrev dktX4_names_4 : List UInt8 := dkwX4_names_4 ++ []
def dkwX4_names_3 : List UInt8 := [182, 0, 70, 42, 182, 0, 63, 42, 182, 0, 46, 154, 0, 12, 43, 45, 180, 0, 102, 182, 0, 175, 87, 42]
abbrev dktX4_names_3 : List UInt8 := dkwX4_names_3 ++ dktX4_names_4
def dkwX4_names_2 : List UInt8 := [184, 0, 106, 2, 159, 0, 8, 42, 6, 182, 0, 70, 43, 182, 0, 85, 28, 160, 0, 8, 42, 8]
abbrev dktX4_names_2 : List UInt8 := dkwX4_names_2 ++ dktX4_names_3
def dkwX4_names_1 : List UInt8 := [180, 0, 21, 45, 180, 0, 102, 184, 0, 106, 2, 160, 0, 18, 42, 180, 0, 25, 45, 180, 0, 102]
abbrev dktX4_names_1 : List UInt8 := dkwX4_names_1 ++ dktX4_names_2
def dkwX4_names_0 : List UInt8 := [42, 182, 0, 63, 42, 180, 0, 38, 78, 45, 182, 0, 99, 154, 0, 8, 42, 4, 182, 0, 70, 42]
abbrev dktX4_names_0 : List UInt8 := dkwX4_names_0 ++ dktX4_names_1
theorem dksX4_names_0 : cX4_names.data.toList.drop 0 = dktX4_names_0 := by decide +kernel
theorem dksX4_names_1 : cX4_names.data.toList.drop 22 = dktX4_names_1 := dk_seg dksX4_names_0 22 rfl rfl
theorem dksX4_names_2 : cX4_names.data.toList.drop 44 = dktX4_names_2 := dk_seg dksX4_names_1 22 rfl rfl
theorem dksX4_names_3 : cX4_names.data.toList.drop 66 = dktX4_names_3 := dk_seg dksX4_names_2 22 rfl rfl
theorem dksX4_names_4 : cX4_names.data.toList.drop 90 = dktX4_names_4 := dk_seg dksX4_names_3 24 rfl rfl
theorem dX4_names_0 : decode cX4_names 0 = .ok (.aload_n 0, 1) := dk_42 (dk_at dksX4_names_0 0 rfl rfl)
theorem dX4_names_1 : decode cX4_names 1 = .ok (.invokevirtual 63, 3) := dk_182 0 63 (dk_at dksX4_names_0 1 rfl rfl)
theorem dX4_names_4 : decode cX4_names 4 = .ok (.aload_n 0, 1) := dk_42 (dk_at dksX4_names_0 4 rfl rfl)
theorem dX4_names_5 : decode cX4_names 5 = .ok (.getfield 38, 3) := dk_180 0 38 (dk_at dksX4_names_0 5 rfl rfl)
theorem dX4_names_8 : decode cX4_names 8 = .ok (.astore_n 3, 1) := dk_78 (dk_at dksX4_names_0 8 rfl rfl)
theorem dX4_names_9 : decode cX4_names 9 = .ok (.aload_n 3, 1) := dk_45 (dk_at dksX4_names_0 9 rfl rfl)
theorem dX4_names_10 : decode cX4_names 10 = .ok (.invokevirtual 99, 3) := dk_182 0 99 (dk_at dksX4_names_0 10 rfl rfl)
theorem dX4_names_13 : decode cX4_names 13 = .ok (.ifCond .ne 8, 3) := dk_154 0 8 (dk_at dksX4_names_0 13 rfl rfl)
theorem dX4_names_16 : decode cX4_names 16 = .ok (.aload_n 0, 1) := dk_42 (dk_at dksX4_names_0 16 rfl rfl)
theorem dX4_names_17 : decode cX4_names 17 = .ok (.iconst 1, 1) := dk_4 (dk_at dksX4_names_0 17 rfl rfl)
theorem dX4_names_18 : decode cX4_names 18 = .ok (.invokevirtual 70, 3) := dk_182 0 70 (dk_at dksX4_names_0 18 rfl rfl)
theorem dX4_names_21 : decode cX4_names 21 = .ok (.aload_n 0, 1) := dk_42 (dk_at dksX4_names_0 21 rfl rfl)
theorem dX4_names_22 : decode cX4_names 22 = .ok (.getfield 21, 3) := dk_180 0 21 (dk_at dksX4_names_1 0 rfl rfl)
theorem dX4_names_25 : decode cX4_names 25 = .ok (.aload_n 3, 1) := dk_45 (dk_at dksX4_names_1 3 rfl rfl)
theorem dX4_names_26 : decode cX4_names 26 = .ok (.getfield 102, 3) := dk_180 0 102 (dk_at dksX4_names_1 4 rfl rfl)
theorem dX4_names_29 : decode cX4_names 29 = .ok (.invokestatic 106, 3) := dk_184 0 106 (dk_at dksX4_names_1 7 rfl rfl)
theorem dX4_names_32 : decode cX4_names 32 = .ok (.iconst (-1), 1) := dk_2 (dk_at dksX4_names_1 10 rfl rfl)
theorem dX4_names_33 : decode cX4_names 33 = .ok (.if_icmp .ne 18, 3) := dk_160 0 18 (dk_at dksX4_names_1 11 rfl rfl)
theorem dX4_names_36 : decode cX4_names 36 = .ok (.aload_n 0, 1) := dk_42 (dk_at dksX4_names_1 14 rfl rfl)
theorem dX4_names_37 : decode cX4_names 37 = .ok (.getfield 25, 3) := dk_180 0 25 (dk_at dksX4_names_1 15 rfl rfl)
theorem dX4_names_40 : decode cX4_names 40 = .ok (.aload_n 3, 1) := dk_45 (dk_at dksX4_names_1 18 rfl rfl)
theorem dX4_names_41 : decode cX4_names 41 = .ok (.getfield 102, 3) := dk_180 0 102 (dk_at dksX4_names_1 19 rfl rfl)
theorem dX4_names_44 : decode cX4_names 44 = .ok (.invokestatic 106, 3) := dk_184 0 106 (dk_at dksX4_names_2 0 rfl rfl)
theorem dX4_names_47 : decode cX4_names 47 = .ok (.iconst (-1), 1) := dk_2 (dk_at dksX4_names_2 3 rfl rfl)
theorem dX4_names_48 : decode cX4_names 48 = .ok (.if_icmp .eq 8, 3) := dk_159 0 8 (dk_at dksX4_names_2 4 rfl rfl)
theorem dX4_names_51 : decode cX4_names 51 = .ok (.aload_n 0, 1) := dk_42 (dk_at dksX4_names_2 7 rfl rfl)
theorem dX4_names_52 : decode cX4_names 52 = .ok (.iconst 3, 1) := dk_6 (dk_at dksX4_names_2 8 rfl rfl)
theorem dX4_names_53 : decode cX4_names 53 = .ok (.invokevirtual 70, 3) := dk_182 0 70 (dk_at dksX4_names_2 9 rfl rfl)
theorem dX4_names_56 : decode cX4_names 56 = .ok (.aload_n 1, 1) := dk_43 (dk_at dksX4_names_2 12 rfl rfl)
theorem dX4_names_57 : decode cX4_names 57 = .ok (.invokevirtual 85, 3) := dk_182 0 85 (dk_at dksX4_names_2 13 rfl rfl)
theorem dX4_names_60 : decode cX4_names 60 = .ok (.iload_n 2, 1) := dk_28 (dk_at dksX4_names_2 16 rfl rfl)
theorem dX4_names_61 : decode cX4_names 61 = .ok (.if_icmp .ne 8, 3) := dk_160 0 8 (dk_at dksX4_names_2 17 rfl rfl)
theorem dX4_names_64 : decode cX4_names 64 = .ok (.aload_n 0, 1) := dk_42 (dk_at dksX4_names_2 20 rfl rfl)
theorem dX4_names_65 : decode cX4_names 65 = .ok (.iconst 5, 1) := dk_8 (dk_at dksX4_names_2 21 rfl rfl)
theorem dX4_names_66 : decode cX4_names 66 = .ok (.invokevirtual 70, 3) := dk_182 0 70 (dk_at dksX4_names_3 0 rfl rfl)
theorem dX4_names_69 : decode cX4_names 69 = .ok (.aload_n 0, 1) := dk_42 (dk_at dksX4_names_3 3 rfl rfl)
theorem dX4_names_70 : decode cX4_names 70 = .ok (.invokevirtual 63, 3) := dk_182 0 63 (dk_at dksX4_names_3 4 rfl rfl)
theorem dX4_names_73 : decode cX4_names 73 = .ok (.aload_n 0, 1) := dk_42 (dk_at dksX4_names_3 7 rfl rfl)
theorem dX4_names_74 : decode cX4_names 74 = .ok (.invokevirtual 46, 3) := dk_182 0 46 (dk_at dksX4_names_3 8 rfl rfl)
theorem dX4_names_77 : decode cX4_names 77 = .ok (.ifCond .ne 12, 3) := dk_154 0 12 (dk_at dksX4_names_3 11 rfl rfl)
theorem dX4_names_80 : decode cX4_names 80 = .ok (.aload_n 1, 1) := dk_43 (dk_at dksX4_names_3 14 rfl rfl)
theorem dX4_names_81 : decode cX4_names 81 = .ok (.aload_n 3, 1) := dk_45 (dk_at dksX4_names_3 15 rfl rfl)
theorem dX4_names_82 : decode cX4_names 82 = .ok (.getfield 102, 3) := dk_180 0 102 (dk_at dksX4_names_3 16 rfl rfl)
theorem dX4_names_85 : decode cX4_names 85 = .ok (.invokevirtual 175, 3) := dk_182 0 175 (dk_at dksX4_names_3 19 rfl rfl)
theorem dX4_names_88 : decode cX4_names 88 = .ok (.pop, 1) := dk_87 (dk_at dksX4_names_3 22 rfl rfl)
theorem dX4_names_89 : decode cX4_names 89 = .ok (.aload_n 0, 1) := dk_42 (dk_at dksX4_names_3 23 rfl rfl)
theorem dX4_names_90 : decode cX4_names 90 = .ok (.bipush 44, 2) := dk_16 44 (dk_at dksX4_names_4 0 rfl rfl)
theorem dX4_names_92 : decode cX4_names 92 = .ok (.invokevirtual 121, 3) := dk_182 0 121 (dk_at dksX4_names_4 2 rfl rfl)
theorem dX4_names_95 : decode cX4_names 95 = .ok (.ifCond .ne (-91), 3) := dk_154 255 165 (dk_at dksX4_names_4 5 rfl rfl)
theorem dX4_names_98 : decode cX4_names 98 = .ok (.return_, 1) := dk_177 (dk_at dksX4_names_4 8 rfl rfl)
abbrev cX4_find : ByteArray := prog_10_method_10_code
def yX4_find : MethodName := ⟨RX4, "find", "(Ljava/util/ArrayList;Ljava/lang/String;)I"⟩
def dkwX4_find_1 : List UInt8 := [153, 0, 5, 28, 172, 132, 2, 1, 167, 255, 228, 2, 172]
abbrev dktX4_find_1 : List UInt8 := dkwX4_find_1 ++ []
def dkwX4_find_0 : List UInt8 := [3, 61, 28, 42, 182, 0, 85, 162, 0, 26, 42, 28, 182, 0, 89, 192, 0, 93, 43, 182, 0, 95]
abbrev dktX4_find_0 : List UInt8 := dkwX4_find_0 ++ dktX4_find_1
theorem dksX4_find_0 : cX4_find.data.toList.drop 0 = dktX4_find_0 := by decide +kernel
theorem dksX4_find_1 : cX4_find.data.toList.drop 22 = dktX4_find_1 := dk_seg dksX4_find_0 22 rfl rfl
theorem dX4_find_0 : decode cX4_find 0 = .ok (.iconst 0, 1) := dk_3 (dk_at dksX4_find_0 0 rfl rfl)
theorem dX4_find_1 : decode cX4_find 1 = .ok (.istore_n 2, 1) := dk_61 (dk_at dksX4_find_0 1 rfl rfl)
theorem dX4_find_2 : decode cX4_find 2 = .ok (.iload_n 2, 1) := dk_28 (dk_at dksX4_find_0 2 rfl rfl)
theorem dX4_find_3 : decode cX4_find 3 = .ok (.aload_n 0, 1) := dk_42 (dk_at dksX4_find_0 3 rfl rfl)
theorem dX4_find_4 : decode cX4_find 4 = .ok (.invokevirtual 85, 3) := dk_182 0 85 (dk_at dksX4_find_0 4 rfl rfl)
theorem dX4_find_7 : decode cX4_find 7 = .ok (.if_icmp .ge 26, 3) := dk_162 0 26 (dk_at dksX4_find_0 7 rfl rfl)
theorem dX4_find_10 : decode cX4_find 10 = .ok (.aload_n 0, 1) := dk_42 (dk_at dksX4_find_0 10 rfl rfl)
theorem dX4_find_11 : decode cX4_find 11 = .ok (.iload_n 2, 1) := dk_28 (dk_at dksX4_find_0 11 rfl rfl)
theorem dX4_find_12 : decode cX4_find 12 = .ok (.invokevirtual 89, 3) := dk_182 0 89 (dk_at dksX4_find_0 12 rfl rfl)
theorem dX4_find_15 : decode cX4_find 15 = .ok (.checkcast 93, 3) := dk_192 0 93 (dk_at dksX4_find_0 15 rfl rfl)
theorem dX4_find_18 : decode cX4_find 18 = .ok (.aload_n 1, 1) := dk_43 (dk_at dksX4_find_0 18 rfl rfl)
theorem dX4_find_19 : decode cX4_find 19 = .ok (.invokevirtual 95, 3) := dk_182 0 95 (dk_at dksX4_find_0 19 rfl rfl)
theorem dX4_find_22 : decode cX4_find 22 = .ok (.ifCond .eq 5, 3) := dk_153 0 5 (dk_at dksX4_find_1 0 rfl rfl)
theorem dX4_find_25 : decode cX4_find 25 = .ok (.iload_n 2, 1) := dk_28 (dk_at dksX4_find_1 3 rfl rfl)
theorem dX4_find_26 : decode cX4_find 26 = .ok (.ireturn, 1) := dk_172 (dk_at dksX4_find_1 4 rfl rfl)
theorem dX4_find_27 : decode cX4_find 27 = .ok (.iinc 2 1, 3) := dk_132 2 1 (dk_at dksX4_find_1 5 rfl rfl)
theorem dX4_find_30 : decode cX4_find 30 = .ok (.goto (-28), 3) := dk_167 255 228 (dk_at dksX4_find_1 8 rfl rfl)
theorem dX4_find_33 : decode cX4_find 33 = .ok (.iconst (-1), 1) := dk_2 (dk_at dksX4_find_1 11 rfl rfl)
theorem dX4_find_34 : decode cX4_find 34 = .ok (.ireturn, 1) := dk_172 (dk_at dksX4_find_1 12 rfl rfl)
abbrev cX4_eatsSign : ByteArray := prog_10_method_5_code
def yX4_eatsSign : MethodName := ⟨RX4, "eatsSign", "(C)Z"⟩
def dkwX4_eatsSign_1 : List UInt8 := [4, 172]
abbrev dktX4_eatsSign_1 : List UInt8 := dkwX4_eatsSign_1 ++ []
def dkwX4_eatsSign_0 : List UInt8 := [42, 182, 0, 46, 154, 0, 14, 42, 180, 0, 38, 27, 182, 0, 59, 154, 0, 5, 3, 172, 42, 182, 0, 63]
abbrev dktX4_eatsSign_0 : List UInt8 := dkwX4_eatsSign_0 ++ dktX4_eatsSign_1
theorem dksX4_eatsSign_0 : cX4_eatsSign.data.toList.drop 0 = dktX4_eatsSign_0 := by decide +kernel
theorem dksX4_eatsSign_1 : cX4_eatsSign.data.toList.drop 24 = dktX4_eatsSign_1 := dk_seg dksX4_eatsSign_0 24 rfl rfl
theorem dX4_eatsSign_0 : decode cX4_eatsSign 0 = .ok (.aload_n 0, 1) := dk_42 (dk_at dksX4_eatsSign_0 0 rfl rfl)
theorem dX4_eatsSign_1 : decode cX4_eatsSign 1 = .ok (.invokevirtual 46, 3) := dk_182 0 46 (dk_at dksX4_eatsSign_0 1 rfl rfl)
theorem dX4_eatsSign_4 : decode cX4_eatsSign 4 = .ok (.ifCond .ne 14, 3) := dk_154 0 14 (dk_at dksX4_eatsSign_0 4 rfl rfl)
theorem dX4_eatsSign_7 : decode cX4_eatsSign 7 = .ok (.aload_n 0, 1) := dk_42 (dk_at dksX4_eatsSign_0 7 rfl rfl)
theorem dX4_eatsSign_8 : decode cX4_eatsSign 8 = .ok (.getfield 38, 3) := dk_180 0 38 (dk_at dksX4_eatsSign_0 8 rfl rfl)
theorem dX4_eatsSign_11 : decode cX4_eatsSign 11 = .ok (.iload_n 1, 1) := dk_27 (dk_at dksX4_eatsSign_0 11 rfl rfl)
theorem dX4_eatsSign_12 : decode cX4_eatsSign 12 = .ok (.invokevirtual 59, 3) := dk_182 0 59 (dk_at dksX4_eatsSign_0 12 rfl rfl)
theorem dX4_eatsSign_15 : decode cX4_eatsSign 15 = .ok (.ifCond .ne 5, 3) := dk_154 0 5 (dk_at dksX4_eatsSign_0 15 rfl rfl)
theorem dX4_eatsSign_18 : decode cX4_eatsSign 18 = .ok (.iconst 0, 1) := dk_3 (dk_at dksX4_eatsSign_0 18 rfl rfl)
theorem dX4_eatsSign_19 : decode cX4_eatsSign 19 = .ok (.ireturn, 1) := dk_172 (dk_at dksX4_eatsSign_0 19 rfl rfl)
theorem dX4_eatsSign_20 : decode cX4_eatsSign 20 = .ok (.aload_n 0, 1) := dk_42 (dk_at dksX4_eatsSign_0 20 rfl rfl)
theorem dX4_eatsSign_21 : decode cX4_eatsSign 21 = .ok (.invokevirtual 63, 3) := dk_182 0 63 (dk_at dksX4_eatsSign_0 21 rfl rfl)
theorem dX4_eatsSign_24 : decode cX4_eatsSign 24 = .ok (.iconst 1, 1) := dk_4 (dk_at dksX4_eatsSign_1 0 rfl rfl)
theorem dX4_eatsSign_25 : decode cX4_eatsSign 25 = .ok (.ireturn, 1) := dk_172 (dk_at dksX4_eatsSign_1 1 rfl rfl)
abbrev cX4_set : ByteArray := prog_10_method_17_code
def yX4_set : MethodName := ⟨RX4, "set", "()V"⟩
def dkwX4_set_9 : List UInt8 := [180, 0, 178, 180, 0, 212, 44, 182, 0, 175, 87, 177]
abbrev dktX4_set_9 : List UInt8 := dkwX4_set_9 ++ []
def dkwX4_set_8 : List UInt8 := [21, 4, 21, 5, 79, 132, 4, 1, 167, 255, 172, 42, 182, 0, 46, 154, 0, 18, 42, 180, 0, 12]
abbrev dktX4_set_8 : List UInt8 := dkwX4_set_8 ++ dktX4_set_9
def dkwX4_set_7 : List UInt8 := [42, 180, 0, 12, 180, 0, 124, 159, 0, 8, 42, 7, 182, 0, 70, 42, 182, 0, 63, 44, 180, 0, 208]
abbrev dktX4_set_7 : List UInt8 := dkwX4_set_7 ++ dktX4_set_8
def dkwX4_set_6 : List UInt8 := [16, 60, 182, 0, 81, 54, 5, 29, 21, 5, 96, 62, 21, 4, 44, 182, 0, 199, 4, 100, 160, 0, 19, 29]
abbrev dktX4_set_6 : List UInt8 := dkwX4_set_6 ++ dktX4_set_7
def dkwX4_set_5 : List UInt8 := [162, 0, 81, 42, 182, 0, 46, 154, 0, 74, 21, 4, 158, 0, 9, 42, 16, 44, 182, 0, 204, 42, 3]
abbrev dktX4_set_5 : List UInt8 := dkwX4_set_5 ++ dktX4_set_6
def dkwX4_set_4 : List UInt8 := [182, 0, 185, 183, 0, 194, 77, 42, 18, 197, 182, 0, 168, 3, 62, 3, 54, 4, 21, 4, 44, 182, 0, 199]
abbrev dktX4_set_4 : List UInt8 := dkwX4_set_4 ++ dktX4_set_5
def dkwX4_set_3 : List UInt8 := [187, 0, 192, 89, 27, 42, 42, 180, 0, 21, 42, 182, 0, 46, 153, 0, 7, 3, 167, 0, 6, 4, 27, 120]
abbrev dktX4_set_3 : List UInt8 := dkwX4_set_3 ++ dktX4_set_4
def dkwX4_set_2 : List UInt8 := [182, 0, 185, 60, 187, 0, 188, 89, 27, 183, 0, 190, 77, 42, 16, 44, 182, 0, 121, 153, 0, 34]
abbrev dktX4_set_2 : List UInt8 := dkwX4_set_2 ++ dktX4_set_3
def dkwX4_set_1 : List UInt8 := [180, 0, 124, 154, 0, 9, 42, 16, 6, 182, 0, 70, 42, 182, 0, 63, 42, 42, 180, 0, 21, 3]
abbrev dktX4_set_1 : List UInt8 := dkwX4_set_1 ++ dktX4_set_2
def dkwX4_set_0 : List UInt8 := [42, 180, 0, 12, 180, 0, 178, 182, 0, 182, 16, 8, 160, 0, 8, 42, 8, 182, 0, 70, 42, 180, 0, 12]
abbrev dktX4_set_0 : List UInt8 := dkwX4_set_0 ++ dktX4_set_1
theorem dksX4_set_0 : cX4_set.data.toList.drop 0 = dktX4_set_0 := by decide +kernel
theorem dksX4_set_1 : cX4_set.data.toList.drop 24 = dktX4_set_1 := dk_seg dksX4_set_0 24 rfl rfl
theorem dksX4_set_2 : cX4_set.data.toList.drop 46 = dktX4_set_2 := dk_seg dksX4_set_1 22 rfl rfl
theorem dksX4_set_3 : cX4_set.data.toList.drop 68 = dktX4_set_3 := dk_seg dksX4_set_2 22 rfl rfl
theorem dksX4_set_4 : cX4_set.data.toList.drop 92 = dktX4_set_4 := dk_seg dksX4_set_3 24 rfl rfl
theorem dksX4_set_5 : cX4_set.data.toList.drop 116 = dktX4_set_5 := dk_seg dksX4_set_4 24 rfl rfl
theorem dksX4_set_6 : cX4_set.data.toList.drop 139 = dktX4_set_6 := dk_seg dksX4_set_5 23 rfl rfl
theorem dksX4_set_7 : cX4_set.data.toList.drop 163 = dktX4_set_7 := dk_seg dksX4_set_6 24 rfl rfl
theorem dksX4_set_8 : cX4_set.data.toList.drop 186 = dktX4_set_8 := dk_seg dksX4_set_7 23 rfl rfl
theorem dksX4_set_9 : cX4_set.data.toList.drop 208 = dktX4_set_9 := dk_seg dksX4_set_8 22 rfl rfl
theorem dX4_set_0 : decode cX4_set 0 = .ok (.aload_n 0, 1) := dk_42 (dk_at dksX4_set_0 0 rfl rfl)
theorem dX4_set_1 : decode cX4_set 1 = .ok (.getfield 12, 3) := dk_180 0 12 (dk_at dksX4_set_0 1 rfl rfl)
theorem dX4_set_4 : decode cX4_set 4 = .ok (.getfield 178, 3) := dk_180 0 178 (dk_at dksX4_set_0 4 rfl rfl)
theorem dX4_set_7 : decode cX4_set 7 = .ok (.invokevirtual 182, 3) := dk_182 0 182 (dk_at dksX4_set_0 7 rfl rfl)
theorem dX4_set_10 : decode cX4_set 10 = .ok (.bipush 8, 2) := dk_16 8 (dk_at dksX4_set_0 10 rfl rfl)
theorem dX4_set_12 : decode cX4_set 12 = .ok (.if_icmp .ne 8, 3) := dk_160 0 8 (dk_at dksX4_set_0 12 rfl rfl)
theorem dX4_set_15 : decode cX4_set 15 = .ok (.aload_n 0, 1) := dk_42 (dk_at dksX4_set_0 15 rfl rfl)
theorem dX4_set_16 : decode cX4_set 16 = .ok (.iconst 5, 1) := dk_8 (dk_at dksX4_set_0 16 rfl rfl)
theorem dX4_set_17 : decode cX4_set 17 = .ok (.invokevirtual 70, 3) := dk_182 0 70 (dk_at dksX4_set_0 17 rfl rfl)
theorem dX4_set_20 : decode cX4_set 20 = .ok (.aload_n 0, 1) := dk_42 (dk_at dksX4_set_0 20 rfl rfl)
theorem dX4_set_21 : decode cX4_set 21 = .ok (.getfield 12, 3) := dk_180 0 12 (dk_at dksX4_set_0 21 rfl rfl)
theorem dX4_set_24 : decode cX4_set 24 = .ok (.getfield 124, 3) := dk_180 0 124 (dk_at dksX4_set_1 0 rfl rfl)
theorem dX4_set_27 : decode cX4_set 27 = .ok (.ifCond .ne 9, 3) := dk_154 0 9 (dk_at dksX4_set_1 3 rfl rfl)
theorem dX4_set_30 : decode cX4_set 30 = .ok (.aload_n 0, 1) := dk_42 (dk_at dksX4_set_1 6 rfl rfl)
theorem dX4_set_31 : decode cX4_set 31 = .ok (.bipush 6, 2) := dk_16 6 (dk_at dksX4_set_1 7 rfl rfl)
theorem dX4_set_33 : decode cX4_set 33 = .ok (.invokevirtual 70, 3) := dk_182 0 70 (dk_at dksX4_set_1 9 rfl rfl)
theorem dX4_set_36 : decode cX4_set 36 = .ok (.aload_n 0, 1) := dk_42 (dk_at dksX4_set_1 12 rfl rfl)
theorem dX4_set_37 : decode cX4_set 37 = .ok (.invokevirtual 63, 3) := dk_182 0 63 (dk_at dksX4_set_1 13 rfl rfl)
theorem dX4_set_40 : decode cX4_set 40 = .ok (.aload_n 0, 1) := dk_42 (dk_at dksX4_set_1 16 rfl rfl)
theorem dX4_set_41 : decode cX4_set 41 = .ok (.aload_n 0, 1) := dk_42 (dk_at dksX4_set_1 17 rfl rfl)
theorem dX4_set_42 : decode cX4_set 42 = .ok (.getfield 21, 3) := dk_180 0 21 (dk_at dksX4_set_1 18 rfl rfl)
theorem dX4_set_45 : decode cX4_set 45 = .ok (.iconst 0, 1) := dk_3 (dk_at dksX4_set_1 21 rfl rfl)
theorem dX4_set_46 : decode cX4_set 46 = .ok (.invokevirtual 185, 3) := dk_182 0 185 (dk_at dksX4_set_2 0 rfl rfl)
theorem dX4_set_49 : decode cX4_set 49 = .ok (.istore_n 1, 1) := dk_60 (dk_at dksX4_set_2 3 rfl rfl)
theorem dX4_set_50 : decode cX4_set 50 = .ok (.new 188, 3) := dk_187 0 188 (dk_at dksX4_set_2 4 rfl rfl)
theorem dX4_set_53 : decode cX4_set 53 = .ok (.dup, 1) := dk_89 (dk_at dksX4_set_2 7 rfl rfl)
theorem dX4_set_54 : decode cX4_set 54 = .ok (.iload_n 1, 1) := dk_27 (dk_at dksX4_set_2 8 rfl rfl)
theorem dX4_set_55 : decode cX4_set 55 = .ok (.invokespecial 190, 3) := dk_183 0 190 (dk_at dksX4_set_2 9 rfl rfl)
theorem dX4_set_58 : decode cX4_set 58 = .ok (.astore_n 2, 1) := dk_77 (dk_at dksX4_set_2 12 rfl rfl)
theorem dX4_set_59 : decode cX4_set 59 = .ok (.aload_n 0, 1) := dk_42 (dk_at dksX4_set_2 13 rfl rfl)
theorem dX4_set_60 : decode cX4_set 60 = .ok (.bipush 44, 2) := dk_16 44 (dk_at dksX4_set_2 14 rfl rfl)
theorem dX4_set_62 : decode cX4_set 62 = .ok (.invokevirtual 121, 3) := dk_182 0 121 (dk_at dksX4_set_2 16 rfl rfl)
theorem dX4_set_65 : decode cX4_set 65 = .ok (.ifCond .eq 34, 3) := dk_153 0 34 (dk_at dksX4_set_2 19 rfl rfl)
theorem dX4_set_68 : decode cX4_set 68 = .ok (.new 192, 3) := dk_187 0 192 (dk_at dksX4_set_3 0 rfl rfl)
theorem dX4_set_71 : decode cX4_set 71 = .ok (.dup, 1) := dk_89 (dk_at dksX4_set_3 3 rfl rfl)
theorem dX4_set_72 : decode cX4_set 72 = .ok (.iload_n 1, 1) := dk_27 (dk_at dksX4_set_3 4 rfl rfl)
theorem dX4_set_73 : decode cX4_set 73 = .ok (.aload_n 0, 1) := dk_42 (dk_at dksX4_set_3 5 rfl rfl)
theorem dX4_set_74 : decode cX4_set 74 = .ok (.aload_n 0, 1) := dk_42 (dk_at dksX4_set_3 6 rfl rfl)
theorem dX4_set_75 : decode cX4_set 75 = .ok (.getfield 21, 3) := dk_180 0 21 (dk_at dksX4_set_3 7 rfl rfl)
theorem dX4_set_78 : decode cX4_set 78 = .ok (.aload_n 0, 1) := dk_42 (dk_at dksX4_set_3 10 rfl rfl)
theorem dX4_set_79 : decode cX4_set 79 = .ok (.invokevirtual 46, 3) := dk_182 0 46 (dk_at dksX4_set_3 11 rfl rfl)
theorem dX4_set_82 : decode cX4_set 82 = .ok (.ifCond .eq 7, 3) := dk_153 0 7 (dk_at dksX4_set_3 14 rfl rfl)
theorem dX4_set_85 : decode cX4_set 85 = .ok (.iconst 0, 1) := dk_3 (dk_at dksX4_set_3 17 rfl rfl)
theorem dX4_set_86 : decode cX4_set 86 = .ok (.goto 6, 3) := dk_167 0 6 (dk_at dksX4_set_3 18 rfl rfl)
theorem dX4_set_89 : decode cX4_set 89 = .ok (.iconst 1, 1) := dk_4 (dk_at dksX4_set_3 21 rfl rfl)
theorem dX4_set_90 : decode cX4_set 90 = .ok (.iload_n 1, 1) := dk_27 (dk_at dksX4_set_3 22 rfl rfl)
theorem dX4_set_91 : decode cX4_set 91 = .ok (.ishl, 1) := dk_120 (dk_at dksX4_set_3 23 rfl rfl)
theorem dX4_set_92 : decode cX4_set 92 = .ok (.invokevirtual 185, 3) := dk_182 0 185 (dk_at dksX4_set_4 0 rfl rfl)
theorem dX4_set_95 : decode cX4_set 95 = .ok (.invokespecial 194, 3) := dk_183 0 194 (dk_at dksX4_set_4 3 rfl rfl)
theorem dX4_set_98 : decode cX4_set 98 = .ok (.astore_n 2, 1) := dk_77 (dk_at dksX4_set_4 6 rfl rfl)
theorem dX4_set_99 : decode cX4_set 99 = .ok (.aload_n 0, 1) := dk_42 (dk_at dksX4_set_4 7 rfl rfl)
theorem dX4_set_100 : decode cX4_set 100 = .ok (.ldc 197, 2) := dk_18 197 (dk_at dksX4_set_4 8 rfl rfl)
theorem dX4_set_102 : decode cX4_set 102 = .ok (.invokevirtual 168, 3) := dk_182 0 168 (dk_at dksX4_set_4 10 rfl rfl)
theorem dX4_set_105 : decode cX4_set 105 = .ok (.iconst 0, 1) := dk_3 (dk_at dksX4_set_4 13 rfl rfl)
theorem dX4_set_106 : decode cX4_set 106 = .ok (.istore_n 3, 1) := dk_62 (dk_at dksX4_set_4 14 rfl rfl)
theorem dX4_set_107 : decode cX4_set 107 = .ok (.iconst 0, 1) := dk_3 (dk_at dksX4_set_4 15 rfl rfl)
theorem dX4_set_108 : decode cX4_set 108 = .ok (.istore 4, 2) := dk_54 4 (dk_at dksX4_set_4 16 rfl rfl)
theorem dX4_set_110 : decode cX4_set 110 = .ok (.iload 4, 2) := dk_21 4 (dk_at dksX4_set_4 18 rfl rfl)
theorem dX4_set_112 : decode cX4_set 112 = .ok (.aload_n 2, 1) := dk_44 (dk_at dksX4_set_4 20 rfl rfl)
theorem dX4_set_113 : decode cX4_set 113 = .ok (.invokevirtual 199, 3) := dk_182 0 199 (dk_at dksX4_set_4 21 rfl rfl)
theorem dX4_set_116 : decode cX4_set 116 = .ok (.if_icmp .ge 81, 3) := dk_162 0 81 (dk_at dksX4_set_5 0 rfl rfl)
theorem dX4_set_119 : decode cX4_set 119 = .ok (.aload_n 0, 1) := dk_42 (dk_at dksX4_set_5 3 rfl rfl)
theorem dX4_set_120 : decode cX4_set 120 = .ok (.invokevirtual 46, 3) := dk_182 0 46 (dk_at dksX4_set_5 4 rfl rfl)
theorem dX4_set_123 : decode cX4_set 123 = .ok (.ifCond .ne 74, 3) := dk_154 0 74 (dk_at dksX4_set_5 7 rfl rfl)
theorem dX4_set_126 : decode cX4_set 126 = .ok (.iload 4, 2) := dk_21 4 (dk_at dksX4_set_5 10 rfl rfl)
theorem dX4_set_128 : decode cX4_set 128 = .ok (.ifCond .le 9, 3) := dk_158 0 9 (dk_at dksX4_set_5 12 rfl rfl)
theorem dX4_set_131 : decode cX4_set 131 = .ok (.aload_n 0, 1) := dk_42 (dk_at dksX4_set_5 15 rfl rfl)
theorem dX4_set_132 : decode cX4_set 132 = .ok (.bipush 44, 2) := dk_16 44 (dk_at dksX4_set_5 16 rfl rfl)
theorem dX4_set_134 : decode cX4_set 134 = .ok (.invokevirtual 204, 3) := dk_182 0 204 (dk_at dksX4_set_5 18 rfl rfl)
theorem dX4_set_137 : decode cX4_set 137 = .ok (.aload_n 0, 1) := dk_42 (dk_at dksX4_set_5 21 rfl rfl)
theorem dX4_set_138 : decode cX4_set 138 = .ok (.iconst 0, 1) := dk_3 (dk_at dksX4_set_5 22 rfl rfl)
theorem dX4_set_139 : decode cX4_set 139 = .ok (.bipush 60, 2) := dk_16 60 (dk_at dksX4_set_6 0 rfl rfl)
theorem dX4_set_141 : decode cX4_set 141 = .ok (.invokevirtual 81, 3) := dk_182 0 81 (dk_at dksX4_set_6 2 rfl rfl)
theorem dX4_set_144 : decode cX4_set 144 = .ok (.istore 5, 2) := dk_54 5 (dk_at dksX4_set_6 5 rfl rfl)
theorem dX4_set_146 : decode cX4_set 146 = .ok (.iload_n 3, 1) := dk_29 (dk_at dksX4_set_6 7 rfl rfl)
theorem dX4_set_147 : decode cX4_set 147 = .ok (.iload 5, 2) := dk_21 5 (dk_at dksX4_set_6 8 rfl rfl)
theorem dX4_set_149 : decode cX4_set 149 = .ok (.iadd, 1) := dk_96 (dk_at dksX4_set_6 10 rfl rfl)
theorem dX4_set_150 : decode cX4_set 150 = .ok (.istore_n 3, 1) := dk_62 (dk_at dksX4_set_6 11 rfl rfl)
theorem dX4_set_151 : decode cX4_set 151 = .ok (.iload 4, 2) := dk_21 4 (dk_at dksX4_set_6 12 rfl rfl)
theorem dX4_set_153 : decode cX4_set 153 = .ok (.aload_n 2, 1) := dk_44 (dk_at dksX4_set_6 14 rfl rfl)
theorem dX4_set_154 : decode cX4_set 154 = .ok (.invokevirtual 199, 3) := dk_182 0 199 (dk_at dksX4_set_6 15 rfl rfl)
theorem dX4_set_157 : decode cX4_set 157 = .ok (.iconst 1, 1) := dk_4 (dk_at dksX4_set_6 18 rfl rfl)
theorem dX4_set_158 : decode cX4_set 158 = .ok (.isub, 1) := dk_100 (dk_at dksX4_set_6 19 rfl rfl)
theorem dX4_set_159 : decode cX4_set 159 = .ok (.if_icmp .ne 19, 3) := dk_160 0 19 (dk_at dksX4_set_6 20 rfl rfl)
theorem dX4_set_162 : decode cX4_set 162 = .ok (.iload_n 3, 1) := dk_29 (dk_at dksX4_set_6 23 rfl rfl)
theorem dX4_set_163 : decode cX4_set 163 = .ok (.aload_n 0, 1) := dk_42 (dk_at dksX4_set_7 0 rfl rfl)
theorem dX4_set_164 : decode cX4_set 164 = .ok (.getfield 12, 3) := dk_180 0 12 (dk_at dksX4_set_7 1 rfl rfl)
theorem dX4_set_167 : decode cX4_set 167 = .ok (.getfield 124, 3) := dk_180 0 124 (dk_at dksX4_set_7 4 rfl rfl)
theorem dX4_set_170 : decode cX4_set 170 = .ok (.if_icmp .eq 8, 3) := dk_159 0 8 (dk_at dksX4_set_7 7 rfl rfl)
theorem dX4_set_173 : decode cX4_set 173 = .ok (.aload_n 0, 1) := dk_42 (dk_at dksX4_set_7 10 rfl rfl)
theorem dX4_set_174 : decode cX4_set 174 = .ok (.iconst 4, 1) := dk_7 (dk_at dksX4_set_7 11 rfl rfl)
theorem dX4_set_175 : decode cX4_set 175 = .ok (.invokevirtual 70, 3) := dk_182 0 70 (dk_at dksX4_set_7 12 rfl rfl)
theorem dX4_set_178 : decode cX4_set 178 = .ok (.aload_n 0, 1) := dk_42 (dk_at dksX4_set_7 15 rfl rfl)
theorem dX4_set_179 : decode cX4_set 179 = .ok (.invokevirtual 63, 3) := dk_182 0 63 (dk_at dksX4_set_7 16 rfl rfl)
theorem dX4_set_182 : decode cX4_set 182 = .ok (.aload_n 2, 1) := dk_44 (dk_at dksX4_set_7 19 rfl rfl)
theorem dX4_set_183 : decode cX4_set 183 = .ok (.getfield 208, 3) := dk_180 0 208 (dk_at dksX4_set_7 20 rfl rfl)
theorem dX4_set_186 : decode cX4_set 186 = .ok (.iload 4, 2) := dk_21 4 (dk_at dksX4_set_8 0 rfl rfl)
theorem dX4_set_188 : decode cX4_set 188 = .ok (.iload 5, 2) := dk_21 5 (dk_at dksX4_set_8 2 rfl rfl)
theorem dX4_set_190 : decode cX4_set 190 = .ok (.iastore, 1) := dk_79 (dk_at dksX4_set_8 4 rfl rfl)
theorem dX4_set_191 : decode cX4_set 191 = .ok (.iinc 4 1, 3) := dk_132 4 1 (dk_at dksX4_set_8 5 rfl rfl)
theorem dX4_set_194 : decode cX4_set 194 = .ok (.goto (-84), 3) := dk_167 255 172 (dk_at dksX4_set_8 8 rfl rfl)
theorem dX4_set_197 : decode cX4_set 197 = .ok (.aload_n 0, 1) := dk_42 (dk_at dksX4_set_8 11 rfl rfl)
theorem dX4_set_198 : decode cX4_set 198 = .ok (.invokevirtual 46, 3) := dk_182 0 46 (dk_at dksX4_set_8 12 rfl rfl)
theorem dX4_set_201 : decode cX4_set 201 = .ok (.ifCond .ne 18, 3) := dk_154 0 18 (dk_at dksX4_set_8 15 rfl rfl)
theorem dX4_set_204 : decode cX4_set 204 = .ok (.aload_n 0, 1) := dk_42 (dk_at dksX4_set_8 18 rfl rfl)
theorem dX4_set_205 : decode cX4_set 205 = .ok (.getfield 12, 3) := dk_180 0 12 (dk_at dksX4_set_8 19 rfl rfl)
theorem dX4_set_208 : decode cX4_set 208 = .ok (.getfield 178, 3) := dk_180 0 178 (dk_at dksX4_set_9 0 rfl rfl)
theorem dX4_set_211 : decode cX4_set 211 = .ok (.getfield 212, 3) := dk_180 0 212 (dk_at dksX4_set_9 3 rfl rfl)
theorem dX4_set_214 : decode cX4_set 214 = .ok (.aload_n 2, 1) := dk_44 (dk_at dksX4_set_9 6 rfl rfl)
theorem dX4_set_215 : decode cX4_set 215 = .ok (.invokevirtual 175, 3) := dk_182 0 175 (dk_at dksX4_set_9 7 rfl rfl)
theorem dX4_set_218 : decode cX4_set 218 = .ok (.pop, 1) := dk_87 (dk_at dksX4_set_9 10 rfl rfl)
theorem dX4_set_219 : decode cX4_set 219 = .ok (.return_, 1) := dk_177 (dk_at dksX4_set_9 11 rfl rfl)
abbrev cX4_told : ByteArray := prog_10_method_12_code
def yX4_told : MethodName := ⟨RX4, "told", "(Ljava/util/ArrayList;I)I"⟩
def dkwX4_told_0 : List UInt8 := [42, 43, 28, 182, 0, 114, 62, 42, 182, 0, 63, 29, 172]
abbrev dktX4_told_0 : List UInt8 := dkwX4_told_0 ++ []
theorem dksX4_told_0 : cX4_told.data.toList.drop 0 = dktX4_told_0 := by decide +kernel
theorem dX4_told_0 : decode cX4_told 0 = .ok (.aload_n 0, 1) := dk_42 (dk_at dksX4_told_0 0 rfl rfl)
theorem dX4_told_1 : decode cX4_told 1 = .ok (.aload_n 1, 1) := dk_43 (dk_at dksX4_told_0 1 rfl rfl)
theorem dX4_told_2 : decode cX4_told 2 = .ok (.iload_n 2, 1) := dk_28 (dk_at dksX4_told_0 2 rfl rfl)
theorem dX4_told_3 : decode cX4_told 3 = .ok (.invokevirtual 114, 3) := dk_182 0 114 (dk_at dksX4_told_0 3 rfl rfl)
theorem dX4_told_6 : decode cX4_told 6 = .ok (.istore_n 3, 1) := dk_62 (dk_at dksX4_told_0 6 rfl rfl)
theorem dX4_told_7 : decode cX4_told 7 = .ok (.aload_n 0, 1) := dk_42 (dk_at dksX4_told_0 7 rfl rfl)
theorem dX4_told_8 : decode cX4_told 8 = .ok (.invokevirtual 63, 3) := dk_182 0 63 (dk_at dksX4_told_0 8 rfl rfl)
theorem dX4_told_11 : decode cX4_told 11 = .ok (.iload_n 3, 1) := dk_29 (dk_at dksX4_told_0 11 rfl rfl)
theorem dX4_told_12 : decode cX4_told 12 = .ok (.ireturn, 1) := dk_172 (dk_at dksX4_told_0 12 rfl rfl)
abbrev cX4_known : ByteArray := prog_10_method_11_code
def yX4_known : MethodName := ⟨RX4, "known", "(Ljava/util/ArrayList;I)I"⟩
def dkwX4_known_2 : List UInt8 := [153, 0, 8, 42, 6, 182, 0, 70, 42, 182, 0, 46, 153, 0, 7, 3, 167, 0, 4, 29, 172]
abbrev dktX4_known_2 : List UInt8 := dkwX4_known_2 ++ []
def dkwX4_known_1 : List UInt8 := [184, 0, 106, 62, 29, 2, 160, 0, 11, 42, 5, 182, 0, 70, 167, 0, 16, 28, 29, 184, 0, 110]
abbrev dktX4_known_1 : List UInt8 := dkwX4_known_1 ++ dktX4_known_2
def dkwX4_known_0 : List UInt8 := [42, 180, 0, 38, 182, 0, 99, 154, 0, 8, 42, 4, 182, 0, 70, 43, 42, 180, 0, 38, 180, 0, 102]
abbrev dktX4_known_0 : List UInt8 := dkwX4_known_0 ++ dktX4_known_1
theorem dksX4_known_0 : cX4_known.data.toList.drop 0 = dktX4_known_0 := by decide +kernel
theorem dksX4_known_1 : cX4_known.data.toList.drop 23 = dktX4_known_1 := dk_seg dksX4_known_0 23 rfl rfl
theorem dksX4_known_2 : cX4_known.data.toList.drop 45 = dktX4_known_2 := dk_seg dksX4_known_1 22 rfl rfl
theorem dX4_known_0 : decode cX4_known 0 = .ok (.aload_n 0, 1) := dk_42 (dk_at dksX4_known_0 0 rfl rfl)
theorem dX4_known_1 : decode cX4_known 1 = .ok (.getfield 38, 3) := dk_180 0 38 (dk_at dksX4_known_0 1 rfl rfl)
theorem dX4_known_4 : decode cX4_known 4 = .ok (.invokevirtual 99, 3) := dk_182 0 99 (dk_at dksX4_known_0 4 rfl rfl)
theorem dX4_known_7 : decode cX4_known 7 = .ok (.ifCond .ne 8, 3) := dk_154 0 8 (dk_at dksX4_known_0 7 rfl rfl)
theorem dX4_known_10 : decode cX4_known 10 = .ok (.aload_n 0, 1) := dk_42 (dk_at dksX4_known_0 10 rfl rfl)
theorem dX4_known_11 : decode cX4_known 11 = .ok (.iconst 1, 1) := dk_4 (dk_at dksX4_known_0 11 rfl rfl)
theorem dX4_known_12 : decode cX4_known 12 = .ok (.invokevirtual 70, 3) := dk_182 0 70 (dk_at dksX4_known_0 12 rfl rfl)
theorem dX4_known_15 : decode cX4_known 15 = .ok (.aload_n 1, 1) := dk_43 (dk_at dksX4_known_0 15 rfl rfl)
theorem dX4_known_16 : decode cX4_known 16 = .ok (.aload_n 0, 1) := dk_42 (dk_at dksX4_known_0 16 rfl rfl)
theorem dX4_known_17 : decode cX4_known 17 = .ok (.getfield 38, 3) := dk_180 0 38 (dk_at dksX4_known_0 17 rfl rfl)
theorem dX4_known_20 : decode cX4_known 20 = .ok (.getfield 102, 3) := dk_180 0 102 (dk_at dksX4_known_0 20 rfl rfl)
theorem dX4_known_23 : decode cX4_known 23 = .ok (.invokestatic 106, 3) := dk_184 0 106 (dk_at dksX4_known_1 0 rfl rfl)
theorem dX4_known_26 : decode cX4_known 26 = .ok (.istore_n 3, 1) := dk_62 (dk_at dksX4_known_1 3 rfl rfl)
theorem dX4_known_27 : decode cX4_known 27 = .ok (.iload_n 3, 1) := dk_29 (dk_at dksX4_known_1 4 rfl rfl)
theorem dX4_known_28 : decode cX4_known 28 = .ok (.iconst (-1), 1) := dk_2 (dk_at dksX4_known_1 5 rfl rfl)
theorem dX4_known_29 : decode cX4_known 29 = .ok (.if_icmp .ne 11, 3) := dk_160 0 11 (dk_at dksX4_known_1 6 rfl rfl)
theorem dX4_known_32 : decode cX4_known 32 = .ok (.aload_n 0, 1) := dk_42 (dk_at dksX4_known_1 9 rfl rfl)
theorem dX4_known_33 : decode cX4_known 33 = .ok (.iconst 2, 1) := dk_5 (dk_at dksX4_known_1 10 rfl rfl)
theorem dX4_known_34 : decode cX4_known 34 = .ok (.invokevirtual 70, 3) := dk_182 0 70 (dk_at dksX4_known_1 11 rfl rfl)
theorem dX4_known_37 : decode cX4_known 37 = .ok (.goto 16, 3) := dk_167 0 16 (dk_at dksX4_known_1 14 rfl rfl)
theorem dX4_known_40 : decode cX4_known 40 = .ok (.iload_n 2, 1) := dk_28 (dk_at dksX4_known_1 17 rfl rfl)
theorem dX4_known_41 : decode cX4_known 41 = .ok (.iload_n 3, 1) := dk_29 (dk_at dksX4_known_1 18 rfl rfl)
theorem dX4_known_42 : decode cX4_known 42 = .ok (.invokestatic 110, 3) := dk_184 0 110 (dk_at dksX4_known_1 19 rfl rfl)
theorem dX4_known_45 : decode cX4_known 45 = .ok (.ifCond .eq 8, 3) := dk_153 0 8 (dk_at dksX4_known_2 0 rfl rfl)
theorem dX4_known_48 : decode cX4_known 48 = .ok (.aload_n 0, 1) := dk_42 (dk_at dksX4_known_2 3 rfl rfl)
theorem dX4_known_49 : decode cX4_known 49 = .ok (.iconst 3, 1) := dk_6 (dk_at dksX4_known_2 4 rfl rfl)
theorem dX4_known_50 : decode cX4_known 50 = .ok (.invokevirtual 70, 3) := dk_182 0 70 (dk_at dksX4_known_2 5 rfl rfl)
theorem dX4_known_53 : decode cX4_known 53 = .ok (.aload_n 0, 1) := dk_42 (dk_at dksX4_known_2 8 rfl rfl)
theorem dX4_known_54 : decode cX4_known 54 = .ok (.invokevirtual 46, 3) := dk_182 0 46 (dk_at dksX4_known_2 9 rfl rfl)
theorem dX4_known_57 : decode cX4_known 57 = .ok (.ifCond .eq 7, 3) := dk_153 0 7 (dk_at dksX4_known_2 12 rfl rfl)
theorem dX4_known_60 : decode cX4_known 60 = .ok (.iconst 0, 1) := dk_3 (dk_at dksX4_known_2 15 rfl rfl)
theorem dX4_known_61 : decode cX4_known 61 = .ok (.goto 4, 3) := dk_167 0 4 (dk_at dksX4_known_2 16 rfl rfl)
theorem dX4_known_64 : decode cX4_known 64 = .ok (.iload_n 3, 1) := dk_29 (dk_at dksX4_known_2 19 rfl rfl)
theorem dX4_known_65 : decode cX4_known 65 = .ok (.ireturn, 1) := dk_172 (dk_at dksX4_known_2 20 rfl rfl)
abbrev cX4_needsSign : ByteArray := prog_10_method_7_code
def yX4_needsSign : MethodName := ⟨RX4, "needsSign", "(C)V"⟩
def dkwX4_needsSign_0 : List UInt8 := [42, 180, 0, 38, 27, 182, 0, 59, 154, 0, 8, 42, 4, 182, 0, 70, 42, 182, 0, 63, 177]
abbrev dktX4_needsSign_0 : List UInt8 := dkwX4_needsSign_0 ++ []
theorem dksX4_needsSign_0 : cX4_needsSign.data.toList.drop 0 = dktX4_needsSign_0 := by decide +kernel
theorem dX4_needsSign_0 : decode cX4_needsSign 0 = .ok (.aload_n 0, 1) := dk_42 (dk_at dksX4_needsSign_0 0 rfl rfl)
theorem dX4_needsSign_1 : decode cX4_needsSign 1 = .ok (.getfield 38, 3) := dk_180 0 38 (dk_at dksX4_needsSign_0 1 rfl rfl)
theorem dX4_needsSign_4 : decode cX4_needsSign 4 = .ok (.iload_n 1, 1) := dk_27 (dk_at dksX4_needsSign_0 4 rfl rfl)
theorem dX4_needsSign_5 : decode cX4_needsSign 5 = .ok (.invokevirtual 59, 3) := dk_182 0 59 (dk_at dksX4_needsSign_0 5 rfl rfl)
theorem dX4_needsSign_8 : decode cX4_needsSign 8 = .ok (.ifCond .ne 8, 3) := dk_154 0 8 (dk_at dksX4_needsSign_0 8 rfl rfl)
theorem dX4_needsSign_11 : decode cX4_needsSign 11 = .ok (.aload_n 0, 1) := dk_42 (dk_at dksX4_needsSign_0 11 rfl rfl)
theorem dX4_needsSign_12 : decode cX4_needsSign 12 = .ok (.iconst 1, 1) := dk_4 (dk_at dksX4_needsSign_0 12 rfl rfl)
theorem dX4_needsSign_13 : decode cX4_needsSign 13 = .ok (.invokevirtual 70, 3) := dk_182 0 70 (dk_at dksX4_needsSign_0 13 rfl rfl)
theorem dX4_needsSign_16 : decode cX4_needsSign 16 = .ok (.aload_n 0, 1) := dk_42 (dk_at dksX4_needsSign_0 16 rfl rfl)
theorem dX4_needsSign_17 : decode cX4_needsSign 17 = .ok (.invokevirtual 63, 3) := dk_182 0 63 (dk_at dksX4_needsSign_0 17 rfl rfl)
theorem dX4_needsSign_20 : decode cX4_needsSign 20 = .ok (.return_, 1) := dk_177 (dk_at dksX4_needsSign_0 20 rfl rfl)
abbrev cX4_parity : ByteArray := prog_10_method_18_code
def yX4_parity : MethodName := ⟨RX4, "parity", "()V"⟩
def dkwX4_parity_6 : List UInt8 := [177]
abbrev dktX4_parity_6 : List UInt8 := dkwX4_parity_6 ++ []
def dkwX4_parity_5 : List UInt8 := [180, 0, 215, 187, 0, 223, 89, 27, 28, 153, 0, 7, 4, 167, 0, 4, 3, 183, 0, 225, 182, 0, 175, 87]
abbrev dktX4_parity_5 : List UInt8 := dkwX4_parity_5 ++ dktX4_parity_6
def dkwX4_parity_4 : List UInt8 := [154, 0, 8, 42, 4, 182, 0, 70, 42, 182, 0, 63, 42, 182, 0, 46, 154, 0, 31, 42, 180, 0, 12]
abbrev dktX4_parity_4 : List UInt8 := dkwX4_parity_4 ++ dktX4_parity_5
def dkwX4_parity_3 : List UInt8 := [180, 0, 38, 18, 219, 182, 0, 66, 61, 28, 154, 0, 20, 42, 180, 0, 38, 18, 221, 182, 0, 66]
abbrev dktX4_parity_3 : List UInt8 := dkwX4_parity_3 ++ dktX4_parity_4
def dkwX4_parity_2 : List UInt8 := [180, 0, 25, 27, 182, 0, 185, 120, 128, 60, 132, 2, 1, 167, 255, 224, 42, 18, 218, 182, 0, 168, 42]
abbrev dktX4_parity_2 : List UInt8 := dkwX4_parity_2 ++ dktX4_parity_3
def dkwX4_parity_1 : List UInt8 := [3, 60, 3, 61, 28, 6, 162, 0, 33, 28, 158, 0, 9, 42, 16, 44, 182, 0, 204, 27, 4, 42, 42]
abbrev dktX4_parity_1 : List UInt8 := dkwX4_parity_1 ++ dktX4_parity_2
def dkwX4_parity_0 : List UInt8 := [42, 180, 0, 12, 180, 0, 215, 182, 0, 85, 16, 8, 160, 0, 8, 42, 8, 182, 0, 70, 42, 182, 0, 63]
abbrev dktX4_parity_0 : List UInt8 := dkwX4_parity_0 ++ dktX4_parity_1
theorem dksX4_parity_0 : cX4_parity.data.toList.drop 0 = dktX4_parity_0 := by decide +kernel
theorem dksX4_parity_1 : cX4_parity.data.toList.drop 24 = dktX4_parity_1 := dk_seg dksX4_parity_0 24 rfl rfl
theorem dksX4_parity_2 : cX4_parity.data.toList.drop 47 = dktX4_parity_2 := dk_seg dksX4_parity_1 23 rfl rfl
theorem dksX4_parity_3 : cX4_parity.data.toList.drop 70 = dktX4_parity_3 := dk_seg dksX4_parity_2 23 rfl rfl
theorem dksX4_parity_4 : cX4_parity.data.toList.drop 92 = dktX4_parity_4 := dk_seg dksX4_parity_3 22 rfl rfl
theorem dksX4_parity_5 : cX4_parity.data.toList.drop 115 = dktX4_parity_5 := dk_seg dksX4_parity_4 23 rfl rfl
theorem dksX4_parity_6 : cX4_parity.data.toList.drop 139 = dktX4_parity_6 := dk_seg dksX4_parity_5 24 rfl rfl
theorem dX4_parity_0 : decode cX4_parity 0 = .ok (.aload_n 0, 1) := dk_42 (dk_at dksX4_parity_0 0 rfl rfl)
theorem dX4_parity_1 : decode cX4_parity 1 = .ok (.getfield 12, 3) := dk_180 0 12 (dk_at dksX4_parity_0 1 rfl rfl)
theorem dX4_parity_4 : decode cX4_parity 4 = .ok (.getfield 215, 3) := dk_180 0 215 (dk_at dksX4_parity_0 4 rfl rfl)
theorem dX4_parity_7 : decode cX4_parity 7 = .ok (.invokevirtual 85, 3) := dk_182 0 85 (dk_at dksX4_parity_0 7 rfl rfl)
theorem dX4_parity_10 : decode cX4_parity 10 = .ok (.bipush 8, 2) := dk_16 8 (dk_at dksX4_parity_0 10 rfl rfl)
theorem dX4_parity_12 : decode cX4_parity 12 = .ok (.if_icmp .ne 8, 3) := dk_160 0 8 (dk_at dksX4_parity_0 12 rfl rfl)
theorem dX4_parity_15 : decode cX4_parity 15 = .ok (.aload_n 0, 1) := dk_42 (dk_at dksX4_parity_0 15 rfl rfl)
theorem dX4_parity_16 : decode cX4_parity 16 = .ok (.iconst 5, 1) := dk_8 (dk_at dksX4_parity_0 16 rfl rfl)
theorem dX4_parity_17 : decode cX4_parity 17 = .ok (.invokevirtual 70, 3) := dk_182 0 70 (dk_at dksX4_parity_0 17 rfl rfl)
theorem dX4_parity_20 : decode cX4_parity 20 = .ok (.aload_n 0, 1) := dk_42 (dk_at dksX4_parity_0 20 rfl rfl)
theorem dX4_parity_21 : decode cX4_parity 21 = .ok (.invokevirtual 63, 3) := dk_182 0 63 (dk_at dksX4_parity_0 21 rfl rfl)
theorem dX4_parity_24 : decode cX4_parity 24 = .ok (.iconst 0, 1) := dk_3 (dk_at dksX4_parity_1 0 rfl rfl)
theorem dX4_parity_25 : decode cX4_parity 25 = .ok (.istore_n 1, 1) := dk_60 (dk_at dksX4_parity_1 1 rfl rfl)
theorem dX4_parity_26 : decode cX4_parity 26 = .ok (.iconst 0, 1) := dk_3 (dk_at dksX4_parity_1 2 rfl rfl)
theorem dX4_parity_27 : decode cX4_parity 27 = .ok (.istore_n 2, 1) := dk_61 (dk_at dksX4_parity_1 3 rfl rfl)
theorem dX4_parity_28 : decode cX4_parity 28 = .ok (.iload_n 2, 1) := dk_28 (dk_at dksX4_parity_1 4 rfl rfl)
theorem dX4_parity_29 : decode cX4_parity 29 = .ok (.iconst 3, 1) := dk_6 (dk_at dksX4_parity_1 5 rfl rfl)
theorem dX4_parity_30 : decode cX4_parity 30 = .ok (.if_icmp .ge 33, 3) := dk_162 0 33 (dk_at dksX4_parity_1 6 rfl rfl)
theorem dX4_parity_33 : decode cX4_parity 33 = .ok (.iload_n 2, 1) := dk_28 (dk_at dksX4_parity_1 9 rfl rfl)
theorem dX4_parity_34 : decode cX4_parity 34 = .ok (.ifCond .le 9, 3) := dk_158 0 9 (dk_at dksX4_parity_1 10 rfl rfl)
theorem dX4_parity_37 : decode cX4_parity 37 = .ok (.aload_n 0, 1) := dk_42 (dk_at dksX4_parity_1 13 rfl rfl)
theorem dX4_parity_38 : decode cX4_parity 38 = .ok (.bipush 44, 2) := dk_16 44 (dk_at dksX4_parity_1 14 rfl rfl)
theorem dX4_parity_40 : decode cX4_parity 40 = .ok (.invokevirtual 204, 3) := dk_182 0 204 (dk_at dksX4_parity_1 16 rfl rfl)
theorem dX4_parity_43 : decode cX4_parity 43 = .ok (.iload_n 1, 1) := dk_27 (dk_at dksX4_parity_1 19 rfl rfl)
theorem dX4_parity_44 : decode cX4_parity 44 = .ok (.iconst 1, 1) := dk_4 (dk_at dksX4_parity_1 20 rfl rfl)
theorem dX4_parity_45 : decode cX4_parity 45 = .ok (.aload_n 0, 1) := dk_42 (dk_at dksX4_parity_1 21 rfl rfl)
theorem dX4_parity_46 : decode cX4_parity 46 = .ok (.aload_n 0, 1) := dk_42 (dk_at dksX4_parity_1 22 rfl rfl)
theorem dX4_parity_47 : decode cX4_parity 47 = .ok (.getfield 25, 3) := dk_180 0 25 (dk_at dksX4_parity_2 0 rfl rfl)
theorem dX4_parity_50 : decode cX4_parity 50 = .ok (.iload_n 1, 1) := dk_27 (dk_at dksX4_parity_2 3 rfl rfl)
theorem dX4_parity_51 : decode cX4_parity 51 = .ok (.invokevirtual 185, 3) := dk_182 0 185 (dk_at dksX4_parity_2 4 rfl rfl)
theorem dX4_parity_54 : decode cX4_parity 54 = .ok (.ishl, 1) := dk_120 (dk_at dksX4_parity_2 7 rfl rfl)
theorem dX4_parity_55 : decode cX4_parity 55 = .ok (.ior, 1) := dk_128 (dk_at dksX4_parity_2 8 rfl rfl)
theorem dX4_parity_56 : decode cX4_parity 56 = .ok (.istore_n 1, 1) := dk_60 (dk_at dksX4_parity_2 9 rfl rfl)
theorem dX4_parity_57 : decode cX4_parity 57 = .ok (.iinc 2 1, 3) := dk_132 2 1 (dk_at dksX4_parity_2 10 rfl rfl)
theorem dX4_parity_60 : decode cX4_parity 60 = .ok (.goto (-32), 3) := dk_167 255 224 (dk_at dksX4_parity_2 13 rfl rfl)
theorem dX4_parity_63 : decode cX4_parity 63 = .ok (.aload_n 0, 1) := dk_42 (dk_at dksX4_parity_2 16 rfl rfl)
theorem dX4_parity_64 : decode cX4_parity 64 = .ok (.ldc 218, 2) := dk_18 218 (dk_at dksX4_parity_2 17 rfl rfl)
theorem dX4_parity_66 : decode cX4_parity 66 = .ok (.invokevirtual 168, 3) := dk_182 0 168 (dk_at dksX4_parity_2 19 rfl rfl)
theorem dX4_parity_69 : decode cX4_parity 69 = .ok (.aload_n 0, 1) := dk_42 (dk_at dksX4_parity_2 22 rfl rfl)
theorem dX4_parity_70 : decode cX4_parity 70 = .ok (.getfield 38, 3) := dk_180 0 38 (dk_at dksX4_parity_3 0 rfl rfl)
theorem dX4_parity_73 : decode cX4_parity 73 = .ok (.ldc 219, 2) := dk_18 219 (dk_at dksX4_parity_3 3 rfl rfl)
theorem dX4_parity_75 : decode cX4_parity 75 = .ok (.invokevirtual 66, 3) := dk_182 0 66 (dk_at dksX4_parity_3 5 rfl rfl)
theorem dX4_parity_78 : decode cX4_parity 78 = .ok (.istore_n 2, 1) := dk_61 (dk_at dksX4_parity_3 8 rfl rfl)
theorem dX4_parity_79 : decode cX4_parity 79 = .ok (.iload_n 2, 1) := dk_28 (dk_at dksX4_parity_3 9 rfl rfl)
theorem dX4_parity_80 : decode cX4_parity 80 = .ok (.ifCond .ne 20, 3) := dk_154 0 20 (dk_at dksX4_parity_3 10 rfl rfl)
theorem dX4_parity_83 : decode cX4_parity 83 = .ok (.aload_n 0, 1) := dk_42 (dk_at dksX4_parity_3 13 rfl rfl)
theorem dX4_parity_84 : decode cX4_parity 84 = .ok (.getfield 38, 3) := dk_180 0 38 (dk_at dksX4_parity_3 14 rfl rfl)
theorem dX4_parity_87 : decode cX4_parity 87 = .ok (.ldc 221, 2) := dk_18 221 (dk_at dksX4_parity_3 17 rfl rfl)
theorem dX4_parity_89 : decode cX4_parity 89 = .ok (.invokevirtual 66, 3) := dk_182 0 66 (dk_at dksX4_parity_3 19 rfl rfl)
theorem dX4_parity_92 : decode cX4_parity 92 = .ok (.ifCond .ne 8, 3) := dk_154 0 8 (dk_at dksX4_parity_4 0 rfl rfl)
theorem dX4_parity_95 : decode cX4_parity 95 = .ok (.aload_n 0, 1) := dk_42 (dk_at dksX4_parity_4 3 rfl rfl)
theorem dX4_parity_96 : decode cX4_parity 96 = .ok (.iconst 1, 1) := dk_4 (dk_at dksX4_parity_4 4 rfl rfl)
theorem dX4_parity_97 : decode cX4_parity 97 = .ok (.invokevirtual 70, 3) := dk_182 0 70 (dk_at dksX4_parity_4 5 rfl rfl)
theorem dX4_parity_100 : decode cX4_parity 100 = .ok (.aload_n 0, 1) := dk_42 (dk_at dksX4_parity_4 8 rfl rfl)
theorem dX4_parity_101 : decode cX4_parity 101 = .ok (.invokevirtual 63, 3) := dk_182 0 63 (dk_at dksX4_parity_4 9 rfl rfl)
theorem dX4_parity_104 : decode cX4_parity 104 = .ok (.aload_n 0, 1) := dk_42 (dk_at dksX4_parity_4 12 rfl rfl)
theorem dX4_parity_105 : decode cX4_parity 105 = .ok (.invokevirtual 46, 3) := dk_182 0 46 (dk_at dksX4_parity_4 13 rfl rfl)
theorem dX4_parity_108 : decode cX4_parity 108 = .ok (.ifCond .ne 31, 3) := dk_154 0 31 (dk_at dksX4_parity_4 16 rfl rfl)
theorem dX4_parity_111 : decode cX4_parity 111 = .ok (.aload_n 0, 1) := dk_42 (dk_at dksX4_parity_4 19 rfl rfl)
theorem dX4_parity_112 : decode cX4_parity 112 = .ok (.getfield 12, 3) := dk_180 0 12 (dk_at dksX4_parity_4 20 rfl rfl)
theorem dX4_parity_115 : decode cX4_parity 115 = .ok (.getfield 215, 3) := dk_180 0 215 (dk_at dksX4_parity_5 0 rfl rfl)
theorem dX4_parity_118 : decode cX4_parity 118 = .ok (.new 223, 3) := dk_187 0 223 (dk_at dksX4_parity_5 3 rfl rfl)
theorem dX4_parity_121 : decode cX4_parity 121 = .ok (.dup, 1) := dk_89 (dk_at dksX4_parity_5 6 rfl rfl)
theorem dX4_parity_122 : decode cX4_parity 122 = .ok (.iload_n 1, 1) := dk_27 (dk_at dksX4_parity_5 7 rfl rfl)
theorem dX4_parity_123 : decode cX4_parity 123 = .ok (.iload_n 2, 1) := dk_28 (dk_at dksX4_parity_5 8 rfl rfl)
theorem dX4_parity_124 : decode cX4_parity 124 = .ok (.ifCond .eq 7, 3) := dk_153 0 7 (dk_at dksX4_parity_5 9 rfl rfl)
theorem dX4_parity_127 : decode cX4_parity 127 = .ok (.iconst 1, 1) := dk_4 (dk_at dksX4_parity_5 12 rfl rfl)
theorem dX4_parity_128 : decode cX4_parity 128 = .ok (.goto 4, 3) := dk_167 0 4 (dk_at dksX4_parity_5 13 rfl rfl)
theorem dX4_parity_131 : decode cX4_parity 131 = .ok (.iconst 0, 1) := dk_3 (dk_at dksX4_parity_5 16 rfl rfl)
theorem dX4_parity_132 : decode cX4_parity 132 = .ok (.invokespecial 225, 3) := dk_183 0 225 (dk_at dksX4_parity_5 17 rfl rfl)
theorem dX4_parity_135 : decode cX4_parity 135 = .ok (.invokevirtual 175, 3) := dk_182 0 175 (dk_at dksX4_parity_5 20 rfl rfl)
theorem dX4_parity_138 : decode cX4_parity 138 = .ok (.pop, 1) := dk_87 (dk_at dksX4_parity_5 23 rfl rfl)
theorem dX4_parity_139 : decode cX4_parity 139 = .ok (.return_, 1) := dk_177 (dk_at dksX4_parity_6 0 rfl rfl)
abbrev cX4_ray : ByteArray := prog_10_method_19_code
def yX4_ray : MethodName := ⟨RX4, "ray", "()V"⟩
def dkwX4_ray_6 : List UInt8 := [182, 0, 175, 87, 177]
abbrev dktX4_ray_6 : List UInt8 := dkwX4_ray_6 ++ []
def dkwX4_ray_5 : List UInt8 := [21, 5, 79, 132, 3, 1, 167, 255, 170, 42, 182, 0, 46, 154, 0, 15, 42, 180, 0, 12, 180, 0, 226, 43]
abbrev dktX4_ray_5 : List UInt8 := dkwX4_ray_5 ++ dktX4_ray_6
def dkwX4_ray_4 : List UInt8 := [182, 0, 70, 42, 182, 0, 63, 43, 180, 0, 232, 29, 21, 4, 153, 0, 9, 21, 5, 116, 167, 0, 5]
abbrev dktX4_ray_4 : List UInt8 := dkwX4_ray_4 ++ dktX4_ray_5
def dkwX4_ray_3 : List UInt8 := [21, 5, 158, 0, 7, 4, 167, 0, 4, 3, 61, 29, 6, 160, 0, 12, 28, 154, 0, 8, 42, 7]
abbrev dktX4_ray_3 : List UInt8 := dkwX4_ray_3 ++ dktX4_ray_4
def dkwX4_ray_2 : List UInt8 := [182, 0, 204, 42, 16, 45, 182, 0, 121, 54, 4, 42, 3, 6, 182, 0, 81, 54, 5, 28, 154, 0, 8]
abbrev dktX4_ray_2 : List UInt8 := dkwX4_ray_2 ++ dktX4_ray_3
def dkwX4_ray_1 : List UInt8 := [187, 0, 229, 89, 183, 0, 231, 76, 3, 61, 3, 62, 29, 7, 162, 0, 87, 29, 158, 0, 9, 42, 16, 44]
abbrev dktX4_ray_1 : List UInt8 := dkwX4_ray_1 ++ dktX4_ray_2
def dkwX4_ray_0 : List UInt8 := [42, 180, 0, 12, 180, 0, 226, 182, 0, 85, 16, 18, 160, 0, 8, 42, 8, 182, 0, 70, 42, 182, 0, 63]
abbrev dktX4_ray_0 : List UInt8 := dkwX4_ray_0 ++ dktX4_ray_1
theorem dksX4_ray_0 : cX4_ray.data.toList.drop 0 = dktX4_ray_0 := by decide +kernel
theorem dksX4_ray_1 : cX4_ray.data.toList.drop 24 = dktX4_ray_1 := dk_seg dksX4_ray_0 24 rfl rfl
theorem dksX4_ray_2 : cX4_ray.data.toList.drop 48 = dktX4_ray_2 := dk_seg dksX4_ray_1 24 rfl rfl
theorem dksX4_ray_3 : cX4_ray.data.toList.drop 71 = dktX4_ray_3 := dk_seg dksX4_ray_2 23 rfl rfl
theorem dksX4_ray_4 : cX4_ray.data.toList.drop 93 = dktX4_ray_4 := dk_seg dksX4_ray_3 22 rfl rfl
theorem dksX4_ray_5 : cX4_ray.data.toList.drop 116 = dktX4_ray_5 := dk_seg dksX4_ray_4 23 rfl rfl
theorem dksX4_ray_6 : cX4_ray.data.toList.drop 140 = dktX4_ray_6 := dk_seg dksX4_ray_5 24 rfl rfl
theorem dX4_ray_0 : decode cX4_ray 0 = .ok (.aload_n 0, 1) := dk_42 (dk_at dksX4_ray_0 0 rfl rfl)
theorem dX4_ray_1 : decode cX4_ray 1 = .ok (.getfield 12, 3) := dk_180 0 12 (dk_at dksX4_ray_0 1 rfl rfl)
theorem dX4_ray_4 : decode cX4_ray 4 = .ok (.getfield 226, 3) := dk_180 0 226 (dk_at dksX4_ray_0 4 rfl rfl)
theorem dX4_ray_7 : decode cX4_ray 7 = .ok (.invokevirtual 85, 3) := dk_182 0 85 (dk_at dksX4_ray_0 7 rfl rfl)
theorem dX4_ray_10 : decode cX4_ray 10 = .ok (.bipush 18, 2) := dk_16 18 (dk_at dksX4_ray_0 10 rfl rfl)
theorem dX4_ray_12 : decode cX4_ray 12 = .ok (.if_icmp .ne 8, 3) := dk_160 0 8 (dk_at dksX4_ray_0 12 rfl rfl)
theorem dX4_ray_15 : decode cX4_ray 15 = .ok (.aload_n 0, 1) := dk_42 (dk_at dksX4_ray_0 15 rfl rfl)
theorem dX4_ray_16 : decode cX4_ray 16 = .ok (.iconst 5, 1) := dk_8 (dk_at dksX4_ray_0 16 rfl rfl)
theorem dX4_ray_17 : decode cX4_ray 17 = .ok (.invokevirtual 70, 3) := dk_182 0 70 (dk_at dksX4_ray_0 17 rfl rfl)
theorem dX4_ray_20 : decode cX4_ray 20 = .ok (.aload_n 0, 1) := dk_42 (dk_at dksX4_ray_0 20 rfl rfl)
theorem dX4_ray_21 : decode cX4_ray 21 = .ok (.invokevirtual 63, 3) := dk_182 0 63 (dk_at dksX4_ray_0 21 rfl rfl)
theorem dX4_ray_24 : decode cX4_ray 24 = .ok (.new 229, 3) := dk_187 0 229 (dk_at dksX4_ray_1 0 rfl rfl)
theorem dX4_ray_27 : decode cX4_ray 27 = .ok (.dup, 1) := dk_89 (dk_at dksX4_ray_1 3 rfl rfl)
theorem dX4_ray_28 : decode cX4_ray 28 = .ok (.invokespecial 231, 3) := dk_183 0 231 (dk_at dksX4_ray_1 4 rfl rfl)
theorem dX4_ray_31 : decode cX4_ray 31 = .ok (.astore_n 1, 1) := dk_76 (dk_at dksX4_ray_1 7 rfl rfl)
theorem dX4_ray_32 : decode cX4_ray 32 = .ok (.iconst 0, 1) := dk_3 (dk_at dksX4_ray_1 8 rfl rfl)
theorem dX4_ray_33 : decode cX4_ray 33 = .ok (.istore_n 2, 1) := dk_61 (dk_at dksX4_ray_1 9 rfl rfl)
theorem dX4_ray_34 : decode cX4_ray 34 = .ok (.iconst 0, 1) := dk_3 (dk_at dksX4_ray_1 10 rfl rfl)
theorem dX4_ray_35 : decode cX4_ray 35 = .ok (.istore_n 3, 1) := dk_62 (dk_at dksX4_ray_1 11 rfl rfl)
theorem dX4_ray_36 : decode cX4_ray 36 = .ok (.iload_n 3, 1) := dk_29 (dk_at dksX4_ray_1 12 rfl rfl)
theorem dX4_ray_37 : decode cX4_ray 37 = .ok (.iconst 4, 1) := dk_7 (dk_at dksX4_ray_1 13 rfl rfl)
theorem dX4_ray_38 : decode cX4_ray 38 = .ok (.if_icmp .ge 87, 3) := dk_162 0 87 (dk_at dksX4_ray_1 14 rfl rfl)
theorem dX4_ray_41 : decode cX4_ray 41 = .ok (.iload_n 3, 1) := dk_29 (dk_at dksX4_ray_1 17 rfl rfl)
theorem dX4_ray_42 : decode cX4_ray 42 = .ok (.ifCond .le 9, 3) := dk_158 0 9 (dk_at dksX4_ray_1 18 rfl rfl)
theorem dX4_ray_45 : decode cX4_ray 45 = .ok (.aload_n 0, 1) := dk_42 (dk_at dksX4_ray_1 21 rfl rfl)
theorem dX4_ray_46 : decode cX4_ray 46 = .ok (.bipush 44, 2) := dk_16 44 (dk_at dksX4_ray_1 22 rfl rfl)
theorem dX4_ray_48 : decode cX4_ray 48 = .ok (.invokevirtual 204, 3) := dk_182 0 204 (dk_at dksX4_ray_2 0 rfl rfl)
theorem dX4_ray_51 : decode cX4_ray 51 = .ok (.aload_n 0, 1) := dk_42 (dk_at dksX4_ray_2 3 rfl rfl)
theorem dX4_ray_52 : decode cX4_ray 52 = .ok (.bipush 45, 2) := dk_16 45 (dk_at dksX4_ray_2 4 rfl rfl)
theorem dX4_ray_54 : decode cX4_ray 54 = .ok (.invokevirtual 121, 3) := dk_182 0 121 (dk_at dksX4_ray_2 6 rfl rfl)
theorem dX4_ray_57 : decode cX4_ray 57 = .ok (.istore 4, 2) := dk_54 4 (dk_at dksX4_ray_2 9 rfl rfl)
theorem dX4_ray_59 : decode cX4_ray 59 = .ok (.aload_n 0, 1) := dk_42 (dk_at dksX4_ray_2 11 rfl rfl)
theorem dX4_ray_60 : decode cX4_ray 60 = .ok (.iconst 0, 1) := dk_3 (dk_at dksX4_ray_2 12 rfl rfl)
theorem dX4_ray_61 : decode cX4_ray 61 = .ok (.iconst 3, 1) := dk_6 (dk_at dksX4_ray_2 13 rfl rfl)
theorem dX4_ray_62 : decode cX4_ray 62 = .ok (.invokevirtual 81, 3) := dk_182 0 81 (dk_at dksX4_ray_2 14 rfl rfl)
theorem dX4_ray_65 : decode cX4_ray 65 = .ok (.istore 5, 2) := dk_54 5 (dk_at dksX4_ray_2 17 rfl rfl)
theorem dX4_ray_67 : decode cX4_ray 67 = .ok (.iload_n 2, 1) := dk_28 (dk_at dksX4_ray_2 19 rfl rfl)
theorem dX4_ray_68 : decode cX4_ray 68 = .ok (.ifCond .ne 8, 3) := dk_154 0 8 (dk_at dksX4_ray_2 20 rfl rfl)
theorem dX4_ray_71 : decode cX4_ray 71 = .ok (.iload 5, 2) := dk_21 5 (dk_at dksX4_ray_3 0 rfl rfl)
theorem dX4_ray_73 : decode cX4_ray 73 = .ok (.ifCond .le 7, 3) := dk_158 0 7 (dk_at dksX4_ray_3 2 rfl rfl)
theorem dX4_ray_76 : decode cX4_ray 76 = .ok (.iconst 1, 1) := dk_4 (dk_at dksX4_ray_3 5 rfl rfl)
theorem dX4_ray_77 : decode cX4_ray 77 = .ok (.goto 4, 3) := dk_167 0 4 (dk_at dksX4_ray_3 6 rfl rfl)
theorem dX4_ray_80 : decode cX4_ray 80 = .ok (.iconst 0, 1) := dk_3 (dk_at dksX4_ray_3 9 rfl rfl)
theorem dX4_ray_81 : decode cX4_ray 81 = .ok (.istore_n 2, 1) := dk_61 (dk_at dksX4_ray_3 10 rfl rfl)
theorem dX4_ray_82 : decode cX4_ray 82 = .ok (.iload_n 3, 1) := dk_29 (dk_at dksX4_ray_3 11 rfl rfl)
theorem dX4_ray_83 : decode cX4_ray 83 = .ok (.iconst 3, 1) := dk_6 (dk_at dksX4_ray_3 12 rfl rfl)
theorem dX4_ray_84 : decode cX4_ray 84 = .ok (.if_icmp .ne 12, 3) := dk_160 0 12 (dk_at dksX4_ray_3 13 rfl rfl)
theorem dX4_ray_87 : decode cX4_ray 87 = .ok (.iload_n 2, 1) := dk_28 (dk_at dksX4_ray_3 16 rfl rfl)
theorem dX4_ray_88 : decode cX4_ray 88 = .ok (.ifCond .ne 8, 3) := dk_154 0 8 (dk_at dksX4_ray_3 17 rfl rfl)
theorem dX4_ray_91 : decode cX4_ray 91 = .ok (.aload_n 0, 1) := dk_42 (dk_at dksX4_ray_3 20 rfl rfl)
theorem dX4_ray_92 : decode cX4_ray 92 = .ok (.iconst 4, 1) := dk_7 (dk_at dksX4_ray_3 21 rfl rfl)
theorem dX4_ray_93 : decode cX4_ray 93 = .ok (.invokevirtual 70, 3) := dk_182 0 70 (dk_at dksX4_ray_4 0 rfl rfl)
theorem dX4_ray_96 : decode cX4_ray 96 = .ok (.aload_n 0, 1) := dk_42 (dk_at dksX4_ray_4 3 rfl rfl)
theorem dX4_ray_97 : decode cX4_ray 97 = .ok (.invokevirtual 63, 3) := dk_182 0 63 (dk_at dksX4_ray_4 4 rfl rfl)
theorem dX4_ray_100 : decode cX4_ray 100 = .ok (.aload_n 1, 1) := dk_43 (dk_at dksX4_ray_4 7 rfl rfl)
theorem dX4_ray_101 : decode cX4_ray 101 = .ok (.getfield 232, 3) := dk_180 0 232 (dk_at dksX4_ray_4 8 rfl rfl)
theorem dX4_ray_104 : decode cX4_ray 104 = .ok (.iload_n 3, 1) := dk_29 (dk_at dksX4_ray_4 11 rfl rfl)
theorem dX4_ray_105 : decode cX4_ray 105 = .ok (.iload 4, 2) := dk_21 4 (dk_at dksX4_ray_4 12 rfl rfl)
theorem dX4_ray_107 : decode cX4_ray 107 = .ok (.ifCond .eq 9, 3) := dk_153 0 9 (dk_at dksX4_ray_4 14 rfl rfl)
theorem dX4_ray_110 : decode cX4_ray 110 = .ok (.iload 5, 2) := dk_21 5 (dk_at dksX4_ray_4 17 rfl rfl)
theorem dX4_ray_112 : decode cX4_ray 112 = .ok (.ineg, 1) := dk_116 (dk_at dksX4_ray_4 19 rfl rfl)
theorem dX4_ray_113 : decode cX4_ray 113 = .ok (.goto 5, 3) := dk_167 0 5 (dk_at dksX4_ray_4 20 rfl rfl)
theorem dX4_ray_116 : decode cX4_ray 116 = .ok (.iload 5, 2) := dk_21 5 (dk_at dksX4_ray_5 0 rfl rfl)
theorem dX4_ray_118 : decode cX4_ray 118 = .ok (.iastore, 1) := dk_79 (dk_at dksX4_ray_5 2 rfl rfl)
theorem dX4_ray_119 : decode cX4_ray 119 = .ok (.iinc 3 1, 3) := dk_132 3 1 (dk_at dksX4_ray_5 3 rfl rfl)
theorem dX4_ray_122 : decode cX4_ray 122 = .ok (.goto (-86), 3) := dk_167 255 170 (dk_at dksX4_ray_5 6 rfl rfl)
theorem dX4_ray_125 : decode cX4_ray 125 = .ok (.aload_n 0, 1) := dk_42 (dk_at dksX4_ray_5 9 rfl rfl)
theorem dX4_ray_126 : decode cX4_ray 126 = .ok (.invokevirtual 46, 3) := dk_182 0 46 (dk_at dksX4_ray_5 10 rfl rfl)
theorem dX4_ray_129 : decode cX4_ray 129 = .ok (.ifCond .ne 15, 3) := dk_154 0 15 (dk_at dksX4_ray_5 13 rfl rfl)
theorem dX4_ray_132 : decode cX4_ray 132 = .ok (.aload_n 0, 1) := dk_42 (dk_at dksX4_ray_5 16 rfl rfl)
theorem dX4_ray_133 : decode cX4_ray 133 = .ok (.getfield 12, 3) := dk_180 0 12 (dk_at dksX4_ray_5 17 rfl rfl)
theorem dX4_ray_136 : decode cX4_ray 136 = .ok (.getfield 226, 3) := dk_180 0 226 (dk_at dksX4_ray_5 20 rfl rfl)
theorem dX4_ray_139 : decode cX4_ray 139 = .ok (.aload_n 1, 1) := dk_43 (dk_at dksX4_ray_5 23 rfl rfl)
theorem dX4_ray_140 : decode cX4_ray 140 = .ok (.invokevirtual 175, 3) := dk_182 0 175 (dk_at dksX4_ray_6 0 rfl rfl)
theorem dX4_ray_143 : decode cX4_ray 143 = .ok (.pop, 1) := dk_87 (dk_at dksX4_ray_6 3 rfl rfl)
theorem dX4_ray_144 : decode cX4_ray 144 = .ok (.return_, 1) := dk_177 (dk_at dksX4_ray_6 4 rfl rfl)
abbrev cX4_run : ByteArray := prog_10_method_20_code
def yX4_run : MethodName := ⟨RX4, "run", "()V"⟩
def dkwX4_run_5 : List UInt8 := [180, 0, 235, 43, 182, 0, 175, 87, 177]
abbrev dktX4_run_5 : List UInt8 := dkwX4_run_5 ++ []
def dkwX4_run_4 : List UInt8 := [43, 89, 180, 0, 241, 4, 96, 181, 0, 241, 42, 16, 44, 182, 0, 121, 154, 255, 177, 42, 180, 0, 12]
abbrev dktX4_run_4 : List UInt8 := dkwX4_run_4 ++ dktX4_run_5
def dkwX4_run_3 : List UInt8 := [153, 0, 4, 177, 43, 180, 0, 244, 43, 180, 0, 241, 28, 79, 43, 180, 0, 246, 43, 180, 0, 241, 29, 79]
abbrev dktX4_run_3 : List UInt8 := dkwX4_run_3 ++ dktX4_run_4
def dkwX4_run_2 : List UInt8 := [160, 0, 8, 42, 8, 182, 0, 70, 42, 182, 0, 63, 42, 3, 4, 182, 0, 172, 62, 42, 182, 0, 46]
abbrev dktX4_run_2 : List UInt8 := dkwX4_run_2 ++ dktX4_run_3
def dkwX4_run_1 : List UInt8 := [187, 0, 238, 89, 183, 0, 240, 76, 42, 42, 180, 0, 21, 3, 182, 0, 114, 61, 43, 180, 0, 241, 16, 6]
abbrev dktX4_run_1 : List UInt8 := dkwX4_run_1 ++ dktX4_run_2
def dkwX4_run_0 : List UInt8 := [42, 180, 0, 12, 180, 0, 235, 182, 0, 85, 7, 160, 0, 8, 42, 8, 182, 0, 70, 42, 182, 0, 63]
abbrev dktX4_run_0 : List UInt8 := dkwX4_run_0 ++ dktX4_run_1
theorem dksX4_run_0 : cX4_run.data.toList.drop 0 = dktX4_run_0 := by decide +kernel
theorem dksX4_run_1 : cX4_run.data.toList.drop 23 = dktX4_run_1 := dk_seg dksX4_run_0 23 rfl rfl
theorem dksX4_run_2 : cX4_run.data.toList.drop 47 = dktX4_run_2 := dk_seg dksX4_run_1 24 rfl rfl
theorem dksX4_run_3 : cX4_run.data.toList.drop 70 = dktX4_run_3 := dk_seg dksX4_run_2 23 rfl rfl
theorem dksX4_run_4 : cX4_run.data.toList.drop 94 = dktX4_run_4 := dk_seg dksX4_run_3 24 rfl rfl
theorem dksX4_run_5 : cX4_run.data.toList.drop 117 = dktX4_run_5 := dk_seg dksX4_run_4 23 rfl rfl
theorem dX4_run_0 : decode cX4_run 0 = .ok (.aload_n 0, 1) := dk_42 (dk_at dksX4_run_0 0 rfl rfl)
theorem dX4_run_1 : decode cX4_run 1 = .ok (.getfield 12, 3) := dk_180 0 12 (dk_at dksX4_run_0 1 rfl rfl)
theorem dX4_run_4 : decode cX4_run 4 = .ok (.getfield 235, 3) := dk_180 0 235 (dk_at dksX4_run_0 4 rfl rfl)
theorem dX4_run_7 : decode cX4_run 7 = .ok (.invokevirtual 85, 3) := dk_182 0 85 (dk_at dksX4_run_0 7 rfl rfl)
theorem dX4_run_10 : decode cX4_run 10 = .ok (.iconst 4, 1) := dk_7 (dk_at dksX4_run_0 10 rfl rfl)
theorem dX4_run_11 : decode cX4_run 11 = .ok (.if_icmp .ne 8, 3) := dk_160 0 8 (dk_at dksX4_run_0 11 rfl rfl)
theorem dX4_run_14 : decode cX4_run 14 = .ok (.aload_n 0, 1) := dk_42 (dk_at dksX4_run_0 14 rfl rfl)
theorem dX4_run_15 : decode cX4_run 15 = .ok (.iconst 5, 1) := dk_8 (dk_at dksX4_run_0 15 rfl rfl)
theorem dX4_run_16 : decode cX4_run 16 = .ok (.invokevirtual 70, 3) := dk_182 0 70 (dk_at dksX4_run_0 16 rfl rfl)
theorem dX4_run_19 : decode cX4_run 19 = .ok (.aload_n 0, 1) := dk_42 (dk_at dksX4_run_0 19 rfl rfl)
theorem dX4_run_20 : decode cX4_run 20 = .ok (.invokevirtual 63, 3) := dk_182 0 63 (dk_at dksX4_run_0 20 rfl rfl)
theorem dX4_run_23 : decode cX4_run 23 = .ok (.new 238, 3) := dk_187 0 238 (dk_at dksX4_run_1 0 rfl rfl)
theorem dX4_run_26 : decode cX4_run 26 = .ok (.dup, 1) := dk_89 (dk_at dksX4_run_1 3 rfl rfl)
theorem dX4_run_27 : decode cX4_run 27 = .ok (.invokespecial 240, 3) := dk_183 0 240 (dk_at dksX4_run_1 4 rfl rfl)
theorem dX4_run_30 : decode cX4_run 30 = .ok (.astore_n 1, 1) := dk_76 (dk_at dksX4_run_1 7 rfl rfl)
theorem dX4_run_31 : decode cX4_run 31 = .ok (.aload_n 0, 1) := dk_42 (dk_at dksX4_run_1 8 rfl rfl)
theorem dX4_run_32 : decode cX4_run 32 = .ok (.aload_n 0, 1) := dk_42 (dk_at dksX4_run_1 9 rfl rfl)
theorem dX4_run_33 : decode cX4_run 33 = .ok (.getfield 21, 3) := dk_180 0 21 (dk_at dksX4_run_1 10 rfl rfl)
theorem dX4_run_36 : decode cX4_run 36 = .ok (.iconst 0, 1) := dk_3 (dk_at dksX4_run_1 13 rfl rfl)
theorem dX4_run_37 : decode cX4_run 37 = .ok (.invokevirtual 114, 3) := dk_182 0 114 (dk_at dksX4_run_1 14 rfl rfl)
theorem dX4_run_40 : decode cX4_run 40 = .ok (.istore_n 2, 1) := dk_61 (dk_at dksX4_run_1 17 rfl rfl)
theorem dX4_run_41 : decode cX4_run 41 = .ok (.aload_n 1, 1) := dk_43 (dk_at dksX4_run_1 18 rfl rfl)
theorem dX4_run_42 : decode cX4_run 42 = .ok (.getfield 241, 3) := dk_180 0 241 (dk_at dksX4_run_1 19 rfl rfl)
theorem dX4_run_45 : decode cX4_run 45 = .ok (.bipush 6, 2) := dk_16 6 (dk_at dksX4_run_1 22 rfl rfl)
theorem dX4_run_47 : decode cX4_run 47 = .ok (.if_icmp .ne 8, 3) := dk_160 0 8 (dk_at dksX4_run_2 0 rfl rfl)
theorem dX4_run_50 : decode cX4_run 50 = .ok (.aload_n 0, 1) := dk_42 (dk_at dksX4_run_2 3 rfl rfl)
theorem dX4_run_51 : decode cX4_run 51 = .ok (.iconst 5, 1) := dk_8 (dk_at dksX4_run_2 4 rfl rfl)
theorem dX4_run_52 : decode cX4_run 52 = .ok (.invokevirtual 70, 3) := dk_182 0 70 (dk_at dksX4_run_2 5 rfl rfl)
theorem dX4_run_55 : decode cX4_run 55 = .ok (.aload_n 0, 1) := dk_42 (dk_at dksX4_run_2 8 rfl rfl)
theorem dX4_run_56 : decode cX4_run 56 = .ok (.invokevirtual 63, 3) := dk_182 0 63 (dk_at dksX4_run_2 9 rfl rfl)
theorem dX4_run_59 : decode cX4_run 59 = .ok (.aload_n 0, 1) := dk_42 (dk_at dksX4_run_2 12 rfl rfl)
theorem dX4_run_60 : decode cX4_run 60 = .ok (.iconst 0, 1) := dk_3 (dk_at dksX4_run_2 13 rfl rfl)
theorem dX4_run_61 : decode cX4_run 61 = .ok (.iconst 1, 1) := dk_4 (dk_at dksX4_run_2 14 rfl rfl)
theorem dX4_run_62 : decode cX4_run 62 = .ok (.invokevirtual 172, 3) := dk_182 0 172 (dk_at dksX4_run_2 15 rfl rfl)
theorem dX4_run_65 : decode cX4_run 65 = .ok (.istore_n 3, 1) := dk_62 (dk_at dksX4_run_2 18 rfl rfl)
theorem dX4_run_66 : decode cX4_run 66 = .ok (.aload_n 0, 1) := dk_42 (dk_at dksX4_run_2 19 rfl rfl)
theorem dX4_run_67 : decode cX4_run 67 = .ok (.invokevirtual 46, 3) := dk_182 0 46 (dk_at dksX4_run_2 20 rfl rfl)
theorem dX4_run_70 : decode cX4_run 70 = .ok (.ifCond .eq 4, 3) := dk_153 0 4 (dk_at dksX4_run_3 0 rfl rfl)
theorem dX4_run_73 : decode cX4_run 73 = .ok (.return_, 1) := dk_177 (dk_at dksX4_run_3 3 rfl rfl)
theorem dX4_run_74 : decode cX4_run 74 = .ok (.aload_n 1, 1) := dk_43 (dk_at dksX4_run_3 4 rfl rfl)
theorem dX4_run_75 : decode cX4_run 75 = .ok (.getfield 244, 3) := dk_180 0 244 (dk_at dksX4_run_3 5 rfl rfl)
theorem dX4_run_78 : decode cX4_run 78 = .ok (.aload_n 1, 1) := dk_43 (dk_at dksX4_run_3 8 rfl rfl)
theorem dX4_run_79 : decode cX4_run 79 = .ok (.getfield 241, 3) := dk_180 0 241 (dk_at dksX4_run_3 9 rfl rfl)
theorem dX4_run_82 : decode cX4_run 82 = .ok (.iload_n 2, 1) := dk_28 (dk_at dksX4_run_3 12 rfl rfl)
theorem dX4_run_83 : decode cX4_run 83 = .ok (.iastore, 1) := dk_79 (dk_at dksX4_run_3 13 rfl rfl)
theorem dX4_run_84 : decode cX4_run 84 = .ok (.aload_n 1, 1) := dk_43 (dk_at dksX4_run_3 14 rfl rfl)
theorem dX4_run_85 : decode cX4_run 85 = .ok (.getfield 246, 3) := dk_180 0 246 (dk_at dksX4_run_3 15 rfl rfl)
theorem dX4_run_88 : decode cX4_run 88 = .ok (.aload_n 1, 1) := dk_43 (dk_at dksX4_run_3 18 rfl rfl)
theorem dX4_run_89 : decode cX4_run 89 = .ok (.getfield 241, 3) := dk_180 0 241 (dk_at dksX4_run_3 19 rfl rfl)
theorem dX4_run_92 : decode cX4_run 92 = .ok (.iload_n 3, 1) := dk_29 (dk_at dksX4_run_3 22 rfl rfl)
theorem dX4_run_93 : decode cX4_run 93 = .ok (.iastore, 1) := dk_79 (dk_at dksX4_run_3 23 rfl rfl)
theorem dX4_run_94 : decode cX4_run 94 = .ok (.aload_n 1, 1) := dk_43 (dk_at dksX4_run_4 0 rfl rfl)
theorem dX4_run_95 : decode cX4_run 95 = .ok (.dup, 1) := dk_89 (dk_at dksX4_run_4 1 rfl rfl)
theorem dX4_run_96 : decode cX4_run 96 = .ok (.getfield 241, 3) := dk_180 0 241 (dk_at dksX4_run_4 2 rfl rfl)
theorem dX4_run_99 : decode cX4_run 99 = .ok (.iconst 1, 1) := dk_4 (dk_at dksX4_run_4 5 rfl rfl)
theorem dX4_run_100 : decode cX4_run 100 = .ok (.iadd, 1) := dk_96 (dk_at dksX4_run_4 6 rfl rfl)
theorem dX4_run_101 : decode cX4_run 101 = .ok (.putfield 241, 3) := dk_181 0 241 (dk_at dksX4_run_4 7 rfl rfl)
theorem dX4_run_104 : decode cX4_run 104 = .ok (.aload_n 0, 1) := dk_42 (dk_at dksX4_run_4 10 rfl rfl)
theorem dX4_run_105 : decode cX4_run 105 = .ok (.bipush 44, 2) := dk_16 44 (dk_at dksX4_run_4 11 rfl rfl)
theorem dX4_run_107 : decode cX4_run 107 = .ok (.invokevirtual 121, 3) := dk_182 0 121 (dk_at dksX4_run_4 13 rfl rfl)
theorem dX4_run_110 : decode cX4_run 110 = .ok (.ifCond .ne (-79), 3) := dk_154 255 177 (dk_at dksX4_run_4 16 rfl rfl)
theorem dX4_run_113 : decode cX4_run 113 = .ok (.aload_n 0, 1) := dk_42 (dk_at dksX4_run_4 19 rfl rfl)
theorem dX4_run_114 : decode cX4_run 114 = .ok (.getfield 12, 3) := dk_180 0 12 (dk_at dksX4_run_4 20 rfl rfl)
theorem dX4_run_117 : decode cX4_run 117 = .ok (.getfield 235, 3) := dk_180 0 235 (dk_at dksX4_run_5 0 rfl rfl)
theorem dX4_run_120 : decode cX4_run 120 = .ok (.aload_n 1, 1) := dk_43 (dk_at dksX4_run_5 3 rfl rfl)
theorem dX4_run_121 : decode cX4_run 121 = .ok (.invokevirtual 175, 3) := dk_182 0 175 (dk_at dksX4_run_5 4 rfl rfl)
theorem dX4_run_124 : decode cX4_run 124 = .ok (.pop, 1) := dk_87 (dk_at dksX4_run_5 7 rfl rfl)
theorem dX4_run_125 : decode cX4_run 125 = .ok (.return_, 1) := dk_177 (dk_at dksX4_run_5 8 rfl rfl)
theorem q119 : (Jvm.Cond.initialized "NotAtOnce$Reade\x72") ∈ lw_all := lw_g (lw_at lw_m1 7 rfl) rfl
theorem q264 : (Jvm.Cond.instantiable "NotAtOnce$Reade\x72" (7 : Nat)) ∈ lw_all := lw_g (lw_at lw_m1 152 rfl) rfl
theorem q282 : (Jvm.Cond.instanceMethod ({ cls := "NotAtOnce$Reade\x72", name := "<init>", desc := "(LNotAtOnce$Tokens;)V" } : Jvm.MethodName)) ∈ lw_all := lw_g (lw_at lw_m1 170 rfl) rfl
theorem q283 : (Jvm.Cond.code ({ cls := "NotAtOnce$Reade\x72", name := "<init>", desc := "(LNotAtOnce$Tokens;)V" } : Jvm.MethodName) prog_10_method_1_code (2 : Nat) (Option.none : Option Jvm.ClassFile.FieldType)) ∈ lw_all := lw_g (lw_at lw_m1 171 rfl) rfl
theorem q284 : (Jvm.Cond.methodLink "NotAtOnce$Reade\x72" (3 : Nat) ({ cls := "java/lang/Object", name := "<init>", desc := "()V" } : Jvm.MethodName)) ∈ lw_all := lw_g (lw_at lw_m1 172 rfl) rfl
theorem q285 : (Jvm.Cond.classLink "NotAtOnce$Reade\x72" (9 : Nat) "NotAtOnce$Book") ∈ lw_all := lw_g (lw_at lw_m1 173 rfl) rfl
theorem q287 : (Jvm.Cond.methodLinkNest "NotAtOnce$Reade\x72" (11 : Nat) ({ cls := "NotAtOnce$Book", name := "<init>", desc := "()V" } : Jvm.MethodName) "NotAtOnce") ∈ lw_tbl := lw_at lw_m1 175 rfl
theorem q300 : (Jvm.Cond.fieldLink "NotAtOnce$Reade\x72" (212 : Nat) "NotAtOnce$Table" "sets" "Ljava/util/ArrayList;") ∈ lw_all := lw_g (lw_at lw_m1 188 rfl) rfl
theorem q307 : (Jvm.Cond.fieldLink "NotAtOnce$Reade\x72" (124 : Nat) "NotAtOnce$Book" "of" "I") ∈ lw_all := lw_g (lw_at lw_m1 195 rfl) rfl
theorem q311 : (Jvm.Cond.fieldLink "NotAtOnce$Reade\x72" (130 : Nat) "NotAtOnce$Book" "looks" "I") ∈ lw_all := lw_g (lw_at lw_m1 199 rfl) rfl
theorem q313 : (Jvm.Cond.fieldLink "NotAtOnce$Reade\x72" (132 : Nat) "NotAtOnce$Book" "points" "I") ∈ lw_all := lw_g (lw_at lw_m1 201 rfl) rfl
theorem q317 : (Jvm.Cond.fieldLink "NotAtOnce$Reade\x72" (178 : Nat) "NotAtOnce$Book" "table" "LNotAtOnce$Table;") ∈ lw_all := lw_g (lw_at lw_m1 205 rfl) rfl
theorem q319 : (Jvm.Cond.fieldLink "NotAtOnce$Reade\x72" (215 : Nat) "NotAtOnce$Book" "lines" "Ljava/util/ArrayList;") ∈ lw_all := lw_g (lw_at lw_m1 207 rfl) rfl
theorem q323 : (Jvm.Cond.fieldLink "NotAtOnce$Reade\x72" (226 : Nat) "NotAtOnce$Book" "rays" "Ljava/util/ArrayList;") ∈ lw_all := lw_g (lw_at lw_m1 211 rfl) rfl
theorem q326 : (Jvm.Cond.fieldLink "NotAtOnce$Reade\x72" (235 : Nat) "NotAtOnce$Book" "runs" "Ljava/util/ArrayList;") ∈ lw_all := lw_g (lw_at lw_m1 214 rfl) rfl
theorem q343 : (Jvm.Cond.classLink "NotAtOnce$Reade\x72" (18 : Nat) "java/util/ArrayList") ∈ lw_all := lw_g (lw_at lw_m1 231 rfl) rfl
theorem q344 : (Jvm.Cond.methodLink "NotAtOnce$Reade\x72" (20 : Nat) ({ cls := "java/util/ArrayList", name := "<init>", desc := "()V" } : Jvm.MethodName)) ∈ lw_all := lw_g (lw_at lw_m1 232 rfl) rfl
theorem q345 : (Jvm.Cond.methodLink "NotAtOnce$Reade\x72" (32 : Nat) ({ cls := "NotAtOnce$Tokens", name := "next", desc := "()LNotAtOnce$Token;" } : Jvm.MethodName)) ∈ lw_all := lw_g (lw_at lw_m1 233 rfl) rfl
theorem q361 : (Jvm.Cond.fieldLink "NotAtOnce$Reade\x72" (56 : Nat) "NotAtOnce$Token" "sort" "I") ∈ lw_all := lw_g (lw_at lw_m2 9 rfl) rfl
theorem q363 : (Jvm.Cond.fieldLink "NotAtOnce$Reade\x72" (50 : Nat) "NotAtOnce$Token" "place" "I") ∈ lw_all := lw_g (lw_at lw_m2 11 rfl) rfl
theorem q365 : (Jvm.Cond.fieldLink "NotAtOnce$Reade\x72" (74 : Nat) "NotAtOnce$Token" "numbe\x72" "I") ∈ lw_all := lw_g (lw_at lw_m2 13 rfl) rfl
theorem q367 : (Jvm.Cond.fieldLink "NotAtOnce$Reade\x72" (102 : Nat) "NotAtOnce$Token" "word" "Ljava/lang/String;") ∈ lw_all := lw_g (lw_at lw_m2 15 rfl) rfl
theorem q567 : (Jvm.Cond.fieldLink "NotAtOnce$Reade\x72" (28 : Nat) "NotAtOnce$Reade\x72" "tokens" "LNotAtOnce$Tokens;") ∈ lw_all := lw_g (lw_at lw_m2 215 rfl) rfl
theorem q568 : (Jvm.Cond.fieldLink "NotAtOnce$Reade\x72" (12 : Nat) "NotAtOnce$Reade\x72" "book" "LNotAtOnce$Book;") ∈ lw_all := lw_g (lw_at lw_m2 216 rfl) rfl
theorem q569 : (Jvm.Cond.fieldLink "NotAtOnce$Reade\x72" (21 : Nat) "NotAtOnce$Reade\x72" "looks" "Ljava/util/ArrayList;") ∈ lw_all := lw_g (lw_at lw_m2 217 rfl) rfl
theorem q570 : (Jvm.Cond.fieldLink "NotAtOnce$Reade\x72" (25 : Nat) "NotAtOnce$Reade\x72" "points" "Ljava/util/ArrayList;") ∈ lw_all := lw_g (lw_at lw_m2 218 rfl) rfl
theorem q571 : (Jvm.Cond.fieldLink "NotAtOnce$Reade\x72" (38 : Nat) "NotAtOnce$Reade\x72" "now" "LNotAtOnce$Token;") ∈ lw_all := lw_g (lw_at lw_m2 219 rfl) rfl
theorem q572 : (Jvm.Cond.fieldLink "NotAtOnce$Reade\x72" (42 : Nat) "NotAtOnce$Reade\x72" "fault" "I") ∈ lw_all := lw_g (lw_at lw_m2 220 rfl) rfl
theorem q574 : (Jvm.Cond.fieldLink "NotAtOnce$Reade\x72" (55 : Nat) "NotAtOnce$Reade\x72" "place" "I") ∈ lw_all := lw_g (lw_at lw_m2 222 rfl) rfl
theorem q576 : (Jvm.Cond.laysFinal "NotAtOnce$Reade\x72" "NotAtOnce$Reade\x72" "tokens" "LNotAtOnce$Tokens;") ∈ lw_all := lw_g (lw_at lw_m2 224 rfl) rfl
theorem q577 : (Jvm.Cond.soleField "NotAtOnce$Reade\x72" "tokens") ∈ lw_all := lw_g (lw_at lw_m2 225 rfl) rfl
theorem q578 : (Jvm.Cond.laysFinal "NotAtOnce$Reade\x72" "NotAtOnce$Reade\x72" "book" "LNotAtOnce$Book;") ∈ lw_all := lw_g (lw_at lw_m2 226 rfl) rfl
theorem q579 : (Jvm.Cond.soleField "NotAtOnce$Reade\x72" "book") ∈ lw_all := lw_g (lw_at lw_m2 227 rfl) rfl
theorem q580 : (Jvm.Cond.laysFinal "NotAtOnce$Reade\x72" "NotAtOnce$Reade\x72" "looks" "Ljava/util/ArrayList;") ∈ lw_all := lw_g (lw_at lw_m2 228 rfl) rfl
theorem q581 : (Jvm.Cond.soleField "NotAtOnce$Reade\x72" "looks") ∈ lw_all := lw_g (lw_at lw_m2 229 rfl) rfl
theorem q582 : (Jvm.Cond.laysFinal "NotAtOnce$Reade\x72" "NotAtOnce$Reade\x72" "points" "Ljava/util/ArrayList;") ∈ lw_all := lw_g (lw_at lw_m2 230 rfl) rfl
theorem q583 : (Jvm.Cond.soleField "NotAtOnce$Reade\x72" "points") ∈ lw_all := lw_g (lw_at lw_m2 231 rfl) rfl
theorem q584 : (Jvm.Cond.lays "NotAtOnce$Reade\x72" "NotAtOnce$Reade\x72" "now" "LNotAtOnce$Token;") ∈ lw_all := lw_g (lw_at lw_m2 232 rfl) rfl
theorem q585 : (Jvm.Cond.soleField "NotAtOnce$Reade\x72" "now") ∈ lw_all := lw_g (lw_at lw_m2 233 rfl) rfl
theorem q586 : (Jvm.Cond.lays "NotAtOnce$Reade\x72" "NotAtOnce$Reade\x72" "fault" "I") ∈ lw_all := lw_g (lw_at lw_m2 234 rfl) rfl
theorem q587 : (Jvm.Cond.soleField "NotAtOnce$Reade\x72" "fault") ∈ lw_all := lw_g (lw_at lw_m2 235 rfl) rfl
theorem q588 : (Jvm.Cond.lays "NotAtOnce$Reade\x72" "NotAtOnce$Reade\x72" "place" "I") ∈ lw_all := lw_g (lw_at lw_m2 236 rfl) rfl
theorem q589 : (Jvm.Cond.soleField "NotAtOnce$Reade\x72" "place") ∈ lw_all := lw_g (lw_at lw_m2 237 rfl) rfl
theorem q590 : (Jvm.Cond.superclass "NotAtOnce$Reade\x72" "java/lang/Object") ∈ lw_all := lw_g (lw_at lw_m2 238 rfl) rfl
theorem q592 : (Jvm.Cond.instanceMethod ({ cls := "NotAtOnce$Reade\x72", name := "read", desc := "()LNotAtOnce$Book;" } : Jvm.MethodName)) ∈ lw_all := lw_g (lw_at lw_m3 0 rfl) rfl
theorem q593 : (Jvm.Cond.selects "NotAtOnce$Reade\x72" ({ cls := "NotAtOnce$Reade\x72", name := "read", desc := "()LNotAtOnce$Book;" } : Jvm.MethodName) ({ cls := "NotAtOnce$Reade\x72", name := "read", desc := "()LNotAtOnce$Book;" } : Jvm.MethodName)) ∈ lw_all := lw_g (lw_at lw_m3 1 rfl) rfl
theorem q594 : (Jvm.Cond.code ({ cls := "NotAtOnce$Reade\x72", name := "read", desc := "()LNotAtOnce$Book;" } : Jvm.MethodName) prog_10_method_13_code (1 : Nat) (Option.some (Jvm.ClassFile.FieldType.object "NotAtOnce$Book"))) ∈ lw_all := lw_g (lw_at lw_m3 2 rfl) rfl
theorem q595 : (Jvm.Cond.methodLink "NotAtOnce$Reade\x72" (118 : Nat) ({ cls := "NotAtOnce$Reade\x72", name := "line", desc := "()V" } : Jvm.MethodName)) ∈ lw_all := lw_g (lw_at lw_m3 3 rfl) rfl
theorem q596 : (Jvm.Cond.privateMethod ({ cls := "NotAtOnce$Reade\x72", name := "line", desc := "()V" } : Jvm.MethodName)) ∈ lw_tbl := lw_at lw_m3 4 rfl
theorem q597 : (Jvm.Cond.instanceMethod ({ cls := "NotAtOnce$Reade\x72", name := "line", desc := "()V" } : Jvm.MethodName)) ∈ lw_all := lw_g (lw_at lw_m3 5 rfl) rfl
theorem q598 : (Jvm.Cond.code ({ cls := "NotAtOnce$Reade\x72", name := "line", desc := "()V" } : Jvm.MethodName) prog_10_method_14_code (3 : Nat) (Option.none : Option Jvm.ClassFile.FieldType)) ∈ lw_all := lw_g (lw_at lw_m3 6 rfl) rfl
theorem q599 : (Jvm.Cond.stringRef "NotAtOnce$Reade\x72" (134 : Nat) "") ∈ lw_tbl := lw_at lw_m3 7 rfl
theorem q600 : (Jvm.Cond.methodLink "NotAtOnce$Reade\x72" (136 : Nat) ({ cls := "java/lang/String", name := "hashCode", desc := "()I" } : Jvm.MethodName)) ∈ lw_all := lw_g (lw_at lw_m3 8 rfl) rfl
theorem q653 : (Jvm.Cond.stringRef "NotAtOnce$Reade\x72" (139 : Nat) "law") ∈ lw_tbl := lw_at lw_m3 61 rfl
theorem q654 : (Jvm.Cond.methodLink "NotAtOnce$Reade\x72" (95 : Nat) ({ cls := "java/lang/String", name := "equals", desc := "(Ljava/lang/Object;)Z" } : Jvm.MethodName)) ∈ lw_all := lw_g (lw_at lw_m3 62 rfl) rfl
theorem q662 : (Jvm.Cond.stringRef "NotAtOnce$Reade\x72" (141 : Nat) "look") ∈ lw_tbl := lw_at lw_m3 70 rfl
theorem q663 : (Jvm.Cond.stringRef "NotAtOnce$Reade\x72" (143 : Nat) "point") ∈ lw_tbl := lw_at lw_m3 71 rfl
theorem q664 : (Jvm.Cond.stringRef "NotAtOnce$Reade\x72" (145 : Nat) "set") ∈ lw_tbl := lw_at lw_m3 72 rfl
theorem q665 : (Jvm.Cond.stringRef "NotAtOnce$Reade\x72" (147 : Nat) "line") ∈ lw_tbl := lw_at lw_m3 73 rfl
theorem q666 : (Jvm.Cond.stringRef "NotAtOnce$Reade\x72" (148 : Nat) "ray") ∈ lw_tbl := lw_at lw_m3 74 rfl
theorem q667 : (Jvm.Cond.stringRef "NotAtOnce$Reade\x72" (150 : Nat) "run") ∈ lw_tbl := lw_at lw_m3 75 rfl
theorem q668 : (Jvm.Cond.methodLink "NotAtOnce$Reade\x72" (152 : Nat) ({ cls := "NotAtOnce$Reade\x72", name := "law", desc := "()V" } : Jvm.MethodName)) ∈ lw_all := lw_g (lw_at lw_m3 76 rfl) rfl
theorem q669 : (Jvm.Cond.privateMethod ({ cls := "NotAtOnce$Reade\x72", name := "law", desc := "()V" } : Jvm.MethodName)) ∈ lw_tbl := lw_at lw_m3 77 rfl
theorem q670 : (Jvm.Cond.instanceMethod ({ cls := "NotAtOnce$Reade\x72", name := "law", desc := "()V" } : Jvm.MethodName)) ∈ lw_all := lw_g (lw_at lw_m3 78 rfl) rfl
theorem q671 : (Jvm.Cond.code ({ cls := "NotAtOnce$Reade\x72", name := "law", desc := "()V" } : Jvm.MethodName) prog_10_method_15_code (2 : Nat) (Option.none : Option Jvm.ClassFile.FieldType)) ∈ lw_all := lw_g (lw_at lw_m3 79 rfl) rfl
theorem q672 : (Jvm.Cond.methodLink "NotAtOnce$Reade\x72" (70 : Nat) ({ cls := "NotAtOnce$Reade\x72", name := "wrong", desc := "(I)V" } : Jvm.MethodName)) ∈ lw_all := lw_g (lw_at lw_m3 80 rfl) rfl
theorem q673 : (Jvm.Cond.privateMethod ({ cls := "NotAtOnce$Reade\x72", name := "wrong", desc := "(I)V" } : Jvm.MethodName)) ∈ lw_tbl := lw_at lw_m3 81 rfl
theorem q674 : (Jvm.Cond.instanceMethod ({ cls := "NotAtOnce$Reade\x72", name := "wrong", desc := "(I)V" } : Jvm.MethodName)) ∈ lw_all := lw_g (lw_at lw_m3 82 rfl) rfl
theorem q675 : (Jvm.Cond.code ({ cls := "NotAtOnce$Reade\x72", name := "wrong", desc := "(I)V" } : Jvm.MethodName) prog_10_method_3_code (2 : Nat) (Option.none : Option Jvm.ClassFile.FieldType)) ∈ lw_all := lw_g (lw_at lw_m3 83 rfl) rfl
theorem q676 : (Jvm.Cond.methodLink "NotAtOnce$Reade\x72" (46 : Nat) ({ cls := "NotAtOnce$Reade\x72", name := "isOve\x72", desc := "()Z" } : Jvm.MethodName)) ∈ lw_all := lw_g (lw_at lw_m3 84 rfl) rfl
theorem q677 : (Jvm.Cond.privateMethod ({ cls := "NotAtOnce$Reade\x72", name := "isOve\x72", desc := "()Z" } : Jvm.MethodName)) ∈ lw_tbl := lw_at lw_m3 85 rfl
theorem q678 : (Jvm.Cond.instanceMethod ({ cls := "NotAtOnce$Reade\x72", name := "isOve\x72", desc := "()Z" } : Jvm.MethodName)) ∈ lw_all := lw_g (lw_at lw_m3 86 rfl) rfl
theorem q679 : (Jvm.Cond.code ({ cls := "NotAtOnce$Reade\x72", name := "isOve\x72", desc := "()Z" } : Jvm.MethodName) prog_10_method_2_code (1 : Nat) (Option.some Jvm.ClassFile.FieldType.boolean)) ∈ lw_all := lw_g (lw_at lw_m3 87 rfl) rfl
theorem q680 : (Jvm.Cond.methodLink "NotAtOnce$Reade\x72" (63 : Nat) ({ cls := "NotAtOnce$Reade\x72", name := "on", desc := "()V" } : Jvm.MethodName)) ∈ lw_all := lw_g (lw_at lw_m3 88 rfl) rfl
theorem q681 : (Jvm.Cond.privateMethod ({ cls := "NotAtOnce$Reade\x72", name := "on", desc := "()V" } : Jvm.MethodName)) ∈ lw_tbl := lw_at lw_m3 89 rfl
theorem q682 : (Jvm.Cond.instanceMethod ({ cls := "NotAtOnce$Reade\x72", name := "on", desc := "()V" } : Jvm.MethodName)) ∈ lw_all := lw_g (lw_at lw_m3 90 rfl) rfl
theorem q683 : (Jvm.Cond.code ({ cls := "NotAtOnce$Reade\x72", name := "on", desc := "()V" } : Jvm.MethodName) prog_10_method_4_code (1 : Nat) (Option.none : Option Jvm.ClassFile.FieldType)) ∈ lw_all := lw_g (lw_at lw_m3 91 rfl) rfl
theorem q684 : (Jvm.Cond.stringRef "NotAtOnce$Reade\x72" (167 : Nat) "of") ∈ lw_tbl := lw_at lw_m3 92 rfl
theorem q685 : (Jvm.Cond.methodLink "NotAtOnce$Reade\x72" (168 : Nat) ({ cls := "NotAtOnce$Reade\x72", name := "needs", desc := "(Ljava/lang/String;)V" } : Jvm.MethodName)) ∈ lw_all := lw_g (lw_at lw_m3 93 rfl) rfl
theorem q686 : (Jvm.Cond.privateMethod ({ cls := "NotAtOnce$Reade\x72", name := "needs", desc := "(Ljava/lang/String;)V" } : Jvm.MethodName)) ∈ lw_tbl := lw_at lw_m3 94 rfl
theorem q687 : (Jvm.Cond.instanceMethod ({ cls := "NotAtOnce$Reade\x72", name := "needs", desc := "(Ljava/lang/String;)V" } : Jvm.MethodName)) ∈ lw_all := lw_g (lw_at lw_m3 95 rfl) rfl
theorem q688 : (Jvm.Cond.code ({ cls := "NotAtOnce$Reade\x72", name := "needs", desc := "(Ljava/lang/String;)V" } : Jvm.MethodName) prog_10_method_6_code (2 : Nat) (Option.none : Option Jvm.ClassFile.FieldType)) ∈ lw_all := lw_g (lw_at lw_m3 96 rfl) rfl
theorem q689 : (Jvm.Cond.methodLink "NotAtOnce$Reade\x72" (66 : Nat) ({ cls := "NotAtOnce$Token", name := "is", desc := "(Ljava/lang/String;)Z" } : Jvm.MethodName)) ∈ lw_all := lw_g (lw_at lw_m3 97 rfl) rfl
theorem q694 : (Jvm.Cond.methodLink "NotAtOnce$Reade\x72" (172 : Nat) ({ cls := "NotAtOnce$Reade\x72", name := "whole", desc := "(II)I" } : Jvm.MethodName)) ∈ lw_all := lw_g (lw_at lw_m3 102 rfl) rfl
theorem q695 : (Jvm.Cond.privateMethod ({ cls := "NotAtOnce$Reade\x72", name := "whole", desc := "(II)I" } : Jvm.MethodName)) ∈ lw_tbl := lw_at lw_m3 103 rfl
theorem q696 : (Jvm.Cond.instanceMethod ({ cls := "NotAtOnce$Reade\x72", name := "whole", desc := "(II)I" } : Jvm.MethodName)) ∈ lw_all := lw_g (lw_at lw_m3 104 rfl) rfl
theorem q697 : (Jvm.Cond.code ({ cls := "NotAtOnce$Reade\x72", name := "whole", desc := "(II)I" } : Jvm.MethodName) prog_10_method_9_code (4 : Nat) (Option.some Jvm.ClassFile.FieldType.int)) ∈ lw_all := lw_g (lw_at lw_m3 105 rfl) rfl
theorem q698 : (Jvm.Cond.methodLink "NotAtOnce$Reade\x72" (81 : Nat) ({ cls := "NotAtOnce$Reade\x72", name := "bounded", desc := "(II)I" } : Jvm.MethodName)) ∈ lw_all := lw_g (lw_at lw_m3 106 rfl) rfl
theorem q699 : (Jvm.Cond.privateMethod ({ cls := "NotAtOnce$Reade\x72", name := "bounded", desc := "(II)I" } : Jvm.MethodName)) ∈ lw_tbl := lw_at lw_m3 107 rfl
theorem q700 : (Jvm.Cond.instanceMethod ({ cls := "NotAtOnce$Reade\x72", name := "bounded", desc := "(II)I" } : Jvm.MethodName)) ∈ lw_all := lw_g (lw_at lw_m3 108 rfl) rfl
theorem q701 : (Jvm.Cond.code ({ cls := "NotAtOnce$Reade\x72", name := "bounded", desc := "(II)I" } : Jvm.MethodName) prog_10_method_8_code (3 : Nat) (Option.some Jvm.ClassFile.FieldType.int)) ∈ lw_all := lw_g (lw_at lw_m3 109 rfl) rfl
theorem q702 : (Jvm.Cond.methodLinkNest "NotAtOnce$Reade\x72" (77 : Nat) ({ cls := "NotAtOnce", name := "in", desc := "(III)Z" } : Jvm.MethodName) "NotAtOnce") ∈ lw_tbl := lw_at lw_m3 110 rfl
theorem q703 : (Jvm.Cond.methodLink "NotAtOnce$Reade\x72" (154 : Nat) ({ cls := "NotAtOnce$Reade\x72", name := "names", desc := "(Ljava/util/ArrayList;I)V" } : Jvm.MethodName)) ∈ lw_all := lw_g (lw_at lw_m3 111 rfl) rfl
theorem q704 : (Jvm.Cond.privateMethod ({ cls := "NotAtOnce$Reade\x72", name := "names", desc := "(Ljava/util/ArrayList;I)V" } : Jvm.MethodName)) ∈ lw_tbl := lw_at lw_m3 112 rfl
theorem q705 : (Jvm.Cond.instanceMethod ({ cls := "NotAtOnce$Reade\x72", name := "names", desc := "(Ljava/util/ArrayList;I)V" } : Jvm.MethodName)) ∈ lw_all := lw_g (lw_at lw_m3 113 rfl) rfl
theorem q706 : (Jvm.Cond.code ({ cls := "NotAtOnce$Reade\x72", name := "names", desc := "(Ljava/util/ArrayList;I)V" } : Jvm.MethodName) prog_10_method_16_code (4 : Nat) (Option.none : Option Jvm.ClassFile.FieldType)) ∈ lw_all := lw_g (lw_at lw_m3 114 rfl) rfl
theorem q707 : (Jvm.Cond.methodLink "NotAtOnce$Reade\x72" (99 : Nat) ({ cls := "NotAtOnce$Token", name := "isName", desc := "()Z" } : Jvm.MethodName)) ∈ lw_all := lw_g (lw_at lw_m3 115 rfl) rfl
theorem q719 : (Jvm.Cond.methodLink "NotAtOnce$Reade\x72" (106 : Nat) ({ cls := "NotAtOnce$Reade\x72", name := "find", desc := "(Ljava/util/ArrayList;Ljava/lang/String;)I" } : Jvm.MethodName)) ∈ lw_all := lw_g (lw_at lw_m3 127 rfl) rfl
theorem q720 : (Jvm.Cond.static ({ cls := "NotAtOnce$Reade\x72", name := "find", desc := "(Ljava/util/ArrayList;Ljava/lang/String;)I" } : Jvm.MethodName)) ∈ lw_all := lw_g (lw_at lw_m3 128 rfl) rfl
theorem q721 : (Jvm.Cond.code ({ cls := "NotAtOnce$Reade\x72", name := "find", desc := "(Ljava/util/ArrayList;Ljava/lang/String;)I" } : Jvm.MethodName) prog_10_method_10_code (3 : Nat) (Option.some Jvm.ClassFile.FieldType.int)) ∈ lw_all := lw_g (lw_at lw_m3 129 rfl) rfl
theorem q722 : (Jvm.Cond.methodLink "NotAtOnce$Reade\x72" (85 : Nat) ({ cls := "java/util/ArrayList", name := "size", desc := "()I" } : Jvm.MethodName)) ∈ lw_all := lw_g (lw_at lw_m3 130 rfl) rfl
theorem q726 : (Jvm.Cond.methodLink "NotAtOnce$Reade\x72" (89 : Nat) ({ cls := "java/util/ArrayList", name := "get", desc := "(I)Ljava/lang/Object;" } : Jvm.MethodName)) ∈ lw_all := lw_g (lw_at lw_m3 134 rfl) rfl
theorem q738 : (Jvm.Cond.classLink "NotAtOnce$Reade\x72" (93 : Nat) "java/lang/String") ∈ lw_all := lw_g (lw_at lw_m3 146 rfl) rfl
theorem q739 : (Jvm.Cond.methodLink "NotAtOnce$Reade\x72" (175 : Nat) ({ cls := "java/util/ArrayList", name := "add", desc := "(Ljava/lang/Object;)Z" } : Jvm.MethodName)) ∈ lw_all := lw_g (lw_at lw_m3 147 rfl) rfl
theorem q770 : (Jvm.Cond.selects "NotAtOnce$Reade\x72" ({ cls := "java/lang/Object", name := "getClass", desc := "()Ljava/lang/Class;" } : Jvm.MethodName) ({ cls := "java/lang/Object", name := "getClass", desc := "()Ljava/lang/Class;" } : Jvm.MethodName)) ∈ lw_all := lw_g (lw_at lw_m3 178 rfl) rfl
theorem q793 : (Jvm.Cond.methodLink "NotAtOnce$Reade\x72" (121 : Nat) ({ cls := "NotAtOnce$Reade\x72", name := "eatsSign", desc := "(C)Z" } : Jvm.MethodName)) ∈ lw_all := lw_g (lw_at lw_m3 201 rfl) rfl
theorem q794 : (Jvm.Cond.privateMethod ({ cls := "NotAtOnce$Reade\x72", name := "eatsSign", desc := "(C)Z" } : Jvm.MethodName)) ∈ lw_tbl := lw_at lw_m3 202 rfl
theorem q795 : (Jvm.Cond.instanceMethod ({ cls := "NotAtOnce$Reade\x72", name := "eatsSign", desc := "(C)Z" } : Jvm.MethodName)) ∈ lw_all := lw_g (lw_at lw_m3 203 rfl) rfl
theorem q796 : (Jvm.Cond.code ({ cls := "NotAtOnce$Reade\x72", name := "eatsSign", desc := "(C)Z" } : Jvm.MethodName) prog_10_method_5_code (2 : Nat) (Option.some Jvm.ClassFile.FieldType.boolean)) ∈ lw_all := lw_g (lw_at lw_m3 204 rfl) rfl
theorem q797 : (Jvm.Cond.methodLink "NotAtOnce$Reade\x72" (59 : Nat) ({ cls := "NotAtOnce$Token", name := "isSign", desc := "(C)Z" } : Jvm.MethodName)) ∈ lw_all := lw_g (lw_at lw_m3 205 rfl) rfl
theorem q801 : (Jvm.Cond.methodLink "NotAtOnce$Reade\x72" (158 : Nat) ({ cls := "NotAtOnce$Reade\x72", name := "set", desc := "()V" } : Jvm.MethodName)) ∈ lw_all := lw_g (lw_at lw_m3 209 rfl) rfl
theorem q802 : (Jvm.Cond.privateMethod ({ cls := "NotAtOnce$Reade\x72", name := "set", desc := "()V" } : Jvm.MethodName)) ∈ lw_tbl := lw_at lw_m3 210 rfl
theorem q803 : (Jvm.Cond.instanceMethod ({ cls := "NotAtOnce$Reade\x72", name := "set", desc := "()V" } : Jvm.MethodName)) ∈ lw_all := lw_g (lw_at lw_m3 211 rfl) rfl
theorem q804 : (Jvm.Cond.code ({ cls := "NotAtOnce$Reade\x72", name := "set", desc := "()V" } : Jvm.MethodName) prog_10_method_17_code (6 : Nat) (Option.none : Option Jvm.ClassFile.FieldType)) ∈ lw_all := lw_g (lw_at lw_m3 212 rfl) rfl
theorem q805 : (Jvm.Cond.methodLink "NotAtOnce$Reade\x72" (182 : Nat) ({ cls := "NotAtOnce$Table", name := "size", desc := "()I" } : Jvm.MethodName)) ∈ lw_all := lw_g (lw_at lw_m3 213 rfl) rfl
theorem q810 : (Jvm.Cond.methodLink "NotAtOnce$Reade\x72" (185 : Nat) ({ cls := "NotAtOnce$Reade\x72", name := "told", desc := "(Ljava/util/ArrayList;I)I" } : Jvm.MethodName)) ∈ lw_all := lw_g (lw_at lw_m3 218 rfl) rfl
theorem q811 : (Jvm.Cond.privateMethod ({ cls := "NotAtOnce$Reade\x72", name := "told", desc := "(Ljava/util/ArrayList;I)I" } : Jvm.MethodName)) ∈ lw_tbl := lw_at lw_m3 219 rfl
theorem q812 : (Jvm.Cond.instanceMethod ({ cls := "NotAtOnce$Reade\x72", name := "told", desc := "(Ljava/util/ArrayList;I)I" } : Jvm.MethodName)) ∈ lw_all := lw_g (lw_at lw_m3 220 rfl) rfl
theorem q813 : (Jvm.Cond.code ({ cls := "NotAtOnce$Reade\x72", name := "told", desc := "(Ljava/util/ArrayList;I)I" } : Jvm.MethodName) prog_10_method_12_code (4 : Nat) (Option.some Jvm.ClassFile.FieldType.int)) ∈ lw_all := lw_g (lw_at lw_m3 221 rfl) rfl
theorem q814 : (Jvm.Cond.methodLink "NotAtOnce$Reade\x72" (114 : Nat) ({ cls := "NotAtOnce$Reade\x72", name := "known", desc := "(Ljava/util/ArrayList;I)I" } : Jvm.MethodName)) ∈ lw_all := lw_g (lw_at lw_m3 222 rfl) rfl
theorem q815 : (Jvm.Cond.privateMethod ({ cls := "NotAtOnce$Reade\x72", name := "known", desc := "(Ljava/util/ArrayList;I)I" } : Jvm.MethodName)) ∈ lw_tbl := lw_at lw_m3 223 rfl
theorem q816 : (Jvm.Cond.instanceMethod ({ cls := "NotAtOnce$Reade\x72", name := "known", desc := "(Ljava/util/ArrayList;I)I" } : Jvm.MethodName)) ∈ lw_all := lw_g (lw_at lw_m3 224 rfl) rfl
theorem q817 : (Jvm.Cond.code ({ cls := "NotAtOnce$Reade\x72", name := "known", desc := "(Ljava/util/ArrayList;I)I" } : Jvm.MethodName) prog_10_method_11_code (4 : Nat) (Option.some Jvm.ClassFile.FieldType.int)) ∈ lw_all := lw_g (lw_at lw_m3 225 rfl) rfl
theorem q818 : (Jvm.Cond.methodLinkNest "NotAtOnce$Reade\x72" (110 : Nat) ({ cls := "NotAtOnce", name := "has", desc := "(II)Z" } : Jvm.MethodName) "NotAtOnce") ∈ lw_tbl := lw_at lw_m3 226 rfl
theorem q821 : (Jvm.Cond.classLink "NotAtOnce$Reade\x72" (188 : Nat) "NotAtOnce$One") ∈ lw_all := lw_g (lw_at lw_m3 229 rfl) rfl
theorem q823 : (Jvm.Cond.methodLink "NotAtOnce$Reade\x72" (190 : Nat) ({ cls := "NotAtOnce$One", name := "<init>", desc := "(I)V" } : Jvm.MethodName)) ∈ lw_all := lw_g (lw_at lw_m3 231 rfl) rfl
theorem q839 : (Jvm.Cond.fieldLink "NotAtOnce$Reade\x72" (208 : Nat) "NotAtOnce$Asked" "times" "[I") ∈ lw_all := lw_g (lw_at lw_m4 7 rfl) rfl
theorem q851 : (Jvm.Cond.classLink "NotAtOnce$Reade\x72" (192 : Nat) "NotAtOnce$Two") ∈ lw_all := lw_g (lw_at lw_m4 19 rfl) rfl
theorem q853 : (Jvm.Cond.methodLink "NotAtOnce$Reade\x72" (194 : Nat) ({ cls := "NotAtOnce$Two", name := "<init>", desc := "(II)V" } : Jvm.MethodName)) ∈ lw_all := lw_g (lw_at lw_m4 21 rfl) rfl
theorem q866 : (Jvm.Cond.stringRef "NotAtOnce$Reade\x72" (197 : Nat) "tells") ∈ lw_tbl := lw_at lw_m4 34 rfl
theorem q867 : (Jvm.Cond.methodLink "NotAtOnce$Reade\x72" (199 : Nat) ({ cls := "NotAtOnce$Asked", name := "outcomes", desc := "()I" } : Jvm.MethodName)) ∈ lw_all := lw_g (lw_at lw_m4 35 rfl) rfl
theorem q876 : (Jvm.Cond.methodLink "NotAtOnce$Reade\x72" (204 : Nat) ({ cls := "NotAtOnce$Reade\x72", name := "needsSign", desc := "(C)V" } : Jvm.MethodName)) ∈ lw_all := lw_g (lw_at lw_m4 44 rfl) rfl
theorem q877 : (Jvm.Cond.privateMethod ({ cls := "NotAtOnce$Reade\x72", name := "needsSign", desc := "(C)V" } : Jvm.MethodName)) ∈ lw_tbl := lw_at lw_m4 45 rfl
theorem q878 : (Jvm.Cond.instanceMethod ({ cls := "NotAtOnce$Reade\x72", name := "needsSign", desc := "(C)V" } : Jvm.MethodName)) ∈ lw_all := lw_g (lw_at lw_m4 46 rfl) rfl
theorem q879 : (Jvm.Cond.code ({ cls := "NotAtOnce$Reade\x72", name := "needsSign", desc := "(C)V" } : Jvm.MethodName) prog_10_method_7_code (2 : Nat) (Option.none : Option Jvm.ClassFile.FieldType)) ∈ lw_all := lw_g (lw_at lw_m4 47 rfl) rfl
theorem q880 : (Jvm.Cond.methodLink "NotAtOnce$Reade\x72" (160 : Nat) ({ cls := "NotAtOnce$Reade\x72", name := "parity", desc := "()V" } : Jvm.MethodName)) ∈ lw_all := lw_g (lw_at lw_m4 48 rfl) rfl
theorem q881 : (Jvm.Cond.privateMethod ({ cls := "NotAtOnce$Reade\x72", name := "parity", desc := "()V" } : Jvm.MethodName)) ∈ lw_tbl := lw_at lw_m4 49 rfl
theorem q882 : (Jvm.Cond.instanceMethod ({ cls := "NotAtOnce$Reade\x72", name := "parity", desc := "()V" } : Jvm.MethodName)) ∈ lw_all := lw_g (lw_at lw_m4 50 rfl) rfl
theorem q883 : (Jvm.Cond.code ({ cls := "NotAtOnce$Reade\x72", name := "parity", desc := "()V" } : Jvm.MethodName) prog_10_method_18_code (3 : Nat) (Option.none : Option Jvm.ClassFile.FieldType)) ∈ lw_all := lw_g (lw_at lw_m4 51 rfl) rfl
theorem q884 : (Jvm.Cond.stringRef "NotAtOnce$Reade\x72" (218 : Nat) "is") ∈ lw_tbl := lw_at lw_m4 52 rfl
theorem q885 : (Jvm.Cond.stringRef "NotAtOnce$Reade\x72" (219 : Nat) "odd") ∈ lw_tbl := lw_at lw_m4 53 rfl
theorem q886 : (Jvm.Cond.stringRef "NotAtOnce$Reade\x72" (221 : Nat) "even") ∈ lw_tbl := lw_at lw_m4 54 rfl
theorem q887 : (Jvm.Cond.classLink "NotAtOnce$Reade\x72" (223 : Nat) "NotAtOnce$Line") ∈ lw_all := lw_g (lw_at lw_m4 55 rfl) rfl
theorem q889 : (Jvm.Cond.methodLink "NotAtOnce$Reade\x72" (225 : Nat) ({ cls := "NotAtOnce$Line", name := "<init>", desc := "(II)V" } : Jvm.MethodName)) ∈ lw_all := lw_g (lw_at lw_m4 57 rfl) rfl
theorem q900 : (Jvm.Cond.methodLink "NotAtOnce$Reade\x72" (163 : Nat) ({ cls := "NotAtOnce$Reade\x72", name := "ray", desc := "()V" } : Jvm.MethodName)) ∈ lw_all := lw_g (lw_at lw_m4 68 rfl) rfl
theorem q901 : (Jvm.Cond.privateMethod ({ cls := "NotAtOnce$Reade\x72", name := "ray", desc := "()V" } : Jvm.MethodName)) ∈ lw_tbl := lw_at lw_m4 69 rfl
theorem q902 : (Jvm.Cond.instanceMethod ({ cls := "NotAtOnce$Reade\x72", name := "ray", desc := "()V" } : Jvm.MethodName)) ∈ lw_all := lw_g (lw_at lw_m4 70 rfl) rfl
theorem q903 : (Jvm.Cond.code ({ cls := "NotAtOnce$Reade\x72", name := "ray", desc := "()V" } : Jvm.MethodName) prog_10_method_19_code (6 : Nat) (Option.none : Option Jvm.ClassFile.FieldType)) ∈ lw_all := lw_g (lw_at lw_m4 71 rfl) rfl
theorem q904 : (Jvm.Cond.classLink "NotAtOnce$Reade\x72" (229 : Nat) "NotAtOnce$Ray") ∈ lw_all := lw_g (lw_at lw_m4 72 rfl) rfl
theorem q906 : (Jvm.Cond.methodLinkNest "NotAtOnce$Reade\x72" (231 : Nat) ({ cls := "NotAtOnce$Ray", name := "<init>", desc := "()V" } : Jvm.MethodName) "NotAtOnce") ∈ lw_tbl := lw_at lw_m4 74 rfl
theorem q911 : (Jvm.Cond.fieldLink "NotAtOnce$Reade\x72" (232 : Nat) "NotAtOnce$Ray" "side" "[I") ∈ lw_all := lw_g (lw_at lw_m4 79 rfl) rfl
theorem q915 : (Jvm.Cond.methodLink "NotAtOnce$Reade\x72" (165 : Nat) ({ cls := "NotAtOnce$Reade\x72", name := "run", desc := "()V" } : Jvm.MethodName)) ∈ lw_all := lw_g (lw_at lw_m4 83 rfl) rfl
theorem q916 : (Jvm.Cond.privateMethod ({ cls := "NotAtOnce$Reade\x72", name := "run", desc := "()V" } : Jvm.MethodName)) ∈ lw_tbl := lw_at lw_m4 84 rfl
theorem q917 : (Jvm.Cond.instanceMethod ({ cls := "NotAtOnce$Reade\x72", name := "run", desc := "()V" } : Jvm.MethodName)) ∈ lw_all := lw_g (lw_at lw_m4 85 rfl) rfl
theorem q918 : (Jvm.Cond.code ({ cls := "NotAtOnce$Reade\x72", name := "run", desc := "()V" } : Jvm.MethodName) prog_10_method_20_code (4 : Nat) (Option.none : Option Jvm.ClassFile.FieldType)) ∈ lw_all := lw_g (lw_at lw_m4 86 rfl) rfl
theorem q919 : (Jvm.Cond.classLink "NotAtOnce$Reade\x72" (238 : Nat) "NotAtOnce$Run") ∈ lw_all := lw_g (lw_at lw_m4 87 rfl) rfl
theorem q921 : (Jvm.Cond.methodLinkNest "NotAtOnce$Reade\x72" (240 : Nat) ({ cls := "NotAtOnce$Run", name := "<init>", desc := "()V" } : Jvm.MethodName) "NotAtOnce") ∈ lw_tbl := lw_at lw_m4 89 rfl
theorem q927 : (Jvm.Cond.fieldLink "NotAtOnce$Reade\x72" (244 : Nat) "NotAtOnce$Run" "look" "[I") ∈ lw_all := lw_g (lw_at lw_m4 95 rfl) rfl
theorem q930 : (Jvm.Cond.fieldLink "NotAtOnce$Reade\x72" (246 : Nat) "NotAtOnce$Run" "answe\x72" "[I") ∈ lw_all := lw_g (lw_at lw_m4 98 rfl) rfl
theorem q932 : (Jvm.Cond.fieldLink "NotAtOnce$Reade\x72" (241 : Nat) "NotAtOnce$Run" "many" "I") ∈ lw_all := lw_g (lw_at lw_m4 100 rfl) rfl
theorem q940 : (Jvm.Cond.methodLink "NotAtOnce$Reade\x72" (127 : Nat) ({ cls := "java/util/ArrayList", name := "isEmpty", desc := "()Z" } : Jvm.MethodName)) ∈ lw_all := lw_g (lw_at lw_m4 108 rfl) rfl
theorem q2354 : (Jvm.Cond.castable "NotAtOnce$Reade\x72" "java/lang/Object") ∈ lw_tbl := lw_at lw_m10 82 rfl
theorem in_X4 : ∀ w ∈ wsX40, w ∈ lw_all := lw_in wsX40 [576, 578, 580, 582, 584, 586, 588] (by decide +kernel) (by decide +kernel)
/-! NotAtOnce$Tokens -/
set_option maxRecDepth 100000
def RX5 : String := "NotAtOnce$Tokens"
def TX5 : u_T := fun k => match k with
  | 0 => ("NotAtOnce$Tokens", "text", "[B", true)
  | 1 => ("NotAtOnce$Tokens", "size", "I", true)
  | _ => ("NotAtOnce$Tokens", "at", "I", false)
def tyX5 : Nat → FieldType := fun k => match k with
  | 0 => .array .byte
  | 1 => .int
  | _ => .int
abbrev wsX50 : List Cond := u_ws RX5 TX5 3
theorem nmX5 : ∀ a, a < 3 → ∀ b, b < 3 → a ≠ b → (TX5 a).2.1 ≠ (TX5 b).2.1 := by decide +kernel
theorem tyX5_ok : ∀ k, k < 3 → parseFieldDescriptor (TX5 k).2.2.1 = some (tyX5 k) := by decide +kernel
abbrev cX5_init : ByteArray := prog_15_method_1_code
def yX5_init : MethodName := ⟨RX5, "<init>", "([BI)V"⟩
def dkwX5_init_0 : List UInt8 := [42, 183, 0, 3, 42, 43, 181, 0, 9, 42, 28, 181, 0, 15, 177]
abbrev dktX5_init_0 : List UInt8 := dkwX5_init_0 ++ []
theorem dksX5_init_0 : cX5_init.data.toList.drop 0 = dktX5_init_0 := by decide +kernel
theorem dX5_init_0 : decode cX5_init 0 = .ok (.aload_n 0, 1) := dk_42 (dk_at dksX5_init_0 0 rfl rfl)
theorem dX5_init_1 : decode cX5_init 1 = .ok (.invokespecial 3, 3) := dk_183 0 3 (dk_at dksX5_init_0 1 rfl rfl)
theorem dX5_init_4 : decode cX5_init 4 = .ok (.aload_n 0, 1) := dk_42 (dk_at dksX5_init_0 4 rfl rfl)
theorem dX5_init_5 : decode cX5_init 5 = .ok (.aload_n 1, 1) := dk_43 (dk_at dksX5_init_0 5 rfl rfl)
theorem dX5_init_6 : decode cX5_init 6 = .ok (.putfield 9, 3) := dk_181 0 9 (dk_at dksX5_init_0 6 rfl rfl)
theorem dX5_init_9 : decode cX5_init 9 = .ok (.aload_n 0, 1) := dk_42 (dk_at dksX5_init_0 9 rfl rfl)
theorem dX5_init_10 : decode cX5_init 10 = .ok (.iload_n 2, 1) := dk_28 (dk_at dksX5_init_0 10 rfl rfl)
theorem dX5_init_11 : decode cX5_init 11 = .ok (.putfield 15, 3) := dk_181 0 15 (dk_at dksX5_init_0 11 rfl rfl)
theorem dX5_init_14 : decode cX5_init 14 = .ok (.return_, 1) := dk_177 (dk_at dksX5_init_0 14 rfl rfl)
abbrev cX5_next : ByteArray := prog_15_method_3_code
def yX5_next : MethodName := ⟨RX5, "next", "()LNotAtOnce$Token;"⟩
def dkwX5_next_12 : List UInt8 := [28, 16, 45, 160, 0, 7, 7, 167, 0, 4, 3, 27, 28, 18, 28, 183, 0, 30, 176]
abbrev dktX5_next_12 : List UInt8 := dkwX5_next_12 ++ []
def dkwX5_next_11 : List UInt8 := [180, 0, 19, 4, 96, 181, 0, 19, 187, 0, 26, 89, 28, 16, 59, 159, 0, 15, 28, 16, 44, 159, 0, 9]
abbrev dktX5_next_11 : List UInt8 := dkwX5_next_11 ++ dktX5_next_12
def dkwX5_next_10 : List UInt8 := [164, 0, 7, 3, 167, 0, 4, 6, 27, 28, 18, 28, 183, 0, 30, 176, 42, 182, 0, 22, 61, 42, 89]
abbrev dktX5_next_10 : List UInt8 := dkwX5_next_10 ++ dktX5_next_11
def dkwX5_next_9 : List UInt8 := [180, 0, 19, 4, 96, 181, 0, 19, 167, 255, 209, 187, 0, 26, 89, 42, 180, 0, 19, 27, 100, 6]
abbrev dktX5_next_9 : List UInt8 := dkwX5_next_9 ++ dktX5_next_10
def dkwX5_next_8 : List UInt8 := [180, 0, 19, 27, 100, 6, 162, 0, 16, 16, 10, 28, 104, 42, 182, 0, 22, 96, 16, 48, 100, 61, 42, 89]
abbrev dktX5_next_8 : List UInt8 := dkwX5_next_8 ++ dktX5_next_9
def dkwX5_next_7 : List UInt8 := [184, 0, 33, 153, 0, 82, 3, 61, 42, 182, 0, 22, 16, 48, 16, 57, 184, 0, 33, 153, 0, 39, 42]
abbrev dktX5_next_7 : List UInt8 := dkwX5_next_7 ++ dktX5_next_8
def dkwX5_next_6 : List UInt8 := [167, 0, 4, 5, 27, 3, 44, 182, 0, 44, 183, 0, 30, 176, 42, 182, 0, 22, 16, 48, 16, 57]
abbrev dktX5_next_6 : List UInt8 := dkwX5_next_6 ++ dktX5_next_7
def dkwX5_next_5 : List UInt8 := [181, 0, 19, 167, 255, 211, 187, 0, 26, 89, 42, 180, 0, 19, 27, 100, 16, 8, 164, 0, 7, 3]
abbrev dktX5_next_5 : List UInt8 := dkwX5_next_5 ++ dktX5_next_6
def dkwX5_next_4 : List UInt8 := [16, 8, 162, 0, 13, 44, 42, 182, 0, 22, 146, 182, 0, 40, 87, 42, 89, 180, 0, 19, 4, 96]
abbrev dktX5_next_4 : List UInt8 := dkwX5_next_4 ++ dktX5_next_5
def dkwX5_next_3 : List UInt8 := [183, 0, 39, 77, 42, 182, 0, 22, 16, 97, 16, 122, 184, 0, 33, 153, 0, 37, 42, 180, 0, 19, 27, 100]
abbrev dktX5_next_3 : List UInt8 := dkwX5_next_3 ++ dktX5_next_4
def dkwX5_next_2 : List UInt8 := [183, 0, 30, 176, 42, 182, 0, 22, 16, 97, 16, 122, 184, 0, 33, 153, 0, 89, 187, 0, 37, 89]
abbrev dktX5_next_2 : List UInt8 := dkwX5_next_2 ++ dktX5_next_3
def dkwX5_next_1 : List UInt8 := [180, 0, 19, 60, 42, 180, 0, 19, 42, 180, 0, 15, 160, 0, 16, 187, 0, 26, 89, 4, 27, 3, 18, 28]
abbrev dktX5_next_1 : List UInt8 := dkwX5_next_1 ++ dktX5_next_2
def dkwX5_next_0 : List UInt8 := [42, 182, 0, 22, 16, 32, 160, 0, 16, 42, 89, 180, 0, 19, 4, 96, 181, 0, 19, 167, 255, 237, 42]
abbrev dktX5_next_0 : List UInt8 := dkwX5_next_0 ++ dktX5_next_1
theorem dksX5_next_0 : cX5_next.data.toList.drop 0 = dktX5_next_0 := by decide +kernel
theorem dksX5_next_1 : cX5_next.data.toList.drop 23 = dktX5_next_1 := dk_seg dksX5_next_0 23 rfl rfl
theorem dksX5_next_2 : cX5_next.data.toList.drop 47 = dktX5_next_2 := dk_seg dksX5_next_1 24 rfl rfl
theorem dksX5_next_3 : cX5_next.data.toList.drop 69 = dktX5_next_3 := dk_seg dksX5_next_2 22 rfl rfl
theorem dksX5_next_4 : cX5_next.data.toList.drop 93 = dktX5_next_4 := dk_seg dksX5_next_3 24 rfl rfl
theorem dksX5_next_5 : cX5_next.data.toList.drop 115 = dktX5_next_5 := dk_seg dksX5_next_4 22 rfl rfl
theorem dksX5_next_6 : cX5_next.data.toList.drop 137 = dktX5_next_6 := dk_seg dksX5_next_5 22 rfl rfl
theorem dksX5_next_7 : cX5_next.data.toList.drop 159 = dktX5_next_7 := dk_seg dksX5_next_6 22 rfl rfl
theorem dksX5_next_8 : cX5_next.data.toList.drop 182 = dktX5_next_8 := dk_seg dksX5_next_7 23 rfl rfl
theorem dksX5_next_9 : cX5_next.data.toList.drop 206 = dktX5_next_9 := dk_seg dksX5_next_8 24 rfl rfl
theorem dksX5_next_10 : cX5_next.data.toList.drop 228 = dktX5_next_10 := dk_seg dksX5_next_9 22 rfl rfl
theorem dksX5_next_11 : cX5_next.data.toList.drop 251 = dktX5_next_11 := dk_seg dksX5_next_10 23 rfl rfl
theorem dksX5_next_12 : cX5_next.data.toList.drop 275 = dktX5_next_12 := dk_seg dksX5_next_11 24 rfl rfl
theorem dX5_next_0 : decode cX5_next 0 = .ok (.aload_n 0, 1) := dk_42 (dk_at dksX5_next_0 0 rfl rfl)
theorem dX5_next_1 : decode cX5_next 1 = .ok (.invokevirtual 22, 3) := dk_182 0 22 (dk_at dksX5_next_0 1 rfl rfl)
theorem dX5_next_4 : decode cX5_next 4 = .ok (.bipush 32, 2) := dk_16 32 (dk_at dksX5_next_0 4 rfl rfl)
theorem dX5_next_6 : decode cX5_next 6 = .ok (.if_icmp .ne 16, 3) := dk_160 0 16 (dk_at dksX5_next_0 6 rfl rfl)
theorem dX5_next_9 : decode cX5_next 9 = .ok (.aload_n 0, 1) := dk_42 (dk_at dksX5_next_0 9 rfl rfl)
theorem dX5_next_10 : decode cX5_next 10 = .ok (.dup, 1) := dk_89 (dk_at dksX5_next_0 10 rfl rfl)
theorem dX5_next_11 : decode cX5_next 11 = .ok (.getfield 19, 3) := dk_180 0 19 (dk_at dksX5_next_0 11 rfl rfl)
theorem dX5_next_14 : decode cX5_next 14 = .ok (.iconst 1, 1) := dk_4 (dk_at dksX5_next_0 14 rfl rfl)
theorem dX5_next_15 : decode cX5_next 15 = .ok (.iadd, 1) := dk_96 (dk_at dksX5_next_0 15 rfl rfl)
theorem dX5_next_16 : decode cX5_next 16 = .ok (.putfield 19, 3) := dk_181 0 19 (dk_at dksX5_next_0 16 rfl rfl)
theorem dX5_next_19 : decode cX5_next 19 = .ok (.goto (-19), 3) := dk_167 255 237 (dk_at dksX5_next_0 19 rfl rfl)
theorem dX5_next_22 : decode cX5_next 22 = .ok (.aload_n 0, 1) := dk_42 (dk_at dksX5_next_0 22 rfl rfl)
theorem dX5_next_23 : decode cX5_next 23 = .ok (.getfield 19, 3) := dk_180 0 19 (dk_at dksX5_next_1 0 rfl rfl)
theorem dX5_next_26 : decode cX5_next 26 = .ok (.istore_n 1, 1) := dk_60 (dk_at dksX5_next_1 3 rfl rfl)
theorem dX5_next_27 : decode cX5_next 27 = .ok (.aload_n 0, 1) := dk_42 (dk_at dksX5_next_1 4 rfl rfl)
theorem dX5_next_28 : decode cX5_next 28 = .ok (.getfield 19, 3) := dk_180 0 19 (dk_at dksX5_next_1 5 rfl rfl)
theorem dX5_next_31 : decode cX5_next 31 = .ok (.aload_n 0, 1) := dk_42 (dk_at dksX5_next_1 8 rfl rfl)
theorem dX5_next_32 : decode cX5_next 32 = .ok (.getfield 15, 3) := dk_180 0 15 (dk_at dksX5_next_1 9 rfl rfl)
theorem dX5_next_35 : decode cX5_next 35 = .ok (.if_icmp .ne 16, 3) := dk_160 0 16 (dk_at dksX5_next_1 12 rfl rfl)
theorem dX5_next_38 : decode cX5_next 38 = .ok (.new 26, 3) := dk_187 0 26 (dk_at dksX5_next_1 15 rfl rfl)
theorem dX5_next_41 : decode cX5_next 41 = .ok (.dup, 1) := dk_89 (dk_at dksX5_next_1 18 rfl rfl)
theorem dX5_next_42 : decode cX5_next 42 = .ok (.iconst 1, 1) := dk_4 (dk_at dksX5_next_1 19 rfl rfl)
theorem dX5_next_43 : decode cX5_next 43 = .ok (.iload_n 1, 1) := dk_27 (dk_at dksX5_next_1 20 rfl rfl)
theorem dX5_next_44 : decode cX5_next 44 = .ok (.iconst 0, 1) := dk_3 (dk_at dksX5_next_1 21 rfl rfl)
theorem dX5_next_45 : decode cX5_next 45 = .ok (.ldc 28, 2) := dk_18 28 (dk_at dksX5_next_1 22 rfl rfl)
theorem dX5_next_47 : decode cX5_next 47 = .ok (.invokespecial 30, 3) := dk_183 0 30 (dk_at dksX5_next_2 0 rfl rfl)
theorem dX5_next_50 : decode cX5_next 50 = .ok (.areturn, 1) := dk_176 (dk_at dksX5_next_2 3 rfl rfl)
theorem dX5_next_51 : decode cX5_next 51 = .ok (.aload_n 0, 1) := dk_42 (dk_at dksX5_next_2 4 rfl rfl)
theorem dX5_next_52 : decode cX5_next 52 = .ok (.invokevirtual 22, 3) := dk_182 0 22 (dk_at dksX5_next_2 5 rfl rfl)
theorem dX5_next_55 : decode cX5_next 55 = .ok (.bipush 97, 2) := dk_16 97 (dk_at dksX5_next_2 8 rfl rfl)
theorem dX5_next_57 : decode cX5_next 57 = .ok (.bipush 122, 2) := dk_16 122 (dk_at dksX5_next_2 10 rfl rfl)
theorem dX5_next_59 : decode cX5_next 59 = .ok (.invokestatic 33, 3) := dk_184 0 33 (dk_at dksX5_next_2 12 rfl rfl)
theorem dX5_next_62 : decode cX5_next 62 = .ok (.ifCond .eq 89, 3) := dk_153 0 89 (dk_at dksX5_next_2 15 rfl rfl)
theorem dX5_next_65 : decode cX5_next 65 = .ok (.new 37, 3) := dk_187 0 37 (dk_at dksX5_next_2 18 rfl rfl)
theorem dX5_next_68 : decode cX5_next 68 = .ok (.dup, 1) := dk_89 (dk_at dksX5_next_2 21 rfl rfl)
theorem dX5_next_69 : decode cX5_next 69 = .ok (.invokespecial 39, 3) := dk_183 0 39 (dk_at dksX5_next_3 0 rfl rfl)
theorem dX5_next_72 : decode cX5_next 72 = .ok (.astore_n 2, 1) := dk_77 (dk_at dksX5_next_3 3 rfl rfl)
theorem dX5_next_73 : decode cX5_next 73 = .ok (.aload_n 0, 1) := dk_42 (dk_at dksX5_next_3 4 rfl rfl)
theorem dX5_next_74 : decode cX5_next 74 = .ok (.invokevirtual 22, 3) := dk_182 0 22 (dk_at dksX5_next_3 5 rfl rfl)
theorem dX5_next_77 : decode cX5_next 77 = .ok (.bipush 97, 2) := dk_16 97 (dk_at dksX5_next_3 8 rfl rfl)
theorem dX5_next_79 : decode cX5_next 79 = .ok (.bipush 122, 2) := dk_16 122 (dk_at dksX5_next_3 10 rfl rfl)
theorem dX5_next_81 : decode cX5_next 81 = .ok (.invokestatic 33, 3) := dk_184 0 33 (dk_at dksX5_next_3 12 rfl rfl)
theorem dX5_next_84 : decode cX5_next 84 = .ok (.ifCond .eq 37, 3) := dk_153 0 37 (dk_at dksX5_next_3 15 rfl rfl)
theorem dX5_next_87 : decode cX5_next 87 = .ok (.aload_n 0, 1) := dk_42 (dk_at dksX5_next_3 18 rfl rfl)
theorem dX5_next_88 : decode cX5_next 88 = .ok (.getfield 19, 3) := dk_180 0 19 (dk_at dksX5_next_3 19 rfl rfl)
theorem dX5_next_91 : decode cX5_next 91 = .ok (.iload_n 1, 1) := dk_27 (dk_at dksX5_next_3 22 rfl rfl)
theorem dX5_next_92 : decode cX5_next 92 = .ok (.isub, 1) := dk_100 (dk_at dksX5_next_3 23 rfl rfl)
theorem dX5_next_93 : decode cX5_next 93 = .ok (.bipush 8, 2) := dk_16 8 (dk_at dksX5_next_4 0 rfl rfl)
theorem dX5_next_95 : decode cX5_next 95 = .ok (.if_icmp .ge 13, 3) := dk_162 0 13 (dk_at dksX5_next_4 2 rfl rfl)
theorem dX5_next_98 : decode cX5_next 98 = .ok (.aload_n 2, 1) := dk_44 (dk_at dksX5_next_4 5 rfl rfl)
theorem dX5_next_99 : decode cX5_next 99 = .ok (.aload_n 0, 1) := dk_42 (dk_at dksX5_next_4 6 rfl rfl)
theorem dX5_next_100 : decode cX5_next 100 = .ok (.invokevirtual 22, 3) := dk_182 0 22 (dk_at dksX5_next_4 7 rfl rfl)
theorem dX5_next_103 : decode cX5_next 103 = .ok (.i2c, 1) := dk_146 (dk_at dksX5_next_4 10 rfl rfl)
theorem dX5_next_104 : decode cX5_next 104 = .ok (.invokevirtual 40, 3) := dk_182 0 40 (dk_at dksX5_next_4 11 rfl rfl)
theorem dX5_next_107 : decode cX5_next 107 = .ok (.pop, 1) := dk_87 (dk_at dksX5_next_4 14 rfl rfl)
theorem dX5_next_108 : decode cX5_next 108 = .ok (.aload_n 0, 1) := dk_42 (dk_at dksX5_next_4 15 rfl rfl)
theorem dX5_next_109 : decode cX5_next 109 = .ok (.dup, 1) := dk_89 (dk_at dksX5_next_4 16 rfl rfl)
theorem dX5_next_110 : decode cX5_next 110 = .ok (.getfield 19, 3) := dk_180 0 19 (dk_at dksX5_next_4 17 rfl rfl)
theorem dX5_next_113 : decode cX5_next 113 = .ok (.iconst 1, 1) := dk_4 (dk_at dksX5_next_4 20 rfl rfl)
theorem dX5_next_114 : decode cX5_next 114 = .ok (.iadd, 1) := dk_96 (dk_at dksX5_next_4 21 rfl rfl)
theorem dX5_next_115 : decode cX5_next 115 = .ok (.putfield 19, 3) := dk_181 0 19 (dk_at dksX5_next_5 0 rfl rfl)
theorem dX5_next_118 : decode cX5_next 118 = .ok (.goto (-45), 3) := dk_167 255 211 (dk_at dksX5_next_5 3 rfl rfl)
theorem dX5_next_121 : decode cX5_next 121 = .ok (.new 26, 3) := dk_187 0 26 (dk_at dksX5_next_5 6 rfl rfl)
theorem dX5_next_124 : decode cX5_next 124 = .ok (.dup, 1) := dk_89 (dk_at dksX5_next_5 9 rfl rfl)
theorem dX5_next_125 : decode cX5_next 125 = .ok (.aload_n 0, 1) := dk_42 (dk_at dksX5_next_5 10 rfl rfl)
theorem dX5_next_126 : decode cX5_next 126 = .ok (.getfield 19, 3) := dk_180 0 19 (dk_at dksX5_next_5 11 rfl rfl)
theorem dX5_next_129 : decode cX5_next 129 = .ok (.iload_n 1, 1) := dk_27 (dk_at dksX5_next_5 14 rfl rfl)
theorem dX5_next_130 : decode cX5_next 130 = .ok (.isub, 1) := dk_100 (dk_at dksX5_next_5 15 rfl rfl)
theorem dX5_next_131 : decode cX5_next 131 = .ok (.bipush 8, 2) := dk_16 8 (dk_at dksX5_next_5 16 rfl rfl)
theorem dX5_next_133 : decode cX5_next 133 = .ok (.if_icmp .le 7, 3) := dk_164 0 7 (dk_at dksX5_next_5 18 rfl rfl)
theorem dX5_next_136 : decode cX5_next 136 = .ok (.iconst 0, 1) := dk_3 (dk_at dksX5_next_5 21 rfl rfl)
theorem dX5_next_137 : decode cX5_next 137 = .ok (.goto 4, 3) := dk_167 0 4 (dk_at dksX5_next_6 0 rfl rfl)
theorem dX5_next_140 : decode cX5_next 140 = .ok (.iconst 2, 1) := dk_5 (dk_at dksX5_next_6 3 rfl rfl)
theorem dX5_next_141 : decode cX5_next 141 = .ok (.iload_n 1, 1) := dk_27 (dk_at dksX5_next_6 4 rfl rfl)
theorem dX5_next_142 : decode cX5_next 142 = .ok (.iconst 0, 1) := dk_3 (dk_at dksX5_next_6 5 rfl rfl)
theorem dX5_next_143 : decode cX5_next 143 = .ok (.aload_n 2, 1) := dk_44 (dk_at dksX5_next_6 6 rfl rfl)
theorem dX5_next_144 : decode cX5_next 144 = .ok (.invokevirtual 44, 3) := dk_182 0 44 (dk_at dksX5_next_6 7 rfl rfl)
theorem dX5_next_147 : decode cX5_next 147 = .ok (.invokespecial 30, 3) := dk_183 0 30 (dk_at dksX5_next_6 10 rfl rfl)
theorem dX5_next_150 : decode cX5_next 150 = .ok (.areturn, 1) := dk_176 (dk_at dksX5_next_6 13 rfl rfl)
theorem dX5_next_151 : decode cX5_next 151 = .ok (.aload_n 0, 1) := dk_42 (dk_at dksX5_next_6 14 rfl rfl)
theorem dX5_next_152 : decode cX5_next 152 = .ok (.invokevirtual 22, 3) := dk_182 0 22 (dk_at dksX5_next_6 15 rfl rfl)
theorem dX5_next_155 : decode cX5_next 155 = .ok (.bipush 48, 2) := dk_16 48 (dk_at dksX5_next_6 18 rfl rfl)
theorem dX5_next_157 : decode cX5_next 157 = .ok (.bipush 57, 2) := dk_16 57 (dk_at dksX5_next_6 20 rfl rfl)
theorem dX5_next_159 : decode cX5_next 159 = .ok (.invokestatic 33, 3) := dk_184 0 33 (dk_at dksX5_next_7 0 rfl rfl)
theorem dX5_next_162 : decode cX5_next 162 = .ok (.ifCond .eq 82, 3) := dk_153 0 82 (dk_at dksX5_next_7 3 rfl rfl)
theorem dX5_next_165 : decode cX5_next 165 = .ok (.iconst 0, 1) := dk_3 (dk_at dksX5_next_7 6 rfl rfl)
theorem dX5_next_166 : decode cX5_next 166 = .ok (.istore_n 2, 1) := dk_61 (dk_at dksX5_next_7 7 rfl rfl)
theorem dX5_next_167 : decode cX5_next 167 = .ok (.aload_n 0, 1) := dk_42 (dk_at dksX5_next_7 8 rfl rfl)
theorem dX5_next_168 : decode cX5_next 168 = .ok (.invokevirtual 22, 3) := dk_182 0 22 (dk_at dksX5_next_7 9 rfl rfl)
theorem dX5_next_171 : decode cX5_next 171 = .ok (.bipush 48, 2) := dk_16 48 (dk_at dksX5_next_7 12 rfl rfl)
theorem dX5_next_173 : decode cX5_next 173 = .ok (.bipush 57, 2) := dk_16 57 (dk_at dksX5_next_7 14 rfl rfl)
theorem dX5_next_175 : decode cX5_next 175 = .ok (.invokestatic 33, 3) := dk_184 0 33 (dk_at dksX5_next_7 16 rfl rfl)
theorem dX5_next_178 : decode cX5_next 178 = .ok (.ifCond .eq 39, 3) := dk_153 0 39 (dk_at dksX5_next_7 19 rfl rfl)
theorem dX5_next_181 : decode cX5_next 181 = .ok (.aload_n 0, 1) := dk_42 (dk_at dksX5_next_7 22 rfl rfl)
theorem dX5_next_182 : decode cX5_next 182 = .ok (.getfield 19, 3) := dk_180 0 19 (dk_at dksX5_next_8 0 rfl rfl)
theorem dX5_next_185 : decode cX5_next 185 = .ok (.iload_n 1, 1) := dk_27 (dk_at dksX5_next_8 3 rfl rfl)
theorem dX5_next_186 : decode cX5_next 186 = .ok (.isub, 1) := dk_100 (dk_at dksX5_next_8 4 rfl rfl)
theorem dX5_next_187 : decode cX5_next 187 = .ok (.iconst 3, 1) := dk_6 (dk_at dksX5_next_8 5 rfl rfl)
theorem dX5_next_188 : decode cX5_next 188 = .ok (.if_icmp .ge 16, 3) := dk_162 0 16 (dk_at dksX5_next_8 6 rfl rfl)
theorem dX5_next_191 : decode cX5_next 191 = .ok (.bipush 10, 2) := dk_16 10 (dk_at dksX5_next_8 9 rfl rfl)
theorem dX5_next_193 : decode cX5_next 193 = .ok (.iload_n 2, 1) := dk_28 (dk_at dksX5_next_8 11 rfl rfl)
theorem dX5_next_194 : decode cX5_next 194 = .ok (.imul, 1) := dk_104 (dk_at dksX5_next_8 12 rfl rfl)
theorem dX5_next_195 : decode cX5_next 195 = .ok (.aload_n 0, 1) := dk_42 (dk_at dksX5_next_8 13 rfl rfl)
theorem dX5_next_196 : decode cX5_next 196 = .ok (.invokevirtual 22, 3) := dk_182 0 22 (dk_at dksX5_next_8 14 rfl rfl)
theorem dX5_next_199 : decode cX5_next 199 = .ok (.iadd, 1) := dk_96 (dk_at dksX5_next_8 17 rfl rfl)
theorem dX5_next_200 : decode cX5_next 200 = .ok (.bipush 48, 2) := dk_16 48 (dk_at dksX5_next_8 18 rfl rfl)
theorem dX5_next_202 : decode cX5_next 202 = .ok (.isub, 1) := dk_100 (dk_at dksX5_next_8 20 rfl rfl)
theorem dX5_next_203 : decode cX5_next 203 = .ok (.istore_n 2, 1) := dk_61 (dk_at dksX5_next_8 21 rfl rfl)
theorem dX5_next_204 : decode cX5_next 204 = .ok (.aload_n 0, 1) := dk_42 (dk_at dksX5_next_8 22 rfl rfl)
theorem dX5_next_205 : decode cX5_next 205 = .ok (.dup, 1) := dk_89 (dk_at dksX5_next_8 23 rfl rfl)
theorem dX5_next_206 : decode cX5_next 206 = .ok (.getfield 19, 3) := dk_180 0 19 (dk_at dksX5_next_9 0 rfl rfl)
theorem dX5_next_209 : decode cX5_next 209 = .ok (.iconst 1, 1) := dk_4 (dk_at dksX5_next_9 3 rfl rfl)
theorem dX5_next_210 : decode cX5_next 210 = .ok (.iadd, 1) := dk_96 (dk_at dksX5_next_9 4 rfl rfl)
theorem dX5_next_211 : decode cX5_next 211 = .ok (.putfield 19, 3) := dk_181 0 19 (dk_at dksX5_next_9 5 rfl rfl)
theorem dX5_next_214 : decode cX5_next 214 = .ok (.goto (-47), 3) := dk_167 255 209 (dk_at dksX5_next_9 8 rfl rfl)
theorem dX5_next_217 : decode cX5_next 217 = .ok (.new 26, 3) := dk_187 0 26 (dk_at dksX5_next_9 11 rfl rfl)
theorem dX5_next_220 : decode cX5_next 220 = .ok (.dup, 1) := dk_89 (dk_at dksX5_next_9 14 rfl rfl)
theorem dX5_next_221 : decode cX5_next 221 = .ok (.aload_n 0, 1) := dk_42 (dk_at dksX5_next_9 15 rfl rfl)
theorem dX5_next_222 : decode cX5_next 222 = .ok (.getfield 19, 3) := dk_180 0 19 (dk_at dksX5_next_9 16 rfl rfl)
theorem dX5_next_225 : decode cX5_next 225 = .ok (.iload_n 1, 1) := dk_27 (dk_at dksX5_next_9 19 rfl rfl)
theorem dX5_next_226 : decode cX5_next 226 = .ok (.isub, 1) := dk_100 (dk_at dksX5_next_9 20 rfl rfl)
theorem dX5_next_227 : decode cX5_next 227 = .ok (.iconst 3, 1) := dk_6 (dk_at dksX5_next_9 21 rfl rfl)
theorem dX5_next_228 : decode cX5_next 228 = .ok (.if_icmp .le 7, 3) := dk_164 0 7 (dk_at dksX5_next_10 0 rfl rfl)
theorem dX5_next_231 : decode cX5_next 231 = .ok (.iconst 0, 1) := dk_3 (dk_at dksX5_next_10 3 rfl rfl)
theorem dX5_next_232 : decode cX5_next 232 = .ok (.goto 4, 3) := dk_167 0 4 (dk_at dksX5_next_10 4 rfl rfl)
theorem dX5_next_235 : decode cX5_next 235 = .ok (.iconst 3, 1) := dk_6 (dk_at dksX5_next_10 7 rfl rfl)
theorem dX5_next_236 : decode cX5_next 236 = .ok (.iload_n 1, 1) := dk_27 (dk_at dksX5_next_10 8 rfl rfl)
theorem dX5_next_237 : decode cX5_next 237 = .ok (.iload_n 2, 1) := dk_28 (dk_at dksX5_next_10 9 rfl rfl)
theorem dX5_next_238 : decode cX5_next 238 = .ok (.ldc 28, 2) := dk_18 28 (dk_at dksX5_next_10 10 rfl rfl)
theorem dX5_next_240 : decode cX5_next 240 = .ok (.invokespecial 30, 3) := dk_183 0 30 (dk_at dksX5_next_10 12 rfl rfl)
theorem dX5_next_243 : decode cX5_next 243 = .ok (.areturn, 1) := dk_176 (dk_at dksX5_next_10 15 rfl rfl)
theorem dX5_next_244 : decode cX5_next 244 = .ok (.aload_n 0, 1) := dk_42 (dk_at dksX5_next_10 16 rfl rfl)
theorem dX5_next_245 : decode cX5_next 245 = .ok (.invokevirtual 22, 3) := dk_182 0 22 (dk_at dksX5_next_10 17 rfl rfl)
theorem dX5_next_248 : decode cX5_next 248 = .ok (.istore_n 2, 1) := dk_61 (dk_at dksX5_next_10 20 rfl rfl)
theorem dX5_next_249 : decode cX5_next 249 = .ok (.aload_n 0, 1) := dk_42 (dk_at dksX5_next_10 21 rfl rfl)
theorem dX5_next_250 : decode cX5_next 250 = .ok (.dup, 1) := dk_89 (dk_at dksX5_next_10 22 rfl rfl)
theorem dX5_next_251 : decode cX5_next 251 = .ok (.getfield 19, 3) := dk_180 0 19 (dk_at dksX5_next_11 0 rfl rfl)
theorem dX5_next_254 : decode cX5_next 254 = .ok (.iconst 1, 1) := dk_4 (dk_at dksX5_next_11 3 rfl rfl)
theorem dX5_next_255 : decode cX5_next 255 = .ok (.iadd, 1) := dk_96 (dk_at dksX5_next_11 4 rfl rfl)
theorem dX5_next_256 : decode cX5_next 256 = .ok (.putfield 19, 3) := dk_181 0 19 (dk_at dksX5_next_11 5 rfl rfl)
theorem dX5_next_259 : decode cX5_next 259 = .ok (.new 26, 3) := dk_187 0 26 (dk_at dksX5_next_11 8 rfl rfl)
theorem dX5_next_262 : decode cX5_next 262 = .ok (.dup, 1) := dk_89 (dk_at dksX5_next_11 11 rfl rfl)
theorem dX5_next_263 : decode cX5_next 263 = .ok (.iload_n 2, 1) := dk_28 (dk_at dksX5_next_11 12 rfl rfl)
theorem dX5_next_264 : decode cX5_next 264 = .ok (.bipush 59, 2) := dk_16 59 (dk_at dksX5_next_11 13 rfl rfl)
theorem dX5_next_266 : decode cX5_next 266 = .ok (.if_icmp .eq 15, 3) := dk_159 0 15 (dk_at dksX5_next_11 15 rfl rfl)
theorem dX5_next_269 : decode cX5_next 269 = .ok (.iload_n 2, 1) := dk_28 (dk_at dksX5_next_11 18 rfl rfl)
theorem dX5_next_270 : decode cX5_next 270 = .ok (.bipush 44, 2) := dk_16 44 (dk_at dksX5_next_11 19 rfl rfl)
theorem dX5_next_272 : decode cX5_next 272 = .ok (.if_icmp .eq 9, 3) := dk_159 0 9 (dk_at dksX5_next_11 21 rfl rfl)
theorem dX5_next_275 : decode cX5_next 275 = .ok (.iload_n 2, 1) := dk_28 (dk_at dksX5_next_12 0 rfl rfl)
theorem dX5_next_276 : decode cX5_next 276 = .ok (.bipush 45, 2) := dk_16 45 (dk_at dksX5_next_12 1 rfl rfl)
theorem dX5_next_278 : decode cX5_next 278 = .ok (.if_icmp .ne 7, 3) := dk_160 0 7 (dk_at dksX5_next_12 3 rfl rfl)
theorem dX5_next_281 : decode cX5_next 281 = .ok (.iconst 4, 1) := dk_7 (dk_at dksX5_next_12 6 rfl rfl)
theorem dX5_next_282 : decode cX5_next 282 = .ok (.goto 4, 3) := dk_167 0 4 (dk_at dksX5_next_12 7 rfl rfl)
theorem dX5_next_285 : decode cX5_next 285 = .ok (.iconst 0, 1) := dk_3 (dk_at dksX5_next_12 10 rfl rfl)
theorem dX5_next_286 : decode cX5_next 286 = .ok (.iload_n 1, 1) := dk_27 (dk_at dksX5_next_12 11 rfl rfl)
theorem dX5_next_287 : decode cX5_next 287 = .ok (.iload_n 2, 1) := dk_28 (dk_at dksX5_next_12 12 rfl rfl)
theorem dX5_next_288 : decode cX5_next 288 = .ok (.ldc 28, 2) := dk_18 28 (dk_at dksX5_next_12 13 rfl rfl)
theorem dX5_next_290 : decode cX5_next 290 = .ok (.invokespecial 30, 3) := dk_183 0 30 (dk_at dksX5_next_12 15 rfl rfl)
theorem dX5_next_293 : decode cX5_next 293 = .ok (.areturn, 1) := dk_176 (dk_at dksX5_next_12 18 rfl rfl)
abbrev cX5_look : ByteArray := prog_15_method_2_code
def yX5_look : MethodName := ⟨RX5, "look", "()I"⟩
def dkwX5_look_1 : List UInt8 := [167, 0, 4, 2, 172]
abbrev dktX5_look_1 : List UInt8 := dkwX5_look_1 ++ []
def dkwX5_look_0 : List UInt8 := [42, 180, 0, 19, 42, 180, 0, 15, 162, 0, 19, 42, 180, 0, 9, 42, 180, 0, 19, 51, 17, 0, 255, 126]
abbrev dktX5_look_0 : List UInt8 := dkwX5_look_0 ++ dktX5_look_1
theorem dksX5_look_0 : cX5_look.data.toList.drop 0 = dktX5_look_0 := by decide +kernel
theorem dksX5_look_1 : cX5_look.data.toList.drop 24 = dktX5_look_1 := dk_seg dksX5_look_0 24 rfl rfl
theorem dX5_look_0 : decode cX5_look 0 = .ok (.aload_n 0, 1) := dk_42 (dk_at dksX5_look_0 0 rfl rfl)
theorem dX5_look_1 : decode cX5_look 1 = .ok (.getfield 19, 3) := dk_180 0 19 (dk_at dksX5_look_0 1 rfl rfl)
theorem dX5_look_4 : decode cX5_look 4 = .ok (.aload_n 0, 1) := dk_42 (dk_at dksX5_look_0 4 rfl rfl)
theorem dX5_look_5 : decode cX5_look 5 = .ok (.getfield 15, 3) := dk_180 0 15 (dk_at dksX5_look_0 5 rfl rfl)
theorem dX5_look_8 : decode cX5_look 8 = .ok (.if_icmp .ge 19, 3) := dk_162 0 19 (dk_at dksX5_look_0 8 rfl rfl)
theorem dX5_look_11 : decode cX5_look 11 = .ok (.aload_n 0, 1) := dk_42 (dk_at dksX5_look_0 11 rfl rfl)
theorem dX5_look_12 : decode cX5_look 12 = .ok (.getfield 9, 3) := dk_180 0 9 (dk_at dksX5_look_0 12 rfl rfl)
theorem dX5_look_15 : decode cX5_look 15 = .ok (.aload_n 0, 1) := dk_42 (dk_at dksX5_look_0 15 rfl rfl)
theorem dX5_look_16 : decode cX5_look 16 = .ok (.getfield 19, 3) := dk_180 0 19 (dk_at dksX5_look_0 16 rfl rfl)
theorem dX5_look_19 : decode cX5_look 19 = .ok (.baload, 1) := dk_51 (dk_at dksX5_look_0 19 rfl rfl)
theorem dX5_look_20 : decode cX5_look 20 = .ok (.sipush 255, 3) := dk_17 0 255 (dk_at dksX5_look_0 20 rfl rfl)
theorem dX5_look_23 : decode cX5_look 23 = .ok (.iand, 1) := dk_126 (dk_at dksX5_look_0 23 rfl rfl)
theorem dX5_look_24 : decode cX5_look 24 = .ok (.goto 4, 3) := dk_167 0 4 (dk_at dksX5_look_1 0 rfl rfl)
theorem dX5_look_27 : decode cX5_look 27 = .ok (.iconst (-1), 1) := dk_2 (dk_at dksX5_look_1 3 rfl rfl)
theorem dX5_look_28 : decode cX5_look 28 = .ok (.ireturn, 1) := dk_172 (dk_at dksX5_look_1 4 rfl rfl)
theorem q120 : (Jvm.Cond.initialized "NotAtOnce$Tokens") ∈ lw_all := lw_g (lw_at lw_m1 8 rfl) rfl
theorem q266 : (Jvm.Cond.instantiable "NotAtOnce$Tokens" (3 : Nat)) ∈ lw_all := lw_g (lw_at lw_m1 154 rfl) rfl
theorem q268 : (Jvm.Cond.instanceMethod ({ cls := "NotAtOnce$Tokens", name := "<init>", desc := "([BI)V" } : Jvm.MethodName)) ∈ lw_all := lw_g (lw_at lw_m1 156 rfl) rfl
theorem q269 : (Jvm.Cond.code ({ cls := "NotAtOnce$Tokens", name := "<init>", desc := "([BI)V" } : Jvm.MethodName) prog_15_method_1_code (3 : Nat) (Option.none : Option Jvm.ClassFile.FieldType)) ∈ lw_all := lw_g (lw_at lw_m1 157 rfl) rfl
theorem q270 : (Jvm.Cond.methodLink "NotAtOnce$Tokens" (3 : Nat) ({ cls := "java/lang/Object", name := "<init>", desc := "()V" } : Jvm.MethodName)) ∈ lw_all := lw_g (lw_at lw_m1 158 rfl) rfl
theorem q271 : (Jvm.Cond.fieldLink "NotAtOnce$Tokens" (9 : Nat) "NotAtOnce$Tokens" "text" "[B") ∈ lw_all := lw_g (lw_at lw_m1 159 rfl) rfl
theorem q272 : (Jvm.Cond.fieldLink "NotAtOnce$Tokens" (15 : Nat) "NotAtOnce$Tokens" "size" "I") ∈ lw_all := lw_g (lw_at lw_m1 160 rfl) rfl
theorem q273 : (Jvm.Cond.fieldLink "NotAtOnce$Tokens" (19 : Nat) "NotAtOnce$Tokens" "at" "I") ∈ lw_all := lw_g (lw_at lw_m1 161 rfl) rfl
theorem q274 : (Jvm.Cond.laysFinal "NotAtOnce$Tokens" "NotAtOnce$Tokens" "text" "[B") ∈ lw_all := lw_g (lw_at lw_m1 162 rfl) rfl
theorem q275 : (Jvm.Cond.soleField "NotAtOnce$Tokens" "text") ∈ lw_all := lw_g (lw_at lw_m1 163 rfl) rfl
theorem q276 : (Jvm.Cond.laysFinal "NotAtOnce$Tokens" "NotAtOnce$Tokens" "size" "I") ∈ lw_all := lw_g (lw_at lw_m1 164 rfl) rfl
theorem q277 : (Jvm.Cond.soleField "NotAtOnce$Tokens" "size") ∈ lw_all := lw_g (lw_at lw_m1 165 rfl) rfl
theorem q278 : (Jvm.Cond.lays "NotAtOnce$Tokens" "NotAtOnce$Tokens" "at" "I") ∈ lw_all := lw_g (lw_at lw_m1 166 rfl) rfl
theorem q279 : (Jvm.Cond.soleField "NotAtOnce$Tokens" "at") ∈ lw_all := lw_g (lw_at lw_m1 167 rfl) rfl
theorem q280 : (Jvm.Cond.superclass "NotAtOnce$Tokens" "java/lang/Object") ∈ lw_all := lw_g (lw_at lw_m1 168 rfl) rfl
theorem q346 : (Jvm.Cond.instanceMethod ({ cls := "NotAtOnce$Tokens", name := "next", desc := "()LNotAtOnce$Token;" } : Jvm.MethodName)) ∈ lw_all := lw_g (lw_at lw_m1 234 rfl) rfl
theorem q347 : (Jvm.Cond.selects "NotAtOnce$Tokens" ({ cls := "NotAtOnce$Tokens", name := "next", desc := "()LNotAtOnce$Token;" } : Jvm.MethodName) ({ cls := "NotAtOnce$Tokens", name := "next", desc := "()LNotAtOnce$Token;" } : Jvm.MethodName)) ∈ lw_all := lw_g (lw_at lw_m1 235 rfl) rfl
theorem q348 : (Jvm.Cond.code ({ cls := "NotAtOnce$Tokens", name := "next", desc := "()LNotAtOnce$Token;" } : Jvm.MethodName) prog_15_method_3_code (3 : Nat) (Option.some (Jvm.ClassFile.FieldType.object "NotAtOnce$Token"))) ∈ lw_all := lw_g (lw_at lw_m1 236 rfl) rfl
theorem q349 : (Jvm.Cond.methodLink "NotAtOnce$Tokens" (22 : Nat) ({ cls := "NotAtOnce$Tokens", name := "look", desc := "()I" } : Jvm.MethodName)) ∈ lw_all := lw_g (lw_at lw_m1 237 rfl) rfl
theorem q350 : (Jvm.Cond.privateMethod ({ cls := "NotAtOnce$Tokens", name := "look", desc := "()I" } : Jvm.MethodName)) ∈ lw_tbl := lw_at lw_m1 238 rfl
theorem q351 : (Jvm.Cond.instanceMethod ({ cls := "NotAtOnce$Tokens", name := "look", desc := "()I" } : Jvm.MethodName)) ∈ lw_all := lw_g (lw_at lw_m1 239 rfl) rfl
theorem q352 : (Jvm.Cond.code ({ cls := "NotAtOnce$Tokens", name := "look", desc := "()I" } : Jvm.MethodName) prog_15_method_2_code (1 : Nat) (Option.some Jvm.ClassFile.FieldType.int)) ∈ lw_all := lw_g (lw_at lw_m2 0 rfl) rfl
theorem q353 : (Jvm.Cond.classLink "NotAtOnce$Tokens" (26 : Nat) "NotAtOnce$Token") ∈ lw_all := lw_g (lw_at lw_m2 1 rfl) rfl
theorem q355 : (Jvm.Cond.stringRef "NotAtOnce$Tokens" (28 : Nat) "") ∈ lw_tbl := lw_at lw_m2 3 rfl
theorem q356 : (Jvm.Cond.methodLink "NotAtOnce$Tokens" (30 : Nat) ({ cls := "NotAtOnce$Token", name := "<init>", desc := "(IIILjava/lang/String;)V" } : Jvm.MethodName)) ∈ lw_all := lw_g (lw_at lw_m2 4 rfl) rfl
theorem q377 : (Jvm.Cond.methodLinkNest "NotAtOnce$Tokens" (33 : Nat) ({ cls := "NotAtOnce", name := "in", desc := "(III)Z" } : Jvm.MethodName) "NotAtOnce") ∈ lw_tbl := lw_at lw_m2 25 rfl
theorem q378 : (Jvm.Cond.classLink "NotAtOnce$Tokens" (37 : Nat) "java/lang/StringBuilde\x72") ∈ lw_all := lw_g (lw_at lw_m2 26 rfl) rfl
theorem q380 : (Jvm.Cond.methodLink "NotAtOnce$Tokens" (39 : Nat) ({ cls := "java/lang/StringBuilde\x72", name := "<init>", desc := "()V" } : Jvm.MethodName)) ∈ lw_all := lw_g (lw_at lw_m2 28 rfl) rfl
theorem q409 : (Jvm.Cond.methodLink "NotAtOnce$Tokens" (40 : Nat) ({ cls := "java/lang/StringBuilde\x72", name := "append", desc := "(C)Ljava/lang/StringBuilder;" } : Jvm.MethodName)) ∈ lw_all := lw_g (lw_at lw_m2 57 rfl) rfl
theorem q504 : (Jvm.Cond.methodLink "NotAtOnce$Tokens" (44 : Nat) ({ cls := "java/lang/StringBuilde\x72", name := "toString", desc := "()Ljava/lang/String;" } : Jvm.MethodName)) ∈ lw_all := lw_g (lw_at lw_m2 152 rfl) rfl
theorem q775 : (Jvm.Cond.selects "NotAtOnce$Tokens" ({ cls := "java/lang/Object", name := "getClass", desc := "()Ljava/lang/Class;" } : Jvm.MethodName) ({ cls := "java/lang/Object", name := "getClass", desc := "()Ljava/lang/Class;" } : Jvm.MethodName)) ∈ lw_all := lw_g (lw_at lw_m3 183 rfl) rfl
theorem q2355 : (Jvm.Cond.castable "NotAtOnce$Tokens" "java/lang/Object") ∈ lw_tbl := lw_at lw_m10 83 rfl
theorem in_X5 : ∀ w ∈ wsX50, w ∈ lw_all := lw_in wsX50 [274, 276, 278] (by decide +kernel) (by decide +kernel)
/-! NotAtOnce$Book -/
set_option maxRecDepth 100000
def RX6 : String := "NotAtOnce$Book"
def TX6 : u_T := fun k => match k with
  | 0 => ("NotAtOnce$Book", "of", "I", false)
  | 1 => ("NotAtOnce$Book", "looks", "I", false)
  | 2 => ("NotAtOnce$Book", "points", "I", false)
  | 3 => ("NotAtOnce$Book", "table", "LNotAtOnce$Table;", true)
  | 4 => ("NotAtOnce$Book", "lines", "Ljava/util/ArrayList;", true)
  | 5 => ("NotAtOnce$Book", "rays", "Ljava/util/ArrayList;", true)
  | _ => ("NotAtOnce$Book", "runs", "Ljava/util/ArrayList;", true)
def tyX6 : Nat → FieldType := fun k => match k with
  | 0 => .int
  | 1 => .int
  | 2 => .int
  | 3 => .object "NotAtOnce$Table"
  | 4 => .object "java/util/ArrayList"
  | 5 => .object "java/util/ArrayList"
  | _ => .object "java/util/ArrayList"
abbrev wsX60 : List Cond := u_ws RX6 TX6 7
theorem nmX6 : ∀ a, a < 7 → ∀ b, b < 7 → a ≠ b → (TX6 a).2.1 ≠ (TX6 b).2.1 := by decide +kernel
theorem tyX6_ok : ∀ k, k < 7 → parseFieldDescriptor (TX6 k).2.2.1 = some (tyX6 k) := by decide +kernel
abbrev cX6_init : ByteArray := prog_3_method_1_code
def yX6_init : MethodName := ⟨RX6, "<init>", "()V"⟩
def dkwX6_init_2 : List UInt8 := [181, 0, 26, 177]
abbrev dktX6_init_2 : List UInt8 := dkwX6_init_2 ++ []
def dkwX6_init_1 : List UInt8 := [181, 0, 19, 42, 187, 0, 16, 89, 183, 0, 18, 181, 0, 23, 42, 187, 0, 16, 89, 183, 0, 18]
abbrev dktX6_init_1 : List UInt8 := dkwX6_init_1 ++ dktX6_init_2
def dkwX6_init_0 : List UInt8 := [42, 183, 0, 1, 42, 187, 0, 7, 89, 183, 0, 9, 181, 0, 10, 42, 187, 0, 16, 89, 183, 0, 18]
abbrev dktX6_init_0 : List UInt8 := dkwX6_init_0 ++ dktX6_init_1
theorem dksX6_init_0 : cX6_init.data.toList.drop 0 = dktX6_init_0 := by decide +kernel
theorem dksX6_init_1 : cX6_init.data.toList.drop 23 = dktX6_init_1 := dk_seg dksX6_init_0 23 rfl rfl
theorem dksX6_init_2 : cX6_init.data.toList.drop 45 = dktX6_init_2 := dk_seg dksX6_init_1 22 rfl rfl
theorem dX6_init_0 : decode cX6_init 0 = .ok (.aload_n 0, 1) := dk_42 (dk_at dksX6_init_0 0 rfl rfl)
theorem dX6_init_1 : decode cX6_init 1 = .ok (.invokespecial 1, 3) := dk_183 0 1 (dk_at dksX6_init_0 1 rfl rfl)
theorem dX6_init_4 : decode cX6_init 4 = .ok (.aload_n 0, 1) := dk_42 (dk_at dksX6_init_0 4 rfl rfl)
theorem dX6_init_5 : decode cX6_init 5 = .ok (.new 7, 3) := dk_187 0 7 (dk_at dksX6_init_0 5 rfl rfl)
theorem dX6_init_8 : decode cX6_init 8 = .ok (.dup, 1) := dk_89 (dk_at dksX6_init_0 8 rfl rfl)
theorem dX6_init_9 : decode cX6_init 9 = .ok (.invokespecial 9, 3) := dk_183 0 9 (dk_at dksX6_init_0 9 rfl rfl)
theorem dX6_init_12 : decode cX6_init 12 = .ok (.putfield 10, 3) := dk_181 0 10 (dk_at dksX6_init_0 12 rfl rfl)
theorem dX6_init_15 : decode cX6_init 15 = .ok (.aload_n 0, 1) := dk_42 (dk_at dksX6_init_0 15 rfl rfl)
theorem dX6_init_16 : decode cX6_init 16 = .ok (.new 16, 3) := dk_187 0 16 (dk_at dksX6_init_0 16 rfl rfl)
theorem dX6_init_19 : decode cX6_init 19 = .ok (.dup, 1) := dk_89 (dk_at dksX6_init_0 19 rfl rfl)
theorem dX6_init_20 : decode cX6_init 20 = .ok (.invokespecial 18, 3) := dk_183 0 18 (dk_at dksX6_init_0 20 rfl rfl)
theorem dX6_init_23 : decode cX6_init 23 = .ok (.putfield 19, 3) := dk_181 0 19 (dk_at dksX6_init_1 0 rfl rfl)
theorem dX6_init_26 : decode cX6_init 26 = .ok (.aload_n 0, 1) := dk_42 (dk_at dksX6_init_1 3 rfl rfl)
theorem dX6_init_27 : decode cX6_init 27 = .ok (.new 16, 3) := dk_187 0 16 (dk_at dksX6_init_1 4 rfl rfl)
theorem dX6_init_30 : decode cX6_init 30 = .ok (.dup, 1) := dk_89 (dk_at dksX6_init_1 7 rfl rfl)
theorem dX6_init_31 : decode cX6_init 31 = .ok (.invokespecial 18, 3) := dk_183 0 18 (dk_at dksX6_init_1 8 rfl rfl)
theorem dX6_init_34 : decode cX6_init 34 = .ok (.putfield 23, 3) := dk_181 0 23 (dk_at dksX6_init_1 11 rfl rfl)
theorem dX6_init_37 : decode cX6_init 37 = .ok (.aload_n 0, 1) := dk_42 (dk_at dksX6_init_1 14 rfl rfl)
theorem dX6_init_38 : decode cX6_init 38 = .ok (.new 16, 3) := dk_187 0 16 (dk_at dksX6_init_1 15 rfl rfl)
theorem dX6_init_41 : decode cX6_init 41 = .ok (.dup, 1) := dk_89 (dk_at dksX6_init_1 18 rfl rfl)
theorem dX6_init_42 : decode cX6_init 42 = .ok (.invokespecial 18, 3) := dk_183 0 18 (dk_at dksX6_init_1 19 rfl rfl)
theorem dX6_init_45 : decode cX6_init 45 = .ok (.putfield 26, 3) := dk_181 0 26 (dk_at dksX6_init_2 0 rfl rfl)
theorem dX6_init_48 : decode cX6_init 48 = .ok (.return_, 1) := dk_177 (dk_at dksX6_init_2 3 rfl rfl)
abbrev cX6_hiddens : ByteArray := prog_3_method_2_code
def yX6_hiddens : MethodName := ⟨RX6, "hiddens", "()I"⟩
def dkwX6_hiddens_0 : List UInt8 := [4, 42, 180, 0, 29, 120, 172]
abbrev dktX6_hiddens_0 : List UInt8 := dkwX6_hiddens_0 ++ []
theorem dksX6_hiddens_0 : cX6_hiddens.data.toList.drop 0 = dktX6_hiddens_0 := by decide +kernel
theorem dX6_hiddens_0 : decode cX6_hiddens 0 = .ok (.iconst 1, 1) := dk_4 (dk_at dksX6_hiddens_0 0 rfl rfl)
theorem dX6_hiddens_1 : decode cX6_hiddens 1 = .ok (.aload_n 0, 1) := dk_42 (dk_at dksX6_hiddens_0 1 rfl rfl)
theorem dX6_hiddens_2 : decode cX6_hiddens 2 = .ok (.getfield 29, 3) := dk_180 0 29 (dk_at dksX6_hiddens_0 2 rfl rfl)
theorem dX6_hiddens_5 : decode cX6_hiddens 5 = .ok (.ishl, 1) := dk_120 (dk_at dksX6_hiddens_0 5 rfl rfl)
theorem dX6_hiddens_6 : decode cX6_hiddens 6 = .ok (.ireturn, 1) := dk_172 (dk_at dksX6_hiddens_0 6 rfl rfl)
abbrev cX6_can : ByteArray := prog_3_method_3_code
def yX6_can : MethodName := ⟨RX6, "can", "(II)Z"⟩
def dkwX6_can_2 : List UInt8 := [167, 255, 214, 4, 172]
abbrev dktX6_can_2 : List UInt8 := dkwX6_can_2 ++ []
def dkwX6_can_1 : List UInt8 := [180, 0, 19, 29, 182, 0, 43, 192, 0, 47, 28, 182, 0, 49, 154, 0, 5, 3, 172, 132, 3, 1]
abbrev dktX6_can_1 : List UInt8 := dkwX6_can_1 ++ dktX6_can_2
def dkwX6_can_0 : List UInt8 := [3, 62, 29, 42, 180, 0, 19, 182, 0, 33, 162, 0, 37, 27, 29, 184, 0, 37, 153, 0, 23, 42]
abbrev dktX6_can_0 : List UInt8 := dkwX6_can_0 ++ dktX6_can_1
theorem dksX6_can_0 : cX6_can.data.toList.drop 0 = dktX6_can_0 := by decide +kernel
theorem dksX6_can_1 : cX6_can.data.toList.drop 22 = dktX6_can_1 := dk_seg dksX6_can_0 22 rfl rfl
theorem dksX6_can_2 : cX6_can.data.toList.drop 44 = dktX6_can_2 := dk_seg dksX6_can_1 22 rfl rfl
theorem dX6_can_0 : decode cX6_can 0 = .ok (.iconst 0, 1) := dk_3 (dk_at dksX6_can_0 0 rfl rfl)
theorem dX6_can_1 : decode cX6_can 1 = .ok (.istore_n 3, 1) := dk_62 (dk_at dksX6_can_0 1 rfl rfl)
theorem dX6_can_2 : decode cX6_can 2 = .ok (.iload_n 3, 1) := dk_29 (dk_at dksX6_can_0 2 rfl rfl)
theorem dX6_can_3 : decode cX6_can 3 = .ok (.aload_n 0, 1) := dk_42 (dk_at dksX6_can_0 3 rfl rfl)
theorem dX6_can_4 : decode cX6_can 4 = .ok (.getfield 19, 3) := dk_180 0 19 (dk_at dksX6_can_0 4 rfl rfl)
theorem dX6_can_7 : decode cX6_can 7 = .ok (.invokevirtual 33, 3) := dk_182 0 33 (dk_at dksX6_can_0 7 rfl rfl)
theorem dX6_can_10 : decode cX6_can 10 = .ok (.if_icmp .ge 37, 3) := dk_162 0 37 (dk_at dksX6_can_0 10 rfl rfl)
theorem dX6_can_13 : decode cX6_can 13 = .ok (.iload_n 1, 1) := dk_27 (dk_at dksX6_can_0 13 rfl rfl)
theorem dX6_can_14 : decode cX6_can 14 = .ok (.iload_n 3, 1) := dk_29 (dk_at dksX6_can_0 14 rfl rfl)
theorem dX6_can_15 : decode cX6_can 15 = .ok (.invokestatic 37, 3) := dk_184 0 37 (dk_at dksX6_can_0 15 rfl rfl)
theorem dX6_can_18 : decode cX6_can 18 = .ok (.ifCond .eq 23, 3) := dk_153 0 23 (dk_at dksX6_can_0 18 rfl rfl)
theorem dX6_can_21 : decode cX6_can 21 = .ok (.aload_n 0, 1) := dk_42 (dk_at dksX6_can_0 21 rfl rfl)
theorem dX6_can_22 : decode cX6_can 22 = .ok (.getfield 19, 3) := dk_180 0 19 (dk_at dksX6_can_1 0 rfl rfl)
theorem dX6_can_25 : decode cX6_can 25 = .ok (.iload_n 3, 1) := dk_29 (dk_at dksX6_can_1 3 rfl rfl)
theorem dX6_can_26 : decode cX6_can 26 = .ok (.invokevirtual 43, 3) := dk_182 0 43 (dk_at dksX6_can_1 4 rfl rfl)
theorem dX6_can_29 : decode cX6_can 29 = .ok (.checkcast 47, 3) := dk_192 0 47 (dk_at dksX6_can_1 7 rfl rfl)
theorem dX6_can_32 : decode cX6_can 32 = .ok (.iload_n 2, 1) := dk_28 (dk_at dksX6_can_1 10 rfl rfl)
theorem dX6_can_33 : decode cX6_can 33 = .ok (.invokevirtual 49, 3) := dk_182 0 49 (dk_at dksX6_can_1 11 rfl rfl)
theorem dX6_can_36 : decode cX6_can 36 = .ok (.ifCond .ne 5, 3) := dk_154 0 5 (dk_at dksX6_can_1 14 rfl rfl)
theorem dX6_can_39 : decode cX6_can 39 = .ok (.iconst 0, 1) := dk_3 (dk_at dksX6_can_1 17 rfl rfl)
theorem dX6_can_40 : decode cX6_can 40 = .ok (.ireturn, 1) := dk_172 (dk_at dksX6_can_1 18 rfl rfl)
theorem dX6_can_41 : decode cX6_can 41 = .ok (.iinc 3 1, 3) := dk_132 3 1 (dk_at dksX6_can_1 19 rfl rfl)
theorem dX6_can_44 : decode cX6_can 44 = .ok (.goto (-42), 3) := dk_167 255 214 (dk_at dksX6_can_2 0 rfl rfl)
theorem dX6_can_47 : decode cX6_can 47 = .ok (.iconst 1, 1) := dk_4 (dk_at dksX6_can_2 3 rfl rfl)
theorem dX6_can_48 : decode cX6_can 48 = .ok (.ireturn, 1) := dk_172 (dk_at dksX6_can_2 4 rfl rfl)
abbrev cX6_can_2 : ByteArray := prog_3_method_4_code
def yX6_can_2 : MethodName := ⟨RX6, "can", "(I)Z"⟩
def dkwX6_can_2_1 : List UInt8 := [132, 2, 1, 167, 255, 232, 3, 172]
abbrev dktX6_can_2_1 : List UInt8 := dkwX6_can_2_1 ++ []
def dkwX6_can_2_0 : List UInt8 := [3, 61, 28, 4, 42, 180, 0, 53, 120, 162, 0, 20, 42, 27, 28, 182, 0, 56, 153, 0, 5, 4, 172]
abbrev dktX6_can_2_0 : List UInt8 := dkwX6_can_2_0 ++ dktX6_can_2_1
theorem dksX6_can_2_0 : cX6_can_2.data.toList.drop 0 = dktX6_can_2_0 := by decide +kernel
theorem dksX6_can_2_1 : cX6_can_2.data.toList.drop 23 = dktX6_can_2_1 := dk_seg dksX6_can_2_0 23 rfl rfl
theorem dX6_can_2_0 : decode cX6_can_2 0 = .ok (.iconst 0, 1) := dk_3 (dk_at dksX6_can_2_0 0 rfl rfl)
theorem dX6_can_2_1 : decode cX6_can_2 1 = .ok (.istore_n 2, 1) := dk_61 (dk_at dksX6_can_2_0 1 rfl rfl)
theorem dX6_can_2_2 : decode cX6_can_2 2 = .ok (.iload_n 2, 1) := dk_28 (dk_at dksX6_can_2_0 2 rfl rfl)
theorem dX6_can_2_3 : decode cX6_can_2 3 = .ok (.iconst 1, 1) := dk_4 (dk_at dksX6_can_2_0 3 rfl rfl)
theorem dX6_can_2_4 : decode cX6_can_2 4 = .ok (.aload_n 0, 1) := dk_42 (dk_at dksX6_can_2_0 4 rfl rfl)
theorem dX6_can_2_5 : decode cX6_can_2 5 = .ok (.getfield 53, 3) := dk_180 0 53 (dk_at dksX6_can_2_0 5 rfl rfl)
theorem dX6_can_2_8 : decode cX6_can_2 8 = .ok (.ishl, 1) := dk_120 (dk_at dksX6_can_2_0 8 rfl rfl)
theorem dX6_can_2_9 : decode cX6_can_2 9 = .ok (.if_icmp .ge 20, 3) := dk_162 0 20 (dk_at dksX6_can_2_0 9 rfl rfl)
theorem dX6_can_2_12 : decode cX6_can_2 12 = .ok (.aload_n 0, 1) := dk_42 (dk_at dksX6_can_2_0 12 rfl rfl)
theorem dX6_can_2_13 : decode cX6_can_2 13 = .ok (.iload_n 1, 1) := dk_27 (dk_at dksX6_can_2_0 13 rfl rfl)
theorem dX6_can_2_14 : decode cX6_can_2 14 = .ok (.iload_n 2, 1) := dk_28 (dk_at dksX6_can_2_0 14 rfl rfl)
theorem dX6_can_2_15 : decode cX6_can_2 15 = .ok (.invokevirtual 56, 3) := dk_182 0 56 (dk_at dksX6_can_2_0 15 rfl rfl)
theorem dX6_can_2_18 : decode cX6_can_2 18 = .ok (.ifCond .eq 5, 3) := dk_153 0 5 (dk_at dksX6_can_2_0 18 rfl rfl)
theorem dX6_can_2_21 : decode cX6_can_2 21 = .ok (.iconst 1, 1) := dk_4 (dk_at dksX6_can_2_0 21 rfl rfl)
theorem dX6_can_2_22 : decode cX6_can_2 22 = .ok (.ireturn, 1) := dk_172 (dk_at dksX6_can_2_0 22 rfl rfl)
theorem dX6_can_2_23 : decode cX6_can_2 23 = .ok (.iinc 2 1, 3) := dk_132 2 1 (dk_at dksX6_can_2_1 0 rfl rfl)
theorem dX6_can_2_26 : decode cX6_can_2 26 = .ok (.goto (-24), 3) := dk_167 255 232 (dk_at dksX6_can_2_1 3 rfl rfl)
theorem dX6_can_2_29 : decode cX6_can_2 29 = .ok (.iconst 0, 1) := dk_3 (dk_at dksX6_can_2_1 6 rfl rfl)
theorem dX6_can_2_30 : decode cX6_can_2 30 = .ok (.ireturn, 1) := dk_172 (dk_at dksX6_can_2_1 7 rfl rfl)
theorem q121 : (Jvm.Cond.initialized "NotAtOnce$Book") ∈ lw_all := lw_g (lw_at lw_m1 9 rfl) rfl
theorem q286 : (Jvm.Cond.instantiable "NotAtOnce$Book" (7 : Nat)) ∈ lw_all := lw_g (lw_at lw_m1 174 rfl) rfl
theorem q288 : (Jvm.Cond.instanceMethod ({ cls := "NotAtOnce$Book", name := "<init>", desc := "()V" } : Jvm.MethodName)) ∈ lw_all := lw_g (lw_at lw_m1 176 rfl) rfl
theorem q289 : (Jvm.Cond.code ({ cls := "NotAtOnce$Book", name := "<init>", desc := "()V" } : Jvm.MethodName) prog_3_method_1_code (1 : Nat) (Option.none : Option Jvm.ClassFile.FieldType)) ∈ lw_all := lw_g (lw_at lw_m1 177 rfl) rfl
theorem q290 : (Jvm.Cond.methodLink "NotAtOnce$Book" (1 : Nat) ({ cls := "java/lang/Object", name := "<init>", desc := "()V" } : Jvm.MethodName)) ∈ lw_all := lw_g (lw_at lw_m1 178 rfl) rfl
theorem q291 : (Jvm.Cond.classLink "NotAtOnce$Book" (7 : Nat) "NotAtOnce$Table") ∈ lw_all := lw_g (lw_at lw_m1 179 rfl) rfl
theorem q293 : (Jvm.Cond.methodLinkNest "NotAtOnce$Book" (9 : Nat) ({ cls := "NotAtOnce$Table", name := "<init>", desc := "()V" } : Jvm.MethodName) "NotAtOnce") ∈ lw_tbl := lw_at lw_m1 181 rfl
theorem q305 : (Jvm.Cond.classLink "NotAtOnce$Book" (16 : Nat) "java/util/ArrayList") ∈ lw_all := lw_g (lw_at lw_m1 193 rfl) rfl
theorem q306 : (Jvm.Cond.methodLink "NotAtOnce$Book" (18 : Nat) ({ cls := "java/util/ArrayList", name := "<init>", desc := "()V" } : Jvm.MethodName)) ∈ lw_all := lw_g (lw_at lw_m1 194 rfl) rfl
theorem q309 : (Jvm.Cond.fieldLink "NotAtOnce$Book" (29 : Nat) "NotAtOnce$Book" "looks" "I") ∈ lw_all := lw_g (lw_at lw_m1 197 rfl) rfl
theorem q312 : (Jvm.Cond.fieldLink "NotAtOnce$Book" (53 : Nat) "NotAtOnce$Book" "points" "I") ∈ lw_all := lw_g (lw_at lw_m1 200 rfl) rfl
theorem q315 : (Jvm.Cond.fieldLink "NotAtOnce$Book" (10 : Nat) "NotAtOnce$Book" "table" "LNotAtOnce$Table;") ∈ lw_all := lw_g (lw_at lw_m1 203 rfl) rfl
theorem q318 : (Jvm.Cond.fieldLink "NotAtOnce$Book" (19 : Nat) "NotAtOnce$Book" "lines" "Ljava/util/ArrayList;") ∈ lw_all := lw_g (lw_at lw_m1 206 rfl) rfl
theorem q322 : (Jvm.Cond.fieldLink "NotAtOnce$Book" (23 : Nat) "NotAtOnce$Book" "rays" "Ljava/util/ArrayList;") ∈ lw_all := lw_g (lw_at lw_m1 210 rfl) rfl
theorem q325 : (Jvm.Cond.fieldLink "NotAtOnce$Book" (26 : Nat) "NotAtOnce$Book" "runs" "Ljava/util/ArrayList;") ∈ lw_all := lw_g (lw_at lw_m1 213 rfl) rfl
theorem q328 : (Jvm.Cond.lays "NotAtOnce$Book" "NotAtOnce$Book" "of" "I") ∈ lw_all := lw_g (lw_at lw_m1 216 rfl) rfl
theorem q329 : (Jvm.Cond.soleField "NotAtOnce$Book" "of") ∈ lw_all := lw_g (lw_at lw_m1 217 rfl) rfl
theorem q330 : (Jvm.Cond.lays "NotAtOnce$Book" "NotAtOnce$Book" "looks" "I") ∈ lw_all := lw_g (lw_at lw_m1 218 rfl) rfl
theorem q331 : (Jvm.Cond.soleField "NotAtOnce$Book" "looks") ∈ lw_all := lw_g (lw_at lw_m1 219 rfl) rfl
theorem q332 : (Jvm.Cond.lays "NotAtOnce$Book" "NotAtOnce$Book" "points" "I") ∈ lw_all := lw_g (lw_at lw_m1 220 rfl) rfl
theorem q333 : (Jvm.Cond.soleField "NotAtOnce$Book" "points") ∈ lw_all := lw_g (lw_at lw_m1 221 rfl) rfl
theorem q334 : (Jvm.Cond.laysFinal "NotAtOnce$Book" "NotAtOnce$Book" "table" "LNotAtOnce$Table;") ∈ lw_all := lw_g (lw_at lw_m1 222 rfl) rfl
theorem q335 : (Jvm.Cond.soleField "NotAtOnce$Book" "table") ∈ lw_all := lw_g (lw_at lw_m1 223 rfl) rfl
theorem q336 : (Jvm.Cond.laysFinal "NotAtOnce$Book" "NotAtOnce$Book" "lines" "Ljava/util/ArrayList;") ∈ lw_all := lw_g (lw_at lw_m1 224 rfl) rfl
theorem q337 : (Jvm.Cond.soleField "NotAtOnce$Book" "lines") ∈ lw_all := lw_g (lw_at lw_m1 225 rfl) rfl
theorem q338 : (Jvm.Cond.laysFinal "NotAtOnce$Book" "NotAtOnce$Book" "rays" "Ljava/util/ArrayList;") ∈ lw_all := lw_g (lw_at lw_m1 226 rfl) rfl
theorem q339 : (Jvm.Cond.soleField "NotAtOnce$Book" "rays") ∈ lw_all := lw_g (lw_at lw_m1 227 rfl) rfl
theorem q340 : (Jvm.Cond.laysFinal "NotAtOnce$Book" "NotAtOnce$Book" "runs" "Ljava/util/ArrayList;") ∈ lw_all := lw_g (lw_at lw_m1 228 rfl) rfl
theorem q341 : (Jvm.Cond.soleField "NotAtOnce$Book" "runs") ∈ lw_all := lw_g (lw_at lw_m1 229 rfl) rfl
theorem q342 : (Jvm.Cond.superclass "NotAtOnce$Book" "java/lang/Object") ∈ lw_all := lw_g (lw_at lw_m1 230 rfl) rfl
theorem q763 : (Jvm.Cond.selects "NotAtOnce$Book" ({ cls := "java/lang/Object", name := "getClass", desc := "()Ljava/lang/Class;" } : Jvm.MethodName) ({ cls := "java/lang/Object", name := "getClass", desc := "()Ljava/lang/Class;" } : Jvm.MethodName)) ∈ lw_all := lw_g (lw_at lw_m3 171 rfl) rfl
theorem q998 : (Jvm.Cond.instanceMethod ({ cls := "NotAtOnce$Book", name := "hiddens", desc := "()I" } : Jvm.MethodName)) ∈ lw_all := lw_g (lw_at lw_m4 166 rfl) rfl
theorem q999 : (Jvm.Cond.selects "NotAtOnce$Book" ({ cls := "NotAtOnce$Book", name := "hiddens", desc := "()I" } : Jvm.MethodName) ({ cls := "NotAtOnce$Book", name := "hiddens", desc := "()I" } : Jvm.MethodName)) ∈ lw_all := lw_g (lw_at lw_m4 167 rfl) rfl
theorem q1000 : (Jvm.Cond.code ({ cls := "NotAtOnce$Book", name := "hiddens", desc := "()I" } : Jvm.MethodName) prog_3_method_2_code (1 : Nat) (Option.some Jvm.ClassFile.FieldType.int)) ∈ lw_all := lw_g (lw_at lw_m4 168 rfl) rfl
theorem q1285 : (Jvm.Cond.instanceMethod ({ cls := "NotAtOnce$Book", name := "can", desc := "(II)Z" } : Jvm.MethodName)) ∈ lw_all := lw_g (lw_at lw_m5 213 rfl) rfl
theorem q1286 : (Jvm.Cond.selects "NotAtOnce$Book" ({ cls := "NotAtOnce$Book", name := "can", desc := "(II)Z" } : Jvm.MethodName) ({ cls := "NotAtOnce$Book", name := "can", desc := "(II)Z" } : Jvm.MethodName)) ∈ lw_all := lw_g (lw_at lw_m5 214 rfl) rfl
theorem q1287 : (Jvm.Cond.code ({ cls := "NotAtOnce$Book", name := "can", desc := "(II)Z" } : Jvm.MethodName) prog_3_method_3_code (4 : Nat) (Option.some Jvm.ClassFile.FieldType.boolean)) ∈ lw_all := lw_g (lw_at lw_m5 215 rfl) rfl
theorem q1288 : (Jvm.Cond.methodLink "NotAtOnce$Book" (33 : Nat) ({ cls := "java/util/ArrayList", name := "size", desc := "()I" } : Jvm.MethodName)) ∈ lw_all := lw_g (lw_at lw_m5 216 rfl) rfl
theorem q1289 : (Jvm.Cond.methodLinkNest "NotAtOnce$Book" (37 : Nat) ({ cls := "NotAtOnce", name := "has", desc := "(II)Z" } : Jvm.MethodName) "NotAtOnce") ∈ lw_tbl := lw_at lw_m5 217 rfl
theorem q1290 : (Jvm.Cond.methodLink "NotAtOnce$Book" (43 : Nat) ({ cls := "java/util/ArrayList", name := "get", desc := "(I)Ljava/lang/Object;" } : Jvm.MethodName)) ∈ lw_all := lw_g (lw_at lw_m5 218 rfl) rfl
theorem q1291 : (Jvm.Cond.classLink "NotAtOnce$Book" (47 : Nat) "NotAtOnce$Line") ∈ lw_all := lw_g (lw_at lw_m5 219 rfl) rfl
theorem q1292 : (Jvm.Cond.methodLink "NotAtOnce$Book" (49 : Nat) ({ cls := "NotAtOnce$Line", name := "isSo", desc := "(I)Z" } : Jvm.MethodName)) ∈ lw_all := lw_g (lw_at lw_m5 220 rfl) rfl
theorem q1308 : (Jvm.Cond.instanceMethod ({ cls := "NotAtOnce$Book", name := "can", desc := "(I)Z" } : Jvm.MethodName)) ∈ lw_all := lw_g (lw_at lw_m5 236 rfl) rfl
theorem q1309 : (Jvm.Cond.selects "NotAtOnce$Book" ({ cls := "NotAtOnce$Book", name := "can", desc := "(I)Z" } : Jvm.MethodName) ({ cls := "NotAtOnce$Book", name := "can", desc := "(I)Z" } : Jvm.MethodName)) ∈ lw_all := lw_g (lw_at lw_m5 237 rfl) rfl
theorem q1310 : (Jvm.Cond.code ({ cls := "NotAtOnce$Book", name := "can", desc := "(I)Z" } : Jvm.MethodName) prog_3_method_4_code (3 : Nat) (Option.some Jvm.ClassFile.FieldType.boolean)) ∈ lw_all := lw_g (lw_at lw_m5 238 rfl) rfl
theorem q1311 : (Jvm.Cond.methodLink "NotAtOnce$Book" (56 : Nat) ({ cls := "NotAtOnce$Book", name := "can", desc := "(II)Z" } : Jvm.MethodName)) ∈ lw_all := lw_g (lw_at lw_m5 239 rfl) rfl
theorem q2356 : (Jvm.Cond.castable "NotAtOnce$Book" "java/lang/Object") ∈ lw_tbl := lw_at lw_m10 84 rfl
theorem in_X6 : ∀ w ∈ wsX60, w ∈ lw_all := lw_in wsX60 [328, 330, 332, 334, 336, 338, 340] (by decide +kernel) (by decide +kernel)
/-! NotAtOnce$Table -/
set_option maxRecDepth 100000
def RX7 : String := "NotAtOnce$Table"
def TX7 : u_T := fun k => match k with
  | _ => ("NotAtOnce$Table", "sets", "Ljava/util/ArrayList;", true)
def tyX7 : Nat → FieldType := fun k => match k with
  | _ => .object "java/util/ArrayList"
abbrev wsX70 : List Cond := u_ws RX7 TX7 1
theorem nmX7 : ∀ a, a < 1 → ∀ b, b < 1 → a ≠ b → (TX7 a).2.1 ≠ (TX7 b).2.1 := by decide +kernel
theorem tyX7_ok : ∀ k, k < 1 → parseFieldDescriptor (TX7 k).2.2.1 = some (tyX7 k) := by decide +kernel
abbrev cX7_init : ByteArray := prog_13_method_1_code
def yX7_init : MethodName := ⟨RX7, "<init>", "()V"⟩
def dkwX7_init_0 : List UInt8 := [42, 183, 0, 3, 42, 187, 0, 9, 89, 183, 0, 11, 181, 0, 12, 177]
abbrev dktX7_init_0 : List UInt8 := dkwX7_init_0 ++ []
theorem dksX7_init_0 : cX7_init.data.toList.drop 0 = dktX7_init_0 := by decide +kernel
theorem dX7_init_0 : decode cX7_init 0 = .ok (.aload_n 0, 1) := dk_42 (dk_at dksX7_init_0 0 rfl rfl)
theorem dX7_init_1 : decode cX7_init 1 = .ok (.invokespecial 3, 3) := dk_183 0 3 (dk_at dksX7_init_0 1 rfl rfl)
theorem dX7_init_4 : decode cX7_init 4 = .ok (.aload_n 0, 1) := dk_42 (dk_at dksX7_init_0 4 rfl rfl)
theorem dX7_init_5 : decode cX7_init 5 = .ok (.new 9, 3) := dk_187 0 9 (dk_at dksX7_init_0 5 rfl rfl)
theorem dX7_init_8 : decode cX7_init 8 = .ok (.dup, 1) := dk_89 (dk_at dksX7_init_0 8 rfl rfl)
theorem dX7_init_9 : decode cX7_init 9 = .ok (.invokespecial 11, 3) := dk_183 0 11 (dk_at dksX7_init_0 9 rfl rfl)
theorem dX7_init_12 : decode cX7_init 12 = .ok (.putfield 12, 3) := dk_181 0 12 (dk_at dksX7_init_0 12 rfl rfl)
theorem dX7_init_15 : decode cX7_init 15 = .ok (.return_, 1) := dk_177 (dk_at dksX7_init_0 15 rfl rfl)
abbrev cX7_size : ByteArray := prog_13_method_4_code
def yX7_size : MethodName := ⟨RX7, "size", "()I"⟩
def dkwX7_size_0 : List UInt8 := [42, 180, 0, 12, 182, 0, 19, 172]
abbrev dktX7_size_0 : List UInt8 := dkwX7_size_0 ++ []
theorem dksX7_size_0 : cX7_size.data.toList.drop 0 = dktX7_size_0 := by decide +kernel
theorem dX7_size_0 : decode cX7_size 0 = .ok (.aload_n 0, 1) := dk_42 (dk_at dksX7_size_0 0 rfl rfl)
theorem dX7_size_1 : decode cX7_size 1 = .ok (.getfield 12, 3) := dk_180 0 12 (dk_at dksX7_size_0 1 rfl rfl)
theorem dX7_size_4 : decode cX7_size 4 = .ok (.invokevirtual 19, 3) := dk_182 0 19 (dk_at dksX7_size_0 4 rfl rfl)
theorem dX7_size_7 : decode cX7_size 7 = .ok (.ireturn, 1) := dk_172 (dk_at dksX7_size_0 7 rfl rfl)
abbrev cX7_copy : ByteArray := prog_13_method_2_code
def yX7_copy : MethodName := ⟨RX7, "copy", "(Z)LNotAtOnce$Table;"⟩
def dkwX7_copy_2 : List UInt8 := [132, 3, 1, 167, 255, 219, 44, 176]
abbrev dktX7_copy_2 : List UInt8 := dkwX7_copy_2 ++ []
def dkwX7_copy_1 : List UInt8 := [180, 0, 12, 42, 180, 0, 12, 29, 182, 0, 23, 192, 0, 27, 27, 182, 0, 29, 182, 0, 33, 87]
abbrev dktX7_copy_1 : List UInt8 := dkwX7_copy_1 ++ dktX7_copy_2
def dkwX7_copy_0 : List UInt8 := [187, 0, 13, 89, 183, 0, 18, 77, 3, 62, 29, 42, 180, 0, 12, 182, 0, 19, 162, 0, 32, 44]
abbrev dktX7_copy_0 : List UInt8 := dkwX7_copy_0 ++ dktX7_copy_1
theorem dksX7_copy_0 : cX7_copy.data.toList.drop 0 = dktX7_copy_0 := by decide +kernel
theorem dksX7_copy_1 : cX7_copy.data.toList.drop 22 = dktX7_copy_1 := dk_seg dksX7_copy_0 22 rfl rfl
theorem dksX7_copy_2 : cX7_copy.data.toList.drop 44 = dktX7_copy_2 := dk_seg dksX7_copy_1 22 rfl rfl
theorem dX7_copy_0 : decode cX7_copy 0 = .ok (.new 13, 3) := dk_187 0 13 (dk_at dksX7_copy_0 0 rfl rfl)
theorem dX7_copy_3 : decode cX7_copy 3 = .ok (.dup, 1) := dk_89 (dk_at dksX7_copy_0 3 rfl rfl)
theorem dX7_copy_4 : decode cX7_copy 4 = .ok (.invokespecial 18, 3) := dk_183 0 18 (dk_at dksX7_copy_0 4 rfl rfl)
theorem dX7_copy_7 : decode cX7_copy 7 = .ok (.astore_n 2, 1) := dk_77 (dk_at dksX7_copy_0 7 rfl rfl)
theorem dX7_copy_8 : decode cX7_copy 8 = .ok (.iconst 0, 1) := dk_3 (dk_at dksX7_copy_0 8 rfl rfl)
theorem dX7_copy_9 : decode cX7_copy 9 = .ok (.istore_n 3, 1) := dk_62 (dk_at dksX7_copy_0 9 rfl rfl)
theorem dX7_copy_10 : decode cX7_copy 10 = .ok (.iload_n 3, 1) := dk_29 (dk_at dksX7_copy_0 10 rfl rfl)
theorem dX7_copy_11 : decode cX7_copy 11 = .ok (.aload_n 0, 1) := dk_42 (dk_at dksX7_copy_0 11 rfl rfl)
theorem dX7_copy_12 : decode cX7_copy 12 = .ok (.getfield 12, 3) := dk_180 0 12 (dk_at dksX7_copy_0 12 rfl rfl)
theorem dX7_copy_15 : decode cX7_copy 15 = .ok (.invokevirtual 19, 3) := dk_182 0 19 (dk_at dksX7_copy_0 15 rfl rfl)
theorem dX7_copy_18 : decode cX7_copy 18 = .ok (.if_icmp .ge 32, 3) := dk_162 0 32 (dk_at dksX7_copy_0 18 rfl rfl)
theorem dX7_copy_21 : decode cX7_copy 21 = .ok (.aload_n 2, 1) := dk_44 (dk_at dksX7_copy_0 21 rfl rfl)
theorem dX7_copy_22 : decode cX7_copy 22 = .ok (.getfield 12, 3) := dk_180 0 12 (dk_at dksX7_copy_1 0 rfl rfl)
theorem dX7_copy_25 : decode cX7_copy 25 = .ok (.aload_n 0, 1) := dk_42 (dk_at dksX7_copy_1 3 rfl rfl)
theorem dX7_copy_26 : decode cX7_copy 26 = .ok (.getfield 12, 3) := dk_180 0 12 (dk_at dksX7_copy_1 4 rfl rfl)
theorem dX7_copy_29 : decode cX7_copy 29 = .ok (.iload_n 3, 1) := dk_29 (dk_at dksX7_copy_1 7 rfl rfl)
theorem dX7_copy_30 : decode cX7_copy 30 = .ok (.invokevirtual 23, 3) := dk_182 0 23 (dk_at dksX7_copy_1 8 rfl rfl)
theorem dX7_copy_33 : decode cX7_copy 33 = .ok (.checkcast 27, 3) := dk_192 0 27 (dk_at dksX7_copy_1 11 rfl rfl)
theorem dX7_copy_36 : decode cX7_copy 36 = .ok (.iload_n 1, 1) := dk_27 (dk_at dksX7_copy_1 14 rfl rfl)
theorem dX7_copy_37 : decode cX7_copy 37 = .ok (.invokevirtual 29, 3) := dk_182 0 29 (dk_at dksX7_copy_1 15 rfl rfl)
theorem dX7_copy_40 : decode cX7_copy 40 = .ok (.invokevirtual 33, 3) := dk_182 0 33 (dk_at dksX7_copy_1 18 rfl rfl)
theorem dX7_copy_43 : decode cX7_copy 43 = .ok (.pop, 1) := dk_87 (dk_at dksX7_copy_1 21 rfl rfl)
theorem dX7_copy_44 : decode cX7_copy 44 = .ok (.iinc 3 1, 3) := dk_132 3 1 (dk_at dksX7_copy_2 0 rfl rfl)
theorem dX7_copy_47 : decode cX7_copy 47 = .ok (.goto (-37), 3) := dk_167 255 219 (dk_at dksX7_copy_2 3 rfl rfl)
theorem dX7_copy_50 : decode cX7_copy 50 = .ok (.aload_n 2, 1) := dk_44 (dk_at dksX7_copy_2 6 rfl rfl)
theorem dX7_copy_51 : decode cX7_copy 51 = .ok (.areturn, 1) := dk_176 (dk_at dksX7_copy_2 7 rfl rfl)
abbrev cX7_set : ByteArray := prog_13_method_3_code
def yX7_set : MethodName := ⟨RX7, "set", "(I)LNotAtOnce$Asked;"⟩
def dkwX7_set_0 : List UInt8 := [42, 180, 0, 12, 27, 182, 0, 23, 192, 0, 27, 176]
abbrev dktX7_set_0 : List UInt8 := dkwX7_set_0 ++ []
theorem dksX7_set_0 : cX7_set.data.toList.drop 0 = dktX7_set_0 := by decide +kernel
theorem dX7_set_0 : decode cX7_set 0 = .ok (.aload_n 0, 1) := dk_42 (dk_at dksX7_set_0 0 rfl rfl)
theorem dX7_set_1 : decode cX7_set 1 = .ok (.getfield 12, 3) := dk_180 0 12 (dk_at dksX7_set_0 1 rfl rfl)
theorem dX7_set_4 : decode cX7_set 4 = .ok (.iload_n 1, 1) := dk_27 (dk_at dksX7_set_0 4 rfl rfl)
theorem dX7_set_5 : decode cX7_set 5 = .ok (.invokevirtual 23, 3) := dk_182 0 23 (dk_at dksX7_set_0 5 rfl rfl)
theorem dX7_set_8 : decode cX7_set 8 = .ok (.checkcast 27, 3) := dk_192 0 27 (dk_at dksX7_set_0 8 rfl rfl)
theorem dX7_set_11 : decode cX7_set 11 = .ok (.areturn, 1) := dk_176 (dk_at dksX7_set_0 11 rfl rfl)
abbrev cX7_isOutcome : ByteArray := prog_13_method_5_code
def yX7_isOutcome : MethodName := ⟨RX7, "isOutcome", "(II)Z"⟩
def dkwX7_isOutcome_1 : List UInt8 := [4, 100, 184, 0, 38, 153, 0, 7, 4, 167, 0, 4, 3, 172]
abbrev dktX7_isOutcome_1 : List UInt8 := dkwX7_isOutcome_1 ++ []
def dkwX7_isOutcome_0 : List UInt8 := [27, 3, 42, 182, 0, 37, 4, 100, 184, 0, 38, 153, 0, 25, 28, 3, 42, 27, 182, 0, 42, 182, 0, 46]
abbrev dktX7_isOutcome_0 : List UInt8 := dkwX7_isOutcome_0 ++ dktX7_isOutcome_1
theorem dksX7_isOutcome_0 : cX7_isOutcome.data.toList.drop 0 = dktX7_isOutcome_0 := by decide +kernel
theorem dksX7_isOutcome_1 : cX7_isOutcome.data.toList.drop 24 = dktX7_isOutcome_1 := dk_seg dksX7_isOutcome_0 24 rfl rfl
theorem dX7_isOutcome_0 : decode cX7_isOutcome 0 = .ok (.iload_n 1, 1) := dk_27 (dk_at dksX7_isOutcome_0 0 rfl rfl)
theorem dX7_isOutcome_1 : decode cX7_isOutcome 1 = .ok (.iconst 0, 1) := dk_3 (dk_at dksX7_isOutcome_0 1 rfl rfl)
theorem dX7_isOutcome_2 : decode cX7_isOutcome 2 = .ok (.aload_n 0, 1) := dk_42 (dk_at dksX7_isOutcome_0 2 rfl rfl)
theorem dX7_isOutcome_3 : decode cX7_isOutcome 3 = .ok (.invokevirtual 37, 3) := dk_182 0 37 (dk_at dksX7_isOutcome_0 3 rfl rfl)
theorem dX7_isOutcome_6 : decode cX7_isOutcome 6 = .ok (.iconst 1, 1) := dk_4 (dk_at dksX7_isOutcome_0 6 rfl rfl)
theorem dX7_isOutcome_7 : decode cX7_isOutcome 7 = .ok (.isub, 1) := dk_100 (dk_at dksX7_isOutcome_0 7 rfl rfl)
theorem dX7_isOutcome_8 : decode cX7_isOutcome 8 = .ok (.invokestatic 38, 3) := dk_184 0 38 (dk_at dksX7_isOutcome_0 8 rfl rfl)
theorem dX7_isOutcome_11 : decode cX7_isOutcome 11 = .ok (.ifCond .eq 25, 3) := dk_153 0 25 (dk_at dksX7_isOutcome_0 11 rfl rfl)
theorem dX7_isOutcome_14 : decode cX7_isOutcome 14 = .ok (.iload_n 2, 1) := dk_28 (dk_at dksX7_isOutcome_0 14 rfl rfl)
theorem dX7_isOutcome_15 : decode cX7_isOutcome 15 = .ok (.iconst 0, 1) := dk_3 (dk_at dksX7_isOutcome_0 15 rfl rfl)
theorem dX7_isOutcome_16 : decode cX7_isOutcome 16 = .ok (.aload_n 0, 1) := dk_42 (dk_at dksX7_isOutcome_0 16 rfl rfl)
theorem dX7_isOutcome_17 : decode cX7_isOutcome 17 = .ok (.iload_n 1, 1) := dk_27 (dk_at dksX7_isOutcome_0 17 rfl rfl)
theorem dX7_isOutcome_18 : decode cX7_isOutcome 18 = .ok (.invokevirtual 42, 3) := dk_182 0 42 (dk_at dksX7_isOutcome_0 18 rfl rfl)
theorem dX7_isOutcome_21 : decode cX7_isOutcome 21 = .ok (.invokevirtual 46, 3) := dk_182 0 46 (dk_at dksX7_isOutcome_0 21 rfl rfl)
theorem dX7_isOutcome_24 : decode cX7_isOutcome 24 = .ok (.iconst 1, 1) := dk_4 (dk_at dksX7_isOutcome_1 0 rfl rfl)
theorem dX7_isOutcome_25 : decode cX7_isOutcome 25 = .ok (.isub, 1) := dk_100 (dk_at dksX7_isOutcome_1 1 rfl rfl)
theorem dX7_isOutcome_26 : decode cX7_isOutcome 26 = .ok (.invokestatic 38, 3) := dk_184 0 38 (dk_at dksX7_isOutcome_1 2 rfl rfl)
theorem dX7_isOutcome_29 : decode cX7_isOutcome 29 = .ok (.ifCond .eq 7, 3) := dk_153 0 7 (dk_at dksX7_isOutcome_1 5 rfl rfl)
theorem dX7_isOutcome_32 : decode cX7_isOutcome 32 = .ok (.iconst 1, 1) := dk_4 (dk_at dksX7_isOutcome_1 8 rfl rfl)
theorem dX7_isOutcome_33 : decode cX7_isOutcome 33 = .ok (.goto 4, 3) := dk_167 0 4 (dk_at dksX7_isOutcome_1 9 rfl rfl)
theorem dX7_isOutcome_36 : decode cX7_isOutcome 36 = .ok (.iconst 0, 1) := dk_3 (dk_at dksX7_isOutcome_1 12 rfl rfl)
theorem dX7_isOutcome_37 : decode cX7_isOutcome 37 = .ok (.ireturn, 1) := dk_172 (dk_at dksX7_isOutcome_1 13 rfl rfl)
abbrev cX7_extend : ByteArray := prog_13_method_10_code
def yX7_extend : MethodName := ⟨RX7, "extend", "(III)Z"⟩
def dkwX7_extend_1 : List UInt8 := [21, 4, 27, 182, 0, 73, 153, 0, 5, 4, 172, 132, 4, 1, 167, 255, 221, 3, 172]
abbrev dktX7_extend_1 : List UInt8 := dkwX7_extend_1 ++ []
def dkwX7_extend_0 : List UInt8 := [3, 54, 4, 21, 4, 29, 162, 0, 35, 42, 27, 182, 0, 42, 21, 4, 182, 0, 66, 28, 160, 0, 15, 42]
abbrev dktX7_extend_0 : List UInt8 := dkwX7_extend_0 ++ dktX7_extend_1
theorem dksX7_extend_0 : cX7_extend.data.toList.drop 0 = dktX7_extend_0 := by decide +kernel
theorem dksX7_extend_1 : cX7_extend.data.toList.drop 24 = dktX7_extend_1 := dk_seg dksX7_extend_0 24 rfl rfl
theorem dX7_extend_0 : decode cX7_extend 0 = .ok (.iconst 0, 1) := dk_3 (dk_at dksX7_extend_0 0 rfl rfl)
theorem dX7_extend_1 : decode cX7_extend 1 = .ok (.istore 4, 2) := dk_54 4 (dk_at dksX7_extend_0 1 rfl rfl)
theorem dX7_extend_3 : decode cX7_extend 3 = .ok (.iload 4, 2) := dk_21 4 (dk_at dksX7_extend_0 3 rfl rfl)
theorem dX7_extend_5 : decode cX7_extend 5 = .ok (.iload_n 3, 1) := dk_29 (dk_at dksX7_extend_0 5 rfl rfl)
theorem dX7_extend_6 : decode cX7_extend 6 = .ok (.if_icmp .ge 35, 3) := dk_162 0 35 (dk_at dksX7_extend_0 6 rfl rfl)
theorem dX7_extend_9 : decode cX7_extend 9 = .ok (.aload_n 0, 1) := dk_42 (dk_at dksX7_extend_0 9 rfl rfl)
theorem dX7_extend_10 : decode cX7_extend 10 = .ok (.iload_n 1, 1) := dk_27 (dk_at dksX7_extend_0 10 rfl rfl)
theorem dX7_extend_11 : decode cX7_extend 11 = .ok (.invokevirtual 42, 3) := dk_182 0 42 (dk_at dksX7_extend_0 11 rfl rfl)
theorem dX7_extend_14 : decode cX7_extend 14 = .ok (.iload 4, 2) := dk_21 4 (dk_at dksX7_extend_0 14 rfl rfl)
theorem dX7_extend_16 : decode cX7_extend 16 = .ok (.invokevirtual 66, 3) := dk_182 0 66 (dk_at dksX7_extend_0 16 rfl rfl)
theorem dX7_extend_19 : decode cX7_extend 19 = .ok (.iload_n 2, 1) := dk_28 (dk_at dksX7_extend_0 19 rfl rfl)
theorem dX7_extend_20 : decode cX7_extend 20 = .ok (.if_icmp .ne 15, 3) := dk_160 0 15 (dk_at dksX7_extend_0 20 rfl rfl)
theorem dX7_extend_23 : decode cX7_extend 23 = .ok (.aload_n 0, 1) := dk_42 (dk_at dksX7_extend_0 23 rfl rfl)
theorem dX7_extend_24 : decode cX7_extend 24 = .ok (.iload 4, 2) := dk_21 4 (dk_at dksX7_extend_1 0 rfl rfl)
theorem dX7_extend_26 : decode cX7_extend 26 = .ok (.iload_n 1, 1) := dk_27 (dk_at dksX7_extend_1 2 rfl rfl)
theorem dX7_extend_27 : decode cX7_extend 27 = .ok (.invokevirtual 73, 3) := dk_182 0 73 (dk_at dksX7_extend_1 3 rfl rfl)
theorem dX7_extend_30 : decode cX7_extend 30 = .ok (.ifCond .eq 5, 3) := dk_153 0 5 (dk_at dksX7_extend_1 6 rfl rfl)
theorem dX7_extend_33 : decode cX7_extend 33 = .ok (.iconst 1, 1) := dk_4 (dk_at dksX7_extend_1 9 rfl rfl)
theorem dX7_extend_34 : decode cX7_extend 34 = .ok (.ireturn, 1) := dk_172 (dk_at dksX7_extend_1 10 rfl rfl)
theorem dX7_extend_35 : decode cX7_extend 35 = .ok (.iinc 4 1, 3) := dk_132 4 1 (dk_at dksX7_extend_1 11 rfl rfl)
theorem dX7_extend_38 : decode cX7_extend 38 = .ok (.goto (-35), 3) := dk_167 255 221 (dk_at dksX7_extend_1 14 rfl rfl)
theorem dX7_extend_41 : decode cX7_extend 41 = .ok (.iconst 0, 1) := dk_3 (dk_at dksX7_extend_1 17 rfl rfl)
theorem dX7_extend_42 : decode cX7_extend 42 = .ok (.ireturn, 1) := dk_172 (dk_at dksX7_extend_1 18 rfl rfl)
abbrev cX7_fits : ByteArray := prog_13_method_9_code
def yX7_fits : MethodName := ⟨RX7, "fits", "(II)Z"⟩
def dkwX7_fits_1 : List UInt8 := [182, 0, 42, 27, 182, 0, 66, 182, 0, 70, 154, 0, 5, 3, 172, 132, 3, 1, 167, 255, 218, 4, 172]
abbrev dktX7_fits_1 : List UInt8 := dkwX7_fits_1 ++ []
def dkwX7_fits_0 : List UInt8 := [3, 62, 29, 42, 182, 0, 37, 162, 0, 36, 29, 28, 159, 0, 25, 42, 29, 182, 0, 42, 42, 29]
abbrev dktX7_fits_0 : List UInt8 := dkwX7_fits_0 ++ dktX7_fits_1
theorem dksX7_fits_0 : cX7_fits.data.toList.drop 0 = dktX7_fits_0 := by decide +kernel
theorem dksX7_fits_1 : cX7_fits.data.toList.drop 22 = dktX7_fits_1 := dk_seg dksX7_fits_0 22 rfl rfl
theorem dX7_fits_0 : decode cX7_fits 0 = .ok (.iconst 0, 1) := dk_3 (dk_at dksX7_fits_0 0 rfl rfl)
theorem dX7_fits_1 : decode cX7_fits 1 = .ok (.istore_n 3, 1) := dk_62 (dk_at dksX7_fits_0 1 rfl rfl)
theorem dX7_fits_2 : decode cX7_fits 2 = .ok (.iload_n 3, 1) := dk_29 (dk_at dksX7_fits_0 2 rfl rfl)
theorem dX7_fits_3 : decode cX7_fits 3 = .ok (.aload_n 0, 1) := dk_42 (dk_at dksX7_fits_0 3 rfl rfl)
theorem dX7_fits_4 : decode cX7_fits 4 = .ok (.invokevirtual 37, 3) := dk_182 0 37 (dk_at dksX7_fits_0 4 rfl rfl)
theorem dX7_fits_7 : decode cX7_fits 7 = .ok (.if_icmp .ge 36, 3) := dk_162 0 36 (dk_at dksX7_fits_0 7 rfl rfl)
theorem dX7_fits_10 : decode cX7_fits 10 = .ok (.iload_n 3, 1) := dk_29 (dk_at dksX7_fits_0 10 rfl rfl)
theorem dX7_fits_11 : decode cX7_fits 11 = .ok (.iload_n 2, 1) := dk_28 (dk_at dksX7_fits_0 11 rfl rfl)
theorem dX7_fits_12 : decode cX7_fits 12 = .ok (.if_icmp .eq 25, 3) := dk_159 0 25 (dk_at dksX7_fits_0 12 rfl rfl)
theorem dX7_fits_15 : decode cX7_fits 15 = .ok (.aload_n 0, 1) := dk_42 (dk_at dksX7_fits_0 15 rfl rfl)
theorem dX7_fits_16 : decode cX7_fits 16 = .ok (.iload_n 3, 1) := dk_29 (dk_at dksX7_fits_0 16 rfl rfl)
theorem dX7_fits_17 : decode cX7_fits 17 = .ok (.invokevirtual 42, 3) := dk_182 0 42 (dk_at dksX7_fits_0 17 rfl rfl)
theorem dX7_fits_20 : decode cX7_fits 20 = .ok (.aload_n 0, 1) := dk_42 (dk_at dksX7_fits_0 20 rfl rfl)
theorem dX7_fits_21 : decode cX7_fits 21 = .ok (.iload_n 3, 1) := dk_29 (dk_at dksX7_fits_0 21 rfl rfl)
theorem dX7_fits_22 : decode cX7_fits 22 = .ok (.invokevirtual 42, 3) := dk_182 0 42 (dk_at dksX7_fits_1 0 rfl rfl)
theorem dX7_fits_25 : decode cX7_fits 25 = .ok (.iload_n 1, 1) := dk_27 (dk_at dksX7_fits_1 3 rfl rfl)
theorem dX7_fits_26 : decode cX7_fits 26 = .ok (.invokevirtual 66, 3) := dk_182 0 66 (dk_at dksX7_fits_1 4 rfl rfl)
theorem dX7_fits_29 : decode cX7_fits 29 = .ok (.invokevirtual 70, 3) := dk_182 0 70 (dk_at dksX7_fits_1 7 rfl rfl)
theorem dX7_fits_32 : decode cX7_fits 32 = .ok (.ifCond .ne 5, 3) := dk_154 0 5 (dk_at dksX7_fits_1 10 rfl rfl)
theorem dX7_fits_35 : decode cX7_fits 35 = .ok (.iconst 0, 1) := dk_3 (dk_at dksX7_fits_1 13 rfl rfl)
theorem dX7_fits_36 : decode cX7_fits 36 = .ok (.ireturn, 1) := dk_172 (dk_at dksX7_fits_1 14 rfl rfl)
theorem dX7_fits_37 : decode cX7_fits 37 = .ok (.iinc 3 1, 3) := dk_132 3 1 (dk_at dksX7_fits_1 15 rfl rfl)
theorem dX7_fits_40 : decode cX7_fits 40 = .ok (.goto (-38), 3) := dk_167 255 218 (dk_at dksX7_fits_1 18 rfl rfl)
theorem dX7_fits_43 : decode cX7_fits 43 = .ok (.iconst 1, 1) := dk_4 (dk_at dksX7_fits_1 21 rfl rfl)
theorem dX7_fits_44 : decode cX7_fits 44 = .ok (.ireturn, 1) := dk_172 (dk_at dksX7_fits_1 22 rfl rfl)
abbrev cX7_disturbed : ByteArray := prog_13_method_11_code
def yX7_disturbed : MethodName := ⟨RX7, "disturbed", "(I)I"⟩
def dkwX7_disturbed_3 : List UInt8 := [132, 2, 1, 167, 255, 184, 16, 254, 172]
abbrev dktX7_disturbed_3 : List UInt8 := dkwX7_disturbed_3 ++ []
def dkwX7_disturbed_2 : List UInt8 := [54, 5, 29, 2, 159, 0, 11, 29, 21, 5, 159, 0, 5, 28, 172, 21, 5, 62, 132, 4, 1, 167, 255, 200]
abbrev dktX7_disturbed_2 : List UInt8 := dkwX7_disturbed_2 ++ dktX7_disturbed_3
def dkwX7_disturbed_1 : List UInt8 := [182, 0, 42, 28, 182, 0, 49, 154, 0, 6, 167, 0, 31, 42, 21, 4, 182, 0, 42, 28, 182, 0, 77]
abbrev dktX7_disturbed_1 : List UInt8 := dkwX7_disturbed_1 ++ dktX7_disturbed_2
def dkwX7_disturbed_0 : List UInt8 := [3, 61, 28, 27, 162, 0, 73, 2, 62, 3, 54, 4, 21, 4, 42, 182, 0, 37, 162, 0, 53, 42, 21, 4]
abbrev dktX7_disturbed_0 : List UInt8 := dkwX7_disturbed_0 ++ dktX7_disturbed_1
theorem dksX7_disturbed_0 : cX7_disturbed.data.toList.drop 0 = dktX7_disturbed_0 := by decide +kernel
theorem dksX7_disturbed_1 : cX7_disturbed.data.toList.drop 24 = dktX7_disturbed_1 := dk_seg dksX7_disturbed_0 24 rfl rfl
theorem dksX7_disturbed_2 : cX7_disturbed.data.toList.drop 47 = dktX7_disturbed_2 := dk_seg dksX7_disturbed_1 23 rfl rfl
theorem dksX7_disturbed_3 : cX7_disturbed.data.toList.drop 71 = dktX7_disturbed_3 := dk_seg dksX7_disturbed_2 24 rfl rfl
theorem dX7_disturbed_0 : decode cX7_disturbed 0 = .ok (.iconst 0, 1) := dk_3 (dk_at dksX7_disturbed_0 0 rfl rfl)
theorem dX7_disturbed_1 : decode cX7_disturbed 1 = .ok (.istore_n 2, 1) := dk_61 (dk_at dksX7_disturbed_0 1 rfl rfl)
theorem dX7_disturbed_2 : decode cX7_disturbed 2 = .ok (.iload_n 2, 1) := dk_28 (dk_at dksX7_disturbed_0 2 rfl rfl)
theorem dX7_disturbed_3 : decode cX7_disturbed 3 = .ok (.iload_n 1, 1) := dk_27 (dk_at dksX7_disturbed_0 3 rfl rfl)
theorem dX7_disturbed_4 : decode cX7_disturbed 4 = .ok (.if_icmp .ge 73, 3) := dk_162 0 73 (dk_at dksX7_disturbed_0 4 rfl rfl)
theorem dX7_disturbed_7 : decode cX7_disturbed 7 = .ok (.iconst (-1), 1) := dk_2 (dk_at dksX7_disturbed_0 7 rfl rfl)
theorem dX7_disturbed_8 : decode cX7_disturbed 8 = .ok (.istore_n 3, 1) := dk_62 (dk_at dksX7_disturbed_0 8 rfl rfl)
theorem dX7_disturbed_9 : decode cX7_disturbed 9 = .ok (.iconst 0, 1) := dk_3 (dk_at dksX7_disturbed_0 9 rfl rfl)
theorem dX7_disturbed_10 : decode cX7_disturbed 10 = .ok (.istore 4, 2) := dk_54 4 (dk_at dksX7_disturbed_0 10 rfl rfl)
theorem dX7_disturbed_12 : decode cX7_disturbed 12 = .ok (.iload 4, 2) := dk_21 4 (dk_at dksX7_disturbed_0 12 rfl rfl)
theorem dX7_disturbed_14 : decode cX7_disturbed 14 = .ok (.aload_n 0, 1) := dk_42 (dk_at dksX7_disturbed_0 14 rfl rfl)
theorem dX7_disturbed_15 : decode cX7_disturbed 15 = .ok (.invokevirtual 37, 3) := dk_182 0 37 (dk_at dksX7_disturbed_0 15 rfl rfl)
theorem dX7_disturbed_18 : decode cX7_disturbed 18 = .ok (.if_icmp .ge 53, 3) := dk_162 0 53 (dk_at dksX7_disturbed_0 18 rfl rfl)
theorem dX7_disturbed_21 : decode cX7_disturbed 21 = .ok (.aload_n 0, 1) := dk_42 (dk_at dksX7_disturbed_0 21 rfl rfl)
theorem dX7_disturbed_22 : decode cX7_disturbed 22 = .ok (.iload 4, 2) := dk_21 4 (dk_at dksX7_disturbed_0 22 rfl rfl)
theorem dX7_disturbed_24 : decode cX7_disturbed 24 = .ok (.invokevirtual 42, 3) := dk_182 0 42 (dk_at dksX7_disturbed_1 0 rfl rfl)
theorem dX7_disturbed_27 : decode cX7_disturbed 27 = .ok (.iload_n 2, 1) := dk_28 (dk_at dksX7_disturbed_1 3 rfl rfl)
theorem dX7_disturbed_28 : decode cX7_disturbed 28 = .ok (.invokevirtual 49, 3) := dk_182 0 49 (dk_at dksX7_disturbed_1 4 rfl rfl)
theorem dX7_disturbed_31 : decode cX7_disturbed 31 = .ok (.ifCond .ne 6, 3) := dk_154 0 6 (dk_at dksX7_disturbed_1 7 rfl rfl)
theorem dX7_disturbed_34 : decode cX7_disturbed 34 = .ok (.goto 31, 3) := dk_167 0 31 (dk_at dksX7_disturbed_1 10 rfl rfl)
theorem dX7_disturbed_37 : decode cX7_disturbed 37 = .ok (.aload_n 0, 1) := dk_42 (dk_at dksX7_disturbed_1 13 rfl rfl)
theorem dX7_disturbed_38 : decode cX7_disturbed 38 = .ok (.iload 4, 2) := dk_21 4 (dk_at dksX7_disturbed_1 14 rfl rfl)
theorem dX7_disturbed_40 : decode cX7_disturbed 40 = .ok (.invokevirtual 42, 3) := dk_182 0 42 (dk_at dksX7_disturbed_1 16 rfl rfl)
theorem dX7_disturbed_43 : decode cX7_disturbed 43 = .ok (.iload_n 2, 1) := dk_28 (dk_at dksX7_disturbed_1 19 rfl rfl)
theorem dX7_disturbed_44 : decode cX7_disturbed 44 = .ok (.invokevirtual 77, 3) := dk_182 0 77 (dk_at dksX7_disturbed_1 20 rfl rfl)
theorem dX7_disturbed_47 : decode cX7_disturbed 47 = .ok (.istore 5, 2) := dk_54 5 (dk_at dksX7_disturbed_2 0 rfl rfl)
theorem dX7_disturbed_49 : decode cX7_disturbed 49 = .ok (.iload_n 3, 1) := dk_29 (dk_at dksX7_disturbed_2 2 rfl rfl)
theorem dX7_disturbed_50 : decode cX7_disturbed 50 = .ok (.iconst (-1), 1) := dk_2 (dk_at dksX7_disturbed_2 3 rfl rfl)
theorem dX7_disturbed_51 : decode cX7_disturbed 51 = .ok (.if_icmp .eq 11, 3) := dk_159 0 11 (dk_at dksX7_disturbed_2 4 rfl rfl)
theorem dX7_disturbed_54 : decode cX7_disturbed 54 = .ok (.iload_n 3, 1) := dk_29 (dk_at dksX7_disturbed_2 7 rfl rfl)
theorem dX7_disturbed_55 : decode cX7_disturbed 55 = .ok (.iload 5, 2) := dk_21 5 (dk_at dksX7_disturbed_2 8 rfl rfl)
theorem dX7_disturbed_57 : decode cX7_disturbed 57 = .ok (.if_icmp .eq 5, 3) := dk_159 0 5 (dk_at dksX7_disturbed_2 10 rfl rfl)
theorem dX7_disturbed_60 : decode cX7_disturbed 60 = .ok (.iload_n 2, 1) := dk_28 (dk_at dksX7_disturbed_2 13 rfl rfl)
theorem dX7_disturbed_61 : decode cX7_disturbed 61 = .ok (.ireturn, 1) := dk_172 (dk_at dksX7_disturbed_2 14 rfl rfl)
theorem dX7_disturbed_62 : decode cX7_disturbed 62 = .ok (.iload 5, 2) := dk_21 5 (dk_at dksX7_disturbed_2 15 rfl rfl)
theorem dX7_disturbed_64 : decode cX7_disturbed 64 = .ok (.istore_n 3, 1) := dk_62 (dk_at dksX7_disturbed_2 17 rfl rfl)
theorem dX7_disturbed_65 : decode cX7_disturbed 65 = .ok (.iinc 4 1, 3) := dk_132 4 1 (dk_at dksX7_disturbed_2 18 rfl rfl)
theorem dX7_disturbed_68 : decode cX7_disturbed 68 = .ok (.goto (-56), 3) := dk_167 255 200 (dk_at dksX7_disturbed_2 21 rfl rfl)
theorem dX7_disturbed_71 : decode cX7_disturbed 71 = .ok (.iinc 2 1, 3) := dk_132 2 1 (dk_at dksX7_disturbed_3 0 rfl rfl)
theorem dX7_disturbed_74 : decode cX7_disturbed 74 = .ok (.goto (-72), 3) := dk_167 255 184 (dk_at dksX7_disturbed_3 3 rfl rfl)
theorem dX7_disturbed_77 : decode cX7_disturbed 77 = .ok (.bipush (-2), 2) := dk_16 254 (dk_at dksX7_disturbed_3 6 rfl rfl)
theorem dX7_disturbed_79 : decode cX7_disturbed 79 = .ok (.ireturn, 1) := dk_172 (dk_at dksX7_disturbed_3 8 rfl rfl)
abbrev cX7_isCycle : ByteArray := prog_13_method_12_code
def yX7_isCycle : MethodName := ⟨RX7, "isCycle", "(I)Z"⟩
def dkwX7_isCycle_4 : List UInt8 := [29, 160, 0, 15, 42, 27, 182, 0, 89, 153, 0, 7, 4, 167, 0, 4, 3, 172]
abbrev dktX7_isCycle_4 : List UInt8 := dkwX7_isCycle_4 ++ []
def dkwX7_isCycle_3 : List UInt8 := [153, 0, 5, 3, 172, 29, 28, 21, 5, 126, 128, 62, 28, 21, 5, 128, 61, 132, 4, 1, 167, 255, 191, 28]
abbrev dktX7_isCycle_3 : List UInt8 := dkwX7_isCycle_3 ++ dktX7_isCycle_4
def dkwX7_isCycle_2 : List UInt8 := [42, 21, 4, 182, 0, 42, 182, 0, 86, 54, 5, 21, 5, 184, 0, 80, 5, 161, 0, 10, 21, 5, 29, 126]
abbrev dktX7_isCycle_2 : List UInt8 := dkwX7_isCycle_2 ++ dktX7_isCycle_3
def dkwX7_isCycle_1 : List UInt8 := [3, 54, 4, 21, 4, 42, 182, 0, 37, 162, 0, 62, 27, 21, 4, 184, 0, 83, 154, 0, 6, 167, 0, 44]
abbrev dktX7_isCycle_1 : List UInt8 := dkwX7_isCycle_1 ++ dktX7_isCycle_2
def dkwX7_isCycle_0 : List UInt8 := [27, 184, 0, 80, 6, 161, 0, 13, 27, 4, 42, 182, 0, 37, 120, 161, 0, 5, 3, 172, 3, 61, 3, 62]
abbrev dktX7_isCycle_0 : List UInt8 := dkwX7_isCycle_0 ++ dktX7_isCycle_1
theorem dksX7_isCycle_0 : cX7_isCycle.data.toList.drop 0 = dktX7_isCycle_0 := by decide +kernel
theorem dksX7_isCycle_1 : cX7_isCycle.data.toList.drop 24 = dktX7_isCycle_1 := dk_seg dksX7_isCycle_0 24 rfl rfl
theorem dksX7_isCycle_2 : cX7_isCycle.data.toList.drop 48 = dktX7_isCycle_2 := dk_seg dksX7_isCycle_1 24 rfl rfl
theorem dksX7_isCycle_3 : cX7_isCycle.data.toList.drop 72 = dktX7_isCycle_3 := dk_seg dksX7_isCycle_2 24 rfl rfl
theorem dksX7_isCycle_4 : cX7_isCycle.data.toList.drop 96 = dktX7_isCycle_4 := dk_seg dksX7_isCycle_3 24 rfl rfl
theorem dX7_isCycle_0 : decode cX7_isCycle 0 = .ok (.iload_n 1, 1) := dk_27 (dk_at dksX7_isCycle_0 0 rfl rfl)
theorem dX7_isCycle_1 : decode cX7_isCycle 1 = .ok (.invokestatic 80, 3) := dk_184 0 80 (dk_at dksX7_isCycle_0 1 rfl rfl)
theorem dX7_isCycle_4 : decode cX7_isCycle 4 = .ok (.iconst 3, 1) := dk_6 (dk_at dksX7_isCycle_0 4 rfl rfl)
theorem dX7_isCycle_5 : decode cX7_isCycle 5 = .ok (.if_icmp .lt 13, 3) := dk_161 0 13 (dk_at dksX7_isCycle_0 5 rfl rfl)
theorem dX7_isCycle_8 : decode cX7_isCycle 8 = .ok (.iload_n 1, 1) := dk_27 (dk_at dksX7_isCycle_0 8 rfl rfl)
theorem dX7_isCycle_9 : decode cX7_isCycle 9 = .ok (.iconst 1, 1) := dk_4 (dk_at dksX7_isCycle_0 9 rfl rfl)
theorem dX7_isCycle_10 : decode cX7_isCycle 10 = .ok (.aload_n 0, 1) := dk_42 (dk_at dksX7_isCycle_0 10 rfl rfl)
theorem dX7_isCycle_11 : decode cX7_isCycle 11 = .ok (.invokevirtual 37, 3) := dk_182 0 37 (dk_at dksX7_isCycle_0 11 rfl rfl)
theorem dX7_isCycle_14 : decode cX7_isCycle 14 = .ok (.ishl, 1) := dk_120 (dk_at dksX7_isCycle_0 14 rfl rfl)
theorem dX7_isCycle_15 : decode cX7_isCycle 15 = .ok (.if_icmp .lt 5, 3) := dk_161 0 5 (dk_at dksX7_isCycle_0 15 rfl rfl)
theorem dX7_isCycle_18 : decode cX7_isCycle 18 = .ok (.iconst 0, 1) := dk_3 (dk_at dksX7_isCycle_0 18 rfl rfl)
theorem dX7_isCycle_19 : decode cX7_isCycle 19 = .ok (.ireturn, 1) := dk_172 (dk_at dksX7_isCycle_0 19 rfl rfl)
theorem dX7_isCycle_20 : decode cX7_isCycle 20 = .ok (.iconst 0, 1) := dk_3 (dk_at dksX7_isCycle_0 20 rfl rfl)
theorem dX7_isCycle_21 : decode cX7_isCycle 21 = .ok (.istore_n 2, 1) := dk_61 (dk_at dksX7_isCycle_0 21 rfl rfl)
theorem dX7_isCycle_22 : decode cX7_isCycle 22 = .ok (.iconst 0, 1) := dk_3 (dk_at dksX7_isCycle_0 22 rfl rfl)
theorem dX7_isCycle_23 : decode cX7_isCycle 23 = .ok (.istore_n 3, 1) := dk_62 (dk_at dksX7_isCycle_0 23 rfl rfl)
theorem dX7_isCycle_24 : decode cX7_isCycle 24 = .ok (.iconst 0, 1) := dk_3 (dk_at dksX7_isCycle_1 0 rfl rfl)
theorem dX7_isCycle_25 : decode cX7_isCycle 25 = .ok (.istore 4, 2) := dk_54 4 (dk_at dksX7_isCycle_1 1 rfl rfl)
theorem dX7_isCycle_27 : decode cX7_isCycle 27 = .ok (.iload 4, 2) := dk_21 4 (dk_at dksX7_isCycle_1 3 rfl rfl)
theorem dX7_isCycle_29 : decode cX7_isCycle 29 = .ok (.aload_n 0, 1) := dk_42 (dk_at dksX7_isCycle_1 5 rfl rfl)
theorem dX7_isCycle_30 : decode cX7_isCycle 30 = .ok (.invokevirtual 37, 3) := dk_182 0 37 (dk_at dksX7_isCycle_1 6 rfl rfl)
theorem dX7_isCycle_33 : decode cX7_isCycle 33 = .ok (.if_icmp .ge 62, 3) := dk_162 0 62 (dk_at dksX7_isCycle_1 9 rfl rfl)
theorem dX7_isCycle_36 : decode cX7_isCycle 36 = .ok (.iload_n 1, 1) := dk_27 (dk_at dksX7_isCycle_1 12 rfl rfl)
theorem dX7_isCycle_37 : decode cX7_isCycle 37 = .ok (.iload 4, 2) := dk_21 4 (dk_at dksX7_isCycle_1 13 rfl rfl)
theorem dX7_isCycle_39 : decode cX7_isCycle 39 = .ok (.invokestatic 83, 3) := dk_184 0 83 (dk_at dksX7_isCycle_1 15 rfl rfl)
theorem dX7_isCycle_42 : decode cX7_isCycle 42 = .ok (.ifCond .ne 6, 3) := dk_154 0 6 (dk_at dksX7_isCycle_1 18 rfl rfl)
theorem dX7_isCycle_45 : decode cX7_isCycle 45 = .ok (.goto 44, 3) := dk_167 0 44 (dk_at dksX7_isCycle_1 21 rfl rfl)
theorem dX7_isCycle_48 : decode cX7_isCycle 48 = .ok (.aload_n 0, 1) := dk_42 (dk_at dksX7_isCycle_2 0 rfl rfl)
theorem dX7_isCycle_49 : decode cX7_isCycle 49 = .ok (.iload 4, 2) := dk_21 4 (dk_at dksX7_isCycle_2 1 rfl rfl)
theorem dX7_isCycle_51 : decode cX7_isCycle 51 = .ok (.invokevirtual 42, 3) := dk_182 0 42 (dk_at dksX7_isCycle_2 3 rfl rfl)
theorem dX7_isCycle_54 : decode cX7_isCycle 54 = .ok (.invokevirtual 86, 3) := dk_182 0 86 (dk_at dksX7_isCycle_2 6 rfl rfl)
theorem dX7_isCycle_57 : decode cX7_isCycle 57 = .ok (.istore 5, 2) := dk_54 5 (dk_at dksX7_isCycle_2 9 rfl rfl)
theorem dX7_isCycle_59 : decode cX7_isCycle 59 = .ok (.iload 5, 2) := dk_21 5 (dk_at dksX7_isCycle_2 11 rfl rfl)
theorem dX7_isCycle_61 : decode cX7_isCycle 61 = .ok (.invokestatic 80, 3) := dk_184 0 80 (dk_at dksX7_isCycle_2 13 rfl rfl)
theorem dX7_isCycle_64 : decode cX7_isCycle 64 = .ok (.iconst 2, 1) := dk_5 (dk_at dksX7_isCycle_2 16 rfl rfl)
theorem dX7_isCycle_65 : decode cX7_isCycle 65 = .ok (.if_icmp .lt 10, 3) := dk_161 0 10 (dk_at dksX7_isCycle_2 17 rfl rfl)
theorem dX7_isCycle_68 : decode cX7_isCycle 68 = .ok (.iload 5, 2) := dk_21 5 (dk_at dksX7_isCycle_2 20 rfl rfl)
theorem dX7_isCycle_70 : decode cX7_isCycle 70 = .ok (.iload_n 3, 1) := dk_29 (dk_at dksX7_isCycle_2 22 rfl rfl)
theorem dX7_isCycle_71 : decode cX7_isCycle 71 = .ok (.iand, 1) := dk_126 (dk_at dksX7_isCycle_2 23 rfl rfl)
theorem dX7_isCycle_72 : decode cX7_isCycle 72 = .ok (.ifCond .eq 5, 3) := dk_153 0 5 (dk_at dksX7_isCycle_3 0 rfl rfl)
theorem dX7_isCycle_75 : decode cX7_isCycle 75 = .ok (.iconst 0, 1) := dk_3 (dk_at dksX7_isCycle_3 3 rfl rfl)
theorem dX7_isCycle_76 : decode cX7_isCycle 76 = .ok (.ireturn, 1) := dk_172 (dk_at dksX7_isCycle_3 4 rfl rfl)
theorem dX7_isCycle_77 : decode cX7_isCycle 77 = .ok (.iload_n 3, 1) := dk_29 (dk_at dksX7_isCycle_3 5 rfl rfl)
theorem dX7_isCycle_78 : decode cX7_isCycle 78 = .ok (.iload_n 2, 1) := dk_28 (dk_at dksX7_isCycle_3 6 rfl rfl)
theorem dX7_isCycle_79 : decode cX7_isCycle 79 = .ok (.iload 5, 2) := dk_21 5 (dk_at dksX7_isCycle_3 7 rfl rfl)
theorem dX7_isCycle_81 : decode cX7_isCycle 81 = .ok (.iand, 1) := dk_126 (dk_at dksX7_isCycle_3 9 rfl rfl)
theorem dX7_isCycle_82 : decode cX7_isCycle 82 = .ok (.ior, 1) := dk_128 (dk_at dksX7_isCycle_3 10 rfl rfl)
theorem dX7_isCycle_83 : decode cX7_isCycle 83 = .ok (.istore_n 3, 1) := dk_62 (dk_at dksX7_isCycle_3 11 rfl rfl)
theorem dX7_isCycle_84 : decode cX7_isCycle 84 = .ok (.iload_n 2, 1) := dk_28 (dk_at dksX7_isCycle_3 12 rfl rfl)
theorem dX7_isCycle_85 : decode cX7_isCycle 85 = .ok (.iload 5, 2) := dk_21 5 (dk_at dksX7_isCycle_3 13 rfl rfl)
theorem dX7_isCycle_87 : decode cX7_isCycle 87 = .ok (.ior, 1) := dk_128 (dk_at dksX7_isCycle_3 15 rfl rfl)
theorem dX7_isCycle_88 : decode cX7_isCycle 88 = .ok (.istore_n 2, 1) := dk_61 (dk_at dksX7_isCycle_3 16 rfl rfl)
theorem dX7_isCycle_89 : decode cX7_isCycle 89 = .ok (.iinc 4 1, 3) := dk_132 4 1 (dk_at dksX7_isCycle_3 17 rfl rfl)
theorem dX7_isCycle_92 : decode cX7_isCycle 92 = .ok (.goto (-65), 3) := dk_167 255 191 (dk_at dksX7_isCycle_3 20 rfl rfl)
theorem dX7_isCycle_95 : decode cX7_isCycle 95 = .ok (.iload_n 2, 1) := dk_28 (dk_at dksX7_isCycle_3 23 rfl rfl)
theorem dX7_isCycle_96 : decode cX7_isCycle 96 = .ok (.iload_n 3, 1) := dk_29 (dk_at dksX7_isCycle_4 0 rfl rfl)
theorem dX7_isCycle_97 : decode cX7_isCycle 97 = .ok (.if_icmp .ne 15, 3) := dk_160 0 15 (dk_at dksX7_isCycle_4 1 rfl rfl)
theorem dX7_isCycle_100 : decode cX7_isCycle 100 = .ok (.aload_n 0, 1) := dk_42 (dk_at dksX7_isCycle_4 4 rfl rfl)
theorem dX7_isCycle_101 : decode cX7_isCycle 101 = .ok (.iload_n 1, 1) := dk_27 (dk_at dksX7_isCycle_4 5 rfl rfl)
theorem dX7_isCycle_102 : decode cX7_isCycle 102 = .ok (.invokevirtual 89, 3) := dk_182 0 89 (dk_at dksX7_isCycle_4 6 rfl rfl)
theorem dX7_isCycle_105 : decode cX7_isCycle 105 = .ok (.ifCond .eq 7, 3) := dk_153 0 7 (dk_at dksX7_isCycle_4 9 rfl rfl)
theorem dX7_isCycle_108 : decode cX7_isCycle 108 = .ok (.iconst 1, 1) := dk_4 (dk_at dksX7_isCycle_4 12 rfl rfl)
theorem dX7_isCycle_109 : decode cX7_isCycle 109 = .ok (.goto 4, 3) := dk_167 0 4 (dk_at dksX7_isCycle_4 13 rfl rfl)
theorem dX7_isCycle_112 : decode cX7_isCycle 112 = .ok (.iconst 0, 1) := dk_3 (dk_at dksX7_isCycle_4 16 rfl rfl)
theorem dX7_isCycle_113 : decode cX7_isCycle 113 = .ok (.ireturn, 1) := dk_172 (dk_at dksX7_isCycle_4 17 rfl rfl)
abbrev cX7_hangs : ByteArray := prog_13_method_13_code
def yX7_hangs : MethodName := ⟨RX7, "hangs", "(I)Z"⟩
def dkwX7_hangs_4 : List UInt8 := [167, 0, 4, 3, 172]
abbrev dktX7_hangs_4 : List UInt8 := dkwX7_hangs_4 ++ []
def dkwX7_hangs_3 : List UInt8 := [21, 5, 120, 2, 130, 126, 62, 4, 54, 4, 132, 5, 1, 167, 255, 190, 167, 255, 176, 29, 154, 0, 7, 4]
abbrev dktX7_hangs_3 : List UInt8 := dkwX7_hangs_3 ++ dktX7_hangs_4
def dkwX7_hangs_2 : List UInt8 := [182, 0, 86, 126, 154, 0, 6, 167, 0, 27, 28, 42, 21, 5, 182, 0, 42, 182, 0, 86, 128, 61, 29, 4]
abbrev dktX7_hangs_2 : List UInt8 := dkwX7_hangs_2 ++ dktX7_hangs_3
def dkwX7_hangs_1 : List UInt8 := [162, 0, 63, 29, 21, 5, 184, 0, 83, 153, 0, 48, 28, 153, 0, 20, 28, 42, 21, 5, 182, 0, 42]
abbrev dktX7_hangs_1 : List UInt8 := dkwX7_hangs_1 ++ dktX7_hangs_2
def dkwX7_hangs_0 : List UInt8 := [3, 61, 27, 62, 4, 54, 4, 21, 4, 153, 0, 81, 3, 54, 4, 3, 54, 5, 21, 5, 42, 182, 0, 37]
abbrev dktX7_hangs_0 : List UInt8 := dkwX7_hangs_0 ++ dktX7_hangs_1
theorem dksX7_hangs_0 : cX7_hangs.data.toList.drop 0 = dktX7_hangs_0 := by decide +kernel
theorem dksX7_hangs_1 : cX7_hangs.data.toList.drop 24 = dktX7_hangs_1 := dk_seg dksX7_hangs_0 24 rfl rfl
theorem dksX7_hangs_2 : cX7_hangs.data.toList.drop 47 = dktX7_hangs_2 := dk_seg dksX7_hangs_1 23 rfl rfl
theorem dksX7_hangs_3 : cX7_hangs.data.toList.drop 71 = dktX7_hangs_3 := dk_seg dksX7_hangs_2 24 rfl rfl
theorem dksX7_hangs_4 : cX7_hangs.data.toList.drop 95 = dktX7_hangs_4 := dk_seg dksX7_hangs_3 24 rfl rfl
theorem dX7_hangs_0 : decode cX7_hangs 0 = .ok (.iconst 0, 1) := dk_3 (dk_at dksX7_hangs_0 0 rfl rfl)
theorem dX7_hangs_1 : decode cX7_hangs 1 = .ok (.istore_n 2, 1) := dk_61 (dk_at dksX7_hangs_0 1 rfl rfl)
theorem dX7_hangs_2 : decode cX7_hangs 2 = .ok (.iload_n 1, 1) := dk_27 (dk_at dksX7_hangs_0 2 rfl rfl)
theorem dX7_hangs_3 : decode cX7_hangs 3 = .ok (.istore_n 3, 1) := dk_62 (dk_at dksX7_hangs_0 3 rfl rfl)
theorem dX7_hangs_4 : decode cX7_hangs 4 = .ok (.iconst 1, 1) := dk_4 (dk_at dksX7_hangs_0 4 rfl rfl)
theorem dX7_hangs_5 : decode cX7_hangs 5 = .ok (.istore 4, 2) := dk_54 4 (dk_at dksX7_hangs_0 5 rfl rfl)
theorem dX7_hangs_7 : decode cX7_hangs 7 = .ok (.iload 4, 2) := dk_21 4 (dk_at dksX7_hangs_0 7 rfl rfl)
theorem dX7_hangs_9 : decode cX7_hangs 9 = .ok (.ifCond .eq 81, 3) := dk_153 0 81 (dk_at dksX7_hangs_0 9 rfl rfl)
theorem dX7_hangs_12 : decode cX7_hangs 12 = .ok (.iconst 0, 1) := dk_3 (dk_at dksX7_hangs_0 12 rfl rfl)
theorem dX7_hangs_13 : decode cX7_hangs 13 = .ok (.istore 4, 2) := dk_54 4 (dk_at dksX7_hangs_0 13 rfl rfl)
theorem dX7_hangs_15 : decode cX7_hangs 15 = .ok (.iconst 0, 1) := dk_3 (dk_at dksX7_hangs_0 15 rfl rfl)
theorem dX7_hangs_16 : decode cX7_hangs 16 = .ok (.istore 5, 2) := dk_54 5 (dk_at dksX7_hangs_0 16 rfl rfl)
theorem dX7_hangs_18 : decode cX7_hangs 18 = .ok (.iload 5, 2) := dk_21 5 (dk_at dksX7_hangs_0 18 rfl rfl)
theorem dX7_hangs_20 : decode cX7_hangs 20 = .ok (.aload_n 0, 1) := dk_42 (dk_at dksX7_hangs_0 20 rfl rfl)
theorem dX7_hangs_21 : decode cX7_hangs 21 = .ok (.invokevirtual 37, 3) := dk_182 0 37 (dk_at dksX7_hangs_0 21 rfl rfl)
theorem dX7_hangs_24 : decode cX7_hangs 24 = .ok (.if_icmp .ge 63, 3) := dk_162 0 63 (dk_at dksX7_hangs_1 0 rfl rfl)
theorem dX7_hangs_27 : decode cX7_hangs 27 = .ok (.iload_n 3, 1) := dk_29 (dk_at dksX7_hangs_1 3 rfl rfl)
theorem dX7_hangs_28 : decode cX7_hangs 28 = .ok (.iload 5, 2) := dk_21 5 (dk_at dksX7_hangs_1 4 rfl rfl)
theorem dX7_hangs_30 : decode cX7_hangs 30 = .ok (.invokestatic 83, 3) := dk_184 0 83 (dk_at dksX7_hangs_1 6 rfl rfl)
theorem dX7_hangs_33 : decode cX7_hangs 33 = .ok (.ifCond .eq 48, 3) := dk_153 0 48 (dk_at dksX7_hangs_1 9 rfl rfl)
theorem dX7_hangs_36 : decode cX7_hangs 36 = .ok (.iload_n 2, 1) := dk_28 (dk_at dksX7_hangs_1 12 rfl rfl)
theorem dX7_hangs_37 : decode cX7_hangs 37 = .ok (.ifCond .eq 20, 3) := dk_153 0 20 (dk_at dksX7_hangs_1 13 rfl rfl)
theorem dX7_hangs_40 : decode cX7_hangs 40 = .ok (.iload_n 2, 1) := dk_28 (dk_at dksX7_hangs_1 16 rfl rfl)
theorem dX7_hangs_41 : decode cX7_hangs 41 = .ok (.aload_n 0, 1) := dk_42 (dk_at dksX7_hangs_1 17 rfl rfl)
theorem dX7_hangs_42 : decode cX7_hangs 42 = .ok (.iload 5, 2) := dk_21 5 (dk_at dksX7_hangs_1 18 rfl rfl)
theorem dX7_hangs_44 : decode cX7_hangs 44 = .ok (.invokevirtual 42, 3) := dk_182 0 42 (dk_at dksX7_hangs_1 20 rfl rfl)
theorem dX7_hangs_47 : decode cX7_hangs 47 = .ok (.invokevirtual 86, 3) := dk_182 0 86 (dk_at dksX7_hangs_2 0 rfl rfl)
theorem dX7_hangs_50 : decode cX7_hangs 50 = .ok (.iand, 1) := dk_126 (dk_at dksX7_hangs_2 3 rfl rfl)
theorem dX7_hangs_51 : decode cX7_hangs 51 = .ok (.ifCond .ne 6, 3) := dk_154 0 6 (dk_at dksX7_hangs_2 4 rfl rfl)
theorem dX7_hangs_54 : decode cX7_hangs 54 = .ok (.goto 27, 3) := dk_167 0 27 (dk_at dksX7_hangs_2 7 rfl rfl)
theorem dX7_hangs_57 : decode cX7_hangs 57 = .ok (.iload_n 2, 1) := dk_28 (dk_at dksX7_hangs_2 10 rfl rfl)
theorem dX7_hangs_58 : decode cX7_hangs 58 = .ok (.aload_n 0, 1) := dk_42 (dk_at dksX7_hangs_2 11 rfl rfl)
theorem dX7_hangs_59 : decode cX7_hangs 59 = .ok (.iload 5, 2) := dk_21 5 (dk_at dksX7_hangs_2 12 rfl rfl)
theorem dX7_hangs_61 : decode cX7_hangs 61 = .ok (.invokevirtual 42, 3) := dk_182 0 42 (dk_at dksX7_hangs_2 14 rfl rfl)
theorem dX7_hangs_64 : decode cX7_hangs 64 = .ok (.invokevirtual 86, 3) := dk_182 0 86 (dk_at dksX7_hangs_2 17 rfl rfl)
theorem dX7_hangs_67 : decode cX7_hangs 67 = .ok (.ior, 1) := dk_128 (dk_at dksX7_hangs_2 20 rfl rfl)
theorem dX7_hangs_68 : decode cX7_hangs 68 = .ok (.istore_n 2, 1) := dk_61 (dk_at dksX7_hangs_2 21 rfl rfl)
theorem dX7_hangs_69 : decode cX7_hangs 69 = .ok (.iload_n 3, 1) := dk_29 (dk_at dksX7_hangs_2 22 rfl rfl)
theorem dX7_hangs_70 : decode cX7_hangs 70 = .ok (.iconst 1, 1) := dk_4 (dk_at dksX7_hangs_2 23 rfl rfl)
theorem dX7_hangs_71 : decode cX7_hangs 71 = .ok (.iload 5, 2) := dk_21 5 (dk_at dksX7_hangs_3 0 rfl rfl)
theorem dX7_hangs_73 : decode cX7_hangs 73 = .ok (.ishl, 1) := dk_120 (dk_at dksX7_hangs_3 2 rfl rfl)
theorem dX7_hangs_74 : decode cX7_hangs 74 = .ok (.iconst (-1), 1) := dk_2 (dk_at dksX7_hangs_3 3 rfl rfl)
theorem dX7_hangs_75 : decode cX7_hangs 75 = .ok (.ixor, 1) := dk_130 (dk_at dksX7_hangs_3 4 rfl rfl)
theorem dX7_hangs_76 : decode cX7_hangs 76 = .ok (.iand, 1) := dk_126 (dk_at dksX7_hangs_3 5 rfl rfl)
theorem dX7_hangs_77 : decode cX7_hangs 77 = .ok (.istore_n 3, 1) := dk_62 (dk_at dksX7_hangs_3 6 rfl rfl)
theorem dX7_hangs_78 : decode cX7_hangs 78 = .ok (.iconst 1, 1) := dk_4 (dk_at dksX7_hangs_3 7 rfl rfl)
theorem dX7_hangs_79 : decode cX7_hangs 79 = .ok (.istore 4, 2) := dk_54 4 (dk_at dksX7_hangs_3 8 rfl rfl)
theorem dX7_hangs_81 : decode cX7_hangs 81 = .ok (.iinc 5 1, 3) := dk_132 5 1 (dk_at dksX7_hangs_3 10 rfl rfl)
theorem dX7_hangs_84 : decode cX7_hangs 84 = .ok (.goto (-66), 3) := dk_167 255 190 (dk_at dksX7_hangs_3 13 rfl rfl)
theorem dX7_hangs_87 : decode cX7_hangs 87 = .ok (.goto (-80), 3) := dk_167 255 176 (dk_at dksX7_hangs_3 16 rfl rfl)
theorem dX7_hangs_90 : decode cX7_hangs 90 = .ok (.iload_n 3, 1) := dk_29 (dk_at dksX7_hangs_3 19 rfl rfl)
theorem dX7_hangs_91 : decode cX7_hangs 91 = .ok (.ifCond .ne 7, 3) := dk_154 0 7 (dk_at dksX7_hangs_3 20 rfl rfl)
theorem dX7_hangs_94 : decode cX7_hangs 94 = .ok (.iconst 1, 1) := dk_4 (dk_at dksX7_hangs_3 23 rfl rfl)
theorem dX7_hangs_95 : decode cX7_hangs 95 = .ok (.goto 4, 3) := dk_167 0 4 (dk_at dksX7_hangs_4 0 rfl rfl)
theorem dX7_hangs_98 : decode cX7_hangs 98 = .ok (.iconst 0, 1) := dk_3 (dk_at dksX7_hangs_4 3 rfl rfl)
theorem dX7_hangs_99 : decode cX7_hangs 99 = .ok (.ireturn, 1) := dk_172 (dk_at dksX7_hangs_4 4 rfl rfl)
abbrev cX7_excess : ByteArray := prog_13_method_14_code
def yX7_excess : MethodName := ⟨RX7, "excess", "(II)I"⟩
def dkwX7_excess_4 : List UInt8 := [167, 0, 7, 5, 21, 4, 104, 100, 28, 27, 184, 0, 80, 5, 100, 104, 100, 172]
abbrev dktX7_excess_4 : List UInt8 := dkwX7_excess_4 ++ []
def dkwX7_excess_3 : List UInt8 := [4, 167, 0, 4, 3, 96, 54, 5, 132, 6, 1, 167, 255, 186, 29, 21, 5, 5, 112, 4, 160, 0, 7, 3]
abbrev dktX7_excess_3 : List UInt8 := dkwX7_excess_3 ++ dktX7_excess_4
def dkwX7_excess_2 : List UInt8 := [184, 0, 98, 96, 62, 21, 4, 21, 7, 184, 0, 98, 184, 0, 103, 54, 4, 21, 5, 21, 7, 156, 0, 7]
abbrev dktX7_excess_2 : List UInt8 := dkwX7_excess_2 ++ dktX7_excess_3
def dkwX7_excess_1 : List UInt8 := [184, 0, 83, 154, 0, 6, 167, 0, 49, 42, 21, 6, 182, 0, 42, 182, 0, 95, 54, 7, 29, 21, 7]
abbrev dktX7_excess_1 : List UInt8 := dkwX7_excess_1 ++ dktX7_excess_2
def dkwX7_excess_0 : List UInt8 := [3, 62, 18, 94, 54, 4, 3, 54, 5, 3, 54, 6, 21, 6, 42, 182, 0, 37, 162, 0, 67, 27, 21, 6]
abbrev dktX7_excess_0 : List UInt8 := dkwX7_excess_0 ++ dktX7_excess_1
theorem dksX7_excess_0 : cX7_excess.data.toList.drop 0 = dktX7_excess_0 := by decide +kernel
theorem dksX7_excess_1 : cX7_excess.data.toList.drop 24 = dktX7_excess_1 := dk_seg dksX7_excess_0 24 rfl rfl
theorem dksX7_excess_2 : cX7_excess.data.toList.drop 47 = dktX7_excess_2 := dk_seg dksX7_excess_1 23 rfl rfl
theorem dksX7_excess_3 : cX7_excess.data.toList.drop 71 = dktX7_excess_3 := dk_seg dksX7_excess_2 24 rfl rfl
theorem dksX7_excess_4 : cX7_excess.data.toList.drop 95 = dktX7_excess_4 := dk_seg dksX7_excess_3 24 rfl rfl
theorem dX7_excess_0 : decode cX7_excess 0 = .ok (.iconst 0, 1) := dk_3 (dk_at dksX7_excess_0 0 rfl rfl)
theorem dX7_excess_1 : decode cX7_excess 1 = .ok (.istore_n 3, 1) := dk_62 (dk_at dksX7_excess_0 1 rfl rfl)
theorem dX7_excess_2 : decode cX7_excess 2 = .ok (.ldc 94, 2) := dk_18 94 (dk_at dksX7_excess_0 2 rfl rfl)
theorem dX7_excess_4 : decode cX7_excess 4 = .ok (.istore 4, 2) := dk_54 4 (dk_at dksX7_excess_0 4 rfl rfl)
theorem dX7_excess_6 : decode cX7_excess 6 = .ok (.iconst 0, 1) := dk_3 (dk_at dksX7_excess_0 6 rfl rfl)
theorem dX7_excess_7 : decode cX7_excess 7 = .ok (.istore 5, 2) := dk_54 5 (dk_at dksX7_excess_0 7 rfl rfl)
theorem dX7_excess_9 : decode cX7_excess 9 = .ok (.iconst 0, 1) := dk_3 (dk_at dksX7_excess_0 9 rfl rfl)
theorem dX7_excess_10 : decode cX7_excess 10 = .ok (.istore 6, 2) := dk_54 6 (dk_at dksX7_excess_0 10 rfl rfl)
theorem dX7_excess_12 : decode cX7_excess 12 = .ok (.iload 6, 2) := dk_21 6 (dk_at dksX7_excess_0 12 rfl rfl)
theorem dX7_excess_14 : decode cX7_excess 14 = .ok (.aload_n 0, 1) := dk_42 (dk_at dksX7_excess_0 14 rfl rfl)
theorem dX7_excess_15 : decode cX7_excess 15 = .ok (.invokevirtual 37, 3) := dk_182 0 37 (dk_at dksX7_excess_0 15 rfl rfl)
theorem dX7_excess_18 : decode cX7_excess 18 = .ok (.if_icmp .ge 67, 3) := dk_162 0 67 (dk_at dksX7_excess_0 18 rfl rfl)
theorem dX7_excess_21 : decode cX7_excess 21 = .ok (.iload_n 1, 1) := dk_27 (dk_at dksX7_excess_0 21 rfl rfl)
theorem dX7_excess_22 : decode cX7_excess 22 = .ok (.iload 6, 2) := dk_21 6 (dk_at dksX7_excess_0 22 rfl rfl)
theorem dX7_excess_24 : decode cX7_excess 24 = .ok (.invokestatic 83, 3) := dk_184 0 83 (dk_at dksX7_excess_1 0 rfl rfl)
theorem dX7_excess_27 : decode cX7_excess 27 = .ok (.ifCond .ne 6, 3) := dk_154 0 6 (dk_at dksX7_excess_1 3 rfl rfl)
theorem dX7_excess_30 : decode cX7_excess 30 = .ok (.goto 49, 3) := dk_167 0 49 (dk_at dksX7_excess_1 6 rfl rfl)
theorem dX7_excess_33 : decode cX7_excess 33 = .ok (.aload_n 0, 1) := dk_42 (dk_at dksX7_excess_1 9 rfl rfl)
theorem dX7_excess_34 : decode cX7_excess 34 = .ok (.iload 6, 2) := dk_21 6 (dk_at dksX7_excess_1 10 rfl rfl)
theorem dX7_excess_36 : decode cX7_excess 36 = .ok (.invokevirtual 42, 3) := dk_182 0 42 (dk_at dksX7_excess_1 12 rfl rfl)
theorem dX7_excess_39 : decode cX7_excess 39 = .ok (.invokevirtual 95, 3) := dk_182 0 95 (dk_at dksX7_excess_1 15 rfl rfl)
theorem dX7_excess_42 : decode cX7_excess 42 = .ok (.istore 7, 2) := dk_54 7 (dk_at dksX7_excess_1 18 rfl rfl)
theorem dX7_excess_44 : decode cX7_excess 44 = .ok (.iload_n 3, 1) := dk_29 (dk_at dksX7_excess_1 20 rfl rfl)
theorem dX7_excess_45 : decode cX7_excess 45 = .ok (.iload 7, 2) := dk_21 7 (dk_at dksX7_excess_1 21 rfl rfl)
theorem dX7_excess_47 : decode cX7_excess 47 = .ok (.invokestatic 98, 3) := dk_184 0 98 (dk_at dksX7_excess_2 0 rfl rfl)
theorem dX7_excess_50 : decode cX7_excess 50 = .ok (.iadd, 1) := dk_96 (dk_at dksX7_excess_2 3 rfl rfl)
theorem dX7_excess_51 : decode cX7_excess 51 = .ok (.istore_n 3, 1) := dk_62 (dk_at dksX7_excess_2 4 rfl rfl)
theorem dX7_excess_52 : decode cX7_excess 52 = .ok (.iload 4, 2) := dk_21 4 (dk_at dksX7_excess_2 5 rfl rfl)
theorem dX7_excess_54 : decode cX7_excess 54 = .ok (.iload 7, 2) := dk_21 7 (dk_at dksX7_excess_2 7 rfl rfl)
theorem dX7_excess_56 : decode cX7_excess 56 = .ok (.invokestatic 98, 3) := dk_184 0 98 (dk_at dksX7_excess_2 9 rfl rfl)
theorem dX7_excess_59 : decode cX7_excess 59 = .ok (.invokestatic 103, 3) := dk_184 0 103 (dk_at dksX7_excess_2 12 rfl rfl)
theorem dX7_excess_62 : decode cX7_excess 62 = .ok (.istore 4, 2) := dk_54 4 (dk_at dksX7_excess_2 15 rfl rfl)
theorem dX7_excess_64 : decode cX7_excess 64 = .ok (.iload 5, 2) := dk_21 5 (dk_at dksX7_excess_2 17 rfl rfl)
theorem dX7_excess_66 : decode cX7_excess 66 = .ok (.iload 7, 2) := dk_21 7 (dk_at dksX7_excess_2 19 rfl rfl)
theorem dX7_excess_68 : decode cX7_excess 68 = .ok (.ifCond .ge 7, 3) := dk_156 0 7 (dk_at dksX7_excess_2 21 rfl rfl)
theorem dX7_excess_71 : decode cX7_excess 71 = .ok (.iconst 1, 1) := dk_4 (dk_at dksX7_excess_3 0 rfl rfl)
theorem dX7_excess_72 : decode cX7_excess 72 = .ok (.goto 4, 3) := dk_167 0 4 (dk_at dksX7_excess_3 1 rfl rfl)
theorem dX7_excess_75 : decode cX7_excess 75 = .ok (.iconst 0, 1) := dk_3 (dk_at dksX7_excess_3 4 rfl rfl)
theorem dX7_excess_76 : decode cX7_excess 76 = .ok (.iadd, 1) := dk_96 (dk_at dksX7_excess_3 5 rfl rfl)
theorem dX7_excess_77 : decode cX7_excess 77 = .ok (.istore 5, 2) := dk_54 5 (dk_at dksX7_excess_3 6 rfl rfl)
theorem dX7_excess_79 : decode cX7_excess 79 = .ok (.iinc 6 1, 3) := dk_132 6 1 (dk_at dksX7_excess_3 8 rfl rfl)
theorem dX7_excess_82 : decode cX7_excess 82 = .ok (.goto (-70), 3) := dk_167 255 186 (dk_at dksX7_excess_3 11 rfl rfl)
theorem dX7_excess_85 : decode cX7_excess 85 = .ok (.iload_n 3, 1) := dk_29 (dk_at dksX7_excess_3 14 rfl rfl)
theorem dX7_excess_86 : decode cX7_excess 86 = .ok (.iload 5, 2) := dk_21 5 (dk_at dksX7_excess_3 15 rfl rfl)
theorem dX7_excess_88 : decode cX7_excess 88 = .ok (.iconst 2, 1) := dk_5 (dk_at dksX7_excess_3 17 rfl rfl)
theorem dX7_excess_89 : decode cX7_excess 89 = .ok (.irem, 1) := dk_112 (dk_at dksX7_excess_3 18 rfl rfl)
theorem dX7_excess_90 : decode cX7_excess 90 = .ok (.iconst 1, 1) := dk_4 (dk_at dksX7_excess_3 19 rfl rfl)
theorem dX7_excess_91 : decode cX7_excess 91 = .ok (.if_icmp .ne 7, 3) := dk_160 0 7 (dk_at dksX7_excess_3 20 rfl rfl)
theorem dX7_excess_94 : decode cX7_excess 94 = .ok (.iconst 0, 1) := dk_3 (dk_at dksX7_excess_3 23 rfl rfl)
theorem dX7_excess_95 : decode cX7_excess 95 = .ok (.goto 7, 3) := dk_167 0 7 (dk_at dksX7_excess_4 0 rfl rfl)
theorem dX7_excess_98 : decode cX7_excess 98 = .ok (.iconst 2, 1) := dk_5 (dk_at dksX7_excess_4 3 rfl rfl)
theorem dX7_excess_99 : decode cX7_excess 99 = .ok (.iload 4, 2) := dk_21 4 (dk_at dksX7_excess_4 4 rfl rfl)
theorem dX7_excess_101 : decode cX7_excess 101 = .ok (.imul, 1) := dk_104 (dk_at dksX7_excess_4 6 rfl rfl)
theorem dX7_excess_102 : decode cX7_excess 102 = .ok (.isub, 1) := dk_100 (dk_at dksX7_excess_4 7 rfl rfl)
theorem dX7_excess_103 : decode cX7_excess 103 = .ok (.iload_n 2, 1) := dk_28 (dk_at dksX7_excess_4 8 rfl rfl)
theorem dX7_excess_104 : decode cX7_excess 104 = .ok (.iload_n 1, 1) := dk_27 (dk_at dksX7_excess_4 9 rfl rfl)
theorem dX7_excess_105 : decode cX7_excess 105 = .ok (.invokestatic 80, 3) := dk_184 0 80 (dk_at dksX7_excess_4 10 rfl rfl)
theorem dX7_excess_108 : decode cX7_excess 108 = .ok (.iconst 2, 1) := dk_5 (dk_at dksX7_excess_4 13 rfl rfl)
theorem dX7_excess_109 : decode cX7_excess 109 = .ok (.isub, 1) := dk_100 (dk_at dksX7_excess_4 14 rfl rfl)
theorem dX7_excess_110 : decode cX7_excess 110 = .ok (.imul, 1) := dk_104 (dk_at dksX7_excess_4 15 rfl rfl)
theorem dX7_excess_111 : decode cX7_excess 111 = .ok (.isub, 1) := dk_100 (dk_at dksX7_excess_4 16 rfl rfl)
theorem dX7_excess_112 : decode cX7_excess 112 = .ok (.ireturn, 1) := dk_172 (dk_at dksX7_excess_4 17 rfl rfl)
abbrev cX7_wins : ByteArray := prog_13_method_15_code
def yX7_wins : MethodName := ⟨RX7, "wins", "()I"⟩
def dkwX7_wins_2 : List UInt8 := [104, 96, 60, 132, 3, 1, 167, 255, 217, 132, 2, 1, 167, 255, 201, 27, 172]
abbrev dktX7_wins_2 : List UInt8 := dkwX7_wins_2 ++ []
def dkwX7_wins_1 : List UInt8 := [162, 0, 33, 27, 42, 28, 182, 0, 42, 180, 0, 107, 29, 46, 42, 28, 182, 0, 42, 180, 0, 111, 29, 46]
abbrev dktX7_wins_1 : List UInt8 := dkwX7_wins_1 ++ dktX7_wins_2
def dkwX7_wins_0 : List UInt8 := [3, 60, 3, 61, 28, 42, 182, 0, 37, 162, 0, 53, 3, 62, 29, 42, 28, 182, 0, 42, 182, 0, 46]
abbrev dktX7_wins_0 : List UInt8 := dkwX7_wins_0 ++ dktX7_wins_1
theorem dksX7_wins_0 : cX7_wins.data.toList.drop 0 = dktX7_wins_0 := by decide +kernel
theorem dksX7_wins_1 : cX7_wins.data.toList.drop 23 = dktX7_wins_1 := dk_seg dksX7_wins_0 23 rfl rfl
theorem dksX7_wins_2 : cX7_wins.data.toList.drop 47 = dktX7_wins_2 := dk_seg dksX7_wins_1 24 rfl rfl
theorem dX7_wins_0 : decode cX7_wins 0 = .ok (.iconst 0, 1) := dk_3 (dk_at dksX7_wins_0 0 rfl rfl)
theorem dX7_wins_1 : decode cX7_wins 1 = .ok (.istore_n 1, 1) := dk_60 (dk_at dksX7_wins_0 1 rfl rfl)
theorem dX7_wins_2 : decode cX7_wins 2 = .ok (.iconst 0, 1) := dk_3 (dk_at dksX7_wins_0 2 rfl rfl)
theorem dX7_wins_3 : decode cX7_wins 3 = .ok (.istore_n 2, 1) := dk_61 (dk_at dksX7_wins_0 3 rfl rfl)
theorem dX7_wins_4 : decode cX7_wins 4 = .ok (.iload_n 2, 1) := dk_28 (dk_at dksX7_wins_0 4 rfl rfl)
theorem dX7_wins_5 : decode cX7_wins 5 = .ok (.aload_n 0, 1) := dk_42 (dk_at dksX7_wins_0 5 rfl rfl)
theorem dX7_wins_6 : decode cX7_wins 6 = .ok (.invokevirtual 37, 3) := dk_182 0 37 (dk_at dksX7_wins_0 6 rfl rfl)
theorem dX7_wins_9 : decode cX7_wins 9 = .ok (.if_icmp .ge 53, 3) := dk_162 0 53 (dk_at dksX7_wins_0 9 rfl rfl)
theorem dX7_wins_12 : decode cX7_wins 12 = .ok (.iconst 0, 1) := dk_3 (dk_at dksX7_wins_0 12 rfl rfl)
theorem dX7_wins_13 : decode cX7_wins 13 = .ok (.istore_n 3, 1) := dk_62 (dk_at dksX7_wins_0 13 rfl rfl)
theorem dX7_wins_14 : decode cX7_wins 14 = .ok (.iload_n 3, 1) := dk_29 (dk_at dksX7_wins_0 14 rfl rfl)
theorem dX7_wins_15 : decode cX7_wins 15 = .ok (.aload_n 0, 1) := dk_42 (dk_at dksX7_wins_0 15 rfl rfl)
theorem dX7_wins_16 : decode cX7_wins 16 = .ok (.iload_n 2, 1) := dk_28 (dk_at dksX7_wins_0 16 rfl rfl)
theorem dX7_wins_17 : decode cX7_wins 17 = .ok (.invokevirtual 42, 3) := dk_182 0 42 (dk_at dksX7_wins_0 17 rfl rfl)
theorem dX7_wins_20 : decode cX7_wins 20 = .ok (.invokevirtual 46, 3) := dk_182 0 46 (dk_at dksX7_wins_0 20 rfl rfl)
theorem dX7_wins_23 : decode cX7_wins 23 = .ok (.if_icmp .ge 33, 3) := dk_162 0 33 (dk_at dksX7_wins_1 0 rfl rfl)
theorem dX7_wins_26 : decode cX7_wins 26 = .ok (.iload_n 1, 1) := dk_27 (dk_at dksX7_wins_1 3 rfl rfl)
theorem dX7_wins_27 : decode cX7_wins 27 = .ok (.aload_n 0, 1) := dk_42 (dk_at dksX7_wins_1 4 rfl rfl)
theorem dX7_wins_28 : decode cX7_wins 28 = .ok (.iload_n 2, 1) := dk_28 (dk_at dksX7_wins_1 5 rfl rfl)
theorem dX7_wins_29 : decode cX7_wins 29 = .ok (.invokevirtual 42, 3) := dk_182 0 42 (dk_at dksX7_wins_1 6 rfl rfl)
theorem dX7_wins_32 : decode cX7_wins 32 = .ok (.getfield 107, 3) := dk_180 0 107 (dk_at dksX7_wins_1 9 rfl rfl)
theorem dX7_wins_35 : decode cX7_wins 35 = .ok (.iload_n 3, 1) := dk_29 (dk_at dksX7_wins_1 12 rfl rfl)
theorem dX7_wins_36 : decode cX7_wins 36 = .ok (.iaload, 1) := dk_46 (dk_at dksX7_wins_1 13 rfl rfl)
theorem dX7_wins_37 : decode cX7_wins 37 = .ok (.aload_n 0, 1) := dk_42 (dk_at dksX7_wins_1 14 rfl rfl)
theorem dX7_wins_38 : decode cX7_wins 38 = .ok (.iload_n 2, 1) := dk_28 (dk_at dksX7_wins_1 15 rfl rfl)
theorem dX7_wins_39 : decode cX7_wins 39 = .ok (.invokevirtual 42, 3) := dk_182 0 42 (dk_at dksX7_wins_1 16 rfl rfl)
theorem dX7_wins_42 : decode cX7_wins 42 = .ok (.getfield 111, 3) := dk_180 0 111 (dk_at dksX7_wins_1 19 rfl rfl)
theorem dX7_wins_45 : decode cX7_wins 45 = .ok (.iload_n 3, 1) := dk_29 (dk_at dksX7_wins_1 22 rfl rfl)
theorem dX7_wins_46 : decode cX7_wins 46 = .ok (.iaload, 1) := dk_46 (dk_at dksX7_wins_1 23 rfl rfl)
theorem dX7_wins_47 : decode cX7_wins 47 = .ok (.imul, 1) := dk_104 (dk_at dksX7_wins_2 0 rfl rfl)
theorem dX7_wins_48 : decode cX7_wins 48 = .ok (.iadd, 1) := dk_96 (dk_at dksX7_wins_2 1 rfl rfl)
theorem dX7_wins_49 : decode cX7_wins 49 = .ok (.istore_n 1, 1) := dk_60 (dk_at dksX7_wins_2 2 rfl rfl)
theorem dX7_wins_50 : decode cX7_wins 50 = .ok (.iinc 3 1, 3) := dk_132 3 1 (dk_at dksX7_wins_2 3 rfl rfl)
theorem dX7_wins_53 : decode cX7_wins 53 = .ok (.goto (-39), 3) := dk_167 255 217 (dk_at dksX7_wins_2 6 rfl rfl)
theorem dX7_wins_56 : decode cX7_wins 56 = .ok (.iinc 2 1, 3) := dk_132 2 1 (dk_at dksX7_wins_2 9 rfl rfl)
theorem dX7_wins_59 : decode cX7_wins 59 = .ok (.goto (-55), 3) := dk_167 255 201 (dk_at dksX7_wins_2 12 rfl rfl)
theorem dX7_wins_62 : decode cX7_wins 62 = .ok (.iload_n 1, 1) := dk_27 (dk_at dksX7_wins_2 15 rfl rfl)
theorem dX7_wins_63 : decode cX7_wins 63 = .ok (.ireturn, 1) := dk_172 (dk_at dksX7_wins_2 16 rfl rfl)
abbrev cX7_pays : ByteArray := prog_13_method_16_code
def yX7_pays : MethodName := ⟨RX7, "pays", "(I)I"⟩
def dkwX7_pays_1 : List UInt8 := [182, 0, 42, 27, 182, 0, 66, 46, 96, 61, 132, 3, 1, 167, 255, 224, 28, 172]
abbrev dktX7_pays_1 : List UInt8 := dkwX7_pays_1 ++ []
def dkwX7_pays_0 : List UInt8 := [3, 61, 3, 62, 29, 42, 182, 0, 37, 162, 0, 30, 28, 42, 29, 182, 0, 42, 180, 0, 107, 42, 29]
abbrev dktX7_pays_0 : List UInt8 := dkwX7_pays_0 ++ dktX7_pays_1
theorem dksX7_pays_0 : cX7_pays.data.toList.drop 0 = dktX7_pays_0 := by decide +kernel
theorem dksX7_pays_1 : cX7_pays.data.toList.drop 23 = dktX7_pays_1 := dk_seg dksX7_pays_0 23 rfl rfl
theorem dX7_pays_0 : decode cX7_pays 0 = .ok (.iconst 0, 1) := dk_3 (dk_at dksX7_pays_0 0 rfl rfl)
theorem dX7_pays_1 : decode cX7_pays 1 = .ok (.istore_n 2, 1) := dk_61 (dk_at dksX7_pays_0 1 rfl rfl)
theorem dX7_pays_2 : decode cX7_pays 2 = .ok (.iconst 0, 1) := dk_3 (dk_at dksX7_pays_0 2 rfl rfl)
theorem dX7_pays_3 : decode cX7_pays 3 = .ok (.istore_n 3, 1) := dk_62 (dk_at dksX7_pays_0 3 rfl rfl)
theorem dX7_pays_4 : decode cX7_pays 4 = .ok (.iload_n 3, 1) := dk_29 (dk_at dksX7_pays_0 4 rfl rfl)
theorem dX7_pays_5 : decode cX7_pays 5 = .ok (.aload_n 0, 1) := dk_42 (dk_at dksX7_pays_0 5 rfl rfl)
theorem dX7_pays_6 : decode cX7_pays 6 = .ok (.invokevirtual 37, 3) := dk_182 0 37 (dk_at dksX7_pays_0 6 rfl rfl)
theorem dX7_pays_9 : decode cX7_pays 9 = .ok (.if_icmp .ge 30, 3) := dk_162 0 30 (dk_at dksX7_pays_0 9 rfl rfl)
theorem dX7_pays_12 : decode cX7_pays 12 = .ok (.iload_n 2, 1) := dk_28 (dk_at dksX7_pays_0 12 rfl rfl)
theorem dX7_pays_13 : decode cX7_pays 13 = .ok (.aload_n 0, 1) := dk_42 (dk_at dksX7_pays_0 13 rfl rfl)
theorem dX7_pays_14 : decode cX7_pays 14 = .ok (.iload_n 3, 1) := dk_29 (dk_at dksX7_pays_0 14 rfl rfl)
theorem dX7_pays_15 : decode cX7_pays 15 = .ok (.invokevirtual 42, 3) := dk_182 0 42 (dk_at dksX7_pays_0 15 rfl rfl)
theorem dX7_pays_18 : decode cX7_pays 18 = .ok (.getfield 107, 3) := dk_180 0 107 (dk_at dksX7_pays_0 18 rfl rfl)
theorem dX7_pays_21 : decode cX7_pays 21 = .ok (.aload_n 0, 1) := dk_42 (dk_at dksX7_pays_0 21 rfl rfl)
theorem dX7_pays_22 : decode cX7_pays 22 = .ok (.iload_n 3, 1) := dk_29 (dk_at dksX7_pays_0 22 rfl rfl)
theorem dX7_pays_23 : decode cX7_pays 23 = .ok (.invokevirtual 42, 3) := dk_182 0 42 (dk_at dksX7_pays_1 0 rfl rfl)
theorem dX7_pays_26 : decode cX7_pays 26 = .ok (.iload_n 1, 1) := dk_27 (dk_at dksX7_pays_1 3 rfl rfl)
theorem dX7_pays_27 : decode cX7_pays 27 = .ok (.invokevirtual 66, 3) := dk_182 0 66 (dk_at dksX7_pays_1 4 rfl rfl)
theorem dX7_pays_30 : decode cX7_pays 30 = .ok (.iaload, 1) := dk_46 (dk_at dksX7_pays_1 7 rfl rfl)
theorem dX7_pays_31 : decode cX7_pays 31 = .ok (.iadd, 1) := dk_96 (dk_at dksX7_pays_1 8 rfl rfl)
theorem dX7_pays_32 : decode cX7_pays 32 = .ok (.istore_n 2, 1) := dk_61 (dk_at dksX7_pays_1 9 rfl rfl)
theorem dX7_pays_33 : decode cX7_pays 33 = .ok (.iinc 3 1, 3) := dk_132 3 1 (dk_at dksX7_pays_1 10 rfl rfl)
theorem dX7_pays_36 : decode cX7_pays 36 = .ok (.goto (-32), 3) := dk_167 255 224 (dk_at dksX7_pays_1 13 rfl rfl)
theorem dX7_pays_39 : decode cX7_pays 39 = .ok (.iload_n 2, 1) := dk_28 (dk_at dksX7_pays_1 16 rfl rfl)
theorem dX7_pays_40 : decode cX7_pays 40 = .ok (.ireturn, 1) := dk_172 (dk_at dksX7_pays_1 17 rfl rfl)
abbrev cX7_flips : ByteArray := prog_13_method_7_code
def yX7_flips : MethodName := ⟨RX7, "flips", "(I)V"⟩
def dkwX7_flips_1 : List UInt8 := [182, 0, 42, 27, 182, 0, 53, 132, 2, 1, 167, 255, 224, 177]
abbrev dktX7_flips_1 : List UInt8 := dkwX7_flips_1 ++ []
def dkwX7_flips_0 : List UInt8 := [3, 61, 28, 42, 182, 0, 37, 162, 0, 30, 42, 28, 182, 0, 42, 27, 182, 0, 49, 153, 0, 12, 42, 28]
abbrev dktX7_flips_0 : List UInt8 := dkwX7_flips_0 ++ dktX7_flips_1
theorem dksX7_flips_0 : cX7_flips.data.toList.drop 0 = dktX7_flips_0 := by decide +kernel
theorem dksX7_flips_1 : cX7_flips.data.toList.drop 24 = dktX7_flips_1 := dk_seg dksX7_flips_0 24 rfl rfl
theorem dX7_flips_0 : decode cX7_flips 0 = .ok (.iconst 0, 1) := dk_3 (dk_at dksX7_flips_0 0 rfl rfl)
theorem dX7_flips_1 : decode cX7_flips 1 = .ok (.istore_n 2, 1) := dk_61 (dk_at dksX7_flips_0 1 rfl rfl)
theorem dX7_flips_2 : decode cX7_flips 2 = .ok (.iload_n 2, 1) := dk_28 (dk_at dksX7_flips_0 2 rfl rfl)
theorem dX7_flips_3 : decode cX7_flips 3 = .ok (.aload_n 0, 1) := dk_42 (dk_at dksX7_flips_0 3 rfl rfl)
theorem dX7_flips_4 : decode cX7_flips 4 = .ok (.invokevirtual 37, 3) := dk_182 0 37 (dk_at dksX7_flips_0 4 rfl rfl)
theorem dX7_flips_7 : decode cX7_flips 7 = .ok (.if_icmp .ge 30, 3) := dk_162 0 30 (dk_at dksX7_flips_0 7 rfl rfl)
theorem dX7_flips_10 : decode cX7_flips 10 = .ok (.aload_n 0, 1) := dk_42 (dk_at dksX7_flips_0 10 rfl rfl)
theorem dX7_flips_11 : decode cX7_flips 11 = .ok (.iload_n 2, 1) := dk_28 (dk_at dksX7_flips_0 11 rfl rfl)
theorem dX7_flips_12 : decode cX7_flips 12 = .ok (.invokevirtual 42, 3) := dk_182 0 42 (dk_at dksX7_flips_0 12 rfl rfl)
theorem dX7_flips_15 : decode cX7_flips 15 = .ok (.iload_n 1, 1) := dk_27 (dk_at dksX7_flips_0 15 rfl rfl)
theorem dX7_flips_16 : decode cX7_flips 16 = .ok (.invokevirtual 49, 3) := dk_182 0 49 (dk_at dksX7_flips_0 16 rfl rfl)
theorem dX7_flips_19 : decode cX7_flips 19 = .ok (.ifCond .eq 12, 3) := dk_153 0 12 (dk_at dksX7_flips_0 19 rfl rfl)
theorem dX7_flips_22 : decode cX7_flips 22 = .ok (.aload_n 0, 1) := dk_42 (dk_at dksX7_flips_0 22 rfl rfl)
theorem dX7_flips_23 : decode cX7_flips 23 = .ok (.iload_n 2, 1) := dk_28 (dk_at dksX7_flips_0 23 rfl rfl)
theorem dX7_flips_24 : decode cX7_flips 24 = .ok (.invokevirtual 42, 3) := dk_182 0 42 (dk_at dksX7_flips_1 0 rfl rfl)
theorem dX7_flips_27 : decode cX7_flips 27 = .ok (.iload_n 1, 1) := dk_27 (dk_at dksX7_flips_1 3 rfl rfl)
theorem dX7_flips_28 : decode cX7_flips 28 = .ok (.invokevirtual 53, 3) := dk_182 0 53 (dk_at dksX7_flips_1 4 rfl rfl)
theorem dX7_flips_31 : decode cX7_flips 31 = .ok (.iinc 2 1, 3) := dk_132 2 1 (dk_at dksX7_flips_1 7 rfl rfl)
theorem dX7_flips_34 : decode cX7_flips 34 = .ok (.goto (-32), 3) := dk_167 255 224 (dk_at dksX7_flips_1 10 rfl rfl)
theorem dX7_flips_37 : decode cX7_flips 37 = .ok (.return_, 1) := dk_177 (dk_at dksX7_flips_1 13 rfl rfl)
abbrev cX7_isOf : ByteArray := prog_13_method_6_code
def yX7_isOf : MethodName := ⟨RX7, "isOf", "(I)Z"⟩
def dkwX7_isOf_1 : List UInt8 := [132, 2, 1, 167, 255, 231, 3, 172]
abbrev dktX7_isOf_1 : List UInt8 := dkwX7_isOf_1 ++ []
def dkwX7_isOf_0 : List UInt8 := [3, 61, 28, 42, 182, 0, 37, 162, 0, 23, 42, 28, 182, 0, 42, 27, 182, 0, 49, 153, 0, 5, 4, 172]
abbrev dktX7_isOf_0 : List UInt8 := dkwX7_isOf_0 ++ dktX7_isOf_1
theorem dksX7_isOf_0 : cX7_isOf.data.toList.drop 0 = dktX7_isOf_0 := by decide +kernel
theorem dksX7_isOf_1 : cX7_isOf.data.toList.drop 24 = dktX7_isOf_1 := dk_seg dksX7_isOf_0 24 rfl rfl
theorem dX7_isOf_0 : decode cX7_isOf 0 = .ok (.iconst 0, 1) := dk_3 (dk_at dksX7_isOf_0 0 rfl rfl)
theorem dX7_isOf_1 : decode cX7_isOf 1 = .ok (.istore_n 2, 1) := dk_61 (dk_at dksX7_isOf_0 1 rfl rfl)
theorem dX7_isOf_2 : decode cX7_isOf 2 = .ok (.iload_n 2, 1) := dk_28 (dk_at dksX7_isOf_0 2 rfl rfl)
theorem dX7_isOf_3 : decode cX7_isOf 3 = .ok (.aload_n 0, 1) := dk_42 (dk_at dksX7_isOf_0 3 rfl rfl)
theorem dX7_isOf_4 : decode cX7_isOf 4 = .ok (.invokevirtual 37, 3) := dk_182 0 37 (dk_at dksX7_isOf_0 4 rfl rfl)
theorem dX7_isOf_7 : decode cX7_isOf 7 = .ok (.if_icmp .ge 23, 3) := dk_162 0 23 (dk_at dksX7_isOf_0 7 rfl rfl)
theorem dX7_isOf_10 : decode cX7_isOf 10 = .ok (.aload_n 0, 1) := dk_42 (dk_at dksX7_isOf_0 10 rfl rfl)
theorem dX7_isOf_11 : decode cX7_isOf 11 = .ok (.iload_n 2, 1) := dk_28 (dk_at dksX7_isOf_0 11 rfl rfl)
theorem dX7_isOf_12 : decode cX7_isOf 12 = .ok (.invokevirtual 42, 3) := dk_182 0 42 (dk_at dksX7_isOf_0 12 rfl rfl)
theorem dX7_isOf_15 : decode cX7_isOf 15 = .ok (.iload_n 1, 1) := dk_27 (dk_at dksX7_isOf_0 15 rfl rfl)
theorem dX7_isOf_16 : decode cX7_isOf 16 = .ok (.invokevirtual 49, 3) := dk_182 0 49 (dk_at dksX7_isOf_0 16 rfl rfl)
theorem dX7_isOf_19 : decode cX7_isOf 19 = .ok (.ifCond .eq 5, 3) := dk_153 0 5 (dk_at dksX7_isOf_0 19 rfl rfl)
theorem dX7_isOf_22 : decode cX7_isOf 22 = .ok (.iconst 1, 1) := dk_4 (dk_at dksX7_isOf_0 22 rfl rfl)
theorem dX7_isOf_23 : decode cX7_isOf 23 = .ok (.ireturn, 1) := dk_172 (dk_at dksX7_isOf_0 23 rfl rfl)
theorem dX7_isOf_24 : decode cX7_isOf 24 = .ok (.iinc 2 1, 3) := dk_132 2 1 (dk_at dksX7_isOf_1 0 rfl rfl)
theorem dX7_isOf_27 : decode cX7_isOf 27 = .ok (.goto (-25), 3) := dk_167 255 231 (dk_at dksX7_isOf_1 3 rfl rfl)
theorem dX7_isOf_30 : decode cX7_isOf 30 = .ok (.iconst 0, 1) := dk_3 (dk_at dksX7_isOf_1 6 rfl rfl)
theorem dX7_isOf_31 : decode cX7_isOf 31 = .ok (.ireturn, 1) := dk_172 (dk_at dksX7_isOf_1 7 rfl rfl)
abbrev cX7_forgets : ByteArray := prog_13_method_8_code
def yX7_forgets : MethodName := ⟨RX7, "forgets", "(I)V"⟩
def dkwX7_forgets_2 : List UInt8 := [182, 0, 60, 87, 167, 0, 13, 42, 180, 0, 12, 28, 45, 182, 0, 63, 87, 132, 2, 255, 167, 255, 198, 177]
abbrev dktX7_forgets_2 : List UInt8 := dkwX7_forgets_2 ++ []
def dkwX7_forgets_1 : List UInt8 := [167, 0, 39, 42, 28, 182, 0, 42, 27, 182, 0, 57, 78, 45, 199, 0, 15, 42, 180, 0, 12, 28]
abbrev dktX7_forgets_1 : List UInt8 := dkwX7_forgets_1 ++ dktX7_forgets_2
def dkwX7_forgets_0 : List UInt8 := [42, 182, 0, 37, 4, 100, 61, 28, 155, 0, 60, 42, 28, 182, 0, 42, 27, 182, 0, 49, 154, 0, 6]
abbrev dktX7_forgets_0 : List UInt8 := dkwX7_forgets_0 ++ dktX7_forgets_1
theorem dksX7_forgets_0 : cX7_forgets.data.toList.drop 0 = dktX7_forgets_0 := by decide +kernel
theorem dksX7_forgets_1 : cX7_forgets.data.toList.drop 23 = dktX7_forgets_1 := dk_seg dksX7_forgets_0 23 rfl rfl
theorem dksX7_forgets_2 : cX7_forgets.data.toList.drop 45 = dktX7_forgets_2 := dk_seg dksX7_forgets_1 22 rfl rfl
theorem dX7_forgets_0 : decode cX7_forgets 0 = .ok (.aload_n 0, 1) := dk_42 (dk_at dksX7_forgets_0 0 rfl rfl)
theorem dX7_forgets_1 : decode cX7_forgets 1 = .ok (.invokevirtual 37, 3) := dk_182 0 37 (dk_at dksX7_forgets_0 1 rfl rfl)
theorem dX7_forgets_4 : decode cX7_forgets 4 = .ok (.iconst 1, 1) := dk_4 (dk_at dksX7_forgets_0 4 rfl rfl)
theorem dX7_forgets_5 : decode cX7_forgets 5 = .ok (.isub, 1) := dk_100 (dk_at dksX7_forgets_0 5 rfl rfl)
theorem dX7_forgets_6 : decode cX7_forgets 6 = .ok (.istore_n 2, 1) := dk_61 (dk_at dksX7_forgets_0 6 rfl rfl)
theorem dX7_forgets_7 : decode cX7_forgets 7 = .ok (.iload_n 2, 1) := dk_28 (dk_at dksX7_forgets_0 7 rfl rfl)
theorem dX7_forgets_8 : decode cX7_forgets 8 = .ok (.ifCond .lt 60, 3) := dk_155 0 60 (dk_at dksX7_forgets_0 8 rfl rfl)
theorem dX7_forgets_11 : decode cX7_forgets 11 = .ok (.aload_n 0, 1) := dk_42 (dk_at dksX7_forgets_0 11 rfl rfl)
theorem dX7_forgets_12 : decode cX7_forgets 12 = .ok (.iload_n 2, 1) := dk_28 (dk_at dksX7_forgets_0 12 rfl rfl)
theorem dX7_forgets_13 : decode cX7_forgets 13 = .ok (.invokevirtual 42, 3) := dk_182 0 42 (dk_at dksX7_forgets_0 13 rfl rfl)
theorem dX7_forgets_16 : decode cX7_forgets 16 = .ok (.iload_n 1, 1) := dk_27 (dk_at dksX7_forgets_0 16 rfl rfl)
theorem dX7_forgets_17 : decode cX7_forgets 17 = .ok (.invokevirtual 49, 3) := dk_182 0 49 (dk_at dksX7_forgets_0 17 rfl rfl)
theorem dX7_forgets_20 : decode cX7_forgets 20 = .ok (.ifCond .ne 6, 3) := dk_154 0 6 (dk_at dksX7_forgets_0 20 rfl rfl)
theorem dX7_forgets_23 : decode cX7_forgets 23 = .ok (.goto 39, 3) := dk_167 0 39 (dk_at dksX7_forgets_1 0 rfl rfl)
theorem dX7_forgets_26 : decode cX7_forgets 26 = .ok (.aload_n 0, 1) := dk_42 (dk_at dksX7_forgets_1 3 rfl rfl)
theorem dX7_forgets_27 : decode cX7_forgets 27 = .ok (.iload_n 2, 1) := dk_28 (dk_at dksX7_forgets_1 4 rfl rfl)
theorem dX7_forgets_28 : decode cX7_forgets 28 = .ok (.invokevirtual 42, 3) := dk_182 0 42 (dk_at dksX7_forgets_1 5 rfl rfl)
theorem dX7_forgets_31 : decode cX7_forgets 31 = .ok (.iload_n 1, 1) := dk_27 (dk_at dksX7_forgets_1 8 rfl rfl)
theorem dX7_forgets_32 : decode cX7_forgets 32 = .ok (.invokevirtual 57, 3) := dk_182 0 57 (dk_at dksX7_forgets_1 9 rfl rfl)
theorem dX7_forgets_35 : decode cX7_forgets 35 = .ok (.astore_n 3, 1) := dk_78 (dk_at dksX7_forgets_1 12 rfl rfl)
theorem dX7_forgets_36 : decode cX7_forgets 36 = .ok (.aload_n 3, 1) := dk_45 (dk_at dksX7_forgets_1 13 rfl rfl)
theorem dX7_forgets_37 : decode cX7_forgets 37 = .ok (.ifnonnull 15, 3) := dk_199 0 15 (dk_at dksX7_forgets_1 14 rfl rfl)
theorem dX7_forgets_40 : decode cX7_forgets 40 = .ok (.aload_n 0, 1) := dk_42 (dk_at dksX7_forgets_1 17 rfl rfl)
theorem dX7_forgets_41 : decode cX7_forgets 41 = .ok (.getfield 12, 3) := dk_180 0 12 (dk_at dksX7_forgets_1 18 rfl rfl)
theorem dX7_forgets_44 : decode cX7_forgets 44 = .ok (.iload_n 2, 1) := dk_28 (dk_at dksX7_forgets_1 21 rfl rfl)
theorem dX7_forgets_45 : decode cX7_forgets 45 = .ok (.invokevirtual 60, 3) := dk_182 0 60 (dk_at dksX7_forgets_2 0 rfl rfl)
theorem dX7_forgets_48 : decode cX7_forgets 48 = .ok (.pop, 1) := dk_87 (dk_at dksX7_forgets_2 3 rfl rfl)
theorem dX7_forgets_49 : decode cX7_forgets 49 = .ok (.goto 13, 3) := dk_167 0 13 (dk_at dksX7_forgets_2 4 rfl rfl)
theorem dX7_forgets_52 : decode cX7_forgets 52 = .ok (.aload_n 0, 1) := dk_42 (dk_at dksX7_forgets_2 7 rfl rfl)
theorem dX7_forgets_53 : decode cX7_forgets 53 = .ok (.getfield 12, 3) := dk_180 0 12 (dk_at dksX7_forgets_2 8 rfl rfl)
theorem dX7_forgets_56 : decode cX7_forgets 56 = .ok (.iload_n 2, 1) := dk_28 (dk_at dksX7_forgets_2 11 rfl rfl)
theorem dX7_forgets_57 : decode cX7_forgets 57 = .ok (.aload_n 3, 1) := dk_45 (dk_at dksX7_forgets_2 12 rfl rfl)
theorem dX7_forgets_58 : decode cX7_forgets 58 = .ok (.invokevirtual 63, 3) := dk_182 0 63 (dk_at dksX7_forgets_2 13 rfl rfl)
theorem dX7_forgets_61 : decode cX7_forgets 61 = .ok (.pop, 1) := dk_87 (dk_at dksX7_forgets_2 16 rfl rfl)
theorem dX7_forgets_62 : decode cX7_forgets 62 = .ok (.iinc 2 (-1), 3) := dk_132 2 255 (dk_at dksX7_forgets_2 17 rfl rfl)
theorem dX7_forgets_65 : decode cX7_forgets 65 = .ok (.goto (-58), 3) := dk_167 255 198 (dk_at dksX7_forgets_2 20 rfl rfl)
theorem dX7_forgets_68 : decode cX7_forgets 68 = .ok (.return_, 1) := dk_177 (dk_at dksX7_forgets_2 23 rfl rfl)
theorem q122 : (Jvm.Cond.initialized "NotAtOnce$Table") ∈ lw_all := lw_g (lw_at lw_m1 10 rfl) rfl
theorem q292 : (Jvm.Cond.instantiable "NotAtOnce$Table" (1 : Nat)) ∈ lw_all := lw_g (lw_at lw_m1 180 rfl) rfl
theorem q294 : (Jvm.Cond.instanceMethod ({ cls := "NotAtOnce$Table", name := "<init>", desc := "()V" } : Jvm.MethodName)) ∈ lw_all := lw_g (lw_at lw_m1 182 rfl) rfl
theorem q295 : (Jvm.Cond.code ({ cls := "NotAtOnce$Table", name := "<init>", desc := "()V" } : Jvm.MethodName) prog_13_method_1_code (1 : Nat) (Option.none : Option Jvm.ClassFile.FieldType)) ∈ lw_all := lw_g (lw_at lw_m1 183 rfl) rfl
theorem q296 : (Jvm.Cond.methodLink "NotAtOnce$Table" (3 : Nat) ({ cls := "java/lang/Object", name := "<init>", desc := "()V" } : Jvm.MethodName)) ∈ lw_all := lw_g (lw_at lw_m1 184 rfl) rfl
theorem q297 : (Jvm.Cond.classLink "NotAtOnce$Table" (9 : Nat) "java/util/ArrayList") ∈ lw_all := lw_g (lw_at lw_m1 185 rfl) rfl
theorem q298 : (Jvm.Cond.methodLink "NotAtOnce$Table" (11 : Nat) ({ cls := "java/util/ArrayList", name := "<init>", desc := "()V" } : Jvm.MethodName)) ∈ lw_all := lw_g (lw_at lw_m1 186 rfl) rfl
theorem q299 : (Jvm.Cond.fieldLink "NotAtOnce$Table" (12 : Nat) "NotAtOnce$Table" "sets" "Ljava/util/ArrayList;") ∈ lw_all := lw_g (lw_at lw_m1 187 rfl) rfl
theorem q302 : (Jvm.Cond.laysFinal "NotAtOnce$Table" "NotAtOnce$Table" "sets" "Ljava/util/ArrayList;") ∈ lw_all := lw_g (lw_at lw_m1 190 rfl) rfl
theorem q303 : (Jvm.Cond.soleField "NotAtOnce$Table" "sets") ∈ lw_all := lw_g (lw_at lw_m1 191 rfl) rfl
theorem q304 : (Jvm.Cond.superclass "NotAtOnce$Table" "java/lang/Object") ∈ lw_all := lw_g (lw_at lw_m1 192 rfl) rfl
theorem q773 : (Jvm.Cond.selects "NotAtOnce$Table" ({ cls := "java/lang/Object", name := "getClass", desc := "()Ljava/lang/Class;" } : Jvm.MethodName) ({ cls := "java/lang/Object", name := "getClass", desc := "()Ljava/lang/Class;" } : Jvm.MethodName)) ∈ lw_all := lw_g (lw_at lw_m3 181 rfl) rfl
theorem q806 : (Jvm.Cond.instanceMethod ({ cls := "NotAtOnce$Table", name := "size", desc := "()I" } : Jvm.MethodName)) ∈ lw_all := lw_g (lw_at lw_m3 214 rfl) rfl
theorem q807 : (Jvm.Cond.selects "NotAtOnce$Table" ({ cls := "NotAtOnce$Table", name := "size", desc := "()I" } : Jvm.MethodName) ({ cls := "NotAtOnce$Table", name := "size", desc := "()I" } : Jvm.MethodName)) ∈ lw_all := lw_g (lw_at lw_m3 215 rfl) rfl
theorem q808 : (Jvm.Cond.code ({ cls := "NotAtOnce$Table", name := "size", desc := "()I" } : Jvm.MethodName) prog_13_method_4_code (1 : Nat) (Option.some Jvm.ClassFile.FieldType.int)) ∈ lw_all := lw_g (lw_at lw_m3 216 rfl) rfl
theorem q809 : (Jvm.Cond.methodLink "NotAtOnce$Table" (19 : Nat) ({ cls := "java/util/ArrayList", name := "size", desc := "()I" } : Jvm.MethodName)) ∈ lw_all := lw_g (lw_at lw_m3 217 rfl) rfl
theorem q838 : (Jvm.Cond.fieldLink "NotAtOnce$Table" (111 : Nat) "NotAtOnce$Asked" "times" "[I") ∈ lw_all := lw_g (lw_at lw_m4 6 rfl) rfl
theorem q842 : (Jvm.Cond.fieldLink "NotAtOnce$Table" (107 : Nat) "NotAtOnce$Asked" "coins" "[I") ∈ lw_all := lw_g (lw_at lw_m4 10 rfl) rfl
theorem q945 : (Jvm.Cond.instanceMethod ({ cls := "NotAtOnce$Table", name := "copy", desc := "(Z)LNotAtOnce$Table;" } : Jvm.MethodName)) ∈ lw_all := lw_g (lw_at lw_m4 113 rfl) rfl
theorem q946 : (Jvm.Cond.selects "NotAtOnce$Table" ({ cls := "NotAtOnce$Table", name := "copy", desc := "(Z)LNotAtOnce$Table;" } : Jvm.MethodName) ({ cls := "NotAtOnce$Table", name := "copy", desc := "(Z)LNotAtOnce$Table;" } : Jvm.MethodName)) ∈ lw_all := lw_g (lw_at lw_m4 114 rfl) rfl
theorem q947 : (Jvm.Cond.code ({ cls := "NotAtOnce$Table", name := "copy", desc := "(Z)LNotAtOnce$Table;" } : Jvm.MethodName) prog_13_method_2_code (4 : Nat) (Option.some (Jvm.ClassFile.FieldType.object "NotAtOnce$Table"))) ∈ lw_all := lw_g (lw_at lw_m4 115 rfl) rfl
theorem q948 : (Jvm.Cond.classLink "NotAtOnce$Table" (13 : Nat) "NotAtOnce$Table") ∈ lw_all := lw_g (lw_at lw_m4 116 rfl) rfl
theorem q949 : (Jvm.Cond.methodLink "NotAtOnce$Table" (18 : Nat) ({ cls := "NotAtOnce$Table", name := "<init>", desc := "()V" } : Jvm.MethodName)) ∈ lw_all := lw_g (lw_at lw_m4 117 rfl) rfl
theorem q950 : (Jvm.Cond.methodLink "NotAtOnce$Table" (23 : Nat) ({ cls := "java/util/ArrayList", name := "get", desc := "(I)Ljava/lang/Object;" } : Jvm.MethodName)) ∈ lw_all := lw_g (lw_at lw_m4 118 rfl) rfl
theorem q951 : (Jvm.Cond.classLink "NotAtOnce$Table" (27 : Nat) "NotAtOnce$Asked") ∈ lw_all := lw_g (lw_at lw_m4 119 rfl) rfl
theorem q952 : (Jvm.Cond.methodLink "NotAtOnce$Table" (29 : Nat) ({ cls := "NotAtOnce$Asked", name := "copy", desc := "(Z)LNotAtOnce$Asked;" } : Jvm.MethodName)) ∈ lw_all := lw_g (lw_at lw_m4 120 rfl) rfl
theorem q972 : (Jvm.Cond.methodLink "NotAtOnce$Table" (33 : Nat) ({ cls := "java/util/ArrayList", name := "add", desc := "(Ljava/lang/Object;)Z" } : Jvm.MethodName)) ∈ lw_all := lw_g (lw_at lw_m4 140 rfl) rfl
theorem q1007 : (Jvm.Cond.instanceMethod ({ cls := "NotAtOnce$Table", name := "set", desc := "(I)LNotAtOnce$Asked;" } : Jvm.MethodName)) ∈ lw_all := lw_g (lw_at lw_m4 175 rfl) rfl
theorem q1008 : (Jvm.Cond.selects "NotAtOnce$Table" ({ cls := "NotAtOnce$Table", name := "set", desc := "(I)LNotAtOnce$Asked;" } : Jvm.MethodName) ({ cls := "NotAtOnce$Table", name := "set", desc := "(I)LNotAtOnce$Asked;" } : Jvm.MethodName)) ∈ lw_all := lw_g (lw_at lw_m4 176 rfl) rfl
theorem q1009 : (Jvm.Cond.code ({ cls := "NotAtOnce$Table", name := "set", desc := "(I)LNotAtOnce$Asked;" } : Jvm.MethodName) prog_13_method_3_code (2 : Nat) (Option.some (Jvm.ClassFile.FieldType.object "NotAtOnce$Asked"))) ∈ lw_all := lw_g (lw_at lw_m4 177 rfl) rfl
theorem q1077 : (Jvm.Cond.instanceMethod ({ cls := "NotAtOnce$Table", name := "isOutcome", desc := "(II)Z" } : Jvm.MethodName)) ∈ lw_all := lw_g (lw_at lw_m5 5 rfl) rfl
theorem q1078 : (Jvm.Cond.selects "NotAtOnce$Table" ({ cls := "NotAtOnce$Table", name := "isOutcome", desc := "(II)Z" } : Jvm.MethodName) ({ cls := "NotAtOnce$Table", name := "isOutcome", desc := "(II)Z" } : Jvm.MethodName)) ∈ lw_all := lw_g (lw_at lw_m5 6 rfl) rfl
theorem q1079 : (Jvm.Cond.code ({ cls := "NotAtOnce$Table", name := "isOutcome", desc := "(II)Z" } : Jvm.MethodName) prog_13_method_5_code (3 : Nat) (Option.some Jvm.ClassFile.FieldType.boolean)) ∈ lw_all := lw_g (lw_at lw_m5 7 rfl) rfl
theorem q1080 : (Jvm.Cond.methodLink "NotAtOnce$Table" (37 : Nat) ({ cls := "NotAtOnce$Table", name := "size", desc := "()I" } : Jvm.MethodName)) ∈ lw_all := lw_g (lw_at lw_m5 8 rfl) rfl
theorem q1081 : (Jvm.Cond.methodLinkNest "NotAtOnce$Table" (38 : Nat) ({ cls := "NotAtOnce", name := "in", desc := "(III)Z" } : Jvm.MethodName) "NotAtOnce") ∈ lw_tbl := lw_at lw_m5 9 rfl
theorem q1082 : (Jvm.Cond.methodLink "NotAtOnce$Table" (42 : Nat) ({ cls := "NotAtOnce$Table", name := "set", desc := "(I)LNotAtOnce$Asked;" } : Jvm.MethodName)) ∈ lw_all := lw_g (lw_at lw_m5 10 rfl) rfl
theorem q1083 : (Jvm.Cond.methodLink "NotAtOnce$Table" (46 : Nat) ({ cls := "NotAtOnce$Asked", name := "outcomes", desc := "()I" } : Jvm.MethodName)) ∈ lw_all := lw_g (lw_at lw_m5 11 rfl) rfl
theorem q1089 : (Jvm.Cond.instanceMethod ({ cls := "NotAtOnce$Table", name := "extend", desc := "(III)Z" } : Jvm.MethodName)) ∈ lw_all := lw_g (lw_at lw_m5 17 rfl) rfl
theorem q1090 : (Jvm.Cond.selects "NotAtOnce$Table" ({ cls := "NotAtOnce$Table", name := "extend", desc := "(III)Z" } : Jvm.MethodName) ({ cls := "NotAtOnce$Table", name := "extend", desc := "(III)Z" } : Jvm.MethodName)) ∈ lw_all := lw_g (lw_at lw_m5 18 rfl) rfl
theorem q1091 : (Jvm.Cond.code ({ cls := "NotAtOnce$Table", name := "extend", desc := "(III)Z" } : Jvm.MethodName) prog_13_method_10_code (5 : Nat) (Option.some Jvm.ClassFile.FieldType.boolean)) ∈ lw_all := lw_g (lw_at lw_m5 19 rfl) rfl
theorem q1092 : (Jvm.Cond.methodLink "NotAtOnce$Table" (66 : Nat) ({ cls := "NotAtOnce$Asked", name := "outcome", desc := "(I)I" } : Jvm.MethodName)) ∈ lw_all := lw_g (lw_at lw_m5 20 rfl) rfl
theorem q1093 : (Jvm.Cond.methodLink "NotAtOnce$Table" (73 : Nat) ({ cls := "NotAtOnce$Table", name := "fits", desc := "(II)Z" } : Jvm.MethodName)) ∈ lw_all := lw_g (lw_at lw_m5 21 rfl) rfl
theorem q1094 : (Jvm.Cond.instanceMethod ({ cls := "NotAtOnce$Table", name := "fits", desc := "(II)Z" } : Jvm.MethodName)) ∈ lw_all := lw_g (lw_at lw_m5 22 rfl) rfl
theorem q1095 : (Jvm.Cond.selects "NotAtOnce$Table" ({ cls := "NotAtOnce$Table", name := "fits", desc := "(II)Z" } : Jvm.MethodName) ({ cls := "NotAtOnce$Table", name := "fits", desc := "(II)Z" } : Jvm.MethodName)) ∈ lw_all := lw_g (lw_at lw_m5 23 rfl) rfl
theorem q1096 : (Jvm.Cond.code ({ cls := "NotAtOnce$Table", name := "fits", desc := "(II)Z" } : Jvm.MethodName) prog_13_method_9_code (4 : Nat) (Option.some Jvm.ClassFile.FieldType.boolean)) ∈ lw_all := lw_g (lw_at lw_m5 24 rfl) rfl
theorem q1097 : (Jvm.Cond.methodLink "NotAtOnce$Table" (70 : Nat) ({ cls := "NotAtOnce$Asked", name := "isPossible", desc := "(I)Z" } : Jvm.MethodName)) ∈ lw_all := lw_g (lw_at lw_m5 25 rfl) rfl
theorem q1133 : (Jvm.Cond.instanceMethod ({ cls := "NotAtOnce$Table", name := "disturbed", desc := "(I)I" } : Jvm.MethodName)) ∈ lw_all := lw_g (lw_at lw_m5 61 rfl) rfl
theorem q1134 : (Jvm.Cond.selects "NotAtOnce$Table" ({ cls := "NotAtOnce$Table", name := "disturbed", desc := "(I)I" } : Jvm.MethodName) ({ cls := "NotAtOnce$Table", name := "disturbed", desc := "(I)I" } : Jvm.MethodName)) ∈ lw_all := lw_g (lw_at lw_m5 62 rfl) rfl
theorem q1135 : (Jvm.Cond.code ({ cls := "NotAtOnce$Table", name := "disturbed", desc := "(I)I" } : Jvm.MethodName) prog_13_method_11_code (6 : Nat) (Option.some Jvm.ClassFile.FieldType.int)) ∈ lw_all := lw_g (lw_at lw_m5 63 rfl) rfl
theorem q1136 : (Jvm.Cond.methodLink "NotAtOnce$Table" (49 : Nat) ({ cls := "NotAtOnce$Asked", name := "isOf", desc := "(I)Z" } : Jvm.MethodName)) ∈ lw_all := lw_g (lw_at lw_m5 64 rfl) rfl
theorem q1160 : (Jvm.Cond.methodLink "NotAtOnce$Table" (77 : Nat) ({ cls := "NotAtOnce$Asked", name := "ones", desc := "(I)I" } : Jvm.MethodName)) ∈ lw_all := lw_g (lw_at lw_m5 88 rfl) rfl
theorem q1190 : (Jvm.Cond.instanceMethod ({ cls := "NotAtOnce$Table", name := "isCycle", desc := "(I)Z" } : Jvm.MethodName)) ∈ lw_all := lw_g (lw_at lw_m5 118 rfl) rfl
theorem q1191 : (Jvm.Cond.selects "NotAtOnce$Table" ({ cls := "NotAtOnce$Table", name := "isCycle", desc := "(I)Z" } : Jvm.MethodName) ({ cls := "NotAtOnce$Table", name := "isCycle", desc := "(I)Z" } : Jvm.MethodName)) ∈ lw_all := lw_g (lw_at lw_m5 119 rfl) rfl
theorem q1192 : (Jvm.Cond.code ({ cls := "NotAtOnce$Table", name := "isCycle", desc := "(I)Z" } : Jvm.MethodName) prog_13_method_12_code (6 : Nat) (Option.some Jvm.ClassFile.FieldType.boolean)) ∈ lw_all := lw_g (lw_at lw_m5 120 rfl) rfl
theorem q1193 : (Jvm.Cond.methodLinkNest "NotAtOnce$Table" (80 : Nat) ({ cls := "NotAtOnce", name := "bits", desc := "(I)I" } : Jvm.MethodName) "NotAtOnce") ∈ lw_tbl := lw_at lw_m5 121 rfl
theorem q1196 : (Jvm.Cond.methodLinkNest "NotAtOnce$Table" (83 : Nat) ({ cls := "NotAtOnce", name := "has", desc := "(II)Z" } : Jvm.MethodName) "NotAtOnce") ∈ lw_tbl := lw_at lw_m5 124 rfl
theorem q1197 : (Jvm.Cond.methodLink "NotAtOnce$Table" (86 : Nat) ({ cls := "NotAtOnce$Asked", name := "looks", desc := "()I" } : Jvm.MethodName)) ∈ lw_all := lw_g (lw_at lw_m5 125 rfl) rfl
theorem q1205 : (Jvm.Cond.methodLink "NotAtOnce$Table" (89 : Nat) ({ cls := "NotAtOnce$Table", name := "hangs", desc := "(I)Z" } : Jvm.MethodName)) ∈ lw_all := lw_g (lw_at lw_m5 133 rfl) rfl
theorem q1206 : (Jvm.Cond.privateMethod ({ cls := "NotAtOnce$Table", name := "hangs", desc := "(I)Z" } : Jvm.MethodName)) ∈ lw_tbl := lw_at lw_m5 134 rfl
theorem q1207 : (Jvm.Cond.instanceMethod ({ cls := "NotAtOnce$Table", name := "hangs", desc := "(I)Z" } : Jvm.MethodName)) ∈ lw_all := lw_g (lw_at lw_m5 135 rfl) rfl
theorem q1208 : (Jvm.Cond.code ({ cls := "NotAtOnce$Table", name := "hangs", desc := "(I)Z" } : Jvm.MethodName) prog_13_method_13_code (6 : Nat) (Option.some Jvm.ClassFile.FieldType.boolean)) ∈ lw_all := lw_g (lw_at lw_m5 136 rfl) rfl
theorem q1218 : (Jvm.Cond.instanceMethod ({ cls := "NotAtOnce$Table", name := "excess", desc := "(II)I" } : Jvm.MethodName)) ∈ lw_all := lw_g (lw_at lw_m5 146 rfl) rfl
theorem q1219 : (Jvm.Cond.selects "NotAtOnce$Table" ({ cls := "NotAtOnce$Table", name := "excess", desc := "(II)I" } : Jvm.MethodName) ({ cls := "NotAtOnce$Table", name := "excess", desc := "(II)I" } : Jvm.MethodName)) ∈ lw_all := lw_g (lw_at lw_m5 147 rfl) rfl
theorem q1220 : (Jvm.Cond.code ({ cls := "NotAtOnce$Table", name := "excess", desc := "(II)I" } : Jvm.MethodName) prog_13_method_14_code (8 : Nat) (Option.some Jvm.ClassFile.FieldType.int)) ∈ lw_all := lw_g (lw_at lw_m5 148 rfl) rfl
theorem q1221 : (Jvm.Cond.constant "NotAtOnce$Table" (94 : Nat) (2147483647 : Int32)) ∈ lw_all := lw_g (lw_at lw_m5 149 rfl) rfl
theorem q1222 : (Jvm.Cond.methodLink "NotAtOnce$Table" (95 : Nat) ({ cls := "NotAtOnce$Asked", name := "same", desc := "()I" } : Jvm.MethodName)) ∈ lw_all := lw_g (lw_at lw_m5 150 rfl) rfl
theorem q1223 : (Jvm.Cond.methodLink "NotAtOnce$Table" (98 : Nat) ({ cls := "java/lang/Math", name := "abs", desc := "(I)I" } : Jvm.MethodName)) ∈ lw_all := lw_g (lw_at lw_m5 151 rfl) rfl
theorem q1226 : (Jvm.Cond.methodLink "NotAtOnce$Table" (103 : Nat) ({ cls := "java/lang/Math", name := "min", desc := "(II)I" } : Jvm.MethodName)) ∈ lw_all := lw_g (lw_at lw_m5 154 rfl) rfl
theorem q1248 : (Jvm.Cond.instanceMethod ({ cls := "NotAtOnce$Table", name := "wins", desc := "()I" } : Jvm.MethodName)) ∈ lw_all := lw_g (lw_at lw_m5 176 rfl) rfl
theorem q1249 : (Jvm.Cond.selects "NotAtOnce$Table" ({ cls := "NotAtOnce$Table", name := "wins", desc := "()I" } : Jvm.MethodName) ({ cls := "NotAtOnce$Table", name := "wins", desc := "()I" } : Jvm.MethodName)) ∈ lw_all := lw_g (lw_at lw_m5 177 rfl) rfl
theorem q1250 : (Jvm.Cond.code ({ cls := "NotAtOnce$Table", name := "wins", desc := "()I" } : Jvm.MethodName) prog_13_method_15_code (4 : Nat) (Option.some Jvm.ClassFile.FieldType.int)) ∈ lw_all := lw_g (lw_at lw_m5 178 rfl) rfl
theorem q1260 : (Jvm.Cond.instanceMethod ({ cls := "NotAtOnce$Table", name := "pays", desc := "(I)I" } : Jvm.MethodName)) ∈ lw_all := lw_g (lw_at lw_m5 188 rfl) rfl
theorem q1261 : (Jvm.Cond.selects "NotAtOnce$Table" ({ cls := "NotAtOnce$Table", name := "pays", desc := "(I)I" } : Jvm.MethodName) ({ cls := "NotAtOnce$Table", name := "pays", desc := "(I)I" } : Jvm.MethodName)) ∈ lw_all := lw_g (lw_at lw_m5 189 rfl) rfl
theorem q1262 : (Jvm.Cond.code ({ cls := "NotAtOnce$Table", name := "pays", desc := "(I)I" } : Jvm.MethodName) prog_13_method_16_code (4 : Nat) (Option.some Jvm.ClassFile.FieldType.int)) ∈ lw_all := lw_g (lw_at lw_m5 190 rfl) rfl
theorem q1520 : (Jvm.Cond.instanceMethod ({ cls := "NotAtOnce$Table", name := "flips", desc := "(I)V" } : Jvm.MethodName)) ∈ lw_all := lw_g (lw_at lw_m6 208 rfl) rfl
theorem q1521 : (Jvm.Cond.selects "NotAtOnce$Table" ({ cls := "NotAtOnce$Table", name := "flips", desc := "(I)V" } : Jvm.MethodName) ({ cls := "NotAtOnce$Table", name := "flips", desc := "(I)V" } : Jvm.MethodName)) ∈ lw_all := lw_g (lw_at lw_m6 209 rfl) rfl
theorem q1522 : (Jvm.Cond.code ({ cls := "NotAtOnce$Table", name := "flips", desc := "(I)V" } : Jvm.MethodName) prog_13_method_7_code (3 : Nat) (Option.none : Option Jvm.ClassFile.FieldType)) ∈ lw_all := lw_g (lw_at lw_m6 210 rfl) rfl
theorem q1523 : (Jvm.Cond.methodLink "NotAtOnce$Table" (53 : Nat) ({ cls := "NotAtOnce$Asked", name := "flips", desc := "(I)V" } : Jvm.MethodName)) ∈ lw_all := lw_g (lw_at lw_m6 211 rfl) rfl
theorem q1549 : (Jvm.Cond.instanceMethod ({ cls := "NotAtOnce$Table", name := "isOf", desc := "(I)Z" } : Jvm.MethodName)) ∈ lw_all := lw_g (lw_at lw_m6 237 rfl) rfl
theorem q1550 : (Jvm.Cond.selects "NotAtOnce$Table" ({ cls := "NotAtOnce$Table", name := "isOf", desc := "(I)Z" } : Jvm.MethodName) ({ cls := "NotAtOnce$Table", name := "isOf", desc := "(I)Z" } : Jvm.MethodName)) ∈ lw_all := lw_g (lw_at lw_m6 238 rfl) rfl
theorem q1551 : (Jvm.Cond.code ({ cls := "NotAtOnce$Table", name := "isOf", desc := "(I)Z" } : Jvm.MethodName) prog_13_method_6_code (3 : Nat) (Option.some Jvm.ClassFile.FieldType.boolean)) ∈ lw_all := lw_g (lw_at lw_m6 239 rfl) rfl
theorem q1553 : (Jvm.Cond.instanceMethod ({ cls := "NotAtOnce$Table", name := "forgets", desc := "(I)V" } : Jvm.MethodName)) ∈ lw_all := lw_g (lw_at lw_m7 1 rfl) rfl
theorem q1554 : (Jvm.Cond.selects "NotAtOnce$Table" ({ cls := "NotAtOnce$Table", name := "forgets", desc := "(I)V" } : Jvm.MethodName) ({ cls := "NotAtOnce$Table", name := "forgets", desc := "(I)V" } : Jvm.MethodName)) ∈ lw_all := lw_g (lw_at lw_m7 2 rfl) rfl
theorem q1555 : (Jvm.Cond.code ({ cls := "NotAtOnce$Table", name := "forgets", desc := "(I)V" } : Jvm.MethodName) prog_13_method_8_code (4 : Nat) (Option.none : Option Jvm.ClassFile.FieldType)) ∈ lw_all := lw_g (lw_at lw_m7 3 rfl) rfl
theorem q1556 : (Jvm.Cond.methodLink "NotAtOnce$Table" (57 : Nat) ({ cls := "NotAtOnce$Asked", name := "without", desc := "(I)LNotAtOnce$Asked;" } : Jvm.MethodName)) ∈ lw_all := lw_g (lw_at lw_m7 4 rfl) rfl
theorem q1567 : (Jvm.Cond.methodLink "NotAtOnce$Table" (60 : Nat) ({ cls := "java/util/ArrayList", name := "remove", desc := "(I)Ljava/lang/Object;" } : Jvm.MethodName)) ∈ lw_all := lw_g (lw_at lw_m7 15 rfl) rfl
theorem q1568 : (Jvm.Cond.methodLink "NotAtOnce$Table" (63 : Nat) ({ cls := "java/util/ArrayList", name := "set", desc := "(ILjava/lang/Object;)Ljava/lang/Object;" } : Jvm.MethodName)) ∈ lw_all := lw_g (lw_at lw_m7 16 rfl) rfl
theorem q2357 : (Jvm.Cond.castable "NotAtOnce$Table" "java/lang/Object") ∈ lw_tbl := lw_at lw_m10 85 rfl
theorem in_X7 : ∀ w ∈ wsX70, w ∈ lw_all := lw_in wsX70 [302] (by decide +kernel) (by decide +kernel)
/-! NotAtOnce$Token -/
set_option maxRecDepth 100000
def RX8 : String := "NotAtOnce$Token"
def TX8 : u_T := fun k => match k with
  | 0 => ("NotAtOnce$Token", "sort", "I", true)
  | 1 => ("NotAtOnce$Token", "place", "I", true)
  | 2 => ("NotAtOnce$Token", "numbe\x72", "I", true)
  | _ => ("NotAtOnce$Token", "word", "Ljava/lang/String;", true)
def tyX8 : Nat → FieldType := fun k => match k with
  | 0 => .int
  | 1 => .int
  | 2 => .int
  | _ => .object "java/lang/String"
abbrev wsX80 : List Cond := u_ws RX8 TX8 4
theorem nmX8 : ∀ a, a < 4 → ∀ b, b < 4 → a ≠ b → (TX8 a).2.1 ≠ (TX8 b).2.1 := by decide +kernel
theorem tyX8_ok : ∀ k, k < 4 → parseFieldDescriptor (TX8 k).2.2.1 = some (tyX8 k) := by decide +kernel
abbrev cX8_init : ByteArray := prog_14_method_1_code
def yX8_init : MethodName := ⟨RX8, "<init>", "(IIILjava/lang/String;)V"⟩
def dkwX8_init_1 : List UInt8 := [181, 0, 19, 177]
abbrev dktX8_init_1 : List UInt8 := dkwX8_init_1 ++ []
def dkwX8_init_0 : List UInt8 := [42, 183, 0, 1, 42, 27, 181, 0, 7, 42, 28, 181, 0, 13, 42, 29, 181, 0, 16, 42, 25, 4]
abbrev dktX8_init_0 : List UInt8 := dkwX8_init_0 ++ dktX8_init_1
theorem dksX8_init_0 : cX8_init.data.toList.drop 0 = dktX8_init_0 := by decide +kernel
theorem dksX8_init_1 : cX8_init.data.toList.drop 22 = dktX8_init_1 := dk_seg dksX8_init_0 22 rfl rfl
theorem dX8_init_0 : decode cX8_init 0 = .ok (.aload_n 0, 1) := dk_42 (dk_at dksX8_init_0 0 rfl rfl)
theorem dX8_init_1 : decode cX8_init 1 = .ok (.invokespecial 1, 3) := dk_183 0 1 (dk_at dksX8_init_0 1 rfl rfl)
theorem dX8_init_4 : decode cX8_init 4 = .ok (.aload_n 0, 1) := dk_42 (dk_at dksX8_init_0 4 rfl rfl)
theorem dX8_init_5 : decode cX8_init 5 = .ok (.iload_n 1, 1) := dk_27 (dk_at dksX8_init_0 5 rfl rfl)
theorem dX8_init_6 : decode cX8_init 6 = .ok (.putfield 7, 3) := dk_181 0 7 (dk_at dksX8_init_0 6 rfl rfl)
theorem dX8_init_9 : decode cX8_init 9 = .ok (.aload_n 0, 1) := dk_42 (dk_at dksX8_init_0 9 rfl rfl)
theorem dX8_init_10 : decode cX8_init 10 = .ok (.iload_n 2, 1) := dk_28 (dk_at dksX8_init_0 10 rfl rfl)
theorem dX8_init_11 : decode cX8_init 11 = .ok (.putfield 13, 3) := dk_181 0 13 (dk_at dksX8_init_0 11 rfl rfl)
theorem dX8_init_14 : decode cX8_init 14 = .ok (.aload_n 0, 1) := dk_42 (dk_at dksX8_init_0 14 rfl rfl)
theorem dX8_init_15 : decode cX8_init 15 = .ok (.iload_n 3, 1) := dk_29 (dk_at dksX8_init_0 15 rfl rfl)
theorem dX8_init_16 : decode cX8_init 16 = .ok (.putfield 16, 3) := dk_181 0 16 (dk_at dksX8_init_0 16 rfl rfl)
theorem dX8_init_19 : decode cX8_init 19 = .ok (.aload_n 0, 1) := dk_42 (dk_at dksX8_init_0 19 rfl rfl)
theorem dX8_init_20 : decode cX8_init 20 = .ok (.aload 4, 2) := dk_25 4 (dk_at dksX8_init_0 20 rfl rfl)
theorem dX8_init_22 : decode cX8_init 22 = .ok (.putfield 19, 3) := dk_181 0 19 (dk_at dksX8_init_1 0 rfl rfl)
theorem dX8_init_25 : decode cX8_init 25 = .ok (.return_, 1) := dk_177 (dk_at dksX8_init_1 3 rfl rfl)
abbrev cX8_is : ByteArray := prog_14_method_2_code
def yX8_is : MethodName := ⟨RX8, "is", "(Ljava/lang/String;)Z"⟩
def dkwX8_is_1 : List UInt8 := [172]
abbrev dktX8_is_1 : List UInt8 := dkwX8_is_1 ++ []
def dkwX8_is_0 : List UInt8 := [42, 180, 0, 7, 5, 160, 0, 18, 42, 180, 0, 19, 43, 182, 0, 23, 153, 0, 7, 4, 167, 0, 4, 3]
abbrev dktX8_is_0 : List UInt8 := dkwX8_is_0 ++ dktX8_is_1
theorem dksX8_is_0 : cX8_is.data.toList.drop 0 = dktX8_is_0 := by decide +kernel
theorem dksX8_is_1 : cX8_is.data.toList.drop 24 = dktX8_is_1 := dk_seg dksX8_is_0 24 rfl rfl
theorem dX8_is_0 : decode cX8_is 0 = .ok (.aload_n 0, 1) := dk_42 (dk_at dksX8_is_0 0 rfl rfl)
theorem dX8_is_1 : decode cX8_is 1 = .ok (.getfield 7, 3) := dk_180 0 7 (dk_at dksX8_is_0 1 rfl rfl)
theorem dX8_is_4 : decode cX8_is 4 = .ok (.iconst 2, 1) := dk_5 (dk_at dksX8_is_0 4 rfl rfl)
theorem dX8_is_5 : decode cX8_is 5 = .ok (.if_icmp .ne 18, 3) := dk_160 0 18 (dk_at dksX8_is_0 5 rfl rfl)
theorem dX8_is_8 : decode cX8_is 8 = .ok (.aload_n 0, 1) := dk_42 (dk_at dksX8_is_0 8 rfl rfl)
theorem dX8_is_9 : decode cX8_is 9 = .ok (.getfield 19, 3) := dk_180 0 19 (dk_at dksX8_is_0 9 rfl rfl)
theorem dX8_is_12 : decode cX8_is 12 = .ok (.aload_n 1, 1) := dk_43 (dk_at dksX8_is_0 12 rfl rfl)
theorem dX8_is_13 : decode cX8_is 13 = .ok (.invokevirtual 23, 3) := dk_182 0 23 (dk_at dksX8_is_0 13 rfl rfl)
theorem dX8_is_16 : decode cX8_is 16 = .ok (.ifCond .eq 7, 3) := dk_153 0 7 (dk_at dksX8_is_0 16 rfl rfl)
theorem dX8_is_19 : decode cX8_is 19 = .ok (.iconst 1, 1) := dk_4 (dk_at dksX8_is_0 19 rfl rfl)
theorem dX8_is_20 : decode cX8_is 20 = .ok (.goto 4, 3) := dk_167 0 4 (dk_at dksX8_is_0 20 rfl rfl)
theorem dX8_is_23 : decode cX8_is 23 = .ok (.iconst 0, 1) := dk_3 (dk_at dksX8_is_0 23 rfl rfl)
theorem dX8_is_24 : decode cX8_is 24 = .ok (.ireturn, 1) := dk_172 (dk_at dksX8_is_1 0 rfl rfl)
abbrev cX8_isName : ByteArray := prog_14_method_4_code
def yX8_isName : MethodName := ⟨RX8, "isName", "()Z"⟩
def dkwX8_isName_8 : List UInt8 := [3, 172, 4, 172]
abbrev dktX8_isName_8 : List UInt8 := dkwX8_isName_8 ++ []
def dkwX8_isName_7 : List UInt8 := [170, 0, 0, 0, 0, 0, 45, 0, 0, 0, 0, 0, 0, 0, 6, 0, 0, 0, 43, 0, 0, 0, 43, 0, 0, 0, 43, 0, 0, 0, 43, 0, 0, 0, 43, 0, 0, 0, 43, 0, 0, 0, 43]
abbrev dktX8_isName_7 : List UInt8 := dkwX8_isName_7 ++ dktX8_isName_8
def dkwX8_isName_6 : List UInt8 := [61, 28]
abbrev dktX8_isName_6 : List UInt8 := dkwX8_isName_6 ++ dktX8_isName_7
def dkwX8_isName_5 : List UInt8 := [18, 43, 182, 0, 23, 153, 0, 20, 8, 61, 167, 0, 15, 43, 18, 45, 182, 0, 23, 153, 0, 6, 16, 6]
abbrev dktX8_isName_5 : List UInt8 := dkwX8_isName_5 ++ dktX8_isName_6
def dkwX8_isName_4 : List UInt8 := [153, 0, 48, 6, 61, 167, 0, 43, 43, 18, 41, 182, 0, 23, 153, 0, 34, 7, 61, 167, 0, 29, 43]
abbrev dktX8_isName_4 : List UInt8 := dkwX8_isName_4 ++ dktX8_isName_5
def dkwX8_isName_3 : List UInt8 := [61, 167, 0, 71, 43, 18, 37, 182, 0, 23, 153, 0, 62, 5, 61, 167, 0, 57, 43, 18, 39, 182, 0, 23]
abbrev dktX8_isName_3 : List UInt8 := dkwX8_isName_3 ++ dktX8_isName_4
def dkwX8_isName_2 : List UInt8 := [43, 18, 33, 182, 0, 23, 153, 0, 90, 3, 61, 167, 0, 85, 43, 18, 35, 182, 0, 23, 153, 0, 76, 4]
abbrev dktX8_isName_2 : List UInt8 := dkwX8_isName_2 ++ dktX8_isName_3
def dkwX8_isName_1 : List UInt8 := [171, 0, 0, 0, 0, 0, 163, 0, 0, 0, 7, 0, 1, 161, 162, 0, 0, 0, 67, 0, 1, 184, 42, 0, 0, 0, 137, 0, 1, 186, 139, 0, 0, 0, 151, 0, 1, 188, 98, 0, 0, 0, 109, 0, 50, 175, 244, 0, 0, 0, 123, 0, 50, 198, 159, 0, 0, 0, 81, 6, 94, 85, 144, 0, 0, 0, 95]
abbrev dktX8_isName_1 : List UInt8 := dkwX8_isName_1 ++ dktX8_isName_2
def dkwX8_isName_0 : List UInt8 := [42, 180, 0, 7, 5, 159, 0, 5, 3, 172, 42, 180, 0, 19, 76, 2, 61, 43, 182, 0, 29]
abbrev dktX8_isName_0 : List UInt8 := dkwX8_isName_0 ++ dktX8_isName_1
theorem dksX8_isName_0 : cX8_isName.data.toList.drop 0 = dktX8_isName_0 := by decide +kernel
theorem dksX8_isName_1 : cX8_isName.data.toList.drop 21 = dktX8_isName_1 := dk_seg dksX8_isName_0 21 rfl rfl
theorem dksX8_isName_2 : cX8_isName.data.toList.drop 88 = dktX8_isName_2 := dk_seg dksX8_isName_1 67 rfl rfl
theorem dksX8_isName_3 : cX8_isName.data.toList.drop 112 = dktX8_isName_3 := dk_seg dksX8_isName_2 24 rfl rfl
theorem dksX8_isName_4 : cX8_isName.data.toList.drop 136 = dktX8_isName_4 := dk_seg dksX8_isName_3 24 rfl rfl
theorem dksX8_isName_5 : cX8_isName.data.toList.drop 159 = dktX8_isName_5 := dk_seg dksX8_isName_4 23 rfl rfl
theorem dksX8_isName_6 : cX8_isName.data.toList.drop 183 = dktX8_isName_6 := dk_seg dksX8_isName_5 24 rfl rfl
theorem dksX8_isName_7 : cX8_isName.data.toList.drop 185 = dktX8_isName_7 := dk_seg dksX8_isName_6 2 rfl rfl
theorem dksX8_isName_8 : cX8_isName.data.toList.drop 228 = dktX8_isName_8 := dk_seg dksX8_isName_7 43 rfl rfl
theorem dX8_isName_0 : decode cX8_isName 0 = .ok (.aload_n 0, 1) := dk_42 (dk_at dksX8_isName_0 0 rfl rfl)
theorem dX8_isName_1 : decode cX8_isName 1 = .ok (.getfield 7, 3) := dk_180 0 7 (dk_at dksX8_isName_0 1 rfl rfl)
theorem dX8_isName_4 : decode cX8_isName 4 = .ok (.iconst 2, 1) := dk_5 (dk_at dksX8_isName_0 4 rfl rfl)
theorem dX8_isName_5 : decode cX8_isName 5 = .ok (.if_icmp .eq 5, 3) := dk_159 0 5 (dk_at dksX8_isName_0 5 rfl rfl)
theorem dX8_isName_8 : decode cX8_isName 8 = .ok (.iconst 0, 1) := dk_3 (dk_at dksX8_isName_0 8 rfl rfl)
theorem dX8_isName_9 : decode cX8_isName 9 = .ok (.ireturn, 1) := dk_172 (dk_at dksX8_isName_0 9 rfl rfl)
theorem dX8_isName_10 : decode cX8_isName 10 = .ok (.aload_n 0, 1) := dk_42 (dk_at dksX8_isName_0 10 rfl rfl)
theorem dX8_isName_11 : decode cX8_isName 11 = .ok (.getfield 19, 3) := dk_180 0 19 (dk_at dksX8_isName_0 11 rfl rfl)
theorem dX8_isName_14 : decode cX8_isName 14 = .ok (.astore_n 1, 1) := dk_76 (dk_at dksX8_isName_0 14 rfl rfl)
theorem dX8_isName_15 : decode cX8_isName 15 = .ok (.iconst (-1), 1) := dk_2 (dk_at dksX8_isName_0 15 rfl rfl)
theorem dX8_isName_16 : decode cX8_isName 16 = .ok (.istore_n 2, 1) := dk_61 (dk_at dksX8_isName_0 16 rfl rfl)
theorem dX8_isName_17 : decode cX8_isName 17 = .ok (.aload_n 1, 1) := dk_43 (dk_at dksX8_isName_0 17 rfl rfl)
theorem dX8_isName_18 : decode cX8_isName 18 = .ok (.invokevirtual 29, 3) := dk_182 0 29 (dk_at dksX8_isName_0 18 rfl rfl)
theorem dX8_isName_21 : decode cX8_isName 21 = .ok (.lookupswitch 163 #[(106914, 67), (112682, 137), (113291, 151), (113762, 109), (3321844, 123), (3327647, 81), (106845584, 95)], 67) := by decide +kernel
theorem dX8_isName_88 : decode cX8_isName 88 = .ok (.aload_n 1, 1) := dk_43 (dk_at dksX8_isName_2 0 rfl rfl)
theorem dX8_isName_89 : decode cX8_isName 89 = .ok (.ldc 33, 2) := dk_18 33 (dk_at dksX8_isName_2 1 rfl rfl)
theorem dX8_isName_91 : decode cX8_isName 91 = .ok (.invokevirtual 23, 3) := dk_182 0 23 (dk_at dksX8_isName_2 3 rfl rfl)
theorem dX8_isName_94 : decode cX8_isName 94 = .ok (.ifCond .eq 90, 3) := dk_153 0 90 (dk_at dksX8_isName_2 6 rfl rfl)
theorem dX8_isName_97 : decode cX8_isName 97 = .ok (.iconst 0, 1) := dk_3 (dk_at dksX8_isName_2 9 rfl rfl)
theorem dX8_isName_98 : decode cX8_isName 98 = .ok (.istore_n 2, 1) := dk_61 (dk_at dksX8_isName_2 10 rfl rfl)
theorem dX8_isName_99 : decode cX8_isName 99 = .ok (.goto 85, 3) := dk_167 0 85 (dk_at dksX8_isName_2 11 rfl rfl)
theorem dX8_isName_102 : decode cX8_isName 102 = .ok (.aload_n 1, 1) := dk_43 (dk_at dksX8_isName_2 14 rfl rfl)
theorem dX8_isName_103 : decode cX8_isName 103 = .ok (.ldc 35, 2) := dk_18 35 (dk_at dksX8_isName_2 15 rfl rfl)
theorem dX8_isName_105 : decode cX8_isName 105 = .ok (.invokevirtual 23, 3) := dk_182 0 23 (dk_at dksX8_isName_2 17 rfl rfl)
theorem dX8_isName_108 : decode cX8_isName 108 = .ok (.ifCond .eq 76, 3) := dk_153 0 76 (dk_at dksX8_isName_2 20 rfl rfl)
theorem dX8_isName_111 : decode cX8_isName 111 = .ok (.iconst 1, 1) := dk_4 (dk_at dksX8_isName_2 23 rfl rfl)
theorem dX8_isName_112 : decode cX8_isName 112 = .ok (.istore_n 2, 1) := dk_61 (dk_at dksX8_isName_3 0 rfl rfl)
theorem dX8_isName_113 : decode cX8_isName 113 = .ok (.goto 71, 3) := dk_167 0 71 (dk_at dksX8_isName_3 1 rfl rfl)
theorem dX8_isName_116 : decode cX8_isName 116 = .ok (.aload_n 1, 1) := dk_43 (dk_at dksX8_isName_3 4 rfl rfl)
theorem dX8_isName_117 : decode cX8_isName 117 = .ok (.ldc 37, 2) := dk_18 37 (dk_at dksX8_isName_3 5 rfl rfl)
theorem dX8_isName_119 : decode cX8_isName 119 = .ok (.invokevirtual 23, 3) := dk_182 0 23 (dk_at dksX8_isName_3 7 rfl rfl)
theorem dX8_isName_122 : decode cX8_isName 122 = .ok (.ifCond .eq 62, 3) := dk_153 0 62 (dk_at dksX8_isName_3 10 rfl rfl)
theorem dX8_isName_125 : decode cX8_isName 125 = .ok (.iconst 2, 1) := dk_5 (dk_at dksX8_isName_3 13 rfl rfl)
theorem dX8_isName_126 : decode cX8_isName 126 = .ok (.istore_n 2, 1) := dk_61 (dk_at dksX8_isName_3 14 rfl rfl)
theorem dX8_isName_127 : decode cX8_isName 127 = .ok (.goto 57, 3) := dk_167 0 57 (dk_at dksX8_isName_3 15 rfl rfl)
theorem dX8_isName_130 : decode cX8_isName 130 = .ok (.aload_n 1, 1) := dk_43 (dk_at dksX8_isName_3 18 rfl rfl)
theorem dX8_isName_131 : decode cX8_isName 131 = .ok (.ldc 39, 2) := dk_18 39 (dk_at dksX8_isName_3 19 rfl rfl)
theorem dX8_isName_133 : decode cX8_isName 133 = .ok (.invokevirtual 23, 3) := dk_182 0 23 (dk_at dksX8_isName_3 21 rfl rfl)
theorem dX8_isName_136 : decode cX8_isName 136 = .ok (.ifCond .eq 48, 3) := dk_153 0 48 (dk_at dksX8_isName_4 0 rfl rfl)
theorem dX8_isName_139 : decode cX8_isName 139 = .ok (.iconst 3, 1) := dk_6 (dk_at dksX8_isName_4 3 rfl rfl)
theorem dX8_isName_140 : decode cX8_isName 140 = .ok (.istore_n 2, 1) := dk_61 (dk_at dksX8_isName_4 4 rfl rfl)
theorem dX8_isName_141 : decode cX8_isName 141 = .ok (.goto 43, 3) := dk_167 0 43 (dk_at dksX8_isName_4 5 rfl rfl)
theorem dX8_isName_144 : decode cX8_isName 144 = .ok (.aload_n 1, 1) := dk_43 (dk_at dksX8_isName_4 8 rfl rfl)
theorem dX8_isName_145 : decode cX8_isName 145 = .ok (.ldc 41, 2) := dk_18 41 (dk_at dksX8_isName_4 9 rfl rfl)
theorem dX8_isName_147 : decode cX8_isName 147 = .ok (.invokevirtual 23, 3) := dk_182 0 23 (dk_at dksX8_isName_4 11 rfl rfl)
theorem dX8_isName_150 : decode cX8_isName 150 = .ok (.ifCond .eq 34, 3) := dk_153 0 34 (dk_at dksX8_isName_4 14 rfl rfl)
theorem dX8_isName_153 : decode cX8_isName 153 = .ok (.iconst 4, 1) := dk_7 (dk_at dksX8_isName_4 17 rfl rfl)
theorem dX8_isName_154 : decode cX8_isName 154 = .ok (.istore_n 2, 1) := dk_61 (dk_at dksX8_isName_4 18 rfl rfl)
theorem dX8_isName_155 : decode cX8_isName 155 = .ok (.goto 29, 3) := dk_167 0 29 (dk_at dksX8_isName_4 19 rfl rfl)
theorem dX8_isName_158 : decode cX8_isName 158 = .ok (.aload_n 1, 1) := dk_43 (dk_at dksX8_isName_4 22 rfl rfl)
theorem dX8_isName_159 : decode cX8_isName 159 = .ok (.ldc 43, 2) := dk_18 43 (dk_at dksX8_isName_5 0 rfl rfl)
theorem dX8_isName_161 : decode cX8_isName 161 = .ok (.invokevirtual 23, 3) := dk_182 0 23 (dk_at dksX8_isName_5 2 rfl rfl)
theorem dX8_isName_164 : decode cX8_isName 164 = .ok (.ifCond .eq 20, 3) := dk_153 0 20 (dk_at dksX8_isName_5 5 rfl rfl)
theorem dX8_isName_167 : decode cX8_isName 167 = .ok (.iconst 5, 1) := dk_8 (dk_at dksX8_isName_5 8 rfl rfl)
theorem dX8_isName_168 : decode cX8_isName 168 = .ok (.istore_n 2, 1) := dk_61 (dk_at dksX8_isName_5 9 rfl rfl)
theorem dX8_isName_169 : decode cX8_isName 169 = .ok (.goto 15, 3) := dk_167 0 15 (dk_at dksX8_isName_5 10 rfl rfl)
theorem dX8_isName_172 : decode cX8_isName 172 = .ok (.aload_n 1, 1) := dk_43 (dk_at dksX8_isName_5 13 rfl rfl)
theorem dX8_isName_173 : decode cX8_isName 173 = .ok (.ldc 45, 2) := dk_18 45 (dk_at dksX8_isName_5 14 rfl rfl)
theorem dX8_isName_175 : decode cX8_isName 175 = .ok (.invokevirtual 23, 3) := dk_182 0 23 (dk_at dksX8_isName_5 16 rfl rfl)
theorem dX8_isName_178 : decode cX8_isName 178 = .ok (.ifCond .eq 6, 3) := dk_153 0 6 (dk_at dksX8_isName_5 19 rfl rfl)
theorem dX8_isName_181 : decode cX8_isName 181 = .ok (.bipush 6, 2) := dk_16 6 (dk_at dksX8_isName_5 22 rfl rfl)
theorem dX8_isName_183 : decode cX8_isName 183 = .ok (.istore_n 2, 1) := dk_61 (dk_at dksX8_isName_6 0 rfl rfl)
theorem dX8_isName_184 : decode cX8_isName 184 = .ok (.iload_n 2, 1) := dk_28 (dk_at dksX8_isName_6 1 rfl rfl)
theorem dX8_isName_185 : decode cX8_isName 185 = .ok (.tableswitch 45 0 6 #[43, 43, 43, 43, 43, 43, 43], 43) := by decide +kernel
theorem dX8_isName_228 : decode cX8_isName 228 = .ok (.iconst 0, 1) := dk_3 (dk_at dksX8_isName_8 0 rfl rfl)
theorem dX8_isName_229 : decode cX8_isName 229 = .ok (.ireturn, 1) := dk_172 (dk_at dksX8_isName_8 1 rfl rfl)
theorem dX8_isName_230 : decode cX8_isName 230 = .ok (.iconst 1, 1) := dk_4 (dk_at dksX8_isName_8 2 rfl rfl)
theorem dX8_isName_231 : decode cX8_isName 231 = .ok (.ireturn, 1) := dk_172 (dk_at dksX8_isName_8 3 rfl rfl)
abbrev cX8_isSign : ByteArray := prog_14_method_3_code
def yX8_isSign : MethodName := ⟨RX8, "isSign", "(C)Z"⟩
def dkwX8_isSign_0 : List UInt8 := [42, 180, 0, 7, 7, 160, 0, 15, 42, 180, 0, 16, 27, 160, 0, 7, 4, 167, 0, 4, 3, 172]
abbrev dktX8_isSign_0 : List UInt8 := dkwX8_isSign_0 ++ []
theorem dksX8_isSign_0 : cX8_isSign.data.toList.drop 0 = dktX8_isSign_0 := by decide +kernel
theorem dX8_isSign_0 : decode cX8_isSign 0 = .ok (.aload_n 0, 1) := dk_42 (dk_at dksX8_isSign_0 0 rfl rfl)
theorem dX8_isSign_1 : decode cX8_isSign 1 = .ok (.getfield 7, 3) := dk_180 0 7 (dk_at dksX8_isSign_0 1 rfl rfl)
theorem dX8_isSign_4 : decode cX8_isSign 4 = .ok (.iconst 4, 1) := dk_7 (dk_at dksX8_isSign_0 4 rfl rfl)
theorem dX8_isSign_5 : decode cX8_isSign 5 = .ok (.if_icmp .ne 15, 3) := dk_160 0 15 (dk_at dksX8_isSign_0 5 rfl rfl)
theorem dX8_isSign_8 : decode cX8_isSign 8 = .ok (.aload_n 0, 1) := dk_42 (dk_at dksX8_isSign_0 8 rfl rfl)
theorem dX8_isSign_9 : decode cX8_isSign 9 = .ok (.getfield 16, 3) := dk_180 0 16 (dk_at dksX8_isSign_0 9 rfl rfl)
theorem dX8_isSign_12 : decode cX8_isSign 12 = .ok (.iload_n 1, 1) := dk_27 (dk_at dksX8_isSign_0 12 rfl rfl)
theorem dX8_isSign_13 : decode cX8_isSign 13 = .ok (.if_icmp .ne 7, 3) := dk_160 0 7 (dk_at dksX8_isSign_0 13 rfl rfl)
theorem dX8_isSign_16 : decode cX8_isSign 16 = .ok (.iconst 1, 1) := dk_4 (dk_at dksX8_isSign_0 16 rfl rfl)
theorem dX8_isSign_17 : decode cX8_isSign 17 = .ok (.goto 4, 3) := dk_167 0 4 (dk_at dksX8_isSign_0 17 rfl rfl)
theorem dX8_isSign_20 : decode cX8_isSign 20 = .ok (.iconst 0, 1) := dk_3 (dk_at dksX8_isSign_0 20 rfl rfl)
theorem dX8_isSign_21 : decode cX8_isSign 21 = .ok (.ireturn, 1) := dk_172 (dk_at dksX8_isSign_0 21 rfl rfl)
theorem q123 : (Jvm.Cond.initialized "NotAtOnce$Token") ∈ lw_all := lw_g (lw_at lw_m1 11 rfl) rfl
theorem q354 : (Jvm.Cond.instantiable "NotAtOnce$Token" (4 : Nat)) ∈ lw_all := lw_g (lw_at lw_m2 2 rfl) rfl
theorem q357 : (Jvm.Cond.instanceMethod ({ cls := "NotAtOnce$Token", name := "<init>", desc := "(IIILjava/lang/String;)V" } : Jvm.MethodName)) ∈ lw_all := lw_g (lw_at lw_m2 5 rfl) rfl
theorem q358 : (Jvm.Cond.code ({ cls := "NotAtOnce$Token", name := "<init>", desc := "(IIILjava/lang/String;)V" } : Jvm.MethodName) prog_14_method_1_code (5 : Nat) (Option.none : Option Jvm.ClassFile.FieldType)) ∈ lw_all := lw_g (lw_at lw_m2 6 rfl) rfl
theorem q359 : (Jvm.Cond.methodLink "NotAtOnce$Token" (1 : Nat) ({ cls := "java/lang/Object", name := "<init>", desc := "()V" } : Jvm.MethodName)) ∈ lw_all := lw_g (lw_at lw_m2 7 rfl) rfl
theorem q360 : (Jvm.Cond.fieldLink "NotAtOnce$Token" (7 : Nat) "NotAtOnce$Token" "sort" "I") ∈ lw_all := lw_g (lw_at lw_m2 8 rfl) rfl
theorem q362 : (Jvm.Cond.fieldLink "NotAtOnce$Token" (13 : Nat) "NotAtOnce$Token" "place" "I") ∈ lw_all := lw_g (lw_at lw_m2 10 rfl) rfl
theorem q364 : (Jvm.Cond.fieldLink "NotAtOnce$Token" (16 : Nat) "NotAtOnce$Token" "numbe\x72" "I") ∈ lw_all := lw_g (lw_at lw_m2 12 rfl) rfl
theorem q366 : (Jvm.Cond.fieldLink "NotAtOnce$Token" (19 : Nat) "NotAtOnce$Token" "word" "Ljava/lang/String;") ∈ lw_all := lw_g (lw_at lw_m2 14 rfl) rfl
theorem q368 : (Jvm.Cond.laysFinal "NotAtOnce$Token" "NotAtOnce$Token" "sort" "I") ∈ lw_all := lw_g (lw_at lw_m2 16 rfl) rfl
theorem q369 : (Jvm.Cond.soleField "NotAtOnce$Token" "sort") ∈ lw_all := lw_g (lw_at lw_m2 17 rfl) rfl
theorem q370 : (Jvm.Cond.laysFinal "NotAtOnce$Token" "NotAtOnce$Token" "place" "I") ∈ lw_all := lw_g (lw_at lw_m2 18 rfl) rfl
theorem q371 : (Jvm.Cond.soleField "NotAtOnce$Token" "place") ∈ lw_all := lw_g (lw_at lw_m2 19 rfl) rfl
theorem q372 : (Jvm.Cond.laysFinal "NotAtOnce$Token" "NotAtOnce$Token" "numbe\x72" "I") ∈ lw_all := lw_g (lw_at lw_m2 20 rfl) rfl
theorem q373 : (Jvm.Cond.soleField "NotAtOnce$Token" "numbe\x72") ∈ lw_all := lw_g (lw_at lw_m2 21 rfl) rfl
theorem q374 : (Jvm.Cond.laysFinal "NotAtOnce$Token" "NotAtOnce$Token" "word" "Ljava/lang/String;") ∈ lw_all := lw_g (lw_at lw_m2 22 rfl) rfl
theorem q375 : (Jvm.Cond.soleField "NotAtOnce$Token" "word") ∈ lw_all := lw_g (lw_at lw_m2 23 rfl) rfl
theorem q376 : (Jvm.Cond.superclass "NotAtOnce$Token" "java/lang/Object") ∈ lw_all := lw_g (lw_at lw_m2 24 rfl) rfl
theorem q690 : (Jvm.Cond.instanceMethod ({ cls := "NotAtOnce$Token", name := "is", desc := "(Ljava/lang/String;)Z" } : Jvm.MethodName)) ∈ lw_all := lw_g (lw_at lw_m3 98 rfl) rfl
theorem q691 : (Jvm.Cond.selects "NotAtOnce$Token" ({ cls := "NotAtOnce$Token", name := "is", desc := "(Ljava/lang/String;)Z" } : Jvm.MethodName) ({ cls := "NotAtOnce$Token", name := "is", desc := "(Ljava/lang/String;)Z" } : Jvm.MethodName)) ∈ lw_all := lw_g (lw_at lw_m3 99 rfl) rfl
theorem q692 : (Jvm.Cond.code ({ cls := "NotAtOnce$Token", name := "is", desc := "(Ljava/lang/String;)Z" } : Jvm.MethodName) prog_14_method_2_code (2 : Nat) (Option.some Jvm.ClassFile.FieldType.boolean)) ∈ lw_all := lw_g (lw_at lw_m3 100 rfl) rfl
theorem q693 : (Jvm.Cond.methodLink "NotAtOnce$Token" (23 : Nat) ({ cls := "java/lang/String", name := "equals", desc := "(Ljava/lang/Object;)Z" } : Jvm.MethodName)) ∈ lw_all := lw_g (lw_at lw_m3 101 rfl) rfl
theorem q708 : (Jvm.Cond.instanceMethod ({ cls := "NotAtOnce$Token", name := "isName", desc := "()Z" } : Jvm.MethodName)) ∈ lw_all := lw_g (lw_at lw_m3 116 rfl) rfl
theorem q709 : (Jvm.Cond.selects "NotAtOnce$Token" ({ cls := "NotAtOnce$Token", name := "isName", desc := "()Z" } : Jvm.MethodName) ({ cls := "NotAtOnce$Token", name := "isName", desc := "()Z" } : Jvm.MethodName)) ∈ lw_all := lw_g (lw_at lw_m3 117 rfl) rfl
theorem q710 : (Jvm.Cond.code ({ cls := "NotAtOnce$Token", name := "isName", desc := "()Z" } : Jvm.MethodName) prog_14_method_4_code (3 : Nat) (Option.some Jvm.ClassFile.FieldType.boolean)) ∈ lw_all := lw_g (lw_at lw_m3 118 rfl) rfl
theorem q711 : (Jvm.Cond.methodLink "NotAtOnce$Token" (29 : Nat) ({ cls := "java/lang/String", name := "hashCode", desc := "()I" } : Jvm.MethodName)) ∈ lw_all := lw_g (lw_at lw_m3 119 rfl) rfl
theorem q712 : (Jvm.Cond.stringRef "NotAtOnce$Token" (33 : Nat) "law") ∈ lw_tbl := lw_at lw_m3 120 rfl
theorem q713 : (Jvm.Cond.stringRef "NotAtOnce$Token" (35 : Nat) "look") ∈ lw_tbl := lw_at lw_m3 121 rfl
theorem q714 : (Jvm.Cond.stringRef "NotAtOnce$Token" (37 : Nat) "point") ∈ lw_tbl := lw_at lw_m3 122 rfl
theorem q715 : (Jvm.Cond.stringRef "NotAtOnce$Token" (39 : Nat) "set") ∈ lw_tbl := lw_at lw_m3 123 rfl
theorem q716 : (Jvm.Cond.stringRef "NotAtOnce$Token" (41 : Nat) "line") ∈ lw_tbl := lw_at lw_m3 124 rfl
theorem q717 : (Jvm.Cond.stringRef "NotAtOnce$Token" (43 : Nat) "ray") ∈ lw_tbl := lw_at lw_m3 125 rfl
theorem q718 : (Jvm.Cond.stringRef "NotAtOnce$Token" (45 : Nat) "run") ∈ lw_tbl := lw_at lw_m3 126 rfl
theorem q774 : (Jvm.Cond.selects "NotAtOnce$Token" ({ cls := "java/lang/Object", name := "getClass", desc := "()Ljava/lang/Class;" } : Jvm.MethodName) ({ cls := "java/lang/Object", name := "getClass", desc := "()Ljava/lang/Class;" } : Jvm.MethodName)) ∈ lw_all := lw_g (lw_at lw_m3 182 rfl) rfl
theorem q798 : (Jvm.Cond.instanceMethod ({ cls := "NotAtOnce$Token", name := "isSign", desc := "(C)Z" } : Jvm.MethodName)) ∈ lw_all := lw_g (lw_at lw_m3 206 rfl) rfl
theorem q799 : (Jvm.Cond.selects "NotAtOnce$Token" ({ cls := "NotAtOnce$Token", name := "isSign", desc := "(C)Z" } : Jvm.MethodName) ({ cls := "NotAtOnce$Token", name := "isSign", desc := "(C)Z" } : Jvm.MethodName)) ∈ lw_all := lw_g (lw_at lw_m3 207 rfl) rfl
theorem q800 : (Jvm.Cond.code ({ cls := "NotAtOnce$Token", name := "isSign", desc := "(C)Z" } : Jvm.MethodName) prog_14_method_3_code (2 : Nat) (Option.some Jvm.ClassFile.FieldType.boolean)) ∈ lw_all := lw_g (lw_at lw_m3 208 rfl) rfl
theorem q2358 : (Jvm.Cond.castable "NotAtOnce$Token" "java/lang/Object") ∈ lw_tbl := lw_at lw_m10 86 rfl
theorem in_X8 : ∀ w ∈ wsX80, w ∈ lw_all := lw_in wsX80 [368, 370, 372, 374] (by decide +kernel) (by decide +kernel)
/-! NotAtOnce$Asked -/
set_option maxRecDepth 100000
def RX9 : String := "NotAtOnce$Asked"
abbrev cX9_init : ByteArray := prog_2_method_1_code
def yX9_init : MethodName := ⟨RX9, "<init>", "()V"⟩
def dkwX9_init_0 : List UInt8 := [42, 183, 0, 3, 42, 7, 188, 10, 181, 0, 9, 42, 7, 188, 10, 181, 0, 15, 177]
abbrev dktX9_init_0 : List UInt8 := dkwX9_init_0 ++ []
theorem dksX9_init_0 : cX9_init.data.toList.drop 0 = dktX9_init_0 := by decide +kernel
theorem dX9_init_0 : decode cX9_init 0 = .ok (.aload_n 0, 1) := dk_42 (dk_at dksX9_init_0 0 rfl rfl)
theorem dX9_init_1 : decode cX9_init 1 = .ok (.invokespecial 3, 3) := dk_183 0 3 (dk_at dksX9_init_0 1 rfl rfl)
theorem dX9_init_4 : decode cX9_init 4 = .ok (.aload_n 0, 1) := dk_42 (dk_at dksX9_init_0 4 rfl rfl)
theorem dX9_init_5 : decode cX9_init 5 = .ok (.iconst 4, 1) := dk_7 (dk_at dksX9_init_0 5 rfl rfl)
theorem dX9_init_6 : decode cX9_init 6 = .ok (.newarray .int, 2) := dk_188_10 (dk_at dksX9_init_0 6 rfl rfl)
theorem dX9_init_8 : decode cX9_init 8 = .ok (.putfield 9, 3) := dk_181 0 9 (dk_at dksX9_init_0 8 rfl rfl)
theorem dX9_init_11 : decode cX9_init 11 = .ok (.aload_n 0, 1) := dk_42 (dk_at dksX9_init_0 11 rfl rfl)
theorem dX9_init_12 : decode cX9_init 12 = .ok (.iconst 4, 1) := dk_7 (dk_at dksX9_init_0 12 rfl rfl)
theorem dX9_init_13 : decode cX9_init 13 = .ok (.newarray .int, 2) := dk_188_10 (dk_at dksX9_init_0 13 rfl rfl)
theorem dX9_init_15 : decode cX9_init 15 = .ok (.putfield 15, 3) := dk_181 0 15 (dk_at dksX9_init_0 15 rfl rfl)
theorem dX9_init_18 : decode cX9_init 18 = .ok (.return_, 1) := dk_177 (dk_at dksX9_init_0 18 rfl rfl)
abbrev cX9_copy : ByteArray := prog_2_method_10_code
def yX9_copy : MethodName := ⟨RX9, "copy", "(Z)LNotAtOnce$Asked;"⟩
def dkwX9_copy_1 : List UInt8 := [180, 0, 15, 3, 44, 180, 0, 15, 3, 7, 184, 0, 29, 44, 176]
abbrev dktX9_copy_1 : List UInt8 := dkwX9_copy_1 ++ []
def dkwX9_copy_0 : List UInt8 := [42, 182, 0, 25, 77, 42, 180, 0, 9, 3, 44, 180, 0, 9, 3, 7, 184, 0, 29, 27, 153, 0, 17, 42]
abbrev dktX9_copy_0 : List UInt8 := dkwX9_copy_0 ++ dktX9_copy_1
theorem dksX9_copy_0 : cX9_copy.data.toList.drop 0 = dktX9_copy_0 := by decide +kernel
theorem dksX9_copy_1 : cX9_copy.data.toList.drop 24 = dktX9_copy_1 := dk_seg dksX9_copy_0 24 rfl rfl
theorem dX9_copy_0 : decode cX9_copy 0 = .ok (.aload_n 0, 1) := dk_42 (dk_at dksX9_copy_0 0 rfl rfl)
theorem dX9_copy_1 : decode cX9_copy 1 = .ok (.invokevirtual 25, 3) := dk_182 0 25 (dk_at dksX9_copy_0 1 rfl rfl)
theorem dX9_copy_4 : decode cX9_copy 4 = .ok (.astore_n 2, 1) := dk_77 (dk_at dksX9_copy_0 4 rfl rfl)
theorem dX9_copy_5 : decode cX9_copy 5 = .ok (.aload_n 0, 1) := dk_42 (dk_at dksX9_copy_0 5 rfl rfl)
theorem dX9_copy_6 : decode cX9_copy 6 = .ok (.getfield 9, 3) := dk_180 0 9 (dk_at dksX9_copy_0 6 rfl rfl)
theorem dX9_copy_9 : decode cX9_copy 9 = .ok (.iconst 0, 1) := dk_3 (dk_at dksX9_copy_0 9 rfl rfl)
theorem dX9_copy_10 : decode cX9_copy 10 = .ok (.aload_n 2, 1) := dk_44 (dk_at dksX9_copy_0 10 rfl rfl)
theorem dX9_copy_11 : decode cX9_copy 11 = .ok (.getfield 9, 3) := dk_180 0 9 (dk_at dksX9_copy_0 11 rfl rfl)
theorem dX9_copy_14 : decode cX9_copy 14 = .ok (.iconst 0, 1) := dk_3 (dk_at dksX9_copy_0 14 rfl rfl)
theorem dX9_copy_15 : decode cX9_copy 15 = .ok (.iconst 4, 1) := dk_7 (dk_at dksX9_copy_0 15 rfl rfl)
theorem dX9_copy_16 : decode cX9_copy 16 = .ok (.invokestatic 29, 3) := dk_184 0 29 (dk_at dksX9_copy_0 16 rfl rfl)
theorem dX9_copy_19 : decode cX9_copy 19 = .ok (.iload_n 1, 1) := dk_27 (dk_at dksX9_copy_0 19 rfl rfl)
theorem dX9_copy_20 : decode cX9_copy 20 = .ok (.ifCond .eq 17, 3) := dk_153 0 17 (dk_at dksX9_copy_0 20 rfl rfl)
theorem dX9_copy_23 : decode cX9_copy 23 = .ok (.aload_n 0, 1) := dk_42 (dk_at dksX9_copy_0 23 rfl rfl)
theorem dX9_copy_24 : decode cX9_copy 24 = .ok (.getfield 15, 3) := dk_180 0 15 (dk_at dksX9_copy_1 0 rfl rfl)
theorem dX9_copy_27 : decode cX9_copy 27 = .ok (.iconst 0, 1) := dk_3 (dk_at dksX9_copy_1 3 rfl rfl)
theorem dX9_copy_28 : decode cX9_copy 28 = .ok (.aload_n 2, 1) := dk_44 (dk_at dksX9_copy_1 4 rfl rfl)
theorem dX9_copy_29 : decode cX9_copy 29 = .ok (.getfield 15, 3) := dk_180 0 15 (dk_at dksX9_copy_1 5 rfl rfl)
theorem dX9_copy_32 : decode cX9_copy 32 = .ok (.iconst 0, 1) := dk_3 (dk_at dksX9_copy_1 8 rfl rfl)
theorem dX9_copy_33 : decode cX9_copy 33 = .ok (.iconst 4, 1) := dk_7 (dk_at dksX9_copy_1 9 rfl rfl)
theorem dX9_copy_34 : decode cX9_copy 34 = .ok (.invokestatic 29, 3) := dk_184 0 29 (dk_at dksX9_copy_1 10 rfl rfl)
theorem dX9_copy_37 : decode cX9_copy 37 = .ok (.aload_n 2, 1) := dk_44 (dk_at dksX9_copy_1 13 rfl rfl)
theorem dX9_copy_38 : decode cX9_copy 38 = .ok (.areturn, 1) := dk_176 (dk_at dksX9_copy_1 14 rfl rfl)
abbrev cX9_isPossible : ByteArray := prog_2_method_12_code
def yX9_isPossible : MethodName := ⟨RX9, "isPossible", "(I)Z"⟩
def dkwX9_isPossible_0 : List UInt8 := [42, 180, 0, 9, 27, 46, 158, 0, 7, 4, 167, 0, 4, 3, 172]
abbrev dktX9_isPossible_0 : List UInt8 := dkwX9_isPossible_0 ++ []
theorem dksX9_isPossible_0 : cX9_isPossible.data.toList.drop 0 = dktX9_isPossible_0 := by decide +kernel
theorem dX9_isPossible_0 : decode cX9_isPossible 0 = .ok (.aload_n 0, 1) := dk_42 (dk_at dksX9_isPossible_0 0 rfl rfl)
theorem dX9_isPossible_1 : decode cX9_isPossible 1 = .ok (.getfield 9, 3) := dk_180 0 9 (dk_at dksX9_isPossible_0 1 rfl rfl)
theorem dX9_isPossible_4 : decode cX9_isPossible 4 = .ok (.iload_n 1, 1) := dk_27 (dk_at dksX9_isPossible_0 4 rfl rfl)
theorem dX9_isPossible_5 : decode cX9_isPossible 5 = .ok (.iaload, 1) := dk_46 (dk_at dksX9_isPossible_0 5 rfl rfl)
theorem dX9_isPossible_6 : decode cX9_isPossible 6 = .ok (.ifCond .le 7, 3) := dk_158 0 7 (dk_at dksX9_isPossible_0 6 rfl rfl)
theorem dX9_isPossible_9 : decode cX9_isPossible 9 = .ok (.iconst 1, 1) := dk_4 (dk_at dksX9_isPossible_0 9 rfl rfl)
theorem dX9_isPossible_10 : decode cX9_isPossible 10 = .ok (.goto 4, 3) := dk_167 0 4 (dk_at dksX9_isPossible_0 10 rfl rfl)
theorem dX9_isPossible_13 : decode cX9_isPossible 13 = .ok (.iconst 0, 1) := dk_3 (dk_at dksX9_isPossible_0 13 rfl rfl)
theorem dX9_isPossible_14 : decode cX9_isPossible 14 = .ok (.ireturn, 1) := dk_172 (dk_at dksX9_isPossible_0 14 rfl rfl)
abbrev cX9_isOf : ByteArray := prog_2_method_9_code
def yX9_isOf : MethodName := ⟨RX9, "isOf", "(I)Z"⟩
def dkwX9_isOf_0 : List UInt8 := [42, 182, 0, 18, 27, 159, 0, 11, 42, 182, 0, 22, 27, 160, 0, 7, 4, 167, 0, 4, 3, 172]
abbrev dktX9_isOf_0 : List UInt8 := dkwX9_isOf_0 ++ []
theorem dksX9_isOf_0 : cX9_isOf.data.toList.drop 0 = dktX9_isOf_0 := by decide +kernel
theorem dX9_isOf_0 : decode cX9_isOf 0 = .ok (.aload_n 0, 1) := dk_42 (dk_at dksX9_isOf_0 0 rfl rfl)
theorem dX9_isOf_1 : decode cX9_isOf 1 = .ok (.invokevirtual 18, 3) := dk_182 0 18 (dk_at dksX9_isOf_0 1 rfl rfl)
theorem dX9_isOf_4 : decode cX9_isOf 4 = .ok (.iload_n 1, 1) := dk_27 (dk_at dksX9_isOf_0 4 rfl rfl)
theorem dX9_isOf_5 : decode cX9_isOf 5 = .ok (.if_icmp .eq 11, 3) := dk_159 0 11 (dk_at dksX9_isOf_0 5 rfl rfl)
theorem dX9_isOf_8 : decode cX9_isOf 8 = .ok (.aload_n 0, 1) := dk_42 (dk_at dksX9_isOf_0 8 rfl rfl)
theorem dX9_isOf_9 : decode cX9_isOf 9 = .ok (.invokevirtual 22, 3) := dk_182 0 22 (dk_at dksX9_isOf_0 9 rfl rfl)
theorem dX9_isOf_12 : decode cX9_isOf 12 = .ok (.iload_n 1, 1) := dk_27 (dk_at dksX9_isOf_0 12 rfl rfl)
theorem dX9_isOf_13 : decode cX9_isOf 13 = .ok (.if_icmp .ne 7, 3) := dk_160 0 7 (dk_at dksX9_isOf_0 13 rfl rfl)
theorem dX9_isOf_16 : decode cX9_isOf 16 = .ok (.iconst 1, 1) := dk_4 (dk_at dksX9_isOf_0 16 rfl rfl)
theorem dX9_isOf_17 : decode cX9_isOf 17 = .ok (.goto 4, 3) := dk_167 0 4 (dk_at dksX9_isOf_0 17 rfl rfl)
theorem dX9_isOf_20 : decode cX9_isOf 20 = .ok (.iconst 0, 1) := dk_3 (dk_at dksX9_isOf_0 20 rfl rfl)
theorem dX9_isOf_21 : decode cX9_isOf 21 = .ok (.ireturn, 1) := dk_172 (dk_at dksX9_isOf_0 21 rfl rfl)
abbrev cX9_same : ByteArray := prog_2_method_15_code
def yX9_same : MethodName := ⟨RX9, "same", "()I"⟩
theorem dX9_same_0 : decode cX9_same 0 = .ok (.iconst 0, 1) := by decide +kernel
theorem dX9_same_1 : decode cX9_same 1 = .ok (.ireturn, 1) := by decide +kernel
abbrev cX9_looks : ByteArray := prog_2_method_14_code
def yX9_looks : MethodName := ⟨RX9, "looks", "()I"⟩
def dkwX9_looks_0 : List UInt8 := [4, 42, 182, 0, 18, 120, 172]
abbrev dktX9_looks_0 : List UInt8 := dkwX9_looks_0 ++ []
theorem dksX9_looks_0 : cX9_looks.data.toList.drop 0 = dktX9_looks_0 := by decide +kernel
theorem dX9_looks_0 : decode cX9_looks 0 = .ok (.iconst 1, 1) := dk_4 (dk_at dksX9_looks_0 0 rfl rfl)
theorem dX9_looks_1 : decode cX9_looks 1 = .ok (.aload_n 0, 1) := dk_42 (dk_at dksX9_looks_0 1 rfl rfl)
theorem dX9_looks_2 : decode cX9_looks 2 = .ok (.invokevirtual 18, 3) := dk_182 0 18 (dk_at dksX9_looks_0 2 rfl rfl)
theorem dX9_looks_5 : decode cX9_looks 5 = .ok (.ishl, 1) := dk_120 (dk_at dksX9_looks_0 5 rfl rfl)
theorem dX9_looks_6 : decode cX9_looks 6 = .ok (.ireturn, 1) := dk_172 (dk_at dksX9_looks_0 6 rfl rfl)
abbrev cX9_flips : ByteArray := prog_2_method_11_code
def yX9_flips : MethodName := ⟨RX9, "flips", "(I)V"⟩
def dkwX9_flips_2 : List UInt8 := [29, 46, 79, 132, 3, 1, 167, 255, 211, 177]
abbrev dktX9_flips_2 : List UInt8 := dkwX9_flips_2 ++ []
def dkwX9_flips_1 : List UInt8 := [182, 0, 42, 44, 180, 0, 9, 29, 46, 79, 42, 180, 0, 15, 42, 29, 27, 182, 0, 42, 44, 180, 0, 15]
abbrev dktX9_flips_1 : List UInt8 := dkwX9_flips_1 ++ dktX9_flips_2
def dkwX9_flips_0 : List UInt8 := [42, 4, 182, 0, 35, 77, 3, 62, 29, 42, 182, 0, 39, 162, 0, 43, 42, 180, 0, 9, 42, 29, 27]
abbrev dktX9_flips_0 : List UInt8 := dkwX9_flips_0 ++ dktX9_flips_1
theorem dksX9_flips_0 : cX9_flips.data.toList.drop 0 = dktX9_flips_0 := by decide +kernel
theorem dksX9_flips_1 : cX9_flips.data.toList.drop 23 = dktX9_flips_1 := dk_seg dksX9_flips_0 23 rfl rfl
theorem dksX9_flips_2 : cX9_flips.data.toList.drop 47 = dktX9_flips_2 := dk_seg dksX9_flips_1 24 rfl rfl
theorem dX9_flips_0 : decode cX9_flips 0 = .ok (.aload_n 0, 1) := dk_42 (dk_at dksX9_flips_0 0 rfl rfl)
theorem dX9_flips_1 : decode cX9_flips 1 = .ok (.iconst 1, 1) := dk_4 (dk_at dksX9_flips_0 1 rfl rfl)
theorem dX9_flips_2 : decode cX9_flips 2 = .ok (.invokevirtual 35, 3) := dk_182 0 35 (dk_at dksX9_flips_0 2 rfl rfl)
theorem dX9_flips_5 : decode cX9_flips 5 = .ok (.astore_n 2, 1) := dk_77 (dk_at dksX9_flips_0 5 rfl rfl)
theorem dX9_flips_6 : decode cX9_flips 6 = .ok (.iconst 0, 1) := dk_3 (dk_at dksX9_flips_0 6 rfl rfl)
theorem dX9_flips_7 : decode cX9_flips 7 = .ok (.istore_n 3, 1) := dk_62 (dk_at dksX9_flips_0 7 rfl rfl)
theorem dX9_flips_8 : decode cX9_flips 8 = .ok (.iload_n 3, 1) := dk_29 (dk_at dksX9_flips_0 8 rfl rfl)
theorem dX9_flips_9 : decode cX9_flips 9 = .ok (.aload_n 0, 1) := dk_42 (dk_at dksX9_flips_0 9 rfl rfl)
theorem dX9_flips_10 : decode cX9_flips 10 = .ok (.invokevirtual 39, 3) := dk_182 0 39 (dk_at dksX9_flips_0 10 rfl rfl)
theorem dX9_flips_13 : decode cX9_flips 13 = .ok (.if_icmp .ge 43, 3) := dk_162 0 43 (dk_at dksX9_flips_0 13 rfl rfl)
theorem dX9_flips_16 : decode cX9_flips 16 = .ok (.aload_n 0, 1) := dk_42 (dk_at dksX9_flips_0 16 rfl rfl)
theorem dX9_flips_17 : decode cX9_flips 17 = .ok (.getfield 9, 3) := dk_180 0 9 (dk_at dksX9_flips_0 17 rfl rfl)
theorem dX9_flips_20 : decode cX9_flips 20 = .ok (.aload_n 0, 1) := dk_42 (dk_at dksX9_flips_0 20 rfl rfl)
theorem dX9_flips_21 : decode cX9_flips 21 = .ok (.iload_n 3, 1) := dk_29 (dk_at dksX9_flips_0 21 rfl rfl)
theorem dX9_flips_22 : decode cX9_flips 22 = .ok (.iload_n 1, 1) := dk_27 (dk_at dksX9_flips_0 22 rfl rfl)
theorem dX9_flips_23 : decode cX9_flips 23 = .ok (.invokevirtual 42, 3) := dk_182 0 42 (dk_at dksX9_flips_1 0 rfl rfl)
theorem dX9_flips_26 : decode cX9_flips 26 = .ok (.aload_n 2, 1) := dk_44 (dk_at dksX9_flips_1 3 rfl rfl)
theorem dX9_flips_27 : decode cX9_flips 27 = .ok (.getfield 9, 3) := dk_180 0 9 (dk_at dksX9_flips_1 4 rfl rfl)
theorem dX9_flips_30 : decode cX9_flips 30 = .ok (.iload_n 3, 1) := dk_29 (dk_at dksX9_flips_1 7 rfl rfl)
theorem dX9_flips_31 : decode cX9_flips 31 = .ok (.iaload, 1) := dk_46 (dk_at dksX9_flips_1 8 rfl rfl)
theorem dX9_flips_32 : decode cX9_flips 32 = .ok (.iastore, 1) := dk_79 (dk_at dksX9_flips_1 9 rfl rfl)
theorem dX9_flips_33 : decode cX9_flips 33 = .ok (.aload_n 0, 1) := dk_42 (dk_at dksX9_flips_1 10 rfl rfl)
theorem dX9_flips_34 : decode cX9_flips 34 = .ok (.getfield 15, 3) := dk_180 0 15 (dk_at dksX9_flips_1 11 rfl rfl)
theorem dX9_flips_37 : decode cX9_flips 37 = .ok (.aload_n 0, 1) := dk_42 (dk_at dksX9_flips_1 14 rfl rfl)
theorem dX9_flips_38 : decode cX9_flips 38 = .ok (.iload_n 3, 1) := dk_29 (dk_at dksX9_flips_1 15 rfl rfl)
theorem dX9_flips_39 : decode cX9_flips 39 = .ok (.iload_n 1, 1) := dk_27 (dk_at dksX9_flips_1 16 rfl rfl)
theorem dX9_flips_40 : decode cX9_flips 40 = .ok (.invokevirtual 42, 3) := dk_182 0 42 (dk_at dksX9_flips_1 17 rfl rfl)
theorem dX9_flips_43 : decode cX9_flips 43 = .ok (.aload_n 2, 1) := dk_44 (dk_at dksX9_flips_1 20 rfl rfl)
theorem dX9_flips_44 : decode cX9_flips 44 = .ok (.getfield 15, 3) := dk_180 0 15 (dk_at dksX9_flips_1 21 rfl rfl)
theorem dX9_flips_47 : decode cX9_flips 47 = .ok (.iload_n 3, 1) := dk_29 (dk_at dksX9_flips_2 0 rfl rfl)
theorem dX9_flips_48 : decode cX9_flips 48 = .ok (.iaload, 1) := dk_46 (dk_at dksX9_flips_2 1 rfl rfl)
theorem dX9_flips_49 : decode cX9_flips 49 = .ok (.iastore, 1) := dk_79 (dk_at dksX9_flips_2 2 rfl rfl)
theorem dX9_flips_50 : decode cX9_flips 50 = .ok (.iinc 3 1, 3) := dk_132 3 1 (dk_at dksX9_flips_2 3 rfl rfl)
theorem dX9_flips_53 : decode cX9_flips 53 = .ok (.goto (-45), 3) := dk_167 255 211 (dk_at dksX9_flips_2 6 rfl rfl)
theorem dX9_flips_56 : decode cX9_flips 56 = .ok (.return_, 1) := dk_177 (dk_at dksX9_flips_2 9 rfl rfl)
theorem q135 : (Jvm.Cond.initialized "NotAtOnce$Asked") ∈ lw_all := lw_g (lw_at lw_m1 23 rfl) rfl
theorem q827 : (Jvm.Cond.instanceMethod ({ cls := "NotAtOnce$Asked", name := "<init>", desc := "()V" } : Jvm.MethodName)) ∈ lw_all := lw_g (lw_at lw_m3 235 rfl) rfl
theorem q828 : (Jvm.Cond.code ({ cls := "NotAtOnce$Asked", name := "<init>", desc := "()V" } : Jvm.MethodName) prog_2_method_1_code (1 : Nat) (Option.none : Option Jvm.ClassFile.FieldType)) ∈ lw_all := lw_g (lw_at lw_m3 236 rfl) rfl
theorem q829 : (Jvm.Cond.methodLink "NotAtOnce$Asked" (3 : Nat) ({ cls := "java/lang/Object", name := "<init>", desc := "()V" } : Jvm.MethodName)) ∈ lw_all := lw_g (lw_at lw_m3 237 rfl) rfl
theorem q831 : (Jvm.Cond.fieldLink "NotAtOnce$Asked" (9 : Nat) "NotAtOnce$Asked" "times" "[I") ∈ lw_all := lw_g (lw_at lw_m3 239 rfl) rfl
theorem q841 : (Jvm.Cond.fieldLink "NotAtOnce$Asked" (15 : Nat) "NotAtOnce$Asked" "coins" "[I") ∈ lw_all := lw_g (lw_at lw_m4 9 rfl) rfl
theorem q847 : (Jvm.Cond.soleField "NotAtOnce$Asked" "times") ∈ lw_all := lw_g (lw_at lw_m4 15 rfl) rfl
theorem q849 : (Jvm.Cond.soleField "NotAtOnce$Asked" "coins") ∈ lw_all := lw_g (lw_at lw_m4 17 rfl) rfl
theorem q868 : (Jvm.Cond.declares ({ cls := "NotAtOnce$Asked", name := "outcomes", desc := "()I" } : Jvm.MethodName)) ∈ lw_tbl := lw_at lw_m4 36 rfl
theorem q869 : (Jvm.Cond.sameMethod "NotAtOnce$Asked" "NotAtOnce$Asked" "outcomes" "()I") ∈ lw_all := lw_g (lw_at lw_m4 37 rfl) rfl
theorem q953 : (Jvm.Cond.instanceMethod ({ cls := "NotAtOnce$Asked", name := "copy", desc := "(Z)LNotAtOnce$Asked;" } : Jvm.MethodName)) ∈ lw_all := lw_g (lw_at lw_m4 121 rfl) rfl
theorem q954 : (Jvm.Cond.sameMethod "NotAtOnce$Asked" "NotAtOnce$Asked" "copy" "(Z)LNotAtOnce$Asked;") ∈ lw_all := lw_g (lw_at lw_m4 122 rfl) rfl
theorem q957 : (Jvm.Cond.code ({ cls := "NotAtOnce$Asked", name := "copy", desc := "(Z)LNotAtOnce$Asked;" } : Jvm.MethodName) prog_2_method_10_code (3 : Nat) (Option.some (Jvm.ClassFile.FieldType.object "NotAtOnce$Asked"))) ∈ lw_all := lw_g (lw_at lw_m4 125 rfl) rfl
theorem q958 : (Jvm.Cond.methodLink "NotAtOnce$Asked" (25 : Nat) ({ cls := "NotAtOnce$Asked", name := "fresh", desc := "()LNotAtOnce$Asked;" } : Jvm.MethodName)) ∈ lw_all := lw_g (lw_at lw_m4 126 rfl) rfl
theorem q959 : (Jvm.Cond.declares ({ cls := "NotAtOnce$Asked", name := "fresh", desc := "()LNotAtOnce$Asked;" } : Jvm.MethodName)) ∈ lw_tbl := lw_at lw_m4 127 rfl
theorem q960 : (Jvm.Cond.sameMethod "NotAtOnce$Asked" "NotAtOnce$Asked" "fresh" "()LNotAtOnce$Asked;") ∈ lw_all := lw_g (lw_at lw_m4 128 rfl) rfl
theorem q971 : (Jvm.Cond.methodLink "NotAtOnce$Asked" (29 : Nat) ({ cls := "java/lang/System", name := "arraycopy", desc := "(Ljava/lang/Object;ILjava/lang/Object;II)V" } : Jvm.MethodName)) ∈ lw_all := lw_g (lw_at lw_m4 139 rfl) rfl
theorem q1016 : (Jvm.Cond.declares ({ cls := "NotAtOnce$Asked", name := "outcome", desc := "(I)I" } : Jvm.MethodName)) ∈ lw_tbl := lw_at lw_m4 184 rfl
theorem q1017 : (Jvm.Cond.sameMethod "NotAtOnce$Asked" "NotAtOnce$Asked" "outcome" "(I)I") ∈ lw_all := lw_g (lw_at lw_m4 185 rfl) rfl
theorem q1098 : (Jvm.Cond.instanceMethod ({ cls := "NotAtOnce$Asked", name := "isPossible", desc := "(I)Z" } : Jvm.MethodName)) ∈ lw_all := lw_g (lw_at lw_m5 26 rfl) rfl
theorem q1099 : (Jvm.Cond.sameMethod "NotAtOnce$Asked" "NotAtOnce$Asked" "isPossible" "(I)Z") ∈ lw_all := lw_g (lw_at lw_m5 27 rfl) rfl
theorem q1102 : (Jvm.Cond.code ({ cls := "NotAtOnce$Asked", name := "isPossible", desc := "(I)Z" } : Jvm.MethodName) prog_2_method_12_code (2 : Nat) (Option.some Jvm.ClassFile.FieldType.boolean)) ∈ lw_all := lw_g (lw_at lw_m5 30 rfl) rfl
theorem q1137 : (Jvm.Cond.instanceMethod ({ cls := "NotAtOnce$Asked", name := "isOf", desc := "(I)Z" } : Jvm.MethodName)) ∈ lw_all := lw_g (lw_at lw_m5 65 rfl) rfl
theorem q1138 : (Jvm.Cond.sameMethod "NotAtOnce$Asked" "NotAtOnce$Asked" "isOf" "(I)Z") ∈ lw_all := lw_g (lw_at lw_m5 66 rfl) rfl
theorem q1141 : (Jvm.Cond.code ({ cls := "NotAtOnce$Asked", name := "isOf", desc := "(I)Z" } : Jvm.MethodName) prog_2_method_9_code (2 : Nat) (Option.some Jvm.ClassFile.FieldType.boolean)) ∈ lw_all := lw_g (lw_at lw_m5 69 rfl) rfl
theorem q1142 : (Jvm.Cond.methodLink "NotAtOnce$Asked" (18 : Nat) ({ cls := "NotAtOnce$Asked", name := "first", desc := "()I" } : Jvm.MethodName)) ∈ lw_all := lw_g (lw_at lw_m5 70 rfl) rfl
theorem q1143 : (Jvm.Cond.declares ({ cls := "NotAtOnce$Asked", name := "first", desc := "()I" } : Jvm.MethodName)) ∈ lw_tbl := lw_at lw_m5 71 rfl
theorem q1144 : (Jvm.Cond.sameMethod "NotAtOnce$Asked" "NotAtOnce$Asked" "first" "()I") ∈ lw_all := lw_g (lw_at lw_m5 72 rfl) rfl
theorem q1151 : (Jvm.Cond.methodLink "NotAtOnce$Asked" (22 : Nat) ({ cls := "NotAtOnce$Asked", name := "second", desc := "()I" } : Jvm.MethodName)) ∈ lw_all := lw_g (lw_at lw_m5 79 rfl) rfl
theorem q1152 : (Jvm.Cond.declares ({ cls := "NotAtOnce$Asked", name := "second", desc := "()I" } : Jvm.MethodName)) ∈ lw_tbl := lw_at lw_m5 80 rfl
theorem q1153 : (Jvm.Cond.sameMethod "NotAtOnce$Asked" "NotAtOnce$Asked" "second" "()I") ∈ lw_all := lw_g (lw_at lw_m5 81 rfl) rfl
theorem q1161 : (Jvm.Cond.declares ({ cls := "NotAtOnce$Asked", name := "ones", desc := "(I)I" } : Jvm.MethodName)) ∈ lw_tbl := lw_at lw_m5 89 rfl
theorem q1162 : (Jvm.Cond.sameMethod "NotAtOnce$Asked" "NotAtOnce$Asked" "ones" "(I)I") ∈ lw_all := lw_g (lw_at lw_m5 90 rfl) rfl
theorem q1178 : (Jvm.Cond.instanceMethod ({ cls := "NotAtOnce$Asked", name := "same", desc := "()I" } : Jvm.MethodName)) ∈ lw_all := lw_g (lw_at lw_m5 106 rfl) rfl
theorem q1179 : (Jvm.Cond.sameMethod "NotAtOnce$Asked" "NotAtOnce$Asked" "same" "()I") ∈ lw_all := lw_g (lw_at lw_m5 107 rfl) rfl
theorem q1184 : (Jvm.Cond.code ({ cls := "NotAtOnce$Asked", name := "same", desc := "()I" } : Jvm.MethodName) prog_2_method_15_code (1 : Nat) (Option.some Jvm.ClassFile.FieldType.int)) ∈ lw_all := lw_g (lw_at lw_m5 112 rfl) rfl
theorem q1198 : (Jvm.Cond.instanceMethod ({ cls := "NotAtOnce$Asked", name := "looks", desc := "()I" } : Jvm.MethodName)) ∈ lw_all := lw_g (lw_at lw_m5 126 rfl) rfl
theorem q1199 : (Jvm.Cond.sameMethod "NotAtOnce$Asked" "NotAtOnce$Asked" "looks" "()I") ∈ lw_all := lw_g (lw_at lw_m5 127 rfl) rfl
theorem q1204 : (Jvm.Cond.code ({ cls := "NotAtOnce$Asked", name := "looks", desc := "()I" } : Jvm.MethodName) prog_2_method_14_code (1 : Nat) (Option.some Jvm.ClassFile.FieldType.int)) ∈ lw_all := lw_g (lw_at lw_m5 132 rfl) rfl
theorem q1524 : (Jvm.Cond.instanceMethod ({ cls := "NotAtOnce$Asked", name := "flips", desc := "(I)V" } : Jvm.MethodName)) ∈ lw_all := lw_g (lw_at lw_m6 212 rfl) rfl
theorem q1525 : (Jvm.Cond.sameMethod "NotAtOnce$Asked" "NotAtOnce$Asked" "flips" "(I)V") ∈ lw_all := lw_g (lw_at lw_m6 213 rfl) rfl
theorem q1528 : (Jvm.Cond.code ({ cls := "NotAtOnce$Asked", name := "flips", desc := "(I)V" } : Jvm.MethodName) prog_2_method_11_code (4 : Nat) (Option.none : Option Jvm.ClassFile.FieldType)) ∈ lw_all := lw_g (lw_at lw_m6 216 rfl) rfl
theorem q1529 : (Jvm.Cond.methodLink "NotAtOnce$Asked" (35 : Nat) ({ cls := "NotAtOnce$Asked", name := "copy", desc := "(Z)LNotAtOnce$Asked;" } : Jvm.MethodName)) ∈ lw_all := lw_g (lw_at lw_m6 217 rfl) rfl
theorem q1530 : (Jvm.Cond.methodLink "NotAtOnce$Asked" (39 : Nat) ({ cls := "NotAtOnce$Asked", name := "outcomes", desc := "()I" } : Jvm.MethodName)) ∈ lw_all := lw_g (lw_at lw_m6 218 rfl) rfl
theorem q1531 : (Jvm.Cond.methodLink "NotAtOnce$Asked" (42 : Nat) ({ cls := "NotAtOnce$Asked", name := "flipped", desc := "(II)I" } : Jvm.MethodName)) ∈ lw_all := lw_g (lw_at lw_m6 219 rfl) rfl
theorem q1532 : (Jvm.Cond.declares ({ cls := "NotAtOnce$Asked", name := "flipped", desc := "(II)I" } : Jvm.MethodName)) ∈ lw_tbl := lw_at lw_m6 220 rfl
theorem q1533 : (Jvm.Cond.sameMethod "NotAtOnce$Asked" "NotAtOnce$Asked" "flipped" "(II)I") ∈ lw_all := lw_g (lw_at lw_m6 221 rfl) rfl
theorem q1557 : (Jvm.Cond.declares ({ cls := "NotAtOnce$Asked", name := "without", desc := "(I)LNotAtOnce$Asked;" } : Jvm.MethodName)) ∈ lw_tbl := lw_at lw_m7 5 rfl
theorem q1558 : (Jvm.Cond.sameMethod "NotAtOnce$Asked" "NotAtOnce$Asked" "without" "(I)LNotAtOnce$Asked;") ∈ lw_all := lw_g (lw_at lw_m7 6 rfl) rfl
/-! NotAtOnce$One -/
set_option maxRecDepth 100000
def RX10 : String := "NotAtOnce$One"
def TX10 : u_T := fun k => match k with
  | 0 => ("NotAtOnce$Asked", "times", "[I", true)
  | 1 => ("NotAtOnce$Asked", "coins", "[I", true)
  | _ => ("NotAtOnce$One", "look", "I", true)
def tyX10 : Nat → FieldType := fun k => match k with
  | 0 => .array .int
  | 1 => .array .int
  | _ => .int
abbrev wsX100 : List Cond := u_ws RX10 TX10 3
theorem nmX10 : ∀ a, a < 3 → ∀ b, b < 3 → a ≠ b → (TX10 a).2.1 ≠ (TX10 b).2.1 := by decide +kernel
theorem tyX10_ok : ∀ k, k < 3 → parseFieldDescriptor (TX10 k).2.2.1 = some (tyX10 k) := by decide +kernel
abbrev cX10_init : ByteArray := prog_7_method_1_code
def yX10_init : MethodName := ⟨RX10, "<init>", "(I)V"⟩
def dkwX10_init_0 : List UInt8 := [42, 183, 0, 3, 42, 27, 181, 0, 9, 177]
abbrev dktX10_init_0 : List UInt8 := dkwX10_init_0 ++ []
theorem dksX10_init_0 : cX10_init.data.toList.drop 0 = dktX10_init_0 := by decide +kernel
theorem dX10_init_0 : decode cX10_init 0 = .ok (.aload_n 0, 1) := dk_42 (dk_at dksX10_init_0 0 rfl rfl)
theorem dX10_init_1 : decode cX10_init 1 = .ok (.invokespecial 3, 3) := dk_183 0 3 (dk_at dksX10_init_0 1 rfl rfl)
theorem dX10_init_4 : decode cX10_init 4 = .ok (.aload_n 0, 1) := dk_42 (dk_at dksX10_init_0 4 rfl rfl)
theorem dX10_init_5 : decode cX10_init 5 = .ok (.iload_n 1, 1) := dk_27 (dk_at dksX10_init_0 5 rfl rfl)
theorem dX10_init_6 : decode cX10_init 6 = .ok (.putfield 9, 3) := dk_181 0 9 (dk_at dksX10_init_0 6 rfl rfl)
theorem dX10_init_9 : decode cX10_init 9 = .ok (.return_, 1) := dk_177 (dk_at dksX10_init_0 9 rfl rfl)
abbrev cX10_outcomes : ByteArray := prog_7_method_2_code
def yX10_outcomes : MethodName := ⟨RX10, "outcomes", "()I"⟩
theorem dX10_outcomes_0 : decode cX10_outcomes 0 = .ok (.iconst 2, 1) := by decide +kernel
theorem dX10_outcomes_1 : decode cX10_outcomes 1 = .ok (.ireturn, 1) := by decide +kernel
abbrev cX10_fresh : ByteArray := prog_7_method_6_code
def yX10_fresh : MethodName := ⟨RX10, "fresh", "()LNotAtOnce$Asked;"⟩
def dkwX10_fresh_0 : List UInt8 := [187, 0, 10, 89, 42, 180, 0, 9, 183, 0, 15, 176]
abbrev dktX10_fresh_0 : List UInt8 := dkwX10_fresh_0 ++ []
theorem dksX10_fresh_0 : cX10_fresh.data.toList.drop 0 = dktX10_fresh_0 := by decide +kernel
theorem dX10_fresh_0 : decode cX10_fresh 0 = .ok (.new 10, 3) := dk_187 0 10 (dk_at dksX10_fresh_0 0 rfl rfl)
theorem dX10_fresh_3 : decode cX10_fresh 3 = .ok (.dup, 1) := dk_89 (dk_at dksX10_fresh_0 3 rfl rfl)
theorem dX10_fresh_4 : decode cX10_fresh 4 = .ok (.aload_n 0, 1) := dk_42 (dk_at dksX10_fresh_0 4 rfl rfl)
theorem dX10_fresh_5 : decode cX10_fresh 5 = .ok (.getfield 9, 3) := dk_180 0 9 (dk_at dksX10_fresh_0 5 rfl rfl)
theorem dX10_fresh_8 : decode cX10_fresh 8 = .ok (.invokespecial 15, 3) := dk_183 0 15 (dk_at dksX10_fresh_0 8 rfl rfl)
theorem dX10_fresh_11 : decode cX10_fresh 11 = .ok (.areturn, 1) := dk_176 (dk_at dksX10_fresh_0 11 rfl rfl)
abbrev cX10_outcome : ByteArray := prog_7_method_5_code
def yX10_outcome : MethodName := ⟨RX10, "outcome", "(I)I"⟩
def dkwX10_outcome_0 : List UInt8 := [27, 42, 180, 0, 9, 122, 4, 126, 172]
abbrev dktX10_outcome_0 : List UInt8 := dkwX10_outcome_0 ++ []
theorem dksX10_outcome_0 : cX10_outcome.data.toList.drop 0 = dktX10_outcome_0 := by decide +kernel
theorem dX10_outcome_0 : decode cX10_outcome 0 = .ok (.iload_n 1, 1) := dk_27 (dk_at dksX10_outcome_0 0 rfl rfl)
theorem dX10_outcome_1 : decode cX10_outcome 1 = .ok (.aload_n 0, 1) := dk_42 (dk_at dksX10_outcome_0 1 rfl rfl)
theorem dX10_outcome_2 : decode cX10_outcome 2 = .ok (.getfield 9, 3) := dk_180 0 9 (dk_at dksX10_outcome_0 2 rfl rfl)
theorem dX10_outcome_5 : decode cX10_outcome 5 = .ok (.ishr, 1) := dk_122 (dk_at dksX10_outcome_0 5 rfl rfl)
theorem dX10_outcome_6 : decode cX10_outcome 6 = .ok (.iconst 1, 1) := dk_4 (dk_at dksX10_outcome_0 6 rfl rfl)
theorem dX10_outcome_7 : decode cX10_outcome 7 = .ok (.iand, 1) := dk_126 (dk_at dksX10_outcome_0 7 rfl rfl)
theorem dX10_outcome_8 : decode cX10_outcome 8 = .ok (.ireturn, 1) := dk_172 (dk_at dksX10_outcome_0 8 rfl rfl)
abbrev cX10_first : ByteArray := prog_7_method_3_code
def yX10_first : MethodName := ⟨RX10, "first", "()I"⟩
theorem dX10_first_0 : decode cX10_first 0 = .ok (.aload_n 0, 1) := by decide +kernel
theorem dX10_first_1 : decode cX10_first 1 = .ok (.getfield 9, 3) := by decide +kernel
theorem dX10_first_4 : decode cX10_first 4 = .ok (.ireturn, 1) := by decide +kernel
abbrev cX10_second : ByteArray := prog_7_method_4_code
def yX10_second : MethodName := ⟨RX10, "second", "()I"⟩
theorem dX10_second_0 : decode cX10_second 0 = .ok (.bipush (-2), 2) := by decide +kernel
theorem dX10_second_2 : decode cX10_second 2 = .ok (.ireturn, 1) := by decide +kernel
abbrev cX10_ones : ByteArray := prog_7_method_9_code
def yX10_ones : MethodName := ⟨RX10, "ones", "(I)I"⟩
def dkwX10_ones_0 : List UInt8 := [42, 180, 0, 18, 4, 46, 172]
abbrev dktX10_ones_0 : List UInt8 := dkwX10_ones_0 ++ []
theorem dksX10_ones_0 : cX10_ones.data.toList.drop 0 = dktX10_ones_0 := by decide +kernel
theorem dX10_ones_0 : decode cX10_ones 0 = .ok (.aload_n 0, 1) := dk_42 (dk_at dksX10_ones_0 0 rfl rfl)
theorem dX10_ones_1 : decode cX10_ones 1 = .ok (.getfield 18, 3) := dk_180 0 18 (dk_at dksX10_ones_0 1 rfl rfl)
theorem dX10_ones_4 : decode cX10_ones 4 = .ok (.iconst 1, 1) := dk_4 (dk_at dksX10_ones_0 4 rfl rfl)
theorem dX10_ones_5 : decode cX10_ones 5 = .ok (.iaload, 1) := dk_46 (dk_at dksX10_ones_0 5 rfl rfl)
theorem dX10_ones_6 : decode cX10_ones 6 = .ok (.ireturn, 1) := dk_172 (dk_at dksX10_ones_0 6 rfl rfl)
abbrev cX10_flipped : ByteArray := prog_7_method_8_code
def yX10_flipped : MethodName := ⟨RX10, "flipped", "(II)I"⟩
def dkwX10_flipped_0 : List UInt8 := [4, 27, 100, 172]
abbrev dktX10_flipped_0 : List UInt8 := dkwX10_flipped_0 ++ []
theorem dksX10_flipped_0 : cX10_flipped.data.toList.drop 0 = dktX10_flipped_0 := by decide +kernel
theorem dX10_flipped_0 : decode cX10_flipped 0 = .ok (.iconst 1, 1) := dk_4 (dk_at dksX10_flipped_0 0 rfl rfl)
theorem dX10_flipped_1 : decode cX10_flipped 1 = .ok (.iload_n 1, 1) := dk_27 (dk_at dksX10_flipped_0 1 rfl rfl)
theorem dX10_flipped_2 : decode cX10_flipped 2 = .ok (.isub, 1) := dk_100 (dk_at dksX10_flipped_0 2 rfl rfl)
theorem dX10_flipped_3 : decode cX10_flipped 3 = .ok (.ireturn, 1) := dk_172 (dk_at dksX10_flipped_0 3 rfl rfl)
abbrev cX10_without : ByteArray := prog_7_method_7_code
def yX10_without : MethodName := ⟨RX10, "without", "(I)LNotAtOnce$Asked;"⟩
theorem dX10_without_0 : decode cX10_without 0 = .ok (.aconst_null, 1) := by decide +kernel
theorem dX10_without_1 : decode cX10_without 1 = .ok (.areturn, 1) := by decide +kernel
theorem q136 : (Jvm.Cond.initialized "NotAtOnce$One") ∈ lw_all := lw_g (lw_at lw_m1 24 rfl) rfl
theorem q767 : (Jvm.Cond.selects "NotAtOnce$One" ({ cls := "java/lang/Object", name := "getClass", desc := "()Ljava/lang/Class;" } : Jvm.MethodName) ({ cls := "java/lang/Object", name := "getClass", desc := "()Ljava/lang/Class;" } : Jvm.MethodName)) ∈ lw_all := lw_g (lw_at lw_m3 175 rfl) rfl
theorem q822 : (Jvm.Cond.instantiable "NotAtOnce$One" (3 : Nat)) ∈ lw_all := lw_g (lw_at lw_m3 230 rfl) rfl
theorem q824 : (Jvm.Cond.instanceMethod ({ cls := "NotAtOnce$One", name := "<init>", desc := "(I)V" } : Jvm.MethodName)) ∈ lw_all := lw_g (lw_at lw_m3 232 rfl) rfl
theorem q825 : (Jvm.Cond.code ({ cls := "NotAtOnce$One", name := "<init>", desc := "(I)V" } : Jvm.MethodName) prog_7_method_1_code (2 : Nat) (Option.none : Option Jvm.ClassFile.FieldType)) ∈ lw_all := lw_g (lw_at lw_m3 233 rfl) rfl
theorem q826 : (Jvm.Cond.methodLinkNest "NotAtOnce$One" (3 : Nat) ({ cls := "NotAtOnce$Asked", name := "<init>", desc := "()V" } : Jvm.MethodName) "NotAtOnce") ∈ lw_tbl := lw_at lw_m3 234 rfl
theorem q830 : (Jvm.Cond.fieldLink "NotAtOnce$One" (9 : Nat) "NotAtOnce$One" "look" "I") ∈ lw_all := lw_g (lw_at lw_m3 238 rfl) rfl
theorem q834 : (Jvm.Cond.sameField "NotAtOnce$One" "NotAtOnce$Asked" "times" "[I") ∈ lw_all := lw_g (lw_at lw_m4 2 rfl) rfl
theorem q837 : (Jvm.Cond.fieldLink "NotAtOnce$One" (18 : Nat) "NotAtOnce$One" "times" "[I") ∈ lw_all := lw_g (lw_at lw_m4 5 rfl) rfl
theorem q844 : (Jvm.Cond.laysFinal "NotAtOnce$One" "NotAtOnce$One" "look" "I") ∈ lw_all := lw_g (lw_at lw_m4 12 rfl) rfl
theorem q845 : (Jvm.Cond.soleField "NotAtOnce$One" "look") ∈ lw_all := lw_g (lw_at lw_m4 13 rfl) rfl
theorem q846 : (Jvm.Cond.laysFinal "NotAtOnce$One" "NotAtOnce$Asked" "times" "[I") ∈ lw_all := lw_g (lw_at lw_m4 14 rfl) rfl
theorem q848 : (Jvm.Cond.laysFinal "NotAtOnce$One" "NotAtOnce$Asked" "coins" "[I") ∈ lw_all := lw_g (lw_at lw_m4 16 rfl) rfl
theorem q850 : (Jvm.Cond.superclass "NotAtOnce$One" "NotAtOnce$Asked") ∈ lw_all := lw_g (lw_at lw_m4 18 rfl) rfl
theorem q870 : (Jvm.Cond.selects "NotAtOnce$One" ({ cls := "NotAtOnce$Asked", name := "outcomes", desc := "()I" } : Jvm.MethodName) ({ cls := "NotAtOnce$One", name := "outcomes", desc := "()I" } : Jvm.MethodName)) ∈ lw_all := lw_g (lw_at lw_m4 38 rfl) rfl
theorem q871 : (Jvm.Cond.instanceMethod ({ cls := "NotAtOnce$One", name := "outcomes", desc := "()I" } : Jvm.MethodName)) ∈ lw_all := lw_g (lw_at lw_m4 39 rfl) rfl
theorem q872 : (Jvm.Cond.code ({ cls := "NotAtOnce$One", name := "outcomes", desc := "()I" } : Jvm.MethodName) prog_7_method_2_code (1 : Nat) (Option.some Jvm.ClassFile.FieldType.int)) ∈ lw_all := lw_g (lw_at lw_m4 40 rfl) rfl
theorem q955 : (Jvm.Cond.selects "NotAtOnce$One" ({ cls := "NotAtOnce$Asked", name := "copy", desc := "(Z)LNotAtOnce$Asked;" } : Jvm.MethodName) ({ cls := "NotAtOnce$Asked", name := "copy", desc := "(Z)LNotAtOnce$Asked;" } : Jvm.MethodName)) ∈ lw_all := lw_g (lw_at lw_m4 123 rfl) rfl
theorem q961 : (Jvm.Cond.selects "NotAtOnce$One" ({ cls := "NotAtOnce$Asked", name := "fresh", desc := "()LNotAtOnce$Asked;" } : Jvm.MethodName) ({ cls := "NotAtOnce$One", name := "fresh", desc := "()LNotAtOnce$Asked;" } : Jvm.MethodName)) ∈ lw_all := lw_g (lw_at lw_m4 129 rfl) rfl
theorem q962 : (Jvm.Cond.instanceMethod ({ cls := "NotAtOnce$One", name := "fresh", desc := "()LNotAtOnce$Asked;" } : Jvm.MethodName)) ∈ lw_all := lw_g (lw_at lw_m4 130 rfl) rfl
theorem q963 : (Jvm.Cond.code ({ cls := "NotAtOnce$One", name := "fresh", desc := "()LNotAtOnce$Asked;" } : Jvm.MethodName) prog_7_method_6_code (1 : Nat) (Option.some (Jvm.ClassFile.FieldType.object "NotAtOnce$Asked"))) ∈ lw_all := lw_g (lw_at lw_m4 131 rfl) rfl
theorem q964 : (Jvm.Cond.classLink "NotAtOnce$One" (10 : Nat) "NotAtOnce$One") ∈ lw_all := lw_g (lw_at lw_m4 132 rfl) rfl
theorem q965 : (Jvm.Cond.methodLink "NotAtOnce$One" (15 : Nat) ({ cls := "NotAtOnce$One", name := "<init>", desc := "(I)V" } : Jvm.MethodName)) ∈ lw_all := lw_g (lw_at lw_m4 133 rfl) rfl
theorem q1018 : (Jvm.Cond.selects "NotAtOnce$One" ({ cls := "NotAtOnce$Asked", name := "outcome", desc := "(I)I" } : Jvm.MethodName) ({ cls := "NotAtOnce$One", name := "outcome", desc := "(I)I" } : Jvm.MethodName)) ∈ lw_all := lw_g (lw_at lw_m4 186 rfl) rfl
theorem q1019 : (Jvm.Cond.instanceMethod ({ cls := "NotAtOnce$One", name := "outcome", desc := "(I)I" } : Jvm.MethodName)) ∈ lw_all := lw_g (lw_at lw_m4 187 rfl) rfl
theorem q1020 : (Jvm.Cond.code ({ cls := "NotAtOnce$One", name := "outcome", desc := "(I)I" } : Jvm.MethodName) prog_7_method_5_code (2 : Nat) (Option.some Jvm.ClassFile.FieldType.int)) ∈ lw_all := lw_g (lw_at lw_m4 188 rfl) rfl
theorem q1100 : (Jvm.Cond.selects "NotAtOnce$One" ({ cls := "NotAtOnce$Asked", name := "isPossible", desc := "(I)Z" } : Jvm.MethodName) ({ cls := "NotAtOnce$Asked", name := "isPossible", desc := "(I)Z" } : Jvm.MethodName)) ∈ lw_all := lw_g (lw_at lw_m5 28 rfl) rfl
theorem q1139 : (Jvm.Cond.selects "NotAtOnce$One" ({ cls := "NotAtOnce$Asked", name := "isOf", desc := "(I)Z" } : Jvm.MethodName) ({ cls := "NotAtOnce$Asked", name := "isOf", desc := "(I)Z" } : Jvm.MethodName)) ∈ lw_all := lw_g (lw_at lw_m5 67 rfl) rfl
theorem q1145 : (Jvm.Cond.selects "NotAtOnce$One" ({ cls := "NotAtOnce$Asked", name := "first", desc := "()I" } : Jvm.MethodName) ({ cls := "NotAtOnce$One", name := "first", desc := "()I" } : Jvm.MethodName)) ∈ lw_all := lw_g (lw_at lw_m5 73 rfl) rfl
theorem q1146 : (Jvm.Cond.instanceMethod ({ cls := "NotAtOnce$One", name := "first", desc := "()I" } : Jvm.MethodName)) ∈ lw_all := lw_g (lw_at lw_m5 74 rfl) rfl
theorem q1147 : (Jvm.Cond.code ({ cls := "NotAtOnce$One", name := "first", desc := "()I" } : Jvm.MethodName) prog_7_method_3_code (1 : Nat) (Option.some Jvm.ClassFile.FieldType.int)) ∈ lw_all := lw_g (lw_at lw_m5 75 rfl) rfl
theorem q1154 : (Jvm.Cond.selects "NotAtOnce$One" ({ cls := "NotAtOnce$Asked", name := "second", desc := "()I" } : Jvm.MethodName) ({ cls := "NotAtOnce$One", name := "second", desc := "()I" } : Jvm.MethodName)) ∈ lw_all := lw_g (lw_at lw_m5 82 rfl) rfl
theorem q1155 : (Jvm.Cond.instanceMethod ({ cls := "NotAtOnce$One", name := "second", desc := "()I" } : Jvm.MethodName)) ∈ lw_all := lw_g (lw_at lw_m5 83 rfl) rfl
theorem q1156 : (Jvm.Cond.code ({ cls := "NotAtOnce$One", name := "second", desc := "()I" } : Jvm.MethodName) prog_7_method_4_code (1 : Nat) (Option.some Jvm.ClassFile.FieldType.int)) ∈ lw_all := lw_g (lw_at lw_m5 84 rfl) rfl
theorem q1163 : (Jvm.Cond.selects "NotAtOnce$One" ({ cls := "NotAtOnce$Asked", name := "ones", desc := "(I)I" } : Jvm.MethodName) ({ cls := "NotAtOnce$One", name := "ones", desc := "(I)I" } : Jvm.MethodName)) ∈ lw_all := lw_g (lw_at lw_m5 91 rfl) rfl
theorem q1164 : (Jvm.Cond.instanceMethod ({ cls := "NotAtOnce$One", name := "ones", desc := "(I)I" } : Jvm.MethodName)) ∈ lw_all := lw_g (lw_at lw_m5 92 rfl) rfl
theorem q1165 : (Jvm.Cond.code ({ cls := "NotAtOnce$One", name := "ones", desc := "(I)I" } : Jvm.MethodName) prog_7_method_9_code (2 : Nat) (Option.some Jvm.ClassFile.FieldType.int)) ∈ lw_all := lw_g (lw_at lw_m5 93 rfl) rfl
theorem q1180 : (Jvm.Cond.selects "NotAtOnce$One" ({ cls := "NotAtOnce$Asked", name := "same", desc := "()I" } : Jvm.MethodName) ({ cls := "NotAtOnce$Asked", name := "same", desc := "()I" } : Jvm.MethodName)) ∈ lw_all := lw_g (lw_at lw_m5 108 rfl) rfl
theorem q1200 : (Jvm.Cond.selects "NotAtOnce$One" ({ cls := "NotAtOnce$Asked", name := "looks", desc := "()I" } : Jvm.MethodName) ({ cls := "NotAtOnce$Asked", name := "looks", desc := "()I" } : Jvm.MethodName)) ∈ lw_all := lw_g (lw_at lw_m5 128 rfl) rfl
theorem q1526 : (Jvm.Cond.selects "NotAtOnce$One" ({ cls := "NotAtOnce$Asked", name := "flips", desc := "(I)V" } : Jvm.MethodName) ({ cls := "NotAtOnce$Asked", name := "flips", desc := "(I)V" } : Jvm.MethodName)) ∈ lw_all := lw_g (lw_at lw_m6 214 rfl) rfl
theorem q1534 : (Jvm.Cond.selects "NotAtOnce$One" ({ cls := "NotAtOnce$Asked", name := "flipped", desc := "(II)I" } : Jvm.MethodName) ({ cls := "NotAtOnce$One", name := "flipped", desc := "(II)I" } : Jvm.MethodName)) ∈ lw_all := lw_g (lw_at lw_m6 222 rfl) rfl
theorem q1535 : (Jvm.Cond.instanceMethod ({ cls := "NotAtOnce$One", name := "flipped", desc := "(II)I" } : Jvm.MethodName)) ∈ lw_all := lw_g (lw_at lw_m6 223 rfl) rfl
theorem q1536 : (Jvm.Cond.code ({ cls := "NotAtOnce$One", name := "flipped", desc := "(II)I" } : Jvm.MethodName) prog_7_method_8_code (3 : Nat) (Option.some Jvm.ClassFile.FieldType.int)) ∈ lw_all := lw_g (lw_at lw_m6 224 rfl) rfl
theorem q1559 : (Jvm.Cond.selects "NotAtOnce$One" ({ cls := "NotAtOnce$Asked", name := "without", desc := "(I)LNotAtOnce$Asked;" } : Jvm.MethodName) ({ cls := "NotAtOnce$One", name := "without", desc := "(I)LNotAtOnce$Asked;" } : Jvm.MethodName)) ∈ lw_all := lw_g (lw_at lw_m7 7 rfl) rfl
theorem q1560 : (Jvm.Cond.instanceMethod ({ cls := "NotAtOnce$One", name := "without", desc := "(I)LNotAtOnce$Asked;" } : Jvm.MethodName)) ∈ lw_all := lw_g (lw_at lw_m7 8 rfl) rfl
theorem q1561 : (Jvm.Cond.code ({ cls := "NotAtOnce$One", name := "without", desc := "(I)LNotAtOnce$Asked;" } : Jvm.MethodName) prog_7_method_7_code (2 : Nat) (Option.some (Jvm.ClassFile.FieldType.object "NotAtOnce$Asked"))) ∈ lw_all := lw_g (lw_at lw_m7 9 rfl) rfl
theorem q2348 : (Jvm.Cond.castable "NotAtOnce$One" "NotAtOnce$Asked") ∈ lw_tbl := lw_at lw_m10 76 rfl
theorem q2362 : (Jvm.Cond.castable "NotAtOnce$One" "java/lang/Object") ∈ lw_tbl := lw_at lw_m10 90 rfl
theorem in_X10 : ∀ w ∈ wsX100, w ∈ lw_all := lw_in wsX100 [846, 848, 844] (by decide +kernel) (by decide +kernel)
/-! NotAtOnce$Two -/
set_option maxRecDepth 100000
def RX11 : String := "NotAtOnce$Two"
def TX11 : u_T := fun k => match k with
  | 0 => ("NotAtOnce$Asked", "times", "[I", true)
  | 1 => ("NotAtOnce$Asked", "coins", "[I", true)
  | 2 => ("NotAtOnce$Two", "a", "I", true)
  | _ => ("NotAtOnce$Two", "b", "I", true)
def tyX11 : Nat → FieldType := fun k => match k with
  | 0 => .array .int
  | 1 => .array .int
  | 2 => .int
  | _ => .int
abbrev wsX110 : List Cond := u_ws RX11 TX11 4
theorem nmX11 : ∀ a, a < 4 → ∀ b, b < 4 → a ≠ b → (TX11 a).2.1 ≠ (TX11 b).2.1 := by decide +kernel
theorem tyX11_ok : ∀ k, k < 4 → parseFieldDescriptor (TX11 k).2.2.1 = some (tyX11 k) := by decide +kernel
abbrev cX11_init : ByteArray := prog_16_method_1_code
def yX11_init : MethodName := ⟨RX11, "<init>", "(II)V"⟩
def dkwX11_init_0 : List UInt8 := [42, 183, 0, 3, 42, 27, 181, 0, 9, 42, 28, 181, 0, 15, 177]
abbrev dktX11_init_0 : List UInt8 := dkwX11_init_0 ++ []
theorem dksX11_init_0 : cX11_init.data.toList.drop 0 = dktX11_init_0 := by decide +kernel
theorem dX11_init_0 : decode cX11_init 0 = .ok (.aload_n 0, 1) := dk_42 (dk_at dksX11_init_0 0 rfl rfl)
theorem dX11_init_1 : decode cX11_init 1 = .ok (.invokespecial 3, 3) := dk_183 0 3 (dk_at dksX11_init_0 1 rfl rfl)
theorem dX11_init_4 : decode cX11_init 4 = .ok (.aload_n 0, 1) := dk_42 (dk_at dksX11_init_0 4 rfl rfl)
theorem dX11_init_5 : decode cX11_init 5 = .ok (.iload_n 1, 1) := dk_27 (dk_at dksX11_init_0 5 rfl rfl)
theorem dX11_init_6 : decode cX11_init 6 = .ok (.putfield 9, 3) := dk_181 0 9 (dk_at dksX11_init_0 6 rfl rfl)
theorem dX11_init_9 : decode cX11_init 9 = .ok (.aload_n 0, 1) := dk_42 (dk_at dksX11_init_0 9 rfl rfl)
theorem dX11_init_10 : decode cX11_init 10 = .ok (.iload_n 2, 1) := dk_28 (dk_at dksX11_init_0 10 rfl rfl)
theorem dX11_init_11 : decode cX11_init 11 = .ok (.putfield 15, 3) := dk_181 0 15 (dk_at dksX11_init_0 11 rfl rfl)
theorem dX11_init_14 : decode cX11_init 14 = .ok (.return_, 1) := dk_177 (dk_at dksX11_init_0 14 rfl rfl)
abbrev cX11_outcomes : ByteArray := prog_16_method_2_code
def yX11_outcomes : MethodName := ⟨RX11, "outcomes", "()I"⟩
theorem dX11_outcomes_0 : decode cX11_outcomes 0 = .ok (.iconst 4, 1) := by decide +kernel
theorem dX11_outcomes_1 : decode cX11_outcomes 1 = .ok (.ireturn, 1) := by decide +kernel
abbrev cX11_fresh : ByteArray := prog_16_method_6_code
def yX11_fresh : MethodName := ⟨RX11, "fresh", "()LNotAtOnce$Asked;"⟩
def dkwX11_fresh_0 : List UInt8 := [187, 0, 10, 89, 42, 180, 0, 9, 42, 180, 0, 15, 183, 0, 18, 176]
abbrev dktX11_fresh_0 : List UInt8 := dkwX11_fresh_0 ++ []
theorem dksX11_fresh_0 : cX11_fresh.data.toList.drop 0 = dktX11_fresh_0 := by decide +kernel
theorem dX11_fresh_0 : decode cX11_fresh 0 = .ok (.new 10, 3) := dk_187 0 10 (dk_at dksX11_fresh_0 0 rfl rfl)
theorem dX11_fresh_3 : decode cX11_fresh 3 = .ok (.dup, 1) := dk_89 (dk_at dksX11_fresh_0 3 rfl rfl)
theorem dX11_fresh_4 : decode cX11_fresh 4 = .ok (.aload_n 0, 1) := dk_42 (dk_at dksX11_fresh_0 4 rfl rfl)
theorem dX11_fresh_5 : decode cX11_fresh 5 = .ok (.getfield 9, 3) := dk_180 0 9 (dk_at dksX11_fresh_0 5 rfl rfl)
theorem dX11_fresh_8 : decode cX11_fresh 8 = .ok (.aload_n 0, 1) := dk_42 (dk_at dksX11_fresh_0 8 rfl rfl)
theorem dX11_fresh_9 : decode cX11_fresh 9 = .ok (.getfield 15, 3) := dk_180 0 15 (dk_at dksX11_fresh_0 9 rfl rfl)
theorem dX11_fresh_12 : decode cX11_fresh 12 = .ok (.invokespecial 18, 3) := dk_183 0 18 (dk_at dksX11_fresh_0 12 rfl rfl)
theorem dX11_fresh_15 : decode cX11_fresh 15 = .ok (.areturn, 1) := dk_176 (dk_at dksX11_fresh_0 15 rfl rfl)
abbrev cX11_outcome : ByteArray := prog_16_method_5_code
def yX11_outcome : MethodName := ⟨RX11, "outcome", "(I)I"⟩
def dkwX11_outcome_0 : List UInt8 := [5, 27, 42, 180, 0, 9, 122, 4, 126, 104, 27, 42, 180, 0, 15, 122, 4, 126, 96, 172]
abbrev dktX11_outcome_0 : List UInt8 := dkwX11_outcome_0 ++ []
theorem dksX11_outcome_0 : cX11_outcome.data.toList.drop 0 = dktX11_outcome_0 := by decide +kernel
theorem dX11_outcome_0 : decode cX11_outcome 0 = .ok (.iconst 2, 1) := dk_5 (dk_at dksX11_outcome_0 0 rfl rfl)
theorem dX11_outcome_1 : decode cX11_outcome 1 = .ok (.iload_n 1, 1) := dk_27 (dk_at dksX11_outcome_0 1 rfl rfl)
theorem dX11_outcome_2 : decode cX11_outcome 2 = .ok (.aload_n 0, 1) := dk_42 (dk_at dksX11_outcome_0 2 rfl rfl)
theorem dX11_outcome_3 : decode cX11_outcome 3 = .ok (.getfield 9, 3) := dk_180 0 9 (dk_at dksX11_outcome_0 3 rfl rfl)
theorem dX11_outcome_6 : decode cX11_outcome 6 = .ok (.ishr, 1) := dk_122 (dk_at dksX11_outcome_0 6 rfl rfl)
theorem dX11_outcome_7 : decode cX11_outcome 7 = .ok (.iconst 1, 1) := dk_4 (dk_at dksX11_outcome_0 7 rfl rfl)
theorem dX11_outcome_8 : decode cX11_outcome 8 = .ok (.iand, 1) := dk_126 (dk_at dksX11_outcome_0 8 rfl rfl)
theorem dX11_outcome_9 : decode cX11_outcome 9 = .ok (.imul, 1) := dk_104 (dk_at dksX11_outcome_0 9 rfl rfl)
theorem dX11_outcome_10 : decode cX11_outcome 10 = .ok (.iload_n 1, 1) := dk_27 (dk_at dksX11_outcome_0 10 rfl rfl)
theorem dX11_outcome_11 : decode cX11_outcome 11 = .ok (.aload_n 0, 1) := dk_42 (dk_at dksX11_outcome_0 11 rfl rfl)
theorem dX11_outcome_12 : decode cX11_outcome 12 = .ok (.getfield 15, 3) := dk_180 0 15 (dk_at dksX11_outcome_0 12 rfl rfl)
theorem dX11_outcome_15 : decode cX11_outcome 15 = .ok (.ishr, 1) := dk_122 (dk_at dksX11_outcome_0 15 rfl rfl)
theorem dX11_outcome_16 : decode cX11_outcome 16 = .ok (.iconst 1, 1) := dk_4 (dk_at dksX11_outcome_0 16 rfl rfl)
theorem dX11_outcome_17 : decode cX11_outcome 17 = .ok (.iand, 1) := dk_126 (dk_at dksX11_outcome_0 17 rfl rfl)
theorem dX11_outcome_18 : decode cX11_outcome 18 = .ok (.iadd, 1) := dk_96 (dk_at dksX11_outcome_0 18 rfl rfl)
theorem dX11_outcome_19 : decode cX11_outcome 19 = .ok (.ireturn, 1) := dk_172 (dk_at dksX11_outcome_0 19 rfl rfl)
abbrev cX11_first : ByteArray := prog_16_method_3_code
def yX11_first : MethodName := ⟨RX11, "first", "()I"⟩
theorem dX11_first_0 : decode cX11_first 0 = .ok (.aload_n 0, 1) := by decide +kernel
theorem dX11_first_1 : decode cX11_first 1 = .ok (.getfield 9, 3) := by decide +kernel
theorem dX11_first_4 : decode cX11_first 4 = .ok (.ireturn, 1) := by decide +kernel
abbrev cX11_second : ByteArray := prog_16_method_4_code
def yX11_second : MethodName := ⟨RX11, "second", "()I"⟩
theorem dX11_second_0 : decode cX11_second 0 = .ok (.aload_n 0, 1) := by decide +kernel
theorem dX11_second_1 : decode cX11_second 1 = .ok (.getfield 15, 3) := by decide +kernel
theorem dX11_second_4 : decode cX11_second 4 = .ok (.ireturn, 1) := by decide +kernel
abbrev cX11_ones : ByteArray := prog_16_method_9_code
def yX11_ones : MethodName := ⟨RX11, "ones", "(I)I"⟩
def dkwX11_ones_1 : List UInt8 := [180, 0, 30, 4, 46, 96, 172]
abbrev dktX11_ones_1 : List UInt8 := dkwX11_ones_1 ++ []
def dkwX11_ones_0 : List UInt8 := [42, 180, 0, 30, 6, 46, 27, 42, 180, 0, 9, 160, 0, 12, 42, 180, 0, 30, 5, 46, 167, 0, 9, 42]
abbrev dktX11_ones_0 : List UInt8 := dkwX11_ones_0 ++ dktX11_ones_1
theorem dksX11_ones_0 : cX11_ones.data.toList.drop 0 = dktX11_ones_0 := by decide +kernel
theorem dksX11_ones_1 : cX11_ones.data.toList.drop 24 = dktX11_ones_1 := dk_seg dksX11_ones_0 24 rfl rfl
theorem dX11_ones_0 : decode cX11_ones 0 = .ok (.aload_n 0, 1) := dk_42 (dk_at dksX11_ones_0 0 rfl rfl)
theorem dX11_ones_1 : decode cX11_ones 1 = .ok (.getfield 30, 3) := dk_180 0 30 (dk_at dksX11_ones_0 1 rfl rfl)
theorem dX11_ones_4 : decode cX11_ones 4 = .ok (.iconst 3, 1) := dk_6 (dk_at dksX11_ones_0 4 rfl rfl)
theorem dX11_ones_5 : decode cX11_ones 5 = .ok (.iaload, 1) := dk_46 (dk_at dksX11_ones_0 5 rfl rfl)
theorem dX11_ones_6 : decode cX11_ones 6 = .ok (.iload_n 1, 1) := dk_27 (dk_at dksX11_ones_0 6 rfl rfl)
theorem dX11_ones_7 : decode cX11_ones 7 = .ok (.aload_n 0, 1) := dk_42 (dk_at dksX11_ones_0 7 rfl rfl)
theorem dX11_ones_8 : decode cX11_ones 8 = .ok (.getfield 9, 3) := dk_180 0 9 (dk_at dksX11_ones_0 8 rfl rfl)
theorem dX11_ones_11 : decode cX11_ones 11 = .ok (.if_icmp .ne 12, 3) := dk_160 0 12 (dk_at dksX11_ones_0 11 rfl rfl)
theorem dX11_ones_14 : decode cX11_ones 14 = .ok (.aload_n 0, 1) := dk_42 (dk_at dksX11_ones_0 14 rfl rfl)
theorem dX11_ones_15 : decode cX11_ones 15 = .ok (.getfield 30, 3) := dk_180 0 30 (dk_at dksX11_ones_0 15 rfl rfl)
theorem dX11_ones_18 : decode cX11_ones 18 = .ok (.iconst 2, 1) := dk_5 (dk_at dksX11_ones_0 18 rfl rfl)
theorem dX11_ones_19 : decode cX11_ones 19 = .ok (.iaload, 1) := dk_46 (dk_at dksX11_ones_0 19 rfl rfl)
theorem dX11_ones_20 : decode cX11_ones 20 = .ok (.goto 9, 3) := dk_167 0 9 (dk_at dksX11_ones_0 20 rfl rfl)
theorem dX11_ones_23 : decode cX11_ones 23 = .ok (.aload_n 0, 1) := dk_42 (dk_at dksX11_ones_0 23 rfl rfl)
theorem dX11_ones_24 : decode cX11_ones 24 = .ok (.getfield 30, 3) := dk_180 0 30 (dk_at dksX11_ones_1 0 rfl rfl)
theorem dX11_ones_27 : decode cX11_ones 27 = .ok (.iconst 1, 1) := dk_4 (dk_at dksX11_ones_1 3 rfl rfl)
theorem dX11_ones_28 : decode cX11_ones 28 = .ok (.iaload, 1) := dk_46 (dk_at dksX11_ones_1 4 rfl rfl)
theorem dX11_ones_29 : decode cX11_ones 29 = .ok (.iadd, 1) := dk_96 (dk_at dksX11_ones_1 5 rfl rfl)
theorem dX11_ones_30 : decode cX11_ones 30 = .ok (.ireturn, 1) := dk_172 (dk_at dksX11_ones_1 6 rfl rfl)
abbrev cX11_same : ByteArray := prog_16_method_11_code
def yX11_same : MethodName := ⟨RX11, "same", "()I"⟩
def dkwX11_same_1 : List UInt8 := [5, 46, 100, 172]
abbrev dktX11_same_1 : List UInt8 := dkwX11_same_1 ++ []
def dkwX11_same_0 : List UInt8 := [42, 180, 0, 30, 3, 46, 42, 180, 0, 30, 6, 46, 96, 42, 180, 0, 30, 4, 46, 100, 42, 180, 0, 30]
abbrev dktX11_same_0 : List UInt8 := dkwX11_same_0 ++ dktX11_same_1
theorem dksX11_same_0 : cX11_same.data.toList.drop 0 = dktX11_same_0 := by decide +kernel
theorem dksX11_same_1 : cX11_same.data.toList.drop 24 = dktX11_same_1 := dk_seg dksX11_same_0 24 rfl rfl
theorem dX11_same_0 : decode cX11_same 0 = .ok (.aload_n 0, 1) := dk_42 (dk_at dksX11_same_0 0 rfl rfl)
theorem dX11_same_1 : decode cX11_same 1 = .ok (.getfield 30, 3) := dk_180 0 30 (dk_at dksX11_same_0 1 rfl rfl)
theorem dX11_same_4 : decode cX11_same 4 = .ok (.iconst 0, 1) := dk_3 (dk_at dksX11_same_0 4 rfl rfl)
theorem dX11_same_5 : decode cX11_same 5 = .ok (.iaload, 1) := dk_46 (dk_at dksX11_same_0 5 rfl rfl)
theorem dX11_same_6 : decode cX11_same 6 = .ok (.aload_n 0, 1) := dk_42 (dk_at dksX11_same_0 6 rfl rfl)
theorem dX11_same_7 : decode cX11_same 7 = .ok (.getfield 30, 3) := dk_180 0 30 (dk_at dksX11_same_0 7 rfl rfl)
theorem dX11_same_10 : decode cX11_same 10 = .ok (.iconst 3, 1) := dk_6 (dk_at dksX11_same_0 10 rfl rfl)
theorem dX11_same_11 : decode cX11_same 11 = .ok (.iaload, 1) := dk_46 (dk_at dksX11_same_0 11 rfl rfl)
theorem dX11_same_12 : decode cX11_same 12 = .ok (.iadd, 1) := dk_96 (dk_at dksX11_same_0 12 rfl rfl)
theorem dX11_same_13 : decode cX11_same 13 = .ok (.aload_n 0, 1) := dk_42 (dk_at dksX11_same_0 13 rfl rfl)
theorem dX11_same_14 : decode cX11_same 14 = .ok (.getfield 30, 3) := dk_180 0 30 (dk_at dksX11_same_0 14 rfl rfl)
theorem dX11_same_17 : decode cX11_same 17 = .ok (.iconst 1, 1) := dk_4 (dk_at dksX11_same_0 17 rfl rfl)
theorem dX11_same_18 : decode cX11_same 18 = .ok (.iaload, 1) := dk_46 (dk_at dksX11_same_0 18 rfl rfl)
theorem dX11_same_19 : decode cX11_same 19 = .ok (.isub, 1) := dk_100 (dk_at dksX11_same_0 19 rfl rfl)
theorem dX11_same_20 : decode cX11_same 20 = .ok (.aload_n 0, 1) := dk_42 (dk_at dksX11_same_0 20 rfl rfl)
theorem dX11_same_21 : decode cX11_same 21 = .ok (.getfield 30, 3) := dk_180 0 30 (dk_at dksX11_same_0 21 rfl rfl)
theorem dX11_same_24 : decode cX11_same 24 = .ok (.iconst 2, 1) := dk_5 (dk_at dksX11_same_1 0 rfl rfl)
theorem dX11_same_25 : decode cX11_same 25 = .ok (.iaload, 1) := dk_46 (dk_at dksX11_same_1 1 rfl rfl)
theorem dX11_same_26 : decode cX11_same 26 = .ok (.isub, 1) := dk_100 (dk_at dksX11_same_1 2 rfl rfl)
theorem dX11_same_27 : decode cX11_same 27 = .ok (.ireturn, 1) := dk_172 (dk_at dksX11_same_1 3 rfl rfl)
abbrev cX11_looks : ByteArray := prog_16_method_10_code
def yX11_looks : MethodName := ⟨RX11, "looks", "()I"⟩
def dkwX11_looks_0 : List UInt8 := [4, 42, 180, 0, 9, 120, 4, 42, 180, 0, 15, 120, 128, 172]
abbrev dktX11_looks_0 : List UInt8 := dkwX11_looks_0 ++ []
theorem dksX11_looks_0 : cX11_looks.data.toList.drop 0 = dktX11_looks_0 := by decide +kernel
theorem dX11_looks_0 : decode cX11_looks 0 = .ok (.iconst 1, 1) := dk_4 (dk_at dksX11_looks_0 0 rfl rfl)
theorem dX11_looks_1 : decode cX11_looks 1 = .ok (.aload_n 0, 1) := dk_42 (dk_at dksX11_looks_0 1 rfl rfl)
theorem dX11_looks_2 : decode cX11_looks 2 = .ok (.getfield 9, 3) := dk_180 0 9 (dk_at dksX11_looks_0 2 rfl rfl)
theorem dX11_looks_5 : decode cX11_looks 5 = .ok (.ishl, 1) := dk_120 (dk_at dksX11_looks_0 5 rfl rfl)
theorem dX11_looks_6 : decode cX11_looks 6 = .ok (.iconst 1, 1) := dk_4 (dk_at dksX11_looks_0 6 rfl rfl)
theorem dX11_looks_7 : decode cX11_looks 7 = .ok (.aload_n 0, 1) := dk_42 (dk_at dksX11_looks_0 7 rfl rfl)
theorem dX11_looks_8 : decode cX11_looks 8 = .ok (.getfield 15, 3) := dk_180 0 15 (dk_at dksX11_looks_0 8 rfl rfl)
theorem dX11_looks_11 : decode cX11_looks 11 = .ok (.ishl, 1) := dk_120 (dk_at dksX11_looks_0 11 rfl rfl)
theorem dX11_looks_12 : decode cX11_looks 12 = .ok (.ior, 1) := dk_128 (dk_at dksX11_looks_0 12 rfl rfl)
theorem dX11_looks_13 : decode cX11_looks 13 = .ok (.ireturn, 1) := dk_172 (dk_at dksX11_looks_0 13 rfl rfl)
abbrev cX11_flipped : ByteArray := prog_16_method_8_code
def yX11_flipped : MethodName := ⟨RX11, "flipped", "(II)I"⟩
def dkwX11_flipped_0 : List UInt8 := [28, 42, 180, 0, 9, 160, 0, 9, 27, 5, 130, 167, 0, 6, 27, 4, 130, 172]
abbrev dktX11_flipped_0 : List UInt8 := dkwX11_flipped_0 ++ []
theorem dksX11_flipped_0 : cX11_flipped.data.toList.drop 0 = dktX11_flipped_0 := by decide +kernel
theorem dX11_flipped_0 : decode cX11_flipped 0 = .ok (.iload_n 2, 1) := dk_28 (dk_at dksX11_flipped_0 0 rfl rfl)
theorem dX11_flipped_1 : decode cX11_flipped 1 = .ok (.aload_n 0, 1) := dk_42 (dk_at dksX11_flipped_0 1 rfl rfl)
theorem dX11_flipped_2 : decode cX11_flipped 2 = .ok (.getfield 9, 3) := dk_180 0 9 (dk_at dksX11_flipped_0 2 rfl rfl)
theorem dX11_flipped_5 : decode cX11_flipped 5 = .ok (.if_icmp .ne 9, 3) := dk_160 0 9 (dk_at dksX11_flipped_0 5 rfl rfl)
theorem dX11_flipped_8 : decode cX11_flipped 8 = .ok (.iload_n 1, 1) := dk_27 (dk_at dksX11_flipped_0 8 rfl rfl)
theorem dX11_flipped_9 : decode cX11_flipped 9 = .ok (.iconst 2, 1) := dk_5 (dk_at dksX11_flipped_0 9 rfl rfl)
theorem dX11_flipped_10 : decode cX11_flipped 10 = .ok (.ixor, 1) := dk_130 (dk_at dksX11_flipped_0 10 rfl rfl)
theorem dX11_flipped_11 : decode cX11_flipped 11 = .ok (.goto 6, 3) := dk_167 0 6 (dk_at dksX11_flipped_0 11 rfl rfl)
theorem dX11_flipped_14 : decode cX11_flipped 14 = .ok (.iload_n 1, 1) := dk_27 (dk_at dksX11_flipped_0 14 rfl rfl)
theorem dX11_flipped_15 : decode cX11_flipped 15 = .ok (.iconst 1, 1) := dk_4 (dk_at dksX11_flipped_0 15 rfl rfl)
theorem dX11_flipped_16 : decode cX11_flipped 16 = .ok (.ixor, 1) := dk_130 (dk_at dksX11_flipped_0 16 rfl rfl)
theorem dX11_flipped_17 : decode cX11_flipped 17 = .ok (.ireturn, 1) := dk_172 (dk_at dksX11_flipped_0 17 rfl rfl)
abbrev cX11_without : ByteArray := prog_16_method_7_code
def yX11_without : MethodName := ⟨RX11, "without", "(I)LNotAtOnce$Asked;"⟩
def dkwX11_without_3 : List UInt8 := [44, 176]
abbrev dktX11_without_3 : List UInt8 := dkwX11_without_3 ++ []
def dkwX11_without_2 : List UInt8 := [5, 112, 167, 0, 6, 29, 5, 108, 92, 46, 42, 180, 0, 30, 29, 46, 96, 79, 132, 3, 1, 167, 255, 217]
abbrev dktX11_without_2 : List UInt8 := dkwX11_without_2 ++ dktX11_without_3
def dkwX11_without_1 : List UInt8 := [183, 0, 23, 77, 3, 62, 29, 7, 162, 0, 40, 44, 180, 0, 26, 27, 42, 180, 0, 9, 160, 0, 9, 29]
abbrev dktX11_without_1 : List UInt8 := dkwX11_without_1 ++ dktX11_without_2
def dkwX11_without_0 : List UInt8 := [187, 0, 21, 89, 27, 42, 180, 0, 9, 160, 0, 10, 42, 180, 0, 15, 167, 0, 7, 42, 180, 0, 9]
abbrev dktX11_without_0 : List UInt8 := dkwX11_without_0 ++ dktX11_without_1
theorem dksX11_without_0 : cX11_without.data.toList.drop 0 = dktX11_without_0 := by decide +kernel
theorem dksX11_without_1 : cX11_without.data.toList.drop 23 = dktX11_without_1 := dk_seg dksX11_without_0 23 rfl rfl
theorem dksX11_without_2 : cX11_without.data.toList.drop 47 = dktX11_without_2 := dk_seg dksX11_without_1 24 rfl rfl
theorem dksX11_without_3 : cX11_without.data.toList.drop 71 = dktX11_without_3 := dk_seg dksX11_without_2 24 rfl rfl
theorem dX11_without_0 : decode cX11_without 0 = .ok (.new 21, 3) := dk_187 0 21 (dk_at dksX11_without_0 0 rfl rfl)
theorem dX11_without_3 : decode cX11_without 3 = .ok (.dup, 1) := dk_89 (dk_at dksX11_without_0 3 rfl rfl)
theorem dX11_without_4 : decode cX11_without 4 = .ok (.iload_n 1, 1) := dk_27 (dk_at dksX11_without_0 4 rfl rfl)
theorem dX11_without_5 : decode cX11_without 5 = .ok (.aload_n 0, 1) := dk_42 (dk_at dksX11_without_0 5 rfl rfl)
theorem dX11_without_6 : decode cX11_without 6 = .ok (.getfield 9, 3) := dk_180 0 9 (dk_at dksX11_without_0 6 rfl rfl)
theorem dX11_without_9 : decode cX11_without 9 = .ok (.if_icmp .ne 10, 3) := dk_160 0 10 (dk_at dksX11_without_0 9 rfl rfl)
theorem dX11_without_12 : decode cX11_without 12 = .ok (.aload_n 0, 1) := dk_42 (dk_at dksX11_without_0 12 rfl rfl)
theorem dX11_without_13 : decode cX11_without 13 = .ok (.getfield 15, 3) := dk_180 0 15 (dk_at dksX11_without_0 13 rfl rfl)
theorem dX11_without_16 : decode cX11_without 16 = .ok (.goto 7, 3) := dk_167 0 7 (dk_at dksX11_without_0 16 rfl rfl)
theorem dX11_without_19 : decode cX11_without 19 = .ok (.aload_n 0, 1) := dk_42 (dk_at dksX11_without_0 19 rfl rfl)
theorem dX11_without_20 : decode cX11_without 20 = .ok (.getfield 9, 3) := dk_180 0 9 (dk_at dksX11_without_0 20 rfl rfl)
theorem dX11_without_23 : decode cX11_without 23 = .ok (.invokespecial 23, 3) := dk_183 0 23 (dk_at dksX11_without_1 0 rfl rfl)
theorem dX11_without_26 : decode cX11_without 26 = .ok (.astore_n 2, 1) := dk_77 (dk_at dksX11_without_1 3 rfl rfl)
theorem dX11_without_27 : decode cX11_without 27 = .ok (.iconst 0, 1) := dk_3 (dk_at dksX11_without_1 4 rfl rfl)
theorem dX11_without_28 : decode cX11_without 28 = .ok (.istore_n 3, 1) := dk_62 (dk_at dksX11_without_1 5 rfl rfl)
theorem dX11_without_29 : decode cX11_without 29 = .ok (.iload_n 3, 1) := dk_29 (dk_at dksX11_without_1 6 rfl rfl)
theorem dX11_without_30 : decode cX11_without 30 = .ok (.iconst 4, 1) := dk_7 (dk_at dksX11_without_1 7 rfl rfl)
theorem dX11_without_31 : decode cX11_without 31 = .ok (.if_icmp .ge 40, 3) := dk_162 0 40 (dk_at dksX11_without_1 8 rfl rfl)
theorem dX11_without_34 : decode cX11_without 34 = .ok (.aload_n 2, 1) := dk_44 (dk_at dksX11_without_1 11 rfl rfl)
theorem dX11_without_35 : decode cX11_without 35 = .ok (.getfield 26, 3) := dk_180 0 26 (dk_at dksX11_without_1 12 rfl rfl)
theorem dX11_without_38 : decode cX11_without 38 = .ok (.iload_n 1, 1) := dk_27 (dk_at dksX11_without_1 15 rfl rfl)
theorem dX11_without_39 : decode cX11_without 39 = .ok (.aload_n 0, 1) := dk_42 (dk_at dksX11_without_1 16 rfl rfl)
theorem dX11_without_40 : decode cX11_without 40 = .ok (.getfield 9, 3) := dk_180 0 9 (dk_at dksX11_without_1 17 rfl rfl)
theorem dX11_without_43 : decode cX11_without 43 = .ok (.if_icmp .ne 9, 3) := dk_160 0 9 (dk_at dksX11_without_1 20 rfl rfl)
theorem dX11_without_46 : decode cX11_without 46 = .ok (.iload_n 3, 1) := dk_29 (dk_at dksX11_without_1 23 rfl rfl)
theorem dX11_without_47 : decode cX11_without 47 = .ok (.iconst 2, 1) := dk_5 (dk_at dksX11_without_2 0 rfl rfl)
theorem dX11_without_48 : decode cX11_without 48 = .ok (.irem, 1) := dk_112 (dk_at dksX11_without_2 1 rfl rfl)
theorem dX11_without_49 : decode cX11_without 49 = .ok (.goto 6, 3) := dk_167 0 6 (dk_at dksX11_without_2 2 rfl rfl)
theorem dX11_without_52 : decode cX11_without 52 = .ok (.iload_n 3, 1) := dk_29 (dk_at dksX11_without_2 5 rfl rfl)
theorem dX11_without_53 : decode cX11_without 53 = .ok (.iconst 2, 1) := dk_5 (dk_at dksX11_without_2 6 rfl rfl)
theorem dX11_without_54 : decode cX11_without 54 = .ok (.idiv, 1) := dk_108 (dk_at dksX11_without_2 7 rfl rfl)
theorem dX11_without_55 : decode cX11_without 55 = .ok (.dup2, 1) := dk_92 (dk_at dksX11_without_2 8 rfl rfl)
theorem dX11_without_56 : decode cX11_without 56 = .ok (.iaload, 1) := dk_46 (dk_at dksX11_without_2 9 rfl rfl)
theorem dX11_without_57 : decode cX11_without 57 = .ok (.aload_n 0, 1) := dk_42 (dk_at dksX11_without_2 10 rfl rfl)
theorem dX11_without_58 : decode cX11_without 58 = .ok (.getfield 30, 3) := dk_180 0 30 (dk_at dksX11_without_2 11 rfl rfl)
theorem dX11_without_61 : decode cX11_without 61 = .ok (.iload_n 3, 1) := dk_29 (dk_at dksX11_without_2 14 rfl rfl)
theorem dX11_without_62 : decode cX11_without 62 = .ok (.iaload, 1) := dk_46 (dk_at dksX11_without_2 15 rfl rfl)
theorem dX11_without_63 : decode cX11_without 63 = .ok (.iadd, 1) := dk_96 (dk_at dksX11_without_2 16 rfl rfl)
theorem dX11_without_64 : decode cX11_without 64 = .ok (.iastore, 1) := dk_79 (dk_at dksX11_without_2 17 rfl rfl)
theorem dX11_without_65 : decode cX11_without 65 = .ok (.iinc 3 1, 3) := dk_132 3 1 (dk_at dksX11_without_2 18 rfl rfl)
theorem dX11_without_68 : decode cX11_without 68 = .ok (.goto (-39), 3) := dk_167 255 217 (dk_at dksX11_without_2 21 rfl rfl)
theorem dX11_without_71 : decode cX11_without 71 = .ok (.aload_n 2, 1) := dk_44 (dk_at dksX11_without_3 0 rfl rfl)
theorem dX11_without_72 : decode cX11_without 72 = .ok (.areturn, 1) := dk_176 (dk_at dksX11_without_3 1 rfl rfl)
theorem q137 : (Jvm.Cond.initialized "NotAtOnce$Two") ∈ lw_all := lw_g (lw_at lw_m1 25 rfl) rfl
theorem q776 : (Jvm.Cond.selects "NotAtOnce$Two" ({ cls := "java/lang/Object", name := "getClass", desc := "()Ljava/lang/Class;" } : Jvm.MethodName) ({ cls := "java/lang/Object", name := "getClass", desc := "()Ljava/lang/Class;" } : Jvm.MethodName)) ∈ lw_all := lw_g (lw_at lw_m3 184 rfl) rfl
theorem q833 : (Jvm.Cond.fieldLink "NotAtOnce$Two" (26 : Nat) "NotAtOnce$One" "times" "[I") ∈ lw_all := lw_g (lw_at lw_m4 1 rfl) rfl
theorem q835 : (Jvm.Cond.fieldLink "NotAtOnce$Two" (30 : Nat) "NotAtOnce$Two" "times" "[I") ∈ lw_all := lw_g (lw_at lw_m4 3 rfl) rfl
theorem q836 : (Jvm.Cond.sameField "NotAtOnce$Two" "NotAtOnce$Asked" "times" "[I") ∈ lw_all := lw_g (lw_at lw_m4 4 rfl) rfl
theorem q852 : (Jvm.Cond.instantiable "NotAtOnce$Two" (4 : Nat)) ∈ lw_all := lw_g (lw_at lw_m4 20 rfl) rfl
theorem q854 : (Jvm.Cond.instanceMethod ({ cls := "NotAtOnce$Two", name := "<init>", desc := "(II)V" } : Jvm.MethodName)) ∈ lw_all := lw_g (lw_at lw_m4 22 rfl) rfl
theorem q855 : (Jvm.Cond.code ({ cls := "NotAtOnce$Two", name := "<init>", desc := "(II)V" } : Jvm.MethodName) prog_16_method_1_code (3 : Nat) (Option.none : Option Jvm.ClassFile.FieldType)) ∈ lw_all := lw_g (lw_at lw_m4 23 rfl) rfl
theorem q856 : (Jvm.Cond.methodLinkNest "NotAtOnce$Two" (3 : Nat) ({ cls := "NotAtOnce$Asked", name := "<init>", desc := "()V" } : Jvm.MethodName) "NotAtOnce") ∈ lw_tbl := lw_at lw_m4 24 rfl
theorem q857 : (Jvm.Cond.fieldLink "NotAtOnce$Two" (9 : Nat) "NotAtOnce$Two" "a" "I") ∈ lw_all := lw_g (lw_at lw_m4 25 rfl) rfl
theorem q858 : (Jvm.Cond.fieldLink "NotAtOnce$Two" (15 : Nat) "NotAtOnce$Two" "b" "I") ∈ lw_all := lw_g (lw_at lw_m4 26 rfl) rfl
theorem q859 : (Jvm.Cond.laysFinal "NotAtOnce$Two" "NotAtOnce$Two" "a" "I") ∈ lw_all := lw_g (lw_at lw_m4 27 rfl) rfl
theorem q860 : (Jvm.Cond.soleField "NotAtOnce$Two" "a") ∈ lw_all := lw_g (lw_at lw_m4 28 rfl) rfl
theorem q861 : (Jvm.Cond.laysFinal "NotAtOnce$Two" "NotAtOnce$Two" "b" "I") ∈ lw_all := lw_g (lw_at lw_m4 29 rfl) rfl
theorem q862 : (Jvm.Cond.soleField "NotAtOnce$Two" "b") ∈ lw_all := lw_g (lw_at lw_m4 30 rfl) rfl
theorem q863 : (Jvm.Cond.laysFinal "NotAtOnce$Two" "NotAtOnce$Asked" "times" "[I") ∈ lw_all := lw_g (lw_at lw_m4 31 rfl) rfl
theorem q864 : (Jvm.Cond.laysFinal "NotAtOnce$Two" "NotAtOnce$Asked" "coins" "[I") ∈ lw_all := lw_g (lw_at lw_m4 32 rfl) rfl
theorem q865 : (Jvm.Cond.superclass "NotAtOnce$Two" "NotAtOnce$Asked") ∈ lw_all := lw_g (lw_at lw_m4 33 rfl) rfl
theorem q873 : (Jvm.Cond.selects "NotAtOnce$Two" ({ cls := "NotAtOnce$Asked", name := "outcomes", desc := "()I" } : Jvm.MethodName) ({ cls := "NotAtOnce$Two", name := "outcomes", desc := "()I" } : Jvm.MethodName)) ∈ lw_all := lw_g (lw_at lw_m4 41 rfl) rfl
theorem q874 : (Jvm.Cond.instanceMethod ({ cls := "NotAtOnce$Two", name := "outcomes", desc := "()I" } : Jvm.MethodName)) ∈ lw_all := lw_g (lw_at lw_m4 42 rfl) rfl
theorem q875 : (Jvm.Cond.code ({ cls := "NotAtOnce$Two", name := "outcomes", desc := "()I" } : Jvm.MethodName) prog_16_method_2_code (1 : Nat) (Option.some Jvm.ClassFile.FieldType.int)) ∈ lw_all := lw_g (lw_at lw_m4 43 rfl) rfl
theorem q956 : (Jvm.Cond.selects "NotAtOnce$Two" ({ cls := "NotAtOnce$Asked", name := "copy", desc := "(Z)LNotAtOnce$Asked;" } : Jvm.MethodName) ({ cls := "NotAtOnce$Asked", name := "copy", desc := "(Z)LNotAtOnce$Asked;" } : Jvm.MethodName)) ∈ lw_all := lw_g (lw_at lw_m4 124 rfl) rfl
theorem q966 : (Jvm.Cond.selects "NotAtOnce$Two" ({ cls := "NotAtOnce$Asked", name := "fresh", desc := "()LNotAtOnce$Asked;" } : Jvm.MethodName) ({ cls := "NotAtOnce$Two", name := "fresh", desc := "()LNotAtOnce$Asked;" } : Jvm.MethodName)) ∈ lw_all := lw_g (lw_at lw_m4 134 rfl) rfl
theorem q967 : (Jvm.Cond.instanceMethod ({ cls := "NotAtOnce$Two", name := "fresh", desc := "()LNotAtOnce$Asked;" } : Jvm.MethodName)) ∈ lw_all := lw_g (lw_at lw_m4 135 rfl) rfl
theorem q968 : (Jvm.Cond.code ({ cls := "NotAtOnce$Two", name := "fresh", desc := "()LNotAtOnce$Asked;" } : Jvm.MethodName) prog_16_method_6_code (1 : Nat) (Option.some (Jvm.ClassFile.FieldType.object "NotAtOnce$Asked"))) ∈ lw_all := lw_g (lw_at lw_m4 136 rfl) rfl
theorem q969 : (Jvm.Cond.classLink "NotAtOnce$Two" (10 : Nat) "NotAtOnce$Two") ∈ lw_all := lw_g (lw_at lw_m4 137 rfl) rfl
theorem q970 : (Jvm.Cond.methodLink "NotAtOnce$Two" (18 : Nat) ({ cls := "NotAtOnce$Two", name := "<init>", desc := "(II)V" } : Jvm.MethodName)) ∈ lw_all := lw_g (lw_at lw_m4 138 rfl) rfl
theorem q1021 : (Jvm.Cond.selects "NotAtOnce$Two" ({ cls := "NotAtOnce$Asked", name := "outcome", desc := "(I)I" } : Jvm.MethodName) ({ cls := "NotAtOnce$Two", name := "outcome", desc := "(I)I" } : Jvm.MethodName)) ∈ lw_all := lw_g (lw_at lw_m4 189 rfl) rfl
theorem q1022 : (Jvm.Cond.instanceMethod ({ cls := "NotAtOnce$Two", name := "outcome", desc := "(I)I" } : Jvm.MethodName)) ∈ lw_all := lw_g (lw_at lw_m4 190 rfl) rfl
theorem q1023 : (Jvm.Cond.code ({ cls := "NotAtOnce$Two", name := "outcome", desc := "(I)I" } : Jvm.MethodName) prog_16_method_5_code (2 : Nat) (Option.some Jvm.ClassFile.FieldType.int)) ∈ lw_all := lw_g (lw_at lw_m4 191 rfl) rfl
theorem q1101 : (Jvm.Cond.selects "NotAtOnce$Two" ({ cls := "NotAtOnce$Asked", name := "isPossible", desc := "(I)Z" } : Jvm.MethodName) ({ cls := "NotAtOnce$Asked", name := "isPossible", desc := "(I)Z" } : Jvm.MethodName)) ∈ lw_all := lw_g (lw_at lw_m5 29 rfl) rfl
theorem q1140 : (Jvm.Cond.selects "NotAtOnce$Two" ({ cls := "NotAtOnce$Asked", name := "isOf", desc := "(I)Z" } : Jvm.MethodName) ({ cls := "NotAtOnce$Asked", name := "isOf", desc := "(I)Z" } : Jvm.MethodName)) ∈ lw_all := lw_g (lw_at lw_m5 68 rfl) rfl
theorem q1148 : (Jvm.Cond.selects "NotAtOnce$Two" ({ cls := "NotAtOnce$Asked", name := "first", desc := "()I" } : Jvm.MethodName) ({ cls := "NotAtOnce$Two", name := "first", desc := "()I" } : Jvm.MethodName)) ∈ lw_all := lw_g (lw_at lw_m5 76 rfl) rfl
theorem q1149 : (Jvm.Cond.instanceMethod ({ cls := "NotAtOnce$Two", name := "first", desc := "()I" } : Jvm.MethodName)) ∈ lw_all := lw_g (lw_at lw_m5 77 rfl) rfl
theorem q1150 : (Jvm.Cond.code ({ cls := "NotAtOnce$Two", name := "first", desc := "()I" } : Jvm.MethodName) prog_16_method_3_code (1 : Nat) (Option.some Jvm.ClassFile.FieldType.int)) ∈ lw_all := lw_g (lw_at lw_m5 78 rfl) rfl
theorem q1157 : (Jvm.Cond.selects "NotAtOnce$Two" ({ cls := "NotAtOnce$Asked", name := "second", desc := "()I" } : Jvm.MethodName) ({ cls := "NotAtOnce$Two", name := "second", desc := "()I" } : Jvm.MethodName)) ∈ lw_all := lw_g (lw_at lw_m5 85 rfl) rfl
theorem q1158 : (Jvm.Cond.instanceMethod ({ cls := "NotAtOnce$Two", name := "second", desc := "()I" } : Jvm.MethodName)) ∈ lw_all := lw_g (lw_at lw_m5 86 rfl) rfl
theorem q1159 : (Jvm.Cond.code ({ cls := "NotAtOnce$Two", name := "second", desc := "()I" } : Jvm.MethodName) prog_16_method_4_code (1 : Nat) (Option.some Jvm.ClassFile.FieldType.int)) ∈ lw_all := lw_g (lw_at lw_m5 87 rfl) rfl
theorem q1166 : (Jvm.Cond.selects "NotAtOnce$Two" ({ cls := "NotAtOnce$Asked", name := "ones", desc := "(I)I" } : Jvm.MethodName) ({ cls := "NotAtOnce$Two", name := "ones", desc := "(I)I" } : Jvm.MethodName)) ∈ lw_all := lw_g (lw_at lw_m5 94 rfl) rfl
theorem q1167 : (Jvm.Cond.instanceMethod ({ cls := "NotAtOnce$Two", name := "ones", desc := "(I)I" } : Jvm.MethodName)) ∈ lw_all := lw_g (lw_at lw_m5 95 rfl) rfl
theorem q1168 : (Jvm.Cond.code ({ cls := "NotAtOnce$Two", name := "ones", desc := "(I)I" } : Jvm.MethodName) prog_16_method_9_code (2 : Nat) (Option.some Jvm.ClassFile.FieldType.int)) ∈ lw_all := lw_g (lw_at lw_m5 96 rfl) rfl
theorem q1181 : (Jvm.Cond.selects "NotAtOnce$Two" ({ cls := "NotAtOnce$Asked", name := "same", desc := "()I" } : Jvm.MethodName) ({ cls := "NotAtOnce$Two", name := "same", desc := "()I" } : Jvm.MethodName)) ∈ lw_all := lw_g (lw_at lw_m5 109 rfl) rfl
theorem q1182 : (Jvm.Cond.instanceMethod ({ cls := "NotAtOnce$Two", name := "same", desc := "()I" } : Jvm.MethodName)) ∈ lw_all := lw_g (lw_at lw_m5 110 rfl) rfl
theorem q1183 : (Jvm.Cond.code ({ cls := "NotAtOnce$Two", name := "same", desc := "()I" } : Jvm.MethodName) prog_16_method_11_code (1 : Nat) (Option.some Jvm.ClassFile.FieldType.int)) ∈ lw_all := lw_g (lw_at lw_m5 111 rfl) rfl
theorem q1201 : (Jvm.Cond.selects "NotAtOnce$Two" ({ cls := "NotAtOnce$Asked", name := "looks", desc := "()I" } : Jvm.MethodName) ({ cls := "NotAtOnce$Two", name := "looks", desc := "()I" } : Jvm.MethodName)) ∈ lw_all := lw_g (lw_at lw_m5 129 rfl) rfl
theorem q1202 : (Jvm.Cond.instanceMethod ({ cls := "NotAtOnce$Two", name := "looks", desc := "()I" } : Jvm.MethodName)) ∈ lw_all := lw_g (lw_at lw_m5 130 rfl) rfl
theorem q1203 : (Jvm.Cond.code ({ cls := "NotAtOnce$Two", name := "looks", desc := "()I" } : Jvm.MethodName) prog_16_method_10_code (1 : Nat) (Option.some Jvm.ClassFile.FieldType.int)) ∈ lw_all := lw_g (lw_at lw_m5 131 rfl) rfl
theorem q1527 : (Jvm.Cond.selects "NotAtOnce$Two" ({ cls := "NotAtOnce$Asked", name := "flips", desc := "(I)V" } : Jvm.MethodName) ({ cls := "NotAtOnce$Asked", name := "flips", desc := "(I)V" } : Jvm.MethodName)) ∈ lw_all := lw_g (lw_at lw_m6 215 rfl) rfl
theorem q1537 : (Jvm.Cond.selects "NotAtOnce$Two" ({ cls := "NotAtOnce$Asked", name := "flipped", desc := "(II)I" } : Jvm.MethodName) ({ cls := "NotAtOnce$Two", name := "flipped", desc := "(II)I" } : Jvm.MethodName)) ∈ lw_all := lw_g (lw_at lw_m6 225 rfl) rfl
theorem q1538 : (Jvm.Cond.instanceMethod ({ cls := "NotAtOnce$Two", name := "flipped", desc := "(II)I" } : Jvm.MethodName)) ∈ lw_all := lw_g (lw_at lw_m6 226 rfl) rfl
theorem q1539 : (Jvm.Cond.code ({ cls := "NotAtOnce$Two", name := "flipped", desc := "(II)I" } : Jvm.MethodName) prog_16_method_8_code (3 : Nat) (Option.some Jvm.ClassFile.FieldType.int)) ∈ lw_all := lw_g (lw_at lw_m6 227 rfl) rfl
theorem q1562 : (Jvm.Cond.selects "NotAtOnce$Two" ({ cls := "NotAtOnce$Asked", name := "without", desc := "(I)LNotAtOnce$Asked;" } : Jvm.MethodName) ({ cls := "NotAtOnce$Two", name := "without", desc := "(I)LNotAtOnce$Asked;" } : Jvm.MethodName)) ∈ lw_all := lw_g (lw_at lw_m7 10 rfl) rfl
theorem q1563 : (Jvm.Cond.instanceMethod ({ cls := "NotAtOnce$Two", name := "without", desc := "(I)LNotAtOnce$Asked;" } : Jvm.MethodName)) ∈ lw_all := lw_g (lw_at lw_m7 11 rfl) rfl
theorem q1564 : (Jvm.Cond.code ({ cls := "NotAtOnce$Two", name := "without", desc := "(I)LNotAtOnce$Asked;" } : Jvm.MethodName) prog_16_method_7_code (4 : Nat) (Option.some (Jvm.ClassFile.FieldType.object "NotAtOnce$Asked"))) ∈ lw_all := lw_g (lw_at lw_m7 12 rfl) rfl
theorem q1565 : (Jvm.Cond.classLink "NotAtOnce$Two" (21 : Nat) "NotAtOnce$One") ∈ lw_all := lw_g (lw_at lw_m7 13 rfl) rfl
theorem q1566 : (Jvm.Cond.methodLink "NotAtOnce$Two" (23 : Nat) ({ cls := "NotAtOnce$One", name := "<init>", desc := "(I)V" } : Jvm.MethodName)) ∈ lw_all := lw_g (lw_at lw_m7 14 rfl) rfl
theorem q2349 : (Jvm.Cond.castable "NotAtOnce$Two" "NotAtOnce$Asked") ∈ lw_tbl := lw_at lw_m10 77 rfl
theorem q2363 : (Jvm.Cond.castable "NotAtOnce$Two" "java/lang/Object") ∈ lw_tbl := lw_at lw_m10 91 rfl
theorem in_X11 : ∀ w ∈ wsX110, w ∈ lw_all := lw_in wsX110 [863, 864, 859, 861] (by decide +kernel) (by decide +kernel)
/-! NotAtOnce$Line -/
set_option maxRecDepth 100000
def RX12 : String := "NotAtOnce$Line"
def TX12 : u_T := fun k => match k with
  | 0 => ("NotAtOnce$Line", "points", "I", true)
  | _ => ("NotAtOnce$Line", "parity", "I", true)
def tyX12 : Nat → FieldType := fun k => match k with
  | 0 => .int
  | _ => .int
abbrev wsX120 : List Cond := u_ws RX12 TX12 2
theorem nmX12 : ∀ a, a < 2 → ∀ b, b < 2 → a ≠ b → (TX12 a).2.1 ≠ (TX12 b).2.1 := by decide +kernel
theorem tyX12_ok : ∀ k, k < 2 → parseFieldDescriptor (TX12 k).2.2.1 = some (tyX12 k) := by decide +kernel
abbrev cX12_init : ByteArray := prog_5_method_1_code
def yX12_init : MethodName := ⟨RX12, "<init>", "(II)V"⟩
def dkwX12_init_0 : List UInt8 := [42, 183, 0, 1, 42, 27, 181, 0, 7, 42, 28, 181, 0, 13, 177]
abbrev dktX12_init_0 : List UInt8 := dkwX12_init_0 ++ []
theorem dksX12_init_0 : cX12_init.data.toList.drop 0 = dktX12_init_0 := by decide +kernel
theorem dX12_init_0 : decode cX12_init 0 = .ok (.aload_n 0, 1) := dk_42 (dk_at dksX12_init_0 0 rfl rfl)
theorem dX12_init_1 : decode cX12_init 1 = .ok (.invokespecial 1, 3) := dk_183 0 1 (dk_at dksX12_init_0 1 rfl rfl)
theorem dX12_init_4 : decode cX12_init 4 = .ok (.aload_n 0, 1) := dk_42 (dk_at dksX12_init_0 4 rfl rfl)
theorem dX12_init_5 : decode cX12_init 5 = .ok (.iload_n 1, 1) := dk_27 (dk_at dksX12_init_0 5 rfl rfl)
theorem dX12_init_6 : decode cX12_init 6 = .ok (.putfield 7, 3) := dk_181 0 7 (dk_at dksX12_init_0 6 rfl rfl)
theorem dX12_init_9 : decode cX12_init 9 = .ok (.aload_n 0, 1) := dk_42 (dk_at dksX12_init_0 9 rfl rfl)
theorem dX12_init_10 : decode cX12_init 10 = .ok (.iload_n 2, 1) := dk_28 (dk_at dksX12_init_0 10 rfl rfl)
theorem dX12_init_11 : decode cX12_init 11 = .ok (.putfield 13, 3) := dk_181 0 13 (dk_at dksX12_init_0 11 rfl rfl)
theorem dX12_init_14 : decode cX12_init 14 = .ok (.return_, 1) := dk_177 (dk_at dksX12_init_0 14 rfl rfl)
abbrev cX12_isSo : ByteArray := prog_5_method_2_code
def yX12_isSo : MethodName := ⟨RX12, "isSo", "(I)Z"⟩
def dkwX12_isSo_0 : List UInt8 := [27, 42, 180, 0, 7, 126, 184, 0, 16, 5, 112, 42, 180, 0, 13, 160, 0, 7, 4, 167, 0, 4, 3, 172]
abbrev dktX12_isSo_0 : List UInt8 := dkwX12_isSo_0 ++ []
theorem dksX12_isSo_0 : cX12_isSo.data.toList.drop 0 = dktX12_isSo_0 := by decide +kernel
theorem dX12_isSo_0 : decode cX12_isSo 0 = .ok (.iload_n 1, 1) := dk_27 (dk_at dksX12_isSo_0 0 rfl rfl)
theorem dX12_isSo_1 : decode cX12_isSo 1 = .ok (.aload_n 0, 1) := dk_42 (dk_at dksX12_isSo_0 1 rfl rfl)
theorem dX12_isSo_2 : decode cX12_isSo 2 = .ok (.getfield 7, 3) := dk_180 0 7 (dk_at dksX12_isSo_0 2 rfl rfl)
theorem dX12_isSo_5 : decode cX12_isSo 5 = .ok (.iand, 1) := dk_126 (dk_at dksX12_isSo_0 5 rfl rfl)
theorem dX12_isSo_6 : decode cX12_isSo 6 = .ok (.invokestatic 16, 3) := dk_184 0 16 (dk_at dksX12_isSo_0 6 rfl rfl)
theorem dX12_isSo_9 : decode cX12_isSo 9 = .ok (.iconst 2, 1) := dk_5 (dk_at dksX12_isSo_0 9 rfl rfl)
theorem dX12_isSo_10 : decode cX12_isSo 10 = .ok (.irem, 1) := dk_112 (dk_at dksX12_isSo_0 10 rfl rfl)
theorem dX12_isSo_11 : decode cX12_isSo 11 = .ok (.aload_n 0, 1) := dk_42 (dk_at dksX12_isSo_0 11 rfl rfl)
theorem dX12_isSo_12 : decode cX12_isSo 12 = .ok (.getfield 13, 3) := dk_180 0 13 (dk_at dksX12_isSo_0 12 rfl rfl)
theorem dX12_isSo_15 : decode cX12_isSo 15 = .ok (.if_icmp .ne 7, 3) := dk_160 0 7 (dk_at dksX12_isSo_0 15 rfl rfl)
theorem dX12_isSo_18 : decode cX12_isSo 18 = .ok (.iconst 1, 1) := dk_4 (dk_at dksX12_isSo_0 18 rfl rfl)
theorem dX12_isSo_19 : decode cX12_isSo 19 = .ok (.goto 4, 3) := dk_167 0 4 (dk_at dksX12_isSo_0 19 rfl rfl)
theorem dX12_isSo_22 : decode cX12_isSo 22 = .ok (.iconst 0, 1) := dk_3 (dk_at dksX12_isSo_0 22 rfl rfl)
theorem dX12_isSo_23 : decode cX12_isSo 23 = .ok (.ireturn, 1) := dk_172 (dk_at dksX12_isSo_0 23 rfl rfl)
theorem q138 : (Jvm.Cond.initialized "NotAtOnce$Line") ∈ lw_all := lw_g (lw_at lw_m1 26 rfl) rfl
theorem q765 : (Jvm.Cond.selects "NotAtOnce$Line" ({ cls := "java/lang/Object", name := "getClass", desc := "()Ljava/lang/Class;" } : Jvm.MethodName) ({ cls := "java/lang/Object", name := "getClass", desc := "()Ljava/lang/Class;" } : Jvm.MethodName)) ∈ lw_all := lw_g (lw_at lw_m3 173 rfl) rfl
theorem q888 : (Jvm.Cond.instantiable "NotAtOnce$Line" (2 : Nat)) ∈ lw_all := lw_g (lw_at lw_m4 56 rfl) rfl
theorem q890 : (Jvm.Cond.instanceMethod ({ cls := "NotAtOnce$Line", name := "<init>", desc := "(II)V" } : Jvm.MethodName)) ∈ lw_all := lw_g (lw_at lw_m4 58 rfl) rfl
theorem q891 : (Jvm.Cond.code ({ cls := "NotAtOnce$Line", name := "<init>", desc := "(II)V" } : Jvm.MethodName) prog_5_method_1_code (3 : Nat) (Option.none : Option Jvm.ClassFile.FieldType)) ∈ lw_all := lw_g (lw_at lw_m4 59 rfl) rfl
theorem q892 : (Jvm.Cond.methodLink "NotAtOnce$Line" (1 : Nat) ({ cls := "java/lang/Object", name := "<init>", desc := "()V" } : Jvm.MethodName)) ∈ lw_all := lw_g (lw_at lw_m4 60 rfl) rfl
theorem q893 : (Jvm.Cond.fieldLink "NotAtOnce$Line" (7 : Nat) "NotAtOnce$Line" "points" "I") ∈ lw_all := lw_g (lw_at lw_m4 61 rfl) rfl
theorem q894 : (Jvm.Cond.fieldLink "NotAtOnce$Line" (13 : Nat) "NotAtOnce$Line" "parity" "I") ∈ lw_all := lw_g (lw_at lw_m4 62 rfl) rfl
theorem q895 : (Jvm.Cond.laysFinal "NotAtOnce$Line" "NotAtOnce$Line" "points" "I") ∈ lw_all := lw_g (lw_at lw_m4 63 rfl) rfl
theorem q896 : (Jvm.Cond.soleField "NotAtOnce$Line" "points") ∈ lw_all := lw_g (lw_at lw_m4 64 rfl) rfl
theorem q897 : (Jvm.Cond.laysFinal "NotAtOnce$Line" "NotAtOnce$Line" "parity" "I") ∈ lw_all := lw_g (lw_at lw_m4 65 rfl) rfl
theorem q898 : (Jvm.Cond.soleField "NotAtOnce$Line" "parity") ∈ lw_all := lw_g (lw_at lw_m4 66 rfl) rfl
theorem q899 : (Jvm.Cond.superclass "NotAtOnce$Line" "java/lang/Object") ∈ lw_all := lw_g (lw_at lw_m4 67 rfl) rfl
theorem q1293 : (Jvm.Cond.instanceMethod ({ cls := "NotAtOnce$Line", name := "isSo", desc := "(I)Z" } : Jvm.MethodName)) ∈ lw_all := lw_g (lw_at lw_m5 221 rfl) rfl
theorem q1294 : (Jvm.Cond.selects "NotAtOnce$Line" ({ cls := "NotAtOnce$Line", name := "isSo", desc := "(I)Z" } : Jvm.MethodName) ({ cls := "NotAtOnce$Line", name := "isSo", desc := "(I)Z" } : Jvm.MethodName)) ∈ lw_all := lw_g (lw_at lw_m5 222 rfl) rfl
theorem q1295 : (Jvm.Cond.code ({ cls := "NotAtOnce$Line", name := "isSo", desc := "(I)Z" } : Jvm.MethodName) prog_5_method_2_code (2 : Nat) (Option.some Jvm.ClassFile.FieldType.boolean)) ∈ lw_all := lw_g (lw_at lw_m5 223 rfl) rfl
theorem q1296 : (Jvm.Cond.methodLinkNest "NotAtOnce$Line" (16 : Nat) ({ cls := "NotAtOnce", name := "bits", desc := "(I)I" } : Jvm.MethodName) "NotAtOnce") ∈ lw_tbl := lw_at lw_m5 224 rfl
theorem q2364 : (Jvm.Cond.castable "NotAtOnce$Line" "java/lang/Object") ∈ lw_tbl := lw_at lw_m10 92 rfl
theorem in_X12 : ∀ w ∈ wsX120, w ∈ lw_all := lw_in wsX120 [895, 897] (by decide +kernel) (by decide +kernel)
/-! NotAtOnce$Ray -/
set_option maxRecDepth 100000
def RX13 : String := "NotAtOnce$Ray"
def TX13 : u_T := fun k => match k with
  | _ => ("NotAtOnce$Ray", "side", "[I", true)
def tyX13 : Nat → FieldType := fun k => match k with
  | _ => .array .int
abbrev wsX130 : List Cond := u_ws RX13 TX13 1
theorem nmX13 : ∀ a, a < 1 → ∀ b, b < 1 → a ≠ b → (TX13 a).2.1 ≠ (TX13 b).2.1 := by decide +kernel
theorem tyX13_ok : ∀ k, k < 1 → parseFieldDescriptor (TX13 k).2.2.1 = some (tyX13 k) := by decide +kernel
abbrev cX13_init : ByteArray := prog_9_method_1_code
def yX13_init : MethodName := ⟨RX13, "<init>", "()V"⟩
def dkwX13_init_0 : List UInt8 := [42, 183, 0, 3, 42, 7, 188, 10, 181, 0, 9, 177]
abbrev dktX13_init_0 : List UInt8 := dkwX13_init_0 ++ []
theorem dksX13_init_0 : cX13_init.data.toList.drop 0 = dktX13_init_0 := by decide +kernel
theorem dX13_init_0 : decode cX13_init 0 = .ok (.aload_n 0, 1) := dk_42 (dk_at dksX13_init_0 0 rfl rfl)
theorem dX13_init_1 : decode cX13_init 1 = .ok (.invokespecial 3, 3) := dk_183 0 3 (dk_at dksX13_init_0 1 rfl rfl)
theorem dX13_init_4 : decode cX13_init 4 = .ok (.aload_n 0, 1) := dk_42 (dk_at dksX13_init_0 4 rfl rfl)
theorem dX13_init_5 : decode cX13_init 5 = .ok (.iconst 4, 1) := dk_7 (dk_at dksX13_init_0 5 rfl rfl)
theorem dX13_init_6 : decode cX13_init 6 = .ok (.newarray .int, 2) := dk_188_10 (dk_at dksX13_init_0 6 rfl rfl)
theorem dX13_init_8 : decode cX13_init 8 = .ok (.putfield 9, 3) := dk_181 0 9 (dk_at dksX13_init_0 8 rfl rfl)
theorem dX13_init_11 : decode cX13_init 11 = .ok (.return_, 1) := dk_177 (dk_at dksX13_init_0 11 rfl rfl)
abbrev cX13_isSquare : ByteArray := prog_9_method_2_code
def yX13_isSquare : MethodName := ⟨RX13, "isSquare", "(LNotAtOnce$Ray;)Z"⟩
def dkwX13_isSquare_1 : List UInt8 := [61, 132, 3, 1, 167, 255, 232, 28, 154, 0, 7, 4, 167, 0, 4, 3, 172]
abbrev dktX13_isSquare_1 : List UInt8 := dkwX13_isSquare_1 ++ []
def dkwX13_isSquare_0 : List UInt8 := [3, 61, 3, 62, 29, 7, 162, 0, 25, 28, 42, 180, 0, 9, 29, 46, 43, 180, 0, 9, 29, 46, 104, 96]
abbrev dktX13_isSquare_0 : List UInt8 := dkwX13_isSquare_0 ++ dktX13_isSquare_1
theorem dksX13_isSquare_0 : cX13_isSquare.data.toList.drop 0 = dktX13_isSquare_0 := by decide +kernel
theorem dksX13_isSquare_1 : cX13_isSquare.data.toList.drop 24 = dktX13_isSquare_1 := dk_seg dksX13_isSquare_0 24 rfl rfl
theorem dX13_isSquare_0 : decode cX13_isSquare 0 = .ok (.iconst 0, 1) := dk_3 (dk_at dksX13_isSquare_0 0 rfl rfl)
theorem dX13_isSquare_1 : decode cX13_isSquare 1 = .ok (.istore_n 2, 1) := dk_61 (dk_at dksX13_isSquare_0 1 rfl rfl)
theorem dX13_isSquare_2 : decode cX13_isSquare 2 = .ok (.iconst 0, 1) := dk_3 (dk_at dksX13_isSquare_0 2 rfl rfl)
theorem dX13_isSquare_3 : decode cX13_isSquare 3 = .ok (.istore_n 3, 1) := dk_62 (dk_at dksX13_isSquare_0 3 rfl rfl)
theorem dX13_isSquare_4 : decode cX13_isSquare 4 = .ok (.iload_n 3, 1) := dk_29 (dk_at dksX13_isSquare_0 4 rfl rfl)
theorem dX13_isSquare_5 : decode cX13_isSquare 5 = .ok (.iconst 4, 1) := dk_7 (dk_at dksX13_isSquare_0 5 rfl rfl)
theorem dX13_isSquare_6 : decode cX13_isSquare 6 = .ok (.if_icmp .ge 25, 3) := dk_162 0 25 (dk_at dksX13_isSquare_0 6 rfl rfl)
theorem dX13_isSquare_9 : decode cX13_isSquare 9 = .ok (.iload_n 2, 1) := dk_28 (dk_at dksX13_isSquare_0 9 rfl rfl)
theorem dX13_isSquare_10 : decode cX13_isSquare 10 = .ok (.aload_n 0, 1) := dk_42 (dk_at dksX13_isSquare_0 10 rfl rfl)
theorem dX13_isSquare_11 : decode cX13_isSquare 11 = .ok (.getfield 9, 3) := dk_180 0 9 (dk_at dksX13_isSquare_0 11 rfl rfl)
theorem dX13_isSquare_14 : decode cX13_isSquare 14 = .ok (.iload_n 3, 1) := dk_29 (dk_at dksX13_isSquare_0 14 rfl rfl)
theorem dX13_isSquare_15 : decode cX13_isSquare 15 = .ok (.iaload, 1) := dk_46 (dk_at dksX13_isSquare_0 15 rfl rfl)
theorem dX13_isSquare_16 : decode cX13_isSquare 16 = .ok (.aload_n 1, 1) := dk_43 (dk_at dksX13_isSquare_0 16 rfl rfl)
theorem dX13_isSquare_17 : decode cX13_isSquare 17 = .ok (.getfield 9, 3) := dk_180 0 9 (dk_at dksX13_isSquare_0 17 rfl rfl)
theorem dX13_isSquare_20 : decode cX13_isSquare 20 = .ok (.iload_n 3, 1) := dk_29 (dk_at dksX13_isSquare_0 20 rfl rfl)
theorem dX13_isSquare_21 : decode cX13_isSquare 21 = .ok (.iaload, 1) := dk_46 (dk_at dksX13_isSquare_0 21 rfl rfl)
theorem dX13_isSquare_22 : decode cX13_isSquare 22 = .ok (.imul, 1) := dk_104 (dk_at dksX13_isSquare_0 22 rfl rfl)
theorem dX13_isSquare_23 : decode cX13_isSquare 23 = .ok (.iadd, 1) := dk_96 (dk_at dksX13_isSquare_0 23 rfl rfl)
theorem dX13_isSquare_24 : decode cX13_isSquare 24 = .ok (.istore_n 2, 1) := dk_61 (dk_at dksX13_isSquare_1 0 rfl rfl)
theorem dX13_isSquare_25 : decode cX13_isSquare 25 = .ok (.iinc 3 1, 3) := dk_132 3 1 (dk_at dksX13_isSquare_1 1 rfl rfl)
theorem dX13_isSquare_28 : decode cX13_isSquare 28 = .ok (.goto (-24), 3) := dk_167 255 232 (dk_at dksX13_isSquare_1 4 rfl rfl)
theorem dX13_isSquare_31 : decode cX13_isSquare 31 = .ok (.iload_n 2, 1) := dk_28 (dk_at dksX13_isSquare_1 7 rfl rfl)
theorem dX13_isSquare_32 : decode cX13_isSquare 32 = .ok (.ifCond .ne 7, 3) := dk_154 0 7 (dk_at dksX13_isSquare_1 8 rfl rfl)
theorem dX13_isSquare_35 : decode cX13_isSquare 35 = .ok (.iconst 1, 1) := dk_4 (dk_at dksX13_isSquare_1 11 rfl rfl)
theorem dX13_isSquare_36 : decode cX13_isSquare 36 = .ok (.goto 4, 3) := dk_167 0 4 (dk_at dksX13_isSquare_1 12 rfl rfl)
theorem dX13_isSquare_39 : decode cX13_isSquare 39 = .ok (.iconst 0, 1) := dk_3 (dk_at dksX13_isSquare_1 15 rfl rfl)
theorem dX13_isSquare_40 : decode cX13_isSquare 40 = .ok (.ireturn, 1) := dk_172 (dk_at dksX13_isSquare_1 16 rfl rfl)
theorem q139 : (Jvm.Cond.initialized "NotAtOnce$Ray") ∈ lw_all := lw_g (lw_at lw_m1 27 rfl) rfl
theorem q769 : (Jvm.Cond.selects "NotAtOnce$Ray" ({ cls := "java/lang/Object", name := "getClass", desc := "()Ljava/lang/Class;" } : Jvm.MethodName) ({ cls := "java/lang/Object", name := "getClass", desc := "()Ljava/lang/Class;" } : Jvm.MethodName)) ∈ lw_all := lw_g (lw_at lw_m3 177 rfl) rfl
theorem q905 : (Jvm.Cond.instantiable "NotAtOnce$Ray" (1 : Nat)) ∈ lw_all := lw_g (lw_at lw_m4 73 rfl) rfl
theorem q907 : (Jvm.Cond.instanceMethod ({ cls := "NotAtOnce$Ray", name := "<init>", desc := "()V" } : Jvm.MethodName)) ∈ lw_all := lw_g (lw_at lw_m4 75 rfl) rfl
theorem q908 : (Jvm.Cond.code ({ cls := "NotAtOnce$Ray", name := "<init>", desc := "()V" } : Jvm.MethodName) prog_9_method_1_code (1 : Nat) (Option.none : Option Jvm.ClassFile.FieldType)) ∈ lw_all := lw_g (lw_at lw_m4 76 rfl) rfl
theorem q909 : (Jvm.Cond.methodLink "NotAtOnce$Ray" (3 : Nat) ({ cls := "java/lang/Object", name := "<init>", desc := "()V" } : Jvm.MethodName)) ∈ lw_all := lw_g (lw_at lw_m4 77 rfl) rfl
theorem q910 : (Jvm.Cond.fieldLink "NotAtOnce$Ray" (9 : Nat) "NotAtOnce$Ray" "side" "[I") ∈ lw_all := lw_g (lw_at lw_m4 78 rfl) rfl
theorem q912 : (Jvm.Cond.laysFinal "NotAtOnce$Ray" "NotAtOnce$Ray" "side" "[I") ∈ lw_all := lw_g (lw_at lw_m4 80 rfl) rfl
theorem q913 : (Jvm.Cond.soleField "NotAtOnce$Ray" "side") ∈ lw_all := lw_g (lw_at lw_m4 81 rfl) rfl
theorem q914 : (Jvm.Cond.superclass "NotAtOnce$Ray" "java/lang/Object") ∈ lw_all := lw_g (lw_at lw_m4 82 rfl) rfl
theorem q1334 : (Jvm.Cond.instanceMethod ({ cls := "NotAtOnce$Ray", name := "isSquare", desc := "(LNotAtOnce$Ray;)Z" } : Jvm.MethodName)) ∈ lw_all := lw_g (lw_at lw_m6 22 rfl) rfl
theorem q1335 : (Jvm.Cond.selects "NotAtOnce$Ray" ({ cls := "NotAtOnce$Ray", name := "isSquare", desc := "(LNotAtOnce$Ray;)Z" } : Jvm.MethodName) ({ cls := "NotAtOnce$Ray", name := "isSquare", desc := "(LNotAtOnce$Ray;)Z" } : Jvm.MethodName)) ∈ lw_all := lw_g (lw_at lw_m6 23 rfl) rfl
theorem q1336 : (Jvm.Cond.code ({ cls := "NotAtOnce$Ray", name := "isSquare", desc := "(LNotAtOnce$Ray;)Z" } : Jvm.MethodName) prog_9_method_2_code (4 : Nat) (Option.some Jvm.ClassFile.FieldType.boolean)) ∈ lw_all := lw_g (lw_at lw_m6 24 rfl) rfl
theorem q2365 : (Jvm.Cond.castable "NotAtOnce$Ray" "java/lang/Object") ∈ lw_tbl := lw_at lw_m10 93 rfl
theorem in_X13 : ∀ w ∈ wsX130, w ∈ lw_all := lw_in wsX130 [912] (by decide +kernel) (by decide +kernel)
/-! NotAtOnce$Run -/
set_option maxRecDepth 100000
def RX14 : String := "NotAtOnce$Run"
def TX14 : u_T := fun k => match k with
  | 0 => ("NotAtOnce$Run", "look", "[I", true)
  | 1 => ("NotAtOnce$Run", "answe\x72", "[I", true)
  | _ => ("NotAtOnce$Run", "many", "I", false)
def tyX14 : Nat → FieldType := fun k => match k with
  | 0 => .array .int
  | 1 => .array .int
  | _ => .int
abbrev wsX140 : List Cond := u_ws RX14 TX14 3
theorem nmX14 : ∀ a, a < 3 → ∀ b, b < 3 → a ≠ b → (TX14 a).2.1 ≠ (TX14 b).2.1 := by decide +kernel
theorem tyX14_ok : ∀ k, k < 3 → parseFieldDescriptor (TX14 k).2.2.1 = some (tyX14 k) := by decide +kernel
abbrev cX14_init : ByteArray := prog_11_method_1_code
def yX14_init : MethodName := ⟨RX14, "<init>", "()V"⟩
def dkwX14_init_0 : List UInt8 := [42, 183, 0, 3, 42, 16, 6, 188, 10, 181, 0, 9, 42, 16, 6, 188, 10, 181, 0, 15, 177]
abbrev dktX14_init_0 : List UInt8 := dkwX14_init_0 ++ []
theorem dksX14_init_0 : cX14_init.data.toList.drop 0 = dktX14_init_0 := by decide +kernel
theorem dX14_init_0 : decode cX14_init 0 = .ok (.aload_n 0, 1) := dk_42 (dk_at dksX14_init_0 0 rfl rfl)
theorem dX14_init_1 : decode cX14_init 1 = .ok (.invokespecial 3, 3) := dk_183 0 3 (dk_at dksX14_init_0 1 rfl rfl)
theorem dX14_init_4 : decode cX14_init 4 = .ok (.aload_n 0, 1) := dk_42 (dk_at dksX14_init_0 4 rfl rfl)
theorem dX14_init_5 : decode cX14_init 5 = .ok (.bipush 6, 2) := dk_16 6 (dk_at dksX14_init_0 5 rfl rfl)
theorem dX14_init_7 : decode cX14_init 7 = .ok (.newarray .int, 2) := dk_188_10 (dk_at dksX14_init_0 7 rfl rfl)
theorem dX14_init_9 : decode cX14_init 9 = .ok (.putfield 9, 3) := dk_181 0 9 (dk_at dksX14_init_0 9 rfl rfl)
theorem dX14_init_12 : decode cX14_init 12 = .ok (.aload_n 0, 1) := dk_42 (dk_at dksX14_init_0 12 rfl rfl)
theorem dX14_init_13 : decode cX14_init 13 = .ok (.bipush 6, 2) := dk_16 6 (dk_at dksX14_init_0 13 rfl rfl)
theorem dX14_init_15 : decode cX14_init 15 = .ok (.newarray .int, 2) := dk_188_10 (dk_at dksX14_init_0 15 rfl rfl)
theorem dX14_init_17 : decode cX14_init 17 = .ok (.putfield 15, 3) := dk_181 0 15 (dk_at dksX14_init_0 17 rfl rfl)
theorem dX14_init_20 : decode cX14_init 20 = .ok (.return_, 1) := dk_177 (dk_at dksX14_init_0 20 rfl rfl)
theorem q140 : (Jvm.Cond.initialized "NotAtOnce$Run") ∈ lw_all := lw_g (lw_at lw_m1 28 rfl) rfl
theorem q771 : (Jvm.Cond.selects "NotAtOnce$Run" ({ cls := "java/lang/Object", name := "getClass", desc := "()Ljava/lang/Class;" } : Jvm.MethodName) ({ cls := "java/lang/Object", name := "getClass", desc := "()Ljava/lang/Class;" } : Jvm.MethodName)) ∈ lw_all := lw_g (lw_at lw_m3 179 rfl) rfl
theorem q920 : (Jvm.Cond.instantiable "NotAtOnce$Run" (3 : Nat)) ∈ lw_all := lw_g (lw_at lw_m4 88 rfl) rfl
theorem q922 : (Jvm.Cond.instanceMethod ({ cls := "NotAtOnce$Run", name := "<init>", desc := "()V" } : Jvm.MethodName)) ∈ lw_all := lw_g (lw_at lw_m4 90 rfl) rfl
theorem q923 : (Jvm.Cond.code ({ cls := "NotAtOnce$Run", name := "<init>", desc := "()V" } : Jvm.MethodName) prog_11_method_1_code (1 : Nat) (Option.none : Option Jvm.ClassFile.FieldType)) ∈ lw_all := lw_g (lw_at lw_m4 91 rfl) rfl
theorem q924 : (Jvm.Cond.methodLink "NotAtOnce$Run" (3 : Nat) ({ cls := "java/lang/Object", name := "<init>", desc := "()V" } : Jvm.MethodName)) ∈ lw_all := lw_g (lw_at lw_m4 92 rfl) rfl
theorem q925 : (Jvm.Cond.fieldLink "NotAtOnce$Run" (9 : Nat) "NotAtOnce$Run" "look" "[I") ∈ lw_all := lw_g (lw_at lw_m4 93 rfl) rfl
theorem q928 : (Jvm.Cond.fieldLink "NotAtOnce$Run" (15 : Nat) "NotAtOnce$Run" "answe\x72" "[I") ∈ lw_all := lw_g (lw_at lw_m4 96 rfl) rfl
theorem q933 : (Jvm.Cond.laysFinal "NotAtOnce$Run" "NotAtOnce$Run" "look" "[I") ∈ lw_all := lw_g (lw_at lw_m4 101 rfl) rfl
theorem q934 : (Jvm.Cond.soleField "NotAtOnce$Run" "look") ∈ lw_all := lw_g (lw_at lw_m4 102 rfl) rfl
theorem q935 : (Jvm.Cond.laysFinal "NotAtOnce$Run" "NotAtOnce$Run" "answe\x72" "[I") ∈ lw_all := lw_g (lw_at lw_m4 103 rfl) rfl
theorem q936 : (Jvm.Cond.soleField "NotAtOnce$Run" "answe\x72") ∈ lw_all := lw_g (lw_at lw_m4 104 rfl) rfl
theorem q937 : (Jvm.Cond.lays "NotAtOnce$Run" "NotAtOnce$Run" "many" "I") ∈ lw_all := lw_g (lw_at lw_m4 105 rfl) rfl
theorem q938 : (Jvm.Cond.soleField "NotAtOnce$Run" "many") ∈ lw_all := lw_g (lw_at lw_m4 106 rfl) rfl
theorem q939 : (Jvm.Cond.superclass "NotAtOnce$Run" "java/lang/Object") ∈ lw_all := lw_g (lw_at lw_m4 107 rfl) rfl
theorem q2366 : (Jvm.Cond.castable "NotAtOnce$Run" "java/lang/Object") ∈ lw_tbl := lw_at lw_m10 94 rfl
theorem in_X14 : ∀ w ∈ wsX140, w ∈ lw_all := lw_in wsX140 [933, 935, 937] (by decide +kernel) (by decide +kernel)
/-! NotAtOnce$Colouring -/
set_option maxRecDepth 100000
def RX15 : String := "NotAtOnce$Colouring"
def TX15 : u_T := fun k => match k with
  | 0 => ("NotAtOnce$Colouring", "many", "I", true)
  | 1 => ("NotAtOnce$Colouring", "there", "I", true)
  | 2 => ("NotAtOnce$Colouring", "square", "[I", true)
  | 3 => ("NotAtOnce$Colouring", "corners", "Ljava/util/ArrayList;", true)
  | 4 => ("NotAtOnce$Colouring", "colours", "I", false)
  | _ => ("NotAtOnce$Colouring", "ones", "I", false)
def tyX15 : Nat → FieldType := fun k => match k with
  | 0 => .int
  | 1 => .int
  | 2 => .array .int
  | 3 => .object "java/util/ArrayList"
  | 4 => .int
  | _ => .int
abbrev wsX150 : List Cond := u_ws RX15 TX15 6
theorem nmX15 : ∀ a, a < 6 → ∀ b, b < 6 → a ≠ b → (TX15 a).2.1 ≠ (TX15 b).2.1 := by decide +kernel
theorem tyX15_ok : ∀ k, k < 6 → parseFieldDescriptor (TX15 k).2.2.1 = some (tyX15 k) := by decide +kernel
abbrev cX15_init : ByteArray := prog_4_method_1_code
def yX15_init : MethodName := ⟨RX15, "<init>", "(LNotAtOnce$Book;I)V"⟩
def dkwX15_init_9 : List UInt8 := [132, 3, 1, 167, 255, 204, 177]
abbrev dktX15_init_9 : List UInt8 := dkwX15_init_9 ++ []
def dkwX15_init_8 : List UInt8 := [29, 46, 21, 4, 184, 0, 41, 153, 0, 10, 42, 29, 21, 4, 182, 0, 55, 132, 4, 1, 167, 255, 223]
abbrev dktX15_init_8 : List UInt8 := dkwX15_init_8 ++ dktX15_init_9
def dkwX15_init_7 : List UInt8 := [180, 0, 35, 162, 0, 50, 29, 4, 96, 54, 4, 21, 4, 42, 180, 0, 35, 162, 0, 30, 42, 180, 0, 9]
abbrev dktX15_init_7 : List UInt8 := dkwX15_init_7 ++ dktX15_init_8
def dkwX15_init_6 : List UInt8 := [4, 21, 4, 120, 128, 79, 132, 4, 1, 167, 255, 173, 132, 3, 1, 167, 255, 156, 3, 62, 29, 42]
abbrev dktX15_init_6 : List UInt8 := dkwX15_init_6 ++ dktX15_init_7
def dkwX15_init_5 : List UInt8 := [180, 0, 26, 21, 4, 182, 0, 45, 192, 0, 49, 182, 0, 51, 153, 0, 16, 42, 180, 0, 9, 29, 92, 46]
abbrev dktX15_init_5 : List UInt8 := dkwX15_init_5 ++ dktX15_init_6
def dkwX15_init_4 : List UInt8 := [180, 0, 38, 21, 4, 184, 0, 41, 153, 0, 45, 43, 180, 0, 26, 29, 182, 0, 45, 192, 0, 49, 43]
abbrev dktX15_init_4 : List UInt8 := dkwX15_init_4 ++ dktX15_init_5
def dkwX15_init_3 : List UInt8 := [180, 0, 35, 162, 0, 80, 29, 21, 4, 159, 0, 68, 42, 180, 0, 38, 29, 184, 0, 41, 153, 0, 57, 42]
abbrev dktX15_init_3 : List UInt8 := dkwX15_init_3 ++ dktX15_init_4
def dkwX15_init_2 : List UInt8 := [28, 2, 130, 126, 181, 0, 38, 3, 62, 29, 42, 180, 0, 35, 162, 0, 98, 3, 54, 4, 21, 4, 42]
abbrev dktX15_init_2 : List UInt8 := dkwX15_init_2 ++ dktX15_init_3
def dkwX15_init_1 : List UInt8 := [2, 181, 0, 22, 42, 43, 180, 0, 26, 182, 0, 31, 181, 0, 35, 42, 4, 42, 180, 0, 35, 120, 4, 100]
abbrev dktX15_init_1 : List UInt8 := dkwX15_init_1 ++ dktX15_init_2
def dkwX15_init_0 : List UInt8 := [42, 183, 0, 3, 42, 16, 18, 188, 10, 181, 0, 9, 42, 187, 0, 15, 89, 183, 0, 17, 181, 0, 18, 42]
abbrev dktX15_init_0 : List UInt8 := dkwX15_init_0 ++ dktX15_init_1
theorem dksX15_init_0 : cX15_init.data.toList.drop 0 = dktX15_init_0 := by decide +kernel
theorem dksX15_init_1 : cX15_init.data.toList.drop 24 = dktX15_init_1 := dk_seg dksX15_init_0 24 rfl rfl
theorem dksX15_init_2 : cX15_init.data.toList.drop 48 = dktX15_init_2 := dk_seg dksX15_init_1 24 rfl rfl
theorem dksX15_init_3 : cX15_init.data.toList.drop 71 = dktX15_init_3 := dk_seg dksX15_init_2 23 rfl rfl
theorem dksX15_init_4 : cX15_init.data.toList.drop 95 = dktX15_init_4 := dk_seg dksX15_init_3 24 rfl rfl
theorem dksX15_init_5 : cX15_init.data.toList.drop 118 = dktX15_init_5 := dk_seg dksX15_init_4 23 rfl rfl
theorem dksX15_init_6 : cX15_init.data.toList.drop 142 = dktX15_init_6 := dk_seg dksX15_init_5 24 rfl rfl
theorem dksX15_init_7 : cX15_init.data.toList.drop 164 = dktX15_init_7 := dk_seg dksX15_init_6 22 rfl rfl
theorem dksX15_init_8 : cX15_init.data.toList.drop 188 = dktX15_init_8 := dk_seg dksX15_init_7 24 rfl rfl
theorem dksX15_init_9 : cX15_init.data.toList.drop 211 = dktX15_init_9 := dk_seg dksX15_init_8 23 rfl rfl
theorem dX15_init_0 : decode cX15_init 0 = .ok (.aload_n 0, 1) := dk_42 (dk_at dksX15_init_0 0 rfl rfl)
theorem dX15_init_1 : decode cX15_init 1 = .ok (.invokespecial 3, 3) := dk_183 0 3 (dk_at dksX15_init_0 1 rfl rfl)
theorem dX15_init_4 : decode cX15_init 4 = .ok (.aload_n 0, 1) := dk_42 (dk_at dksX15_init_0 4 rfl rfl)
theorem dX15_init_5 : decode cX15_init 5 = .ok (.bipush 18, 2) := dk_16 18 (dk_at dksX15_init_0 5 rfl rfl)
theorem dX15_init_7 : decode cX15_init 7 = .ok (.newarray .int, 2) := dk_188_10 (dk_at dksX15_init_0 7 rfl rfl)
theorem dX15_init_9 : decode cX15_init 9 = .ok (.putfield 9, 3) := dk_181 0 9 (dk_at dksX15_init_0 9 rfl rfl)
theorem dX15_init_12 : decode cX15_init 12 = .ok (.aload_n 0, 1) := dk_42 (dk_at dksX15_init_0 12 rfl rfl)
theorem dX15_init_13 : decode cX15_init 13 = .ok (.new 15, 3) := dk_187 0 15 (dk_at dksX15_init_0 13 rfl rfl)
theorem dX15_init_16 : decode cX15_init 16 = .ok (.dup, 1) := dk_89 (dk_at dksX15_init_0 16 rfl rfl)
theorem dX15_init_17 : decode cX15_init 17 = .ok (.invokespecial 17, 3) := dk_183 0 17 (dk_at dksX15_init_0 17 rfl rfl)
theorem dX15_init_20 : decode cX15_init 20 = .ok (.putfield 18, 3) := dk_181 0 18 (dk_at dksX15_init_0 20 rfl rfl)
theorem dX15_init_23 : decode cX15_init 23 = .ok (.aload_n 0, 1) := dk_42 (dk_at dksX15_init_0 23 rfl rfl)
theorem dX15_init_24 : decode cX15_init 24 = .ok (.iconst (-1), 1) := dk_2 (dk_at dksX15_init_1 0 rfl rfl)
theorem dX15_init_25 : decode cX15_init 25 = .ok (.putfield 22, 3) := dk_181 0 22 (dk_at dksX15_init_1 1 rfl rfl)
theorem dX15_init_28 : decode cX15_init 28 = .ok (.aload_n 0, 1) := dk_42 (dk_at dksX15_init_1 4 rfl rfl)
theorem dX15_init_29 : decode cX15_init 29 = .ok (.aload_n 1, 1) := dk_43 (dk_at dksX15_init_1 5 rfl rfl)
theorem dX15_init_30 : decode cX15_init 30 = .ok (.getfield 26, 3) := dk_180 0 26 (dk_at dksX15_init_1 6 rfl rfl)
theorem dX15_init_33 : decode cX15_init 33 = .ok (.invokevirtual 31, 3) := dk_182 0 31 (dk_at dksX15_init_1 9 rfl rfl)
theorem dX15_init_36 : decode cX15_init 36 = .ok (.putfield 35, 3) := dk_181 0 35 (dk_at dksX15_init_1 12 rfl rfl)
theorem dX15_init_39 : decode cX15_init 39 = .ok (.aload_n 0, 1) := dk_42 (dk_at dksX15_init_1 15 rfl rfl)
theorem dX15_init_40 : decode cX15_init 40 = .ok (.iconst 1, 1) := dk_4 (dk_at dksX15_init_1 16 rfl rfl)
theorem dX15_init_41 : decode cX15_init 41 = .ok (.aload_n 0, 1) := dk_42 (dk_at dksX15_init_1 17 rfl rfl)
theorem dX15_init_42 : decode cX15_init 42 = .ok (.getfield 35, 3) := dk_180 0 35 (dk_at dksX15_init_1 18 rfl rfl)
theorem dX15_init_45 : decode cX15_init 45 = .ok (.ishl, 1) := dk_120 (dk_at dksX15_init_1 21 rfl rfl)
theorem dX15_init_46 : decode cX15_init 46 = .ok (.iconst 1, 1) := dk_4 (dk_at dksX15_init_1 22 rfl rfl)
theorem dX15_init_47 : decode cX15_init 47 = .ok (.isub, 1) := dk_100 (dk_at dksX15_init_1 23 rfl rfl)
theorem dX15_init_48 : decode cX15_init 48 = .ok (.iload_n 2, 1) := dk_28 (dk_at dksX15_init_2 0 rfl rfl)
theorem dX15_init_49 : decode cX15_init 49 = .ok (.iconst (-1), 1) := dk_2 (dk_at dksX15_init_2 1 rfl rfl)
theorem dX15_init_50 : decode cX15_init 50 = .ok (.ixor, 1) := dk_130 (dk_at dksX15_init_2 2 rfl rfl)
theorem dX15_init_51 : decode cX15_init 51 = .ok (.iand, 1) := dk_126 (dk_at dksX15_init_2 3 rfl rfl)
theorem dX15_init_52 : decode cX15_init 52 = .ok (.putfield 38, 3) := dk_181 0 38 (dk_at dksX15_init_2 4 rfl rfl)
theorem dX15_init_55 : decode cX15_init 55 = .ok (.iconst 0, 1) := dk_3 (dk_at dksX15_init_2 7 rfl rfl)
theorem dX15_init_56 : decode cX15_init 56 = .ok (.istore_n 3, 1) := dk_62 (dk_at dksX15_init_2 8 rfl rfl)
theorem dX15_init_57 : decode cX15_init 57 = .ok (.iload_n 3, 1) := dk_29 (dk_at dksX15_init_2 9 rfl rfl)
theorem dX15_init_58 : decode cX15_init 58 = .ok (.aload_n 0, 1) := dk_42 (dk_at dksX15_init_2 10 rfl rfl)
theorem dX15_init_59 : decode cX15_init 59 = .ok (.getfield 35, 3) := dk_180 0 35 (dk_at dksX15_init_2 11 rfl rfl)
theorem dX15_init_62 : decode cX15_init 62 = .ok (.if_icmp .ge 98, 3) := dk_162 0 98 (dk_at dksX15_init_2 14 rfl rfl)
theorem dX15_init_65 : decode cX15_init 65 = .ok (.iconst 0, 1) := dk_3 (dk_at dksX15_init_2 17 rfl rfl)
theorem dX15_init_66 : decode cX15_init 66 = .ok (.istore 4, 2) := dk_54 4 (dk_at dksX15_init_2 18 rfl rfl)
theorem dX15_init_68 : decode cX15_init 68 = .ok (.iload 4, 2) := dk_21 4 (dk_at dksX15_init_2 20 rfl rfl)
theorem dX15_init_70 : decode cX15_init 70 = .ok (.aload_n 0, 1) := dk_42 (dk_at dksX15_init_2 22 rfl rfl)
theorem dX15_init_71 : decode cX15_init 71 = .ok (.getfield 35, 3) := dk_180 0 35 (dk_at dksX15_init_3 0 rfl rfl)
theorem dX15_init_74 : decode cX15_init 74 = .ok (.if_icmp .ge 80, 3) := dk_162 0 80 (dk_at dksX15_init_3 3 rfl rfl)
theorem dX15_init_77 : decode cX15_init 77 = .ok (.iload_n 3, 1) := dk_29 (dk_at dksX15_init_3 6 rfl rfl)
theorem dX15_init_78 : decode cX15_init 78 = .ok (.iload 4, 2) := dk_21 4 (dk_at dksX15_init_3 7 rfl rfl)
theorem dX15_init_80 : decode cX15_init 80 = .ok (.if_icmp .eq 68, 3) := dk_159 0 68 (dk_at dksX15_init_3 9 rfl rfl)
theorem dX15_init_83 : decode cX15_init 83 = .ok (.aload_n 0, 1) := dk_42 (dk_at dksX15_init_3 12 rfl rfl)
theorem dX15_init_84 : decode cX15_init 84 = .ok (.getfield 38, 3) := dk_180 0 38 (dk_at dksX15_init_3 13 rfl rfl)
theorem dX15_init_87 : decode cX15_init 87 = .ok (.iload_n 3, 1) := dk_29 (dk_at dksX15_init_3 16 rfl rfl)
theorem dX15_init_88 : decode cX15_init 88 = .ok (.invokestatic 41, 3) := dk_184 0 41 (dk_at dksX15_init_3 17 rfl rfl)
theorem dX15_init_91 : decode cX15_init 91 = .ok (.ifCond .eq 57, 3) := dk_153 0 57 (dk_at dksX15_init_3 20 rfl rfl)
theorem dX15_init_94 : decode cX15_init 94 = .ok (.aload_n 0, 1) := dk_42 (dk_at dksX15_init_3 23 rfl rfl)
theorem dX15_init_95 : decode cX15_init 95 = .ok (.getfield 38, 3) := dk_180 0 38 (dk_at dksX15_init_4 0 rfl rfl)
theorem dX15_init_98 : decode cX15_init 98 = .ok (.iload 4, 2) := dk_21 4 (dk_at dksX15_init_4 3 rfl rfl)
theorem dX15_init_100 : decode cX15_init 100 = .ok (.invokestatic 41, 3) := dk_184 0 41 (dk_at dksX15_init_4 5 rfl rfl)
theorem dX15_init_103 : decode cX15_init 103 = .ok (.ifCond .eq 45, 3) := dk_153 0 45 (dk_at dksX15_init_4 8 rfl rfl)
theorem dX15_init_106 : decode cX15_init 106 = .ok (.aload_n 1, 1) := dk_43 (dk_at dksX15_init_4 11 rfl rfl)
theorem dX15_init_107 : decode cX15_init 107 = .ok (.getfield 26, 3) := dk_180 0 26 (dk_at dksX15_init_4 12 rfl rfl)
theorem dX15_init_110 : decode cX15_init 110 = .ok (.iload_n 3, 1) := dk_29 (dk_at dksX15_init_4 15 rfl rfl)
theorem dX15_init_111 : decode cX15_init 111 = .ok (.invokevirtual 45, 3) := dk_182 0 45 (dk_at dksX15_init_4 16 rfl rfl)
theorem dX15_init_114 : decode cX15_init 114 = .ok (.checkcast 49, 3) := dk_192 0 49 (dk_at dksX15_init_4 19 rfl rfl)
theorem dX15_init_117 : decode cX15_init 117 = .ok (.aload_n 1, 1) := dk_43 (dk_at dksX15_init_4 22 rfl rfl)
theorem dX15_init_118 : decode cX15_init 118 = .ok (.getfield 26, 3) := dk_180 0 26 (dk_at dksX15_init_5 0 rfl rfl)
theorem dX15_init_121 : decode cX15_init 121 = .ok (.iload 4, 2) := dk_21 4 (dk_at dksX15_init_5 3 rfl rfl)
theorem dX15_init_123 : decode cX15_init 123 = .ok (.invokevirtual 45, 3) := dk_182 0 45 (dk_at dksX15_init_5 5 rfl rfl)
theorem dX15_init_126 : decode cX15_init 126 = .ok (.checkcast 49, 3) := dk_192 0 49 (dk_at dksX15_init_5 8 rfl rfl)
theorem dX15_init_129 : decode cX15_init 129 = .ok (.invokevirtual 51, 3) := dk_182 0 51 (dk_at dksX15_init_5 11 rfl rfl)
theorem dX15_init_132 : decode cX15_init 132 = .ok (.ifCond .eq 16, 3) := dk_153 0 16 (dk_at dksX15_init_5 14 rfl rfl)
theorem dX15_init_135 : decode cX15_init 135 = .ok (.aload_n 0, 1) := dk_42 (dk_at dksX15_init_5 17 rfl rfl)
theorem dX15_init_136 : decode cX15_init 136 = .ok (.getfield 9, 3) := dk_180 0 9 (dk_at dksX15_init_5 18 rfl rfl)
theorem dX15_init_139 : decode cX15_init 139 = .ok (.iload_n 3, 1) := dk_29 (dk_at dksX15_init_5 21 rfl rfl)
theorem dX15_init_140 : decode cX15_init 140 = .ok (.dup2, 1) := dk_92 (dk_at dksX15_init_5 22 rfl rfl)
theorem dX15_init_141 : decode cX15_init 141 = .ok (.iaload, 1) := dk_46 (dk_at dksX15_init_5 23 rfl rfl)
theorem dX15_init_142 : decode cX15_init 142 = .ok (.iconst 1, 1) := dk_4 (dk_at dksX15_init_6 0 rfl rfl)
theorem dX15_init_143 : decode cX15_init 143 = .ok (.iload 4, 2) := dk_21 4 (dk_at dksX15_init_6 1 rfl rfl)
theorem dX15_init_145 : decode cX15_init 145 = .ok (.ishl, 1) := dk_120 (dk_at dksX15_init_6 3 rfl rfl)
theorem dX15_init_146 : decode cX15_init 146 = .ok (.ior, 1) := dk_128 (dk_at dksX15_init_6 4 rfl rfl)
theorem dX15_init_147 : decode cX15_init 147 = .ok (.iastore, 1) := dk_79 (dk_at dksX15_init_6 5 rfl rfl)
theorem dX15_init_148 : decode cX15_init 148 = .ok (.iinc 4 1, 3) := dk_132 4 1 (dk_at dksX15_init_6 6 rfl rfl)
theorem dX15_init_151 : decode cX15_init 151 = .ok (.goto (-83), 3) := dk_167 255 173 (dk_at dksX15_init_6 9 rfl rfl)
theorem dX15_init_154 : decode cX15_init 154 = .ok (.iinc 3 1, 3) := dk_132 3 1 (dk_at dksX15_init_6 12 rfl rfl)
theorem dX15_init_157 : decode cX15_init 157 = .ok (.goto (-100), 3) := dk_167 255 156 (dk_at dksX15_init_6 15 rfl rfl)
theorem dX15_init_160 : decode cX15_init 160 = .ok (.iconst 0, 1) := dk_3 (dk_at dksX15_init_6 18 rfl rfl)
theorem dX15_init_161 : decode cX15_init 161 = .ok (.istore_n 3, 1) := dk_62 (dk_at dksX15_init_6 19 rfl rfl)
theorem dX15_init_162 : decode cX15_init 162 = .ok (.iload_n 3, 1) := dk_29 (dk_at dksX15_init_6 20 rfl rfl)
theorem dX15_init_163 : decode cX15_init 163 = .ok (.aload_n 0, 1) := dk_42 (dk_at dksX15_init_6 21 rfl rfl)
theorem dX15_init_164 : decode cX15_init 164 = .ok (.getfield 35, 3) := dk_180 0 35 (dk_at dksX15_init_7 0 rfl rfl)
theorem dX15_init_167 : decode cX15_init 167 = .ok (.if_icmp .ge 50, 3) := dk_162 0 50 (dk_at dksX15_init_7 3 rfl rfl)
theorem dX15_init_170 : decode cX15_init 170 = .ok (.iload_n 3, 1) := dk_29 (dk_at dksX15_init_7 6 rfl rfl)
theorem dX15_init_171 : decode cX15_init 171 = .ok (.iconst 1, 1) := dk_4 (dk_at dksX15_init_7 7 rfl rfl)
theorem dX15_init_172 : decode cX15_init 172 = .ok (.iadd, 1) := dk_96 (dk_at dksX15_init_7 8 rfl rfl)
theorem dX15_init_173 : decode cX15_init 173 = .ok (.istore 4, 2) := dk_54 4 (dk_at dksX15_init_7 9 rfl rfl)
theorem dX15_init_175 : decode cX15_init 175 = .ok (.iload 4, 2) := dk_21 4 (dk_at dksX15_init_7 11 rfl rfl)
theorem dX15_init_177 : decode cX15_init 177 = .ok (.aload_n 0, 1) := dk_42 (dk_at dksX15_init_7 13 rfl rfl)
theorem dX15_init_178 : decode cX15_init 178 = .ok (.getfield 35, 3) := dk_180 0 35 (dk_at dksX15_init_7 14 rfl rfl)
theorem dX15_init_181 : decode cX15_init 181 = .ok (.if_icmp .ge 30, 3) := dk_162 0 30 (dk_at dksX15_init_7 17 rfl rfl)
theorem dX15_init_184 : decode cX15_init 184 = .ok (.aload_n 0, 1) := dk_42 (dk_at dksX15_init_7 20 rfl rfl)
theorem dX15_init_185 : decode cX15_init 185 = .ok (.getfield 9, 3) := dk_180 0 9 (dk_at dksX15_init_7 21 rfl rfl)
theorem dX15_init_188 : decode cX15_init 188 = .ok (.iload_n 3, 1) := dk_29 (dk_at dksX15_init_8 0 rfl rfl)
theorem dX15_init_189 : decode cX15_init 189 = .ok (.iaload, 1) := dk_46 (dk_at dksX15_init_8 1 rfl rfl)
theorem dX15_init_190 : decode cX15_init 190 = .ok (.iload 4, 2) := dk_21 4 (dk_at dksX15_init_8 2 rfl rfl)
theorem dX15_init_192 : decode cX15_init 192 = .ok (.invokestatic 41, 3) := dk_184 0 41 (dk_at dksX15_init_8 4 rfl rfl)
theorem dX15_init_195 : decode cX15_init 195 = .ok (.ifCond .eq 10, 3) := dk_153 0 10 (dk_at dksX15_init_8 7 rfl rfl)
theorem dX15_init_198 : decode cX15_init 198 = .ok (.aload_n 0, 1) := dk_42 (dk_at dksX15_init_8 10 rfl rfl)
theorem dX15_init_199 : decode cX15_init 199 = .ok (.iload_n 3, 1) := dk_29 (dk_at dksX15_init_8 11 rfl rfl)
theorem dX15_init_200 : decode cX15_init 200 = .ok (.iload 4, 2) := dk_21 4 (dk_at dksX15_init_8 12 rfl rfl)
theorem dX15_init_202 : decode cX15_init 202 = .ok (.invokevirtual 55, 3) := dk_182 0 55 (dk_at dksX15_init_8 14 rfl rfl)
theorem dX15_init_205 : decode cX15_init 205 = .ok (.iinc 4 1, 3) := dk_132 4 1 (dk_at dksX15_init_8 17 rfl rfl)
theorem dX15_init_208 : decode cX15_init 208 = .ok (.goto (-33), 3) := dk_167 255 223 (dk_at dksX15_init_8 20 rfl rfl)
theorem dX15_init_211 : decode cX15_init 211 = .ok (.iinc 3 1, 3) := dk_132 3 1 (dk_at dksX15_init_9 0 rfl rfl)
theorem dX15_init_214 : decode cX15_init 214 = .ok (.goto (-52), 3) := dk_167 255 204 (dk_at dksX15_init_9 3 rfl rfl)
theorem dX15_init_217 : decode cX15_init 217 = .ok (.return_, 1) := dk_177 (dk_at dksX15_init_9 6 rfl rfl)
abbrev cX15_findsCorners : ByteArray := prog_4_method_2_code
def yX15_findsCorners : MethodName := ⟨RX15, "findsCorners", "(II)V"⟩
def dkwX15_findsCorners_4 : List UInt8 := [184, 0, 59, 182, 0, 65, 87, 132, 5, 1, 167, 255, 199, 132, 4, 1, 167, 255, 166, 177]
abbrev dktX15_findsCorners_4 : List UInt8 := dkwX15_findsCorners_4 ++ []
def dkwX15_findsCorners_3 : List UInt8 := [153, 0, 31, 42, 180, 0, 18, 4, 27, 120, 4, 28, 120, 128, 4, 21, 4, 120, 128, 4, 21, 5, 120, 128]
abbrev dktX15_findsCorners_3 : List UInt8 := dkwX15_findsCorners_3 ++ dktX15_findsCorners_4
def dkwX15_findsCorners_2 : List UInt8 := [21, 5, 42, 180, 0, 35, 162, 0, 54, 29, 42, 180, 0, 9, 21, 4, 46, 126, 21, 5, 184, 0, 41]
abbrev dktX15_findsCorners_2 : List UInt8 := dkwX15_findsCorners_2 ++ dktX15_findsCorners_3
def dkwX15_findsCorners_1 : List UInt8 := [180, 0, 35, 162, 0, 87, 29, 21, 4, 184, 0, 41, 154, 0, 6, 167, 0, 69, 21, 4, 4, 96, 54, 5]
abbrev dktX15_findsCorners_1 : List UInt8 := dkwX15_findsCorners_1 ++ dktX15_findsCorners_2
def dkwX15_findsCorners_0 : List UInt8 := [42, 180, 0, 9, 27, 46, 42, 180, 0, 9, 28, 46, 126, 62, 28, 4, 96, 54, 4, 21, 4, 42]
abbrev dktX15_findsCorners_0 : List UInt8 := dkwX15_findsCorners_0 ++ dktX15_findsCorners_1
theorem dksX15_findsCorners_0 : cX15_findsCorners.data.toList.drop 0 = dktX15_findsCorners_0 := by decide +kernel
theorem dksX15_findsCorners_1 : cX15_findsCorners.data.toList.drop 22 = dktX15_findsCorners_1 := dk_seg dksX15_findsCorners_0 22 rfl rfl
theorem dksX15_findsCorners_2 : cX15_findsCorners.data.toList.drop 46 = dktX15_findsCorners_2 := dk_seg dksX15_findsCorners_1 24 rfl rfl
theorem dksX15_findsCorners_3 : cX15_findsCorners.data.toList.drop 69 = dktX15_findsCorners_3 := dk_seg dksX15_findsCorners_2 23 rfl rfl
theorem dksX15_findsCorners_4 : cX15_findsCorners.data.toList.drop 93 = dktX15_findsCorners_4 := dk_seg dksX15_findsCorners_3 24 rfl rfl
theorem dX15_findsCorners_0 : decode cX15_findsCorners 0 = .ok (.aload_n 0, 1) := dk_42 (dk_at dksX15_findsCorners_0 0 rfl rfl)
theorem dX15_findsCorners_1 : decode cX15_findsCorners 1 = .ok (.getfield 9, 3) := dk_180 0 9 (dk_at dksX15_findsCorners_0 1 rfl rfl)
theorem dX15_findsCorners_4 : decode cX15_findsCorners 4 = .ok (.iload_n 1, 1) := dk_27 (dk_at dksX15_findsCorners_0 4 rfl rfl)
theorem dX15_findsCorners_5 : decode cX15_findsCorners 5 = .ok (.iaload, 1) := dk_46 (dk_at dksX15_findsCorners_0 5 rfl rfl)
theorem dX15_findsCorners_6 : decode cX15_findsCorners 6 = .ok (.aload_n 0, 1) := dk_42 (dk_at dksX15_findsCorners_0 6 rfl rfl)
theorem dX15_findsCorners_7 : decode cX15_findsCorners 7 = .ok (.getfield 9, 3) := dk_180 0 9 (dk_at dksX15_findsCorners_0 7 rfl rfl)
theorem dX15_findsCorners_10 : decode cX15_findsCorners 10 = .ok (.iload_n 2, 1) := dk_28 (dk_at dksX15_findsCorners_0 10 rfl rfl)
theorem dX15_findsCorners_11 : decode cX15_findsCorners 11 = .ok (.iaload, 1) := dk_46 (dk_at dksX15_findsCorners_0 11 rfl rfl)
theorem dX15_findsCorners_12 : decode cX15_findsCorners 12 = .ok (.iand, 1) := dk_126 (dk_at dksX15_findsCorners_0 12 rfl rfl)
theorem dX15_findsCorners_13 : decode cX15_findsCorners 13 = .ok (.istore_n 3, 1) := dk_62 (dk_at dksX15_findsCorners_0 13 rfl rfl)
theorem dX15_findsCorners_14 : decode cX15_findsCorners 14 = .ok (.iload_n 2, 1) := dk_28 (dk_at dksX15_findsCorners_0 14 rfl rfl)
theorem dX15_findsCorners_15 : decode cX15_findsCorners 15 = .ok (.iconst 1, 1) := dk_4 (dk_at dksX15_findsCorners_0 15 rfl rfl)
theorem dX15_findsCorners_16 : decode cX15_findsCorners 16 = .ok (.iadd, 1) := dk_96 (dk_at dksX15_findsCorners_0 16 rfl rfl)
theorem dX15_findsCorners_17 : decode cX15_findsCorners 17 = .ok (.istore 4, 2) := dk_54 4 (dk_at dksX15_findsCorners_0 17 rfl rfl)
theorem dX15_findsCorners_19 : decode cX15_findsCorners 19 = .ok (.iload 4, 2) := dk_21 4 (dk_at dksX15_findsCorners_0 19 rfl rfl)
theorem dX15_findsCorners_21 : decode cX15_findsCorners 21 = .ok (.aload_n 0, 1) := dk_42 (dk_at dksX15_findsCorners_0 21 rfl rfl)
theorem dX15_findsCorners_22 : decode cX15_findsCorners 22 = .ok (.getfield 35, 3) := dk_180 0 35 (dk_at dksX15_findsCorners_1 0 rfl rfl)
theorem dX15_findsCorners_25 : decode cX15_findsCorners 25 = .ok (.if_icmp .ge 87, 3) := dk_162 0 87 (dk_at dksX15_findsCorners_1 3 rfl rfl)
theorem dX15_findsCorners_28 : decode cX15_findsCorners 28 = .ok (.iload_n 3, 1) := dk_29 (dk_at dksX15_findsCorners_1 6 rfl rfl)
theorem dX15_findsCorners_29 : decode cX15_findsCorners 29 = .ok (.iload 4, 2) := dk_21 4 (dk_at dksX15_findsCorners_1 7 rfl rfl)
theorem dX15_findsCorners_31 : decode cX15_findsCorners 31 = .ok (.invokestatic 41, 3) := dk_184 0 41 (dk_at dksX15_findsCorners_1 9 rfl rfl)
theorem dX15_findsCorners_34 : decode cX15_findsCorners 34 = .ok (.ifCond .ne 6, 3) := dk_154 0 6 (dk_at dksX15_findsCorners_1 12 rfl rfl)
theorem dX15_findsCorners_37 : decode cX15_findsCorners 37 = .ok (.goto 69, 3) := dk_167 0 69 (dk_at dksX15_findsCorners_1 15 rfl rfl)
theorem dX15_findsCorners_40 : decode cX15_findsCorners 40 = .ok (.iload 4, 2) := dk_21 4 (dk_at dksX15_findsCorners_1 18 rfl rfl)
theorem dX15_findsCorners_42 : decode cX15_findsCorners 42 = .ok (.iconst 1, 1) := dk_4 (dk_at dksX15_findsCorners_1 20 rfl rfl)
theorem dX15_findsCorners_43 : decode cX15_findsCorners 43 = .ok (.iadd, 1) := dk_96 (dk_at dksX15_findsCorners_1 21 rfl rfl)
theorem dX15_findsCorners_44 : decode cX15_findsCorners 44 = .ok (.istore 5, 2) := dk_54 5 (dk_at dksX15_findsCorners_1 22 rfl rfl)
theorem dX15_findsCorners_46 : decode cX15_findsCorners 46 = .ok (.iload 5, 2) := dk_21 5 (dk_at dksX15_findsCorners_2 0 rfl rfl)
theorem dX15_findsCorners_48 : decode cX15_findsCorners 48 = .ok (.aload_n 0, 1) := dk_42 (dk_at dksX15_findsCorners_2 2 rfl rfl)
theorem dX15_findsCorners_49 : decode cX15_findsCorners 49 = .ok (.getfield 35, 3) := dk_180 0 35 (dk_at dksX15_findsCorners_2 3 rfl rfl)
theorem dX15_findsCorners_52 : decode cX15_findsCorners 52 = .ok (.if_icmp .ge 54, 3) := dk_162 0 54 (dk_at dksX15_findsCorners_2 6 rfl rfl)
theorem dX15_findsCorners_55 : decode cX15_findsCorners 55 = .ok (.iload_n 3, 1) := dk_29 (dk_at dksX15_findsCorners_2 9 rfl rfl)
theorem dX15_findsCorners_56 : decode cX15_findsCorners 56 = .ok (.aload_n 0, 1) := dk_42 (dk_at dksX15_findsCorners_2 10 rfl rfl)
theorem dX15_findsCorners_57 : decode cX15_findsCorners 57 = .ok (.getfield 9, 3) := dk_180 0 9 (dk_at dksX15_findsCorners_2 11 rfl rfl)
theorem dX15_findsCorners_60 : decode cX15_findsCorners 60 = .ok (.iload 4, 2) := dk_21 4 (dk_at dksX15_findsCorners_2 14 rfl rfl)
theorem dX15_findsCorners_62 : decode cX15_findsCorners 62 = .ok (.iaload, 1) := dk_46 (dk_at dksX15_findsCorners_2 16 rfl rfl)
theorem dX15_findsCorners_63 : decode cX15_findsCorners 63 = .ok (.iand, 1) := dk_126 (dk_at dksX15_findsCorners_2 17 rfl rfl)
theorem dX15_findsCorners_64 : decode cX15_findsCorners 64 = .ok (.iload 5, 2) := dk_21 5 (dk_at dksX15_findsCorners_2 18 rfl rfl)
theorem dX15_findsCorners_66 : decode cX15_findsCorners 66 = .ok (.invokestatic 41, 3) := dk_184 0 41 (dk_at dksX15_findsCorners_2 20 rfl rfl)
theorem dX15_findsCorners_69 : decode cX15_findsCorners 69 = .ok (.ifCond .eq 31, 3) := dk_153 0 31 (dk_at dksX15_findsCorners_3 0 rfl rfl)
theorem dX15_findsCorners_72 : decode cX15_findsCorners 72 = .ok (.aload_n 0, 1) := dk_42 (dk_at dksX15_findsCorners_3 3 rfl rfl)
theorem dX15_findsCorners_73 : decode cX15_findsCorners 73 = .ok (.getfield 18, 3) := dk_180 0 18 (dk_at dksX15_findsCorners_3 4 rfl rfl)
theorem dX15_findsCorners_76 : decode cX15_findsCorners 76 = .ok (.iconst 1, 1) := dk_4 (dk_at dksX15_findsCorners_3 7 rfl rfl)
theorem dX15_findsCorners_77 : decode cX15_findsCorners 77 = .ok (.iload_n 1, 1) := dk_27 (dk_at dksX15_findsCorners_3 8 rfl rfl)
theorem dX15_findsCorners_78 : decode cX15_findsCorners 78 = .ok (.ishl, 1) := dk_120 (dk_at dksX15_findsCorners_3 9 rfl rfl)
theorem dX15_findsCorners_79 : decode cX15_findsCorners 79 = .ok (.iconst 1, 1) := dk_4 (dk_at dksX15_findsCorners_3 10 rfl rfl)
theorem dX15_findsCorners_80 : decode cX15_findsCorners 80 = .ok (.iload_n 2, 1) := dk_28 (dk_at dksX15_findsCorners_3 11 rfl rfl)
theorem dX15_findsCorners_81 : decode cX15_findsCorners 81 = .ok (.ishl, 1) := dk_120 (dk_at dksX15_findsCorners_3 12 rfl rfl)
theorem dX15_findsCorners_82 : decode cX15_findsCorners 82 = .ok (.ior, 1) := dk_128 (dk_at dksX15_findsCorners_3 13 rfl rfl)
theorem dX15_findsCorners_83 : decode cX15_findsCorners 83 = .ok (.iconst 1, 1) := dk_4 (dk_at dksX15_findsCorners_3 14 rfl rfl)
theorem dX15_findsCorners_84 : decode cX15_findsCorners 84 = .ok (.iload 4, 2) := dk_21 4 (dk_at dksX15_findsCorners_3 15 rfl rfl)
theorem dX15_findsCorners_86 : decode cX15_findsCorners 86 = .ok (.ishl, 1) := dk_120 (dk_at dksX15_findsCorners_3 17 rfl rfl)
theorem dX15_findsCorners_87 : decode cX15_findsCorners 87 = .ok (.ior, 1) := dk_128 (dk_at dksX15_findsCorners_3 18 rfl rfl)
theorem dX15_findsCorners_88 : decode cX15_findsCorners 88 = .ok (.iconst 1, 1) := dk_4 (dk_at dksX15_findsCorners_3 19 rfl rfl)
theorem dX15_findsCorners_89 : decode cX15_findsCorners 89 = .ok (.iload 5, 2) := dk_21 5 (dk_at dksX15_findsCorners_3 20 rfl rfl)
theorem dX15_findsCorners_91 : decode cX15_findsCorners 91 = .ok (.ishl, 1) := dk_120 (dk_at dksX15_findsCorners_3 22 rfl rfl)
theorem dX15_findsCorners_92 : decode cX15_findsCorners 92 = .ok (.ior, 1) := dk_128 (dk_at dksX15_findsCorners_3 23 rfl rfl)
theorem dX15_findsCorners_93 : decode cX15_findsCorners 93 = .ok (.invokestatic 59, 3) := dk_184 0 59 (dk_at dksX15_findsCorners_4 0 rfl rfl)
theorem dX15_findsCorners_96 : decode cX15_findsCorners 96 = .ok (.invokevirtual 65, 3) := dk_182 0 65 (dk_at dksX15_findsCorners_4 3 rfl rfl)
theorem dX15_findsCorners_99 : decode cX15_findsCorners 99 = .ok (.pop, 1) := dk_87 (dk_at dksX15_findsCorners_4 6 rfl rfl)
theorem dX15_findsCorners_100 : decode cX15_findsCorners 100 = .ok (.iinc 5 1, 3) := dk_132 5 1 (dk_at dksX15_findsCorners_4 7 rfl rfl)
theorem dX15_findsCorners_103 : decode cX15_findsCorners 103 = .ok (.goto (-57), 3) := dk_167 255 199 (dk_at dksX15_findsCorners_4 10 rfl rfl)
theorem dX15_findsCorners_106 : decode cX15_findsCorners 106 = .ok (.iinc 4 1, 3) := dk_132 4 1 (dk_at dksX15_findsCorners_4 13 rfl rfl)
theorem dX15_findsCorners_109 : decode cX15_findsCorners 109 = .ok (.goto (-90), 3) := dk_167 255 166 (dk_at dksX15_findsCorners_4 16 rfl rfl)
theorem dX15_findsCorners_112 : decode cX15_findsCorners 112 = .ok (.return_, 1) := dk_177 (dk_at dksX15_findsCorners_4 19 rfl rfl)
abbrev cX15_corners : ByteArray := prog_4_method_3_code
def yX15_corners : MethodName := ⟨RX15, "corners", "()I"⟩
def dkwX15_corners_0 : List UInt8 := [42, 180, 0, 18, 182, 0, 31, 172]
abbrev dktX15_corners_0 : List UInt8 := dkwX15_corners_0 ++ []
theorem dksX15_corners_0 : cX15_corners.data.toList.drop 0 = dktX15_corners_0 := by decide +kernel
theorem dX15_corners_0 : decode cX15_corners 0 = .ok (.aload_n 0, 1) := dk_42 (dk_at dksX15_corners_0 0 rfl rfl)
theorem dX15_corners_1 : decode cX15_corners 1 = .ok (.getfield 18, 3) := dk_180 0 18 (dk_at dksX15_corners_0 1 rfl rfl)
theorem dX15_corners_4 : decode cX15_corners 4 = .ok (.invokevirtual 31, 3) := dk_182 0 31 (dk_at dksX15_corners_0 4 rfl rfl)
theorem dX15_corners_7 : decode cX15_corners 7 = .ok (.ireturn, 1) := dk_172 (dk_at dksX15_corners_0 7 rfl rfl)
abbrev cX15_counts : ByteArray := prog_4_method_5_code
def yX15_counts : MethodName := ⟨RX15, "counts", "(IIZ)V"⟩
def dkwX15_counts_4 : List UInt8 := [154, 0, 16, 42, 27, 4, 96, 28, 4, 27, 120, 128, 29, 182, 0, 88, 177]
abbrev dktX15_counts_4 : List UInt8 := dkwX15_counts_4 ++ []
def dkwX15_counts_3 : List UInt8 := [29, 182, 0, 88, 42, 180, 0, 38, 27, 184, 0, 41, 153, 0, 27, 42, 180, 0, 9, 27, 46, 28, 126]
abbrev dktX15_counts_3 : List UInt8 := dkwX15_counts_3 ++ dktX15_counts_4
def dkwX15_counts_2 : List UInt8 := [181, 0, 72, 42, 42, 180, 0, 22, 28, 184, 0, 78, 184, 0, 82, 181, 0, 22, 177, 42, 27, 4, 96, 28]
abbrev dktX15_counts_2 : List UInt8 := dkwX15_counts_2 ++ dktX15_counts_3
def dkwX15_counts_1 : List UInt8 := [128, 182, 0, 75, 154, 0, 4, 177, 27, 42, 180, 0, 35, 160, 0, 29, 42, 89, 180, 0, 72, 4, 96]
abbrev dktX15_counts_1 : List UInt8 := dkwX15_counts_1 ++ dktX15_counts_2
def dkwX15_counts_0 : List UInt8 := [29, 154, 0, 10, 42, 180, 0, 72, 157, 0, 23, 42, 28, 4, 27, 120, 4, 100, 42, 180, 0, 38, 2, 130]
abbrev dktX15_counts_0 : List UInt8 := dkwX15_counts_0 ++ dktX15_counts_1
theorem dksX15_counts_0 : cX15_counts.data.toList.drop 0 = dktX15_counts_0 := by decide +kernel
theorem dksX15_counts_1 : cX15_counts.data.toList.drop 24 = dktX15_counts_1 := dk_seg dksX15_counts_0 24 rfl rfl
theorem dksX15_counts_2 : cX15_counts.data.toList.drop 47 = dktX15_counts_2 := dk_seg dksX15_counts_1 23 rfl rfl
theorem dksX15_counts_3 : cX15_counts.data.toList.drop 71 = dktX15_counts_3 := dk_seg dksX15_counts_2 24 rfl rfl
theorem dksX15_counts_4 : cX15_counts.data.toList.drop 94 = dktX15_counts_4 := dk_seg dksX15_counts_3 23 rfl rfl
theorem dX15_counts_0 : decode cX15_counts 0 = .ok (.iload_n 3, 1) := dk_29 (dk_at dksX15_counts_0 0 rfl rfl)
theorem dX15_counts_1 : decode cX15_counts 1 = .ok (.ifCond .ne 10, 3) := dk_154 0 10 (dk_at dksX15_counts_0 1 rfl rfl)
theorem dX15_counts_4 : decode cX15_counts 4 = .ok (.aload_n 0, 1) := dk_42 (dk_at dksX15_counts_0 4 rfl rfl)
theorem dX15_counts_5 : decode cX15_counts 5 = .ok (.getfield 72, 3) := dk_180 0 72 (dk_at dksX15_counts_0 5 rfl rfl)
theorem dX15_counts_8 : decode cX15_counts 8 = .ok (.ifCond .gt 23, 3) := dk_157 0 23 (dk_at dksX15_counts_0 8 rfl rfl)
theorem dX15_counts_11 : decode cX15_counts 11 = .ok (.aload_n 0, 1) := dk_42 (dk_at dksX15_counts_0 11 rfl rfl)
theorem dX15_counts_12 : decode cX15_counts 12 = .ok (.iload_n 2, 1) := dk_28 (dk_at dksX15_counts_0 12 rfl rfl)
theorem dX15_counts_13 : decode cX15_counts 13 = .ok (.iconst 1, 1) := dk_4 (dk_at dksX15_counts_0 13 rfl rfl)
theorem dX15_counts_14 : decode cX15_counts 14 = .ok (.iload_n 1, 1) := dk_27 (dk_at dksX15_counts_0 14 rfl rfl)
theorem dX15_counts_15 : decode cX15_counts 15 = .ok (.ishl, 1) := dk_120 (dk_at dksX15_counts_0 15 rfl rfl)
theorem dX15_counts_16 : decode cX15_counts 16 = .ok (.iconst 1, 1) := dk_4 (dk_at dksX15_counts_0 16 rfl rfl)
theorem dX15_counts_17 : decode cX15_counts 17 = .ok (.isub, 1) := dk_100 (dk_at dksX15_counts_0 17 rfl rfl)
theorem dX15_counts_18 : decode cX15_counts 18 = .ok (.aload_n 0, 1) := dk_42 (dk_at dksX15_counts_0 18 rfl rfl)
theorem dX15_counts_19 : decode cX15_counts 19 = .ok (.getfield 38, 3) := dk_180 0 38 (dk_at dksX15_counts_0 19 rfl rfl)
theorem dX15_counts_22 : decode cX15_counts 22 = .ok (.iconst (-1), 1) := dk_2 (dk_at dksX15_counts_0 22 rfl rfl)
theorem dX15_counts_23 : decode cX15_counts 23 = .ok (.ixor, 1) := dk_130 (dk_at dksX15_counts_0 23 rfl rfl)
theorem dX15_counts_24 : decode cX15_counts 24 = .ok (.ior, 1) := dk_128 (dk_at dksX15_counts_1 0 rfl rfl)
theorem dX15_counts_25 : decode cX15_counts 25 = .ok (.invokevirtual 75, 3) := dk_182 0 75 (dk_at dksX15_counts_1 1 rfl rfl)
theorem dX15_counts_28 : decode cX15_counts 28 = .ok (.ifCond .ne 4, 3) := dk_154 0 4 (dk_at dksX15_counts_1 4 rfl rfl)
theorem dX15_counts_31 : decode cX15_counts 31 = .ok (.return_, 1) := dk_177 (dk_at dksX15_counts_1 7 rfl rfl)
theorem dX15_counts_32 : decode cX15_counts 32 = .ok (.iload_n 1, 1) := dk_27 (dk_at dksX15_counts_1 8 rfl rfl)
theorem dX15_counts_33 : decode cX15_counts 33 = .ok (.aload_n 0, 1) := dk_42 (dk_at dksX15_counts_1 9 rfl rfl)
theorem dX15_counts_34 : decode cX15_counts 34 = .ok (.getfield 35, 3) := dk_180 0 35 (dk_at dksX15_counts_1 10 rfl rfl)
theorem dX15_counts_37 : decode cX15_counts 37 = .ok (.if_icmp .ne 29, 3) := dk_160 0 29 (dk_at dksX15_counts_1 13 rfl rfl)
theorem dX15_counts_40 : decode cX15_counts 40 = .ok (.aload_n 0, 1) := dk_42 (dk_at dksX15_counts_1 16 rfl rfl)
theorem dX15_counts_41 : decode cX15_counts 41 = .ok (.dup, 1) := dk_89 (dk_at dksX15_counts_1 17 rfl rfl)
theorem dX15_counts_42 : decode cX15_counts 42 = .ok (.getfield 72, 3) := dk_180 0 72 (dk_at dksX15_counts_1 18 rfl rfl)
theorem dX15_counts_45 : decode cX15_counts 45 = .ok (.iconst 1, 1) := dk_4 (dk_at dksX15_counts_1 21 rfl rfl)
theorem dX15_counts_46 : decode cX15_counts 46 = .ok (.iadd, 1) := dk_96 (dk_at dksX15_counts_1 22 rfl rfl)
theorem dX15_counts_47 : decode cX15_counts 47 = .ok (.putfield 72, 3) := dk_181 0 72 (dk_at dksX15_counts_2 0 rfl rfl)
theorem dX15_counts_50 : decode cX15_counts 50 = .ok (.aload_n 0, 1) := dk_42 (dk_at dksX15_counts_2 3 rfl rfl)
theorem dX15_counts_51 : decode cX15_counts 51 = .ok (.aload_n 0, 1) := dk_42 (dk_at dksX15_counts_2 4 rfl rfl)
theorem dX15_counts_52 : decode cX15_counts 52 = .ok (.getfield 22, 3) := dk_180 0 22 (dk_at dksX15_counts_2 5 rfl rfl)
theorem dX15_counts_55 : decode cX15_counts 55 = .ok (.iload_n 2, 1) := dk_28 (dk_at dksX15_counts_2 8 rfl rfl)
theorem dX15_counts_56 : decode cX15_counts 56 = .ok (.invokestatic 78, 3) := dk_184 0 78 (dk_at dksX15_counts_2 9 rfl rfl)
theorem dX15_counts_59 : decode cX15_counts 59 = .ok (.invokestatic 82, 3) := dk_184 0 82 (dk_at dksX15_counts_2 12 rfl rfl)
theorem dX15_counts_62 : decode cX15_counts 62 = .ok (.putfield 22, 3) := dk_181 0 22 (dk_at dksX15_counts_2 15 rfl rfl)
theorem dX15_counts_65 : decode cX15_counts 65 = .ok (.return_, 1) := dk_177 (dk_at dksX15_counts_2 18 rfl rfl)
theorem dX15_counts_66 : decode cX15_counts 66 = .ok (.aload_n 0, 1) := dk_42 (dk_at dksX15_counts_2 19 rfl rfl)
theorem dX15_counts_67 : decode cX15_counts 67 = .ok (.iload_n 1, 1) := dk_27 (dk_at dksX15_counts_2 20 rfl rfl)
theorem dX15_counts_68 : decode cX15_counts 68 = .ok (.iconst 1, 1) := dk_4 (dk_at dksX15_counts_2 21 rfl rfl)
theorem dX15_counts_69 : decode cX15_counts 69 = .ok (.iadd, 1) := dk_96 (dk_at dksX15_counts_2 22 rfl rfl)
theorem dX15_counts_70 : decode cX15_counts 70 = .ok (.iload_n 2, 1) := dk_28 (dk_at dksX15_counts_2 23 rfl rfl)
theorem dX15_counts_71 : decode cX15_counts 71 = .ok (.iload_n 3, 1) := dk_29 (dk_at dksX15_counts_3 0 rfl rfl)
theorem dX15_counts_72 : decode cX15_counts 72 = .ok (.invokevirtual 88, 3) := dk_182 0 88 (dk_at dksX15_counts_3 1 rfl rfl)
theorem dX15_counts_75 : decode cX15_counts 75 = .ok (.aload_n 0, 1) := dk_42 (dk_at dksX15_counts_3 4 rfl rfl)
theorem dX15_counts_76 : decode cX15_counts 76 = .ok (.getfield 38, 3) := dk_180 0 38 (dk_at dksX15_counts_3 5 rfl rfl)
theorem dX15_counts_79 : decode cX15_counts 79 = .ok (.iload_n 1, 1) := dk_27 (dk_at dksX15_counts_3 8 rfl rfl)
theorem dX15_counts_80 : decode cX15_counts 80 = .ok (.invokestatic 41, 3) := dk_184 0 41 (dk_at dksX15_counts_3 9 rfl rfl)
theorem dX15_counts_83 : decode cX15_counts 83 = .ok (.ifCond .eq 27, 3) := dk_153 0 27 (dk_at dksX15_counts_3 12 rfl rfl)
theorem dX15_counts_86 : decode cX15_counts 86 = .ok (.aload_n 0, 1) := dk_42 (dk_at dksX15_counts_3 15 rfl rfl)
theorem dX15_counts_87 : decode cX15_counts 87 = .ok (.getfield 9, 3) := dk_180 0 9 (dk_at dksX15_counts_3 16 rfl rfl)
theorem dX15_counts_90 : decode cX15_counts 90 = .ok (.iload_n 1, 1) := dk_27 (dk_at dksX15_counts_3 19 rfl rfl)
theorem dX15_counts_91 : decode cX15_counts 91 = .ok (.iaload, 1) := dk_46 (dk_at dksX15_counts_3 20 rfl rfl)
theorem dX15_counts_92 : decode cX15_counts 92 = .ok (.iload_n 2, 1) := dk_28 (dk_at dksX15_counts_3 21 rfl rfl)
theorem dX15_counts_93 : decode cX15_counts 93 = .ok (.iand, 1) := dk_126 (dk_at dksX15_counts_3 22 rfl rfl)
theorem dX15_counts_94 : decode cX15_counts 94 = .ok (.ifCond .ne 16, 3) := dk_154 0 16 (dk_at dksX15_counts_4 0 rfl rfl)
theorem dX15_counts_97 : decode cX15_counts 97 = .ok (.aload_n 0, 1) := dk_42 (dk_at dksX15_counts_4 3 rfl rfl)
theorem dX15_counts_98 : decode cX15_counts 98 = .ok (.iload_n 1, 1) := dk_27 (dk_at dksX15_counts_4 4 rfl rfl)
theorem dX15_counts_99 : decode cX15_counts 99 = .ok (.iconst 1, 1) := dk_4 (dk_at dksX15_counts_4 5 rfl rfl)
theorem dX15_counts_100 : decode cX15_counts 100 = .ok (.iadd, 1) := dk_96 (dk_at dksX15_counts_4 6 rfl rfl)
theorem dX15_counts_101 : decode cX15_counts 101 = .ok (.iload_n 2, 1) := dk_28 (dk_at dksX15_counts_4 7 rfl rfl)
theorem dX15_counts_102 : decode cX15_counts 102 = .ok (.iconst 1, 1) := dk_4 (dk_at dksX15_counts_4 8 rfl rfl)
theorem dX15_counts_103 : decode cX15_counts 103 = .ok (.iload_n 1, 1) := dk_27 (dk_at dksX15_counts_4 9 rfl rfl)
theorem dX15_counts_104 : decode cX15_counts 104 = .ok (.ishl, 1) := dk_120 (dk_at dksX15_counts_4 10 rfl rfl)
theorem dX15_counts_105 : decode cX15_counts 105 = .ok (.ior, 1) := dk_128 (dk_at dksX15_counts_4 11 rfl rfl)
theorem dX15_counts_106 : decode cX15_counts 106 = .ok (.iload_n 3, 1) := dk_29 (dk_at dksX15_counts_4 12 rfl rfl)
theorem dX15_counts_107 : decode cX15_counts 107 = .ok (.invokevirtual 88, 3) := dk_182 0 88 (dk_at dksX15_counts_4 13 rfl rfl)
theorem dX15_counts_110 : decode cX15_counts 110 = .ok (.return_, 1) := dk_177 (dk_at dksX15_counts_4 16 rfl rfl)
abbrev cX15_isGood : ByteArray := prog_4_method_4_code
def yX15_isGood : MethodName := ⟨RX15, "isGood", "(II)Z"⟩
def dkwX15_isGood_2 : List UInt8 := [132, 3, 1, 167, 255, 208, 4, 172]
abbrev dktX15_isGood_2 : List UInt8 := dkwX15_isGood_2 ++ []
def dkwX15_isGood_1 : List UInt8 := [182, 0, 69, 54, 4, 21, 4, 28, 2, 130, 126, 154, 0, 12, 21, 4, 27, 126, 154, 0, 5, 3, 172]
abbrev dktX15_isGood_1 : List UInt8 := dkwX15_isGood_1 ++ dktX15_isGood_2
def dkwX15_isGood_0 : List UInt8 := [3, 62, 29, 42, 180, 0, 18, 182, 0, 31, 162, 0, 43, 42, 180, 0, 18, 29, 182, 0, 45, 192, 0, 60]
abbrev dktX15_isGood_0 : List UInt8 := dkwX15_isGood_0 ++ dktX15_isGood_1
theorem dksX15_isGood_0 : cX15_isGood.data.toList.drop 0 = dktX15_isGood_0 := by decide +kernel
theorem dksX15_isGood_1 : cX15_isGood.data.toList.drop 24 = dktX15_isGood_1 := dk_seg dksX15_isGood_0 24 rfl rfl
theorem dksX15_isGood_2 : cX15_isGood.data.toList.drop 47 = dktX15_isGood_2 := dk_seg dksX15_isGood_1 23 rfl rfl
theorem dX15_isGood_0 : decode cX15_isGood 0 = .ok (.iconst 0, 1) := dk_3 (dk_at dksX15_isGood_0 0 rfl rfl)
theorem dX15_isGood_1 : decode cX15_isGood 1 = .ok (.istore_n 3, 1) := dk_62 (dk_at dksX15_isGood_0 1 rfl rfl)
theorem dX15_isGood_2 : decode cX15_isGood 2 = .ok (.iload_n 3, 1) := dk_29 (dk_at dksX15_isGood_0 2 rfl rfl)
theorem dX15_isGood_3 : decode cX15_isGood 3 = .ok (.aload_n 0, 1) := dk_42 (dk_at dksX15_isGood_0 3 rfl rfl)
theorem dX15_isGood_4 : decode cX15_isGood 4 = .ok (.getfield 18, 3) := dk_180 0 18 (dk_at dksX15_isGood_0 4 rfl rfl)
theorem dX15_isGood_7 : decode cX15_isGood 7 = .ok (.invokevirtual 31, 3) := dk_182 0 31 (dk_at dksX15_isGood_0 7 rfl rfl)
theorem dX15_isGood_10 : decode cX15_isGood 10 = .ok (.if_icmp .ge 43, 3) := dk_162 0 43 (dk_at dksX15_isGood_0 10 rfl rfl)
theorem dX15_isGood_13 : decode cX15_isGood 13 = .ok (.aload_n 0, 1) := dk_42 (dk_at dksX15_isGood_0 13 rfl rfl)
theorem dX15_isGood_14 : decode cX15_isGood 14 = .ok (.getfield 18, 3) := dk_180 0 18 (dk_at dksX15_isGood_0 14 rfl rfl)
theorem dX15_isGood_17 : decode cX15_isGood 17 = .ok (.iload_n 3, 1) := dk_29 (dk_at dksX15_isGood_0 17 rfl rfl)
theorem dX15_isGood_18 : decode cX15_isGood 18 = .ok (.invokevirtual 45, 3) := dk_182 0 45 (dk_at dksX15_isGood_0 18 rfl rfl)
theorem dX15_isGood_21 : decode cX15_isGood 21 = .ok (.checkcast 60, 3) := dk_192 0 60 (dk_at dksX15_isGood_0 21 rfl rfl)
theorem dX15_isGood_24 : decode cX15_isGood 24 = .ok (.invokevirtual 69, 3) := dk_182 0 69 (dk_at dksX15_isGood_1 0 rfl rfl)
theorem dX15_isGood_27 : decode cX15_isGood 27 = .ok (.istore 4, 2) := dk_54 4 (dk_at dksX15_isGood_1 3 rfl rfl)
theorem dX15_isGood_29 : decode cX15_isGood 29 = .ok (.iload 4, 2) := dk_21 4 (dk_at dksX15_isGood_1 5 rfl rfl)
theorem dX15_isGood_31 : decode cX15_isGood 31 = .ok (.iload_n 2, 1) := dk_28 (dk_at dksX15_isGood_1 7 rfl rfl)
theorem dX15_isGood_32 : decode cX15_isGood 32 = .ok (.iconst (-1), 1) := dk_2 (dk_at dksX15_isGood_1 8 rfl rfl)
theorem dX15_isGood_33 : decode cX15_isGood 33 = .ok (.ixor, 1) := dk_130 (dk_at dksX15_isGood_1 9 rfl rfl)
theorem dX15_isGood_34 : decode cX15_isGood 34 = .ok (.iand, 1) := dk_126 (dk_at dksX15_isGood_1 10 rfl rfl)
theorem dX15_isGood_35 : decode cX15_isGood 35 = .ok (.ifCond .ne 12, 3) := dk_154 0 12 (dk_at dksX15_isGood_1 11 rfl rfl)
theorem dX15_isGood_38 : decode cX15_isGood 38 = .ok (.iload 4, 2) := dk_21 4 (dk_at dksX15_isGood_1 14 rfl rfl)
theorem dX15_isGood_40 : decode cX15_isGood 40 = .ok (.iload_n 1, 1) := dk_27 (dk_at dksX15_isGood_1 16 rfl rfl)
theorem dX15_isGood_41 : decode cX15_isGood 41 = .ok (.iand, 1) := dk_126 (dk_at dksX15_isGood_1 17 rfl rfl)
theorem dX15_isGood_42 : decode cX15_isGood 42 = .ok (.ifCond .ne 5, 3) := dk_154 0 5 (dk_at dksX15_isGood_1 18 rfl rfl)
theorem dX15_isGood_45 : decode cX15_isGood 45 = .ok (.iconst 0, 1) := dk_3 (dk_at dksX15_isGood_1 21 rfl rfl)
theorem dX15_isGood_46 : decode cX15_isGood 46 = .ok (.ireturn, 1) := dk_172 (dk_at dksX15_isGood_1 22 rfl rfl)
theorem dX15_isGood_47 : decode cX15_isGood 47 = .ok (.iinc 3 1, 3) := dk_132 3 1 (dk_at dksX15_isGood_2 0 rfl rfl)
theorem dX15_isGood_50 : decode cX15_isGood 50 = .ok (.goto (-48), 3) := dk_167 255 208 (dk_at dksX15_isGood_2 3 rfl rfl)
theorem dX15_isGood_53 : decode cX15_isGood 53 = .ok (.iconst 1, 1) := dk_4 (dk_at dksX15_isGood_2 6 rfl rfl)
theorem dX15_isGood_54 : decode cX15_isGood 54 = .ok (.ireturn, 1) := dk_172 (dk_at dksX15_isGood_2 7 rfl rfl)
theorem q141 : (Jvm.Cond.initialized "NotAtOnce$Colouring") ∈ lw_all := lw_g (lw_at lw_m1 29 rfl) rfl
theorem q321 : (Jvm.Cond.fieldLink "NotAtOnce$Colouring" (26 : Nat) "NotAtOnce$Book" "rays" "Ljava/util/ArrayList;") ∈ lw_all := lw_g (lw_at lw_m1 209 rfl) rfl
theorem q764 : (Jvm.Cond.selects "NotAtOnce$Colouring" ({ cls := "java/lang/Object", name := "getClass", desc := "()Ljava/lang/Class;" } : Jvm.MethodName) ({ cls := "java/lang/Object", name := "getClass", desc := "()Ljava/lang/Class;" } : Jvm.MethodName)) ∈ lw_all := lw_g (lw_at lw_m3 172 rfl) rfl
theorem q1342 : (Jvm.Cond.instantiable "NotAtOnce$Colouring" (6 : Nat)) ∈ lw_all := lw_g (lw_at lw_m6 30 rfl) rfl
theorem q1344 : (Jvm.Cond.instanceMethod ({ cls := "NotAtOnce$Colouring", name := "<init>", desc := "(LNotAtOnce$Book;I)V" } : Jvm.MethodName)) ∈ lw_all := lw_g (lw_at lw_m6 32 rfl) rfl
theorem q1345 : (Jvm.Cond.code ({ cls := "NotAtOnce$Colouring", name := "<init>", desc := "(LNotAtOnce$Book;I)V" } : Jvm.MethodName) prog_4_method_1_code (5 : Nat) (Option.none : Option Jvm.ClassFile.FieldType)) ∈ lw_all := lw_g (lw_at lw_m6 33 rfl) rfl
theorem q1346 : (Jvm.Cond.methodLink "NotAtOnce$Colouring" (3 : Nat) ({ cls := "java/lang/Object", name := "<init>", desc := "()V" } : Jvm.MethodName)) ∈ lw_all := lw_g (lw_at lw_m6 34 rfl) rfl
theorem q1347 : (Jvm.Cond.classLink "NotAtOnce$Colouring" (15 : Nat) "java/util/ArrayList") ∈ lw_all := lw_g (lw_at lw_m6 35 rfl) rfl
theorem q1348 : (Jvm.Cond.methodLink "NotAtOnce$Colouring" (17 : Nat) ({ cls := "java/util/ArrayList", name := "<init>", desc := "()V" } : Jvm.MethodName)) ∈ lw_all := lw_g (lw_at lw_m6 36 rfl) rfl
theorem q1349 : (Jvm.Cond.methodLink "NotAtOnce$Colouring" (31 : Nat) ({ cls := "java/util/ArrayList", name := "size", desc := "()I" } : Jvm.MethodName)) ∈ lw_all := lw_g (lw_at lw_m6 37 rfl) rfl
theorem q1350 : (Jvm.Cond.methodLinkNest "NotAtOnce$Colouring" (41 : Nat) ({ cls := "NotAtOnce", name := "has", desc := "(II)Z" } : Jvm.MethodName) "NotAtOnce") ∈ lw_tbl := lw_at lw_m6 38 rfl
theorem q1351 : (Jvm.Cond.methodLink "NotAtOnce$Colouring" (45 : Nat) ({ cls := "java/util/ArrayList", name := "get", desc := "(I)Ljava/lang/Object;" } : Jvm.MethodName)) ∈ lw_all := lw_g (lw_at lw_m6 39 rfl) rfl
theorem q1352 : (Jvm.Cond.classLink "NotAtOnce$Colouring" (49 : Nat) "NotAtOnce$Ray") ∈ lw_all := lw_g (lw_at lw_m6 40 rfl) rfl
theorem q1353 : (Jvm.Cond.methodLink "NotAtOnce$Colouring" (51 : Nat) ({ cls := "NotAtOnce$Ray", name := "isSquare", desc := "(LNotAtOnce$Ray;)Z" } : Jvm.MethodName)) ∈ lw_all := lw_g (lw_at lw_m6 41 rfl) rfl
theorem q1354 : (Jvm.Cond.methodLink "NotAtOnce$Colouring" (55 : Nat) ({ cls := "NotAtOnce$Colouring", name := "findsCorners", desc := "(II)V" } : Jvm.MethodName)) ∈ lw_all := lw_g (lw_at lw_m6 42 rfl) rfl
theorem q1355 : (Jvm.Cond.privateMethod ({ cls := "NotAtOnce$Colouring", name := "findsCorners", desc := "(II)V" } : Jvm.MethodName)) ∈ lw_tbl := lw_at lw_m6 43 rfl
theorem q1356 : (Jvm.Cond.instanceMethod ({ cls := "NotAtOnce$Colouring", name := "findsCorners", desc := "(II)V" } : Jvm.MethodName)) ∈ lw_all := lw_g (lw_at lw_m6 44 rfl) rfl
theorem q1357 : (Jvm.Cond.code ({ cls := "NotAtOnce$Colouring", name := "findsCorners", desc := "(II)V" } : Jvm.MethodName) prog_4_method_2_code (6 : Nat) (Option.none : Option Jvm.ClassFile.FieldType)) ∈ lw_all := lw_g (lw_at lw_m6 45 rfl) rfl
theorem q1358 : (Jvm.Cond.methodLink "NotAtOnce$Colouring" (59 : Nat) ({ cls := "java/lang/Intege\x72", name := "valueOf", desc := "(I)Ljava/lang/Integer;" } : Jvm.MethodName)) ∈ lw_all := lw_g (lw_at lw_m6 46 rfl) rfl
theorem q1378 : (Jvm.Cond.methodLink "NotAtOnce$Colouring" (65 : Nat) ({ cls := "java/util/ArrayList", name := "add", desc := "(Ljava/lang/Object;)Z" } : Jvm.MethodName)) ∈ lw_all := lw_g (lw_at lw_m6 66 rfl) rfl
theorem q1379 : (Jvm.Cond.fieldLink "NotAtOnce$Colouring" (35 : Nat) "NotAtOnce$Colouring" "many" "I") ∈ lw_all := lw_g (lw_at lw_m6 67 rfl) rfl
theorem q1380 : (Jvm.Cond.fieldLink "NotAtOnce$Colouring" (38 : Nat) "NotAtOnce$Colouring" "there" "I") ∈ lw_all := lw_g (lw_at lw_m6 68 rfl) rfl
theorem q1381 : (Jvm.Cond.fieldLink "NotAtOnce$Colouring" (9 : Nat) "NotAtOnce$Colouring" "square" "[I") ∈ lw_all := lw_g (lw_at lw_m6 69 rfl) rfl
theorem q1382 : (Jvm.Cond.fieldLink "NotAtOnce$Colouring" (18 : Nat) "NotAtOnce$Colouring" "corners" "Ljava/util/ArrayList;") ∈ lw_all := lw_g (lw_at lw_m6 70 rfl) rfl
theorem q1383 : (Jvm.Cond.fieldLink "NotAtOnce$Colouring" (72 : Nat) "NotAtOnce$Colouring" "colours" "I") ∈ lw_all := lw_g (lw_at lw_m6 71 rfl) rfl
theorem q1385 : (Jvm.Cond.fieldLink "NotAtOnce$Colouring" (22 : Nat) "NotAtOnce$Colouring" "ones" "I") ∈ lw_all := lw_g (lw_at lw_m6 73 rfl) rfl
theorem q1387 : (Jvm.Cond.laysFinal "NotAtOnce$Colouring" "NotAtOnce$Colouring" "many" "I") ∈ lw_all := lw_g (lw_at lw_m6 75 rfl) rfl
theorem q1388 : (Jvm.Cond.soleField "NotAtOnce$Colouring" "many") ∈ lw_all := lw_g (lw_at lw_m6 76 rfl) rfl
theorem q1389 : (Jvm.Cond.laysFinal "NotAtOnce$Colouring" "NotAtOnce$Colouring" "there" "I") ∈ lw_all := lw_g (lw_at lw_m6 77 rfl) rfl
theorem q1390 : (Jvm.Cond.soleField "NotAtOnce$Colouring" "there") ∈ lw_all := lw_g (lw_at lw_m6 78 rfl) rfl
theorem q1391 : (Jvm.Cond.laysFinal "NotAtOnce$Colouring" "NotAtOnce$Colouring" "square" "[I") ∈ lw_all := lw_g (lw_at lw_m6 79 rfl) rfl
theorem q1392 : (Jvm.Cond.soleField "NotAtOnce$Colouring" "square") ∈ lw_all := lw_g (lw_at lw_m6 80 rfl) rfl
theorem q1393 : (Jvm.Cond.laysFinal "NotAtOnce$Colouring" "NotAtOnce$Colouring" "corners" "Ljava/util/ArrayList;") ∈ lw_all := lw_g (lw_at lw_m6 81 rfl) rfl
theorem q1394 : (Jvm.Cond.soleField "NotAtOnce$Colouring" "corners") ∈ lw_all := lw_g (lw_at lw_m6 82 rfl) rfl
theorem q1395 : (Jvm.Cond.lays "NotAtOnce$Colouring" "NotAtOnce$Colouring" "colours" "I") ∈ lw_all := lw_g (lw_at lw_m6 83 rfl) rfl
theorem q1396 : (Jvm.Cond.soleField "NotAtOnce$Colouring" "colours") ∈ lw_all := lw_g (lw_at lw_m6 84 rfl) rfl
theorem q1397 : (Jvm.Cond.lays "NotAtOnce$Colouring" "NotAtOnce$Colouring" "ones" "I") ∈ lw_all := lw_g (lw_at lw_m6 85 rfl) rfl
theorem q1398 : (Jvm.Cond.soleField "NotAtOnce$Colouring" "ones") ∈ lw_all := lw_g (lw_at lw_m6 86 rfl) rfl
theorem q1399 : (Jvm.Cond.superclass "NotAtOnce$Colouring" "java/lang/Object") ∈ lw_all := lw_g (lw_at lw_m6 87 rfl) rfl
theorem q1401 : (Jvm.Cond.instanceMethod ({ cls := "NotAtOnce$Colouring", name := "corners", desc := "()I" } : Jvm.MethodName)) ∈ lw_all := lw_g (lw_at lw_m6 89 rfl) rfl
theorem q1402 : (Jvm.Cond.selects "NotAtOnce$Colouring" ({ cls := "NotAtOnce$Colouring", name := "corners", desc := "()I" } : Jvm.MethodName) ({ cls := "NotAtOnce$Colouring", name := "corners", desc := "()I" } : Jvm.MethodName)) ∈ lw_all := lw_g (lw_at lw_m6 90 rfl) rfl
theorem q1403 : (Jvm.Cond.code ({ cls := "NotAtOnce$Colouring", name := "corners", desc := "()I" } : Jvm.MethodName) prog_4_method_3_code (1 : Nat) (Option.some Jvm.ClassFile.FieldType.int)) ∈ lw_all := lw_g (lw_at lw_m6 91 rfl) rfl
theorem q1413 : (Jvm.Cond.instanceMethod ({ cls := "NotAtOnce$Colouring", name := "counts", desc := "(IIZ)V" } : Jvm.MethodName)) ∈ lw_all := lw_g (lw_at lw_m6 101 rfl) rfl
theorem q1414 : (Jvm.Cond.selects "NotAtOnce$Colouring" ({ cls := "NotAtOnce$Colouring", name := "counts", desc := "(IIZ)V" } : Jvm.MethodName) ({ cls := "NotAtOnce$Colouring", name := "counts", desc := "(IIZ)V" } : Jvm.MethodName)) ∈ lw_all := lw_g (lw_at lw_m6 102 rfl) rfl
theorem q1415 : (Jvm.Cond.code ({ cls := "NotAtOnce$Colouring", name := "counts", desc := "(IIZ)V" } : Jvm.MethodName) prog_4_method_5_code (4 : Nat) (Option.none : Option Jvm.ClassFile.FieldType)) ∈ lw_all := lw_g (lw_at lw_m6 103 rfl) rfl
theorem q1416 : (Jvm.Cond.methodLink "NotAtOnce$Colouring" (75 : Nat) ({ cls := "NotAtOnce$Colouring", name := "isGood", desc := "(II)Z" } : Jvm.MethodName)) ∈ lw_all := lw_g (lw_at lw_m6 104 rfl) rfl
theorem q1417 : (Jvm.Cond.privateMethod ({ cls := "NotAtOnce$Colouring", name := "isGood", desc := "(II)Z" } : Jvm.MethodName)) ∈ lw_tbl := lw_at lw_m6 105 rfl
theorem q1418 : (Jvm.Cond.instanceMethod ({ cls := "NotAtOnce$Colouring", name := "isGood", desc := "(II)Z" } : Jvm.MethodName)) ∈ lw_all := lw_g (lw_at lw_m6 106 rfl) rfl
theorem q1419 : (Jvm.Cond.code ({ cls := "NotAtOnce$Colouring", name := "isGood", desc := "(II)Z" } : Jvm.MethodName) prog_4_method_4_code (5 : Nat) (Option.some Jvm.ClassFile.FieldType.boolean)) ∈ lw_all := lw_g (lw_at lw_m6 107 rfl) rfl
theorem q1420 : (Jvm.Cond.classLink "NotAtOnce$Colouring" (60 : Nat) "java/lang/Intege\x72") ∈ lw_all := lw_g (lw_at lw_m6 108 rfl) rfl
theorem q1421 : (Jvm.Cond.methodLink "NotAtOnce$Colouring" (69 : Nat) ({ cls := "java/lang/Intege\x72", name := "intValue", desc := "()I" } : Jvm.MethodName)) ∈ lw_all := lw_g (lw_at lw_m6 109 rfl) rfl
theorem q1425 : (Jvm.Cond.methodLinkNest "NotAtOnce$Colouring" (78 : Nat) ({ cls := "NotAtOnce", name := "bits", desc := "(I)I" } : Jvm.MethodName) "NotAtOnce") ∈ lw_tbl := lw_at lw_m6 113 rfl
theorem q1426 : (Jvm.Cond.methodLink "NotAtOnce$Colouring" (82 : Nat) ({ cls := "java/lang/Math", name := "max", desc := "(II)I" } : Jvm.MethodName)) ∈ lw_all := lw_g (lw_at lw_m6 114 rfl) rfl
theorem q1427 : (Jvm.Cond.methodLink "NotAtOnce$Colouring" (88 : Nat) ({ cls := "NotAtOnce$Colouring", name := "counts", desc := "(IIZ)V" } : Jvm.MethodName)) ∈ lw_all := lw_g (lw_at lw_m6 115 rfl) rfl
theorem q2367 : (Jvm.Cond.castable "NotAtOnce$Colouring" "java/lang/Object") ∈ lw_tbl := lw_at lw_m10 95 rfl
theorem in_X15 : ∀ w ∈ wsX150, w ∈ lw_all := lw_in wsX150 [1387, 1389, 1391, 1393, 1395, 1397] (by decide +kernel) (by decide +kernel)
/-! NotAtOnce$Machine -/
set_option maxRecDepth 100000
def RX16 : String := "NotAtOnce$Machine"
def TX16 : u_T := fun k => match k with
  | 0 => ("NotAtOnce$Machine", "runs", "Ljava/util/ArrayList;", true)
  | 1 => ("NotAtOnce$Machine", "states", "I", true)
  | 2 => ("NotAtOnce$Machine", "tells", "[I", true)
  | _ => ("NotAtOnce$Machine", "next", "[I", true)
def tyX16 : Nat → FieldType := fun k => match k with
  | 0 => .object "java/util/ArrayList"
  | 1 => .int
  | 2 => .array .int
  | _ => .array .int
abbrev wsX160 : List Cond := u_ws RX16 TX16 4
theorem nmX16 : ∀ a, a < 4 → ∀ b, b < 4 → a ≠ b → (TX16 a).2.1 ≠ (TX16 b).2.1 := by decide +kernel
theorem tyX16_ok : ∀ k, k < 4 → parseFieldDescriptor (TX16 k).2.2.1 = some (tyX16 k) := by decide +kernel
abbrev cX16_init : ByteArray := prog_6_method_1_code
def yX16_init : MethodName := ⟨RX16, "<init>", "(Ljava/util/ArrayList;I)V"⟩
def dkwX16_init_2 : List UInt8 := [2, 79, 42, 180, 0, 15, 29, 2, 79, 132, 3, 1, 167, 255, 230, 177]
abbrev dktX16_init_2 : List UInt8 := dkwX16_init_2 ++ []
def dkwX16_init_1 : List UInt8 := [181, 0, 18, 42, 28, 181, 0, 22, 3, 62, 29, 42, 180, 0, 9, 190, 162, 0, 23, 42, 180, 0, 9, 29]
abbrev dktX16_init_1 : List UInt8 := dkwX16_init_1 ++ dktX16_init_2
def dkwX16_init_0 : List UInt8 := [42, 183, 0, 3, 42, 16, 18, 188, 10, 181, 0, 9, 42, 16, 18, 188, 10, 181, 0, 15, 42, 43]
abbrev dktX16_init_0 : List UInt8 := dkwX16_init_0 ++ dktX16_init_1
theorem dksX16_init_0 : cX16_init.data.toList.drop 0 = dktX16_init_0 := by decide +kernel
theorem dksX16_init_1 : cX16_init.data.toList.drop 22 = dktX16_init_1 := dk_seg dksX16_init_0 22 rfl rfl
theorem dksX16_init_2 : cX16_init.data.toList.drop 46 = dktX16_init_2 := dk_seg dksX16_init_1 24 rfl rfl
theorem dX16_init_0 : decode cX16_init 0 = .ok (.aload_n 0, 1) := dk_42 (dk_at dksX16_init_0 0 rfl rfl)
theorem dX16_init_1 : decode cX16_init 1 = .ok (.invokespecial 3, 3) := dk_183 0 3 (dk_at dksX16_init_0 1 rfl rfl)
theorem dX16_init_4 : decode cX16_init 4 = .ok (.aload_n 0, 1) := dk_42 (dk_at dksX16_init_0 4 rfl rfl)
theorem dX16_init_5 : decode cX16_init 5 = .ok (.bipush 18, 2) := dk_16 18 (dk_at dksX16_init_0 5 rfl rfl)
theorem dX16_init_7 : decode cX16_init 7 = .ok (.newarray .int, 2) := dk_188_10 (dk_at dksX16_init_0 7 rfl rfl)
theorem dX16_init_9 : decode cX16_init 9 = .ok (.putfield 9, 3) := dk_181 0 9 (dk_at dksX16_init_0 9 rfl rfl)
theorem dX16_init_12 : decode cX16_init 12 = .ok (.aload_n 0, 1) := dk_42 (dk_at dksX16_init_0 12 rfl rfl)
theorem dX16_init_13 : decode cX16_init 13 = .ok (.bipush 18, 2) := dk_16 18 (dk_at dksX16_init_0 13 rfl rfl)
theorem dX16_init_15 : decode cX16_init 15 = .ok (.newarray .int, 2) := dk_188_10 (dk_at dksX16_init_0 15 rfl rfl)
theorem dX16_init_17 : decode cX16_init 17 = .ok (.putfield 15, 3) := dk_181 0 15 (dk_at dksX16_init_0 17 rfl rfl)
theorem dX16_init_20 : decode cX16_init 20 = .ok (.aload_n 0, 1) := dk_42 (dk_at dksX16_init_0 20 rfl rfl)
theorem dX16_init_21 : decode cX16_init 21 = .ok (.aload_n 1, 1) := dk_43 (dk_at dksX16_init_0 21 rfl rfl)
theorem dX16_init_22 : decode cX16_init 22 = .ok (.putfield 18, 3) := dk_181 0 18 (dk_at dksX16_init_1 0 rfl rfl)
theorem dX16_init_25 : decode cX16_init 25 = .ok (.aload_n 0, 1) := dk_42 (dk_at dksX16_init_1 3 rfl rfl)
theorem dX16_init_26 : decode cX16_init 26 = .ok (.iload_n 2, 1) := dk_28 (dk_at dksX16_init_1 4 rfl rfl)
theorem dX16_init_27 : decode cX16_init 27 = .ok (.putfield 22, 3) := dk_181 0 22 (dk_at dksX16_init_1 5 rfl rfl)
theorem dX16_init_30 : decode cX16_init 30 = .ok (.iconst 0, 1) := dk_3 (dk_at dksX16_init_1 8 rfl rfl)
theorem dX16_init_31 : decode cX16_init 31 = .ok (.istore_n 3, 1) := dk_62 (dk_at dksX16_init_1 9 rfl rfl)
theorem dX16_init_32 : decode cX16_init 32 = .ok (.iload_n 3, 1) := dk_29 (dk_at dksX16_init_1 10 rfl rfl)
theorem dX16_init_33 : decode cX16_init 33 = .ok (.aload_n 0, 1) := dk_42 (dk_at dksX16_init_1 11 rfl rfl)
theorem dX16_init_34 : decode cX16_init 34 = .ok (.getfield 9, 3) := dk_180 0 9 (dk_at dksX16_init_1 12 rfl rfl)
theorem dX16_init_37 : decode cX16_init 37 = .ok (.arraylength, 1) := dk_190 (dk_at dksX16_init_1 15 rfl rfl)
theorem dX16_init_38 : decode cX16_init 38 = .ok (.if_icmp .ge 23, 3) := dk_162 0 23 (dk_at dksX16_init_1 16 rfl rfl)
theorem dX16_init_41 : decode cX16_init 41 = .ok (.aload_n 0, 1) := dk_42 (dk_at dksX16_init_1 19 rfl rfl)
theorem dX16_init_42 : decode cX16_init 42 = .ok (.getfield 9, 3) := dk_180 0 9 (dk_at dksX16_init_1 20 rfl rfl)
theorem dX16_init_45 : decode cX16_init 45 = .ok (.iload_n 3, 1) := dk_29 (dk_at dksX16_init_1 23 rfl rfl)
theorem dX16_init_46 : decode cX16_init 46 = .ok (.iconst (-1), 1) := dk_2 (dk_at dksX16_init_2 0 rfl rfl)
theorem dX16_init_47 : decode cX16_init 47 = .ok (.iastore, 1) := dk_79 (dk_at dksX16_init_2 1 rfl rfl)
theorem dX16_init_48 : decode cX16_init 48 = .ok (.aload_n 0, 1) := dk_42 (dk_at dksX16_init_2 2 rfl rfl)
theorem dX16_init_49 : decode cX16_init 49 = .ok (.getfield 15, 3) := dk_180 0 15 (dk_at dksX16_init_2 3 rfl rfl)
theorem dX16_init_52 : decode cX16_init 52 = .ok (.iload_n 3, 1) := dk_29 (dk_at dksX16_init_2 6 rfl rfl)
theorem dX16_init_53 : decode cX16_init 53 = .ok (.iconst (-1), 1) := dk_2 (dk_at dksX16_init_2 7 rfl rfl)
theorem dX16_init_54 : decode cX16_init 54 = .ok (.iastore, 1) := dk_79 (dk_at dksX16_init_2 8 rfl rfl)
theorem dX16_init_55 : decode cX16_init 55 = .ok (.iinc 3 1, 3) := dk_132 3 1 (dk_at dksX16_init_2 9 rfl rfl)
theorem dX16_init_58 : decode cX16_init 58 = .ok (.goto (-26), 3) := dk_167 255 230 (dk_at dksX16_init_2 12 rfl rfl)
theorem dX16_init_61 : decode cX16_init 61 = .ok (.return_, 1) := dk_177 (dk_at dksX16_init_2 15 rfl rfl)
abbrev cX16_goes : ByteArray := prog_6_method_2_code
def yX16_goes : MethodName := ⟨RX16, "goes", "(III)Z"⟩
def dkwX16_goes_7 : List UInt8 := [180, 0, 9, 21, 5, 2, 79, 21, 7, 172]
abbrev dktX16_goes_7 : List UInt8 := dkwX16_goes_7 ++ []
def dkwX16_goes_6 : List UInt8 := [180, 0, 15, 21, 5, 46, 182, 0, 41, 54, 7, 21, 6, 153, 0, 16, 21, 7, 154, 0, 11, 42]
abbrev dktX16_goes_6 : List UInt8 := dkwX16_goes_6 ++ dktX16_goes_7
def dkwX16_goes_5 : List UInt8 := [46, 79, 21, 6, 153, 0, 14, 42, 27, 28, 21, 5, 182, 0, 51, 167, 0, 18, 42, 27, 28, 4, 96, 42]
abbrev dktX16_goes_5 : List UInt8 := dkwX16_goes_5 ++ dktX16_goes_6
def dkwX16_goes_4 : List UInt8 := [46, 2, 160, 0, 7, 4, 167, 0, 4, 3, 54, 6, 42, 180, 0, 9, 21, 5, 25, 4, 180, 0, 48, 28]
abbrev dktX16_goes_4 : List UInt8 := dkwX16_goes_4 ++ dktX16_goes_5
def dkwX16_goes_3 : List UInt8 := [180, 0, 9, 21, 5, 46, 25, 4, 180, 0, 48, 28, 46, 159, 0, 5, 3, 172, 42, 180, 0, 9, 21, 5]
abbrev dktX16_goes_3 : List UInt8 := dkwX16_goes_3 ++ dktX16_goes_4
def dkwX16_goes_2 : List UInt8 := [104, 25, 4, 180, 0, 45, 28, 46, 96, 54, 5, 42, 180, 0, 9, 21, 5, 46, 2, 159, 0, 22, 42]
abbrev dktX16_goes_2 : List UInt8 := dkwX16_goes_2 ++ dktX16_goes_3
def dkwX16_goes_1 : List UInt8 := [58, 4, 28, 25, 4, 180, 0, 38, 160, 0, 13, 42, 27, 4, 96, 3, 3, 182, 0, 41, 172, 16, 6, 29]
abbrev dktX16_goes_1 : List UInt8 := dkwX16_goes_1 ++ dktX16_goes_2
def dkwX16_goes_0 : List UInt8 := [27, 42, 180, 0, 18, 182, 0, 26, 160, 0, 5, 4, 172, 42, 180, 0, 18, 27, 182, 0, 32, 192, 0, 36]
abbrev dktX16_goes_0 : List UInt8 := dkwX16_goes_0 ++ dktX16_goes_1
theorem dksX16_goes_0 : cX16_goes.data.toList.drop 0 = dktX16_goes_0 := by decide +kernel
theorem dksX16_goes_1 : cX16_goes.data.toList.drop 24 = dktX16_goes_1 := dk_seg dksX16_goes_0 24 rfl rfl
theorem dksX16_goes_2 : cX16_goes.data.toList.drop 48 = dktX16_goes_2 := dk_seg dksX16_goes_1 24 rfl rfl
theorem dksX16_goes_3 : cX16_goes.data.toList.drop 71 = dktX16_goes_3 := dk_seg dksX16_goes_2 23 rfl rfl
theorem dksX16_goes_4 : cX16_goes.data.toList.drop 95 = dktX16_goes_4 := dk_seg dksX16_goes_3 24 rfl rfl
theorem dksX16_goes_5 : cX16_goes.data.toList.drop 119 = dktX16_goes_5 := dk_seg dksX16_goes_4 24 rfl rfl
theorem dksX16_goes_6 : cX16_goes.data.toList.drop 143 = dktX16_goes_6 := dk_seg dksX16_goes_5 24 rfl rfl
theorem dksX16_goes_7 : cX16_goes.data.toList.drop 165 = dktX16_goes_7 := dk_seg dksX16_goes_6 22 rfl rfl
theorem dX16_goes_0 : decode cX16_goes 0 = .ok (.iload_n 1, 1) := dk_27 (dk_at dksX16_goes_0 0 rfl rfl)
theorem dX16_goes_1 : decode cX16_goes 1 = .ok (.aload_n 0, 1) := dk_42 (dk_at dksX16_goes_0 1 rfl rfl)
theorem dX16_goes_2 : decode cX16_goes 2 = .ok (.getfield 18, 3) := dk_180 0 18 (dk_at dksX16_goes_0 2 rfl rfl)
theorem dX16_goes_5 : decode cX16_goes 5 = .ok (.invokevirtual 26, 3) := dk_182 0 26 (dk_at dksX16_goes_0 5 rfl rfl)
theorem dX16_goes_8 : decode cX16_goes 8 = .ok (.if_icmp .ne 5, 3) := dk_160 0 5 (dk_at dksX16_goes_0 8 rfl rfl)
theorem dX16_goes_11 : decode cX16_goes 11 = .ok (.iconst 1, 1) := dk_4 (dk_at dksX16_goes_0 11 rfl rfl)
theorem dX16_goes_12 : decode cX16_goes 12 = .ok (.ireturn, 1) := dk_172 (dk_at dksX16_goes_0 12 rfl rfl)
theorem dX16_goes_13 : decode cX16_goes 13 = .ok (.aload_n 0, 1) := dk_42 (dk_at dksX16_goes_0 13 rfl rfl)
theorem dX16_goes_14 : decode cX16_goes 14 = .ok (.getfield 18, 3) := dk_180 0 18 (dk_at dksX16_goes_0 14 rfl rfl)
theorem dX16_goes_17 : decode cX16_goes 17 = .ok (.iload_n 1, 1) := dk_27 (dk_at dksX16_goes_0 17 rfl rfl)
theorem dX16_goes_18 : decode cX16_goes 18 = .ok (.invokevirtual 32, 3) := dk_182 0 32 (dk_at dksX16_goes_0 18 rfl rfl)
theorem dX16_goes_21 : decode cX16_goes 21 = .ok (.checkcast 36, 3) := dk_192 0 36 (dk_at dksX16_goes_0 21 rfl rfl)
theorem dX16_goes_24 : decode cX16_goes 24 = .ok (.astore 4, 2) := dk_58 4 (dk_at dksX16_goes_1 0 rfl rfl)
theorem dX16_goes_26 : decode cX16_goes 26 = .ok (.iload_n 2, 1) := dk_28 (dk_at dksX16_goes_1 2 rfl rfl)
theorem dX16_goes_27 : decode cX16_goes 27 = .ok (.aload 4, 2) := dk_25 4 (dk_at dksX16_goes_1 3 rfl rfl)
theorem dX16_goes_29 : decode cX16_goes 29 = .ok (.getfield 38, 3) := dk_180 0 38 (dk_at dksX16_goes_1 5 rfl rfl)
theorem dX16_goes_32 : decode cX16_goes 32 = .ok (.if_icmp .ne 13, 3) := dk_160 0 13 (dk_at dksX16_goes_1 8 rfl rfl)
theorem dX16_goes_35 : decode cX16_goes 35 = .ok (.aload_n 0, 1) := dk_42 (dk_at dksX16_goes_1 11 rfl rfl)
theorem dX16_goes_36 : decode cX16_goes 36 = .ok (.iload_n 1, 1) := dk_27 (dk_at dksX16_goes_1 12 rfl rfl)
theorem dX16_goes_37 : decode cX16_goes 37 = .ok (.iconst 1, 1) := dk_4 (dk_at dksX16_goes_1 13 rfl rfl)
theorem dX16_goes_38 : decode cX16_goes 38 = .ok (.iadd, 1) := dk_96 (dk_at dksX16_goes_1 14 rfl rfl)
theorem dX16_goes_39 : decode cX16_goes 39 = .ok (.iconst 0, 1) := dk_3 (dk_at dksX16_goes_1 15 rfl rfl)
theorem dX16_goes_40 : decode cX16_goes 40 = .ok (.iconst 0, 1) := dk_3 (dk_at dksX16_goes_1 16 rfl rfl)
theorem dX16_goes_41 : decode cX16_goes 41 = .ok (.invokevirtual 41, 3) := dk_182 0 41 (dk_at dksX16_goes_1 17 rfl rfl)
theorem dX16_goes_44 : decode cX16_goes 44 = .ok (.ireturn, 1) := dk_172 (dk_at dksX16_goes_1 20 rfl rfl)
theorem dX16_goes_45 : decode cX16_goes 45 = .ok (.bipush 6, 2) := dk_16 6 (dk_at dksX16_goes_1 21 rfl rfl)
theorem dX16_goes_47 : decode cX16_goes 47 = .ok (.iload_n 3, 1) := dk_29 (dk_at dksX16_goes_1 23 rfl rfl)
theorem dX16_goes_48 : decode cX16_goes 48 = .ok (.imul, 1) := dk_104 (dk_at dksX16_goes_2 0 rfl rfl)
theorem dX16_goes_49 : decode cX16_goes 49 = .ok (.aload 4, 2) := dk_25 4 (dk_at dksX16_goes_2 1 rfl rfl)
theorem dX16_goes_51 : decode cX16_goes 51 = .ok (.getfield 45, 3) := dk_180 0 45 (dk_at dksX16_goes_2 3 rfl rfl)
theorem dX16_goes_54 : decode cX16_goes 54 = .ok (.iload_n 2, 1) := dk_28 (dk_at dksX16_goes_2 6 rfl rfl)
theorem dX16_goes_55 : decode cX16_goes 55 = .ok (.iaload, 1) := dk_46 (dk_at dksX16_goes_2 7 rfl rfl)
theorem dX16_goes_56 : decode cX16_goes 56 = .ok (.iadd, 1) := dk_96 (dk_at dksX16_goes_2 8 rfl rfl)
theorem dX16_goes_57 : decode cX16_goes 57 = .ok (.istore 5, 2) := dk_54 5 (dk_at dksX16_goes_2 9 rfl rfl)
theorem dX16_goes_59 : decode cX16_goes 59 = .ok (.aload_n 0, 1) := dk_42 (dk_at dksX16_goes_2 11 rfl rfl)
theorem dX16_goes_60 : decode cX16_goes 60 = .ok (.getfield 9, 3) := dk_180 0 9 (dk_at dksX16_goes_2 12 rfl rfl)
theorem dX16_goes_63 : decode cX16_goes 63 = .ok (.iload 5, 2) := dk_21 5 (dk_at dksX16_goes_2 15 rfl rfl)
theorem dX16_goes_65 : decode cX16_goes 65 = .ok (.iaload, 1) := dk_46 (dk_at dksX16_goes_2 17 rfl rfl)
theorem dX16_goes_66 : decode cX16_goes 66 = .ok (.iconst (-1), 1) := dk_2 (dk_at dksX16_goes_2 18 rfl rfl)
theorem dX16_goes_67 : decode cX16_goes 67 = .ok (.if_icmp .eq 22, 3) := dk_159 0 22 (dk_at dksX16_goes_2 19 rfl rfl)
theorem dX16_goes_70 : decode cX16_goes 70 = .ok (.aload_n 0, 1) := dk_42 (dk_at dksX16_goes_2 22 rfl rfl)
theorem dX16_goes_71 : decode cX16_goes 71 = .ok (.getfield 9, 3) := dk_180 0 9 (dk_at dksX16_goes_3 0 rfl rfl)
theorem dX16_goes_74 : decode cX16_goes 74 = .ok (.iload 5, 2) := dk_21 5 (dk_at dksX16_goes_3 3 rfl rfl)
theorem dX16_goes_76 : decode cX16_goes 76 = .ok (.iaload, 1) := dk_46 (dk_at dksX16_goes_3 5 rfl rfl)
theorem dX16_goes_77 : decode cX16_goes 77 = .ok (.aload 4, 2) := dk_25 4 (dk_at dksX16_goes_3 6 rfl rfl)
theorem dX16_goes_79 : decode cX16_goes 79 = .ok (.getfield 48, 3) := dk_180 0 48 (dk_at dksX16_goes_3 8 rfl rfl)
theorem dX16_goes_82 : decode cX16_goes 82 = .ok (.iload_n 2, 1) := dk_28 (dk_at dksX16_goes_3 11 rfl rfl)
theorem dX16_goes_83 : decode cX16_goes 83 = .ok (.iaload, 1) := dk_46 (dk_at dksX16_goes_3 12 rfl rfl)
theorem dX16_goes_84 : decode cX16_goes 84 = .ok (.if_icmp .eq 5, 3) := dk_159 0 5 (dk_at dksX16_goes_3 13 rfl rfl)
theorem dX16_goes_87 : decode cX16_goes 87 = .ok (.iconst 0, 1) := dk_3 (dk_at dksX16_goes_3 16 rfl rfl)
theorem dX16_goes_88 : decode cX16_goes 88 = .ok (.ireturn, 1) := dk_172 (dk_at dksX16_goes_3 17 rfl rfl)
theorem dX16_goes_89 : decode cX16_goes 89 = .ok (.aload_n 0, 1) := dk_42 (dk_at dksX16_goes_3 18 rfl rfl)
theorem dX16_goes_90 : decode cX16_goes 90 = .ok (.getfield 9, 3) := dk_180 0 9 (dk_at dksX16_goes_3 19 rfl rfl)
theorem dX16_goes_93 : decode cX16_goes 93 = .ok (.iload 5, 2) := dk_21 5 (dk_at dksX16_goes_3 22 rfl rfl)
theorem dX16_goes_95 : decode cX16_goes 95 = .ok (.iaload, 1) := dk_46 (dk_at dksX16_goes_4 0 rfl rfl)
theorem dX16_goes_96 : decode cX16_goes 96 = .ok (.iconst (-1), 1) := dk_2 (dk_at dksX16_goes_4 1 rfl rfl)
theorem dX16_goes_97 : decode cX16_goes 97 = .ok (.if_icmp .ne 7, 3) := dk_160 0 7 (dk_at dksX16_goes_4 2 rfl rfl)
theorem dX16_goes_100 : decode cX16_goes 100 = .ok (.iconst 1, 1) := dk_4 (dk_at dksX16_goes_4 5 rfl rfl)
theorem dX16_goes_101 : decode cX16_goes 101 = .ok (.goto 4, 3) := dk_167 0 4 (dk_at dksX16_goes_4 6 rfl rfl)
theorem dX16_goes_104 : decode cX16_goes 104 = .ok (.iconst 0, 1) := dk_3 (dk_at dksX16_goes_4 9 rfl rfl)
theorem dX16_goes_105 : decode cX16_goes 105 = .ok (.istore 6, 2) := dk_54 6 (dk_at dksX16_goes_4 10 rfl rfl)
theorem dX16_goes_107 : decode cX16_goes 107 = .ok (.aload_n 0, 1) := dk_42 (dk_at dksX16_goes_4 12 rfl rfl)
theorem dX16_goes_108 : decode cX16_goes 108 = .ok (.getfield 9, 3) := dk_180 0 9 (dk_at dksX16_goes_4 13 rfl rfl)
theorem dX16_goes_111 : decode cX16_goes 111 = .ok (.iload 5, 2) := dk_21 5 (dk_at dksX16_goes_4 16 rfl rfl)
theorem dX16_goes_113 : decode cX16_goes 113 = .ok (.aload 4, 2) := dk_25 4 (dk_at dksX16_goes_4 18 rfl rfl)
theorem dX16_goes_115 : decode cX16_goes 115 = .ok (.getfield 48, 3) := dk_180 0 48 (dk_at dksX16_goes_4 20 rfl rfl)
theorem dX16_goes_118 : decode cX16_goes 118 = .ok (.iload_n 2, 1) := dk_28 (dk_at dksX16_goes_4 23 rfl rfl)
theorem dX16_goes_119 : decode cX16_goes 119 = .ok (.iaload, 1) := dk_46 (dk_at dksX16_goes_5 0 rfl rfl)
theorem dX16_goes_120 : decode cX16_goes 120 = .ok (.iastore, 1) := dk_79 (dk_at dksX16_goes_5 1 rfl rfl)
theorem dX16_goes_121 : decode cX16_goes 121 = .ok (.iload 6, 2) := dk_21 6 (dk_at dksX16_goes_5 2 rfl rfl)
theorem dX16_goes_123 : decode cX16_goes 123 = .ok (.ifCond .eq 14, 3) := dk_153 0 14 (dk_at dksX16_goes_5 4 rfl rfl)
theorem dX16_goes_126 : decode cX16_goes 126 = .ok (.aload_n 0, 1) := dk_42 (dk_at dksX16_goes_5 7 rfl rfl)
theorem dX16_goes_127 : decode cX16_goes 127 = .ok (.iload_n 1, 1) := dk_27 (dk_at dksX16_goes_5 8 rfl rfl)
theorem dX16_goes_128 : decode cX16_goes 128 = .ok (.iload_n 2, 1) := dk_28 (dk_at dksX16_goes_5 9 rfl rfl)
theorem dX16_goes_129 : decode cX16_goes 129 = .ok (.iload 5, 2) := dk_21 5 (dk_at dksX16_goes_5 10 rfl rfl)
theorem dX16_goes_131 : decode cX16_goes 131 = .ok (.invokevirtual 51, 3) := dk_182 0 51 (dk_at dksX16_goes_5 12 rfl rfl)
theorem dX16_goes_134 : decode cX16_goes 134 = .ok (.goto 18, 3) := dk_167 0 18 (dk_at dksX16_goes_5 15 rfl rfl)
theorem dX16_goes_137 : decode cX16_goes 137 = .ok (.aload_n 0, 1) := dk_42 (dk_at dksX16_goes_5 18 rfl rfl)
theorem dX16_goes_138 : decode cX16_goes 138 = .ok (.iload_n 1, 1) := dk_27 (dk_at dksX16_goes_5 19 rfl rfl)
theorem dX16_goes_139 : decode cX16_goes 139 = .ok (.iload_n 2, 1) := dk_28 (dk_at dksX16_goes_5 20 rfl rfl)
theorem dX16_goes_140 : decode cX16_goes 140 = .ok (.iconst 1, 1) := dk_4 (dk_at dksX16_goes_5 21 rfl rfl)
theorem dX16_goes_141 : decode cX16_goes 141 = .ok (.iadd, 1) := dk_96 (dk_at dksX16_goes_5 22 rfl rfl)
theorem dX16_goes_142 : decode cX16_goes 142 = .ok (.aload_n 0, 1) := dk_42 (dk_at dksX16_goes_5 23 rfl rfl)
theorem dX16_goes_143 : decode cX16_goes 143 = .ok (.getfield 15, 3) := dk_180 0 15 (dk_at dksX16_goes_6 0 rfl rfl)
theorem dX16_goes_146 : decode cX16_goes 146 = .ok (.iload 5, 2) := dk_21 5 (dk_at dksX16_goes_6 3 rfl rfl)
theorem dX16_goes_148 : decode cX16_goes 148 = .ok (.iaload, 1) := dk_46 (dk_at dksX16_goes_6 5 rfl rfl)
theorem dX16_goes_149 : decode cX16_goes 149 = .ok (.invokevirtual 41, 3) := dk_182 0 41 (dk_at dksX16_goes_6 6 rfl rfl)
theorem dX16_goes_152 : decode cX16_goes 152 = .ok (.istore 7, 2) := dk_54 7 (dk_at dksX16_goes_6 9 rfl rfl)
theorem dX16_goes_154 : decode cX16_goes 154 = .ok (.iload 6, 2) := dk_21 6 (dk_at dksX16_goes_6 11 rfl rfl)
theorem dX16_goes_156 : decode cX16_goes 156 = .ok (.ifCond .eq 16, 3) := dk_153 0 16 (dk_at dksX16_goes_6 13 rfl rfl)
theorem dX16_goes_159 : decode cX16_goes 159 = .ok (.iload 7, 2) := dk_21 7 (dk_at dksX16_goes_6 16 rfl rfl)
theorem dX16_goes_161 : decode cX16_goes 161 = .ok (.ifCond .ne 11, 3) := dk_154 0 11 (dk_at dksX16_goes_6 18 rfl rfl)
theorem dX16_goes_164 : decode cX16_goes 164 = .ok (.aload_n 0, 1) := dk_42 (dk_at dksX16_goes_6 21 rfl rfl)
theorem dX16_goes_165 : decode cX16_goes 165 = .ok (.getfield 9, 3) := dk_180 0 9 (dk_at dksX16_goes_7 0 rfl rfl)
theorem dX16_goes_168 : decode cX16_goes 168 = .ok (.iload 5, 2) := dk_21 5 (dk_at dksX16_goes_7 3 rfl rfl)
theorem dX16_goes_170 : decode cX16_goes 170 = .ok (.iconst (-1), 1) := dk_2 (dk_at dksX16_goes_7 5 rfl rfl)
theorem dX16_goes_171 : decode cX16_goes 171 = .ok (.iastore, 1) := dk_79 (dk_at dksX16_goes_7 6 rfl rfl)
theorem dX16_goes_172 : decode cX16_goes 172 = .ok (.iload 7, 2) := dk_21 7 (dk_at dksX16_goes_7 7 rfl rfl)
theorem dX16_goes_174 : decode cX16_goes 174 = .ok (.ireturn, 1) := dk_172 (dk_at dksX16_goes_7 9 rfl rfl)
abbrev cX16_triesAll : ByteArray := prog_6_method_3_code
def yX16_triesAll : MethodName := ⟨RX16, "triesAll", "(III)Z"⟩
def dkwX16_triesAll_2 : List UInt8 := [3, 172]
abbrev dktX16_triesAll_2 : List UInt8 := dkwX16_triesAll_2 ++ []
def dkwX16_triesAll_1 : List UInt8 := [96, 21, 4, 182, 0, 41, 153, 0, 5, 4, 172, 132, 4, 1, 167, 255, 221, 42, 180, 0, 15, 29, 2, 79]
abbrev dktX16_triesAll_1 : List UInt8 := dkwX16_triesAll_1 ++ dktX16_triesAll_2
def dkwX16_triesAll_0 : List UInt8 := [3, 54, 4, 21, 4, 42, 180, 0, 22, 162, 0, 32, 42, 180, 0, 15, 29, 21, 4, 79, 42, 27, 28, 4]
abbrev dktX16_triesAll_0 : List UInt8 := dkwX16_triesAll_0 ++ dktX16_triesAll_1
theorem dksX16_triesAll_0 : cX16_triesAll.data.toList.drop 0 = dktX16_triesAll_0 := by decide +kernel
theorem dksX16_triesAll_1 : cX16_triesAll.data.toList.drop 24 = dktX16_triesAll_1 := dk_seg dksX16_triesAll_0 24 rfl rfl
theorem dksX16_triesAll_2 : cX16_triesAll.data.toList.drop 48 = dktX16_triesAll_2 := dk_seg dksX16_triesAll_1 24 rfl rfl
theorem dX16_triesAll_0 : decode cX16_triesAll 0 = .ok (.iconst 0, 1) := dk_3 (dk_at dksX16_triesAll_0 0 rfl rfl)
theorem dX16_triesAll_1 : decode cX16_triesAll 1 = .ok (.istore 4, 2) := dk_54 4 (dk_at dksX16_triesAll_0 1 rfl rfl)
theorem dX16_triesAll_3 : decode cX16_triesAll 3 = .ok (.iload 4, 2) := dk_21 4 (dk_at dksX16_triesAll_0 3 rfl rfl)
theorem dX16_triesAll_5 : decode cX16_triesAll 5 = .ok (.aload_n 0, 1) := dk_42 (dk_at dksX16_triesAll_0 5 rfl rfl)
theorem dX16_triesAll_6 : decode cX16_triesAll 6 = .ok (.getfield 22, 3) := dk_180 0 22 (dk_at dksX16_triesAll_0 6 rfl rfl)
theorem dX16_triesAll_9 : decode cX16_triesAll 9 = .ok (.if_icmp .ge 32, 3) := dk_162 0 32 (dk_at dksX16_triesAll_0 9 rfl rfl)
theorem dX16_triesAll_12 : decode cX16_triesAll 12 = .ok (.aload_n 0, 1) := dk_42 (dk_at dksX16_triesAll_0 12 rfl rfl)
theorem dX16_triesAll_13 : decode cX16_triesAll 13 = .ok (.getfield 15, 3) := dk_180 0 15 (dk_at dksX16_triesAll_0 13 rfl rfl)
theorem dX16_triesAll_16 : decode cX16_triesAll 16 = .ok (.iload_n 3, 1) := dk_29 (dk_at dksX16_triesAll_0 16 rfl rfl)
theorem dX16_triesAll_17 : decode cX16_triesAll 17 = .ok (.iload 4, 2) := dk_21 4 (dk_at dksX16_triesAll_0 17 rfl rfl)
theorem dX16_triesAll_19 : decode cX16_triesAll 19 = .ok (.iastore, 1) := dk_79 (dk_at dksX16_triesAll_0 19 rfl rfl)
theorem dX16_triesAll_20 : decode cX16_triesAll 20 = .ok (.aload_n 0, 1) := dk_42 (dk_at dksX16_triesAll_0 20 rfl rfl)
theorem dX16_triesAll_21 : decode cX16_triesAll 21 = .ok (.iload_n 1, 1) := dk_27 (dk_at dksX16_triesAll_0 21 rfl rfl)
theorem dX16_triesAll_22 : decode cX16_triesAll 22 = .ok (.iload_n 2, 1) := dk_28 (dk_at dksX16_triesAll_0 22 rfl rfl)
theorem dX16_triesAll_23 : decode cX16_triesAll 23 = .ok (.iconst 1, 1) := dk_4 (dk_at dksX16_triesAll_0 23 rfl rfl)
theorem dX16_triesAll_24 : decode cX16_triesAll 24 = .ok (.iadd, 1) := dk_96 (dk_at dksX16_triesAll_1 0 rfl rfl)
theorem dX16_triesAll_25 : decode cX16_triesAll 25 = .ok (.iload 4, 2) := dk_21 4 (dk_at dksX16_triesAll_1 1 rfl rfl)
theorem dX16_triesAll_27 : decode cX16_triesAll 27 = .ok (.invokevirtual 41, 3) := dk_182 0 41 (dk_at dksX16_triesAll_1 3 rfl rfl)
theorem dX16_triesAll_30 : decode cX16_triesAll 30 = .ok (.ifCond .eq 5, 3) := dk_153 0 5 (dk_at dksX16_triesAll_1 6 rfl rfl)
theorem dX16_triesAll_33 : decode cX16_triesAll 33 = .ok (.iconst 1, 1) := dk_4 (dk_at dksX16_triesAll_1 9 rfl rfl)
theorem dX16_triesAll_34 : decode cX16_triesAll 34 = .ok (.ireturn, 1) := dk_172 (dk_at dksX16_triesAll_1 10 rfl rfl)
theorem dX16_triesAll_35 : decode cX16_triesAll 35 = .ok (.iinc 4 1, 3) := dk_132 4 1 (dk_at dksX16_triesAll_1 11 rfl rfl)
theorem dX16_triesAll_38 : decode cX16_triesAll 38 = .ok (.goto (-35), 3) := dk_167 255 221 (dk_at dksX16_triesAll_1 14 rfl rfl)
theorem dX16_triesAll_41 : decode cX16_triesAll 41 = .ok (.aload_n 0, 1) := dk_42 (dk_at dksX16_triesAll_1 17 rfl rfl)
theorem dX16_triesAll_42 : decode cX16_triesAll 42 = .ok (.getfield 15, 3) := dk_180 0 15 (dk_at dksX16_triesAll_1 18 rfl rfl)
theorem dX16_triesAll_45 : decode cX16_triesAll 45 = .ok (.iload_n 3, 1) := dk_29 (dk_at dksX16_triesAll_1 21 rfl rfl)
theorem dX16_triesAll_46 : decode cX16_triesAll 46 = .ok (.iconst (-1), 1) := dk_2 (dk_at dksX16_triesAll_1 22 rfl rfl)
theorem dX16_triesAll_47 : decode cX16_triesAll 47 = .ok (.iastore, 1) := dk_79 (dk_at dksX16_triesAll_1 23 rfl rfl)
theorem dX16_triesAll_48 : decode cX16_triesAll 48 = .ok (.iconst 0, 1) := dk_3 (dk_at dksX16_triesAll_2 0 rfl rfl)
theorem dX16_triesAll_49 : decode cX16_triesAll 49 = .ok (.ireturn, 1) := dk_172 (dk_at dksX16_triesAll_2 1 rfl rfl)
theorem q145 : (Jvm.Cond.initialized "NotAtOnce$Machine") ∈ lw_all := lw_g (lw_at lw_m1 33 rfl) rfl
theorem q766 : (Jvm.Cond.selects "NotAtOnce$Machine" ({ cls := "java/lang/Object", name := "getClass", desc := "()Ljava/lang/Class;" } : Jvm.MethodName) ({ cls := "java/lang/Object", name := "getClass", desc := "()Ljava/lang/Class;" } : Jvm.MethodName)) ∈ lw_all := lw_g (lw_at lw_m3 174 rfl) rfl
theorem q926 : (Jvm.Cond.fieldLink "NotAtOnce$Machine" (45 : Nat) "NotAtOnce$Run" "look" "[I") ∈ lw_all := lw_g (lw_at lw_m4 94 rfl) rfl
theorem q929 : (Jvm.Cond.fieldLink "NotAtOnce$Machine" (48 : Nat) "NotAtOnce$Run" "answe\x72" "[I") ∈ lw_all := lw_g (lw_at lw_m4 97 rfl) rfl
theorem q931 : (Jvm.Cond.fieldLink "NotAtOnce$Machine" (38 : Nat) "NotAtOnce$Run" "many" "I") ∈ lw_all := lw_g (lw_at lw_m4 99 rfl) rfl
theorem q1449 : (Jvm.Cond.instantiable "NotAtOnce$Machine" (4 : Nat)) ∈ lw_all := lw_g (lw_at lw_m6 137 rfl) rfl
theorem q1451 : (Jvm.Cond.instanceMethod ({ cls := "NotAtOnce$Machine", name := "<init>", desc := "(Ljava/util/ArrayList;I)V" } : Jvm.MethodName)) ∈ lw_all := lw_g (lw_at lw_m6 139 rfl) rfl
theorem q1452 : (Jvm.Cond.code ({ cls := "NotAtOnce$Machine", name := "<init>", desc := "(Ljava/util/ArrayList;I)V" } : Jvm.MethodName) prog_6_method_1_code (4 : Nat) (Option.none : Option Jvm.ClassFile.FieldType)) ∈ lw_all := lw_g (lw_at lw_m6 140 rfl) rfl
theorem q1453 : (Jvm.Cond.methodLink "NotAtOnce$Machine" (3 : Nat) ({ cls := "java/lang/Object", name := "<init>", desc := "()V" } : Jvm.MethodName)) ∈ lw_all := lw_g (lw_at lw_m6 141 rfl) rfl
theorem q1454 : (Jvm.Cond.fieldLink "NotAtOnce$Machine" (18 : Nat) "NotAtOnce$Machine" "runs" "Ljava/util/ArrayList;") ∈ lw_all := lw_g (lw_at lw_m6 142 rfl) rfl
theorem q1455 : (Jvm.Cond.fieldLink "NotAtOnce$Machine" (22 : Nat) "NotAtOnce$Machine" "states" "I") ∈ lw_all := lw_g (lw_at lw_m6 143 rfl) rfl
theorem q1457 : (Jvm.Cond.fieldLink "NotAtOnce$Machine" (9 : Nat) "NotAtOnce$Machine" "tells" "[I") ∈ lw_all := lw_g (lw_at lw_m6 145 rfl) rfl
theorem q1459 : (Jvm.Cond.fieldLink "NotAtOnce$Machine" (15 : Nat) "NotAtOnce$Machine" "next" "[I") ∈ lw_all := lw_g (lw_at lw_m6 147 rfl) rfl
theorem q1461 : (Jvm.Cond.laysFinal "NotAtOnce$Machine" "NotAtOnce$Machine" "runs" "Ljava/util/ArrayList;") ∈ lw_all := lw_g (lw_at lw_m6 149 rfl) rfl
theorem q1462 : (Jvm.Cond.soleField "NotAtOnce$Machine" "runs") ∈ lw_all := lw_g (lw_at lw_m6 150 rfl) rfl
theorem q1463 : (Jvm.Cond.laysFinal "NotAtOnce$Machine" "NotAtOnce$Machine" "states" "I") ∈ lw_all := lw_g (lw_at lw_m6 151 rfl) rfl
theorem q1464 : (Jvm.Cond.soleField "NotAtOnce$Machine" "states") ∈ lw_all := lw_g (lw_at lw_m6 152 rfl) rfl
theorem q1465 : (Jvm.Cond.laysFinal "NotAtOnce$Machine" "NotAtOnce$Machine" "tells" "[I") ∈ lw_all := lw_g (lw_at lw_m6 153 rfl) rfl
theorem q1466 : (Jvm.Cond.soleField "NotAtOnce$Machine" "tells") ∈ lw_all := lw_g (lw_at lw_m6 154 rfl) rfl
theorem q1467 : (Jvm.Cond.laysFinal "NotAtOnce$Machine" "NotAtOnce$Machine" "next" "[I") ∈ lw_all := lw_g (lw_at lw_m6 155 rfl) rfl
theorem q1468 : (Jvm.Cond.soleField "NotAtOnce$Machine" "next") ∈ lw_all := lw_g (lw_at lw_m6 156 rfl) rfl
theorem q1469 : (Jvm.Cond.superclass "NotAtOnce$Machine" "java/lang/Object") ∈ lw_all := lw_g (lw_at lw_m6 157 rfl) rfl
theorem q1471 : (Jvm.Cond.instanceMethod ({ cls := "NotAtOnce$Machine", name := "goes", desc := "(III)Z" } : Jvm.MethodName)) ∈ lw_all := lw_g (lw_at lw_m6 159 rfl) rfl
theorem q1472 : (Jvm.Cond.selects "NotAtOnce$Machine" ({ cls := "NotAtOnce$Machine", name := "goes", desc := "(III)Z" } : Jvm.MethodName) ({ cls := "NotAtOnce$Machine", name := "goes", desc := "(III)Z" } : Jvm.MethodName)) ∈ lw_all := lw_g (lw_at lw_m6 160 rfl) rfl
theorem q1473 : (Jvm.Cond.code ({ cls := "NotAtOnce$Machine", name := "goes", desc := "(III)Z" } : Jvm.MethodName) prog_6_method_2_code (8 : Nat) (Option.some Jvm.ClassFile.FieldType.boolean)) ∈ lw_all := lw_g (lw_at lw_m6 161 rfl) rfl
theorem q1474 : (Jvm.Cond.methodLink "NotAtOnce$Machine" (26 : Nat) ({ cls := "java/util/ArrayList", name := "size", desc := "()I" } : Jvm.MethodName)) ∈ lw_all := lw_g (lw_at lw_m6 162 rfl) rfl
theorem q1475 : (Jvm.Cond.methodLink "NotAtOnce$Machine" (32 : Nat) ({ cls := "java/util/ArrayList", name := "get", desc := "(I)Ljava/lang/Object;" } : Jvm.MethodName)) ∈ lw_all := lw_g (lw_at lw_m6 163 rfl) rfl
theorem q1476 : (Jvm.Cond.classLink "NotAtOnce$Machine" (36 : Nat) "NotAtOnce$Run") ∈ lw_all := lw_g (lw_at lw_m6 164 rfl) rfl
theorem q1477 : (Jvm.Cond.methodLink "NotAtOnce$Machine" (41 : Nat) ({ cls := "NotAtOnce$Machine", name := "goes", desc := "(III)Z" } : Jvm.MethodName)) ∈ lw_all := lw_g (lw_at lw_m6 165 rfl) rfl
theorem q1478 : (Jvm.Cond.methodLink "NotAtOnce$Machine" (51 : Nat) ({ cls := "NotAtOnce$Machine", name := "triesAll", desc := "(III)Z" } : Jvm.MethodName)) ∈ lw_all := lw_g (lw_at lw_m6 166 rfl) rfl
theorem q1479 : (Jvm.Cond.privateMethod ({ cls := "NotAtOnce$Machine", name := "triesAll", desc := "(III)Z" } : Jvm.MethodName)) ∈ lw_tbl := lw_at lw_m6 167 rfl
theorem q1480 : (Jvm.Cond.instanceMethod ({ cls := "NotAtOnce$Machine", name := "triesAll", desc := "(III)Z" } : Jvm.MethodName)) ∈ lw_all := lw_g (lw_at lw_m6 168 rfl) rfl
theorem q1481 : (Jvm.Cond.code ({ cls := "NotAtOnce$Machine", name := "triesAll", desc := "(III)Z" } : Jvm.MethodName) prog_6_method_3_code (5 : Nat) (Option.some Jvm.ClassFile.FieldType.boolean)) ∈ lw_all := lw_g (lw_at lw_m6 169 rfl) rfl
theorem q2369 : (Jvm.Cond.castable "NotAtOnce$Machine" "java/lang/Object") ∈ lw_tbl := lw_at lw_m10 97 rfl
theorem in_X16 : ∀ w ∈ wsX160, w ∈ lw_all := lw_in wsX160 [1461, 1463, 1465, 1467] (by decide +kernel) (by decide +kernel)
/-! NotAtOnce$Step -/
set_option maxRecDepth 100000
def RX17 : String := "NotAtOnce$Step"
def TX17 : u_T := fun k => match k with
  | 0 => ("NotAtOnce$Step", "told", "[I", true)
  | _ => ("NotAtOnce$Step", "table", "LNotAtOnce$Table;", true)
def tyX17 : Nat → FieldType := fun k => match k with
  | 0 => .array .int
  | _ => .object "NotAtOnce$Table"
abbrev wsX170 : List Cond := u_ws RX17 TX17 2
theorem nmX17 : ∀ a, a < 2 → ∀ b, b < 2 → a ≠ b → (TX17 a).2.1 ≠ (TX17 b).2.1 := by decide +kernel
theorem tyX17_ok : ∀ k, k < 2 → parseFieldDescriptor (TX17 k).2.2.1 = some (tyX17 k) := by decide +kernel
abbrev cX17_init : ByteArray := prog_12_method_1_code
def yX17_init : MethodName := ⟨RX17, "<init>", "(LNotAtOnce$Table;II)V"⟩
def dkwX17_init_2 : List UInt8 := [180, 0, 9, 7, 16, 254, 79, 177]
abbrev dktX17_init_2 : List UInt8 := dkwX17_init_2 ++ []
def dkwX17_init_1 : List UInt8 := [180, 0, 9, 4, 29, 79, 42, 180, 0, 9, 5, 16, 254, 79, 42, 180, 0, 9, 6, 16, 254, 79, 42]
abbrev dktX17_init_1 : List UInt8 := dkwX17_init_1 ++ dktX17_init_2
def dkwX17_init_0 : List UInt8 := [42, 183, 0, 3, 42, 8, 188, 10, 181, 0, 9, 42, 43, 181, 0, 15, 42, 180, 0, 9, 3, 28, 79, 42]
abbrev dktX17_init_0 : List UInt8 := dkwX17_init_0 ++ dktX17_init_1
theorem dksX17_init_0 : cX17_init.data.toList.drop 0 = dktX17_init_0 := by decide +kernel
theorem dksX17_init_1 : cX17_init.data.toList.drop 24 = dktX17_init_1 := dk_seg dksX17_init_0 24 rfl rfl
theorem dksX17_init_2 : cX17_init.data.toList.drop 47 = dktX17_init_2 := dk_seg dksX17_init_1 23 rfl rfl
theorem dX17_init_0 : decode cX17_init 0 = .ok (.aload_n 0, 1) := dk_42 (dk_at dksX17_init_0 0 rfl rfl)
theorem dX17_init_1 : decode cX17_init 1 = .ok (.invokespecial 3, 3) := dk_183 0 3 (dk_at dksX17_init_0 1 rfl rfl)
theorem dX17_init_4 : decode cX17_init 4 = .ok (.aload_n 0, 1) := dk_42 (dk_at dksX17_init_0 4 rfl rfl)
theorem dX17_init_5 : decode cX17_init 5 = .ok (.iconst 5, 1) := dk_8 (dk_at dksX17_init_0 5 rfl rfl)
theorem dX17_init_6 : decode cX17_init 6 = .ok (.newarray .int, 2) := dk_188_10 (dk_at dksX17_init_0 6 rfl rfl)
theorem dX17_init_8 : decode cX17_init 8 = .ok (.putfield 9, 3) := dk_181 0 9 (dk_at dksX17_init_0 8 rfl rfl)
theorem dX17_init_11 : decode cX17_init 11 = .ok (.aload_n 0, 1) := dk_42 (dk_at dksX17_init_0 11 rfl rfl)
theorem dX17_init_12 : decode cX17_init 12 = .ok (.aload_n 1, 1) := dk_43 (dk_at dksX17_init_0 12 rfl rfl)
theorem dX17_init_13 : decode cX17_init 13 = .ok (.putfield 15, 3) := dk_181 0 15 (dk_at dksX17_init_0 13 rfl rfl)
theorem dX17_init_16 : decode cX17_init 16 = .ok (.aload_n 0, 1) := dk_42 (dk_at dksX17_init_0 16 rfl rfl)
theorem dX17_init_17 : decode cX17_init 17 = .ok (.getfield 9, 3) := dk_180 0 9 (dk_at dksX17_init_0 17 rfl rfl)
theorem dX17_init_20 : decode cX17_init 20 = .ok (.iconst 0, 1) := dk_3 (dk_at dksX17_init_0 20 rfl rfl)
theorem dX17_init_21 : decode cX17_init 21 = .ok (.iload_n 2, 1) := dk_28 (dk_at dksX17_init_0 21 rfl rfl)
theorem dX17_init_22 : decode cX17_init 22 = .ok (.iastore, 1) := dk_79 (dk_at dksX17_init_0 22 rfl rfl)
theorem dX17_init_23 : decode cX17_init 23 = .ok (.aload_n 0, 1) := dk_42 (dk_at dksX17_init_0 23 rfl rfl)
theorem dX17_init_24 : decode cX17_init 24 = .ok (.getfield 9, 3) := dk_180 0 9 (dk_at dksX17_init_1 0 rfl rfl)
theorem dX17_init_27 : decode cX17_init 27 = .ok (.iconst 1, 1) := dk_4 (dk_at dksX17_init_1 3 rfl rfl)
theorem dX17_init_28 : decode cX17_init 28 = .ok (.iload_n 3, 1) := dk_29 (dk_at dksX17_init_1 4 rfl rfl)
theorem dX17_init_29 : decode cX17_init 29 = .ok (.iastore, 1) := dk_79 (dk_at dksX17_init_1 5 rfl rfl)
theorem dX17_init_30 : decode cX17_init 30 = .ok (.aload_n 0, 1) := dk_42 (dk_at dksX17_init_1 6 rfl rfl)
theorem dX17_init_31 : decode cX17_init 31 = .ok (.getfield 9, 3) := dk_180 0 9 (dk_at dksX17_init_1 7 rfl rfl)
theorem dX17_init_34 : decode cX17_init 34 = .ok (.iconst 2, 1) := dk_5 (dk_at dksX17_init_1 10 rfl rfl)
theorem dX17_init_35 : decode cX17_init 35 = .ok (.bipush (-2), 2) := dk_16 254 (dk_at dksX17_init_1 11 rfl rfl)
theorem dX17_init_37 : decode cX17_init 37 = .ok (.iastore, 1) := dk_79 (dk_at dksX17_init_1 13 rfl rfl)
theorem dX17_init_38 : decode cX17_init 38 = .ok (.aload_n 0, 1) := dk_42 (dk_at dksX17_init_1 14 rfl rfl)
theorem dX17_init_39 : decode cX17_init 39 = .ok (.getfield 9, 3) := dk_180 0 9 (dk_at dksX17_init_1 15 rfl rfl)
theorem dX17_init_42 : decode cX17_init 42 = .ok (.iconst 3, 1) := dk_6 (dk_at dksX17_init_1 18 rfl rfl)
theorem dX17_init_43 : decode cX17_init 43 = .ok (.bipush (-2), 2) := dk_16 254 (dk_at dksX17_init_1 19 rfl rfl)
theorem dX17_init_45 : decode cX17_init 45 = .ok (.iastore, 1) := dk_79 (dk_at dksX17_init_1 21 rfl rfl)
theorem dX17_init_46 : decode cX17_init 46 = .ok (.aload_n 0, 1) := dk_42 (dk_at dksX17_init_1 22 rfl rfl)
theorem dX17_init_47 : decode cX17_init 47 = .ok (.getfield 9, 3) := dk_180 0 9 (dk_at dksX17_init_2 0 rfl rfl)
theorem dX17_init_50 : decode cX17_init 50 = .ok (.iconst 4, 1) := dk_7 (dk_at dksX17_init_2 3 rfl rfl)
theorem dX17_init_51 : decode cX17_init 51 = .ok (.bipush (-2), 2) := dk_16 254 (dk_at dksX17_init_2 4 rfl rfl)
theorem dX17_init_53 : decode cX17_init 53 = .ok (.iastore, 1) := dk_79 (dk_at dksX17_init_2 6 rfl rfl)
theorem dX17_init_54 : decode cX17_init 54 = .ok (.return_, 1) := dk_177 (dk_at dksX17_init_2 7 rfl rfl)
abbrev cX17_init_2 : ByteArray := prog_12_method_2_code
def yX17_init_2 : MethodName := ⟨RX17, "<init>", "(LNotAtOnce$Table;LNotAtOnce$Step;)V"⟩
def dkwX17_init_2_1 : List UInt8 := [180, 0, 9, 3, 8, 184, 0, 19, 177]
abbrev dktX17_init_2_1 : List UInt8 := dkwX17_init_2_1 ++ []
def dkwX17_init_2_0 : List UInt8 := [42, 183, 0, 3, 42, 8, 188, 10, 181, 0, 9, 42, 43, 181, 0, 15, 44, 180, 0, 9, 3, 42]
abbrev dktX17_init_2_0 : List UInt8 := dkwX17_init_2_0 ++ dktX17_init_2_1
theorem dksX17_init_2_0 : cX17_init_2.data.toList.drop 0 = dktX17_init_2_0 := by decide +kernel
theorem dksX17_init_2_1 : cX17_init_2.data.toList.drop 22 = dktX17_init_2_1 := dk_seg dksX17_init_2_0 22 rfl rfl
theorem dX17_init_2_0 : decode cX17_init_2 0 = .ok (.aload_n 0, 1) := dk_42 (dk_at dksX17_init_2_0 0 rfl rfl)
theorem dX17_init_2_1 : decode cX17_init_2 1 = .ok (.invokespecial 3, 3) := dk_183 0 3 (dk_at dksX17_init_2_0 1 rfl rfl)
theorem dX17_init_2_4 : decode cX17_init_2 4 = .ok (.aload_n 0, 1) := dk_42 (dk_at dksX17_init_2_0 4 rfl rfl)
theorem dX17_init_2_5 : decode cX17_init_2 5 = .ok (.iconst 5, 1) := dk_8 (dk_at dksX17_init_2_0 5 rfl rfl)
theorem dX17_init_2_6 : decode cX17_init_2 6 = .ok (.newarray .int, 2) := dk_188_10 (dk_at dksX17_init_2_0 6 rfl rfl)
theorem dX17_init_2_8 : decode cX17_init_2 8 = .ok (.putfield 9, 3) := dk_181 0 9 (dk_at dksX17_init_2_0 8 rfl rfl)
theorem dX17_init_2_11 : decode cX17_init_2 11 = .ok (.aload_n 0, 1) := dk_42 (dk_at dksX17_init_2_0 11 rfl rfl)
theorem dX17_init_2_12 : decode cX17_init_2 12 = .ok (.aload_n 1, 1) := dk_43 (dk_at dksX17_init_2_0 12 rfl rfl)
theorem dX17_init_2_13 : decode cX17_init_2 13 = .ok (.putfield 15, 3) := dk_181 0 15 (dk_at dksX17_init_2_0 13 rfl rfl)
theorem dX17_init_2_16 : decode cX17_init_2 16 = .ok (.aload_n 2, 1) := dk_44 (dk_at dksX17_init_2_0 16 rfl rfl)
theorem dX17_init_2_17 : decode cX17_init_2 17 = .ok (.getfield 9, 3) := dk_180 0 9 (dk_at dksX17_init_2_0 17 rfl rfl)
theorem dX17_init_2_20 : decode cX17_init_2 20 = .ok (.iconst 0, 1) := dk_3 (dk_at dksX17_init_2_0 20 rfl rfl)
theorem dX17_init_2_21 : decode cX17_init_2 21 = .ok (.aload_n 0, 1) := dk_42 (dk_at dksX17_init_2_0 21 rfl rfl)
theorem dX17_init_2_22 : decode cX17_init_2 22 = .ok (.getfield 9, 3) := dk_180 0 9 (dk_at dksX17_init_2_1 0 rfl rfl)
theorem dX17_init_2_25 : decode cX17_init_2 25 = .ok (.iconst 0, 1) := dk_3 (dk_at dksX17_init_2_1 3 rfl rfl)
theorem dX17_init_2_26 : decode cX17_init_2 26 = .ok (.iconst 5, 1) := dk_8 (dk_at dksX17_init_2_1 4 rfl rfl)
theorem dX17_init_2_27 : decode cX17_init_2 27 = .ok (.invokestatic 19, 3) := dk_184 0 19 (dk_at dksX17_init_2_1 5 rfl rfl)
theorem dX17_init_2_30 : decode cX17_init_2 30 = .ok (.return_, 1) := dk_177 (dk_at dksX17_init_2_1 8 rfl rfl)
theorem q146 : (Jvm.Cond.initialized "NotAtOnce$Step") ∈ lw_all := lw_g (lw_at lw_m1 34 rfl) rfl
theorem q772 : (Jvm.Cond.selects "NotAtOnce$Step" ({ cls := "java/lang/Object", name := "getClass", desc := "()Ljava/lang/Class;" } : Jvm.MethodName) ({ cls := "java/lang/Object", name := "getClass", desc := "()Ljava/lang/Class;" } : Jvm.MethodName)) ∈ lw_all := lw_g (lw_at lw_m3 180 rfl) rfl
theorem q1504 : (Jvm.Cond.instantiable "NotAtOnce$Step" (2 : Nat)) ∈ lw_all := lw_g (lw_at lw_m6 192 rfl) rfl
theorem q1506 : (Jvm.Cond.instanceMethod ({ cls := "NotAtOnce$Step", name := "<init>", desc := "(LNotAtOnce$Table;II)V" } : Jvm.MethodName)) ∈ lw_all := lw_g (lw_at lw_m6 194 rfl) rfl
theorem q1507 : (Jvm.Cond.code ({ cls := "NotAtOnce$Step", name := "<init>", desc := "(LNotAtOnce$Table;II)V" } : Jvm.MethodName) prog_12_method_1_code (4 : Nat) (Option.none : Option Jvm.ClassFile.FieldType)) ∈ lw_all := lw_g (lw_at lw_m6 195 rfl) rfl
theorem q1508 : (Jvm.Cond.methodLink "NotAtOnce$Step" (3 : Nat) ({ cls := "java/lang/Object", name := "<init>", desc := "()V" } : Jvm.MethodName)) ∈ lw_all := lw_g (lw_at lw_m6 196 rfl) rfl
theorem q1509 : (Jvm.Cond.fieldLink "NotAtOnce$Step" (9 : Nat) "NotAtOnce$Step" "told" "[I") ∈ lw_all := lw_g (lw_at lw_m6 197 rfl) rfl
theorem q1511 : (Jvm.Cond.fieldLink "NotAtOnce$Step" (15 : Nat) "NotAtOnce$Step" "table" "LNotAtOnce$Table;") ∈ lw_all := lw_g (lw_at lw_m6 199 rfl) rfl
theorem q1513 : (Jvm.Cond.laysFinal "NotAtOnce$Step" "NotAtOnce$Step" "told" "[I") ∈ lw_all := lw_g (lw_at lw_m6 201 rfl) rfl
theorem q1514 : (Jvm.Cond.soleField "NotAtOnce$Step" "told") ∈ lw_all := lw_g (lw_at lw_m6 202 rfl) rfl
theorem q1515 : (Jvm.Cond.laysFinal "NotAtOnce$Step" "NotAtOnce$Step" "table" "LNotAtOnce$Table;") ∈ lw_all := lw_g (lw_at lw_m6 203 rfl) rfl
theorem q1516 : (Jvm.Cond.soleField "NotAtOnce$Step" "table") ∈ lw_all := lw_g (lw_at lw_m6 204 rfl) rfl
theorem q1517 : (Jvm.Cond.superclass "NotAtOnce$Step" "java/lang/Object") ∈ lw_all := lw_g (lw_at lw_m6 205 rfl) rfl
theorem q1586 : (Jvm.Cond.instanceMethod ({ cls := "NotAtOnce$Step", name := "<init>", desc := "(LNotAtOnce$Table;LNotAtOnce$Step;)V" } : Jvm.MethodName)) ∈ lw_all := lw_g (lw_at lw_m7 34 rfl) rfl
theorem q1587 : (Jvm.Cond.code ({ cls := "NotAtOnce$Step", name := "<init>", desc := "(LNotAtOnce$Table;LNotAtOnce$Step;)V" } : Jvm.MethodName) prog_12_method_2_code (3 : Nat) (Option.none : Option Jvm.ClassFile.FieldType)) ∈ lw_all := lw_g (lw_at lw_m7 35 rfl) rfl
theorem q1588 : (Jvm.Cond.methodLink "NotAtOnce$Step" (19 : Nat) ({ cls := "java/lang/System", name := "arraycopy", desc := "(Ljava/lang/Object;ILjava/lang/Object;II)V" } : Jvm.MethodName)) ∈ lw_all := lw_g (lw_at lw_m7 36 rfl) rfl
theorem q2370 : (Jvm.Cond.castable "NotAtOnce$Step" "java/lang/Object") ∈ lw_tbl := lw_at lw_m10 98 rfl
theorem in_X17 : ∀ w ∈ wsX170, w ∈ lw_all := lw_in wsX170 [1513, 1515] (by decide +kernel) (by decide +kernel)
