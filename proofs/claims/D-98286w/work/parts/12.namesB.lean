/-! BrushGlassLaw -/
set_option maxRecDepth 100000
def RX0 : String := "BrushGlassLaw"
abbrev cX0_led : ByteArray := method_3_code
def yX0_led : MethodName := ⟨RX0, "led", "(LBrushGlass;I[J)I"⟩
def dkwX0_led_0 : List UInt8 := [44, 3, 42, 27, 182, 0, 7, 133, 80, 167, 0, 6, 78, 4, 172, 3, 172]
abbrev dktX0_led_0 : List UInt8 := dkwX0_led_0 ++ []
theorem dksX0_led_0 : cX0_led.data.toList.drop 0 = dktX0_led_0 := by decide +kernel
theorem dX0_led_0 : decode cX0_led 0 = .ok (.aload_n 2, 1) := dk_44 (dk_at dksX0_led_0 0 rfl rfl)
theorem dX0_led_1 : decode cX0_led 1 = .ok (.iconst 0, 1) := dk_3 (dk_at dksX0_led_0 1 rfl rfl)
theorem dX0_led_2 : decode cX0_led 2 = .ok (.aload_n 0, 1) := dk_42 (dk_at dksX0_led_0 2 rfl rfl)
theorem dX0_led_3 : decode cX0_led 3 = .ok (.iload_n 1, 1) := dk_27 (dk_at dksX0_led_0 3 rfl rfl)
theorem dX0_led_4 : decode cX0_led 4 = .ok (.invokevirtual 7, 3) := dk_182 0 7 (dk_at dksX0_led_0 4 rfl rfl)
theorem dX0_led_7 : decode cX0_led 7 = .ok (.i2l, 1) := dk_133 (dk_at dksX0_led_0 7 rfl rfl)
theorem dX0_led_8 : decode cX0_led 8 = .ok (.lastore, 1) := dk_80 (dk_at dksX0_led_0 8 rfl rfl)
theorem dX0_led_9 : decode cX0_led 9 = .ok (.goto 6, 3) := dk_167 0 6 (dk_at dksX0_led_0 9 rfl rfl)
theorem dX0_led_12 : decode cX0_led 12 = .ok (.astore_n 3, 1) := dk_78 (dk_at dksX0_led_0 12 rfl rfl)
theorem dX0_led_13 : decode cX0_led 13 = .ok (.iconst 1, 1) := dk_4 (dk_at dksX0_led_0 13 rfl rfl)
theorem dX0_led_14 : decode cX0_led 14 = .ok (.ireturn, 1) := dk_172 (dk_at dksX0_led_0 14 rfl rfl)
theorem dX0_led_15 : decode cX0_led 15 = .ok (.iconst 0, 1) := dk_3 (dk_at dksX0_led_0 15 rfl rfl)
theorem dX0_led_16 : decode cX0_led 16 = .ok (.ireturn, 1) := dk_172 (dk_at dksX0_led_0 16 rfl rfl)
theorem q129 : (Jvm.Cond.initialized "BrushGlassLaw") ∈ lw_all := lw_g (lw_at lw_m1 0 rfl) rfl
theorem q165 : (Jvm.Cond.classLink "BrushGlassLaw" (8 : Nat) "BrushGlass") ∈ lw_all := lw_g (lw_at lw_m1 36 rfl) rfl
theorem q167 : (Jvm.Cond.methodLink "BrushGlassLaw" (15 : Nat) ({ cls := "BrushGlass", name := "<init>", desc := "()V" } : Jvm.MethodName)) ∈ lw_all := lw_g (lw_at lw_m1 38 rfl) rfl
theorem q614 : (Jvm.Cond.methodLink "BrushGlassLaw" (19 : Nat) ({ cls := "BrushGlass", name := "feed", desc := "(IIIII)I" } : Jvm.MethodName)) ∈ lw_all := lw_g (lw_at lw_m3 5 rfl) rfl
theorem q622 : (Jvm.Cond.methodLink "BrushGlassLaw" (24 : Nat) ({ cls := "BrushGlass", name := "glass", desc := "(I)I" } : Jvm.MethodName)) ∈ lw_all := lw_g (lw_at lw_m3 13 rfl) rfl
theorem q1278 : (Jvm.Cond.methodLink "BrushGlassLaw" (28 : Nat) ({ cls := "BrushGlass", name := "fault", desc := "()I" } : Jvm.MethodName)) ∈ lw_all := lw_g (lw_at lw_m5 189 rfl) rfl
theorem q1282 : (Jvm.Cond.methodLink "BrushGlassLaw" (33 : Nat) ({ cls := "BrushGlass", name := "where", desc := "()I" } : Jvm.MethodName)) ∈ lw_all := lw_g (lw_at lw_m5 193 rfl) rfl
theorem q1286 : (Jvm.Cond.methodLink "BrushGlassLaw" (37 : Nat) ({ cls := "BrushGlass", name := "person", desc := "(II)I" } : Jvm.MethodName)) ∈ lw_all := lw_g (lw_at lw_m5 197 rfl) rfl
theorem q1294 : (Jvm.Cond.methodLink "BrushGlassLaw" (42 : Nat) ({ cls := "BrushGlass", name := "likes", desc := "(II)I" } : Jvm.MethodName)) ∈ lw_all := lw_g (lw_at lw_m5 205 rfl) rfl
theorem q1298 : (Jvm.Cond.methodLink "BrushGlassLaw" (46 : Nat) ({ cls := "BrushGlass", name := "stay", desc := "(III)I" } : Jvm.MethodName)) ∈ lw_all := lw_g (lw_at lw_m5 209 rfl) rfl
theorem q1302 : (Jvm.Cond.methodLink "BrushGlassLaw" (51 : Nat) ({ cls := "BrushGlass", name := "here", desc := "(I)I" } : Jvm.MethodName)) ∈ lw_all := lw_g (lw_at lw_m5 213 rfl) rfl
theorem q1319 : (Jvm.Cond.methodLink "BrushGlassLaw" (55 : Nat) ({ cls := "BrushGlass", name := "most", desc := "()I" } : Jvm.MethodName)) ∈ lw_all := lw_g (lw_at lw_m5 230 rfl) rfl
theorem q1329 : (Jvm.Cond.methodLink "BrushGlassLaw" (59 : Nat) ({ cls := "BrushGlass", name := "brushes", desc := "()I" } : Jvm.MethodName)) ∈ lw_all := lw_g (lw_at lw_m6 0 rfl) rfl
theorem q1333 : (Jvm.Cond.methodLink "BrushGlassLaw" (63 : Nat) ({ cls := "BrushGlass", name := "brush", desc := "(II)I" } : Jvm.MethodName)) ∈ lw_all := lw_g (lw_at lw_m6 4 rfl) rfl
theorem q1338 : (Jvm.Cond.methodLink "BrushGlassLaw" (67 : Nat) ({ cls := "BrushGlass", name := "at", desc := "(II)I" } : Jvm.MethodName)) ∈ lw_all := lw_g (lw_at lw_m6 9 rfl) rfl
theorem q1350 : (Jvm.Cond.methodLink "BrushGlassLaw" (71 : Nat) ({ cls := "BrushGlass", name := "colour", desc := "(II)I" } : Jvm.MethodName)) ∈ lw_all := lw_g (lw_at lw_m6 21 rfl) rfl
theorem q1359 : (Jvm.Cond.methodLink "BrushGlassLaw" (75 : Nat) ({ cls := "BrushGlass", name := "whose", desc := "(II)I" } : Jvm.MethodName)) ∈ lw_all := lw_g (lw_at lw_m6 30 rfl) rfl
theorem q1367 : (Jvm.Cond.methodLink "BrushGlassLaw" (79 : Nat) ({ cls := "BrushGlass", name := "place", desc := "(II)I" } : Jvm.MethodName)) ∈ lw_all := lw_g (lw_at lw_m6 38 rfl) rfl
theorem q1375 : (Jvm.Cond.methodLink "BrushGlassLaw" (83 : Nat) ({ cls := "BrushGlass", name := "many", desc := "(I)I" } : Jvm.MethodName)) ∈ lw_all := lw_g (lw_at lw_m6 46 rfl) rfl
theorem q1383 : (Jvm.Cond.methodLink "BrushGlassLaw" (87 : Nat) ({ cls := "BrushGlass", name := "full", desc := "()I" } : Jvm.MethodName)) ∈ lw_all := lw_g (lw_at lw_m6 54 rfl) rfl
theorem q1387 : (Jvm.Cond.methodLink "BrushGlassLaw" (91 : Nat) ({ cls := "BrushGlass", name := "uses", desc := "(II)I" } : Jvm.MethodName)) ∈ lw_all := lw_g (lw_at lw_m6 58 rfl) rfl
theorem q1395 : (Jvm.Cond.methodLink "BrushGlassLaw" (95 : Nat) ({ cls := "BrushGlass", name := "wet", desc := "(II)I" } : Jvm.MethodName)) ∈ lw_all := lw_g (lw_at lw_m6 66 rfl) rfl
theorem q1399 : (Jvm.Cond.methodLink "BrushGlassLaw" (99 : Nat) ({ cls := "BrushGlass", name := "shared", desc := "(I)I" } : Jvm.MethodName)) ∈ lw_all := lw_g (lw_at lw_m6 70 rfl) rfl
theorem q1412 : (Jvm.Cond.methodLink "BrushGlassLaw" (103 : Nat) ({ cls := "BrushGlass", name := "sharedAll", desc := "()I" } : Jvm.MethodName)) ∈ lw_all := lw_g (lw_at lw_m6 83 rfl) rfl
theorem q1421 : (Jvm.Cond.methodLink "BrushGlassLaw" (107 : Nat) ({ cls := "BrushGlass", name := "suffers", desc := "(I)I" } : Jvm.MethodName)) ∈ lw_all := lw_g (lw_at lw_m6 92 rfl) rfl
theorem q1426 : (Jvm.Cond.methodLink "BrushGlassLaw" (111 : Nat) ({ cls := "BrushGlass", name := "sins", desc := "(I)I" } : Jvm.MethodName)) ∈ lw_all := lw_g (lw_at lw_m6 97 rfl) rfl
theorem q1434 : (Jvm.Cond.methodLink "BrushGlassLaw" (115 : Nat) ({ cls := "BrushGlass", name := "alike", desc := "(I)I" } : Jvm.MethodName)) ∈ lw_all := lw_g (lw_at lw_m6 105 rfl) rfl
theorem q1447 : (Jvm.Cond.methodLink "BrushGlassLaw" (119 : Nat) ({ cls := "BrushGlass", name := "alikeDays", desc := "()I" } : Jvm.MethodName)) ∈ lw_all := lw_g (lw_at lw_m6 118 rfl) rfl
theorem q1456 : (Jvm.Cond.methodLink "BrushGlassLaw" (123 : Nat) ({ cls := "BrushGlass", name := "notches", desc := "()I" } : Jvm.MethodName)) ∈ lw_all := lw_g (lw_at lw_m6 127 rfl) rfl
theorem q1461 : (Jvm.Cond.methodLink "BrushGlassLaw" (127 : Nat) ({ cls := "BrushGlass", name := "byHabit", desc := "(I)I" } : Jvm.MethodName)) ∈ lw_all := lw_g (lw_at lw_m6 132 rfl) rfl
theorem q1485 : (Jvm.Cond.methodLink "BrushGlassLaw" (131 : Nat) ({ cls := "BrushGlass", name := "bestHabit", desc := "()I" } : Jvm.MethodName)) ∈ lw_all := lw_g (lw_at lw_m6 156 rfl) rfl
theorem q1489 : (Jvm.Cond.methodLink "BrushGlassLaw" (135 : Nat) ({ cls := "BrushGlass", name := "byKind", desc := "(I)I" } : Jvm.MethodName)) ∈ lw_all := lw_g (lw_at lw_m6 160 rfl) rfl
theorem q1501 : (Jvm.Cond.methodLink "BrushGlassLaw" (139 : Nat) ({ cls := "BrushGlass", name := "bestKind", desc := "()I" } : Jvm.MethodName)) ∈ lw_all := lw_g (lw_at lw_m6 172 rfl) rfl
theorem q1505 : (Jvm.Cond.methodLink "BrushGlassLaw" (143 : Nat) ({ cls := "BrushGlass", name := "colours", desc := "()I" } : Jvm.MethodName)) ∈ lw_all := lw_g (lw_at lw_m6 176 rfl) rfl
theorem q1525 : (Jvm.Cond.methodLink "BrushGlassLaw" (147 : Nat) ({ cls := "BrushGlass", name := "colourOf", desc := "(I)I" } : Jvm.MethodName)) ∈ lw_all := lw_g (lw_at lw_m6 196 rfl) rfl
theorem q1533 : (Jvm.Cond.methodLink "BrushGlassLaw" (151 : Nat) ({ cls := "BrushGlass", name := "judge", desc := "()I" } : Jvm.MethodName)) ∈ lw_all := lw_g (lw_at lw_m6 204 rfl) rfl
theorem q1541 : (Jvm.Cond.methodLink "BrushGlassLaw" (155 : Nat) ({ cls := "BrushGlass", name := "judgeAt", desc := "(I)I" } : Jvm.MethodName)) ∈ lw_all := lw_g (lw_at lw_m6 212 rfl) rfl
theorem q1545 : (Jvm.Cond.methodLink "BrushGlassLaw" (159 : Nat) ({ cls := "BrushGlass", name := "explains", desc := "()I" } : Jvm.MethodName)) ∈ lw_all := lw_g (lw_at lw_m6 216 rfl) rfl
theorem q1563 : (Jvm.Cond.methodLink "BrushGlassLaw" (163 : Nat) ({ cls := "BrushGlass", name := "explain", desc := "(II)I" } : Jvm.MethodName)) ∈ lw_all := lw_g (lw_at lw_m6 234 rfl) rfl
theorem q1567 : (Jvm.Cond.methodLink "BrushGlassLaw" (167 : Nat) ({ cls := "BrushGlass", name := "isTrue", desc := "(I)I" } : Jvm.MethodName)) ∈ lw_all := lw_g (lw_at lw_m6 238 rfl) rfl
theorem q1575 : (Jvm.Cond.methodLink "BrushGlassLaw" (171 : Nat) ({ cls := "BrushGlass", name := "wrongOnes", desc := "()I" } : Jvm.MethodName)) ∈ lw_all := lw_g (lw_at lw_m7 6 rfl) rfl
theorem q1579 : (Jvm.Cond.methodLink "BrushGlassLaw" (175 : Nat) ({ cls := "BrushGlass", name := "pairings", desc := "(I)I" } : Jvm.MethodName)) ∈ lw_all := lw_g (lw_at lw_m7 10 rfl) rfl
theorem q1612 : (Jvm.Cond.methodLink "BrushGlassLaw" (179 : Nat) ({ cls := "BrushGlass", name := "could", desc := "(II)I" } : Jvm.MethodName)) ∈ lw_all := lw_g (lw_at lw_m7 43 rfl) rfl
theorem q1620 : (Jvm.Cond.methodLink "BrushGlassLaw" (183 : Nat) ({ cls := "BrushGlass", name := "surely", desc := "(II)I" } : Jvm.MethodName)) ∈ lw_all := lw_g (lw_at lw_m7 51 rfl) rfl
theorem q1628 : (Jvm.Cond.methodLink "BrushGlassLaw" (187 : Nat) ({ cls := "BrushGlass", name := "ask", desc := "(I)I" } : Jvm.MethodName)) ∈ lw_all := lw_g (lw_at lw_m7 59 rfl) rfl
theorem q1636 : (Jvm.Cond.methodLink "BrushGlassLaw" (191 : Nat) ({ cls := "BrushGlass", name := "drift", desc := "(IIZ)J" } : Jvm.MethodName)) ∈ lw_all := lw_g (lw_at lw_m7 67 rfl) rfl
theorem q1649 : (Jvm.Cond.methodLink "BrushGlassLaw" (196 : Nat) ({ cls := "BrushGlass", name := "move", desc := "(III)Z" } : Jvm.MethodName)) ∈ lw_all := lw_g (lw_at lw_m7 80 rfl) rfl
theorem q1670 : (Jvm.Cond.methodLink "BrushGlassLaw" (201 : Nat) ({ cls := "BrushGlass", name := "shake", desc := "()I" } : Jvm.MethodName)) ∈ lw_all := lw_g (lw_at lw_m7 101 rfl) rfl
theorem q1679 : (Jvm.Cond.methodLink "BrushGlassLaw" (205 : Nat) ({ cls := "BrushGlass", name := "kind", desc := "(II)Z" } : Jvm.MethodName)) ∈ lw_all := lw_g (lw_at lw_m7 110 rfl) rfl
theorem q1683 : (Jvm.Cond.methodLink "BrushGlassLaw" (210 : Nat) ({ cls := "BrushGlass", name := "habit", desc := "(II)Z" } : Jvm.MethodName)) ∈ lw_all := lw_g (lw_at lw_m7 114 rfl) rfl
theorem q1687 : (Jvm.Cond.methodLink "BrushGlassLaw" (214 : Nat) ({ cls := "BrushGlass", name := "keep", desc := "(II)Z" } : Jvm.MethodName)) ∈ lw_all := lw_g (lw_at lw_m7 118 rfl) rfl
theorem q1691 : (Jvm.Cond.methodLink "BrushGlassLaw" (218 : Nat) ({ cls := "BrushGlass", name := "seed", desc := "(I)Z" } : Jvm.MethodName)) ∈ lw_all := lw_g (lw_at lw_m7 122 rfl) rfl
theorem q1696 : (Jvm.Cond.methodLink "BrushGlassLaw" (223 : Nat) ({ cls := "BrushGlass", name := "undo", desc := "()Z" } : Jvm.MethodName)) ∈ lw_all := lw_g (lw_at lw_m7 127 rfl) rfl
theorem q1700 : (Jvm.Cond.methodLink "BrushGlassLaw" (228 : Nat) ({ cls := "BrushGlass", name := "mark", desc := "()I" } : Jvm.MethodName)) ∈ lw_all := lw_g (lw_at lw_m7 131 rfl) rfl
theorem q1704 : (Jvm.Cond.methodLink "BrushGlassLaw" (232 : Nat) ({ cls := "BrushGlass", name := "back", desc := "(I)Z" } : Jvm.MethodName)) ∈ lw_all := lw_g (lw_at lw_m7 135 rfl) rfl
theorem q1708 : (Jvm.Cond.methodLink "BrushGlassLaw" (245 : Nat) ({ cls := "BrushGlass", name := "size", desc := "(I)I" } : Jvm.MethodName)) ∈ lw_all := lw_g (lw_at lw_m7 139 rfl) rfl
theorem q1712 : (Jvm.Cond.methodLink "BrushGlassLaw" (249 : Nat) ({ cls := "BrushGlass", name := "trouble", desc := "()I" } : Jvm.MethodName)) ∈ lw_all := lw_g (lw_at lw_m7 143 rfl) rfl
theorem q1716 : (Jvm.Cond.methodLink "BrushGlassLaw" (236 : Nat) ({ cls := "BrushGlassLaw", name := "led", desc := "(LBrushGlass;I[J)I" } : Jvm.MethodName)) ∈ lw_all := lw_g (lw_at lw_m7 147 rfl) rfl
theorem q1717 : (Jvm.Cond.static ({ cls := "BrushGlassLaw", name := "led", desc := "(LBrushGlass;I[J)I" } : Jvm.MethodName)) ∈ lw_all := lw_g (lw_at lw_m7 148 rfl) rfl
theorem q1718 : (Jvm.Cond.codeWith ({ cls := "BrushGlassLaw", name := "led", desc := "(LBrushGlass;I[J)I" } : Jvm.MethodName) method_3_code (4 : Nat) (Option.some Jvm.ClassFile.FieldType.int) [((0 : Nat), (9 : Nat), (12 : Nat), (13 : Nat))]) ∈ lw_all := lw_g (lw_at lw_m7 149 rfl) rfl
theorem q1719 : (Jvm.Cond.classLink "BrushGlassLaw" (13 : Nat) "java/util/NoSuchElementException") ∈ lw_all := lw_g (lw_at lw_m7 150 rfl) rfl
theorem q1720 : (Jvm.Cond.methodLink "BrushGlassLaw" (7 : Nat) ({ cls := "BrushGlass", name := "led", desc := "(I)I" } : Jvm.MethodName)) ∈ lw_all := lw_g (lw_at lw_m7 151 rfl) rfl
theorem q1745 : (Jvm.Cond.classLink "BrushGlassLaw" (16 : Nat) "BrushGlassModel") ∈ lw_all := lw_g (lw_at lw_m7 176 rfl) rfl
theorem q1747 : (Jvm.Cond.methodLink "BrushGlassLaw" (18 : Nat) ({ cls := "BrushGlassModel", name := "<init>", desc := "()V" } : Jvm.MethodName)) ∈ lw_all := lw_g (lw_at lw_m7 178 rfl) rfl
theorem q1908 : (Jvm.Cond.methodLink "BrushGlassLaw" (242 : Nat) ({ cls := "BrushGlassModel", name := "thrown", desc := "()I" } : Jvm.MethodName)) ∈ lw_all := lw_g (lw_at lw_m8 99 rfl) rfl
theorem q1912 : (Jvm.Cond.methodLink "BrushGlassLaw" (23 : Nat) ({ cls := "BrushGlassModel", name := "feed", desc := "(IIIII)I" } : Jvm.MethodName)) ∈ lw_all := lw_g (lw_at lw_m8 103 rfl) rfl
theorem q1916 : (Jvm.Cond.methodLink "BrushGlassLaw" (27 : Nat) ({ cls := "BrushGlassModel", name := "glass", desc := "(I)I" } : Jvm.MethodName)) ∈ lw_all := lw_g (lw_at lw_m8 107 rfl) rfl
theorem q2165 : (Jvm.Cond.methodLink "BrushGlassLaw" (32 : Nat) ({ cls := "BrushGlassModel", name := "fault", desc := "()I" } : Jvm.MethodName)) ∈ lw_all := lw_g (lw_at lw_m9 116 rfl) rfl
theorem q2169 : (Jvm.Cond.methodLink "BrushGlassLaw" (36 : Nat) ({ cls := "BrushGlassModel", name := "where", desc := "()I" } : Jvm.MethodName)) ∈ lw_all := lw_g (lw_at lw_m9 120 rfl) rfl
theorem q2173 : (Jvm.Cond.methodLink "BrushGlassLaw" (41 : Nat) ({ cls := "BrushGlassModel", name := "person", desc := "(II)I" } : Jvm.MethodName)) ∈ lw_all := lw_g (lw_at lw_m9 124 rfl) rfl
theorem q2181 : (Jvm.Cond.methodLink "BrushGlassLaw" (45 : Nat) ({ cls := "BrushGlassModel", name := "likes", desc := "(II)I" } : Jvm.MethodName)) ∈ lw_all := lw_g (lw_at lw_m9 132 rfl) rfl
theorem q2185 : (Jvm.Cond.methodLink "BrushGlassLaw" (50 : Nat) ({ cls := "BrushGlassModel", name := "stay", desc := "(III)I" } : Jvm.MethodName)) ∈ lw_all := lw_g (lw_at lw_m9 136 rfl) rfl
theorem q2189 : (Jvm.Cond.methodLink "BrushGlassLaw" (54 : Nat) ({ cls := "BrushGlassModel", name := "here", desc := "(I)I" } : Jvm.MethodName)) ∈ lw_all := lw_g (lw_at lw_m9 140 rfl) rfl
theorem q2210 : (Jvm.Cond.methodLink "BrushGlassLaw" (58 : Nat) ({ cls := "BrushGlassModel", name := "most", desc := "()I" } : Jvm.MethodName)) ∈ lw_all := lw_g (lw_at lw_m9 161 rfl) rfl
theorem q2217 : (Jvm.Cond.methodLink "BrushGlassLaw" (62 : Nat) ({ cls := "BrushGlassModel", name := "brushes", desc := "()I" } : Jvm.MethodName)) ∈ lw_all := lw_g (lw_at lw_m9 168 rfl) rfl
theorem q2278 : (Jvm.Cond.methodLink "BrushGlassLaw" (66 : Nat) ({ cls := "BrushGlassModel", name := "brush", desc := "(II)I" } : Jvm.MethodName)) ∈ lw_all := lw_g (lw_at lw_m9 229 rfl) rfl
theorem q2282 : (Jvm.Cond.methodLink "BrushGlassLaw" (70 : Nat) ({ cls := "BrushGlassModel", name := "at", desc := "(II)I" } : Jvm.MethodName)) ∈ lw_all := lw_g (lw_at lw_m9 233 rfl) rfl
theorem q2294 : (Jvm.Cond.methodLink "BrushGlassLaw" (74 : Nat) ({ cls := "BrushGlassModel", name := "colour", desc := "(II)I" } : Jvm.MethodName)) ∈ lw_all := lw_g (lw_at lw_m10 5 rfl) rfl
theorem q2302 : (Jvm.Cond.methodLink "BrushGlassLaw" (78 : Nat) ({ cls := "BrushGlassModel", name := "whose", desc := "(II)I" } : Jvm.MethodName)) ∈ lw_all := lw_g (lw_at lw_m10 13 rfl) rfl
theorem q2306 : (Jvm.Cond.methodLink "BrushGlassLaw" (82 : Nat) ({ cls := "BrushGlassModel", name := "place", desc := "(II)I" } : Jvm.MethodName)) ∈ lw_all := lw_g (lw_at lw_m10 17 rfl) rfl
theorem q2310 : (Jvm.Cond.methodLink "BrushGlassLaw" (86 : Nat) ({ cls := "BrushGlassModel", name := "many", desc := "(I)I" } : Jvm.MethodName)) ∈ lw_all := lw_g (lw_at lw_m10 21 rfl) rfl
theorem q2318 : (Jvm.Cond.methodLink "BrushGlassLaw" (90 : Nat) ({ cls := "BrushGlassModel", name := "full", desc := "()I" } : Jvm.MethodName)) ∈ lw_all := lw_g (lw_at lw_m10 29 rfl) rfl
theorem q2322 : (Jvm.Cond.methodLink "BrushGlassLaw" (94 : Nat) ({ cls := "BrushGlassModel", name := "uses", desc := "(II)I" } : Jvm.MethodName)) ∈ lw_all := lw_g (lw_at lw_m10 33 rfl) rfl
theorem q2330 : (Jvm.Cond.methodLink "BrushGlassLaw" (98 : Nat) ({ cls := "BrushGlassModel", name := "wet", desc := "(II)I" } : Jvm.MethodName)) ∈ lw_all := lw_g (lw_at lw_m10 41 rfl) rfl
theorem q2334 : (Jvm.Cond.methodLink "BrushGlassLaw" (102 : Nat) ({ cls := "BrushGlassModel", name := "shared", desc := "(I)I" } : Jvm.MethodName)) ∈ lw_all := lw_g (lw_at lw_m10 45 rfl) rfl
theorem q2346 : (Jvm.Cond.methodLink "BrushGlassLaw" (106 : Nat) ({ cls := "BrushGlassModel", name := "sharedAll", desc := "()I" } : Jvm.MethodName)) ∈ lw_all := lw_g (lw_at lw_m10 57 rfl) rfl
theorem q2354 : (Jvm.Cond.methodLink "BrushGlassLaw" (110 : Nat) ({ cls := "BrushGlassModel", name := "suffers", desc := "(I)I" } : Jvm.MethodName)) ∈ lw_all := lw_g (lw_at lw_m10 65 rfl) rfl
theorem q2358 : (Jvm.Cond.methodLink "BrushGlassLaw" (114 : Nat) ({ cls := "BrushGlassModel", name := "sins", desc := "(I)I" } : Jvm.MethodName)) ∈ lw_all := lw_g (lw_at lw_m10 69 rfl) rfl
theorem q2366 : (Jvm.Cond.methodLink "BrushGlassLaw" (118 : Nat) ({ cls := "BrushGlassModel", name := "alike", desc := "(I)I" } : Jvm.MethodName)) ∈ lw_all := lw_g (lw_at lw_m10 77 rfl) rfl
theorem q2374 : (Jvm.Cond.methodLink "BrushGlassLaw" (122 : Nat) ({ cls := "BrushGlassModel", name := "alikeDays", desc := "()I" } : Jvm.MethodName)) ∈ lw_all := lw_g (lw_at lw_m10 85 rfl) rfl
theorem q2382 : (Jvm.Cond.methodLink "BrushGlassLaw" (126 : Nat) ({ cls := "BrushGlassModel", name := "notches", desc := "()I" } : Jvm.MethodName)) ∈ lw_all := lw_g (lw_at lw_m10 93 rfl) rfl
theorem q2386 : (Jvm.Cond.methodLink "BrushGlassLaw" (130 : Nat) ({ cls := "BrushGlassModel", name := "byHabit", desc := "(I)I" } : Jvm.MethodName)) ∈ lw_all := lw_g (lw_at lw_m10 97 rfl) rfl
theorem q2394 : (Jvm.Cond.methodLink "BrushGlassLaw" (134 : Nat) ({ cls := "BrushGlassModel", name := "bestHabit", desc := "()I" } : Jvm.MethodName)) ∈ lw_all := lw_g (lw_at lw_m10 105 rfl) rfl
theorem q2398 : (Jvm.Cond.methodLink "BrushGlassLaw" (138 : Nat) ({ cls := "BrushGlassModel", name := "byKind", desc := "(I)I" } : Jvm.MethodName)) ∈ lw_all := lw_g (lw_at lw_m10 109 rfl) rfl
theorem q2406 : (Jvm.Cond.methodLink "BrushGlassLaw" (142 : Nat) ({ cls := "BrushGlassModel", name := "bestKind", desc := "()I" } : Jvm.MethodName)) ∈ lw_all := lw_g (lw_at lw_m10 117 rfl) rfl
theorem q2410 : (Jvm.Cond.methodLink "BrushGlassLaw" (146 : Nat) ({ cls := "BrushGlassModel", name := "colours", desc := "()I" } : Jvm.MethodName)) ∈ lw_all := lw_g (lw_at lw_m10 121 rfl) rfl
theorem q2430 : (Jvm.Cond.methodLink "BrushGlassLaw" (150 : Nat) ({ cls := "BrushGlassModel", name := "colourOf", desc := "(I)I" } : Jvm.MethodName)) ∈ lw_all := lw_g (lw_at lw_m10 141 rfl) rfl
theorem q2434 : (Jvm.Cond.methodLink "BrushGlassLaw" (154 : Nat) ({ cls := "BrushGlassModel", name := "judge", desc := "()I" } : Jvm.MethodName)) ∈ lw_all := lw_g (lw_at lw_m10 145 rfl) rfl
theorem q2446 : (Jvm.Cond.methodLink "BrushGlassLaw" (158 : Nat) ({ cls := "BrushGlassModel", name := "judgeAt", desc := "(I)I" } : Jvm.MethodName)) ∈ lw_all := lw_g (lw_at lw_m10 157 rfl) rfl
theorem q2450 : (Jvm.Cond.methodLink "BrushGlassLaw" (162 : Nat) ({ cls := "BrushGlassModel", name := "explains", desc := "()I" } : Jvm.MethodName)) ∈ lw_all := lw_g (lw_at lw_m10 161 rfl) rfl
theorem q2462 : (Jvm.Cond.methodLink "BrushGlassLaw" (166 : Nat) ({ cls := "BrushGlassModel", name := "explain", desc := "(II)I" } : Jvm.MethodName)) ∈ lw_all := lw_g (lw_at lw_m10 173 rfl) rfl
theorem q2466 : (Jvm.Cond.methodLink "BrushGlassLaw" (170 : Nat) ({ cls := "BrushGlassModel", name := "isTrue", desc := "(I)I" } : Jvm.MethodName)) ∈ lw_all := lw_g (lw_at lw_m10 177 rfl) rfl
theorem q2474 : (Jvm.Cond.methodLink "BrushGlassLaw" (174 : Nat) ({ cls := "BrushGlassModel", name := "wrongOnes", desc := "()I" } : Jvm.MethodName)) ∈ lw_all := lw_g (lw_at lw_m10 185 rfl) rfl
theorem q2478 : (Jvm.Cond.methodLink "BrushGlassLaw" (178 : Nat) ({ cls := "BrushGlassModel", name := "pairings", desc := "(I)I" } : Jvm.MethodName)) ∈ lw_all := lw_g (lw_at lw_m10 189 rfl) rfl
theorem q2497 : (Jvm.Cond.methodLink "BrushGlassLaw" (182 : Nat) ({ cls := "BrushGlassModel", name := "could", desc := "(II)I" } : Jvm.MethodName)) ∈ lw_all := lw_g (lw_at lw_m10 208 rfl) rfl
theorem q2501 : (Jvm.Cond.methodLink "BrushGlassLaw" (186 : Nat) ({ cls := "BrushGlassModel", name := "surely", desc := "(II)I" } : Jvm.MethodName)) ∈ lw_all := lw_g (lw_at lw_m10 212 rfl) rfl
theorem q2505 : (Jvm.Cond.methodLink "BrushGlassLaw" (190 : Nat) ({ cls := "BrushGlassModel", name := "ask", desc := "(I)I" } : Jvm.MethodName)) ∈ lw_all := lw_g (lw_at lw_m10 216 rfl) rfl
theorem q2509 : (Jvm.Cond.methodLink "BrushGlassLaw" (195 : Nat) ({ cls := "BrushGlassModel", name := "drift", desc := "(IIZ)J" } : Jvm.MethodName)) ∈ lw_all := lw_g (lw_at lw_m10 220 rfl) rfl
theorem q2514 : (Jvm.Cond.methodLink "BrushGlassLaw" (200 : Nat) ({ cls := "BrushGlassModel", name := "move", desc := "(III)Z" } : Jvm.MethodName)) ∈ lw_all := lw_g (lw_at lw_m10 225 rfl) rfl
theorem q2534 : (Jvm.Cond.methodLink "BrushGlassLaw" (204 : Nat) ({ cls := "BrushGlassModel", name := "shake", desc := "()I" } : Jvm.MethodName)) ∈ lw_all := lw_g (lw_at lw_m11 5 rfl) rfl
theorem q2545 : (Jvm.Cond.methodLink "BrushGlassLaw" (209 : Nat) ({ cls := "BrushGlassModel", name := "kind", desc := "(II)Z" } : Jvm.MethodName)) ∈ lw_all := lw_g (lw_at lw_m11 16 rfl) rfl
theorem q2553 : (Jvm.Cond.methodLink "BrushGlassLaw" (213 : Nat) ({ cls := "BrushGlassModel", name := "habit", desc := "(II)Z" } : Jvm.MethodName)) ∈ lw_all := lw_g (lw_at lw_m11 24 rfl) rfl
theorem q2557 : (Jvm.Cond.methodLink "BrushGlassLaw" (217 : Nat) ({ cls := "BrushGlassModel", name := "keep", desc := "(II)Z" } : Jvm.MethodName)) ∈ lw_all := lw_g (lw_at lw_m11 28 rfl) rfl
theorem q2561 : (Jvm.Cond.methodLink "BrushGlassLaw" (222 : Nat) ({ cls := "BrushGlassModel", name := "seed", desc := "(I)Z" } : Jvm.MethodName)) ∈ lw_all := lw_g (lw_at lw_m11 32 rfl) rfl
theorem q2566 : (Jvm.Cond.methodLink "BrushGlassLaw" (227 : Nat) ({ cls := "BrushGlassModel", name := "undo", desc := "()Z" } : Jvm.MethodName)) ∈ lw_all := lw_g (lw_at lw_m11 37 rfl) rfl
theorem q2570 : (Jvm.Cond.methodLink "BrushGlassLaw" (231 : Nat) ({ cls := "BrushGlassModel", name := "mark", desc := "()I" } : Jvm.MethodName)) ∈ lw_all := lw_g (lw_at lw_m11 41 rfl) rfl
theorem q2574 : (Jvm.Cond.methodLink "BrushGlassLaw" (235 : Nat) ({ cls := "BrushGlassModel", name := "back", desc := "(I)Z" } : Jvm.MethodName)) ∈ lw_all := lw_g (lw_at lw_m11 45 rfl) rfl
theorem q2578 : (Jvm.Cond.methodLink "BrushGlassLaw" (241 : Nat) ({ cls := "BrushGlassModel", name := "led", desc := "(I)I" } : Jvm.MethodName)) ∈ lw_all := lw_g (lw_at lw_m11 49 rfl) rfl
theorem q2582 : (Jvm.Cond.methodLink "BrushGlassLaw" (248 : Nat) ({ cls := "BrushGlassModel", name := "size", desc := "(I)I" } : Jvm.MethodName)) ∈ lw_all := lw_g (lw_at lw_m11 53 rfl) rfl
theorem q2586 : (Jvm.Cond.methodLink "BrushGlassLaw" (252 : Nat) ({ cls := "BrushGlassModel", name := "trouble", desc := "()I" } : Jvm.MethodName)) ∈ lw_all := lw_g (lw_at lw_m11 57 rfl) rfl

/-! BrushGlass$Reader -/
set_option maxRecDepth 100000
def RX2 : String := "BrushGlass$Reader"
def TX2 : u_T := fun k => match k with
  | 0 => ("BrushGlass$Reader", "wrong", "LBrushGlass$Refused;", true)
  | 1 => ("BrushGlass$Reader", "text", "[B", true)
  | 2 => ("BrushGlass$Reader", "letters", "[C", true)
  | 3 => ("BrushGlass$Reader", "size", "I", false)
  | 4 => ("BrushGlass$Reader", "end", "I", false)
  | 5 => ("BrushGlass$Reader", "token", "I", false)
  | 6 => ("BrushGlass$Reader", "at", "I", false)
  | 7 => ("BrushGlass$Reader", "whole", "I", false)
  | 8 => ("BrushGlass$Reader", "word", "Ljava/lang/String;", false)
  | _ => ("BrushGlass$Reader", "glass", "LBrushGlass$Glass;", false)
def tyX2 : Nat → FieldType := fun k => match k with
  | 0 => .object "BrushGlass$Refused"
  | 1 => .array .byte
  | 2 => .array .char
  | 3 => .int
  | 4 => .int
  | 5 => .int
  | 6 => .int
  | 7 => .int
  | 8 => .object "java/lang/String"
  | _ => .object "BrushGlass$Glass"
abbrev wsX20 : List Cond := u_ws RX2 TX2 10
theorem nmX2 : ∀ a, a < 10 → ∀ b, b < 10 → a ≠ b → (TX2 a).2.1 ≠ (TX2 b).2.1 := by decide +kernel
theorem tyX2_ok : ∀ k, k < 10 → parseFieldDescriptor (TX2 k).2.2.1 = some (tyX2 k) := by decide +kernel
abbrev cX2_init : ByteArray := prog_16_method_1_code
def yX2_init : MethodName := ⟨RX2, "<init>", "([B)V"⟩
def dkwX2_init_1 : List UInt8 := [43, 181, 0, 22, 177]
abbrev dktX2_init_1 : List UInt8 := dkwX2_init_1 ++ []
def dkwX2_init_0 : List UInt8 := [42, 183, 0, 3, 42, 187, 0, 9, 89, 183, 0, 11, 181, 0, 12, 42, 16, 8, 188, 5, 181, 0, 18, 42]
abbrev dktX2_init_0 : List UInt8 := dkwX2_init_0 ++ dktX2_init_1
theorem dksX2_init_0 : cX2_init.data.toList.drop 0 = dktX2_init_0 := by decide +kernel
theorem dksX2_init_1 : cX2_init.data.toList.drop 24 = dktX2_init_1 := dk_seg dksX2_init_0 24 rfl rfl
theorem dX2_init_0 : decode cX2_init 0 = .ok (.aload_n 0, 1) := dk_42 (dk_at dksX2_init_0 0 rfl rfl)
theorem dX2_init_1 : decode cX2_init 1 = .ok (.invokespecial 3, 3) := dk_183 0 3 (dk_at dksX2_init_0 1 rfl rfl)
theorem dX2_init_4 : decode cX2_init 4 = .ok (.aload_n 0, 1) := dk_42 (dk_at dksX2_init_0 4 rfl rfl)
theorem dX2_init_5 : decode cX2_init 5 = .ok (.new 9, 3) := dk_187 0 9 (dk_at dksX2_init_0 5 rfl rfl)
theorem dX2_init_8 : decode cX2_init 8 = .ok (.dup, 1) := dk_89 (dk_at dksX2_init_0 8 rfl rfl)
theorem dX2_init_9 : decode cX2_init 9 = .ok (.invokespecial 11, 3) := dk_183 0 11 (dk_at dksX2_init_0 9 rfl rfl)
theorem dX2_init_12 : decode cX2_init 12 = .ok (.putfield 12, 3) := dk_181 0 12 (dk_at dksX2_init_0 12 rfl rfl)
theorem dX2_init_15 : decode cX2_init 15 = .ok (.aload_n 0, 1) := dk_42 (dk_at dksX2_init_0 15 rfl rfl)
theorem dX2_init_16 : decode cX2_init 16 = .ok (.bipush 8, 2) := dk_16 8 (dk_at dksX2_init_0 16 rfl rfl)
theorem dX2_init_18 : decode cX2_init 18 = .ok (.newarray .char, 2) := dk_188_5 (dk_at dksX2_init_0 18 rfl rfl)
theorem dX2_init_20 : decode cX2_init 20 = .ok (.putfield 18, 3) := dk_181 0 18 (dk_at dksX2_init_0 20 rfl rfl)
theorem dX2_init_23 : decode cX2_init 23 = .ok (.aload_n 0, 1) := dk_42 (dk_at dksX2_init_0 23 rfl rfl)
theorem dX2_init_24 : decode cX2_init 24 = .ok (.aload_n 1, 1) := dk_43 (dk_at dksX2_init_1 0 rfl rfl)
theorem dX2_init_25 : decode cX2_init 25 = .ok (.putfield 22, 3) := dk_181 0 22 (dk_at dksX2_init_1 1 rfl rfl)
theorem dX2_init_28 : decode cX2_init 28 = .ok (.return_, 1) := dk_177 (dk_at dksX2_init_1 4 rfl rfl)
abbrev cX2_read : ByteArray := prog_16_method_18_code
def yX2_read : MethodName := ⟨RX2, "read", "(I)LBrushGlass$Glass;"⟩
def dkwX2_read_4 : List UInt8 := [176]
abbrev dktX2_read_4 : List UInt8 := dkwX2_read_4 ++ []
def dkwX2_read_3 : List UInt8 := [153, 0, 13, 42, 180, 0, 105, 180, 0, 136, 154, 0, 10, 42, 16, 6, 182, 0, 82, 191, 42, 180, 0, 105]
abbrev dktX2_read_3 : List UInt8 := dkwX2_read_3 ++ dktX2_read_4
def dkwX2_read_2 : List UInt8 := [167, 255, 239, 42, 180, 0, 47, 153, 0, 9, 42, 4, 182, 0, 82, 191, 42, 180, 0, 105, 180, 0, 129]
abbrev dktX2_read_2 : List UInt8 := dkwX2_read_2 ++ dktX2_read_3
def dkwX2_read_1 : List UInt8 := [182, 0, 75, 42, 182, 0, 133, 42, 180, 0, 47, 16, 59, 160, 0, 14, 42, 182, 0, 75, 42, 182, 0, 133]
abbrev dktX2_read_1 : List UInt8 := dkwX2_read_1 ++ dktX2_read_2
def dkwX2_read_0 : List UInt8 := [42, 27, 181, 0, 33, 42, 3, 181, 0, 40, 42, 187, 0, 109, 89, 183, 0, 132, 181, 0, 105, 42]
abbrev dktX2_read_0 : List UInt8 := dkwX2_read_0 ++ dktX2_read_1
theorem dksX2_read_0 : cX2_read.data.toList.drop 0 = dktX2_read_0 := by decide +kernel
theorem dksX2_read_1 : cX2_read.data.toList.drop 22 = dktX2_read_1 := dk_seg dksX2_read_0 22 rfl rfl
theorem dksX2_read_2 : cX2_read.data.toList.drop 46 = dktX2_read_2 := dk_seg dksX2_read_1 24 rfl rfl
theorem dksX2_read_3 : cX2_read.data.toList.drop 69 = dktX2_read_3 := dk_seg dksX2_read_2 23 rfl rfl
theorem dksX2_read_4 : cX2_read.data.toList.drop 93 = dktX2_read_4 := dk_seg dksX2_read_3 24 rfl rfl
theorem dX2_read_0 : decode cX2_read 0 = .ok (.aload_n 0, 1) := dk_42 (dk_at dksX2_read_0 0 rfl rfl)
theorem dX2_read_1 : decode cX2_read 1 = .ok (.iload_n 1, 1) := dk_27 (dk_at dksX2_read_0 1 rfl rfl)
theorem dX2_read_2 : decode cX2_read 2 = .ok (.putfield 33, 3) := dk_181 0 33 (dk_at dksX2_read_0 2 rfl rfl)
theorem dX2_read_5 : decode cX2_read 5 = .ok (.aload_n 0, 1) := dk_42 (dk_at dksX2_read_0 5 rfl rfl)
theorem dX2_read_6 : decode cX2_read 6 = .ok (.iconst 0, 1) := dk_3 (dk_at dksX2_read_0 6 rfl rfl)
theorem dX2_read_7 : decode cX2_read 7 = .ok (.putfield 40, 3) := dk_181 0 40 (dk_at dksX2_read_0 7 rfl rfl)
theorem dX2_read_10 : decode cX2_read 10 = .ok (.aload_n 0, 1) := dk_42 (dk_at dksX2_read_0 10 rfl rfl)
theorem dX2_read_11 : decode cX2_read 11 = .ok (.new 109, 3) := dk_187 0 109 (dk_at dksX2_read_0 11 rfl rfl)
theorem dX2_read_14 : decode cX2_read 14 = .ok (.dup, 1) := dk_89 (dk_at dksX2_read_0 14 rfl rfl)
theorem dX2_read_15 : decode cX2_read 15 = .ok (.invokespecial 132, 3) := dk_183 0 132 (dk_at dksX2_read_0 15 rfl rfl)
theorem dX2_read_18 : decode cX2_read 18 = .ok (.putfield 105, 3) := dk_181 0 105 (dk_at dksX2_read_0 18 rfl rfl)
theorem dX2_read_21 : decode cX2_read 21 = .ok (.aload_n 0, 1) := dk_42 (dk_at dksX2_read_0 21 rfl rfl)
theorem dX2_read_22 : decode cX2_read 22 = .ok (.invokevirtual 75, 3) := dk_182 0 75 (dk_at dksX2_read_1 0 rfl rfl)
theorem dX2_read_25 : decode cX2_read 25 = .ok (.aload_n 0, 1) := dk_42 (dk_at dksX2_read_1 3 rfl rfl)
theorem dX2_read_26 : decode cX2_read 26 = .ok (.invokevirtual 133, 3) := dk_182 0 133 (dk_at dksX2_read_1 4 rfl rfl)
theorem dX2_read_29 : decode cX2_read 29 = .ok (.aload_n 0, 1) := dk_42 (dk_at dksX2_read_1 7 rfl rfl)
theorem dX2_read_30 : decode cX2_read 30 = .ok (.getfield 47, 3) := dk_180 0 47 (dk_at dksX2_read_1 8 rfl rfl)
theorem dX2_read_33 : decode cX2_read 33 = .ok (.bipush 59, 2) := dk_16 59 (dk_at dksX2_read_1 11 rfl rfl)
theorem dX2_read_35 : decode cX2_read 35 = .ok (.if_icmp .ne 14, 3) := dk_160 0 14 (dk_at dksX2_read_1 13 rfl rfl)
theorem dX2_read_38 : decode cX2_read 38 = .ok (.aload_n 0, 1) := dk_42 (dk_at dksX2_read_1 16 rfl rfl)
theorem dX2_read_39 : decode cX2_read 39 = .ok (.invokevirtual 75, 3) := dk_182 0 75 (dk_at dksX2_read_1 17 rfl rfl)
theorem dX2_read_42 : decode cX2_read 42 = .ok (.aload_n 0, 1) := dk_42 (dk_at dksX2_read_1 20 rfl rfl)
theorem dX2_read_43 : decode cX2_read 43 = .ok (.invokevirtual 133, 3) := dk_182 0 133 (dk_at dksX2_read_1 21 rfl rfl)
theorem dX2_read_46 : decode cX2_read 46 = .ok (.goto (-17), 3) := dk_167 255 239 (dk_at dksX2_read_2 0 rfl rfl)
theorem dX2_read_49 : decode cX2_read 49 = .ok (.aload_n 0, 1) := dk_42 (dk_at dksX2_read_2 3 rfl rfl)
theorem dX2_read_50 : decode cX2_read 50 = .ok (.getfield 47, 3) := dk_180 0 47 (dk_at dksX2_read_2 4 rfl rfl)
theorem dX2_read_53 : decode cX2_read 53 = .ok (.ifCond .eq 9, 3) := dk_153 0 9 (dk_at dksX2_read_2 7 rfl rfl)
theorem dX2_read_56 : decode cX2_read 56 = .ok (.aload_n 0, 1) := dk_42 (dk_at dksX2_read_2 10 rfl rfl)
theorem dX2_read_57 : decode cX2_read 57 = .ok (.iconst 1, 1) := dk_4 (dk_at dksX2_read_2 11 rfl rfl)
theorem dX2_read_58 : decode cX2_read 58 = .ok (.invokevirtual 82, 3) := dk_182 0 82 (dk_at dksX2_read_2 12 rfl rfl)
theorem dX2_read_61 : decode cX2_read 61 = .ok (.athrow, 1) := dk_191 (dk_at dksX2_read_2 15 rfl rfl)
theorem dX2_read_62 : decode cX2_read 62 = .ok (.aload_n 0, 1) := dk_42 (dk_at dksX2_read_2 16 rfl rfl)
theorem dX2_read_63 : decode cX2_read 63 = .ok (.getfield 105, 3) := dk_180 0 105 (dk_at dksX2_read_2 17 rfl rfl)
theorem dX2_read_66 : decode cX2_read 66 = .ok (.getfield 129, 3) := dk_180 0 129 (dk_at dksX2_read_2 20 rfl rfl)
theorem dX2_read_69 : decode cX2_read 69 = .ok (.ifCond .eq 13, 3) := dk_153 0 13 (dk_at dksX2_read_3 0 rfl rfl)
theorem dX2_read_72 : decode cX2_read 72 = .ok (.aload_n 0, 1) := dk_42 (dk_at dksX2_read_3 3 rfl rfl)
theorem dX2_read_73 : decode cX2_read 73 = .ok (.getfield 105, 3) := dk_180 0 105 (dk_at dksX2_read_3 4 rfl rfl)
theorem dX2_read_76 : decode cX2_read 76 = .ok (.getfield 136, 3) := dk_180 0 136 (dk_at dksX2_read_3 7 rfl rfl)
theorem dX2_read_79 : decode cX2_read 79 = .ok (.ifCond .ne 10, 3) := dk_154 0 10 (dk_at dksX2_read_3 10 rfl rfl)
theorem dX2_read_82 : decode cX2_read 82 = .ok (.aload_n 0, 1) := dk_42 (dk_at dksX2_read_3 13 rfl rfl)
theorem dX2_read_83 : decode cX2_read 83 = .ok (.bipush 6, 2) := dk_16 6 (dk_at dksX2_read_3 14 rfl rfl)
theorem dX2_read_85 : decode cX2_read 85 = .ok (.invokevirtual 82, 3) := dk_182 0 82 (dk_at dksX2_read_3 16 rfl rfl)
theorem dX2_read_88 : decode cX2_read 88 = .ok (.athrow, 1) := dk_191 (dk_at dksX2_read_3 19 rfl rfl)
theorem dX2_read_89 : decode cX2_read 89 = .ok (.aload_n 0, 1) := dk_42 (dk_at dksX2_read_3 20 rfl rfl)
theorem dX2_read_90 : decode cX2_read 90 = .ok (.getfield 105, 3) := dk_180 0 105 (dk_at dksX2_read_3 21 rfl rfl)
theorem dX2_read_93 : decode cX2_read 93 = .ok (.areturn, 1) := dk_176 (dk_at dksX2_read_4 0 rfl rfl)
abbrev cX2_next : ByteArray := prog_16_method_6_code
def yX2_next : MethodName := ⟨RX2, "next", "()V"⟩
def dkwX2_next_13 : List UInt8 := [181, 0, 47, 177]
abbrev dktX2_next_13 : List UInt8 := dkwX2_next_13 ++ []
def dkwX2_next_12 : List UInt8 := [181, 0, 47, 167, 0, 24, 42, 28, 16, 59, 159, 0, 9, 28, 16, 44, 160, 0, 7, 28, 167, 0, 4, 4]
abbrev dktX2_next_12 : List UInt8 := dkwX2_next_12 ++ dktX2_next_13
def dkwX2_next_11 : List UInt8 := [181, 0, 40, 167, 255, 199, 42, 42, 180, 0, 40, 27, 100, 6, 164, 0, 7, 4, 167, 0, 4, 6]
abbrev dktX2_next_11 : List UInt8 := dkwX2_next_11 ++ dktX2_next_12
def dkwX2_next_10 : List UInt8 := [42, 42, 180, 0, 40, 182, 0, 43, 96, 16, 48, 100, 181, 0, 68, 42, 89, 180, 0, 40, 4, 96]
abbrev dktX2_next_10 : List UInt8 := dkwX2_next_10 ++ dktX2_next_11
def dkwX2_next_9 : List UInt8 := [184, 0, 65, 153, 0, 49, 42, 180, 0, 40, 27, 100, 6, 162, 0, 26, 42, 16, 10, 42, 180, 0, 68, 104]
abbrev dktX2_next_9 : List UInt8 := dkwX2_next_9 ++ dktX2_next_10
def dkwX2_next_8 : List UInt8 := [184, 0, 65, 153, 0, 95, 42, 3, 181, 0, 68, 42, 27, 181, 0, 40, 42, 42, 180, 0, 40, 182, 0, 43]
abbrev dktX2_next_8 : List UInt8 := dkwX2_next_8 ++ dktX2_next_9
def dkwX2_next_7 : List UInt8 := [3, 42, 180, 0, 40, 27, 100, 183, 0, 56, 167, 0, 5, 18, 59, 181, 0, 61, 167, 0, 123, 28]
abbrev dktX2_next_7 : List UInt8 := dkwX2_next_7 ++ dktX2_next_8
def dkwX2_next_6 : List UInt8 := [167, 0, 4, 5, 181, 0, 47, 42, 42, 180, 0, 47, 5, 160, 0, 24, 187, 0, 54, 89, 42, 180, 0, 18]
abbrev dktX2_next_6 : List UInt8 := dkwX2_next_6 ++ dktX2_next_7
def dkwX2_next_5 : List UInt8 := [180, 0, 40, 4, 96, 181, 0, 40, 167, 255, 201, 42, 42, 180, 0, 40, 27, 100, 16, 8, 164, 0, 7, 4]
abbrev dktX2_next_5 : List UInt8 := dkwX2_next_5 ++ dktX2_next_6
def dkwX2_next_4 : List UInt8 := [42, 180, 0, 18, 42, 180, 0, 40, 27, 100, 42, 42, 180, 0, 40, 182, 0, 43, 146, 85, 42, 89]
abbrev dktX2_next_4 : List UInt8 := dkwX2_next_4 ++ dktX2_next_5
def dkwX2_next_3 : List UInt8 := [42, 180, 0, 40, 182, 0, 43, 184, 0, 50, 153, 0, 47, 42, 180, 0, 40, 27, 100, 16, 8, 162, 0, 23]
abbrev dktX2_next_3 : List UInt8 := dkwX2_next_3 ++ dktX2_next_4
def dkwX2_next_2 : List UInt8 := [181, 0, 47, 42, 27, 181, 0, 40, 167, 0, 251, 28, 184, 0, 50, 153, 0, 124, 42, 27, 181, 0, 40, 42]
abbrev dktX2_next_2 : List UInt8 := dkwX2_next_2 ++ dktX2_next_3
def dkwX2_next_1 : List UInt8 := [181, 0, 26, 42, 27, 4, 96, 181, 0, 40, 42, 27, 182, 0, 43, 61, 28, 2, 160, 0, 16, 42, 3]
abbrev dktX2_next_1 : List UInt8 := dkwX2_next_1 ++ dktX2_next_2
def dkwX2_next_0 : List UInt8 := [42, 180, 0, 40, 60, 42, 27, 182, 0, 43, 16, 32, 160, 0, 9, 132, 1, 1, 167, 255, 243, 42, 27]
abbrev dktX2_next_0 : List UInt8 := dkwX2_next_0 ++ dktX2_next_1
theorem dksX2_next_0 : cX2_next.data.toList.drop 0 = dktX2_next_0 := by decide +kernel
theorem dksX2_next_1 : cX2_next.data.toList.drop 23 = dktX2_next_1 := dk_seg dksX2_next_0 23 rfl rfl
theorem dksX2_next_2 : cX2_next.data.toList.drop 46 = dktX2_next_2 := dk_seg dksX2_next_1 23 rfl rfl
theorem dksX2_next_3 : cX2_next.data.toList.drop 70 = dktX2_next_3 := dk_seg dksX2_next_2 24 rfl rfl
theorem dksX2_next_4 : cX2_next.data.toList.drop 94 = dktX2_next_4 := dk_seg dksX2_next_3 24 rfl rfl
theorem dksX2_next_5 : cX2_next.data.toList.drop 116 = dktX2_next_5 := dk_seg dksX2_next_4 22 rfl rfl
theorem dksX2_next_6 : cX2_next.data.toList.drop 140 = dktX2_next_6 := dk_seg dksX2_next_5 24 rfl rfl
theorem dksX2_next_7 : cX2_next.data.toList.drop 164 = dktX2_next_7 := dk_seg dksX2_next_6 24 rfl rfl
theorem dksX2_next_8 : cX2_next.data.toList.drop 186 = dktX2_next_8 := dk_seg dksX2_next_7 22 rfl rfl
theorem dksX2_next_9 : cX2_next.data.toList.drop 210 = dktX2_next_9 := dk_seg dksX2_next_8 24 rfl rfl
theorem dksX2_next_10 : cX2_next.data.toList.drop 234 = dktX2_next_10 := dk_seg dksX2_next_9 24 rfl rfl
theorem dksX2_next_11 : cX2_next.data.toList.drop 256 = dktX2_next_11 := dk_seg dksX2_next_10 22 rfl rfl
theorem dksX2_next_12 : cX2_next.data.toList.drop 278 = dktX2_next_12 := dk_seg dksX2_next_11 22 rfl rfl
theorem dksX2_next_13 : cX2_next.data.toList.drop 302 = dktX2_next_13 := dk_seg dksX2_next_12 24 rfl rfl
theorem dX2_next_0 : decode cX2_next 0 = .ok (.aload_n 0, 1) := dk_42 (dk_at dksX2_next_0 0 rfl rfl)
theorem dX2_next_1 : decode cX2_next 1 = .ok (.getfield 40, 3) := dk_180 0 40 (dk_at dksX2_next_0 1 rfl rfl)
theorem dX2_next_4 : decode cX2_next 4 = .ok (.istore_n 1, 1) := dk_60 (dk_at dksX2_next_0 4 rfl rfl)
theorem dX2_next_5 : decode cX2_next 5 = .ok (.aload_n 0, 1) := dk_42 (dk_at dksX2_next_0 5 rfl rfl)
theorem dX2_next_6 : decode cX2_next 6 = .ok (.iload_n 1, 1) := dk_27 (dk_at dksX2_next_0 6 rfl rfl)
theorem dX2_next_7 : decode cX2_next 7 = .ok (.invokevirtual 43, 3) := dk_182 0 43 (dk_at dksX2_next_0 7 rfl rfl)
theorem dX2_next_10 : decode cX2_next 10 = .ok (.bipush 32, 2) := dk_16 32 (dk_at dksX2_next_0 10 rfl rfl)
theorem dX2_next_12 : decode cX2_next 12 = .ok (.if_icmp .ne 9, 3) := dk_160 0 9 (dk_at dksX2_next_0 12 rfl rfl)
theorem dX2_next_15 : decode cX2_next 15 = .ok (.iinc 1 1, 3) := dk_132 1 1 (dk_at dksX2_next_0 15 rfl rfl)
theorem dX2_next_18 : decode cX2_next 18 = .ok (.goto (-13), 3) := dk_167 255 243 (dk_at dksX2_next_0 18 rfl rfl)
theorem dX2_next_21 : decode cX2_next 21 = .ok (.aload_n 0, 1) := dk_42 (dk_at dksX2_next_0 21 rfl rfl)
theorem dX2_next_22 : decode cX2_next 22 = .ok (.iload_n 1, 1) := dk_27 (dk_at dksX2_next_0 22 rfl rfl)
theorem dX2_next_23 : decode cX2_next 23 = .ok (.putfield 26, 3) := dk_181 0 26 (dk_at dksX2_next_1 0 rfl rfl)
theorem dX2_next_26 : decode cX2_next 26 = .ok (.aload_n 0, 1) := dk_42 (dk_at dksX2_next_1 3 rfl rfl)
theorem dX2_next_27 : decode cX2_next 27 = .ok (.iload_n 1, 1) := dk_27 (dk_at dksX2_next_1 4 rfl rfl)
theorem dX2_next_28 : decode cX2_next 28 = .ok (.iconst 1, 1) := dk_4 (dk_at dksX2_next_1 5 rfl rfl)
theorem dX2_next_29 : decode cX2_next 29 = .ok (.iadd, 1) := dk_96 (dk_at dksX2_next_1 6 rfl rfl)
theorem dX2_next_30 : decode cX2_next 30 = .ok (.putfield 40, 3) := dk_181 0 40 (dk_at dksX2_next_1 7 rfl rfl)
theorem dX2_next_33 : decode cX2_next 33 = .ok (.aload_n 0, 1) := dk_42 (dk_at dksX2_next_1 10 rfl rfl)
theorem dX2_next_34 : decode cX2_next 34 = .ok (.iload_n 1, 1) := dk_27 (dk_at dksX2_next_1 11 rfl rfl)
theorem dX2_next_35 : decode cX2_next 35 = .ok (.invokevirtual 43, 3) := dk_182 0 43 (dk_at dksX2_next_1 12 rfl rfl)
theorem dX2_next_38 : decode cX2_next 38 = .ok (.istore_n 2, 1) := dk_61 (dk_at dksX2_next_1 15 rfl rfl)
theorem dX2_next_39 : decode cX2_next 39 = .ok (.iload_n 2, 1) := dk_28 (dk_at dksX2_next_1 16 rfl rfl)
theorem dX2_next_40 : decode cX2_next 40 = .ok (.iconst (-1), 1) := dk_2 (dk_at dksX2_next_1 17 rfl rfl)
theorem dX2_next_41 : decode cX2_next 41 = .ok (.if_icmp .ne 16, 3) := dk_160 0 16 (dk_at dksX2_next_1 18 rfl rfl)
theorem dX2_next_44 : decode cX2_next 44 = .ok (.aload_n 0, 1) := dk_42 (dk_at dksX2_next_1 21 rfl rfl)
theorem dX2_next_45 : decode cX2_next 45 = .ok (.iconst 0, 1) := dk_3 (dk_at dksX2_next_1 22 rfl rfl)
theorem dX2_next_46 : decode cX2_next 46 = .ok (.putfield 47, 3) := dk_181 0 47 (dk_at dksX2_next_2 0 rfl rfl)
theorem dX2_next_49 : decode cX2_next 49 = .ok (.aload_n 0, 1) := dk_42 (dk_at dksX2_next_2 3 rfl rfl)
theorem dX2_next_50 : decode cX2_next 50 = .ok (.iload_n 1, 1) := dk_27 (dk_at dksX2_next_2 4 rfl rfl)
theorem dX2_next_51 : decode cX2_next 51 = .ok (.putfield 40, 3) := dk_181 0 40 (dk_at dksX2_next_2 5 rfl rfl)
theorem dX2_next_54 : decode cX2_next 54 = .ok (.goto 251, 3) := dk_167 0 251 (dk_at dksX2_next_2 8 rfl rfl)
theorem dX2_next_57 : decode cX2_next 57 = .ok (.iload_n 2, 1) := dk_28 (dk_at dksX2_next_2 11 rfl rfl)
theorem dX2_next_58 : decode cX2_next 58 = .ok (.invokestatic 50, 3) := dk_184 0 50 (dk_at dksX2_next_2 12 rfl rfl)
theorem dX2_next_61 : decode cX2_next 61 = .ok (.ifCond .eq 124, 3) := dk_153 0 124 (dk_at dksX2_next_2 15 rfl rfl)
theorem dX2_next_64 : decode cX2_next 64 = .ok (.aload_n 0, 1) := dk_42 (dk_at dksX2_next_2 18 rfl rfl)
theorem dX2_next_65 : decode cX2_next 65 = .ok (.iload_n 1, 1) := dk_27 (dk_at dksX2_next_2 19 rfl rfl)
theorem dX2_next_66 : decode cX2_next 66 = .ok (.putfield 40, 3) := dk_181 0 40 (dk_at dksX2_next_2 20 rfl rfl)
theorem dX2_next_69 : decode cX2_next 69 = .ok (.aload_n 0, 1) := dk_42 (dk_at dksX2_next_2 23 rfl rfl)
theorem dX2_next_70 : decode cX2_next 70 = .ok (.aload_n 0, 1) := dk_42 (dk_at dksX2_next_3 0 rfl rfl)
theorem dX2_next_71 : decode cX2_next 71 = .ok (.getfield 40, 3) := dk_180 0 40 (dk_at dksX2_next_3 1 rfl rfl)
theorem dX2_next_74 : decode cX2_next 74 = .ok (.invokevirtual 43, 3) := dk_182 0 43 (dk_at dksX2_next_3 4 rfl rfl)
theorem dX2_next_77 : decode cX2_next 77 = .ok (.invokestatic 50, 3) := dk_184 0 50 (dk_at dksX2_next_3 7 rfl rfl)
theorem dX2_next_80 : decode cX2_next 80 = .ok (.ifCond .eq 47, 3) := dk_153 0 47 (dk_at dksX2_next_3 10 rfl rfl)
theorem dX2_next_83 : decode cX2_next 83 = .ok (.aload_n 0, 1) := dk_42 (dk_at dksX2_next_3 13 rfl rfl)
theorem dX2_next_84 : decode cX2_next 84 = .ok (.getfield 40, 3) := dk_180 0 40 (dk_at dksX2_next_3 14 rfl rfl)
theorem dX2_next_87 : decode cX2_next 87 = .ok (.iload_n 1, 1) := dk_27 (dk_at dksX2_next_3 17 rfl rfl)
theorem dX2_next_88 : decode cX2_next 88 = .ok (.isub, 1) := dk_100 (dk_at dksX2_next_3 18 rfl rfl)
theorem dX2_next_89 : decode cX2_next 89 = .ok (.bipush 8, 2) := dk_16 8 (dk_at dksX2_next_3 19 rfl rfl)
theorem dX2_next_91 : decode cX2_next 91 = .ok (.if_icmp .ge 23, 3) := dk_162 0 23 (dk_at dksX2_next_3 21 rfl rfl)
theorem dX2_next_94 : decode cX2_next 94 = .ok (.aload_n 0, 1) := dk_42 (dk_at dksX2_next_4 0 rfl rfl)
theorem dX2_next_95 : decode cX2_next 95 = .ok (.getfield 18, 3) := dk_180 0 18 (dk_at dksX2_next_4 1 rfl rfl)
theorem dX2_next_98 : decode cX2_next 98 = .ok (.aload_n 0, 1) := dk_42 (dk_at dksX2_next_4 4 rfl rfl)
theorem dX2_next_99 : decode cX2_next 99 = .ok (.getfield 40, 3) := dk_180 0 40 (dk_at dksX2_next_4 5 rfl rfl)
theorem dX2_next_102 : decode cX2_next 102 = .ok (.iload_n 1, 1) := dk_27 (dk_at dksX2_next_4 8 rfl rfl)
theorem dX2_next_103 : decode cX2_next 103 = .ok (.isub, 1) := dk_100 (dk_at dksX2_next_4 9 rfl rfl)
theorem dX2_next_104 : decode cX2_next 104 = .ok (.aload_n 0, 1) := dk_42 (dk_at dksX2_next_4 10 rfl rfl)
theorem dX2_next_105 : decode cX2_next 105 = .ok (.aload_n 0, 1) := dk_42 (dk_at dksX2_next_4 11 rfl rfl)
theorem dX2_next_106 : decode cX2_next 106 = .ok (.getfield 40, 3) := dk_180 0 40 (dk_at dksX2_next_4 12 rfl rfl)
theorem dX2_next_109 : decode cX2_next 109 = .ok (.invokevirtual 43, 3) := dk_182 0 43 (dk_at dksX2_next_4 15 rfl rfl)
theorem dX2_next_112 : decode cX2_next 112 = .ok (.i2c, 1) := dk_146 (dk_at dksX2_next_4 18 rfl rfl)
theorem dX2_next_113 : decode cX2_next 113 = .ok (.castore, 1) := dk_85 (dk_at dksX2_next_4 19 rfl rfl)
theorem dX2_next_114 : decode cX2_next 114 = .ok (.aload_n 0, 1) := dk_42 (dk_at dksX2_next_4 20 rfl rfl)
theorem dX2_next_115 : decode cX2_next 115 = .ok (.dup, 1) := dk_89 (dk_at dksX2_next_4 21 rfl rfl)
theorem dX2_next_116 : decode cX2_next 116 = .ok (.getfield 40, 3) := dk_180 0 40 (dk_at dksX2_next_5 0 rfl rfl)
theorem dX2_next_119 : decode cX2_next 119 = .ok (.iconst 1, 1) := dk_4 (dk_at dksX2_next_5 3 rfl rfl)
theorem dX2_next_120 : decode cX2_next 120 = .ok (.iadd, 1) := dk_96 (dk_at dksX2_next_5 4 rfl rfl)
theorem dX2_next_121 : decode cX2_next 121 = .ok (.putfield 40, 3) := dk_181 0 40 (dk_at dksX2_next_5 5 rfl rfl)
theorem dX2_next_124 : decode cX2_next 124 = .ok (.goto (-55), 3) := dk_167 255 201 (dk_at dksX2_next_5 8 rfl rfl)
theorem dX2_next_127 : decode cX2_next 127 = .ok (.aload_n 0, 1) := dk_42 (dk_at dksX2_next_5 11 rfl rfl)
theorem dX2_next_128 : decode cX2_next 128 = .ok (.aload_n 0, 1) := dk_42 (dk_at dksX2_next_5 12 rfl rfl)
theorem dX2_next_129 : decode cX2_next 129 = .ok (.getfield 40, 3) := dk_180 0 40 (dk_at dksX2_next_5 13 rfl rfl)
theorem dX2_next_132 : decode cX2_next 132 = .ok (.iload_n 1, 1) := dk_27 (dk_at dksX2_next_5 16 rfl rfl)
theorem dX2_next_133 : decode cX2_next 133 = .ok (.isub, 1) := dk_100 (dk_at dksX2_next_5 17 rfl rfl)
theorem dX2_next_134 : decode cX2_next 134 = .ok (.bipush 8, 2) := dk_16 8 (dk_at dksX2_next_5 18 rfl rfl)
theorem dX2_next_136 : decode cX2_next 136 = .ok (.if_icmp .le 7, 3) := dk_164 0 7 (dk_at dksX2_next_5 20 rfl rfl)
theorem dX2_next_139 : decode cX2_next 139 = .ok (.iconst 1, 1) := dk_4 (dk_at dksX2_next_5 23 rfl rfl)
theorem dX2_next_140 : decode cX2_next 140 = .ok (.goto 4, 3) := dk_167 0 4 (dk_at dksX2_next_6 0 rfl rfl)
theorem dX2_next_143 : decode cX2_next 143 = .ok (.iconst 2, 1) := dk_5 (dk_at dksX2_next_6 3 rfl rfl)
theorem dX2_next_144 : decode cX2_next 144 = .ok (.putfield 47, 3) := dk_181 0 47 (dk_at dksX2_next_6 4 rfl rfl)
theorem dX2_next_147 : decode cX2_next 147 = .ok (.aload_n 0, 1) := dk_42 (dk_at dksX2_next_6 7 rfl rfl)
theorem dX2_next_148 : decode cX2_next 148 = .ok (.aload_n 0, 1) := dk_42 (dk_at dksX2_next_6 8 rfl rfl)
theorem dX2_next_149 : decode cX2_next 149 = .ok (.getfield 47, 3) := dk_180 0 47 (dk_at dksX2_next_6 9 rfl rfl)
theorem dX2_next_152 : decode cX2_next 152 = .ok (.iconst 2, 1) := dk_5 (dk_at dksX2_next_6 12 rfl rfl)
theorem dX2_next_153 : decode cX2_next 153 = .ok (.if_icmp .ne 24, 3) := dk_160 0 24 (dk_at dksX2_next_6 13 rfl rfl)
theorem dX2_next_156 : decode cX2_next 156 = .ok (.new 54, 3) := dk_187 0 54 (dk_at dksX2_next_6 16 rfl rfl)
theorem dX2_next_159 : decode cX2_next 159 = .ok (.dup, 1) := dk_89 (dk_at dksX2_next_6 19 rfl rfl)
theorem dX2_next_160 : decode cX2_next 160 = .ok (.aload_n 0, 1) := dk_42 (dk_at dksX2_next_6 20 rfl rfl)
theorem dX2_next_161 : decode cX2_next 161 = .ok (.getfield 18, 3) := dk_180 0 18 (dk_at dksX2_next_6 21 rfl rfl)
theorem dX2_next_164 : decode cX2_next 164 = .ok (.iconst 0, 1) := dk_3 (dk_at dksX2_next_7 0 rfl rfl)
theorem dX2_next_165 : decode cX2_next 165 = .ok (.aload_n 0, 1) := dk_42 (dk_at dksX2_next_7 1 rfl rfl)
theorem dX2_next_166 : decode cX2_next 166 = .ok (.getfield 40, 3) := dk_180 0 40 (dk_at dksX2_next_7 2 rfl rfl)
theorem dX2_next_169 : decode cX2_next 169 = .ok (.iload_n 1, 1) := dk_27 (dk_at dksX2_next_7 5 rfl rfl)
theorem dX2_next_170 : decode cX2_next 170 = .ok (.isub, 1) := dk_100 (dk_at dksX2_next_7 6 rfl rfl)
theorem dX2_next_171 : decode cX2_next 171 = .ok (.invokespecial 56, 3) := dk_183 0 56 (dk_at dksX2_next_7 7 rfl rfl)
theorem dX2_next_174 : decode cX2_next 174 = .ok (.goto 5, 3) := dk_167 0 5 (dk_at dksX2_next_7 10 rfl rfl)
theorem dX2_next_177 : decode cX2_next 177 = .ok (.ldc 59, 2) := dk_18 59 (dk_at dksX2_next_7 13 rfl rfl)
theorem dX2_next_179 : decode cX2_next 179 = .ok (.putfield 61, 3) := dk_181 0 61 (dk_at dksX2_next_7 15 rfl rfl)
theorem dX2_next_182 : decode cX2_next 182 = .ok (.goto 123, 3) := dk_167 0 123 (dk_at dksX2_next_7 18 rfl rfl)
theorem dX2_next_185 : decode cX2_next 185 = .ok (.iload_n 2, 1) := dk_28 (dk_at dksX2_next_7 21 rfl rfl)
theorem dX2_next_186 : decode cX2_next 186 = .ok (.invokestatic 65, 3) := dk_184 0 65 (dk_at dksX2_next_8 0 rfl rfl)
theorem dX2_next_189 : decode cX2_next 189 = .ok (.ifCond .eq 95, 3) := dk_153 0 95 (dk_at dksX2_next_8 3 rfl rfl)
theorem dX2_next_192 : decode cX2_next 192 = .ok (.aload_n 0, 1) := dk_42 (dk_at dksX2_next_8 6 rfl rfl)
theorem dX2_next_193 : decode cX2_next 193 = .ok (.iconst 0, 1) := dk_3 (dk_at dksX2_next_8 7 rfl rfl)
theorem dX2_next_194 : decode cX2_next 194 = .ok (.putfield 68, 3) := dk_181 0 68 (dk_at dksX2_next_8 8 rfl rfl)
theorem dX2_next_197 : decode cX2_next 197 = .ok (.aload_n 0, 1) := dk_42 (dk_at dksX2_next_8 11 rfl rfl)
theorem dX2_next_198 : decode cX2_next 198 = .ok (.iload_n 1, 1) := dk_27 (dk_at dksX2_next_8 12 rfl rfl)
theorem dX2_next_199 : decode cX2_next 199 = .ok (.putfield 40, 3) := dk_181 0 40 (dk_at dksX2_next_8 13 rfl rfl)
theorem dX2_next_202 : decode cX2_next 202 = .ok (.aload_n 0, 1) := dk_42 (dk_at dksX2_next_8 16 rfl rfl)
theorem dX2_next_203 : decode cX2_next 203 = .ok (.aload_n 0, 1) := dk_42 (dk_at dksX2_next_8 17 rfl rfl)
theorem dX2_next_204 : decode cX2_next 204 = .ok (.getfield 40, 3) := dk_180 0 40 (dk_at dksX2_next_8 18 rfl rfl)
theorem dX2_next_207 : decode cX2_next 207 = .ok (.invokevirtual 43, 3) := dk_182 0 43 (dk_at dksX2_next_8 21 rfl rfl)
theorem dX2_next_210 : decode cX2_next 210 = .ok (.invokestatic 65, 3) := dk_184 0 65 (dk_at dksX2_next_9 0 rfl rfl)
theorem dX2_next_213 : decode cX2_next 213 = .ok (.ifCond .eq 49, 3) := dk_153 0 49 (dk_at dksX2_next_9 3 rfl rfl)
theorem dX2_next_216 : decode cX2_next 216 = .ok (.aload_n 0, 1) := dk_42 (dk_at dksX2_next_9 6 rfl rfl)
theorem dX2_next_217 : decode cX2_next 217 = .ok (.getfield 40, 3) := dk_180 0 40 (dk_at dksX2_next_9 7 rfl rfl)
theorem dX2_next_220 : decode cX2_next 220 = .ok (.iload_n 1, 1) := dk_27 (dk_at dksX2_next_9 10 rfl rfl)
theorem dX2_next_221 : decode cX2_next 221 = .ok (.isub, 1) := dk_100 (dk_at dksX2_next_9 11 rfl rfl)
theorem dX2_next_222 : decode cX2_next 222 = .ok (.iconst 3, 1) := dk_6 (dk_at dksX2_next_9 12 rfl rfl)
theorem dX2_next_223 : decode cX2_next 223 = .ok (.if_icmp .ge 26, 3) := dk_162 0 26 (dk_at dksX2_next_9 13 rfl rfl)
theorem dX2_next_226 : decode cX2_next 226 = .ok (.aload_n 0, 1) := dk_42 (dk_at dksX2_next_9 16 rfl rfl)
theorem dX2_next_227 : decode cX2_next 227 = .ok (.bipush 10, 2) := dk_16 10 (dk_at dksX2_next_9 17 rfl rfl)
theorem dX2_next_229 : decode cX2_next 229 = .ok (.aload_n 0, 1) := dk_42 (dk_at dksX2_next_9 19 rfl rfl)
theorem dX2_next_230 : decode cX2_next 230 = .ok (.getfield 68, 3) := dk_180 0 68 (dk_at dksX2_next_9 20 rfl rfl)
theorem dX2_next_233 : decode cX2_next 233 = .ok (.imul, 1) := dk_104 (dk_at dksX2_next_9 23 rfl rfl)
theorem dX2_next_234 : decode cX2_next 234 = .ok (.aload_n 0, 1) := dk_42 (dk_at dksX2_next_10 0 rfl rfl)
theorem dX2_next_235 : decode cX2_next 235 = .ok (.aload_n 0, 1) := dk_42 (dk_at dksX2_next_10 1 rfl rfl)
theorem dX2_next_236 : decode cX2_next 236 = .ok (.getfield 40, 3) := dk_180 0 40 (dk_at dksX2_next_10 2 rfl rfl)
theorem dX2_next_239 : decode cX2_next 239 = .ok (.invokevirtual 43, 3) := dk_182 0 43 (dk_at dksX2_next_10 5 rfl rfl)
theorem dX2_next_242 : decode cX2_next 242 = .ok (.iadd, 1) := dk_96 (dk_at dksX2_next_10 8 rfl rfl)
theorem dX2_next_243 : decode cX2_next 243 = .ok (.bipush 48, 2) := dk_16 48 (dk_at dksX2_next_10 9 rfl rfl)
theorem dX2_next_245 : decode cX2_next 245 = .ok (.isub, 1) := dk_100 (dk_at dksX2_next_10 11 rfl rfl)
theorem dX2_next_246 : decode cX2_next 246 = .ok (.putfield 68, 3) := dk_181 0 68 (dk_at dksX2_next_10 12 rfl rfl)
theorem dX2_next_249 : decode cX2_next 249 = .ok (.aload_n 0, 1) := dk_42 (dk_at dksX2_next_10 15 rfl rfl)
theorem dX2_next_250 : decode cX2_next 250 = .ok (.dup, 1) := dk_89 (dk_at dksX2_next_10 16 rfl rfl)
theorem dX2_next_251 : decode cX2_next 251 = .ok (.getfield 40, 3) := dk_180 0 40 (dk_at dksX2_next_10 17 rfl rfl)
theorem dX2_next_254 : decode cX2_next 254 = .ok (.iconst 1, 1) := dk_4 (dk_at dksX2_next_10 20 rfl rfl)
theorem dX2_next_255 : decode cX2_next 255 = .ok (.iadd, 1) := dk_96 (dk_at dksX2_next_10 21 rfl rfl)
theorem dX2_next_256 : decode cX2_next 256 = .ok (.putfield 40, 3) := dk_181 0 40 (dk_at dksX2_next_11 0 rfl rfl)
theorem dX2_next_259 : decode cX2_next 259 = .ok (.goto (-57), 3) := dk_167 255 199 (dk_at dksX2_next_11 3 rfl rfl)
theorem dX2_next_262 : decode cX2_next 262 = .ok (.aload_n 0, 1) := dk_42 (dk_at dksX2_next_11 6 rfl rfl)
theorem dX2_next_263 : decode cX2_next 263 = .ok (.aload_n 0, 1) := dk_42 (dk_at dksX2_next_11 7 rfl rfl)
theorem dX2_next_264 : decode cX2_next 264 = .ok (.getfield 40, 3) := dk_180 0 40 (dk_at dksX2_next_11 8 rfl rfl)
theorem dX2_next_267 : decode cX2_next 267 = .ok (.iload_n 1, 1) := dk_27 (dk_at dksX2_next_11 11 rfl rfl)
theorem dX2_next_268 : decode cX2_next 268 = .ok (.isub, 1) := dk_100 (dk_at dksX2_next_11 12 rfl rfl)
theorem dX2_next_269 : decode cX2_next 269 = .ok (.iconst 3, 1) := dk_6 (dk_at dksX2_next_11 13 rfl rfl)
theorem dX2_next_270 : decode cX2_next 270 = .ok (.if_icmp .le 7, 3) := dk_164 0 7 (dk_at dksX2_next_11 14 rfl rfl)
theorem dX2_next_273 : decode cX2_next 273 = .ok (.iconst 1, 1) := dk_4 (dk_at dksX2_next_11 17 rfl rfl)
theorem dX2_next_274 : decode cX2_next 274 = .ok (.goto 4, 3) := dk_167 0 4 (dk_at dksX2_next_11 18 rfl rfl)
theorem dX2_next_277 : decode cX2_next 277 = .ok (.iconst 3, 1) := dk_6 (dk_at dksX2_next_11 21 rfl rfl)
theorem dX2_next_278 : decode cX2_next 278 = .ok (.putfield 47, 3) := dk_181 0 47 (dk_at dksX2_next_12 0 rfl rfl)
theorem dX2_next_281 : decode cX2_next 281 = .ok (.goto 24, 3) := dk_167 0 24 (dk_at dksX2_next_12 3 rfl rfl)
theorem dX2_next_284 : decode cX2_next 284 = .ok (.aload_n 0, 1) := dk_42 (dk_at dksX2_next_12 6 rfl rfl)
theorem dX2_next_285 : decode cX2_next 285 = .ok (.iload_n 2, 1) := dk_28 (dk_at dksX2_next_12 7 rfl rfl)
theorem dX2_next_286 : decode cX2_next 286 = .ok (.bipush 59, 2) := dk_16 59 (dk_at dksX2_next_12 8 rfl rfl)
theorem dX2_next_288 : decode cX2_next 288 = .ok (.if_icmp .eq 9, 3) := dk_159 0 9 (dk_at dksX2_next_12 10 rfl rfl)
theorem dX2_next_291 : decode cX2_next 291 = .ok (.iload_n 2, 1) := dk_28 (dk_at dksX2_next_12 13 rfl rfl)
theorem dX2_next_292 : decode cX2_next 292 = .ok (.bipush 44, 2) := dk_16 44 (dk_at dksX2_next_12 14 rfl rfl)
theorem dX2_next_294 : decode cX2_next 294 = .ok (.if_icmp .ne 7, 3) := dk_160 0 7 (dk_at dksX2_next_12 16 rfl rfl)
theorem dX2_next_297 : decode cX2_next 297 = .ok (.iload_n 2, 1) := dk_28 (dk_at dksX2_next_12 19 rfl rfl)
theorem dX2_next_298 : decode cX2_next 298 = .ok (.goto 4, 3) := dk_167 0 4 (dk_at dksX2_next_12 20 rfl rfl)
theorem dX2_next_301 : decode cX2_next 301 = .ok (.iconst 1, 1) := dk_4 (dk_at dksX2_next_12 23 rfl rfl)
theorem dX2_next_302 : decode cX2_next 302 = .ok (.putfield 47, 3) := dk_181 0 47 (dk_at dksX2_next_13 0 rfl rfl)
theorem dX2_next_305 : decode cX2_next 305 = .ok (.return_, 1) := dk_177 (dk_at dksX2_next_13 3 rfl rfl)
abbrev cX2_see : ByteArray := prog_16_method_3_code
def yX2_see : MethodName := ⟨RX2, "see", "(I)I"⟩
def dkwX2_see_0 : List UInt8 := [27, 42, 180, 0, 33, 162, 0, 16, 42, 180, 0, 22, 27, 51, 17, 0, 255, 126, 167, 0, 4, 2, 172]
abbrev dktX2_see_0 : List UInt8 := dkwX2_see_0 ++ []
theorem dksX2_see_0 : cX2_see.data.toList.drop 0 = dktX2_see_0 := by decide +kernel
theorem dX2_see_0 : decode cX2_see 0 = .ok (.iload_n 1, 1) := dk_27 (dk_at dksX2_see_0 0 rfl rfl)
theorem dX2_see_1 : decode cX2_see 1 = .ok (.aload_n 0, 1) := dk_42 (dk_at dksX2_see_0 1 rfl rfl)
theorem dX2_see_2 : decode cX2_see 2 = .ok (.getfield 33, 3) := dk_180 0 33 (dk_at dksX2_see_0 2 rfl rfl)
theorem dX2_see_5 : decode cX2_see 5 = .ok (.if_icmp .ge 16, 3) := dk_162 0 16 (dk_at dksX2_see_0 5 rfl rfl)
theorem dX2_see_8 : decode cX2_see 8 = .ok (.aload_n 0, 1) := dk_42 (dk_at dksX2_see_0 8 rfl rfl)
theorem dX2_see_9 : decode cX2_see 9 = .ok (.getfield 22, 3) := dk_180 0 22 (dk_at dksX2_see_0 9 rfl rfl)
theorem dX2_see_12 : decode cX2_see 12 = .ok (.iload_n 1, 1) := dk_27 (dk_at dksX2_see_0 12 rfl rfl)
theorem dX2_see_13 : decode cX2_see 13 = .ok (.baload, 1) := dk_51 (dk_at dksX2_see_0 13 rfl rfl)
theorem dX2_see_14 : decode cX2_see 14 = .ok (.sipush 255, 3) := dk_17 0 255 (dk_at dksX2_see_0 14 rfl rfl)
theorem dX2_see_17 : decode cX2_see 17 = .ok (.iand, 1) := dk_126 (dk_at dksX2_see_0 17 rfl rfl)
theorem dX2_see_18 : decode cX2_see 18 = .ok (.goto 4, 3) := dk_167 0 4 (dk_at dksX2_see_0 18 rfl rfl)
theorem dX2_see_21 : decode cX2_see 21 = .ok (.iconst (-1), 1) := dk_2 (dk_at dksX2_see_0 21 rfl rfl)
theorem dX2_see_22 : decode cX2_see 22 = .ok (.ireturn, 1) := dk_172 (dk_at dksX2_see_0 22 rfl rfl)
abbrev cX2_isSmall : ByteArray := prog_16_method_4_code
def yX2_isSmall : MethodName := ⟨RX2, "isSmall", "(I)Z"⟩
def dkwX2_isSmall_0 : List UInt8 := [26, 16, 97, 16, 122, 184, 0, 36, 172]
abbrev dktX2_isSmall_0 : List UInt8 := dkwX2_isSmall_0 ++ []
theorem dksX2_isSmall_0 : cX2_isSmall.data.toList.drop 0 = dktX2_isSmall_0 := by decide +kernel
theorem dX2_isSmall_0 : decode cX2_isSmall 0 = .ok (.iload_n 0, 1) := dk_26 (dk_at dksX2_isSmall_0 0 rfl rfl)
theorem dX2_isSmall_1 : decode cX2_isSmall 1 = .ok (.bipush 97, 2) := dk_16 97 (dk_at dksX2_isSmall_0 1 rfl rfl)
theorem dX2_isSmall_3 : decode cX2_isSmall 3 = .ok (.bipush 122, 2) := dk_16 122 (dk_at dksX2_isSmall_0 3 rfl rfl)
theorem dX2_isSmall_5 : decode cX2_isSmall 5 = .ok (.invokestatic 36, 3) := dk_184 0 36 (dk_at dksX2_isSmall_0 5 rfl rfl)
theorem dX2_isSmall_8 : decode cX2_isSmall 8 = .ok (.ireturn, 1) := dk_172 (dk_at dksX2_isSmall_0 8 rfl rfl)
abbrev cX2_isDigit : ByteArray := prog_16_method_5_code
def yX2_isDigit : MethodName := ⟨RX2, "isDigit", "(I)Z"⟩
def dkwX2_isDigit_0 : List UInt8 := [26, 16, 48, 16, 57, 184, 0, 36, 172]
abbrev dktX2_isDigit_0 : List UInt8 := dkwX2_isDigit_0 ++ []
theorem dksX2_isDigit_0 : cX2_isDigit.data.toList.drop 0 = dktX2_isDigit_0 := by decide +kernel
theorem dX2_isDigit_0 : decode cX2_isDigit 0 = .ok (.iload_n 0, 1) := dk_26 (dk_at dksX2_isDigit_0 0 rfl rfl)
theorem dX2_isDigit_1 : decode cX2_isDigit 1 = .ok (.bipush 48, 2) := dk_16 48 (dk_at dksX2_isDigit_0 1 rfl rfl)
theorem dX2_isDigit_3 : decode cX2_isDigit 3 = .ok (.bipush 57, 2) := dk_16 57 (dk_at dksX2_isDigit_0 3 rfl rfl)
theorem dX2_isDigit_5 : decode cX2_isDigit 5 = .ok (.invokestatic 36, 3) := dk_184 0 36 (dk_at dksX2_isDigit_0 5 rfl rfl)
theorem dX2_isDigit_8 : decode cX2_isDigit 8 = .ok (.ireturn, 1) := dk_172 (dk_at dksX2_isDigit_0 8 rfl rfl)
abbrev cX2_line : ByteArray := prog_16_method_19_code
def yX2_line : MethodName := ⟨RX2, "line", "()V"⟩
def dkwX2_line_10 : List UInt8 := [182, 0, 82, 191, 177]
abbrev dktX2_line_10 : List UInt8 := dkwX2_line_10 ++ []
def dkwX2_line_9 : List UInt8 := [182, 0, 147, 167, 0, 23, 42, 182, 0, 149, 167, 0, 16, 42, 182, 0, 151, 167, 0, 9, 42, 4]
abbrev dktX2_line_9 : List UInt8 := dkwX2_line_9 ++ dktX2_line_10
def dkwX2_line_8 : List UInt8 := [42, 182, 0, 139, 167, 0, 44, 42, 182, 0, 142, 167, 0, 37, 42, 182, 0, 145, 167, 0, 30, 42]
abbrev dktX2_line_8 : List UInt8 := dkwX2_line_8 ++ dktX2_line_9
def dkwX2_line_7 : List UInt8 := [170, 0, 0, 0, 0, 80, 0, 0, 0, 0, 0, 0, 0, 5, 0, 0, 0, 38, 0, 0, 0, 45, 0, 0, 0, 52, 0, 0, 0, 59, 0, 0, 0, 66, 0, 0, 0, 73]
abbrev dktX2_line_7 : List UInt8 := dkwX2_line_7 ++ dktX2_line_8
def dkwX2_line_6 : List UInt8 := [18, 100, 182, 0, 71, 153, 0, 5, 8, 61, 28]
abbrev dktX2_line_6 : List UInt8 := dkwX2_line_6 ++ dktX2_line_7
def dkwX2_line_5 : List UInt8 := [153, 0, 33, 6, 61, 167, 0, 28, 43, 18, 98, 182, 0, 71, 153, 0, 19, 7, 61, 167, 0, 14, 43]
abbrev dktX2_line_5 : List UInt8 := dkwX2_line_5 ++ dktX2_line_6
def dkwX2_line_4 : List UInt8 := [61, 167, 0, 56, 43, 18, 94, 182, 0, 71, 153, 0, 47, 5, 61, 167, 0, 42, 43, 18, 96, 182, 0, 71]
abbrev dktX2_line_4 : List UInt8 := dkwX2_line_4 ++ dktX2_line_5
def dkwX2_line_3 : List UInt8 := [43, 18, 90, 182, 0, 71, 153, 0, 75, 3, 61, 167, 0, 70, 43, 18, 92, 182, 0, 71, 153, 0, 61, 4]
abbrev dktX2_line_3 : List UInt8 := dkwX2_line_3 ++ dktX2_line_4
def dkwX2_line_2 : List UInt8 := [171, 0, 0, 0, 0, 0, 140, 0, 0, 0, 6, 196, 227, 155, 85, 0, 0, 0, 73, 0, 53, 193, 232, 0, 0, 0, 129, 0, 53, 206, 123, 0, 0, 0, 115, 0, 54, 6, 89, 0, 0, 0, 87, 5, 222, 7, 124, 0, 0, 0, 59, 6, 52, 62, 194, 0, 0, 0, 101]
abbrev dktX2_line_2 : List UInt8 := dkwX2_line_2 ++ dktX2_line_3
def dkwX2_line_1 : List UInt8 := [182, 0, 86]
abbrev dktX2_line_1 : List UInt8 := dkwX2_line_1 ++ dktX2_line_2
def dkwX2_line_0 : List UInt8 := [42, 180, 0, 47, 5, 159, 0, 9, 42, 4, 182, 0, 82, 191, 42, 180, 0, 61, 76, 2, 61, 43]
abbrev dktX2_line_0 : List UInt8 := dkwX2_line_0 ++ dktX2_line_1
theorem dksX2_line_0 : cX2_line.data.toList.drop 0 = dktX2_line_0 := by decide +kernel
theorem dksX2_line_1 : cX2_line.data.toList.drop 22 = dktX2_line_1 := dk_seg dksX2_line_0 22 rfl rfl
theorem dksX2_line_2 : cX2_line.data.toList.drop 25 = dktX2_line_2 := dk_seg dksX2_line_1 3 rfl rfl
theorem dksX2_line_3 : cX2_line.data.toList.drop 84 = dktX2_line_3 := dk_seg dksX2_line_2 59 rfl rfl
theorem dksX2_line_4 : cX2_line.data.toList.drop 108 = dktX2_line_4 := dk_seg dksX2_line_3 24 rfl rfl
theorem dksX2_line_5 : cX2_line.data.toList.drop 132 = dktX2_line_5 := dk_seg dksX2_line_4 24 rfl rfl
theorem dksX2_line_6 : cX2_line.data.toList.drop 155 = dktX2_line_6 := dk_seg dksX2_line_5 23 rfl rfl
theorem dksX2_line_7 : cX2_line.data.toList.drop 166 = dktX2_line_7 := dk_seg dksX2_line_6 11 rfl rfl
theorem dksX2_line_8 : cX2_line.data.toList.drop 204 = dktX2_line_8 := dk_seg dksX2_line_7 38 rfl rfl
theorem dksX2_line_9 : cX2_line.data.toList.drop 226 = dktX2_line_9 := dk_seg dksX2_line_8 22 rfl rfl
theorem dksX2_line_10 : cX2_line.data.toList.drop 248 = dktX2_line_10 := dk_seg dksX2_line_9 22 rfl rfl
theorem dX2_line_0 : decode cX2_line 0 = .ok (.aload_n 0, 1) := dk_42 (dk_at dksX2_line_0 0 rfl rfl)
theorem dX2_line_1 : decode cX2_line 1 = .ok (.getfield 47, 3) := dk_180 0 47 (dk_at dksX2_line_0 1 rfl rfl)
theorem dX2_line_4 : decode cX2_line 4 = .ok (.iconst 2, 1) := dk_5 (dk_at dksX2_line_0 4 rfl rfl)
theorem dX2_line_5 : decode cX2_line 5 = .ok (.if_icmp .eq 9, 3) := dk_159 0 9 (dk_at dksX2_line_0 5 rfl rfl)
theorem dX2_line_8 : decode cX2_line 8 = .ok (.aload_n 0, 1) := dk_42 (dk_at dksX2_line_0 8 rfl rfl)
theorem dX2_line_9 : decode cX2_line 9 = .ok (.iconst 1, 1) := dk_4 (dk_at dksX2_line_0 9 rfl rfl)
theorem dX2_line_10 : decode cX2_line 10 = .ok (.invokevirtual 82, 3) := dk_182 0 82 (dk_at dksX2_line_0 10 rfl rfl)
theorem dX2_line_13 : decode cX2_line 13 = .ok (.athrow, 1) := dk_191 (dk_at dksX2_line_0 13 rfl rfl)
theorem dX2_line_14 : decode cX2_line 14 = .ok (.aload_n 0, 1) := dk_42 (dk_at dksX2_line_0 14 rfl rfl)
theorem dX2_line_15 : decode cX2_line 15 = .ok (.getfield 61, 3) := dk_180 0 61 (dk_at dksX2_line_0 15 rfl rfl)
theorem dX2_line_18 : decode cX2_line 18 = .ok (.astore_n 1, 1) := dk_76 (dk_at dksX2_line_0 18 rfl rfl)
theorem dX2_line_19 : decode cX2_line 19 = .ok (.iconst (-1), 1) := dk_2 (dk_at dksX2_line_0 19 rfl rfl)
theorem dX2_line_20 : decode cX2_line 20 = .ok (.istore_n 2, 1) := dk_61 (dk_at dksX2_line_0 20 rfl rfl)
theorem dX2_line_21 : decode cX2_line 21 = .ok (.aload_n 1, 1) := dk_43 (dk_at dksX2_line_0 21 rfl rfl)
theorem dX2_line_22 : decode cX2_line 22 = .ok (.invokevirtual 86, 3) := dk_182 0 86 (dk_at dksX2_line_1 0 rfl rfl)
theorem dX2_line_25 : decode cX2_line 25 = .ok (.lookupswitch 140 #[(-991716523, 73), (3523048, 129), (3526267, 115), (3540569, 87), (98436988, 59), (104087234, 101)], 59) := by decide +kernel
theorem dX2_line_84 : decode cX2_line 84 = .ok (.aload_n 1, 1) := dk_43 (dk_at dksX2_line_3 0 rfl rfl)
theorem dX2_line_85 : decode cX2_line 85 = .ok (.ldc 90, 2) := dk_18 90 (dk_at dksX2_line_3 1 rfl rfl)
theorem dX2_line_87 : decode cX2_line 87 = .ok (.invokevirtual 71, 3) := dk_182 0 71 (dk_at dksX2_line_3 3 rfl rfl)
theorem dX2_line_90 : decode cX2_line 90 = .ok (.ifCond .eq 75, 3) := dk_153 0 75 (dk_at dksX2_line_3 6 rfl rfl)
theorem dX2_line_93 : decode cX2_line 93 = .ok (.iconst 0, 1) := dk_3 (dk_at dksX2_line_3 9 rfl rfl)
theorem dX2_line_94 : decode cX2_line 94 = .ok (.istore_n 2, 1) := dk_61 (dk_at dksX2_line_3 10 rfl rfl)
theorem dX2_line_95 : decode cX2_line 95 = .ok (.goto 70, 3) := dk_167 0 70 (dk_at dksX2_line_3 11 rfl rfl)
theorem dX2_line_98 : decode cX2_line 98 = .ok (.aload_n 1, 1) := dk_43 (dk_at dksX2_line_3 14 rfl rfl)
theorem dX2_line_99 : decode cX2_line 99 = .ok (.ldc 92, 2) := dk_18 92 (dk_at dksX2_line_3 15 rfl rfl)
theorem dX2_line_101 : decode cX2_line 101 = .ok (.invokevirtual 71, 3) := dk_182 0 71 (dk_at dksX2_line_3 17 rfl rfl)
theorem dX2_line_104 : decode cX2_line 104 = .ok (.ifCond .eq 61, 3) := dk_153 0 61 (dk_at dksX2_line_3 20 rfl rfl)
theorem dX2_line_107 : decode cX2_line 107 = .ok (.iconst 1, 1) := dk_4 (dk_at dksX2_line_3 23 rfl rfl)
theorem dX2_line_108 : decode cX2_line 108 = .ok (.istore_n 2, 1) := dk_61 (dk_at dksX2_line_4 0 rfl rfl)
theorem dX2_line_109 : decode cX2_line 109 = .ok (.goto 56, 3) := dk_167 0 56 (dk_at dksX2_line_4 1 rfl rfl)
theorem dX2_line_112 : decode cX2_line 112 = .ok (.aload_n 1, 1) := dk_43 (dk_at dksX2_line_4 4 rfl rfl)
theorem dX2_line_113 : decode cX2_line 113 = .ok (.ldc 94, 2) := dk_18 94 (dk_at dksX2_line_4 5 rfl rfl)
theorem dX2_line_115 : decode cX2_line 115 = .ok (.invokevirtual 71, 3) := dk_182 0 71 (dk_at dksX2_line_4 7 rfl rfl)
theorem dX2_line_118 : decode cX2_line 118 = .ok (.ifCond .eq 47, 3) := dk_153 0 47 (dk_at dksX2_line_4 10 rfl rfl)
theorem dX2_line_121 : decode cX2_line 121 = .ok (.iconst 2, 1) := dk_5 (dk_at dksX2_line_4 13 rfl rfl)
theorem dX2_line_122 : decode cX2_line 122 = .ok (.istore_n 2, 1) := dk_61 (dk_at dksX2_line_4 14 rfl rfl)
theorem dX2_line_123 : decode cX2_line 123 = .ok (.goto 42, 3) := dk_167 0 42 (dk_at dksX2_line_4 15 rfl rfl)
theorem dX2_line_126 : decode cX2_line 126 = .ok (.aload_n 1, 1) := dk_43 (dk_at dksX2_line_4 18 rfl rfl)
theorem dX2_line_127 : decode cX2_line 127 = .ok (.ldc 96, 2) := dk_18 96 (dk_at dksX2_line_4 19 rfl rfl)
theorem dX2_line_129 : decode cX2_line 129 = .ok (.invokevirtual 71, 3) := dk_182 0 71 (dk_at dksX2_line_4 21 rfl rfl)
theorem dX2_line_132 : decode cX2_line 132 = .ok (.ifCond .eq 33, 3) := dk_153 0 33 (dk_at dksX2_line_5 0 rfl rfl)
theorem dX2_line_135 : decode cX2_line 135 = .ok (.iconst 3, 1) := dk_6 (dk_at dksX2_line_5 3 rfl rfl)
theorem dX2_line_136 : decode cX2_line 136 = .ok (.istore_n 2, 1) := dk_61 (dk_at dksX2_line_5 4 rfl rfl)
theorem dX2_line_137 : decode cX2_line 137 = .ok (.goto 28, 3) := dk_167 0 28 (dk_at dksX2_line_5 5 rfl rfl)
theorem dX2_line_140 : decode cX2_line 140 = .ok (.aload_n 1, 1) := dk_43 (dk_at dksX2_line_5 8 rfl rfl)
theorem dX2_line_141 : decode cX2_line 141 = .ok (.ldc 98, 2) := dk_18 98 (dk_at dksX2_line_5 9 rfl rfl)
theorem dX2_line_143 : decode cX2_line 143 = .ok (.invokevirtual 71, 3) := dk_182 0 71 (dk_at dksX2_line_5 11 rfl rfl)
theorem dX2_line_146 : decode cX2_line 146 = .ok (.ifCond .eq 19, 3) := dk_153 0 19 (dk_at dksX2_line_5 14 rfl rfl)
theorem dX2_line_149 : decode cX2_line 149 = .ok (.iconst 4, 1) := dk_7 (dk_at dksX2_line_5 17 rfl rfl)
theorem dX2_line_150 : decode cX2_line 150 = .ok (.istore_n 2, 1) := dk_61 (dk_at dksX2_line_5 18 rfl rfl)
theorem dX2_line_151 : decode cX2_line 151 = .ok (.goto 14, 3) := dk_167 0 14 (dk_at dksX2_line_5 19 rfl rfl)
theorem dX2_line_154 : decode cX2_line 154 = .ok (.aload_n 1, 1) := dk_43 (dk_at dksX2_line_5 22 rfl rfl)
theorem dX2_line_155 : decode cX2_line 155 = .ok (.ldc 100, 2) := dk_18 100 (dk_at dksX2_line_6 0 rfl rfl)
theorem dX2_line_157 : decode cX2_line 157 = .ok (.invokevirtual 71, 3) := dk_182 0 71 (dk_at dksX2_line_6 2 rfl rfl)
theorem dX2_line_160 : decode cX2_line 160 = .ok (.ifCond .eq 5, 3) := dk_153 0 5 (dk_at dksX2_line_6 5 rfl rfl)
theorem dX2_line_163 : decode cX2_line 163 = .ok (.iconst 5, 1) := dk_8 (dk_at dksX2_line_6 8 rfl rfl)
theorem dX2_line_164 : decode cX2_line 164 = .ok (.istore_n 2, 1) := dk_61 (dk_at dksX2_line_6 9 rfl rfl)
theorem dX2_line_165 : decode cX2_line 165 = .ok (.iload_n 2, 1) := dk_28 (dk_at dksX2_line_6 10 rfl rfl)
theorem dX2_line_166 : decode cX2_line 166 = .ok (.tableswitch 80 0 5 #[38, 45, 52, 59, 66, 73], 38) := by decide +kernel
theorem dX2_line_204 : decode cX2_line 204 = .ok (.aload_n 0, 1) := dk_42 (dk_at dksX2_line_8 0 rfl rfl)
theorem dX2_line_205 : decode cX2_line 205 = .ok (.invokevirtual 139, 3) := dk_182 0 139 (dk_at dksX2_line_8 1 rfl rfl)
theorem dX2_line_208 : decode cX2_line 208 = .ok (.goto 44, 3) := dk_167 0 44 (dk_at dksX2_line_8 4 rfl rfl)
theorem dX2_line_211 : decode cX2_line 211 = .ok (.aload_n 0, 1) := dk_42 (dk_at dksX2_line_8 7 rfl rfl)
theorem dX2_line_212 : decode cX2_line 212 = .ok (.invokevirtual 142, 3) := dk_182 0 142 (dk_at dksX2_line_8 8 rfl rfl)
theorem dX2_line_215 : decode cX2_line 215 = .ok (.goto 37, 3) := dk_167 0 37 (dk_at dksX2_line_8 11 rfl rfl)
theorem dX2_line_218 : decode cX2_line 218 = .ok (.aload_n 0, 1) := dk_42 (dk_at dksX2_line_8 14 rfl rfl)
theorem dX2_line_219 : decode cX2_line 219 = .ok (.invokevirtual 145, 3) := dk_182 0 145 (dk_at dksX2_line_8 15 rfl rfl)
theorem dX2_line_222 : decode cX2_line 222 = .ok (.goto 30, 3) := dk_167 0 30 (dk_at dksX2_line_8 18 rfl rfl)
theorem dX2_line_225 : decode cX2_line 225 = .ok (.aload_n 0, 1) := dk_42 (dk_at dksX2_line_8 21 rfl rfl)
theorem dX2_line_226 : decode cX2_line 226 = .ok (.invokevirtual 147, 3) := dk_182 0 147 (dk_at dksX2_line_9 0 rfl rfl)
theorem dX2_line_229 : decode cX2_line 229 = .ok (.goto 23, 3) := dk_167 0 23 (dk_at dksX2_line_9 3 rfl rfl)
theorem dX2_line_232 : decode cX2_line 232 = .ok (.aload_n 0, 1) := dk_42 (dk_at dksX2_line_9 6 rfl rfl)
theorem dX2_line_233 : decode cX2_line 233 = .ok (.invokevirtual 149, 3) := dk_182 0 149 (dk_at dksX2_line_9 7 rfl rfl)
theorem dX2_line_236 : decode cX2_line 236 = .ok (.goto 16, 3) := dk_167 0 16 (dk_at dksX2_line_9 10 rfl rfl)
theorem dX2_line_239 : decode cX2_line 239 = .ok (.aload_n 0, 1) := dk_42 (dk_at dksX2_line_9 13 rfl rfl)
theorem dX2_line_240 : decode cX2_line 240 = .ok (.invokevirtual 151, 3) := dk_182 0 151 (dk_at dksX2_line_9 14 rfl rfl)
theorem dX2_line_243 : decode cX2_line 243 = .ok (.goto 9, 3) := dk_167 0 9 (dk_at dksX2_line_9 17 rfl rfl)
theorem dX2_line_246 : decode cX2_line 246 = .ok (.aload_n 0, 1) := dk_42 (dk_at dksX2_line_9 20 rfl rfl)
theorem dX2_line_247 : decode cX2_line 247 = .ok (.iconst 1, 1) := dk_4 (dk_at dksX2_line_9 21 rfl rfl)
theorem dX2_line_248 : decode cX2_line 248 = .ok (.invokevirtual 82, 3) := dk_182 0 82 (dk_at dksX2_line_10 0 rfl rfl)
theorem dX2_line_251 : decode cX2_line 251 = .ok (.athrow, 1) := dk_191 (dk_at dksX2_line_10 3 rfl rfl)
theorem dX2_line_252 : decode cX2_line 252 = .ok (.return_, 1) := dk_177 (dk_at dksX2_line_10 4 rfl rfl)
abbrev cX2_fail : ByteArray := prog_16_method_2_code
def yX2_fail : MethodName := ⟨RX2, "fail", "(I)LBrushGlass$Refused;"⟩
def dkwX2_fail_0 : List UInt8 := [42, 180, 0, 12, 27, 42, 180, 0, 26, 182, 0, 30, 176]
abbrev dktX2_fail_0 : List UInt8 := dkwX2_fail_0 ++ []
theorem dksX2_fail_0 : cX2_fail.data.toList.drop 0 = dktX2_fail_0 := by decide +kernel
theorem dX2_fail_0 : decode cX2_fail 0 = .ok (.aload_n 0, 1) := dk_42 (dk_at dksX2_fail_0 0 rfl rfl)
theorem dX2_fail_1 : decode cX2_fail 1 = .ok (.getfield 12, 3) := dk_180 0 12 (dk_at dksX2_fail_0 1 rfl rfl)
theorem dX2_fail_4 : decode cX2_fail 4 = .ok (.iload_n 1, 1) := dk_27 (dk_at dksX2_fail_0 4 rfl rfl)
theorem dX2_fail_5 : decode cX2_fail 5 = .ok (.aload_n 0, 1) := dk_42 (dk_at dksX2_fail_0 5 rfl rfl)
theorem dX2_fail_6 : decode cX2_fail 6 = .ok (.getfield 26, 3) := dk_180 0 26 (dk_at dksX2_fail_0 6 rfl rfl)
theorem dX2_fail_9 : decode cX2_fail 9 = .ok (.invokevirtual 30, 3) := dk_182 0 30 (dk_at dksX2_fail_0 9 rfl rfl)
theorem dX2_fail_12 : decode cX2_fail 12 = .ok (.areturn, 1) := dk_176 (dk_at dksX2_fail_0 12 rfl rfl)
abbrev cX2_glassLine : ByteArray := prog_16_method_20_code
def yX2_glassLine : MethodName := ⟨RX2, "glassLine", "()V"⟩
def dkwX2_glassLine_3 : List UInt8 := [16, 100, 182, 0, 154, 181, 0, 168, 42, 180, 0, 105, 27, 181, 0, 129, 177]
abbrev dktX2_glassLine_3 : List UInt8 := dkwX2_glassLine_3 ++ []
def dkwX2_glassLine_2 : List UInt8 := [180, 0, 105, 42, 18, 162, 4, 16, 6, 182, 0, 154, 181, 0, 164, 42, 180, 0, 105, 42, 18, 166, 3]
abbrev dktX2_glassLine_2 : List UInt8 := dkwX2_glassLine_2 ++ dktX2_glassLine_3
def dkwX2_glassLine_1 : List UInt8 := [16, 30, 182, 0, 154, 60, 42, 180, 0, 105, 42, 18, 158, 5, 16, 8, 182, 0, 154, 181, 0, 160, 42]
abbrev dktX2_glassLine_1 : List UInt8 := dkwX2_glassLine_1 ++ dktX2_glassLine_2
def dkwX2_glassLine_0 : List UInt8 := [42, 180, 0, 105, 180, 0, 129, 158, 0, 9, 42, 6, 182, 0, 82, 191, 42, 182, 0, 75, 42, 18, 153, 5]
abbrev dktX2_glassLine_0 : List UInt8 := dkwX2_glassLine_0 ++ dktX2_glassLine_1
theorem dksX2_glassLine_0 : cX2_glassLine.data.toList.drop 0 = dktX2_glassLine_0 := by decide +kernel
theorem dksX2_glassLine_1 : cX2_glassLine.data.toList.drop 24 = dktX2_glassLine_1 := dk_seg dksX2_glassLine_0 24 rfl rfl
theorem dksX2_glassLine_2 : cX2_glassLine.data.toList.drop 47 = dktX2_glassLine_2 := dk_seg dksX2_glassLine_1 23 rfl rfl
theorem dksX2_glassLine_3 : cX2_glassLine.data.toList.drop 70 = dktX2_glassLine_3 := dk_seg dksX2_glassLine_2 23 rfl rfl
theorem dX2_glassLine_0 : decode cX2_glassLine 0 = .ok (.aload_n 0, 1) := dk_42 (dk_at dksX2_glassLine_0 0 rfl rfl)
theorem dX2_glassLine_1 : decode cX2_glassLine 1 = .ok (.getfield 105, 3) := dk_180 0 105 (dk_at dksX2_glassLine_0 1 rfl rfl)
theorem dX2_glassLine_4 : decode cX2_glassLine 4 = .ok (.getfield 129, 3) := dk_180 0 129 (dk_at dksX2_glassLine_0 4 rfl rfl)
theorem dX2_glassLine_7 : decode cX2_glassLine 7 = .ok (.ifCond .le 9, 3) := dk_158 0 9 (dk_at dksX2_glassLine_0 7 rfl rfl)
theorem dX2_glassLine_10 : decode cX2_glassLine 10 = .ok (.aload_n 0, 1) := dk_42 (dk_at dksX2_glassLine_0 10 rfl rfl)
theorem dX2_glassLine_11 : decode cX2_glassLine 11 = .ok (.iconst 3, 1) := dk_6 (dk_at dksX2_glassLine_0 11 rfl rfl)
theorem dX2_glassLine_12 : decode cX2_glassLine 12 = .ok (.invokevirtual 82, 3) := dk_182 0 82 (dk_at dksX2_glassLine_0 12 rfl rfl)
theorem dX2_glassLine_15 : decode cX2_glassLine 15 = .ok (.athrow, 1) := dk_191 (dk_at dksX2_glassLine_0 15 rfl rfl)
theorem dX2_glassLine_16 : decode cX2_glassLine 16 = .ok (.aload_n 0, 1) := dk_42 (dk_at dksX2_glassLine_0 16 rfl rfl)
theorem dX2_glassLine_17 : decode cX2_glassLine 17 = .ok (.invokevirtual 75, 3) := dk_182 0 75 (dk_at dksX2_glassLine_0 17 rfl rfl)
theorem dX2_glassLine_20 : decode cX2_glassLine 20 = .ok (.aload_n 0, 1) := dk_42 (dk_at dksX2_glassLine_0 20 rfl rfl)
theorem dX2_glassLine_21 : decode cX2_glassLine 21 = .ok (.ldc 153, 2) := dk_18 153 (dk_at dksX2_glassLine_0 21 rfl rfl)
theorem dX2_glassLine_23 : decode cX2_glassLine 23 = .ok (.iconst 2, 1) := dk_5 (dk_at dksX2_glassLine_0 23 rfl rfl)
theorem dX2_glassLine_24 : decode cX2_glassLine 24 = .ok (.bipush 30, 2) := dk_16 30 (dk_at dksX2_glassLine_1 0 rfl rfl)
theorem dX2_glassLine_26 : decode cX2_glassLine 26 = .ok (.invokevirtual 154, 3) := dk_182 0 154 (dk_at dksX2_glassLine_1 2 rfl rfl)
theorem dX2_glassLine_29 : decode cX2_glassLine 29 = .ok (.istore_n 1, 1) := dk_60 (dk_at dksX2_glassLine_1 5 rfl rfl)
theorem dX2_glassLine_30 : decode cX2_glassLine 30 = .ok (.aload_n 0, 1) := dk_42 (dk_at dksX2_glassLine_1 6 rfl rfl)
theorem dX2_glassLine_31 : decode cX2_glassLine 31 = .ok (.getfield 105, 3) := dk_180 0 105 (dk_at dksX2_glassLine_1 7 rfl rfl)
theorem dX2_glassLine_34 : decode cX2_glassLine 34 = .ok (.aload_n 0, 1) := dk_42 (dk_at dksX2_glassLine_1 10 rfl rfl)
theorem dX2_glassLine_35 : decode cX2_glassLine 35 = .ok (.ldc 158, 2) := dk_18 158 (dk_at dksX2_glassLine_1 11 rfl rfl)
theorem dX2_glassLine_37 : decode cX2_glassLine 37 = .ok (.iconst 2, 1) := dk_5 (dk_at dksX2_glassLine_1 13 rfl rfl)
theorem dX2_glassLine_38 : decode cX2_glassLine 38 = .ok (.bipush 8, 2) := dk_16 8 (dk_at dksX2_glassLine_1 14 rfl rfl)
theorem dX2_glassLine_40 : decode cX2_glassLine 40 = .ok (.invokevirtual 154, 3) := dk_182 0 154 (dk_at dksX2_glassLine_1 16 rfl rfl)
theorem dX2_glassLine_43 : decode cX2_glassLine 43 = .ok (.putfield 160, 3) := dk_181 0 160 (dk_at dksX2_glassLine_1 19 rfl rfl)
theorem dX2_glassLine_46 : decode cX2_glassLine 46 = .ok (.aload_n 0, 1) := dk_42 (dk_at dksX2_glassLine_1 22 rfl rfl)
theorem dX2_glassLine_47 : decode cX2_glassLine 47 = .ok (.getfield 105, 3) := dk_180 0 105 (dk_at dksX2_glassLine_2 0 rfl rfl)
theorem dX2_glassLine_50 : decode cX2_glassLine 50 = .ok (.aload_n 0, 1) := dk_42 (dk_at dksX2_glassLine_2 3 rfl rfl)
theorem dX2_glassLine_51 : decode cX2_glassLine 51 = .ok (.ldc 162, 2) := dk_18 162 (dk_at dksX2_glassLine_2 4 rfl rfl)
theorem dX2_glassLine_53 : decode cX2_glassLine 53 = .ok (.iconst 1, 1) := dk_4 (dk_at dksX2_glassLine_2 6 rfl rfl)
theorem dX2_glassLine_54 : decode cX2_glassLine 54 = .ok (.bipush 6, 2) := dk_16 6 (dk_at dksX2_glassLine_2 7 rfl rfl)
theorem dX2_glassLine_56 : decode cX2_glassLine 56 = .ok (.invokevirtual 154, 3) := dk_182 0 154 (dk_at dksX2_glassLine_2 9 rfl rfl)
theorem dX2_glassLine_59 : decode cX2_glassLine 59 = .ok (.putfield 164, 3) := dk_181 0 164 (dk_at dksX2_glassLine_2 12 rfl rfl)
theorem dX2_glassLine_62 : decode cX2_glassLine 62 = .ok (.aload_n 0, 1) := dk_42 (dk_at dksX2_glassLine_2 15 rfl rfl)
theorem dX2_glassLine_63 : decode cX2_glassLine 63 = .ok (.getfield 105, 3) := dk_180 0 105 (dk_at dksX2_glassLine_2 16 rfl rfl)
theorem dX2_glassLine_66 : decode cX2_glassLine 66 = .ok (.aload_n 0, 1) := dk_42 (dk_at dksX2_glassLine_2 19 rfl rfl)
theorem dX2_glassLine_67 : decode cX2_glassLine 67 = .ok (.ldc 166, 2) := dk_18 166 (dk_at dksX2_glassLine_2 20 rfl rfl)
theorem dX2_glassLine_69 : decode cX2_glassLine 69 = .ok (.iconst 0, 1) := dk_3 (dk_at dksX2_glassLine_2 22 rfl rfl)
theorem dX2_glassLine_70 : decode cX2_glassLine 70 = .ok (.bipush 100, 2) := dk_16 100 (dk_at dksX2_glassLine_3 0 rfl rfl)
theorem dX2_glassLine_72 : decode cX2_glassLine 72 = .ok (.invokevirtual 154, 3) := dk_182 0 154 (dk_at dksX2_glassLine_3 2 rfl rfl)
theorem dX2_glassLine_75 : decode cX2_glassLine 75 = .ok (.putfield 168, 3) := dk_181 0 168 (dk_at dksX2_glassLine_3 5 rfl rfl)
theorem dX2_glassLine_78 : decode cX2_glassLine 78 = .ok (.aload_n 0, 1) := dk_42 (dk_at dksX2_glassLine_3 8 rfl rfl)
theorem dX2_glassLine_79 : decode cX2_glassLine 79 = .ok (.getfield 105, 3) := dk_180 0 105 (dk_at dksX2_glassLine_3 9 rfl rfl)
theorem dX2_glassLine_82 : decode cX2_glassLine 82 = .ok (.iload_n 1, 1) := dk_27 (dk_at dksX2_glassLine_3 12 rfl rfl)
theorem dX2_glassLine_83 : decode cX2_glassLine 83 = .ok (.putfield 129, 3) := dk_181 0 129 (dk_at dksX2_glassLine_3 13 rfl rfl)
theorem dX2_glassLine_86 : decode cX2_glassLine 86 = .ok (.return_, 1) := dk_177 (dk_at dksX2_glassLine_3 16 rfl rfl)
abbrev cX2_after : ByteArray := prog_16_method_15_code
def yX2_after : MethodName := ⟨RX2, "after", "(Ljava/lang/String;II)I"⟩
def dkwX2_after_0 : List UInt8 := [42, 43, 182, 0, 122, 42, 28, 29, 182, 0, 126, 172]
abbrev dktX2_after_0 : List UInt8 := dkwX2_after_0 ++ []
theorem dksX2_after_0 : cX2_after.data.toList.drop 0 = dktX2_after_0 := by decide +kernel
theorem dX2_after_0 : decode cX2_after 0 = .ok (.aload_n 0, 1) := dk_42 (dk_at dksX2_after_0 0 rfl rfl)
theorem dX2_after_1 : decode cX2_after 1 = .ok (.aload_n 1, 1) := dk_43 (dk_at dksX2_after_0 1 rfl rfl)
theorem dX2_after_2 : decode cX2_after 2 = .ok (.invokevirtual 122, 3) := dk_182 0 122 (dk_at dksX2_after_0 2 rfl rfl)
theorem dX2_after_5 : decode cX2_after 5 = .ok (.aload_n 0, 1) := dk_42 (dk_at dksX2_after_0 5 rfl rfl)
theorem dX2_after_6 : decode cX2_after 6 = .ok (.iload_n 2, 1) := dk_28 (dk_at dksX2_after_0 6 rfl rfl)
theorem dX2_after_7 : decode cX2_after 7 = .ok (.iload_n 3, 1) := dk_29 (dk_at dksX2_after_0 7 rfl rfl)
theorem dX2_after_8 : decode cX2_after 8 = .ok (.invokevirtual 126, 3) := dk_182 0 126 (dk_at dksX2_after_0 8 rfl rfl)
theorem dX2_after_11 : decode cX2_after 11 = .ok (.ireturn, 1) := dk_172 (dk_at dksX2_after_0 11 rfl rfl)
abbrev cX2_must : ByteArray := prog_16_method_8_code
def yX2_must : MethodName := ⟨RX2, "must", "(Ljava/lang/String;)V"⟩
def dkwX2_must_0 : List UInt8 := [42, 43, 182, 0, 78, 154, 0, 9, 42, 4, 182, 0, 82, 191, 177]
abbrev dktX2_must_0 : List UInt8 := dkwX2_must_0 ++ []
theorem dksX2_must_0 : cX2_must.data.toList.drop 0 = dktX2_must_0 := by decide +kernel
theorem dX2_must_0 : decode cX2_must 0 = .ok (.aload_n 0, 1) := dk_42 (dk_at dksX2_must_0 0 rfl rfl)
theorem dX2_must_1 : decode cX2_must 1 = .ok (.aload_n 1, 1) := dk_43 (dk_at dksX2_must_0 1 rfl rfl)
theorem dX2_must_2 : decode cX2_must 2 = .ok (.invokevirtual 78, 3) := dk_182 0 78 (dk_at dksX2_must_0 2 rfl rfl)
theorem dX2_must_5 : decode cX2_must 5 = .ok (.ifCond .ne 9, 3) := dk_154 0 9 (dk_at dksX2_must_0 5 rfl rfl)
theorem dX2_must_8 : decode cX2_must 8 = .ok (.aload_n 0, 1) := dk_42 (dk_at dksX2_must_0 8 rfl rfl)
theorem dX2_must_9 : decode cX2_must 9 = .ok (.iconst 1, 1) := dk_4 (dk_at dksX2_must_0 9 rfl rfl)
theorem dX2_must_10 : decode cX2_must 10 = .ok (.invokevirtual 82, 3) := dk_182 0 82 (dk_at dksX2_must_0 10 rfl rfl)
theorem dX2_must_13 : decode cX2_must 13 = .ok (.athrow, 1) := dk_191 (dk_at dksX2_must_0 13 rfl rfl)
theorem dX2_must_14 : decode cX2_must 14 = .ok (.return_, 1) := dk_177 (dk_at dksX2_must_0 14 rfl rfl)
abbrev cX2_takes : ByteArray := prog_16_method_7_code
def yX2_takes : MethodName := ⟨RX2, "takes", "(Ljava/lang/String;)Z"⟩
def dkwX2_takes_1 : List UInt8 := [182, 0, 75, 4, 172]
abbrev dktX2_takes_1 : List UInt8 := dkwX2_takes_1 ++ []
def dkwX2_takes_0 : List UInt8 := [42, 180, 0, 47, 5, 160, 0, 14, 42, 180, 0, 61, 43, 182, 0, 71, 154, 0, 5, 3, 172, 42]
abbrev dktX2_takes_0 : List UInt8 := dkwX2_takes_0 ++ dktX2_takes_1
theorem dksX2_takes_0 : cX2_takes.data.toList.drop 0 = dktX2_takes_0 := by decide +kernel
theorem dksX2_takes_1 : cX2_takes.data.toList.drop 22 = dktX2_takes_1 := dk_seg dksX2_takes_0 22 rfl rfl
theorem dX2_takes_0 : decode cX2_takes 0 = .ok (.aload_n 0, 1) := dk_42 (dk_at dksX2_takes_0 0 rfl rfl)
theorem dX2_takes_1 : decode cX2_takes 1 = .ok (.getfield 47, 3) := dk_180 0 47 (dk_at dksX2_takes_0 1 rfl rfl)
theorem dX2_takes_4 : decode cX2_takes 4 = .ok (.iconst 2, 1) := dk_5 (dk_at dksX2_takes_0 4 rfl rfl)
theorem dX2_takes_5 : decode cX2_takes 5 = .ok (.if_icmp .ne 14, 3) := dk_160 0 14 (dk_at dksX2_takes_0 5 rfl rfl)
theorem dX2_takes_8 : decode cX2_takes 8 = .ok (.aload_n 0, 1) := dk_42 (dk_at dksX2_takes_0 8 rfl rfl)
theorem dX2_takes_9 : decode cX2_takes 9 = .ok (.getfield 61, 3) := dk_180 0 61 (dk_at dksX2_takes_0 9 rfl rfl)
theorem dX2_takes_12 : decode cX2_takes 12 = .ok (.aload_n 1, 1) := dk_43 (dk_at dksX2_takes_0 12 rfl rfl)
theorem dX2_takes_13 : decode cX2_takes 13 = .ok (.invokevirtual 71, 3) := dk_182 0 71 (dk_at dksX2_takes_0 13 rfl rfl)
theorem dX2_takes_16 : decode cX2_takes 16 = .ok (.ifCond .ne 5, 3) := dk_154 0 5 (dk_at dksX2_takes_0 16 rfl rfl)
theorem dX2_takes_19 : decode cX2_takes 19 = .ok (.iconst 0, 1) := dk_3 (dk_at dksX2_takes_0 19 rfl rfl)
theorem dX2_takes_20 : decode cX2_takes 20 = .ok (.ireturn, 1) := dk_172 (dk_at dksX2_takes_0 20 rfl rfl)
theorem dX2_takes_21 : decode cX2_takes 21 = .ok (.aload_n 0, 1) := dk_42 (dk_at dksX2_takes_0 21 rfl rfl)
theorem dX2_takes_22 : decode cX2_takes 22 = .ok (.invokevirtual 75, 3) := dk_182 0 75 (dk_at dksX2_takes_1 0 rfl rfl)
theorem dX2_takes_25 : decode cX2_takes 25 = .ok (.iconst 1, 1) := dk_4 (dk_at dksX2_takes_1 3 rfl rfl)
theorem dX2_takes_26 : decode cX2_takes 26 = .ok (.ireturn, 1) := dk_172 (dk_at dksX2_takes_1 4 rfl rfl)
abbrev cX2_number : ByteArray := prog_16_method_14_code
def yX2_number : MethodName := ⟨RX2, "number", "(II)I"⟩
def dkwX2_number_0 : List UInt8 := [42, 27, 28, 182, 0, 118, 62, 42, 182, 0, 75, 29, 172]
abbrev dktX2_number_0 : List UInt8 := dkwX2_number_0 ++ []
theorem dksX2_number_0 : cX2_number.data.toList.drop 0 = dktX2_number_0 := by decide +kernel
theorem dX2_number_0 : decode cX2_number 0 = .ok (.aload_n 0, 1) := dk_42 (dk_at dksX2_number_0 0 rfl rfl)
theorem dX2_number_1 : decode cX2_number 1 = .ok (.iload_n 1, 1) := dk_27 (dk_at dksX2_number_0 1 rfl rfl)
theorem dX2_number_2 : decode cX2_number 2 = .ok (.iload_n 2, 1) := dk_28 (dk_at dksX2_number_0 2 rfl rfl)
theorem dX2_number_3 : decode cX2_number 3 = .ok (.invokevirtual 118, 3) := dk_182 0 118 (dk_at dksX2_number_0 3 rfl rfl)
theorem dX2_number_6 : decode cX2_number 6 = .ok (.istore_n 3, 1) := dk_62 (dk_at dksX2_number_0 6 rfl rfl)
theorem dX2_number_7 : decode cX2_number 7 = .ok (.aload_n 0, 1) := dk_42 (dk_at dksX2_number_0 7 rfl rfl)
theorem dX2_number_8 : decode cX2_number 8 = .ok (.invokevirtual 75, 3) := dk_182 0 75 (dk_at dksX2_number_0 8 rfl rfl)
theorem dX2_number_11 : decode cX2_number 11 = .ok (.iload_n 3, 1) := dk_29 (dk_at dksX2_number_0 11 rfl rfl)
theorem dX2_number_12 : decode cX2_number 12 = .ok (.ireturn, 1) := dk_172 (dk_at dksX2_number_0 12 rfl rfl)
abbrev cX2_numberHere : ByteArray := prog_16_method_13_code
def yX2_numberHere : MethodName := ⟨RX2, "numberHere", "(II)I"⟩
def dkwX2_numberHere_1 : List UInt8 := [154, 0, 9, 42, 7, 182, 0, 82, 191, 42, 180, 0, 68, 172]
abbrev dktX2_numberHere_1 : List UInt8 := dkwX2_numberHere_1 ++ []
def dkwX2_numberHere_0 : List UInt8 := [42, 180, 0, 47, 6, 159, 0, 9, 42, 4, 182, 0, 82, 191, 42, 180, 0, 68, 27, 28, 184, 0, 36]
abbrev dktX2_numberHere_0 : List UInt8 := dkwX2_numberHere_0 ++ dktX2_numberHere_1
theorem dksX2_numberHere_0 : cX2_numberHere.data.toList.drop 0 = dktX2_numberHere_0 := by decide +kernel
theorem dksX2_numberHere_1 : cX2_numberHere.data.toList.drop 23 = dktX2_numberHere_1 := dk_seg dksX2_numberHere_0 23 rfl rfl
theorem dX2_numberHere_0 : decode cX2_numberHere 0 = .ok (.aload_n 0, 1) := dk_42 (dk_at dksX2_numberHere_0 0 rfl rfl)
theorem dX2_numberHere_1 : decode cX2_numberHere 1 = .ok (.getfield 47, 3) := dk_180 0 47 (dk_at dksX2_numberHere_0 1 rfl rfl)
theorem dX2_numberHere_4 : decode cX2_numberHere 4 = .ok (.iconst 3, 1) := dk_6 (dk_at dksX2_numberHere_0 4 rfl rfl)
theorem dX2_numberHere_5 : decode cX2_numberHere 5 = .ok (.if_icmp .eq 9, 3) := dk_159 0 9 (dk_at dksX2_numberHere_0 5 rfl rfl)
theorem dX2_numberHere_8 : decode cX2_numberHere 8 = .ok (.aload_n 0, 1) := dk_42 (dk_at dksX2_numberHere_0 8 rfl rfl)
theorem dX2_numberHere_9 : decode cX2_numberHere 9 = .ok (.iconst 1, 1) := dk_4 (dk_at dksX2_numberHere_0 9 rfl rfl)
theorem dX2_numberHere_10 : decode cX2_numberHere 10 = .ok (.invokevirtual 82, 3) := dk_182 0 82 (dk_at dksX2_numberHere_0 10 rfl rfl)
theorem dX2_numberHere_13 : decode cX2_numberHere 13 = .ok (.athrow, 1) := dk_191 (dk_at dksX2_numberHere_0 13 rfl rfl)
theorem dX2_numberHere_14 : decode cX2_numberHere 14 = .ok (.aload_n 0, 1) := dk_42 (dk_at dksX2_numberHere_0 14 rfl rfl)
theorem dX2_numberHere_15 : decode cX2_numberHere 15 = .ok (.getfield 68, 3) := dk_180 0 68 (dk_at dksX2_numberHere_0 15 rfl rfl)
theorem dX2_numberHere_18 : decode cX2_numberHere 18 = .ok (.iload_n 1, 1) := dk_27 (dk_at dksX2_numberHere_0 18 rfl rfl)
theorem dX2_numberHere_19 : decode cX2_numberHere 19 = .ok (.iload_n 2, 1) := dk_28 (dk_at dksX2_numberHere_0 19 rfl rfl)
theorem dX2_numberHere_20 : decode cX2_numberHere 20 = .ok (.invokestatic 36, 3) := dk_184 0 36 (dk_at dksX2_numberHere_0 20 rfl rfl)
theorem dX2_numberHere_23 : decode cX2_numberHere 23 = .ok (.ifCond .ne 9, 3) := dk_154 0 9 (dk_at dksX2_numberHere_1 0 rfl rfl)
theorem dX2_numberHere_26 : decode cX2_numberHere 26 = .ok (.aload_n 0, 1) := dk_42 (dk_at dksX2_numberHere_1 3 rfl rfl)
theorem dX2_numberHere_27 : decode cX2_numberHere 27 = .ok (.iconst 4, 1) := dk_7 (dk_at dksX2_numberHere_1 4 rfl rfl)
theorem dX2_numberHere_28 : decode cX2_numberHere 28 = .ok (.invokevirtual 82, 3) := dk_182 0 82 (dk_at dksX2_numberHere_1 5 rfl rfl)
theorem dX2_numberHere_31 : decode cX2_numberHere 31 = .ok (.athrow, 1) := dk_191 (dk_at dksX2_numberHere_1 8 rfl rfl)
theorem dX2_numberHere_32 : decode cX2_numberHere 32 = .ok (.aload_n 0, 1) := dk_42 (dk_at dksX2_numberHere_1 9 rfl rfl)
theorem dX2_numberHere_33 : decode cX2_numberHere 33 = .ok (.getfield 68, 3) := dk_180 0 68 (dk_at dksX2_numberHere_1 10 rfl rfl)
theorem dX2_numberHere_36 : decode cX2_numberHere 36 = .ok (.ireturn, 1) := dk_172 (dk_at dksX2_numberHere_1 13 rfl rfl)
abbrev cX2_personLine : ByteArray := prog_16_method_25_code
def yX2_personLine : MethodName := ⟨RX2, "personLine", "()V"⟩
def dkwX2_personLine_6 : List UInt8 := [181, 0, 136, 177]
abbrev dktX2_personLine_6 : List UInt8 := dkwX2_personLine_6 ++ []
def dkwX2_personLine_5 : List UInt8 := [180, 0, 250, 42, 180, 0, 105, 180, 0, 136, 43, 83, 42, 180, 0, 105, 89, 180, 0, 136, 4, 96]
abbrev dktX2_personLine_5 : List UInt8 := dkwX2_personLine_5 ++ dktX2_personLine_6
def dkwX2_personLine_4 : List UInt8 := [182, 0, 154, 181, 0, 240, 42, 18, 242, 182, 0, 122, 43, 42, 182, 0, 243, 181, 0, 247, 42, 180, 0, 105]
abbrev dktX2_personLine_4 : List UInt8 := dkwX2_personLine_4 ++ dktX2_personLine_5
def dkwX2_personLine_3 : List UInt8 := [182, 0, 231, 43, 42, 18, 234, 6, 16, 30, 182, 0, 154, 181, 0, 236, 43, 42, 18, 238, 4, 16, 9]
abbrev dktX2_personLine_3 : List UInt8 := dkwX2_personLine_3 ++ dktX2_personLine_4
def dkwX2_personLine_2 : List UInt8 := [42, 18, 223, 182, 0, 122, 43, 42, 182, 0, 225, 181, 0, 228, 42, 18, 230, 182, 0, 122, 42, 43]
abbrev dktX2_personLine_2 : List UInt8 := dkwX2_personLine_2 ++ dktX2_personLine_3
def dkwX2_personLine_1 : List UInt8 := [89, 42, 182, 0, 211, 42, 180, 0, 105, 180, 0, 136, 183, 0, 215, 76, 43, 42, 182, 0, 218, 181, 0, 221]
abbrev dktX2_personLine_1 : List UInt8 := dkwX2_personLine_1 ++ dktX2_personLine_2
def dkwX2_personLine_0 : List UInt8 := [42, 42, 180, 0, 105, 180, 0, 136, 16, 7, 162, 0, 7, 4, 167, 0, 4, 3, 182, 0, 207, 187, 0, 192]
abbrev dktX2_personLine_0 : List UInt8 := dkwX2_personLine_0 ++ dktX2_personLine_1
theorem dksX2_personLine_0 : cX2_personLine.data.toList.drop 0 = dktX2_personLine_0 := by decide +kernel
theorem dksX2_personLine_1 : cX2_personLine.data.toList.drop 24 = dktX2_personLine_1 := dk_seg dksX2_personLine_0 24 rfl rfl
theorem dksX2_personLine_2 : cX2_personLine.data.toList.drop 48 = dktX2_personLine_2 := dk_seg dksX2_personLine_1 24 rfl rfl
theorem dksX2_personLine_3 : cX2_personLine.data.toList.drop 70 = dktX2_personLine_3 := dk_seg dksX2_personLine_2 22 rfl rfl
theorem dksX2_personLine_4 : cX2_personLine.data.toList.drop 93 = dktX2_personLine_4 := dk_seg dksX2_personLine_3 23 rfl rfl
theorem dksX2_personLine_5 : cX2_personLine.data.toList.drop 117 = dktX2_personLine_5 := dk_seg dksX2_personLine_4 24 rfl rfl
theorem dksX2_personLine_6 : cX2_personLine.data.toList.drop 139 = dktX2_personLine_6 := dk_seg dksX2_personLine_5 22 rfl rfl
theorem dX2_personLine_0 : decode cX2_personLine 0 = .ok (.aload_n 0, 1) := dk_42 (dk_at dksX2_personLine_0 0 rfl rfl)
theorem dX2_personLine_1 : decode cX2_personLine 1 = .ok (.aload_n 0, 1) := dk_42 (dk_at dksX2_personLine_0 1 rfl rfl)
theorem dX2_personLine_2 : decode cX2_personLine 2 = .ok (.getfield 105, 3) := dk_180 0 105 (dk_at dksX2_personLine_0 2 rfl rfl)
theorem dX2_personLine_5 : decode cX2_personLine 5 = .ok (.getfield 136, 3) := dk_180 0 136 (dk_at dksX2_personLine_0 5 rfl rfl)
theorem dX2_personLine_8 : decode cX2_personLine 8 = .ok (.bipush 7, 2) := dk_16 7 (dk_at dksX2_personLine_0 8 rfl rfl)
theorem dX2_personLine_10 : decode cX2_personLine 10 = .ok (.if_icmp .ge 7, 3) := dk_162 0 7 (dk_at dksX2_personLine_0 10 rfl rfl)
theorem dX2_personLine_13 : decode cX2_personLine 13 = .ok (.iconst 1, 1) := dk_4 (dk_at dksX2_personLine_0 13 rfl rfl)
theorem dX2_personLine_14 : decode cX2_personLine 14 = .ok (.goto 4, 3) := dk_167 0 4 (dk_at dksX2_personLine_0 14 rfl rfl)
theorem dX2_personLine_17 : decode cX2_personLine 17 = .ok (.iconst 0, 1) := dk_3 (dk_at dksX2_personLine_0 17 rfl rfl)
theorem dX2_personLine_18 : decode cX2_personLine 18 = .ok (.invokevirtual 207, 3) := dk_182 0 207 (dk_at dksX2_personLine_0 18 rfl rfl)
theorem dX2_personLine_21 : decode cX2_personLine 21 = .ok (.new 192, 3) := dk_187 0 192 (dk_at dksX2_personLine_0 21 rfl rfl)
theorem dX2_personLine_24 : decode cX2_personLine 24 = .ok (.dup, 1) := dk_89 (dk_at dksX2_personLine_1 0 rfl rfl)
theorem dX2_personLine_25 : decode cX2_personLine 25 = .ok (.aload_n 0, 1) := dk_42 (dk_at dksX2_personLine_1 1 rfl rfl)
theorem dX2_personLine_26 : decode cX2_personLine 26 = .ok (.invokevirtual 211, 3) := dk_182 0 211 (dk_at dksX2_personLine_1 2 rfl rfl)
theorem dX2_personLine_29 : decode cX2_personLine 29 = .ok (.aload_n 0, 1) := dk_42 (dk_at dksX2_personLine_1 5 rfl rfl)
theorem dX2_personLine_30 : decode cX2_personLine 30 = .ok (.getfield 105, 3) := dk_180 0 105 (dk_at dksX2_personLine_1 6 rfl rfl)
theorem dX2_personLine_33 : decode cX2_personLine 33 = .ok (.getfield 136, 3) := dk_180 0 136 (dk_at dksX2_personLine_1 9 rfl rfl)
theorem dX2_personLine_36 : decode cX2_personLine 36 = .ok (.invokespecial 215, 3) := dk_183 0 215 (dk_at dksX2_personLine_1 12 rfl rfl)
theorem dX2_personLine_39 : decode cX2_personLine 39 = .ok (.astore_n 1, 1) := dk_76 (dk_at dksX2_personLine_1 15 rfl rfl)
theorem dX2_personLine_40 : decode cX2_personLine 40 = .ok (.aload_n 1, 1) := dk_43 (dk_at dksX2_personLine_1 16 rfl rfl)
theorem dX2_personLine_41 : decode cX2_personLine 41 = .ok (.aload_n 0, 1) := dk_42 (dk_at dksX2_personLine_1 17 rfl rfl)
theorem dX2_personLine_42 : decode cX2_personLine 42 = .ok (.invokevirtual 218, 3) := dk_182 0 218 (dk_at dksX2_personLine_1 18 rfl rfl)
theorem dX2_personLine_45 : decode cX2_personLine 45 = .ok (.putfield 221, 3) := dk_181 0 221 (dk_at dksX2_personLine_1 21 rfl rfl)
theorem dX2_personLine_48 : decode cX2_personLine 48 = .ok (.aload_n 0, 1) := dk_42 (dk_at dksX2_personLine_2 0 rfl rfl)
theorem dX2_personLine_49 : decode cX2_personLine 49 = .ok (.ldc 223, 2) := dk_18 223 (dk_at dksX2_personLine_2 1 rfl rfl)
theorem dX2_personLine_51 : decode cX2_personLine 51 = .ok (.invokevirtual 122, 3) := dk_182 0 122 (dk_at dksX2_personLine_2 3 rfl rfl)
theorem dX2_personLine_54 : decode cX2_personLine 54 = .ok (.aload_n 1, 1) := dk_43 (dk_at dksX2_personLine_2 6 rfl rfl)
theorem dX2_personLine_55 : decode cX2_personLine 55 = .ok (.aload_n 0, 1) := dk_42 (dk_at dksX2_personLine_2 7 rfl rfl)
theorem dX2_personLine_56 : decode cX2_personLine 56 = .ok (.invokevirtual 225, 3) := dk_182 0 225 (dk_at dksX2_personLine_2 8 rfl rfl)
theorem dX2_personLine_59 : decode cX2_personLine 59 = .ok (.putfield 228, 3) := dk_181 0 228 (dk_at dksX2_personLine_2 11 rfl rfl)
theorem dX2_personLine_62 : decode cX2_personLine 62 = .ok (.aload_n 0, 1) := dk_42 (dk_at dksX2_personLine_2 14 rfl rfl)
theorem dX2_personLine_63 : decode cX2_personLine 63 = .ok (.ldc 230, 2) := dk_18 230 (dk_at dksX2_personLine_2 15 rfl rfl)
theorem dX2_personLine_65 : decode cX2_personLine 65 = .ok (.invokevirtual 122, 3) := dk_182 0 122 (dk_at dksX2_personLine_2 17 rfl rfl)
theorem dX2_personLine_68 : decode cX2_personLine 68 = .ok (.aload_n 0, 1) := dk_42 (dk_at dksX2_personLine_2 20 rfl rfl)
theorem dX2_personLine_69 : decode cX2_personLine 69 = .ok (.aload_n 1, 1) := dk_43 (dk_at dksX2_personLine_2 21 rfl rfl)
theorem dX2_personLine_70 : decode cX2_personLine 70 = .ok (.invokevirtual 231, 3) := dk_182 0 231 (dk_at dksX2_personLine_3 0 rfl rfl)
theorem dX2_personLine_73 : decode cX2_personLine 73 = .ok (.aload_n 1, 1) := dk_43 (dk_at dksX2_personLine_3 3 rfl rfl)
theorem dX2_personLine_74 : decode cX2_personLine 74 = .ok (.aload_n 0, 1) := dk_42 (dk_at dksX2_personLine_3 4 rfl rfl)
theorem dX2_personLine_75 : decode cX2_personLine 75 = .ok (.ldc 234, 2) := dk_18 234 (dk_at dksX2_personLine_3 5 rfl rfl)
theorem dX2_personLine_77 : decode cX2_personLine 77 = .ok (.iconst 3, 1) := dk_6 (dk_at dksX2_personLine_3 7 rfl rfl)
theorem dX2_personLine_78 : decode cX2_personLine 78 = .ok (.bipush 30, 2) := dk_16 30 (dk_at dksX2_personLine_3 8 rfl rfl)
theorem dX2_personLine_80 : decode cX2_personLine 80 = .ok (.invokevirtual 154, 3) := dk_182 0 154 (dk_at dksX2_personLine_3 10 rfl rfl)
theorem dX2_personLine_83 : decode cX2_personLine 83 = .ok (.putfield 236, 3) := dk_181 0 236 (dk_at dksX2_personLine_3 13 rfl rfl)
theorem dX2_personLine_86 : decode cX2_personLine 86 = .ok (.aload_n 1, 1) := dk_43 (dk_at dksX2_personLine_3 16 rfl rfl)
theorem dX2_personLine_87 : decode cX2_personLine 87 = .ok (.aload_n 0, 1) := dk_42 (dk_at dksX2_personLine_3 17 rfl rfl)
theorem dX2_personLine_88 : decode cX2_personLine 88 = .ok (.ldc 238, 2) := dk_18 238 (dk_at dksX2_personLine_3 18 rfl rfl)
theorem dX2_personLine_90 : decode cX2_personLine 90 = .ok (.iconst 1, 1) := dk_4 (dk_at dksX2_personLine_3 20 rfl rfl)
theorem dX2_personLine_91 : decode cX2_personLine 91 = .ok (.bipush 9, 2) := dk_16 9 (dk_at dksX2_personLine_3 21 rfl rfl)
theorem dX2_personLine_93 : decode cX2_personLine 93 = .ok (.invokevirtual 154, 3) := dk_182 0 154 (dk_at dksX2_personLine_4 0 rfl rfl)
theorem dX2_personLine_96 : decode cX2_personLine 96 = .ok (.putfield 240, 3) := dk_181 0 240 (dk_at dksX2_personLine_4 3 rfl rfl)
theorem dX2_personLine_99 : decode cX2_personLine 99 = .ok (.aload_n 0, 1) := dk_42 (dk_at dksX2_personLine_4 6 rfl rfl)
theorem dX2_personLine_100 : decode cX2_personLine 100 = .ok (.ldc 242, 2) := dk_18 242 (dk_at dksX2_personLine_4 7 rfl rfl)
theorem dX2_personLine_102 : decode cX2_personLine 102 = .ok (.invokevirtual 122, 3) := dk_182 0 122 (dk_at dksX2_personLine_4 9 rfl rfl)
theorem dX2_personLine_105 : decode cX2_personLine 105 = .ok (.aload_n 1, 1) := dk_43 (dk_at dksX2_personLine_4 12 rfl rfl)
theorem dX2_personLine_106 : decode cX2_personLine 106 = .ok (.aload_n 0, 1) := dk_42 (dk_at dksX2_personLine_4 13 rfl rfl)
theorem dX2_personLine_107 : decode cX2_personLine 107 = .ok (.invokevirtual 243, 3) := dk_182 0 243 (dk_at dksX2_personLine_4 14 rfl rfl)
theorem dX2_personLine_110 : decode cX2_personLine 110 = .ok (.putfield 247, 3) := dk_181 0 247 (dk_at dksX2_personLine_4 17 rfl rfl)
theorem dX2_personLine_113 : decode cX2_personLine 113 = .ok (.aload_n 0, 1) := dk_42 (dk_at dksX2_personLine_4 20 rfl rfl)
theorem dX2_personLine_114 : decode cX2_personLine 114 = .ok (.getfield 105, 3) := dk_180 0 105 (dk_at dksX2_personLine_4 21 rfl rfl)
theorem dX2_personLine_117 : decode cX2_personLine 117 = .ok (.getfield 250, 3) := dk_180 0 250 (dk_at dksX2_personLine_5 0 rfl rfl)
theorem dX2_personLine_120 : decode cX2_personLine 120 = .ok (.aload_n 0, 1) := dk_42 (dk_at dksX2_personLine_5 3 rfl rfl)
theorem dX2_personLine_121 : decode cX2_personLine 121 = .ok (.getfield 105, 3) := dk_180 0 105 (dk_at dksX2_personLine_5 4 rfl rfl)
theorem dX2_personLine_124 : decode cX2_personLine 124 = .ok (.getfield 136, 3) := dk_180 0 136 (dk_at dksX2_personLine_5 7 rfl rfl)
theorem dX2_personLine_127 : decode cX2_personLine 127 = .ok (.aload_n 1, 1) := dk_43 (dk_at dksX2_personLine_5 10 rfl rfl)
theorem dX2_personLine_128 : decode cX2_personLine 128 = .ok (.aastore, 1) := dk_83 (dk_at dksX2_personLine_5 11 rfl rfl)
theorem dX2_personLine_129 : decode cX2_personLine 129 = .ok (.aload_n 0, 1) := dk_42 (dk_at dksX2_personLine_5 12 rfl rfl)
theorem dX2_personLine_130 : decode cX2_personLine 130 = .ok (.getfield 105, 3) := dk_180 0 105 (dk_at dksX2_personLine_5 13 rfl rfl)
theorem dX2_personLine_133 : decode cX2_personLine 133 = .ok (.dup, 1) := dk_89 (dk_at dksX2_personLine_5 16 rfl rfl)
theorem dX2_personLine_134 : decode cX2_personLine 134 = .ok (.getfield 136, 3) := dk_180 0 136 (dk_at dksX2_personLine_5 17 rfl rfl)
theorem dX2_personLine_137 : decode cX2_personLine 137 = .ok (.iconst 1, 1) := dk_4 (dk_at dksX2_personLine_5 20 rfl rfl)
theorem dX2_personLine_138 : decode cX2_personLine 138 = .ok (.iadd, 1) := dk_96 (dk_at dksX2_personLine_5 21 rfl rfl)
theorem dX2_personLine_139 : decode cX2_personLine 139 = .ok (.putfield 136, 3) := dk_181 0 136 (dk_at dksX2_personLine_6 0 rfl rfl)
theorem dX2_personLine_142 : decode cX2_personLine 142 = .ok (.return_, 1) := dk_177 (dk_at dksX2_personLine_6 3 rfl rfl)
abbrev cX2_begins : ByteArray := prog_16_method_17_code
def yX2_begins : MethodName := ⟨RX2, "begins", "(Z)V"⟩
def dkwX2_begins_1 : List UInt8 := [182, 0, 82, 191, 42, 182, 0, 75, 177]
abbrev dktX2_begins_1 : List UInt8 := dkwX2_begins_1 ++ []
def dkwX2_begins_0 : List UInt8 := [27, 154, 0, 9, 42, 8, 182, 0, 82, 191, 42, 180, 0, 105, 180, 0, 129, 154, 0, 10, 42, 16, 6]
abbrev dktX2_begins_0 : List UInt8 := dkwX2_begins_0 ++ dktX2_begins_1
theorem dksX2_begins_0 : cX2_begins.data.toList.drop 0 = dktX2_begins_0 := by decide +kernel
theorem dksX2_begins_1 : cX2_begins.data.toList.drop 23 = dktX2_begins_1 := dk_seg dksX2_begins_0 23 rfl rfl
theorem dX2_begins_0 : decode cX2_begins 0 = .ok (.iload_n 1, 1) := dk_27 (dk_at dksX2_begins_0 0 rfl rfl)
theorem dX2_begins_1 : decode cX2_begins 1 = .ok (.ifCond .ne 9, 3) := dk_154 0 9 (dk_at dksX2_begins_0 1 rfl rfl)
theorem dX2_begins_4 : decode cX2_begins 4 = .ok (.aload_n 0, 1) := dk_42 (dk_at dksX2_begins_0 4 rfl rfl)
theorem dX2_begins_5 : decode cX2_begins 5 = .ok (.iconst 5, 1) := dk_8 (dk_at dksX2_begins_0 5 rfl rfl)
theorem dX2_begins_6 : decode cX2_begins 6 = .ok (.invokevirtual 82, 3) := dk_182 0 82 (dk_at dksX2_begins_0 6 rfl rfl)
theorem dX2_begins_9 : decode cX2_begins 9 = .ok (.athrow, 1) := dk_191 (dk_at dksX2_begins_0 9 rfl rfl)
theorem dX2_begins_10 : decode cX2_begins 10 = .ok (.aload_n 0, 1) := dk_42 (dk_at dksX2_begins_0 10 rfl rfl)
theorem dX2_begins_11 : decode cX2_begins 11 = .ok (.getfield 105, 3) := dk_180 0 105 (dk_at dksX2_begins_0 11 rfl rfl)
theorem dX2_begins_14 : decode cX2_begins 14 = .ok (.getfield 129, 3) := dk_180 0 129 (dk_at dksX2_begins_0 14 rfl rfl)
theorem dX2_begins_17 : decode cX2_begins 17 = .ok (.ifCond .ne 10, 3) := dk_154 0 10 (dk_at dksX2_begins_0 17 rfl rfl)
theorem dX2_begins_20 : decode cX2_begins 20 = .ok (.aload_n 0, 1) := dk_42 (dk_at dksX2_begins_0 20 rfl rfl)
theorem dX2_begins_21 : decode cX2_begins 21 = .ok (.bipush 6, 2) := dk_16 6 (dk_at dksX2_begins_0 21 rfl rfl)
theorem dX2_begins_23 : decode cX2_begins 23 = .ok (.invokevirtual 82, 3) := dk_182 0 82 (dk_at dksX2_begins_1 0 rfl rfl)
theorem dX2_begins_26 : decode cX2_begins 26 = .ok (.athrow, 1) := dk_191 (dk_at dksX2_begins_1 3 rfl rfl)
theorem dX2_begins_27 : decode cX2_begins 27 = .ok (.aload_n 0, 1) := dk_42 (dk_at dksX2_begins_1 4 rfl rfl)
theorem dX2_begins_28 : decode cX2_begins 28 = .ok (.invokevirtual 75, 3) := dk_182 0 75 (dk_at dksX2_begins_1 5 rfl rfl)
theorem dX2_begins_31 : decode cX2_begins 31 = .ok (.return_, 1) := dk_177 (dk_at dksX2_begins_1 8 rfl rfl)
abbrev cX2_newName : ByteArray := prog_16_method_10_code
def yX2_newName : MethodName := ⟨RX2, "newName", "()Ljava/lang/String;"⟩
def dkwX2_newName_1 : List UInt8 := [42, 180, 0, 61, 76, 42, 182, 0, 75, 43, 176]
abbrev dktX2_newName_1 : List UInt8 := dkwX2_newName_1 ++ []
def dkwX2_newName_0 : List UInt8 := [42, 182, 0, 102, 42, 180, 0, 105, 42, 180, 0, 61, 182, 0, 108, 198, 0, 9, 42, 6, 182, 0, 82, 191]
abbrev dktX2_newName_0 : List UInt8 := dkwX2_newName_0 ++ dktX2_newName_1
theorem dksX2_newName_0 : cX2_newName.data.toList.drop 0 = dktX2_newName_0 := by decide +kernel
theorem dksX2_newName_1 : cX2_newName.data.toList.drop 24 = dktX2_newName_1 := dk_seg dksX2_newName_0 24 rfl rfl
theorem dX2_newName_0 : decode cX2_newName 0 = .ok (.aload_n 0, 1) := dk_42 (dk_at dksX2_newName_0 0 rfl rfl)
theorem dX2_newName_1 : decode cX2_newName 1 = .ok (.invokevirtual 102, 3) := dk_182 0 102 (dk_at dksX2_newName_0 1 rfl rfl)
theorem dX2_newName_4 : decode cX2_newName 4 = .ok (.aload_n 0, 1) := dk_42 (dk_at dksX2_newName_0 4 rfl rfl)
theorem dX2_newName_5 : decode cX2_newName 5 = .ok (.getfield 105, 3) := dk_180 0 105 (dk_at dksX2_newName_0 5 rfl rfl)
theorem dX2_newName_8 : decode cX2_newName 8 = .ok (.aload_n 0, 1) := dk_42 (dk_at dksX2_newName_0 8 rfl rfl)
theorem dX2_newName_9 : decode cX2_newName 9 = .ok (.getfield 61, 3) := dk_180 0 61 (dk_at dksX2_newName_0 9 rfl rfl)
theorem dX2_newName_12 : decode cX2_newName 12 = .ok (.invokevirtual 108, 3) := dk_182 0 108 (dk_at dksX2_newName_0 12 rfl rfl)
theorem dX2_newName_15 : decode cX2_newName 15 = .ok (.ifnull 9, 3) := dk_198 0 9 (dk_at dksX2_newName_0 15 rfl rfl)
theorem dX2_newName_18 : decode cX2_newName 18 = .ok (.aload_n 0, 1) := dk_42 (dk_at dksX2_newName_0 18 rfl rfl)
theorem dX2_newName_19 : decode cX2_newName 19 = .ok (.iconst 3, 1) := dk_6 (dk_at dksX2_newName_0 19 rfl rfl)
theorem dX2_newName_20 : decode cX2_newName 20 = .ok (.invokevirtual 82, 3) := dk_182 0 82 (dk_at dksX2_newName_0 20 rfl rfl)
theorem dX2_newName_23 : decode cX2_newName 23 = .ok (.athrow, 1) := dk_191 (dk_at dksX2_newName_0 23 rfl rfl)
theorem dX2_newName_24 : decode cX2_newName 24 = .ok (.aload_n 0, 1) := dk_42 (dk_at dksX2_newName_1 0 rfl rfl)
theorem dX2_newName_25 : decode cX2_newName 25 = .ok (.getfield 61, 3) := dk_180 0 61 (dk_at dksX2_newName_1 1 rfl rfl)
theorem dX2_newName_28 : decode cX2_newName 28 = .ok (.astore_n 1, 1) := dk_76 (dk_at dksX2_newName_1 4 rfl rfl)
theorem dX2_newName_29 : decode cX2_newName 29 = .ok (.aload_n 0, 1) := dk_42 (dk_at dksX2_newName_1 5 rfl rfl)
theorem dX2_newName_30 : decode cX2_newName 30 = .ok (.invokevirtual 75, 3) := dk_182 0 75 (dk_at dksX2_newName_1 6 rfl rfl)
theorem dX2_newName_33 : decode cX2_newName 33 = .ok (.aload_n 1, 1) := dk_43 (dk_at dksX2_newName_1 9 rfl rfl)
theorem dX2_newName_34 : decode cX2_newName 34 = .ok (.areturn, 1) := dk_176 (dk_at dksX2_newName_1 10 rfl rfl)
abbrev cX2_mustName : ByteArray := prog_16_method_9_code
def yX2_mustName : MethodName := ⟨RX2, "mustName", "()V"⟩
def dkwX2_mustName_8 : List UInt8 := [42, 4, 182, 0, 82, 191, 177]
abbrev dktX2_mustName_8 : List UInt8 := dkwX2_mustName_8 ++ []
def dkwX2_mustName_7 : List UInt8 := [170, 0, 0, 0, 0, 44, 0, 0, 0, 0, 0, 0, 0, 5, 0, 0, 0, 38, 0, 0, 0, 38, 0, 0, 0, 38, 0, 0, 0, 38, 0, 0, 0, 38, 0, 0, 0, 38]
abbrev dktX2_mustName_7 : List UInt8 := dkwX2_mustName_7 ++ dktX2_mustName_8
def dkwX2_mustName_6 : List UInt8 := [18, 100, 182, 0, 71, 153, 0, 5, 8, 61, 28]
abbrev dktX2_mustName_6 : List UInt8 := dkwX2_mustName_6 ++ dktX2_mustName_7
def dkwX2_mustName_5 : List UInt8 := [153, 0, 33, 6, 61, 167, 0, 28, 43, 18, 98, 182, 0, 71, 153, 0, 19, 7, 61, 167, 0, 14, 43]
abbrev dktX2_mustName_5 : List UInt8 := dkwX2_mustName_5 ++ dktX2_mustName_6
def dkwX2_mustName_4 : List UInt8 := [61, 167, 0, 56, 43, 18, 94, 182, 0, 71, 153, 0, 47, 5, 61, 167, 0, 42, 43, 18, 96, 182, 0, 71]
abbrev dktX2_mustName_4 : List UInt8 := dkwX2_mustName_4 ++ dktX2_mustName_5
def dkwX2_mustName_3 : List UInt8 := [43, 18, 90, 182, 0, 71, 153, 0, 75, 3, 61, 167, 0, 70, 43, 18, 92, 182, 0, 71, 153, 0, 61, 4]
abbrev dktX2_mustName_3 : List UInt8 := dkwX2_mustName_3 ++ dktX2_mustName_4
def dkwX2_mustName_2 : List UInt8 := [171, 0, 0, 0, 0, 0, 140, 0, 0, 0, 6, 196, 227, 155, 85, 0, 0, 0, 73, 0, 53, 193, 232, 0, 0, 0, 129, 0, 53, 206, 123, 0, 0, 0, 115, 0, 54, 6, 89, 0, 0, 0, 87, 5, 222, 7, 124, 0, 0, 0, 59, 6, 52, 62, 194, 0, 0, 0, 101]
abbrev dktX2_mustName_2 : List UInt8 := dkwX2_mustName_2 ++ dktX2_mustName_3
def dkwX2_mustName_1 : List UInt8 := [182, 0, 86]
abbrev dktX2_mustName_1 : List UInt8 := dkwX2_mustName_1 ++ dktX2_mustName_2
def dkwX2_mustName_0 : List UInt8 := [42, 180, 0, 47, 5, 159, 0, 9, 42, 4, 182, 0, 82, 191, 42, 180, 0, 61, 76, 2, 61, 43]
abbrev dktX2_mustName_0 : List UInt8 := dkwX2_mustName_0 ++ dktX2_mustName_1
theorem dksX2_mustName_0 : cX2_mustName.data.toList.drop 0 = dktX2_mustName_0 := by decide +kernel
theorem dksX2_mustName_1 : cX2_mustName.data.toList.drop 22 = dktX2_mustName_1 := dk_seg dksX2_mustName_0 22 rfl rfl
theorem dksX2_mustName_2 : cX2_mustName.data.toList.drop 25 = dktX2_mustName_2 := dk_seg dksX2_mustName_1 3 rfl rfl
theorem dksX2_mustName_3 : cX2_mustName.data.toList.drop 84 = dktX2_mustName_3 := dk_seg dksX2_mustName_2 59 rfl rfl
theorem dksX2_mustName_4 : cX2_mustName.data.toList.drop 108 = dktX2_mustName_4 := dk_seg dksX2_mustName_3 24 rfl rfl
theorem dksX2_mustName_5 : cX2_mustName.data.toList.drop 132 = dktX2_mustName_5 := dk_seg dksX2_mustName_4 24 rfl rfl
theorem dksX2_mustName_6 : cX2_mustName.data.toList.drop 155 = dktX2_mustName_6 := dk_seg dksX2_mustName_5 23 rfl rfl
theorem dksX2_mustName_7 : cX2_mustName.data.toList.drop 166 = dktX2_mustName_7 := dk_seg dksX2_mustName_6 11 rfl rfl
theorem dksX2_mustName_8 : cX2_mustName.data.toList.drop 204 = dktX2_mustName_8 := dk_seg dksX2_mustName_7 38 rfl rfl
theorem dX2_mustName_0 : decode cX2_mustName 0 = .ok (.aload_n 0, 1) := dk_42 (dk_at dksX2_mustName_0 0 rfl rfl)
theorem dX2_mustName_1 : decode cX2_mustName 1 = .ok (.getfield 47, 3) := dk_180 0 47 (dk_at dksX2_mustName_0 1 rfl rfl)
theorem dX2_mustName_4 : decode cX2_mustName 4 = .ok (.iconst 2, 1) := dk_5 (dk_at dksX2_mustName_0 4 rfl rfl)
theorem dX2_mustName_5 : decode cX2_mustName 5 = .ok (.if_icmp .eq 9, 3) := dk_159 0 9 (dk_at dksX2_mustName_0 5 rfl rfl)
theorem dX2_mustName_8 : decode cX2_mustName 8 = .ok (.aload_n 0, 1) := dk_42 (dk_at dksX2_mustName_0 8 rfl rfl)
theorem dX2_mustName_9 : decode cX2_mustName 9 = .ok (.iconst 1, 1) := dk_4 (dk_at dksX2_mustName_0 9 rfl rfl)
theorem dX2_mustName_10 : decode cX2_mustName 10 = .ok (.invokevirtual 82, 3) := dk_182 0 82 (dk_at dksX2_mustName_0 10 rfl rfl)
theorem dX2_mustName_13 : decode cX2_mustName 13 = .ok (.athrow, 1) := dk_191 (dk_at dksX2_mustName_0 13 rfl rfl)
theorem dX2_mustName_14 : decode cX2_mustName 14 = .ok (.aload_n 0, 1) := dk_42 (dk_at dksX2_mustName_0 14 rfl rfl)
theorem dX2_mustName_15 : decode cX2_mustName 15 = .ok (.getfield 61, 3) := dk_180 0 61 (dk_at dksX2_mustName_0 15 rfl rfl)
theorem dX2_mustName_18 : decode cX2_mustName 18 = .ok (.astore_n 1, 1) := dk_76 (dk_at dksX2_mustName_0 18 rfl rfl)
theorem dX2_mustName_19 : decode cX2_mustName 19 = .ok (.iconst (-1), 1) := dk_2 (dk_at dksX2_mustName_0 19 rfl rfl)
theorem dX2_mustName_20 : decode cX2_mustName 20 = .ok (.istore_n 2, 1) := dk_61 (dk_at dksX2_mustName_0 20 rfl rfl)
theorem dX2_mustName_21 : decode cX2_mustName 21 = .ok (.aload_n 1, 1) := dk_43 (dk_at dksX2_mustName_0 21 rfl rfl)
theorem dX2_mustName_22 : decode cX2_mustName 22 = .ok (.invokevirtual 86, 3) := dk_182 0 86 (dk_at dksX2_mustName_1 0 rfl rfl)
theorem dX2_mustName_25 : decode cX2_mustName 25 = .ok (.lookupswitch 140 #[(-991716523, 73), (3523048, 129), (3526267, 115), (3540569, 87), (98436988, 59), (104087234, 101)], 59) := by decide +kernel
theorem dX2_mustName_84 : decode cX2_mustName 84 = .ok (.aload_n 1, 1) := dk_43 (dk_at dksX2_mustName_3 0 rfl rfl)
theorem dX2_mustName_85 : decode cX2_mustName 85 = .ok (.ldc 90, 2) := dk_18 90 (dk_at dksX2_mustName_3 1 rfl rfl)
theorem dX2_mustName_87 : decode cX2_mustName 87 = .ok (.invokevirtual 71, 3) := dk_182 0 71 (dk_at dksX2_mustName_3 3 rfl rfl)
theorem dX2_mustName_90 : decode cX2_mustName 90 = .ok (.ifCond .eq 75, 3) := dk_153 0 75 (dk_at dksX2_mustName_3 6 rfl rfl)
theorem dX2_mustName_93 : decode cX2_mustName 93 = .ok (.iconst 0, 1) := dk_3 (dk_at dksX2_mustName_3 9 rfl rfl)
theorem dX2_mustName_94 : decode cX2_mustName 94 = .ok (.istore_n 2, 1) := dk_61 (dk_at dksX2_mustName_3 10 rfl rfl)
theorem dX2_mustName_95 : decode cX2_mustName 95 = .ok (.goto 70, 3) := dk_167 0 70 (dk_at dksX2_mustName_3 11 rfl rfl)
theorem dX2_mustName_98 : decode cX2_mustName 98 = .ok (.aload_n 1, 1) := dk_43 (dk_at dksX2_mustName_3 14 rfl rfl)
theorem dX2_mustName_99 : decode cX2_mustName 99 = .ok (.ldc 92, 2) := dk_18 92 (dk_at dksX2_mustName_3 15 rfl rfl)
theorem dX2_mustName_101 : decode cX2_mustName 101 = .ok (.invokevirtual 71, 3) := dk_182 0 71 (dk_at dksX2_mustName_3 17 rfl rfl)
theorem dX2_mustName_104 : decode cX2_mustName 104 = .ok (.ifCond .eq 61, 3) := dk_153 0 61 (dk_at dksX2_mustName_3 20 rfl rfl)
theorem dX2_mustName_107 : decode cX2_mustName 107 = .ok (.iconst 1, 1) := dk_4 (dk_at dksX2_mustName_3 23 rfl rfl)
theorem dX2_mustName_108 : decode cX2_mustName 108 = .ok (.istore_n 2, 1) := dk_61 (dk_at dksX2_mustName_4 0 rfl rfl)
theorem dX2_mustName_109 : decode cX2_mustName 109 = .ok (.goto 56, 3) := dk_167 0 56 (dk_at dksX2_mustName_4 1 rfl rfl)
theorem dX2_mustName_112 : decode cX2_mustName 112 = .ok (.aload_n 1, 1) := dk_43 (dk_at dksX2_mustName_4 4 rfl rfl)
theorem dX2_mustName_113 : decode cX2_mustName 113 = .ok (.ldc 94, 2) := dk_18 94 (dk_at dksX2_mustName_4 5 rfl rfl)
theorem dX2_mustName_115 : decode cX2_mustName 115 = .ok (.invokevirtual 71, 3) := dk_182 0 71 (dk_at dksX2_mustName_4 7 rfl rfl)
theorem dX2_mustName_118 : decode cX2_mustName 118 = .ok (.ifCond .eq 47, 3) := dk_153 0 47 (dk_at dksX2_mustName_4 10 rfl rfl)
theorem dX2_mustName_121 : decode cX2_mustName 121 = .ok (.iconst 2, 1) := dk_5 (dk_at dksX2_mustName_4 13 rfl rfl)
theorem dX2_mustName_122 : decode cX2_mustName 122 = .ok (.istore_n 2, 1) := dk_61 (dk_at dksX2_mustName_4 14 rfl rfl)
theorem dX2_mustName_123 : decode cX2_mustName 123 = .ok (.goto 42, 3) := dk_167 0 42 (dk_at dksX2_mustName_4 15 rfl rfl)
theorem dX2_mustName_126 : decode cX2_mustName 126 = .ok (.aload_n 1, 1) := dk_43 (dk_at dksX2_mustName_4 18 rfl rfl)
theorem dX2_mustName_127 : decode cX2_mustName 127 = .ok (.ldc 96, 2) := dk_18 96 (dk_at dksX2_mustName_4 19 rfl rfl)
theorem dX2_mustName_129 : decode cX2_mustName 129 = .ok (.invokevirtual 71, 3) := dk_182 0 71 (dk_at dksX2_mustName_4 21 rfl rfl)
theorem dX2_mustName_132 : decode cX2_mustName 132 = .ok (.ifCond .eq 33, 3) := dk_153 0 33 (dk_at dksX2_mustName_5 0 rfl rfl)
theorem dX2_mustName_135 : decode cX2_mustName 135 = .ok (.iconst 3, 1) := dk_6 (dk_at dksX2_mustName_5 3 rfl rfl)
theorem dX2_mustName_136 : decode cX2_mustName 136 = .ok (.istore_n 2, 1) := dk_61 (dk_at dksX2_mustName_5 4 rfl rfl)
theorem dX2_mustName_137 : decode cX2_mustName 137 = .ok (.goto 28, 3) := dk_167 0 28 (dk_at dksX2_mustName_5 5 rfl rfl)
theorem dX2_mustName_140 : decode cX2_mustName 140 = .ok (.aload_n 1, 1) := dk_43 (dk_at dksX2_mustName_5 8 rfl rfl)
theorem dX2_mustName_141 : decode cX2_mustName 141 = .ok (.ldc 98, 2) := dk_18 98 (dk_at dksX2_mustName_5 9 rfl rfl)
theorem dX2_mustName_143 : decode cX2_mustName 143 = .ok (.invokevirtual 71, 3) := dk_182 0 71 (dk_at dksX2_mustName_5 11 rfl rfl)
theorem dX2_mustName_146 : decode cX2_mustName 146 = .ok (.ifCond .eq 19, 3) := dk_153 0 19 (dk_at dksX2_mustName_5 14 rfl rfl)
theorem dX2_mustName_149 : decode cX2_mustName 149 = .ok (.iconst 4, 1) := dk_7 (dk_at dksX2_mustName_5 17 rfl rfl)
theorem dX2_mustName_150 : decode cX2_mustName 150 = .ok (.istore_n 2, 1) := dk_61 (dk_at dksX2_mustName_5 18 rfl rfl)
theorem dX2_mustName_151 : decode cX2_mustName 151 = .ok (.goto 14, 3) := dk_167 0 14 (dk_at dksX2_mustName_5 19 rfl rfl)
theorem dX2_mustName_154 : decode cX2_mustName 154 = .ok (.aload_n 1, 1) := dk_43 (dk_at dksX2_mustName_5 22 rfl rfl)
theorem dX2_mustName_155 : decode cX2_mustName 155 = .ok (.ldc 100, 2) := dk_18 100 (dk_at dksX2_mustName_6 0 rfl rfl)
theorem dX2_mustName_157 : decode cX2_mustName 157 = .ok (.invokevirtual 71, 3) := dk_182 0 71 (dk_at dksX2_mustName_6 2 rfl rfl)
theorem dX2_mustName_160 : decode cX2_mustName 160 = .ok (.ifCond .eq 5, 3) := dk_153 0 5 (dk_at dksX2_mustName_6 5 rfl rfl)
theorem dX2_mustName_163 : decode cX2_mustName 163 = .ok (.iconst 5, 1) := dk_8 (dk_at dksX2_mustName_6 8 rfl rfl)
theorem dX2_mustName_164 : decode cX2_mustName 164 = .ok (.istore_n 2, 1) := dk_61 (dk_at dksX2_mustName_6 9 rfl rfl)
theorem dX2_mustName_165 : decode cX2_mustName 165 = .ok (.iload_n 2, 1) := dk_28 (dk_at dksX2_mustName_6 10 rfl rfl)
theorem dX2_mustName_166 : decode cX2_mustName 166 = .ok (.tableswitch 44 0 5 #[38, 38, 38, 38, 38, 38], 38) := by decide +kernel
theorem dX2_mustName_204 : decode cX2_mustName 204 = .ok (.aload_n 0, 1) := dk_42 (dk_at dksX2_mustName_8 0 rfl rfl)
theorem dX2_mustName_205 : decode cX2_mustName 205 = .ok (.iconst 1, 1) := dk_4 (dk_at dksX2_mustName_8 1 rfl rfl)
theorem dX2_mustName_206 : decode cX2_mustName 206 = .ok (.invokevirtual 82, 3) := dk_182 0 82 (dk_at dksX2_mustName_8 2 rfl rfl)
theorem dX2_mustName_209 : decode cX2_mustName 209 = .ok (.athrow, 1) := dk_191 (dk_at dksX2_mustName_8 5 rfl rfl)
theorem dX2_mustName_210 : decode cX2_mustName 210 = .ok (.return_, 1) := dk_177 (dk_at dksX2_mustName_8 6 rfl rfl)
abbrev cX2_kind : ByteArray := prog_16_method_21_code
def yX2_kind : MethodName := ⟨RX2, "kind", "()I"⟩
def dkwX2_kind_1 : List UInt8 := [18, 174, 182, 0, 78, 153, 0, 5, 5, 172, 42, 18, 176, 182, 0, 122, 6, 172]
abbrev dktX2_kind_1 : List UInt8 := dkwX2_kind_1 ++ []
def dkwX2_kind_0 : List UInt8 := [42, 18, 170, 182, 0, 78, 153, 0, 5, 3, 172, 42, 18, 172, 182, 0, 78, 153, 0, 5, 4, 172, 42]
abbrev dktX2_kind_0 : List UInt8 := dkwX2_kind_0 ++ dktX2_kind_1
theorem dksX2_kind_0 : cX2_kind.data.toList.drop 0 = dktX2_kind_0 := by decide +kernel
theorem dksX2_kind_1 : cX2_kind.data.toList.drop 23 = dktX2_kind_1 := dk_seg dksX2_kind_0 23 rfl rfl
theorem dX2_kind_0 : decode cX2_kind 0 = .ok (.aload_n 0, 1) := dk_42 (dk_at dksX2_kind_0 0 rfl rfl)
theorem dX2_kind_1 : decode cX2_kind 1 = .ok (.ldc 170, 2) := dk_18 170 (dk_at dksX2_kind_0 1 rfl rfl)
theorem dX2_kind_3 : decode cX2_kind 3 = .ok (.invokevirtual 78, 3) := dk_182 0 78 (dk_at dksX2_kind_0 3 rfl rfl)
theorem dX2_kind_6 : decode cX2_kind 6 = .ok (.ifCond .eq 5, 3) := dk_153 0 5 (dk_at dksX2_kind_0 6 rfl rfl)
theorem dX2_kind_9 : decode cX2_kind 9 = .ok (.iconst 0, 1) := dk_3 (dk_at dksX2_kind_0 9 rfl rfl)
theorem dX2_kind_10 : decode cX2_kind 10 = .ok (.ireturn, 1) := dk_172 (dk_at dksX2_kind_0 10 rfl rfl)
theorem dX2_kind_11 : decode cX2_kind 11 = .ok (.aload_n 0, 1) := dk_42 (dk_at dksX2_kind_0 11 rfl rfl)
theorem dX2_kind_12 : decode cX2_kind 12 = .ok (.ldc 172, 2) := dk_18 172 (dk_at dksX2_kind_0 12 rfl rfl)
theorem dX2_kind_14 : decode cX2_kind 14 = .ok (.invokevirtual 78, 3) := dk_182 0 78 (dk_at dksX2_kind_0 14 rfl rfl)
theorem dX2_kind_17 : decode cX2_kind 17 = .ok (.ifCond .eq 5, 3) := dk_153 0 5 (dk_at dksX2_kind_0 17 rfl rfl)
theorem dX2_kind_20 : decode cX2_kind 20 = .ok (.iconst 1, 1) := dk_4 (dk_at dksX2_kind_0 20 rfl rfl)
theorem dX2_kind_21 : decode cX2_kind 21 = .ok (.ireturn, 1) := dk_172 (dk_at dksX2_kind_0 21 rfl rfl)
theorem dX2_kind_22 : decode cX2_kind 22 = .ok (.aload_n 0, 1) := dk_42 (dk_at dksX2_kind_0 22 rfl rfl)
theorem dX2_kind_23 : decode cX2_kind 23 = .ok (.ldc 174, 2) := dk_18 174 (dk_at dksX2_kind_1 0 rfl rfl)
theorem dX2_kind_25 : decode cX2_kind 25 = .ok (.invokevirtual 78, 3) := dk_182 0 78 (dk_at dksX2_kind_1 2 rfl rfl)
theorem dX2_kind_28 : decode cX2_kind 28 = .ok (.ifCond .eq 5, 3) := dk_153 0 5 (dk_at dksX2_kind_1 5 rfl rfl)
theorem dX2_kind_31 : decode cX2_kind 31 = .ok (.iconst 2, 1) := dk_5 (dk_at dksX2_kind_1 8 rfl rfl)
theorem dX2_kind_32 : decode cX2_kind 32 = .ok (.ireturn, 1) := dk_172 (dk_at dksX2_kind_1 9 rfl rfl)
theorem dX2_kind_33 : decode cX2_kind 33 = .ok (.aload_n 0, 1) := dk_42 (dk_at dksX2_kind_1 10 rfl rfl)
theorem dX2_kind_34 : decode cX2_kind 34 = .ok (.ldc 176, 2) := dk_18 176 (dk_at dksX2_kind_1 11 rfl rfl)
theorem dX2_kind_36 : decode cX2_kind 36 = .ok (.invokevirtual 122, 3) := dk_182 0 122 (dk_at dksX2_kind_1 13 rfl rfl)
theorem dX2_kind_39 : decode cX2_kind 39 = .ok (.iconst 3, 1) := dk_6 (dk_at dksX2_kind_1 16 rfl rfl)
theorem dX2_kind_40 : decode cX2_kind 40 = .ok (.ireturn, 1) := dk_172 (dk_at dksX2_kind_1 17 rfl rfl)
abbrev cX2_habit : ByteArray := prog_16_method_22_code
def yX2_habit : MethodName := ⟨RX2, "habit", "()I"⟩
def dkwX2_habit_1 : List UInt8 := [18, 182, 182, 0, 122, 5, 172]
abbrev dktX2_habit_1 : List UInt8 := dkwX2_habit_1 ++ []
def dkwX2_habit_0 : List UInt8 := [42, 18, 178, 182, 0, 78, 153, 0, 5, 3, 172, 42, 18, 180, 182, 0, 78, 153, 0, 5, 4, 172, 42]
abbrev dktX2_habit_0 : List UInt8 := dkwX2_habit_0 ++ dktX2_habit_1
theorem dksX2_habit_0 : cX2_habit.data.toList.drop 0 = dktX2_habit_0 := by decide +kernel
theorem dksX2_habit_1 : cX2_habit.data.toList.drop 23 = dktX2_habit_1 := dk_seg dksX2_habit_0 23 rfl rfl
theorem dX2_habit_0 : decode cX2_habit 0 = .ok (.aload_n 0, 1) := dk_42 (dk_at dksX2_habit_0 0 rfl rfl)
theorem dX2_habit_1 : decode cX2_habit 1 = .ok (.ldc 178, 2) := dk_18 178 (dk_at dksX2_habit_0 1 rfl rfl)
theorem dX2_habit_3 : decode cX2_habit 3 = .ok (.invokevirtual 78, 3) := dk_182 0 78 (dk_at dksX2_habit_0 3 rfl rfl)
theorem dX2_habit_6 : decode cX2_habit 6 = .ok (.ifCond .eq 5, 3) := dk_153 0 5 (dk_at dksX2_habit_0 6 rfl rfl)
theorem dX2_habit_9 : decode cX2_habit 9 = .ok (.iconst 0, 1) := dk_3 (dk_at dksX2_habit_0 9 rfl rfl)
theorem dX2_habit_10 : decode cX2_habit 10 = .ok (.ireturn, 1) := dk_172 (dk_at dksX2_habit_0 10 rfl rfl)
theorem dX2_habit_11 : decode cX2_habit 11 = .ok (.aload_n 0, 1) := dk_42 (dk_at dksX2_habit_0 11 rfl rfl)
theorem dX2_habit_12 : decode cX2_habit 12 = .ok (.ldc 180, 2) := dk_18 180 (dk_at dksX2_habit_0 12 rfl rfl)
theorem dX2_habit_14 : decode cX2_habit 14 = .ok (.invokevirtual 78, 3) := dk_182 0 78 (dk_at dksX2_habit_0 14 rfl rfl)
theorem dX2_habit_17 : decode cX2_habit 17 = .ok (.ifCond .eq 5, 3) := dk_153 0 5 (dk_at dksX2_habit_0 17 rfl rfl)
theorem dX2_habit_20 : decode cX2_habit 20 = .ok (.iconst 1, 1) := dk_4 (dk_at dksX2_habit_0 20 rfl rfl)
theorem dX2_habit_21 : decode cX2_habit 21 = .ok (.ireturn, 1) := dk_172 (dk_at dksX2_habit_0 21 rfl rfl)
theorem dX2_habit_22 : decode cX2_habit 22 = .ok (.aload_n 0, 1) := dk_42 (dk_at dksX2_habit_0 22 rfl rfl)
theorem dX2_habit_23 : decode cX2_habit 23 = .ok (.ldc 182, 2) := dk_18 182 (dk_at dksX2_habit_1 0 rfl rfl)
theorem dX2_habit_25 : decode cX2_habit 25 = .ok (.invokevirtual 122, 3) := dk_182 0 122 (dk_at dksX2_habit_1 2 rfl rfl)
theorem dX2_habit_28 : decode cX2_habit 28 = .ok (.iconst 2, 1) := dk_5 (dk_at dksX2_habit_1 5 rfl rfl)
theorem dX2_habit_29 : decode cX2_habit 29 = .ok (.ireturn, 1) := dk_172 (dk_at dksX2_habit_1 6 rfl rfl)
abbrev cX2_order : ByteArray := prog_16_method_23_code
def yX2_order : MethodName := ⟨RX2, "order", "(LBrushGlass$Person;)V"⟩
def dkwX2_order_4 : List UInt8 := [182, 0, 75, 177]
abbrev dktX2_order_4 : List UInt8 := dkwX2_order_4 ++ []
def dkwX2_order_3 : List UInt8 := [180, 0, 196, 28, 29, 79, 43, 89, 180, 0, 200, 4, 96, 181, 0, 200, 132, 2, 1, 167, 255, 181, 42]
abbrev dktX2_order_3 : List UInt8 := dkwX2_order_3 ++ dktX2_order_4
def dkwX2_order_2 : List UInt8 := [4, 100, 184, 0, 36, 153, 0, 11, 43, 29, 182, 0, 191, 153, 0, 10, 42, 16, 7, 182, 0, 82, 191, 43]
abbrev dktX2_order_2 : List UInt8 := dkwX2_order_2 ++ dktX2_order_3
def dkwX2_order_1 : List UInt8 := [162, 0, 70, 42, 180, 0, 61, 28, 182, 0, 187, 16, 97, 100, 62, 29, 3, 42, 180, 0, 105, 180, 0, 164]
abbrev dktX2_order_1 : List UInt8 := dkwX2_order_1 ++ dktX2_order_2
def dkwX2_order_0 : List UInt8 := [42, 180, 0, 47, 5, 159, 0, 9, 42, 4, 182, 0, 82, 191, 3, 61, 28, 42, 180, 0, 61, 182, 0, 184]
abbrev dktX2_order_0 : List UInt8 := dkwX2_order_0 ++ dktX2_order_1
theorem dksX2_order_0 : cX2_order.data.toList.drop 0 = dktX2_order_0 := by decide +kernel
theorem dksX2_order_1 : cX2_order.data.toList.drop 24 = dktX2_order_1 := dk_seg dksX2_order_0 24 rfl rfl
theorem dksX2_order_2 : cX2_order.data.toList.drop 48 = dktX2_order_2 := dk_seg dksX2_order_1 24 rfl rfl
theorem dksX2_order_3 : cX2_order.data.toList.drop 72 = dktX2_order_3 := dk_seg dksX2_order_2 24 rfl rfl
theorem dksX2_order_4 : cX2_order.data.toList.drop 95 = dktX2_order_4 := dk_seg dksX2_order_3 23 rfl rfl
theorem dX2_order_0 : decode cX2_order 0 = .ok (.aload_n 0, 1) := dk_42 (dk_at dksX2_order_0 0 rfl rfl)
theorem dX2_order_1 : decode cX2_order 1 = .ok (.getfield 47, 3) := dk_180 0 47 (dk_at dksX2_order_0 1 rfl rfl)
theorem dX2_order_4 : decode cX2_order 4 = .ok (.iconst 2, 1) := dk_5 (dk_at dksX2_order_0 4 rfl rfl)
theorem dX2_order_5 : decode cX2_order 5 = .ok (.if_icmp .eq 9, 3) := dk_159 0 9 (dk_at dksX2_order_0 5 rfl rfl)
theorem dX2_order_8 : decode cX2_order 8 = .ok (.aload_n 0, 1) := dk_42 (dk_at dksX2_order_0 8 rfl rfl)
theorem dX2_order_9 : decode cX2_order 9 = .ok (.iconst 1, 1) := dk_4 (dk_at dksX2_order_0 9 rfl rfl)
theorem dX2_order_10 : decode cX2_order 10 = .ok (.invokevirtual 82, 3) := dk_182 0 82 (dk_at dksX2_order_0 10 rfl rfl)
theorem dX2_order_13 : decode cX2_order 13 = .ok (.athrow, 1) := dk_191 (dk_at dksX2_order_0 13 rfl rfl)
theorem dX2_order_14 : decode cX2_order 14 = .ok (.iconst 0, 1) := dk_3 (dk_at dksX2_order_0 14 rfl rfl)
theorem dX2_order_15 : decode cX2_order 15 = .ok (.istore_n 2, 1) := dk_61 (dk_at dksX2_order_0 15 rfl rfl)
theorem dX2_order_16 : decode cX2_order 16 = .ok (.iload_n 2, 1) := dk_28 (dk_at dksX2_order_0 16 rfl rfl)
theorem dX2_order_17 : decode cX2_order 17 = .ok (.aload_n 0, 1) := dk_42 (dk_at dksX2_order_0 17 rfl rfl)
theorem dX2_order_18 : decode cX2_order 18 = .ok (.getfield 61, 3) := dk_180 0 61 (dk_at dksX2_order_0 18 rfl rfl)
theorem dX2_order_21 : decode cX2_order 21 = .ok (.invokevirtual 184, 3) := dk_182 0 184 (dk_at dksX2_order_0 21 rfl rfl)
theorem dX2_order_24 : decode cX2_order 24 = .ok (.if_icmp .ge 70, 3) := dk_162 0 70 (dk_at dksX2_order_1 0 rfl rfl)
theorem dX2_order_27 : decode cX2_order 27 = .ok (.aload_n 0, 1) := dk_42 (dk_at dksX2_order_1 3 rfl rfl)
theorem dX2_order_28 : decode cX2_order 28 = .ok (.getfield 61, 3) := dk_180 0 61 (dk_at dksX2_order_1 4 rfl rfl)
theorem dX2_order_31 : decode cX2_order 31 = .ok (.iload_n 2, 1) := dk_28 (dk_at dksX2_order_1 7 rfl rfl)
theorem dX2_order_32 : decode cX2_order 32 = .ok (.invokevirtual 187, 3) := dk_182 0 187 (dk_at dksX2_order_1 8 rfl rfl)
theorem dX2_order_35 : decode cX2_order 35 = .ok (.bipush 97, 2) := dk_16 97 (dk_at dksX2_order_1 11 rfl rfl)
theorem dX2_order_37 : decode cX2_order 37 = .ok (.isub, 1) := dk_100 (dk_at dksX2_order_1 13 rfl rfl)
theorem dX2_order_38 : decode cX2_order 38 = .ok (.istore_n 3, 1) := dk_62 (dk_at dksX2_order_1 14 rfl rfl)
theorem dX2_order_39 : decode cX2_order 39 = .ok (.iload_n 3, 1) := dk_29 (dk_at dksX2_order_1 15 rfl rfl)
theorem dX2_order_40 : decode cX2_order 40 = .ok (.iconst 0, 1) := dk_3 (dk_at dksX2_order_1 16 rfl rfl)
theorem dX2_order_41 : decode cX2_order 41 = .ok (.aload_n 0, 1) := dk_42 (dk_at dksX2_order_1 17 rfl rfl)
theorem dX2_order_42 : decode cX2_order 42 = .ok (.getfield 105, 3) := dk_180 0 105 (dk_at dksX2_order_1 18 rfl rfl)
theorem dX2_order_45 : decode cX2_order 45 = .ok (.getfield 164, 3) := dk_180 0 164 (dk_at dksX2_order_1 21 rfl rfl)
theorem dX2_order_48 : decode cX2_order 48 = .ok (.iconst 1, 1) := dk_4 (dk_at dksX2_order_2 0 rfl rfl)
theorem dX2_order_49 : decode cX2_order 49 = .ok (.isub, 1) := dk_100 (dk_at dksX2_order_2 1 rfl rfl)
theorem dX2_order_50 : decode cX2_order 50 = .ok (.invokestatic 36, 3) := dk_184 0 36 (dk_at dksX2_order_2 2 rfl rfl)
theorem dX2_order_53 : decode cX2_order 53 = .ok (.ifCond .eq 11, 3) := dk_153 0 11 (dk_at dksX2_order_2 5 rfl rfl)
theorem dX2_order_56 : decode cX2_order 56 = .ok (.aload_n 1, 1) := dk_43 (dk_at dksX2_order_2 8 rfl rfl)
theorem dX2_order_57 : decode cX2_order 57 = .ok (.iload_n 3, 1) := dk_29 (dk_at dksX2_order_2 9 rfl rfl)
theorem dX2_order_58 : decode cX2_order 58 = .ok (.invokevirtual 191, 3) := dk_182 0 191 (dk_at dksX2_order_2 10 rfl rfl)
theorem dX2_order_61 : decode cX2_order 61 = .ok (.ifCond .eq 10, 3) := dk_153 0 10 (dk_at dksX2_order_2 13 rfl rfl)
theorem dX2_order_64 : decode cX2_order 64 = .ok (.aload_n 0, 1) := dk_42 (dk_at dksX2_order_2 16 rfl rfl)
theorem dX2_order_65 : decode cX2_order 65 = .ok (.bipush 7, 2) := dk_16 7 (dk_at dksX2_order_2 17 rfl rfl)
theorem dX2_order_67 : decode cX2_order 67 = .ok (.invokevirtual 82, 3) := dk_182 0 82 (dk_at dksX2_order_2 19 rfl rfl)
theorem dX2_order_70 : decode cX2_order 70 = .ok (.athrow, 1) := dk_191 (dk_at dksX2_order_2 22 rfl rfl)
theorem dX2_order_71 : decode cX2_order 71 = .ok (.aload_n 1, 1) := dk_43 (dk_at dksX2_order_2 23 rfl rfl)
theorem dX2_order_72 : decode cX2_order 72 = .ok (.getfield 196, 3) := dk_180 0 196 (dk_at dksX2_order_3 0 rfl rfl)
theorem dX2_order_75 : decode cX2_order 75 = .ok (.iload_n 2, 1) := dk_28 (dk_at dksX2_order_3 3 rfl rfl)
theorem dX2_order_76 : decode cX2_order 76 = .ok (.iload_n 3, 1) := dk_29 (dk_at dksX2_order_3 4 rfl rfl)
theorem dX2_order_77 : decode cX2_order 77 = .ok (.iastore, 1) := dk_79 (dk_at dksX2_order_3 5 rfl rfl)
theorem dX2_order_78 : decode cX2_order 78 = .ok (.aload_n 1, 1) := dk_43 (dk_at dksX2_order_3 6 rfl rfl)
theorem dX2_order_79 : decode cX2_order 79 = .ok (.dup, 1) := dk_89 (dk_at dksX2_order_3 7 rfl rfl)
theorem dX2_order_80 : decode cX2_order 80 = .ok (.getfield 200, 3) := dk_180 0 200 (dk_at dksX2_order_3 8 rfl rfl)
theorem dX2_order_83 : decode cX2_order 83 = .ok (.iconst 1, 1) := dk_4 (dk_at dksX2_order_3 11 rfl rfl)
theorem dX2_order_84 : decode cX2_order 84 = .ok (.iadd, 1) := dk_96 (dk_at dksX2_order_3 12 rfl rfl)
theorem dX2_order_85 : decode cX2_order 85 = .ok (.putfield 200, 3) := dk_181 0 200 (dk_at dksX2_order_3 13 rfl rfl)
theorem dX2_order_88 : decode cX2_order 88 = .ok (.iinc 2 1, 3) := dk_132 2 1 (dk_at dksX2_order_3 16 rfl rfl)
theorem dX2_order_91 : decode cX2_order 91 = .ok (.goto (-75), 3) := dk_167 255 181 (dk_at dksX2_order_3 19 rfl rfl)
theorem dX2_order_94 : decode cX2_order 94 = .ok (.aload_n 0, 1) := dk_42 (dk_at dksX2_order_3 22 rfl rfl)
theorem dX2_order_95 : decode cX2_order 95 = .ok (.invokevirtual 75, 3) := dk_182 0 75 (dk_at dksX2_order_4 0 rfl rfl)
theorem dX2_order_98 : decode cX2_order 98 = .ok (.return_, 1) := dk_177 (dk_at dksX2_order_4 3 rfl rfl)
abbrev cX2_answer : ByteArray := prog_16_method_24_code
def yX2_answer : MethodName := ⟨RX2, "answer", "()Z"⟩
def dkwX2_answer_0 : List UInt8 := [42, 18, 203, 182, 0, 78, 153, 0, 5, 4, 172, 42, 18, 205, 182, 0, 122, 3, 172]
abbrev dktX2_answer_0 : List UInt8 := dkwX2_answer_0 ++ []
theorem dksX2_answer_0 : cX2_answer.data.toList.drop 0 = dktX2_answer_0 := by decide +kernel
theorem dX2_answer_0 : decode cX2_answer 0 = .ok (.aload_n 0, 1) := dk_42 (dk_at dksX2_answer_0 0 rfl rfl)
theorem dX2_answer_1 : decode cX2_answer 1 = .ok (.ldc 203, 2) := dk_18 203 (dk_at dksX2_answer_0 1 rfl rfl)
theorem dX2_answer_3 : decode cX2_answer 3 = .ok (.invokevirtual 78, 3) := dk_182 0 78 (dk_at dksX2_answer_0 3 rfl rfl)
theorem dX2_answer_6 : decode cX2_answer 6 = .ok (.ifCond .eq 5, 3) := dk_153 0 5 (dk_at dksX2_answer_0 6 rfl rfl)
theorem dX2_answer_9 : decode cX2_answer 9 = .ok (.iconst 1, 1) := dk_4 (dk_at dksX2_answer_0 9 rfl rfl)
theorem dX2_answer_10 : decode cX2_answer 10 = .ok (.ireturn, 1) := dk_172 (dk_at dksX2_answer_0 10 rfl rfl)
theorem dX2_answer_11 : decode cX2_answer 11 = .ok (.aload_n 0, 1) := dk_42 (dk_at dksX2_answer_0 11 rfl rfl)
theorem dX2_answer_12 : decode cX2_answer 12 = .ok (.ldc 205, 2) := dk_18 205 (dk_at dksX2_answer_0 12 rfl rfl)
theorem dX2_answer_14 : decode cX2_answer 14 = .ok (.invokevirtual 122, 3) := dk_182 0 122 (dk_at dksX2_answer_0 14 rfl rfl)
theorem dX2_answer_17 : decode cX2_answer 17 = .ok (.iconst 0, 1) := dk_3 (dk_at dksX2_answer_0 17 rfl rfl)
theorem dX2_answer_18 : decode cX2_answer 18 = .ok (.ireturn, 1) := dk_172 (dk_at dksX2_answer_0 18 rfl rfl)
abbrev cX2_stay : ByteArray := prog_16_method_26_code
def yX2_stay : MethodName := ⟨RX2, "stay", "()V"⟩
def dkwX2_stay_4 : List UInt8 := [79, 43, 180, 1, 1, 43, 180, 0, 254, 21, 4, 79, 43, 89, 180, 0, 254, 4, 96, 181, 0, 254, 177]
abbrev dktX2_stay_4 : List UInt8 := dkwX2_stay_4 ++ []
def dkwX2_stay_3 : List UInt8 := [29, 42, 180, 0, 105, 180, 0, 129, 4, 100, 182, 0, 154, 54, 4, 43, 180, 1, 6, 43, 180, 0, 254, 29]
abbrev dktX2_stay_3 : List UInt8 := dkwX2_stay_3 ++ dktX2_stay_4
def dkwX2_stay_2 : List UInt8 := [100, 46, 4, 96, 61, 42, 28, 42, 180, 0, 105, 180, 0, 129, 4, 100, 182, 0, 126, 62, 42, 19, 1, 4]
abbrev dktX2_stay_2 : List UInt8 := dkwX2_stay_2 ++ dktX2_stay_3
def dkwX2_stay_1 : List UInt8 := [42, 182, 0, 75, 43, 180, 0, 254, 154, 0, 7, 3, 167, 0, 16, 43, 180, 1, 1, 43, 180, 0, 254, 4]
abbrev dktX2_stay_1 : List UInt8 := dkwX2_stay_1 ++ dktX2_stay_2
def dkwX2_stay_0 : List UInt8 := [42, 4, 182, 0, 207, 42, 182, 0, 114, 76, 43, 180, 0, 254, 6, 160, 0, 9, 42, 8, 182, 0, 82, 191]
abbrev dktX2_stay_0 : List UInt8 := dkwX2_stay_0 ++ dktX2_stay_1
theorem dksX2_stay_0 : cX2_stay.data.toList.drop 0 = dktX2_stay_0 := by decide +kernel
theorem dksX2_stay_1 : cX2_stay.data.toList.drop 24 = dktX2_stay_1 := dk_seg dksX2_stay_0 24 rfl rfl
theorem dksX2_stay_2 : cX2_stay.data.toList.drop 48 = dktX2_stay_2 := dk_seg dksX2_stay_1 24 rfl rfl
theorem dksX2_stay_3 : cX2_stay.data.toList.drop 72 = dktX2_stay_3 := dk_seg dksX2_stay_2 24 rfl rfl
theorem dksX2_stay_4 : cX2_stay.data.toList.drop 96 = dktX2_stay_4 := dk_seg dksX2_stay_3 24 rfl rfl
theorem dX2_stay_0 : decode cX2_stay 0 = .ok (.aload_n 0, 1) := dk_42 (dk_at dksX2_stay_0 0 rfl rfl)
theorem dX2_stay_1 : decode cX2_stay 1 = .ok (.iconst 1, 1) := dk_4 (dk_at dksX2_stay_0 1 rfl rfl)
theorem dX2_stay_2 : decode cX2_stay 2 = .ok (.invokevirtual 207, 3) := dk_182 0 207 (dk_at dksX2_stay_0 2 rfl rfl)
theorem dX2_stay_5 : decode cX2_stay 5 = .ok (.aload_n 0, 1) := dk_42 (dk_at dksX2_stay_0 5 rfl rfl)
theorem dX2_stay_6 : decode cX2_stay 6 = .ok (.invokevirtual 114, 3) := dk_182 0 114 (dk_at dksX2_stay_0 6 rfl rfl)
theorem dX2_stay_9 : decode cX2_stay 9 = .ok (.astore_n 1, 1) := dk_76 (dk_at dksX2_stay_0 9 rfl rfl)
theorem dX2_stay_10 : decode cX2_stay 10 = .ok (.aload_n 1, 1) := dk_43 (dk_at dksX2_stay_0 10 rfl rfl)
theorem dX2_stay_11 : decode cX2_stay 11 = .ok (.getfield 254, 3) := dk_180 0 254 (dk_at dksX2_stay_0 11 rfl rfl)
theorem dX2_stay_14 : decode cX2_stay 14 = .ok (.iconst 3, 1) := dk_6 (dk_at dksX2_stay_0 14 rfl rfl)
theorem dX2_stay_15 : decode cX2_stay 15 = .ok (.if_icmp .ne 9, 3) := dk_160 0 9 (dk_at dksX2_stay_0 15 rfl rfl)
theorem dX2_stay_18 : decode cX2_stay 18 = .ok (.aload_n 0, 1) := dk_42 (dk_at dksX2_stay_0 18 rfl rfl)
theorem dX2_stay_19 : decode cX2_stay 19 = .ok (.iconst 5, 1) := dk_8 (dk_at dksX2_stay_0 19 rfl rfl)
theorem dX2_stay_20 : decode cX2_stay 20 = .ok (.invokevirtual 82, 3) := dk_182 0 82 (dk_at dksX2_stay_0 20 rfl rfl)
theorem dX2_stay_23 : decode cX2_stay 23 = .ok (.athrow, 1) := dk_191 (dk_at dksX2_stay_0 23 rfl rfl)
theorem dX2_stay_24 : decode cX2_stay 24 = .ok (.aload_n 0, 1) := dk_42 (dk_at dksX2_stay_1 0 rfl rfl)
theorem dX2_stay_25 : decode cX2_stay 25 = .ok (.invokevirtual 75, 3) := dk_182 0 75 (dk_at dksX2_stay_1 1 rfl rfl)
theorem dX2_stay_28 : decode cX2_stay 28 = .ok (.aload_n 1, 1) := dk_43 (dk_at dksX2_stay_1 4 rfl rfl)
theorem dX2_stay_29 : decode cX2_stay 29 = .ok (.getfield 254, 3) := dk_180 0 254 (dk_at dksX2_stay_1 5 rfl rfl)
theorem dX2_stay_32 : decode cX2_stay 32 = .ok (.ifCond .ne 7, 3) := dk_154 0 7 (dk_at dksX2_stay_1 8 rfl rfl)
theorem dX2_stay_35 : decode cX2_stay 35 = .ok (.iconst 0, 1) := dk_3 (dk_at dksX2_stay_1 11 rfl rfl)
theorem dX2_stay_36 : decode cX2_stay 36 = .ok (.goto 16, 3) := dk_167 0 16 (dk_at dksX2_stay_1 12 rfl rfl)
theorem dX2_stay_39 : decode cX2_stay 39 = .ok (.aload_n 1, 1) := dk_43 (dk_at dksX2_stay_1 15 rfl rfl)
theorem dX2_stay_40 : decode cX2_stay 40 = .ok (.getfield 257, 3) := dk_180 1 1 (dk_at dksX2_stay_1 16 rfl rfl)
theorem dX2_stay_43 : decode cX2_stay 43 = .ok (.aload_n 1, 1) := dk_43 (dk_at dksX2_stay_1 19 rfl rfl)
theorem dX2_stay_44 : decode cX2_stay 44 = .ok (.getfield 254, 3) := dk_180 0 254 (dk_at dksX2_stay_1 20 rfl rfl)
theorem dX2_stay_47 : decode cX2_stay 47 = .ok (.iconst 1, 1) := dk_4 (dk_at dksX2_stay_1 23 rfl rfl)
theorem dX2_stay_48 : decode cX2_stay 48 = .ok (.isub, 1) := dk_100 (dk_at dksX2_stay_2 0 rfl rfl)
theorem dX2_stay_49 : decode cX2_stay 49 = .ok (.iaload, 1) := dk_46 (dk_at dksX2_stay_2 1 rfl rfl)
theorem dX2_stay_50 : decode cX2_stay 50 = .ok (.iconst 1, 1) := dk_4 (dk_at dksX2_stay_2 2 rfl rfl)
theorem dX2_stay_51 : decode cX2_stay 51 = .ok (.iadd, 1) := dk_96 (dk_at dksX2_stay_2 3 rfl rfl)
theorem dX2_stay_52 : decode cX2_stay 52 = .ok (.istore_n 2, 1) := dk_61 (dk_at dksX2_stay_2 4 rfl rfl)
theorem dX2_stay_53 : decode cX2_stay 53 = .ok (.aload_n 0, 1) := dk_42 (dk_at dksX2_stay_2 5 rfl rfl)
theorem dX2_stay_54 : decode cX2_stay 54 = .ok (.iload_n 2, 1) := dk_28 (dk_at dksX2_stay_2 6 rfl rfl)
theorem dX2_stay_55 : decode cX2_stay 55 = .ok (.aload_n 0, 1) := dk_42 (dk_at dksX2_stay_2 7 rfl rfl)
theorem dX2_stay_56 : decode cX2_stay 56 = .ok (.getfield 105, 3) := dk_180 0 105 (dk_at dksX2_stay_2 8 rfl rfl)
theorem dX2_stay_59 : decode cX2_stay 59 = .ok (.getfield 129, 3) := dk_180 0 129 (dk_at dksX2_stay_2 11 rfl rfl)
theorem dX2_stay_62 : decode cX2_stay 62 = .ok (.iconst 1, 1) := dk_4 (dk_at dksX2_stay_2 14 rfl rfl)
theorem dX2_stay_63 : decode cX2_stay 63 = .ok (.isub, 1) := dk_100 (dk_at dksX2_stay_2 15 rfl rfl)
theorem dX2_stay_64 : decode cX2_stay 64 = .ok (.invokevirtual 126, 3) := dk_182 0 126 (dk_at dksX2_stay_2 16 rfl rfl)
theorem dX2_stay_67 : decode cX2_stay 67 = .ok (.istore_n 3, 1) := dk_62 (dk_at dksX2_stay_2 19 rfl rfl)
theorem dX2_stay_68 : decode cX2_stay 68 = .ok (.aload_n 0, 1) := dk_42 (dk_at dksX2_stay_2 20 rfl rfl)
theorem dX2_stay_69 : decode cX2_stay 69 = .ok (.ldc_w 260, 3) := dk_19 1 4 (dk_at dksX2_stay_2 21 rfl rfl)
theorem dX2_stay_72 : decode cX2_stay 72 = .ok (.iload_n 3, 1) := dk_29 (dk_at dksX2_stay_3 0 rfl rfl)
theorem dX2_stay_73 : decode cX2_stay 73 = .ok (.aload_n 0, 1) := dk_42 (dk_at dksX2_stay_3 1 rfl rfl)
theorem dX2_stay_74 : decode cX2_stay 74 = .ok (.getfield 105, 3) := dk_180 0 105 (dk_at dksX2_stay_3 2 rfl rfl)
theorem dX2_stay_77 : decode cX2_stay 77 = .ok (.getfield 129, 3) := dk_180 0 129 (dk_at dksX2_stay_3 5 rfl rfl)
theorem dX2_stay_80 : decode cX2_stay 80 = .ok (.iconst 1, 1) := dk_4 (dk_at dksX2_stay_3 8 rfl rfl)
theorem dX2_stay_81 : decode cX2_stay 81 = .ok (.isub, 1) := dk_100 (dk_at dksX2_stay_3 9 rfl rfl)
theorem dX2_stay_82 : decode cX2_stay 82 = .ok (.invokevirtual 154, 3) := dk_182 0 154 (dk_at dksX2_stay_3 10 rfl rfl)
theorem dX2_stay_85 : decode cX2_stay 85 = .ok (.istore 4, 2) := dk_54 4 (dk_at dksX2_stay_3 13 rfl rfl)
theorem dX2_stay_87 : decode cX2_stay 87 = .ok (.aload_n 1, 1) := dk_43 (dk_at dksX2_stay_3 15 rfl rfl)
theorem dX2_stay_88 : decode cX2_stay 88 = .ok (.getfield 262, 3) := dk_180 1 6 (dk_at dksX2_stay_3 16 rfl rfl)
theorem dX2_stay_91 : decode cX2_stay 91 = .ok (.aload_n 1, 1) := dk_43 (dk_at dksX2_stay_3 19 rfl rfl)
theorem dX2_stay_92 : decode cX2_stay 92 = .ok (.getfield 254, 3) := dk_180 0 254 (dk_at dksX2_stay_3 20 rfl rfl)
theorem dX2_stay_95 : decode cX2_stay 95 = .ok (.iload_n 3, 1) := dk_29 (dk_at dksX2_stay_3 23 rfl rfl)
theorem dX2_stay_96 : decode cX2_stay 96 = .ok (.iastore, 1) := dk_79 (dk_at dksX2_stay_4 0 rfl rfl)
theorem dX2_stay_97 : decode cX2_stay 97 = .ok (.aload_n 1, 1) := dk_43 (dk_at dksX2_stay_4 1 rfl rfl)
theorem dX2_stay_98 : decode cX2_stay 98 = .ok (.getfield 257, 3) := dk_180 1 1 (dk_at dksX2_stay_4 2 rfl rfl)
theorem dX2_stay_101 : decode cX2_stay 101 = .ok (.aload_n 1, 1) := dk_43 (dk_at dksX2_stay_4 5 rfl rfl)
theorem dX2_stay_102 : decode cX2_stay 102 = .ok (.getfield 254, 3) := dk_180 0 254 (dk_at dksX2_stay_4 6 rfl rfl)
theorem dX2_stay_105 : decode cX2_stay 105 = .ok (.iload 4, 2) := dk_21 4 (dk_at dksX2_stay_4 9 rfl rfl)
theorem dX2_stay_107 : decode cX2_stay 107 = .ok (.iastore, 1) := dk_79 (dk_at dksX2_stay_4 11 rfl rfl)
theorem dX2_stay_108 : decode cX2_stay 108 = .ok (.aload_n 1, 1) := dk_43 (dk_at dksX2_stay_4 12 rfl rfl)
theorem dX2_stay_109 : decode cX2_stay 109 = .ok (.dup, 1) := dk_89 (dk_at dksX2_stay_4 13 rfl rfl)
theorem dX2_stay_110 : decode cX2_stay 110 = .ok (.getfield 254, 3) := dk_180 0 254 (dk_at dksX2_stay_4 14 rfl rfl)
theorem dX2_stay_113 : decode cX2_stay 113 = .ok (.iconst 1, 1) := dk_4 (dk_at dksX2_stay_4 17 rfl rfl)
theorem dX2_stay_114 : decode cX2_stay 114 = .ok (.iadd, 1) := dk_96 (dk_at dksX2_stay_4 18 rfl rfl)
theorem dX2_stay_115 : decode cX2_stay 115 = .ok (.putfield 254, 3) := dk_181 0 254 (dk_at dksX2_stay_4 19 rfl rfl)
theorem dX2_stay_118 : decode cX2_stay 118 = .ok (.return_, 1) := dk_177 (dk_at dksX2_stay_4 22 rfl rfl)
abbrev cX2_personHere : ByteArray := prog_16_method_11_code
def yX2_personHere : MethodName := ⟨RX2, "personHere", "()LBrushGlass$Person;"⟩
def dkwX2_personHere_1 : List UInt8 := [182, 0, 82, 191, 43, 176]
abbrev dktX2_personHere_1 : List UInt8 := dkwX2_personHere_1 ++ []
def dkwX2_personHere_0 : List UInt8 := [42, 182, 0, 102, 42, 180, 0, 105, 42, 180, 0, 61, 182, 0, 108, 76, 43, 199, 0, 9, 42, 5]
abbrev dktX2_personHere_0 : List UInt8 := dkwX2_personHere_0 ++ dktX2_personHere_1
theorem dksX2_personHere_0 : cX2_personHere.data.toList.drop 0 = dktX2_personHere_0 := by decide +kernel
theorem dksX2_personHere_1 : cX2_personHere.data.toList.drop 22 = dktX2_personHere_1 := dk_seg dksX2_personHere_0 22 rfl rfl
theorem dX2_personHere_0 : decode cX2_personHere 0 = .ok (.aload_n 0, 1) := dk_42 (dk_at dksX2_personHere_0 0 rfl rfl)
theorem dX2_personHere_1 : decode cX2_personHere 1 = .ok (.invokevirtual 102, 3) := dk_182 0 102 (dk_at dksX2_personHere_0 1 rfl rfl)
theorem dX2_personHere_4 : decode cX2_personHere 4 = .ok (.aload_n 0, 1) := dk_42 (dk_at dksX2_personHere_0 4 rfl rfl)
theorem dX2_personHere_5 : decode cX2_personHere 5 = .ok (.getfield 105, 3) := dk_180 0 105 (dk_at dksX2_personHere_0 5 rfl rfl)
theorem dX2_personHere_8 : decode cX2_personHere 8 = .ok (.aload_n 0, 1) := dk_42 (dk_at dksX2_personHere_0 8 rfl rfl)
theorem dX2_personHere_9 : decode cX2_personHere 9 = .ok (.getfield 61, 3) := dk_180 0 61 (dk_at dksX2_personHere_0 9 rfl rfl)
theorem dX2_personHere_12 : decode cX2_personHere 12 = .ok (.invokevirtual 108, 3) := dk_182 0 108 (dk_at dksX2_personHere_0 12 rfl rfl)
theorem dX2_personHere_15 : decode cX2_personHere 15 = .ok (.astore_n 1, 1) := dk_76 (dk_at dksX2_personHere_0 15 rfl rfl)
theorem dX2_personHere_16 : decode cX2_personHere 16 = .ok (.aload_n 1, 1) := dk_43 (dk_at dksX2_personHere_0 16 rfl rfl)
theorem dX2_personHere_17 : decode cX2_personHere 17 = .ok (.ifnonnull 9, 3) := dk_199 0 9 (dk_at dksX2_personHere_0 17 rfl rfl)
theorem dX2_personHere_20 : decode cX2_personHere 20 = .ok (.aload_n 0, 1) := dk_42 (dk_at dksX2_personHere_0 20 rfl rfl)
theorem dX2_personHere_21 : decode cX2_personHere 21 = .ok (.iconst 2, 1) := dk_5 (dk_at dksX2_personHere_0 21 rfl rfl)
theorem dX2_personHere_22 : decode cX2_personHere 22 = .ok (.invokevirtual 82, 3) := dk_182 0 82 (dk_at dksX2_personHere_1 0 rfl rfl)
theorem dX2_personHere_25 : decode cX2_personHere 25 = .ok (.athrow, 1) := dk_191 (dk_at dksX2_personHere_1 3 rfl rfl)
theorem dX2_personHere_26 : decode cX2_personHere 26 = .ok (.aload_n 1, 1) := dk_43 (dk_at dksX2_personHere_1 4 rfl rfl)
theorem dX2_personHere_27 : decode cX2_personHere 27 = .ok (.areturn, 1) := dk_176 (dk_at dksX2_personHere_1 5 rfl rfl)
abbrev cX2_moves : ByteArray := prog_16_method_27_code
def yX2_moves : MethodName := ⟨RX2, "moves", "()V"⟩
def dkwX2_moves_5 : List UInt8 := [180, 1, 8, 43, 83, 42, 180, 0, 105, 89, 180, 1, 8, 4, 96, 181, 1, 8, 177]
abbrev dktX2_moves_5 : List UInt8 := dkwX2_moves_5 ++ []
def dkwX2_moves_4 : List UInt8 := [191, 42, 182, 0, 75, 43, 28, 29, 21, 4, 182, 1, 17, 42, 180, 0, 105, 180, 1, 21, 42, 180, 0, 105]
abbrev dktX2_moves_4 : List UInt8 := dkwX2_moves_4 ++ dktX2_moves_5
def dkwX2_moves_3 : List UInt8 := [180, 0, 105, 180, 0, 160, 4, 100, 182, 0, 118, 54, 4, 21, 4, 29, 160, 0, 9, 42, 6, 182, 0, 82]
abbrev dktX2_moves_3 : List UInt8 := dkwX2_moves_3 ++ dktX2_moves_4
def dkwX2_moves_2 : List UInt8 := [62, 42, 180, 0, 47, 16, 44, 159, 0, 9, 42, 4, 182, 0, 82, 191, 42, 182, 0, 75, 42, 3, 42]
abbrev dktX2_moves_2 : List UInt8 := dkwX2_moves_2 ++ dktX2_moves_3
def dkwX2_moves_1 : List UInt8 := [89, 183, 1, 13, 76, 42, 182, 1, 14, 61, 42, 3, 42, 180, 0, 105, 180, 0, 160, 4, 100, 182, 0, 126]
abbrev dktX2_moves_1 : List UInt8 := dkwX2_moves_1 ++ dktX2_moves_2
def dkwX2_moves_0 : List UInt8 := [42, 42, 180, 0, 105, 180, 1, 8, 16, 10, 162, 0, 7, 4, 167, 0, 4, 3, 182, 0, 207, 187, 1, 11]
abbrev dktX2_moves_0 : List UInt8 := dkwX2_moves_0 ++ dktX2_moves_1
theorem dksX2_moves_0 : cX2_moves.data.toList.drop 0 = dktX2_moves_0 := by decide +kernel
theorem dksX2_moves_1 : cX2_moves.data.toList.drop 24 = dktX2_moves_1 := dk_seg dksX2_moves_0 24 rfl rfl
theorem dksX2_moves_2 : cX2_moves.data.toList.drop 48 = dktX2_moves_2 := dk_seg dksX2_moves_1 24 rfl rfl
theorem dksX2_moves_3 : cX2_moves.data.toList.drop 71 = dktX2_moves_3 := dk_seg dksX2_moves_2 23 rfl rfl
theorem dksX2_moves_4 : cX2_moves.data.toList.drop 95 = dktX2_moves_4 := dk_seg dksX2_moves_3 24 rfl rfl
theorem dksX2_moves_5 : cX2_moves.data.toList.drop 119 = dktX2_moves_5 := dk_seg dksX2_moves_4 24 rfl rfl
theorem dX2_moves_0 : decode cX2_moves 0 = .ok (.aload_n 0, 1) := dk_42 (dk_at dksX2_moves_0 0 rfl rfl)
theorem dX2_moves_1 : decode cX2_moves 1 = .ok (.aload_n 0, 1) := dk_42 (dk_at dksX2_moves_0 1 rfl rfl)
theorem dX2_moves_2 : decode cX2_moves 2 = .ok (.getfield 105, 3) := dk_180 0 105 (dk_at dksX2_moves_0 2 rfl rfl)
theorem dX2_moves_5 : decode cX2_moves 5 = .ok (.getfield 264, 3) := dk_180 1 8 (dk_at dksX2_moves_0 5 rfl rfl)
theorem dX2_moves_8 : decode cX2_moves 8 = .ok (.bipush 10, 2) := dk_16 10 (dk_at dksX2_moves_0 8 rfl rfl)
theorem dX2_moves_10 : decode cX2_moves 10 = .ok (.if_icmp .ge 7, 3) := dk_162 0 7 (dk_at dksX2_moves_0 10 rfl rfl)
theorem dX2_moves_13 : decode cX2_moves 13 = .ok (.iconst 1, 1) := dk_4 (dk_at dksX2_moves_0 13 rfl rfl)
theorem dX2_moves_14 : decode cX2_moves 14 = .ok (.goto 4, 3) := dk_167 0 4 (dk_at dksX2_moves_0 14 rfl rfl)
theorem dX2_moves_17 : decode cX2_moves 17 = .ok (.iconst 0, 1) := dk_3 (dk_at dksX2_moves_0 17 rfl rfl)
theorem dX2_moves_18 : decode cX2_moves 18 = .ok (.invokevirtual 207, 3) := dk_182 0 207 (dk_at dksX2_moves_0 18 rfl rfl)
theorem dX2_moves_21 : decode cX2_moves 21 = .ok (.new 267, 3) := dk_187 1 11 (dk_at dksX2_moves_0 21 rfl rfl)
theorem dX2_moves_24 : decode cX2_moves 24 = .ok (.dup, 1) := dk_89 (dk_at dksX2_moves_1 0 rfl rfl)
theorem dX2_moves_25 : decode cX2_moves 25 = .ok (.invokespecial 269, 3) := dk_183 1 13 (dk_at dksX2_moves_1 1 rfl rfl)
theorem dX2_moves_28 : decode cX2_moves 28 = .ok (.astore_n 1, 1) := dk_76 (dk_at dksX2_moves_1 4 rfl rfl)
theorem dX2_moves_29 : decode cX2_moves 29 = .ok (.aload_n 0, 1) := dk_42 (dk_at dksX2_moves_1 5 rfl rfl)
theorem dX2_moves_30 : decode cX2_moves 30 = .ok (.invokevirtual 270, 3) := dk_182 1 14 (dk_at dksX2_moves_1 6 rfl rfl)
theorem dX2_moves_33 : decode cX2_moves 33 = .ok (.istore_n 2, 1) := dk_61 (dk_at dksX2_moves_1 9 rfl rfl)
theorem dX2_moves_34 : decode cX2_moves 34 = .ok (.aload_n 0, 1) := dk_42 (dk_at dksX2_moves_1 10 rfl rfl)
theorem dX2_moves_35 : decode cX2_moves 35 = .ok (.iconst 0, 1) := dk_3 (dk_at dksX2_moves_1 11 rfl rfl)
theorem dX2_moves_36 : decode cX2_moves 36 = .ok (.aload_n 0, 1) := dk_42 (dk_at dksX2_moves_1 12 rfl rfl)
theorem dX2_moves_37 : decode cX2_moves 37 = .ok (.getfield 105, 3) := dk_180 0 105 (dk_at dksX2_moves_1 13 rfl rfl)
theorem dX2_moves_40 : decode cX2_moves 40 = .ok (.getfield 160, 3) := dk_180 0 160 (dk_at dksX2_moves_1 16 rfl rfl)
theorem dX2_moves_43 : decode cX2_moves 43 = .ok (.iconst 1, 1) := dk_4 (dk_at dksX2_moves_1 19 rfl rfl)
theorem dX2_moves_44 : decode cX2_moves 44 = .ok (.isub, 1) := dk_100 (dk_at dksX2_moves_1 20 rfl rfl)
theorem dX2_moves_45 : decode cX2_moves 45 = .ok (.invokevirtual 126, 3) := dk_182 0 126 (dk_at dksX2_moves_1 21 rfl rfl)
theorem dX2_moves_48 : decode cX2_moves 48 = .ok (.istore_n 3, 1) := dk_62 (dk_at dksX2_moves_2 0 rfl rfl)
theorem dX2_moves_49 : decode cX2_moves 49 = .ok (.aload_n 0, 1) := dk_42 (dk_at dksX2_moves_2 1 rfl rfl)
theorem dX2_moves_50 : decode cX2_moves 50 = .ok (.getfield 47, 3) := dk_180 0 47 (dk_at dksX2_moves_2 2 rfl rfl)
theorem dX2_moves_53 : decode cX2_moves 53 = .ok (.bipush 44, 2) := dk_16 44 (dk_at dksX2_moves_2 5 rfl rfl)
theorem dX2_moves_55 : decode cX2_moves 55 = .ok (.if_icmp .eq 9, 3) := dk_159 0 9 (dk_at dksX2_moves_2 7 rfl rfl)
theorem dX2_moves_58 : decode cX2_moves 58 = .ok (.aload_n 0, 1) := dk_42 (dk_at dksX2_moves_2 10 rfl rfl)
theorem dX2_moves_59 : decode cX2_moves 59 = .ok (.iconst 1, 1) := dk_4 (dk_at dksX2_moves_2 11 rfl rfl)
theorem dX2_moves_60 : decode cX2_moves 60 = .ok (.invokevirtual 82, 3) := dk_182 0 82 (dk_at dksX2_moves_2 12 rfl rfl)
theorem dX2_moves_63 : decode cX2_moves 63 = .ok (.athrow, 1) := dk_191 (dk_at dksX2_moves_2 15 rfl rfl)
theorem dX2_moves_64 : decode cX2_moves 64 = .ok (.aload_n 0, 1) := dk_42 (dk_at dksX2_moves_2 16 rfl rfl)
theorem dX2_moves_65 : decode cX2_moves 65 = .ok (.invokevirtual 75, 3) := dk_182 0 75 (dk_at dksX2_moves_2 17 rfl rfl)
theorem dX2_moves_68 : decode cX2_moves 68 = .ok (.aload_n 0, 1) := dk_42 (dk_at dksX2_moves_2 20 rfl rfl)
theorem dX2_moves_69 : decode cX2_moves 69 = .ok (.iconst 0, 1) := dk_3 (dk_at dksX2_moves_2 21 rfl rfl)
theorem dX2_moves_70 : decode cX2_moves 70 = .ok (.aload_n 0, 1) := dk_42 (dk_at dksX2_moves_2 22 rfl rfl)
theorem dX2_moves_71 : decode cX2_moves 71 = .ok (.getfield 105, 3) := dk_180 0 105 (dk_at dksX2_moves_3 0 rfl rfl)
theorem dX2_moves_74 : decode cX2_moves 74 = .ok (.getfield 160, 3) := dk_180 0 160 (dk_at dksX2_moves_3 3 rfl rfl)
theorem dX2_moves_77 : decode cX2_moves 77 = .ok (.iconst 1, 1) := dk_4 (dk_at dksX2_moves_3 6 rfl rfl)
theorem dX2_moves_78 : decode cX2_moves 78 = .ok (.isub, 1) := dk_100 (dk_at dksX2_moves_3 7 rfl rfl)
theorem dX2_moves_79 : decode cX2_moves 79 = .ok (.invokevirtual 118, 3) := dk_182 0 118 (dk_at dksX2_moves_3 8 rfl rfl)
theorem dX2_moves_82 : decode cX2_moves 82 = .ok (.istore 4, 2) := dk_54 4 (dk_at dksX2_moves_3 11 rfl rfl)
theorem dX2_moves_84 : decode cX2_moves 84 = .ok (.iload 4, 2) := dk_21 4 (dk_at dksX2_moves_3 13 rfl rfl)
theorem dX2_moves_86 : decode cX2_moves 86 = .ok (.iload_n 3, 1) := dk_29 (dk_at dksX2_moves_3 15 rfl rfl)
theorem dX2_moves_87 : decode cX2_moves 87 = .ok (.if_icmp .ne 9, 3) := dk_160 0 9 (dk_at dksX2_moves_3 16 rfl rfl)
theorem dX2_moves_90 : decode cX2_moves 90 = .ok (.aload_n 0, 1) := dk_42 (dk_at dksX2_moves_3 19 rfl rfl)
theorem dX2_moves_91 : decode cX2_moves 91 = .ok (.iconst 3, 1) := dk_6 (dk_at dksX2_moves_3 20 rfl rfl)
theorem dX2_moves_92 : decode cX2_moves 92 = .ok (.invokevirtual 82, 3) := dk_182 0 82 (dk_at dksX2_moves_3 21 rfl rfl)
theorem dX2_moves_95 : decode cX2_moves 95 = .ok (.athrow, 1) := dk_191 (dk_at dksX2_moves_4 0 rfl rfl)
theorem dX2_moves_96 : decode cX2_moves 96 = .ok (.aload_n 0, 1) := dk_42 (dk_at dksX2_moves_4 1 rfl rfl)
theorem dX2_moves_97 : decode cX2_moves 97 = .ok (.invokevirtual 75, 3) := dk_182 0 75 (dk_at dksX2_moves_4 2 rfl rfl)
theorem dX2_moves_100 : decode cX2_moves 100 = .ok (.aload_n 1, 1) := dk_43 (dk_at dksX2_moves_4 5 rfl rfl)
theorem dX2_moves_101 : decode cX2_moves 101 = .ok (.iload_n 2, 1) := dk_28 (dk_at dksX2_moves_4 6 rfl rfl)
theorem dX2_moves_102 : decode cX2_moves 102 = .ok (.iload_n 3, 1) := dk_29 (dk_at dksX2_moves_4 7 rfl rfl)
theorem dX2_moves_103 : decode cX2_moves 103 = .ok (.iload 4, 2) := dk_21 4 (dk_at dksX2_moves_4 8 rfl rfl)
theorem dX2_moves_105 : decode cX2_moves 105 = .ok (.invokevirtual 273, 3) := dk_182 1 17 (dk_at dksX2_moves_4 10 rfl rfl)
theorem dX2_moves_108 : decode cX2_moves 108 = .ok (.aload_n 0, 1) := dk_42 (dk_at dksX2_moves_4 13 rfl rfl)
theorem dX2_moves_109 : decode cX2_moves 109 = .ok (.getfield 105, 3) := dk_180 0 105 (dk_at dksX2_moves_4 14 rfl rfl)
theorem dX2_moves_112 : decode cX2_moves 112 = .ok (.getfield 277, 3) := dk_180 1 21 (dk_at dksX2_moves_4 17 rfl rfl)
theorem dX2_moves_115 : decode cX2_moves 115 = .ok (.aload_n 0, 1) := dk_42 (dk_at dksX2_moves_4 20 rfl rfl)
theorem dX2_moves_116 : decode cX2_moves 116 = .ok (.getfield 105, 3) := dk_180 0 105 (dk_at dksX2_moves_4 21 rfl rfl)
theorem dX2_moves_119 : decode cX2_moves 119 = .ok (.getfield 264, 3) := dk_180 1 8 (dk_at dksX2_moves_5 0 rfl rfl)
theorem dX2_moves_122 : decode cX2_moves 122 = .ok (.aload_n 1, 1) := dk_43 (dk_at dksX2_moves_5 3 rfl rfl)
theorem dX2_moves_123 : decode cX2_moves 123 = .ok (.aastore, 1) := dk_83 (dk_at dksX2_moves_5 4 rfl rfl)
theorem dX2_moves_124 : decode cX2_moves 124 = .ok (.aload_n 0, 1) := dk_42 (dk_at dksX2_moves_5 5 rfl rfl)
theorem dX2_moves_125 : decode cX2_moves 125 = .ok (.getfield 105, 3) := dk_180 0 105 (dk_at dksX2_moves_5 6 rfl rfl)
theorem dX2_moves_128 : decode cX2_moves 128 = .ok (.dup, 1) := dk_89 (dk_at dksX2_moves_5 9 rfl rfl)
theorem dX2_moves_129 : decode cX2_moves 129 = .ok (.getfield 264, 3) := dk_180 1 8 (dk_at dksX2_moves_5 10 rfl rfl)
theorem dX2_moves_132 : decode cX2_moves 132 = .ok (.iconst 1, 1) := dk_4 (dk_at dksX2_moves_5 13 rfl rfl)
theorem dX2_moves_133 : decode cX2_moves 133 = .ok (.iadd, 1) := dk_96 (dk_at dksX2_moves_5 14 rfl rfl)
theorem dX2_moves_134 : decode cX2_moves 134 = .ok (.putfield 264, 3) := dk_181 1 8 (dk_at dksX2_moves_5 15 rfl rfl)
theorem dX2_moves_137 : decode cX2_moves 137 = .ok (.return_, 1) := dk_177 (dk_at dksX2_moves_5 18 rfl rfl)
abbrev cX2_day : ByteArray := prog_16_method_16_code
def yX2_day : MethodName := ⟨RX2, "day", "()I"⟩
def dkwX2_day_0 : List UInt8 := [42, 3, 42, 180, 0, 105, 180, 0, 129, 4, 100, 182, 0, 126, 172]
abbrev dktX2_day_0 : List UInt8 := dkwX2_day_0 ++ []
theorem dksX2_day_0 : cX2_day.data.toList.drop 0 = dktX2_day_0 := by decide +kernel
theorem dX2_day_0 : decode cX2_day 0 = .ok (.aload_n 0, 1) := dk_42 (dk_at dksX2_day_0 0 rfl rfl)
theorem dX2_day_1 : decode cX2_day 1 = .ok (.iconst 0, 1) := dk_3 (dk_at dksX2_day_0 1 rfl rfl)
theorem dX2_day_2 : decode cX2_day 2 = .ok (.aload_n 0, 1) := dk_42 (dk_at dksX2_day_0 2 rfl rfl)
theorem dX2_day_3 : decode cX2_day 3 = .ok (.getfield 105, 3) := dk_180 0 105 (dk_at dksX2_day_0 3 rfl rfl)
theorem dX2_day_6 : decode cX2_day 6 = .ok (.getfield 129, 3) := dk_180 0 129 (dk_at dksX2_day_0 6 rfl rfl)
theorem dX2_day_9 : decode cX2_day 9 = .ok (.iconst 1, 1) := dk_4 (dk_at dksX2_day_0 9 rfl rfl)
theorem dX2_day_10 : decode cX2_day 10 = .ok (.isub, 1) := dk_100 (dk_at dksX2_day_0 10 rfl rfl)
theorem dX2_day_11 : decode cX2_day 11 = .ok (.invokevirtual 126, 3) := dk_182 0 126 (dk_at dksX2_day_0 11 rfl rfl)
theorem dX2_day_14 : decode cX2_day 14 = .ok (.ireturn, 1) := dk_172 (dk_at dksX2_day_0 14 rfl rfl)
abbrev cX2_seen : ByteArray := prog_16_method_28_code
def yX2_seen : MethodName := ⟨RX2, "seen", "()V"⟩
def dkwX2_seen_7 : List UInt8 := [42, 180, 0, 105, 180, 1, 24, 43, 83, 42, 180, 0, 105, 89, 180, 1, 24, 4, 96, 181, 1, 24, 177]
abbrev dktX2_seen_7 : List UInt8 := dkwX2_seen_7 ++ []
def dkwX2_seen_6 : List UInt8 := [16, 254, 167, 0, 4, 29, 79, 132, 2, 1, 167, 255, 182, 42, 182, 0, 75, 42, 180, 0, 105, 180, 1, 35]
abbrev dktX2_seen_6 : List UInt8 := dkwX2_seen_6 ++ dktX2_seen_7
def dkwX2_seen_5 : List UInt8 := [184, 0, 36, 154, 0, 10, 42, 16, 7, 182, 0, 82, 191, 43, 180, 1, 32, 28, 29, 16, 25, 160, 0, 8]
abbrev dktX2_seen_5 : List UInt8 := dkwX2_seen_5 ++ dktX2_seen_6
def dkwX2_seen_4 : List UInt8 := [182, 0, 187, 16, 97, 100, 62, 29, 16, 25, 159, 0, 27, 29, 3, 42, 180, 0, 105, 180, 0, 164, 4, 100]
abbrev dktX2_seen_4 : List UInt8 := dkwX2_seen_4 ++ dktX2_seen_5
def dkwX2_seen_3 : List UInt8 := [182, 0, 82, 191, 3, 61, 28, 42, 180, 0, 105, 180, 0, 160, 162, 0, 69, 42, 180, 0, 61, 28]
abbrev dktX2_seen_3 : List UInt8 := dkwX2_seen_3 ++ dktX2_seen_4
def dkwX2_seen_2 : List UInt8 := [182, 0, 82, 191, 42, 180, 0, 61, 182, 0, 184, 42, 180, 0, 105, 180, 0, 160, 159, 0, 10, 42, 16, 7]
abbrev dktX2_seen_2 : List UInt8 := dkwX2_seen_2 ++ dktX2_seen_3
def dkwX2_seen_1 : List UInt8 := [89, 183, 1, 29, 76, 43, 42, 182, 1, 14, 181, 1, 30, 42, 180, 0, 47, 5, 159, 0, 9, 42, 4]
abbrev dktX2_seen_1 : List UInt8 := dkwX2_seen_1 ++ dktX2_seen_2
def dkwX2_seen_0 : List UInt8 := [42, 42, 180, 0, 105, 180, 1, 24, 16, 6, 162, 0, 7, 4, 167, 0, 4, 3, 182, 0, 207, 187, 1, 27]
abbrev dktX2_seen_0 : List UInt8 := dkwX2_seen_0 ++ dktX2_seen_1
theorem dksX2_seen_0 : cX2_seen.data.toList.drop 0 = dktX2_seen_0 := by decide +kernel
theorem dksX2_seen_1 : cX2_seen.data.toList.drop 24 = dktX2_seen_1 := dk_seg dksX2_seen_0 24 rfl rfl
theorem dksX2_seen_2 : cX2_seen.data.toList.drop 47 = dktX2_seen_2 := dk_seg dksX2_seen_1 23 rfl rfl
theorem dksX2_seen_3 : cX2_seen.data.toList.drop 71 = dktX2_seen_3 := dk_seg dksX2_seen_2 24 rfl rfl
theorem dksX2_seen_4 : cX2_seen.data.toList.drop 93 = dktX2_seen_4 := dk_seg dksX2_seen_3 22 rfl rfl
theorem dksX2_seen_5 : cX2_seen.data.toList.drop 117 = dktX2_seen_5 := dk_seg dksX2_seen_4 24 rfl rfl
theorem dksX2_seen_6 : cX2_seen.data.toList.drop 141 = dktX2_seen_6 := dk_seg dksX2_seen_5 24 rfl rfl
theorem dksX2_seen_7 : cX2_seen.data.toList.drop 165 = dktX2_seen_7 := dk_seg dksX2_seen_6 24 rfl rfl
theorem dX2_seen_0 : decode cX2_seen 0 = .ok (.aload_n 0, 1) := dk_42 (dk_at dksX2_seen_0 0 rfl rfl)
theorem dX2_seen_1 : decode cX2_seen 1 = .ok (.aload_n 0, 1) := dk_42 (dk_at dksX2_seen_0 1 rfl rfl)
theorem dX2_seen_2 : decode cX2_seen 2 = .ok (.getfield 105, 3) := dk_180 0 105 (dk_at dksX2_seen_0 2 rfl rfl)
theorem dX2_seen_5 : decode cX2_seen 5 = .ok (.getfield 280, 3) := dk_180 1 24 (dk_at dksX2_seen_0 5 rfl rfl)
theorem dX2_seen_8 : decode cX2_seen 8 = .ok (.bipush 6, 2) := dk_16 6 (dk_at dksX2_seen_0 8 rfl rfl)
theorem dX2_seen_10 : decode cX2_seen 10 = .ok (.if_icmp .ge 7, 3) := dk_162 0 7 (dk_at dksX2_seen_0 10 rfl rfl)
theorem dX2_seen_13 : decode cX2_seen 13 = .ok (.iconst 1, 1) := dk_4 (dk_at dksX2_seen_0 13 rfl rfl)
theorem dX2_seen_14 : decode cX2_seen 14 = .ok (.goto 4, 3) := dk_167 0 4 (dk_at dksX2_seen_0 14 rfl rfl)
theorem dX2_seen_17 : decode cX2_seen 17 = .ok (.iconst 0, 1) := dk_3 (dk_at dksX2_seen_0 17 rfl rfl)
theorem dX2_seen_18 : decode cX2_seen 18 = .ok (.invokevirtual 207, 3) := dk_182 0 207 (dk_at dksX2_seen_0 18 rfl rfl)
theorem dX2_seen_21 : decode cX2_seen 21 = .ok (.new 283, 3) := dk_187 1 27 (dk_at dksX2_seen_0 21 rfl rfl)
theorem dX2_seen_24 : decode cX2_seen 24 = .ok (.dup, 1) := dk_89 (dk_at dksX2_seen_1 0 rfl rfl)
theorem dX2_seen_25 : decode cX2_seen 25 = .ok (.invokespecial 285, 3) := dk_183 1 29 (dk_at dksX2_seen_1 1 rfl rfl)
theorem dX2_seen_28 : decode cX2_seen 28 = .ok (.astore_n 1, 1) := dk_76 (dk_at dksX2_seen_1 4 rfl rfl)
theorem dX2_seen_29 : decode cX2_seen 29 = .ok (.aload_n 1, 1) := dk_43 (dk_at dksX2_seen_1 5 rfl rfl)
theorem dX2_seen_30 : decode cX2_seen 30 = .ok (.aload_n 0, 1) := dk_42 (dk_at dksX2_seen_1 6 rfl rfl)
theorem dX2_seen_31 : decode cX2_seen 31 = .ok (.invokevirtual 270, 3) := dk_182 1 14 (dk_at dksX2_seen_1 7 rfl rfl)
theorem dX2_seen_34 : decode cX2_seen 34 = .ok (.putfield 286, 3) := dk_181 1 30 (dk_at dksX2_seen_1 10 rfl rfl)
theorem dX2_seen_37 : decode cX2_seen 37 = .ok (.aload_n 0, 1) := dk_42 (dk_at dksX2_seen_1 13 rfl rfl)
theorem dX2_seen_38 : decode cX2_seen 38 = .ok (.getfield 47, 3) := dk_180 0 47 (dk_at dksX2_seen_1 14 rfl rfl)
theorem dX2_seen_41 : decode cX2_seen 41 = .ok (.iconst 2, 1) := dk_5 (dk_at dksX2_seen_1 17 rfl rfl)
theorem dX2_seen_42 : decode cX2_seen 42 = .ok (.if_icmp .eq 9, 3) := dk_159 0 9 (dk_at dksX2_seen_1 18 rfl rfl)
theorem dX2_seen_45 : decode cX2_seen 45 = .ok (.aload_n 0, 1) := dk_42 (dk_at dksX2_seen_1 21 rfl rfl)
theorem dX2_seen_46 : decode cX2_seen 46 = .ok (.iconst 1, 1) := dk_4 (dk_at dksX2_seen_1 22 rfl rfl)
theorem dX2_seen_47 : decode cX2_seen 47 = .ok (.invokevirtual 82, 3) := dk_182 0 82 (dk_at dksX2_seen_2 0 rfl rfl)
theorem dX2_seen_50 : decode cX2_seen 50 = .ok (.athrow, 1) := dk_191 (dk_at dksX2_seen_2 3 rfl rfl)
theorem dX2_seen_51 : decode cX2_seen 51 = .ok (.aload_n 0, 1) := dk_42 (dk_at dksX2_seen_2 4 rfl rfl)
theorem dX2_seen_52 : decode cX2_seen 52 = .ok (.getfield 61, 3) := dk_180 0 61 (dk_at dksX2_seen_2 5 rfl rfl)
theorem dX2_seen_55 : decode cX2_seen 55 = .ok (.invokevirtual 184, 3) := dk_182 0 184 (dk_at dksX2_seen_2 8 rfl rfl)
theorem dX2_seen_58 : decode cX2_seen 58 = .ok (.aload_n 0, 1) := dk_42 (dk_at dksX2_seen_2 11 rfl rfl)
theorem dX2_seen_59 : decode cX2_seen 59 = .ok (.getfield 105, 3) := dk_180 0 105 (dk_at dksX2_seen_2 12 rfl rfl)
theorem dX2_seen_62 : decode cX2_seen 62 = .ok (.getfield 160, 3) := dk_180 0 160 (dk_at dksX2_seen_2 15 rfl rfl)
theorem dX2_seen_65 : decode cX2_seen 65 = .ok (.if_icmp .eq 10, 3) := dk_159 0 10 (dk_at dksX2_seen_2 18 rfl rfl)
theorem dX2_seen_68 : decode cX2_seen 68 = .ok (.aload_n 0, 1) := dk_42 (dk_at dksX2_seen_2 21 rfl rfl)
theorem dX2_seen_69 : decode cX2_seen 69 = .ok (.bipush 7, 2) := dk_16 7 (dk_at dksX2_seen_2 22 rfl rfl)
theorem dX2_seen_71 : decode cX2_seen 71 = .ok (.invokevirtual 82, 3) := dk_182 0 82 (dk_at dksX2_seen_3 0 rfl rfl)
theorem dX2_seen_74 : decode cX2_seen 74 = .ok (.athrow, 1) := dk_191 (dk_at dksX2_seen_3 3 rfl rfl)
theorem dX2_seen_75 : decode cX2_seen 75 = .ok (.iconst 0, 1) := dk_3 (dk_at dksX2_seen_3 4 rfl rfl)
theorem dX2_seen_76 : decode cX2_seen 76 = .ok (.istore_n 2, 1) := dk_61 (dk_at dksX2_seen_3 5 rfl rfl)
theorem dX2_seen_77 : decode cX2_seen 77 = .ok (.iload_n 2, 1) := dk_28 (dk_at dksX2_seen_3 6 rfl rfl)
theorem dX2_seen_78 : decode cX2_seen 78 = .ok (.aload_n 0, 1) := dk_42 (dk_at dksX2_seen_3 7 rfl rfl)
theorem dX2_seen_79 : decode cX2_seen 79 = .ok (.getfield 105, 3) := dk_180 0 105 (dk_at dksX2_seen_3 8 rfl rfl)
theorem dX2_seen_82 : decode cX2_seen 82 = .ok (.getfield 160, 3) := dk_180 0 160 (dk_at dksX2_seen_3 11 rfl rfl)
theorem dX2_seen_85 : decode cX2_seen 85 = .ok (.if_icmp .ge 69, 3) := dk_162 0 69 (dk_at dksX2_seen_3 14 rfl rfl)
theorem dX2_seen_88 : decode cX2_seen 88 = .ok (.aload_n 0, 1) := dk_42 (dk_at dksX2_seen_3 17 rfl rfl)
theorem dX2_seen_89 : decode cX2_seen 89 = .ok (.getfield 61, 3) := dk_180 0 61 (dk_at dksX2_seen_3 18 rfl rfl)
theorem dX2_seen_92 : decode cX2_seen 92 = .ok (.iload_n 2, 1) := dk_28 (dk_at dksX2_seen_3 21 rfl rfl)
theorem dX2_seen_93 : decode cX2_seen 93 = .ok (.invokevirtual 187, 3) := dk_182 0 187 (dk_at dksX2_seen_4 0 rfl rfl)
theorem dX2_seen_96 : decode cX2_seen 96 = .ok (.bipush 97, 2) := dk_16 97 (dk_at dksX2_seen_4 3 rfl rfl)
theorem dX2_seen_98 : decode cX2_seen 98 = .ok (.isub, 1) := dk_100 (dk_at dksX2_seen_4 5 rfl rfl)
theorem dX2_seen_99 : decode cX2_seen 99 = .ok (.istore_n 3, 1) := dk_62 (dk_at dksX2_seen_4 6 rfl rfl)
theorem dX2_seen_100 : decode cX2_seen 100 = .ok (.iload_n 3, 1) := dk_29 (dk_at dksX2_seen_4 7 rfl rfl)
theorem dX2_seen_101 : decode cX2_seen 101 = .ok (.bipush 25, 2) := dk_16 25 (dk_at dksX2_seen_4 8 rfl rfl)
theorem dX2_seen_103 : decode cX2_seen 103 = .ok (.if_icmp .eq 27, 3) := dk_159 0 27 (dk_at dksX2_seen_4 10 rfl rfl)
theorem dX2_seen_106 : decode cX2_seen 106 = .ok (.iload_n 3, 1) := dk_29 (dk_at dksX2_seen_4 13 rfl rfl)
theorem dX2_seen_107 : decode cX2_seen 107 = .ok (.iconst 0, 1) := dk_3 (dk_at dksX2_seen_4 14 rfl rfl)
theorem dX2_seen_108 : decode cX2_seen 108 = .ok (.aload_n 0, 1) := dk_42 (dk_at dksX2_seen_4 15 rfl rfl)
theorem dX2_seen_109 : decode cX2_seen 109 = .ok (.getfield 105, 3) := dk_180 0 105 (dk_at dksX2_seen_4 16 rfl rfl)
theorem dX2_seen_112 : decode cX2_seen 112 = .ok (.getfield 164, 3) := dk_180 0 164 (dk_at dksX2_seen_4 19 rfl rfl)
theorem dX2_seen_115 : decode cX2_seen 115 = .ok (.iconst 1, 1) := dk_4 (dk_at dksX2_seen_4 22 rfl rfl)
theorem dX2_seen_116 : decode cX2_seen 116 = .ok (.isub, 1) := dk_100 (dk_at dksX2_seen_4 23 rfl rfl)
theorem dX2_seen_117 : decode cX2_seen 117 = .ok (.invokestatic 36, 3) := dk_184 0 36 (dk_at dksX2_seen_5 0 rfl rfl)
theorem dX2_seen_120 : decode cX2_seen 120 = .ok (.ifCond .ne 10, 3) := dk_154 0 10 (dk_at dksX2_seen_5 3 rfl rfl)
theorem dX2_seen_123 : decode cX2_seen 123 = .ok (.aload_n 0, 1) := dk_42 (dk_at dksX2_seen_5 6 rfl rfl)
theorem dX2_seen_124 : decode cX2_seen 124 = .ok (.bipush 7, 2) := dk_16 7 (dk_at dksX2_seen_5 7 rfl rfl)
theorem dX2_seen_126 : decode cX2_seen 126 = .ok (.invokevirtual 82, 3) := dk_182 0 82 (dk_at dksX2_seen_5 9 rfl rfl)
theorem dX2_seen_129 : decode cX2_seen 129 = .ok (.athrow, 1) := dk_191 (dk_at dksX2_seen_5 12 rfl rfl)
theorem dX2_seen_130 : decode cX2_seen 130 = .ok (.aload_n 1, 1) := dk_43 (dk_at dksX2_seen_5 13 rfl rfl)
theorem dX2_seen_131 : decode cX2_seen 131 = .ok (.getfield 288, 3) := dk_180 1 32 (dk_at dksX2_seen_5 14 rfl rfl)
theorem dX2_seen_134 : decode cX2_seen 134 = .ok (.iload_n 2, 1) := dk_28 (dk_at dksX2_seen_5 17 rfl rfl)
theorem dX2_seen_135 : decode cX2_seen 135 = .ok (.iload_n 3, 1) := dk_29 (dk_at dksX2_seen_5 18 rfl rfl)
theorem dX2_seen_136 : decode cX2_seen 136 = .ok (.bipush 25, 2) := dk_16 25 (dk_at dksX2_seen_5 19 rfl rfl)
theorem dX2_seen_138 : decode cX2_seen 138 = .ok (.if_icmp .ne 8, 3) := dk_160 0 8 (dk_at dksX2_seen_5 21 rfl rfl)
theorem dX2_seen_141 : decode cX2_seen 141 = .ok (.bipush (-2), 2) := dk_16 254 (dk_at dksX2_seen_6 0 rfl rfl)
theorem dX2_seen_143 : decode cX2_seen 143 = .ok (.goto 4, 3) := dk_167 0 4 (dk_at dksX2_seen_6 2 rfl rfl)
theorem dX2_seen_146 : decode cX2_seen 146 = .ok (.iload_n 3, 1) := dk_29 (dk_at dksX2_seen_6 5 rfl rfl)
theorem dX2_seen_147 : decode cX2_seen 147 = .ok (.iastore, 1) := dk_79 (dk_at dksX2_seen_6 6 rfl rfl)
theorem dX2_seen_148 : decode cX2_seen 148 = .ok (.iinc 2 1, 3) := dk_132 2 1 (dk_at dksX2_seen_6 7 rfl rfl)
theorem dX2_seen_151 : decode cX2_seen 151 = .ok (.goto (-74), 3) := dk_167 255 182 (dk_at dksX2_seen_6 10 rfl rfl)
theorem dX2_seen_154 : decode cX2_seen 154 = .ok (.aload_n 0, 1) := dk_42 (dk_at dksX2_seen_6 13 rfl rfl)
theorem dX2_seen_155 : decode cX2_seen 155 = .ok (.invokevirtual 75, 3) := dk_182 0 75 (dk_at dksX2_seen_6 14 rfl rfl)
theorem dX2_seen_158 : decode cX2_seen 158 = .ok (.aload_n 0, 1) := dk_42 (dk_at dksX2_seen_6 17 rfl rfl)
theorem dX2_seen_159 : decode cX2_seen 159 = .ok (.getfield 105, 3) := dk_180 0 105 (dk_at dksX2_seen_6 18 rfl rfl)
theorem dX2_seen_162 : decode cX2_seen 162 = .ok (.getfield 291, 3) := dk_180 1 35 (dk_at dksX2_seen_6 21 rfl rfl)
theorem dX2_seen_165 : decode cX2_seen 165 = .ok (.aload_n 0, 1) := dk_42 (dk_at dksX2_seen_7 0 rfl rfl)
theorem dX2_seen_166 : decode cX2_seen 166 = .ok (.getfield 105, 3) := dk_180 0 105 (dk_at dksX2_seen_7 1 rfl rfl)
theorem dX2_seen_169 : decode cX2_seen 169 = .ok (.getfield 280, 3) := dk_180 1 24 (dk_at dksX2_seen_7 4 rfl rfl)
theorem dX2_seen_172 : decode cX2_seen 172 = .ok (.aload_n 1, 1) := dk_43 (dk_at dksX2_seen_7 7 rfl rfl)
theorem dX2_seen_173 : decode cX2_seen 173 = .ok (.aastore, 1) := dk_83 (dk_at dksX2_seen_7 8 rfl rfl)
theorem dX2_seen_174 : decode cX2_seen 174 = .ok (.aload_n 0, 1) := dk_42 (dk_at dksX2_seen_7 9 rfl rfl)
theorem dX2_seen_175 : decode cX2_seen 175 = .ok (.getfield 105, 3) := dk_180 0 105 (dk_at dksX2_seen_7 10 rfl rfl)
theorem dX2_seen_178 : decode cX2_seen 178 = .ok (.dup, 1) := dk_89 (dk_at dksX2_seen_7 13 rfl rfl)
theorem dX2_seen_179 : decode cX2_seen 179 = .ok (.getfield 280, 3) := dk_180 1 24 (dk_at dksX2_seen_7 14 rfl rfl)
theorem dX2_seen_182 : decode cX2_seen 182 = .ok (.iconst 1, 1) := dk_4 (dk_at dksX2_seen_7 17 rfl rfl)
theorem dX2_seen_183 : decode cX2_seen 183 = .ok (.iadd, 1) := dk_96 (dk_at dksX2_seen_7 18 rfl rfl)
theorem dX2_seen_184 : decode cX2_seen 184 = .ok (.putfield 280, 3) := dk_181 1 24 (dk_at dksX2_seen_7 19 rfl rfl)
theorem dX2_seen_187 : decode cX2_seen 187 = .ok (.return_, 1) := dk_177 (dk_at dksX2_seen_7 22 rfl rfl)
abbrev cX2_says : ByteArray := prog_16_method_29_code
def yX2_says : MethodName := ⟨RX2, "says", "()V"⟩
def dkwX2_says_4 : List UInt8 := [181, 1, 39, 177]
abbrev dktX2_says_4 : List UInt8 := dkwX2_says_4 ++ []
def dkwX2_says_3 : List UInt8 := [180, 1, 54, 42, 180, 0, 105, 180, 1, 39, 43, 83, 42, 180, 0, 105, 89, 180, 1, 39, 4, 96]
abbrev dktX2_says_3 : List UInt8 := dkwX2_says_3 ++ dktX2_says_4
def dkwX2_says_2 : List UInt8 := [43, 42, 3, 42, 180, 0, 105, 180, 0, 160, 4, 100, 182, 0, 126, 181, 1, 52, 42, 180, 0, 105]
abbrev dktX2_says_2 : List UInt8 := dkwX2_says_2 ++ dktX2_says_3
def dkwX2_says_1 : List UInt8 := [89, 183, 1, 44, 76, 43, 42, 182, 1, 45, 180, 1, 47, 181, 1, 49, 43, 42, 182, 1, 14, 181, 1, 51]
abbrev dktX2_says_1 : List UInt8 := dkwX2_says_1 ++ dktX2_says_2
def dkwX2_says_0 : List UInt8 := [42, 42, 180, 0, 105, 180, 1, 39, 16, 8, 162, 0, 7, 4, 167, 0, 4, 3, 182, 0, 207, 187, 1, 42]
abbrev dktX2_says_0 : List UInt8 := dkwX2_says_0 ++ dktX2_says_1
theorem dksX2_says_0 : cX2_says.data.toList.drop 0 = dktX2_says_0 := by decide +kernel
theorem dksX2_says_1 : cX2_says.data.toList.drop 24 = dktX2_says_1 := dk_seg dksX2_says_0 24 rfl rfl
theorem dksX2_says_2 : cX2_says.data.toList.drop 48 = dktX2_says_2 := dk_seg dksX2_says_1 24 rfl rfl
theorem dksX2_says_3 : cX2_says.data.toList.drop 70 = dktX2_says_3 := dk_seg dksX2_says_2 22 rfl rfl
theorem dksX2_says_4 : cX2_says.data.toList.drop 92 = dktX2_says_4 := dk_seg dksX2_says_3 22 rfl rfl
theorem dX2_says_0 : decode cX2_says 0 = .ok (.aload_n 0, 1) := dk_42 (dk_at dksX2_says_0 0 rfl rfl)
theorem dX2_says_1 : decode cX2_says 1 = .ok (.aload_n 0, 1) := dk_42 (dk_at dksX2_says_0 1 rfl rfl)
theorem dX2_says_2 : decode cX2_says 2 = .ok (.getfield 105, 3) := dk_180 0 105 (dk_at dksX2_says_0 2 rfl rfl)
theorem dX2_says_5 : decode cX2_says 5 = .ok (.getfield 295, 3) := dk_180 1 39 (dk_at dksX2_says_0 5 rfl rfl)
theorem dX2_says_8 : decode cX2_says 8 = .ok (.bipush 8, 2) := dk_16 8 (dk_at dksX2_says_0 8 rfl rfl)
theorem dX2_says_10 : decode cX2_says 10 = .ok (.if_icmp .ge 7, 3) := dk_162 0 7 (dk_at dksX2_says_0 10 rfl rfl)
theorem dX2_says_13 : decode cX2_says 13 = .ok (.iconst 1, 1) := dk_4 (dk_at dksX2_says_0 13 rfl rfl)
theorem dX2_says_14 : decode cX2_says 14 = .ok (.goto 4, 3) := dk_167 0 4 (dk_at dksX2_says_0 14 rfl rfl)
theorem dX2_says_17 : decode cX2_says 17 = .ok (.iconst 0, 1) := dk_3 (dk_at dksX2_says_0 17 rfl rfl)
theorem dX2_says_18 : decode cX2_says 18 = .ok (.invokevirtual 207, 3) := dk_182 0 207 (dk_at dksX2_says_0 18 rfl rfl)
theorem dX2_says_21 : decode cX2_says 21 = .ok (.new 298, 3) := dk_187 1 42 (dk_at dksX2_says_0 21 rfl rfl)
theorem dX2_says_24 : decode cX2_says 24 = .ok (.dup, 1) := dk_89 (dk_at dksX2_says_1 0 rfl rfl)
theorem dX2_says_25 : decode cX2_says 25 = .ok (.invokespecial 300, 3) := dk_183 1 44 (dk_at dksX2_says_1 1 rfl rfl)
theorem dX2_says_28 : decode cX2_says 28 = .ok (.astore_n 1, 1) := dk_76 (dk_at dksX2_says_1 4 rfl rfl)
theorem dX2_says_29 : decode cX2_says 29 = .ok (.aload_n 1, 1) := dk_43 (dk_at dksX2_says_1 5 rfl rfl)
theorem dX2_says_30 : decode cX2_says 30 = .ok (.aload_n 0, 1) := dk_42 (dk_at dksX2_says_1 6 rfl rfl)
theorem dX2_says_31 : decode cX2_says 31 = .ok (.invokevirtual 301, 3) := dk_182 1 45 (dk_at dksX2_says_1 7 rfl rfl)
theorem dX2_says_34 : decode cX2_says 34 = .ok (.getfield 303, 3) := dk_180 1 47 (dk_at dksX2_says_1 10 rfl rfl)
theorem dX2_says_37 : decode cX2_says 37 = .ok (.putfield 305, 3) := dk_181 1 49 (dk_at dksX2_says_1 13 rfl rfl)
theorem dX2_says_40 : decode cX2_says 40 = .ok (.aload_n 1, 1) := dk_43 (dk_at dksX2_says_1 16 rfl rfl)
theorem dX2_says_41 : decode cX2_says 41 = .ok (.aload_n 0, 1) := dk_42 (dk_at dksX2_says_1 17 rfl rfl)
theorem dX2_says_42 : decode cX2_says 42 = .ok (.invokevirtual 270, 3) := dk_182 1 14 (dk_at dksX2_says_1 18 rfl rfl)
theorem dX2_says_45 : decode cX2_says 45 = .ok (.putfield 307, 3) := dk_181 1 51 (dk_at dksX2_says_1 21 rfl rfl)
theorem dX2_says_48 : decode cX2_says 48 = .ok (.aload_n 1, 1) := dk_43 (dk_at dksX2_says_2 0 rfl rfl)
theorem dX2_says_49 : decode cX2_says 49 = .ok (.aload_n 0, 1) := dk_42 (dk_at dksX2_says_2 1 rfl rfl)
theorem dX2_says_50 : decode cX2_says 50 = .ok (.iconst 0, 1) := dk_3 (dk_at dksX2_says_2 2 rfl rfl)
theorem dX2_says_51 : decode cX2_says 51 = .ok (.aload_n 0, 1) := dk_42 (dk_at dksX2_says_2 3 rfl rfl)
theorem dX2_says_52 : decode cX2_says 52 = .ok (.getfield 105, 3) := dk_180 0 105 (dk_at dksX2_says_2 4 rfl rfl)
theorem dX2_says_55 : decode cX2_says 55 = .ok (.getfield 160, 3) := dk_180 0 160 (dk_at dksX2_says_2 7 rfl rfl)
theorem dX2_says_58 : decode cX2_says 58 = .ok (.iconst 1, 1) := dk_4 (dk_at dksX2_says_2 10 rfl rfl)
theorem dX2_says_59 : decode cX2_says 59 = .ok (.isub, 1) := dk_100 (dk_at dksX2_says_2 11 rfl rfl)
theorem dX2_says_60 : decode cX2_says 60 = .ok (.invokevirtual 126, 3) := dk_182 0 126 (dk_at dksX2_says_2 12 rfl rfl)
theorem dX2_says_63 : decode cX2_says 63 = .ok (.putfield 308, 3) := dk_181 1 52 (dk_at dksX2_says_2 15 rfl rfl)
theorem dX2_says_66 : decode cX2_says 66 = .ok (.aload_n 0, 1) := dk_42 (dk_at dksX2_says_2 18 rfl rfl)
theorem dX2_says_67 : decode cX2_says 67 = .ok (.getfield 105, 3) := dk_180 0 105 (dk_at dksX2_says_2 19 rfl rfl)
theorem dX2_says_70 : decode cX2_says 70 = .ok (.getfield 310, 3) := dk_180 1 54 (dk_at dksX2_says_3 0 rfl rfl)
theorem dX2_says_73 : decode cX2_says 73 = .ok (.aload_n 0, 1) := dk_42 (dk_at dksX2_says_3 3 rfl rfl)
theorem dX2_says_74 : decode cX2_says 74 = .ok (.getfield 105, 3) := dk_180 0 105 (dk_at dksX2_says_3 4 rfl rfl)
theorem dX2_says_77 : decode cX2_says 77 = .ok (.getfield 295, 3) := dk_180 1 39 (dk_at dksX2_says_3 7 rfl rfl)
theorem dX2_says_80 : decode cX2_says 80 = .ok (.aload_n 1, 1) := dk_43 (dk_at dksX2_says_3 10 rfl rfl)
theorem dX2_says_81 : decode cX2_says 81 = .ok (.aastore, 1) := dk_83 (dk_at dksX2_says_3 11 rfl rfl)
theorem dX2_says_82 : decode cX2_says 82 = .ok (.aload_n 0, 1) := dk_42 (dk_at dksX2_says_3 12 rfl rfl)
theorem dX2_says_83 : decode cX2_says 83 = .ok (.getfield 105, 3) := dk_180 0 105 (dk_at dksX2_says_3 13 rfl rfl)
theorem dX2_says_86 : decode cX2_says 86 = .ok (.dup, 1) := dk_89 (dk_at dksX2_says_3 16 rfl rfl)
theorem dX2_says_87 : decode cX2_says 87 = .ok (.getfield 295, 3) := dk_180 1 39 (dk_at dksX2_says_3 17 rfl rfl)
theorem dX2_says_90 : decode cX2_says 90 = .ok (.iconst 1, 1) := dk_4 (dk_at dksX2_says_3 20 rfl rfl)
theorem dX2_says_91 : decode cX2_says 91 = .ok (.iadd, 1) := dk_96 (dk_at dksX2_says_3 21 rfl rfl)
theorem dX2_says_92 : decode cX2_says 92 = .ok (.putfield 295, 3) := dk_181 1 39 (dk_at dksX2_says_4 0 rfl rfl)
theorem dX2_says_95 : decode cX2_says 95 = .ok (.return_, 1) := dk_177 (dk_at dksX2_says_4 3 rfl rfl)
abbrev cX2_person : ByteArray := prog_16_method_12_code
def yX2_person : MethodName := ⟨RX2, "person", "()LBrushGlass$Person;"⟩
def dkwX2_person_0 : List UInt8 := [42, 182, 0, 114, 76, 42, 182, 0, 75, 43, 176]
abbrev dktX2_person_0 : List UInt8 := dkwX2_person_0 ++ []
theorem dksX2_person_0 : cX2_person.data.toList.drop 0 = dktX2_person_0 := by decide +kernel
theorem dX2_person_0 : decode cX2_person 0 = .ok (.aload_n 0, 1) := dk_42 (dk_at dksX2_person_0 0 rfl rfl)
theorem dX2_person_1 : decode cX2_person 1 = .ok (.invokevirtual 114, 3) := dk_182 0 114 (dk_at dksX2_person_0 1 rfl rfl)
theorem dX2_person_4 : decode cX2_person 4 = .ok (.astore_n 1, 1) := dk_76 (dk_at dksX2_person_0 4 rfl rfl)
theorem dX2_person_5 : decode cX2_person 5 = .ok (.aload_n 0, 1) := dk_42 (dk_at dksX2_person_0 5 rfl rfl)
theorem dX2_person_6 : decode cX2_person 6 = .ok (.invokevirtual 75, 3) := dk_182 0 75 (dk_at dksX2_person_0 6 rfl rfl)
theorem dX2_person_9 : decode cX2_person 9 = .ok (.aload_n 1, 1) := dk_43 (dk_at dksX2_person_0 9 rfl rfl)
theorem dX2_person_10 : decode cX2_person 10 = .ok (.areturn, 1) := dk_176 (dk_at dksX2_person_0 10 rfl rfl)
theorem q131 : (Jvm.Cond.initialized "BrushGlass$Reader") ∈ lw_all := lw_g (lw_at lw_m1 2 rfl) rfl
theorem q174 : (Jvm.Cond.instantiable "BrushGlass$Reader" (10 : Nat)) ∈ lw_all := lw_g (lw_at lw_m1 45 rfl) rfl
theorem q176 : (Jvm.Cond.instanceMethod ({ cls := "BrushGlass$Reader", name := "<init>", desc := "([B)V" } : Jvm.MethodName)) ∈ lw_all := lw_g (lw_at lw_m1 47 rfl) rfl
theorem q177 : (Jvm.Cond.code ({ cls := "BrushGlass$Reader", name := "<init>", desc := "([B)V" } : Jvm.MethodName) prog_16_method_1_code (2 : Nat) (Option.none : Option Jvm.ClassFile.FieldType)) ∈ lw_all := lw_g (lw_at lw_m1 48 rfl) rfl
theorem q178 : (Jvm.Cond.methodLink "BrushGlass$Reader" (3 : Nat) ({ cls := "java/lang/Object", name := "<init>", desc := "()V" } : Jvm.MethodName)) ∈ lw_all := lw_g (lw_at lw_m1 49 rfl) rfl
theorem q179 : (Jvm.Cond.classLink "BrushGlass$Reader" (9 : Nat) "BrushGlass$Refused") ∈ lw_all := lw_g (lw_at lw_m1 50 rfl) rfl
theorem q219 : (Jvm.Cond.methodLink "BrushGlass$Reader" (11 : Nat) ({ cls := "BrushGlass$Refused", name := "<init>", desc := "()V" } : Jvm.MethodName)) ∈ lw_all := lw_g (lw_at lw_m1 90 rfl) rfl
theorem q253 : (Jvm.Cond.fieldLink "BrushGlass$Reader" (12 : Nat) "BrushGlass$Reader" "wrong" "LBrushGlass$Refused;") ∈ lw_all := lw_g (lw_at lw_m1 124 rfl) rfl
theorem q254 : (Jvm.Cond.fieldLink "BrushGlass$Reader" (22 : Nat) "BrushGlass$Reader" "text" "[B") ∈ lw_all := lw_g (lw_at lw_m1 125 rfl) rfl
theorem q255 : (Jvm.Cond.fieldLink "BrushGlass$Reader" (18 : Nat) "BrushGlass$Reader" "letters" "[C") ∈ lw_all := lw_g (lw_at lw_m1 126 rfl) rfl
theorem q256 : (Jvm.Cond.fieldLink "BrushGlass$Reader" (33 : Nat) "BrushGlass$Reader" "size" "I") ∈ lw_all := lw_g (lw_at lw_m1 127 rfl) rfl
theorem q257 : (Jvm.Cond.fieldLink "BrushGlass$Reader" (40 : Nat) "BrushGlass$Reader" "end" "I") ∈ lw_all := lw_g (lw_at lw_m1 128 rfl) rfl
theorem q258 : (Jvm.Cond.fieldLink "BrushGlass$Reader" (47 : Nat) "BrushGlass$Reader" "token" "I") ∈ lw_all := lw_g (lw_at lw_m1 129 rfl) rfl
theorem q259 : (Jvm.Cond.fieldLink "BrushGlass$Reader" (26 : Nat) "BrushGlass$Reader" "at" "I") ∈ lw_all := lw_g (lw_at lw_m1 130 rfl) rfl
theorem q260 : (Jvm.Cond.fieldLink "BrushGlass$Reader" (68 : Nat) "BrushGlass$Reader" "whole" "I") ∈ lw_all := lw_g (lw_at lw_m1 131 rfl) rfl
theorem q261 : (Jvm.Cond.fieldLink "BrushGlass$Reader" (61 : Nat) "BrushGlass$Reader" "word" "Ljava/lang/String;") ∈ lw_all := lw_g (lw_at lw_m1 132 rfl) rfl
theorem q262 : (Jvm.Cond.fieldLink "BrushGlass$Reader" (105 : Nat) "BrushGlass$Reader" "glass" "LBrushGlass$Glass;") ∈ lw_all := lw_g (lw_at lw_m1 133 rfl) rfl
theorem q263 : (Jvm.Cond.laysFinal "BrushGlass$Reader" "BrushGlass$Reader" "wrong" "LBrushGlass$Refused;") ∈ lw_all := lw_g (lw_at lw_m1 134 rfl) rfl
theorem q264 : (Jvm.Cond.soleField "BrushGlass$Reader" "wrong") ∈ lw_all := lw_g (lw_at lw_m1 135 rfl) rfl
theorem q265 : (Jvm.Cond.laysFinal "BrushGlass$Reader" "BrushGlass$Reader" "text" "[B") ∈ lw_all := lw_g (lw_at lw_m1 136 rfl) rfl
theorem q266 : (Jvm.Cond.soleField "BrushGlass$Reader" "text") ∈ lw_all := lw_g (lw_at lw_m1 137 rfl) rfl
theorem q267 : (Jvm.Cond.laysFinal "BrushGlass$Reader" "BrushGlass$Reader" "letters" "[C") ∈ lw_all := lw_g (lw_at lw_m1 138 rfl) rfl
theorem q268 : (Jvm.Cond.soleField "BrushGlass$Reader" "letters") ∈ lw_all := lw_g (lw_at lw_m1 139 rfl) rfl
theorem q269 : (Jvm.Cond.lays "BrushGlass$Reader" "BrushGlass$Reader" "size" "I") ∈ lw_all := lw_g (lw_at lw_m1 140 rfl) rfl
theorem q270 : (Jvm.Cond.soleField "BrushGlass$Reader" "size") ∈ lw_all := lw_g (lw_at lw_m1 141 rfl) rfl
theorem q271 : (Jvm.Cond.lays "BrushGlass$Reader" "BrushGlass$Reader" "end" "I") ∈ lw_all := lw_g (lw_at lw_m1 142 rfl) rfl
theorem q272 : (Jvm.Cond.soleField "BrushGlass$Reader" "end") ∈ lw_all := lw_g (lw_at lw_m1 143 rfl) rfl
theorem q273 : (Jvm.Cond.lays "BrushGlass$Reader" "BrushGlass$Reader" "token" "I") ∈ lw_all := lw_g (lw_at lw_m1 144 rfl) rfl
theorem q274 : (Jvm.Cond.soleField "BrushGlass$Reader" "token") ∈ lw_all := lw_g (lw_at lw_m1 145 rfl) rfl
theorem q275 : (Jvm.Cond.lays "BrushGlass$Reader" "BrushGlass$Reader" "at" "I") ∈ lw_all := lw_g (lw_at lw_m1 146 rfl) rfl
theorem q276 : (Jvm.Cond.soleField "BrushGlass$Reader" "at") ∈ lw_all := lw_g (lw_at lw_m1 147 rfl) rfl
theorem q277 : (Jvm.Cond.lays "BrushGlass$Reader" "BrushGlass$Reader" "whole" "I") ∈ lw_all := lw_g (lw_at lw_m1 148 rfl) rfl
theorem q278 : (Jvm.Cond.soleField "BrushGlass$Reader" "whole") ∈ lw_all := lw_g (lw_at lw_m1 149 rfl) rfl
theorem q279 : (Jvm.Cond.lays "BrushGlass$Reader" "BrushGlass$Reader" "word" "Ljava/lang/String;") ∈ lw_all := lw_g (lw_at lw_m1 150 rfl) rfl
theorem q280 : (Jvm.Cond.soleField "BrushGlass$Reader" "word") ∈ lw_all := lw_g (lw_at lw_m1 151 rfl) rfl
theorem q281 : (Jvm.Cond.lays "BrushGlass$Reader" "BrushGlass$Reader" "glass" "LBrushGlass$Glass;") ∈ lw_all := lw_g (lw_at lw_m1 152 rfl) rfl
theorem q282 : (Jvm.Cond.soleField "BrushGlass$Reader" "glass") ∈ lw_all := lw_g (lw_at lw_m1 153 rfl) rfl
theorem q283 : (Jvm.Cond.superclass "BrushGlass$Reader" "java/lang/Object") ∈ lw_all := lw_g (lw_at lw_m1 154 rfl) rfl
theorem q639 : (Jvm.Cond.instanceMethod ({ cls := "BrushGlass$Reader", name := "read", desc := "(I)LBrushGlass$Glass;" } : Jvm.MethodName)) ∈ lw_all := lw_g (lw_at lw_m3 30 rfl) rfl
theorem q640 : (Jvm.Cond.selects "BrushGlass$Reader" ({ cls := "BrushGlass$Reader", name := "read", desc := "(I)LBrushGlass$Glass;" } : Jvm.MethodName) ({ cls := "BrushGlass$Reader", name := "read", desc := "(I)LBrushGlass$Glass;" } : Jvm.MethodName)) ∈ lw_all := lw_g (lw_at lw_m3 31 rfl) rfl
theorem q641 : (Jvm.Cond.code ({ cls := "BrushGlass$Reader", name := "read", desc := "(I)LBrushGlass$Glass;" } : Jvm.MethodName) prog_16_method_18_code (2 : Nat) (Option.some (Jvm.ClassFile.FieldType.object "BrushGlass$Glass"))) ∈ lw_all := lw_g (lw_at lw_m3 32 rfl) rfl
theorem q642 : (Jvm.Cond.classLink "BrushGlass$Reader" (109 : Nat) "BrushGlass$Glass") ∈ lw_all := lw_g (lw_at lw_m3 33 rfl) rfl
theorem q644 : (Jvm.Cond.methodLinkNest "BrushGlass$Reader" (132 : Nat) ({ cls := "BrushGlass$Glass", name := "<init>", desc := "()V" } : Jvm.MethodName) "BrushGlass") ∈ lw_tbl := lw_at lw_m3 35 rfl
theorem q660 : (Jvm.Cond.fieldLink "BrushGlass$Reader" (250 : Nat) "BrushGlass$Glass" "people" "[LBrushGlass$Person;") ∈ lw_all := lw_g (lw_at lw_m3 51 rfl) rfl
theorem q663 : (Jvm.Cond.fieldLink "BrushGlass$Reader" (277 : Nat) "BrushGlass$Glass" "moves" "[LBrushGlass$Move;") ∈ lw_all := lw_g (lw_at lw_m3 54 rfl) rfl
theorem q665 : (Jvm.Cond.fieldLink "BrushGlass$Reader" (291 : Nat) "BrushGlass$Glass" "seeings" "[LBrushGlass$Seeing;") ∈ lw_all := lw_g (lw_at lw_m3 56 rfl) rfl
theorem q669 : (Jvm.Cond.fieldLink "BrushGlass$Reader" (310 : Nat) "BrushGlass$Glass" "sayings" "[LBrushGlass$Saying;") ∈ lw_all := lw_g (lw_at lw_m3 60 rfl) rfl
theorem q673 : (Jvm.Cond.fieldLink "BrushGlass$Reader" (129 : Nat) "BrushGlass$Glass" "days" "I") ∈ lw_all := lw_g (lw_at lw_m3 64 rfl) rfl
theorem q678 : (Jvm.Cond.fieldLink "BrushGlass$Reader" (160 : Nat) "BrushGlass$Glass" "places" "I") ∈ lw_all := lw_g (lw_at lw_m3 69 rfl) rfl
theorem q679 : (Jvm.Cond.fieldLink "BrushGlass$Reader" (164 : Nat) "BrushGlass$Glass" "colours" "I") ∈ lw_all := lw_g (lw_at lw_m3 70 rfl) rfl
theorem q681 : (Jvm.Cond.fieldLink "BrushGlass$Reader" (168 : Nat) "BrushGlass$Glass" "reach" "I") ∈ lw_all := lw_g (lw_at lw_m3 72 rfl) rfl
theorem q689 : (Jvm.Cond.fieldLink "BrushGlass$Reader" (136 : Nat) "BrushGlass$Glass" "personMany" "I") ∈ lw_all := lw_g (lw_at lw_m3 80 rfl) rfl
theorem q691 : (Jvm.Cond.fieldLink "BrushGlass$Reader" (264 : Nat) "BrushGlass$Glass" "moveMany" "I") ∈ lw_all := lw_g (lw_at lw_m3 82 rfl) rfl
theorem q693 : (Jvm.Cond.fieldLink "BrushGlass$Reader" (280 : Nat) "BrushGlass$Glass" "seeingMany" "I") ∈ lw_all := lw_g (lw_at lw_m3 84 rfl) rfl
theorem q696 : (Jvm.Cond.fieldLink "BrushGlass$Reader" (295 : Nat) "BrushGlass$Glass" "sayingMany" "I") ∈ lw_all := lw_g (lw_at lw_m3 87 rfl) rfl
theorem q723 : (Jvm.Cond.methodLink "BrushGlass$Reader" (75 : Nat) ({ cls := "BrushGlass$Reader", name := "next", desc := "()V" } : Jvm.MethodName)) ∈ lw_all := lw_g (lw_at lw_m3 114 rfl) rfl
theorem q724 : (Jvm.Cond.privateMethod ({ cls := "BrushGlass$Reader", name := "next", desc := "()V" } : Jvm.MethodName)) ∈ lw_tbl := lw_at lw_m3 115 rfl
theorem q725 : (Jvm.Cond.instanceMethod ({ cls := "BrushGlass$Reader", name := "next", desc := "()V" } : Jvm.MethodName)) ∈ lw_all := lw_g (lw_at lw_m3 116 rfl) rfl
theorem q726 : (Jvm.Cond.code ({ cls := "BrushGlass$Reader", name := "next", desc := "()V" } : Jvm.MethodName) prog_16_method_6_code (3 : Nat) (Option.none : Option Jvm.ClassFile.FieldType)) ∈ lw_all := lw_g (lw_at lw_m3 117 rfl) rfl
theorem q727 : (Jvm.Cond.methodLink "BrushGlass$Reader" (43 : Nat) ({ cls := "BrushGlass$Reader", name := "see", desc := "(I)I" } : Jvm.MethodName)) ∈ lw_all := lw_g (lw_at lw_m3 118 rfl) rfl
theorem q728 : (Jvm.Cond.privateMethod ({ cls := "BrushGlass$Reader", name := "see", desc := "(I)I" } : Jvm.MethodName)) ∈ lw_tbl := lw_at lw_m3 119 rfl
theorem q729 : (Jvm.Cond.instanceMethod ({ cls := "BrushGlass$Reader", name := "see", desc := "(I)I" } : Jvm.MethodName)) ∈ lw_all := lw_g (lw_at lw_m3 120 rfl) rfl
theorem q730 : (Jvm.Cond.code ({ cls := "BrushGlass$Reader", name := "see", desc := "(I)I" } : Jvm.MethodName) prog_16_method_3_code (2 : Nat) (Option.some Jvm.ClassFile.FieldType.int)) ∈ lw_all := lw_g (lw_at lw_m3 121 rfl) rfl
theorem q731 : (Jvm.Cond.methodLink "BrushGlass$Reader" (50 : Nat) ({ cls := "BrushGlass$Reader", name := "isSmall", desc := "(I)Z" } : Jvm.MethodName)) ∈ lw_all := lw_g (lw_at lw_m3 122 rfl) rfl
theorem q732 : (Jvm.Cond.static ({ cls := "BrushGlass$Reader", name := "isSmall", desc := "(I)Z" } : Jvm.MethodName)) ∈ lw_all := lw_g (lw_at lw_m3 123 rfl) rfl
theorem q733 : (Jvm.Cond.code ({ cls := "BrushGlass$Reader", name := "isSmall", desc := "(I)Z" } : Jvm.MethodName) prog_16_method_4_code (1 : Nat) (Option.some Jvm.ClassFile.FieldType.boolean)) ∈ lw_all := lw_g (lw_at lw_m3 124 rfl) rfl
theorem q734 : (Jvm.Cond.methodLinkNest "BrushGlass$Reader" (36 : Nat) ({ cls := "BrushGlass", name := "in", desc := "(III)Z" } : Jvm.MethodName) "BrushGlass") ∈ lw_tbl := lw_at lw_m3 125 rfl
theorem q735 : (Jvm.Cond.classLink "BrushGlass$Reader" (54 : Nat) "java/lang/String") ∈ lw_all := lw_g (lw_at lw_m3 126 rfl) rfl
theorem q737 : (Jvm.Cond.methodLink "BrushGlass$Reader" (56 : Nat) ({ cls := "java/lang/String", name := "<init>", desc := "([CII)V" } : Jvm.MethodName)) ∈ lw_all := lw_g (lw_at lw_m3 128 rfl) rfl
theorem q813 : (Jvm.Cond.stringRef "BrushGlass$Reader" (59 : Nat) "") ∈ lw_tbl := lw_at lw_m3 204 rfl
theorem q814 : (Jvm.Cond.methodLink "BrushGlass$Reader" (65 : Nat) ({ cls := "BrushGlass$Reader", name := "isDigit", desc := "(I)Z" } : Jvm.MethodName)) ∈ lw_all := lw_g (lw_at lw_m3 205 rfl) rfl
theorem q815 : (Jvm.Cond.static ({ cls := "BrushGlass$Reader", name := "isDigit", desc := "(I)Z" } : Jvm.MethodName)) ∈ lw_all := lw_g (lw_at lw_m3 206 rfl) rfl
theorem q816 : (Jvm.Cond.code ({ cls := "BrushGlass$Reader", name := "isDigit", desc := "(I)Z" } : Jvm.MethodName) prog_16_method_5_code (1 : Nat) (Option.some Jvm.ClassFile.FieldType.boolean)) ∈ lw_all := lw_g (lw_at lw_m3 207 rfl) rfl
theorem q817 : (Jvm.Cond.methodLink "BrushGlass$Reader" (133 : Nat) ({ cls := "BrushGlass$Reader", name := "line", desc := "()V" } : Jvm.MethodName)) ∈ lw_all := lw_g (lw_at lw_m3 208 rfl) rfl
theorem q818 : (Jvm.Cond.privateMethod ({ cls := "BrushGlass$Reader", name := "line", desc := "()V" } : Jvm.MethodName)) ∈ lw_tbl := lw_at lw_m3 209 rfl
theorem q819 : (Jvm.Cond.instanceMethod ({ cls := "BrushGlass$Reader", name := "line", desc := "()V" } : Jvm.MethodName)) ∈ lw_all := lw_g (lw_at lw_m3 210 rfl) rfl
theorem q820 : (Jvm.Cond.code ({ cls := "BrushGlass$Reader", name := "line", desc := "()V" } : Jvm.MethodName) prog_16_method_19_code (3 : Nat) (Option.none : Option Jvm.ClassFile.FieldType)) ∈ lw_all := lw_g (lw_at lw_m3 211 rfl) rfl
theorem q821 : (Jvm.Cond.methodLink "BrushGlass$Reader" (82 : Nat) ({ cls := "BrushGlass$Reader", name := "fail", desc := "(I)LBrushGlass$Refused;" } : Jvm.MethodName)) ∈ lw_all := lw_g (lw_at lw_m3 212 rfl) rfl
theorem q822 : (Jvm.Cond.privateMethod ({ cls := "BrushGlass$Reader", name := "fail", desc := "(I)LBrushGlass$Refused;" } : Jvm.MethodName)) ∈ lw_tbl := lw_at lw_m3 213 rfl
theorem q823 : (Jvm.Cond.instanceMethod ({ cls := "BrushGlass$Reader", name := "fail", desc := "(I)LBrushGlass$Refused;" } : Jvm.MethodName)) ∈ lw_all := lw_g (lw_at lw_m3 214 rfl) rfl
theorem q824 : (Jvm.Cond.code ({ cls := "BrushGlass$Reader", name := "fail", desc := "(I)LBrushGlass$Refused;" } : Jvm.MethodName) prog_16_method_2_code (2 : Nat) (Option.some (Jvm.ClassFile.FieldType.object "BrushGlass$Refused"))) ∈ lw_all := lw_g (lw_at lw_m3 215 rfl) rfl
theorem q825 : (Jvm.Cond.methodLink "BrushGlass$Reader" (30 : Nat) ({ cls := "BrushGlass$Refused", name := "at", desc := "(II)LBrushGlass$Refused;" } : Jvm.MethodName)) ∈ lw_all := lw_g (lw_at lw_m3 216 rfl) rfl
theorem q829 : (Jvm.Cond.methodLink "BrushGlass$Reader" (86 : Nat) ({ cls := "java/lang/String", name := "hashCode", desc := "()I" } : Jvm.MethodName)) ∈ lw_all := lw_g (lw_at lw_m3 220 rfl) rfl
theorem q882 : (Jvm.Cond.stringRef "BrushGlass$Reader" (90 : Nat) "glass") ∈ lw_tbl := lw_at lw_m4 33 rfl
theorem q883 : (Jvm.Cond.methodLink "BrushGlass$Reader" (71 : Nat) ({ cls := "java/lang/String", name := "equals", desc := "(Ljava/lang/Object;)Z" } : Jvm.MethodName)) ∈ lw_all := lw_g (lw_at lw_m4 34 rfl) rfl
theorem q891 : (Jvm.Cond.stringRef "BrushGlass$Reader" (92 : Nat) "person") ∈ lw_tbl := lw_at lw_m4 42 rfl
theorem q892 : (Jvm.Cond.stringRef "BrushGlass$Reader" (94 : Nat) "stay") ∈ lw_tbl := lw_at lw_m4 43 rfl
theorem q893 : (Jvm.Cond.stringRef "BrushGlass$Reader" (96 : Nat) "moves") ∈ lw_tbl := lw_at lw_m4 44 rfl
theorem q894 : (Jvm.Cond.stringRef "BrushGlass$Reader" (98 : Nat) "seen") ∈ lw_tbl := lw_at lw_m4 45 rfl
theorem q895 : (Jvm.Cond.stringRef "BrushGlass$Reader" (100 : Nat) "says") ∈ lw_tbl := lw_at lw_m4 46 rfl
theorem q896 : (Jvm.Cond.methodLink "BrushGlass$Reader" (139 : Nat) ({ cls := "BrushGlass$Reader", name := "glassLine", desc := "()V" } : Jvm.MethodName)) ∈ lw_all := lw_g (lw_at lw_m4 47 rfl) rfl
theorem q897 : (Jvm.Cond.privateMethod ({ cls := "BrushGlass$Reader", name := "glassLine", desc := "()V" } : Jvm.MethodName)) ∈ lw_tbl := lw_at lw_m4 48 rfl
theorem q898 : (Jvm.Cond.instanceMethod ({ cls := "BrushGlass$Reader", name := "glassLine", desc := "()V" } : Jvm.MethodName)) ∈ lw_all := lw_g (lw_at lw_m4 49 rfl) rfl
theorem q899 : (Jvm.Cond.code ({ cls := "BrushGlass$Reader", name := "glassLine", desc := "()V" } : Jvm.MethodName) prog_16_method_20_code (2 : Nat) (Option.none : Option Jvm.ClassFile.FieldType)) ∈ lw_all := lw_g (lw_at lw_m4 50 rfl) rfl
theorem q900 : (Jvm.Cond.stringRef "BrushGlass$Reader" (153 : Nat) "days") ∈ lw_tbl := lw_at lw_m4 51 rfl
theorem q901 : (Jvm.Cond.methodLink "BrushGlass$Reader" (154 : Nat) ({ cls := "BrushGlass$Reader", name := "after", desc := "(Ljava/lang/String;II)I" } : Jvm.MethodName)) ∈ lw_all := lw_g (lw_at lw_m4 52 rfl) rfl
theorem q902 : (Jvm.Cond.privateMethod ({ cls := "BrushGlass$Reader", name := "after", desc := "(Ljava/lang/String;II)I" } : Jvm.MethodName)) ∈ lw_tbl := lw_at lw_m4 53 rfl
theorem q903 : (Jvm.Cond.instanceMethod ({ cls := "BrushGlass$Reader", name := "after", desc := "(Ljava/lang/String;II)I" } : Jvm.MethodName)) ∈ lw_all := lw_g (lw_at lw_m4 54 rfl) rfl
theorem q904 : (Jvm.Cond.code ({ cls := "BrushGlass$Reader", name := "after", desc := "(Ljava/lang/String;II)I" } : Jvm.MethodName) prog_16_method_15_code (4 : Nat) (Option.some Jvm.ClassFile.FieldType.int)) ∈ lw_all := lw_g (lw_at lw_m4 55 rfl) rfl
theorem q905 : (Jvm.Cond.methodLink "BrushGlass$Reader" (122 : Nat) ({ cls := "BrushGlass$Reader", name := "must", desc := "(Ljava/lang/String;)V" } : Jvm.MethodName)) ∈ lw_all := lw_g (lw_at lw_m4 56 rfl) rfl
theorem q906 : (Jvm.Cond.privateMethod ({ cls := "BrushGlass$Reader", name := "must", desc := "(Ljava/lang/String;)V" } : Jvm.MethodName)) ∈ lw_tbl := lw_at lw_m4 57 rfl
theorem q907 : (Jvm.Cond.instanceMethod ({ cls := "BrushGlass$Reader", name := "must", desc := "(Ljava/lang/String;)V" } : Jvm.MethodName)) ∈ lw_all := lw_g (lw_at lw_m4 58 rfl) rfl
theorem q908 : (Jvm.Cond.code ({ cls := "BrushGlass$Reader", name := "must", desc := "(Ljava/lang/String;)V" } : Jvm.MethodName) prog_16_method_8_code (2 : Nat) (Option.none : Option Jvm.ClassFile.FieldType)) ∈ lw_all := lw_g (lw_at lw_m4 59 rfl) rfl
theorem q909 : (Jvm.Cond.methodLink "BrushGlass$Reader" (78 : Nat) ({ cls := "BrushGlass$Reader", name := "takes", desc := "(Ljava/lang/String;)Z" } : Jvm.MethodName)) ∈ lw_all := lw_g (lw_at lw_m4 60 rfl) rfl
theorem q910 : (Jvm.Cond.privateMethod ({ cls := "BrushGlass$Reader", name := "takes", desc := "(Ljava/lang/String;)Z" } : Jvm.MethodName)) ∈ lw_tbl := lw_at lw_m4 61 rfl
theorem q911 : (Jvm.Cond.instanceMethod ({ cls := "BrushGlass$Reader", name := "takes", desc := "(Ljava/lang/String;)Z" } : Jvm.MethodName)) ∈ lw_all := lw_g (lw_at lw_m4 62 rfl) rfl
theorem q912 : (Jvm.Cond.code ({ cls := "BrushGlass$Reader", name := "takes", desc := "(Ljava/lang/String;)Z" } : Jvm.MethodName) prog_16_method_7_code (2 : Nat) (Option.some Jvm.ClassFile.FieldType.boolean)) ∈ lw_all := lw_g (lw_at lw_m4 63 rfl) rfl
theorem q913 : (Jvm.Cond.methodLink "BrushGlass$Reader" (126 : Nat) ({ cls := "BrushGlass$Reader", name := "number", desc := "(II)I" } : Jvm.MethodName)) ∈ lw_all := lw_g (lw_at lw_m4 64 rfl) rfl
theorem q914 : (Jvm.Cond.privateMethod ({ cls := "BrushGlass$Reader", name := "number", desc := "(II)I" } : Jvm.MethodName)) ∈ lw_tbl := lw_at lw_m4 65 rfl
theorem q915 : (Jvm.Cond.instanceMethod ({ cls := "BrushGlass$Reader", name := "number", desc := "(II)I" } : Jvm.MethodName)) ∈ lw_all := lw_g (lw_at lw_m4 66 rfl) rfl
theorem q916 : (Jvm.Cond.code ({ cls := "BrushGlass$Reader", name := "number", desc := "(II)I" } : Jvm.MethodName) prog_16_method_14_code (4 : Nat) (Option.some Jvm.ClassFile.FieldType.int)) ∈ lw_all := lw_g (lw_at lw_m4 67 rfl) rfl
theorem q917 : (Jvm.Cond.methodLink "BrushGlass$Reader" (118 : Nat) ({ cls := "BrushGlass$Reader", name := "numberHere", desc := "(II)I" } : Jvm.MethodName)) ∈ lw_all := lw_g (lw_at lw_m4 68 rfl) rfl
theorem q918 : (Jvm.Cond.privateMethod ({ cls := "BrushGlass$Reader", name := "numberHere", desc := "(II)I" } : Jvm.MethodName)) ∈ lw_tbl := lw_at lw_m4 69 rfl
theorem q919 : (Jvm.Cond.instanceMethod ({ cls := "BrushGlass$Reader", name := "numberHere", desc := "(II)I" } : Jvm.MethodName)) ∈ lw_all := lw_g (lw_at lw_m4 70 rfl) rfl
theorem q920 : (Jvm.Cond.code ({ cls := "BrushGlass$Reader", name := "numberHere", desc := "(II)I" } : Jvm.MethodName) prog_16_method_13_code (3 : Nat) (Option.some Jvm.ClassFile.FieldType.int)) ∈ lw_all := lw_g (lw_at lw_m4 71 rfl) rfl
theorem q921 : (Jvm.Cond.stringRef "BrushGlass$Reader" (158 : Nat) "places") ∈ lw_tbl := lw_at lw_m4 72 rfl
theorem q922 : (Jvm.Cond.stringRef "BrushGlass$Reader" (162 : Nat) "colours") ∈ lw_tbl := lw_at lw_m4 73 rfl
theorem q923 : (Jvm.Cond.stringRef "BrushGlass$Reader" (166 : Nat) "reach") ∈ lw_tbl := lw_at lw_m4 74 rfl
theorem q924 : (Jvm.Cond.methodLink "BrushGlass$Reader" (142 : Nat) ({ cls := "BrushGlass$Reader", name := "personLine", desc := "()V" } : Jvm.MethodName)) ∈ lw_all := lw_g (lw_at lw_m4 75 rfl) rfl
theorem q925 : (Jvm.Cond.privateMethod ({ cls := "BrushGlass$Reader", name := "personLine", desc := "()V" } : Jvm.MethodName)) ∈ lw_tbl := lw_at lw_m4 76 rfl
theorem q926 : (Jvm.Cond.instanceMethod ({ cls := "BrushGlass$Reader", name := "personLine", desc := "()V" } : Jvm.MethodName)) ∈ lw_all := lw_g (lw_at lw_m4 77 rfl) rfl
theorem q927 : (Jvm.Cond.code ({ cls := "BrushGlass$Reader", name := "personLine", desc := "()V" } : Jvm.MethodName) prog_16_method_25_code (2 : Nat) (Option.none : Option Jvm.ClassFile.FieldType)) ∈ lw_all := lw_g (lw_at lw_m4 78 rfl) rfl
theorem q928 : (Jvm.Cond.methodLink "BrushGlass$Reader" (207 : Nat) ({ cls := "BrushGlass$Reader", name := "begins", desc := "(Z)V" } : Jvm.MethodName)) ∈ lw_all := lw_g (lw_at lw_m4 79 rfl) rfl
theorem q929 : (Jvm.Cond.privateMethod ({ cls := "BrushGlass$Reader", name := "begins", desc := "(Z)V" } : Jvm.MethodName)) ∈ lw_tbl := lw_at lw_m4 80 rfl
theorem q930 : (Jvm.Cond.instanceMethod ({ cls := "BrushGlass$Reader", name := "begins", desc := "(Z)V" } : Jvm.MethodName)) ∈ lw_all := lw_g (lw_at lw_m4 81 rfl) rfl
theorem q931 : (Jvm.Cond.code ({ cls := "BrushGlass$Reader", name := "begins", desc := "(Z)V" } : Jvm.MethodName) prog_16_method_17_code (2 : Nat) (Option.none : Option Jvm.ClassFile.FieldType)) ∈ lw_all := lw_g (lw_at lw_m4 82 rfl) rfl
theorem q932 : (Jvm.Cond.classLink "BrushGlass$Reader" (192 : Nat) "BrushGlass$Person") ∈ lw_all := lw_g (lw_at lw_m4 83 rfl) rfl
theorem q934 : (Jvm.Cond.methodLink "BrushGlass$Reader" (211 : Nat) ({ cls := "BrushGlass$Reader", name := "newName", desc := "()Ljava/lang/String;" } : Jvm.MethodName)) ∈ lw_all := lw_g (lw_at lw_m4 85 rfl) rfl
theorem q935 : (Jvm.Cond.privateMethod ({ cls := "BrushGlass$Reader", name := "newName", desc := "()Ljava/lang/String;" } : Jvm.MethodName)) ∈ lw_tbl := lw_at lw_m4 86 rfl
theorem q936 : (Jvm.Cond.instanceMethod ({ cls := "BrushGlass$Reader", name := "newName", desc := "()Ljava/lang/String;" } : Jvm.MethodName)) ∈ lw_all := lw_g (lw_at lw_m4 87 rfl) rfl
theorem q937 : (Jvm.Cond.code ({ cls := "BrushGlass$Reader", name := "newName", desc := "()Ljava/lang/String;" } : Jvm.MethodName) prog_16_method_10_code (2 : Nat) (Option.some (Jvm.ClassFile.FieldType.object "java/lang/String"))) ∈ lw_all := lw_g (lw_at lw_m4 88 rfl) rfl
theorem q938 : (Jvm.Cond.methodLink "BrushGlass$Reader" (102 : Nat) ({ cls := "BrushGlass$Reader", name := "mustName", desc := "()V" } : Jvm.MethodName)) ∈ lw_all := lw_g (lw_at lw_m4 89 rfl) rfl
theorem q939 : (Jvm.Cond.privateMethod ({ cls := "BrushGlass$Reader", name := "mustName", desc := "()V" } : Jvm.MethodName)) ∈ lw_tbl := lw_at lw_m4 90 rfl
theorem q940 : (Jvm.Cond.instanceMethod ({ cls := "BrushGlass$Reader", name := "mustName", desc := "()V" } : Jvm.MethodName)) ∈ lw_all := lw_g (lw_at lw_m4 91 rfl) rfl
theorem q941 : (Jvm.Cond.code ({ cls := "BrushGlass$Reader", name := "mustName", desc := "()V" } : Jvm.MethodName) prog_16_method_9_code (3 : Nat) (Option.none : Option Jvm.ClassFile.FieldType)) ∈ lw_all := lw_g (lw_at lw_m4 92 rfl) rfl
theorem q942 : (Jvm.Cond.methodLink "BrushGlass$Reader" (108 : Nat) ({ cls := "BrushGlass$Glass", name := "find", desc := "(Ljava/lang/String;)LBrushGlass$Person;" } : Jvm.MethodName)) ∈ lw_all := lw_g (lw_at lw_m4 93 rfl) rfl
theorem q947 : (Jvm.Cond.methodLink "BrushGlass$Reader" (215 : Nat) ({ cls := "BrushGlass$Person", name := "<init>", desc := "(Ljava/lang/String;I)V" } : Jvm.MethodName)) ∈ lw_all := lw_g (lw_at lw_m4 98 rfl) rfl
theorem q955 : (Jvm.Cond.fieldLink "BrushGlass$Reader" (303 : Nat) "BrushGlass$Person" "number" "I") ∈ lw_all := lw_g (lw_at lw_m4 106 rfl) rfl
theorem q961 : (Jvm.Cond.fieldLink "BrushGlass$Reader" (196 : Nat) "BrushGlass$Person" "order" "[I") ∈ lw_all := lw_g (lw_at lw_m4 112 rfl) rfl
theorem q964 : (Jvm.Cond.fieldLink "BrushGlass$Reader" (262 : Nat) "BrushGlass$Person" "begins" "[I") ∈ lw_all := lw_g (lw_at lw_m4 115 rfl) rfl
theorem q967 : (Jvm.Cond.fieldLink "BrushGlass$Reader" (257 : Nat) "BrushGlass$Person" "ends" "[I") ∈ lw_all := lw_g (lw_at lw_m4 118 rfl) rfl
theorem q972 : (Jvm.Cond.fieldLink "BrushGlass$Reader" (200 : Nat) "BrushGlass$Person" "likes" "I") ∈ lw_all := lw_g (lw_at lw_m4 123 rfl) rfl
theorem q975 : (Jvm.Cond.fieldLink "BrushGlass$Reader" (254 : Nat) "BrushGlass$Person" "stays" "I") ∈ lw_all := lw_g (lw_at lw_m4 126 rfl) rfl
theorem q977 : (Jvm.Cond.fieldLink "BrushGlass$Reader" (221 : Nat) "BrushGlass$Person" "kind" "I") ∈ lw_all := lw_g (lw_at lw_m4 128 rfl) rfl
theorem q979 : (Jvm.Cond.fieldLink "BrushGlass$Reader" (228 : Nat) "BrushGlass$Person" "habit" "I") ∈ lw_all := lw_g (lw_at lw_m4 130 rfl) rfl
theorem q981 : (Jvm.Cond.fieldLink "BrushGlass$Reader" (236 : Nat) "BrushGlass$Person" "keeps" "I") ∈ lw_all := lw_g (lw_at lw_m4 132 rfl) rfl
theorem q984 : (Jvm.Cond.fieldLink "BrushGlass$Reader" (240 : Nat) "BrushGlass$Person" "wears" "I") ∈ lw_all := lw_g (lw_at lw_m4 135 rfl) rfl
theorem q987 : (Jvm.Cond.fieldLink "BrushGlass$Reader" (247 : Nat) "BrushGlass$Person" "takes" "Z") ∈ lw_all := lw_g (lw_at lw_m4 138 rfl) rfl
theorem q1013 : (Jvm.Cond.methodLink "BrushGlass$Reader" (218 : Nat) ({ cls := "BrushGlass$Reader", name := "kind", desc := "()I" } : Jvm.MethodName)) ∈ lw_all := lw_g (lw_at lw_m4 164 rfl) rfl
theorem q1014 : (Jvm.Cond.privateMethod ({ cls := "BrushGlass$Reader", name := "kind", desc := "()I" } : Jvm.MethodName)) ∈ lw_tbl := lw_at lw_m4 165 rfl
theorem q1015 : (Jvm.Cond.instanceMethod ({ cls := "BrushGlass$Reader", name := "kind", desc := "()I" } : Jvm.MethodName)) ∈ lw_all := lw_g (lw_at lw_m4 166 rfl) rfl
theorem q1016 : (Jvm.Cond.code ({ cls := "BrushGlass$Reader", name := "kind", desc := "()I" } : Jvm.MethodName) prog_16_method_21_code (1 : Nat) (Option.some Jvm.ClassFile.FieldType.int)) ∈ lw_all := lw_g (lw_at lw_m4 167 rfl) rfl
theorem q1017 : (Jvm.Cond.stringRef "BrushGlass$Reader" (170 : Nat) "sure") ∈ lw_tbl := lw_at lw_m4 168 rfl
theorem q1018 : (Jvm.Cond.stringRef "BrushGlass$Reader" (172 : Nat) "colour") ∈ lw_tbl := lw_at lw_m4 169 rfl
theorem q1019 : (Jvm.Cond.stringRef "BrushGlass$Reader" (174 : Nat) "place") ∈ lw_tbl := lw_at lw_m4 170 rfl
theorem q1020 : (Jvm.Cond.stringRef "BrushGlass$Reader" (176 : Nat) "messy") ∈ lw_tbl := lw_at lw_m4 171 rfl
theorem q1021 : (Jvm.Cond.stringRef "BrushGlass$Reader" (223 : Nat) "buys") ∈ lw_tbl := lw_at lw_m4 172 rfl
theorem q1022 : (Jvm.Cond.methodLink "BrushGlass$Reader" (225 : Nat) ({ cls := "BrushGlass$Reader", name := "habit", desc := "()I" } : Jvm.MethodName)) ∈ lw_all := lw_g (lw_at lw_m4 173 rfl) rfl
theorem q1023 : (Jvm.Cond.privateMethod ({ cls := "BrushGlass$Reader", name := "habit", desc := "()I" } : Jvm.MethodName)) ∈ lw_tbl := lw_at lw_m4 174 rfl
theorem q1024 : (Jvm.Cond.instanceMethod ({ cls := "BrushGlass$Reader", name := "habit", desc := "()I" } : Jvm.MethodName)) ∈ lw_all := lw_g (lw_at lw_m4 175 rfl) rfl
theorem q1025 : (Jvm.Cond.code ({ cls := "BrushGlass$Reader", name := "habit", desc := "()I" } : Jvm.MethodName) prog_16_method_22_code (1 : Nat) (Option.some Jvm.ClassFile.FieldType.int)) ∈ lw_all := lw_g (lw_at lw_m4 176 rfl) rfl
theorem q1026 : (Jvm.Cond.stringRef "BrushGlass$Reader" (178 : Nat) "first") ∈ lw_tbl := lw_at lw_m4 177 rfl
theorem q1027 : (Jvm.Cond.stringRef "BrushGlass$Reader" (180 : Nat) "unlike") ∈ lw_tbl := lw_at lw_m4 178 rfl
theorem q1028 : (Jvm.Cond.stringRef "BrushGlass$Reader" (182 : Nat) "rare") ∈ lw_tbl := lw_at lw_m4 179 rfl
theorem q1029 : (Jvm.Cond.stringRef "BrushGlass$Reader" (230 : Nat) "likes") ∈ lw_tbl := lw_at lw_m4 180 rfl
theorem q1030 : (Jvm.Cond.methodLink "BrushGlass$Reader" (231 : Nat) ({ cls := "BrushGlass$Reader", name := "order", desc := "(LBrushGlass$Person;)V" } : Jvm.MethodName)) ∈ lw_all := lw_g (lw_at lw_m4 181 rfl) rfl
theorem q1031 : (Jvm.Cond.privateMethod ({ cls := "BrushGlass$Reader", name := "order", desc := "(LBrushGlass$Person;)V" } : Jvm.MethodName)) ∈ lw_tbl := lw_at lw_m4 182 rfl
theorem q1032 : (Jvm.Cond.instanceMethod ({ cls := "BrushGlass$Reader", name := "order", desc := "(LBrushGlass$Person;)V" } : Jvm.MethodName)) ∈ lw_all := lw_g (lw_at lw_m4 183 rfl) rfl
theorem q1033 : (Jvm.Cond.code ({ cls := "BrushGlass$Reader", name := "order", desc := "(LBrushGlass$Person;)V" } : Jvm.MethodName) prog_16_method_23_code (4 : Nat) (Option.none : Option Jvm.ClassFile.FieldType)) ∈ lw_all := lw_g (lw_at lw_m4 184 rfl) rfl
theorem q1034 : (Jvm.Cond.methodLink "BrushGlass$Reader" (184 : Nat) ({ cls := "java/lang/String", name := "length", desc := "()I" } : Jvm.MethodName)) ∈ lw_all := lw_g (lw_at lw_m4 185 rfl) rfl
theorem q1042 : (Jvm.Cond.methodLink "BrushGlass$Reader" (187 : Nat) ({ cls := "java/lang/String", name := "charAt", desc := "(I)C" } : Jvm.MethodName)) ∈ lw_all := lw_g (lw_at lw_m4 193 rfl) rfl
theorem q1062 : (Jvm.Cond.methodLink "BrushGlass$Reader" (191 : Nat) ({ cls := "BrushGlass$Person", name := "doesLike", desc := "(I)Z" } : Jvm.MethodName)) ∈ lw_all := lw_g (lw_at lw_m4 213 rfl) rfl
theorem q1066 : (Jvm.Cond.stringRef "BrushGlass$Reader" (234 : Nat) "keeps") ∈ lw_tbl := lw_at lw_m4 217 rfl
theorem q1067 : (Jvm.Cond.stringRef "BrushGlass$Reader" (238 : Nat) "wears") ∈ lw_tbl := lw_at lw_m4 218 rfl
theorem q1068 : (Jvm.Cond.stringRef "BrushGlass$Reader" (242 : Nat) "takes") ∈ lw_tbl := lw_at lw_m4 219 rfl
theorem q1069 : (Jvm.Cond.methodLink "BrushGlass$Reader" (243 : Nat) ({ cls := "BrushGlass$Reader", name := "answer", desc := "()Z" } : Jvm.MethodName)) ∈ lw_all := lw_g (lw_at lw_m4 220 rfl) rfl
theorem q1070 : (Jvm.Cond.privateMethod ({ cls := "BrushGlass$Reader", name := "answer", desc := "()Z" } : Jvm.MethodName)) ∈ lw_tbl := lw_at lw_m4 221 rfl
theorem q1071 : (Jvm.Cond.instanceMethod ({ cls := "BrushGlass$Reader", name := "answer", desc := "()Z" } : Jvm.MethodName)) ∈ lw_all := lw_g (lw_at lw_m4 222 rfl) rfl
theorem q1072 : (Jvm.Cond.code ({ cls := "BrushGlass$Reader", name := "answer", desc := "()Z" } : Jvm.MethodName) prog_16_method_24_code (1 : Nat) (Option.some Jvm.ClassFile.FieldType.boolean)) ∈ lw_all := lw_g (lw_at lw_m4 223 rfl) rfl
theorem q1073 : (Jvm.Cond.stringRef "BrushGlass$Reader" (203 : Nat) "yes") ∈ lw_tbl := lw_at lw_m4 224 rfl
theorem q1074 : (Jvm.Cond.stringRef "BrushGlass$Reader" (205 : Nat) "no") ∈ lw_tbl := lw_at lw_m4 225 rfl
theorem q1075 : (Jvm.Cond.methodLink "BrushGlass$Reader" (145 : Nat) ({ cls := "BrushGlass$Reader", name := "stay", desc := "()V" } : Jvm.MethodName)) ∈ lw_all := lw_g (lw_at lw_m4 226 rfl) rfl
theorem q1076 : (Jvm.Cond.privateMethod ({ cls := "BrushGlass$Reader", name := "stay", desc := "()V" } : Jvm.MethodName)) ∈ lw_tbl := lw_at lw_m4 227 rfl
theorem q1077 : (Jvm.Cond.instanceMethod ({ cls := "BrushGlass$Reader", name := "stay", desc := "()V" } : Jvm.MethodName)) ∈ lw_all := lw_g (lw_at lw_m4 228 rfl) rfl
theorem q1078 : (Jvm.Cond.code ({ cls := "BrushGlass$Reader", name := "stay", desc := "()V" } : Jvm.MethodName) prog_16_method_26_code (5 : Nat) (Option.none : Option Jvm.ClassFile.FieldType)) ∈ lw_all := lw_g (lw_at lw_m4 229 rfl) rfl
theorem q1079 : (Jvm.Cond.methodLink "BrushGlass$Reader" (114 : Nat) ({ cls := "BrushGlass$Reader", name := "personHere", desc := "()LBrushGlass$Person;" } : Jvm.MethodName)) ∈ lw_all := lw_g (lw_at lw_m4 230 rfl) rfl
theorem q1080 : (Jvm.Cond.privateMethod ({ cls := "BrushGlass$Reader", name := "personHere", desc := "()LBrushGlass$Person;" } : Jvm.MethodName)) ∈ lw_tbl := lw_at lw_m4 231 rfl
theorem q1081 : (Jvm.Cond.instanceMethod ({ cls := "BrushGlass$Reader", name := "personHere", desc := "()LBrushGlass$Person;" } : Jvm.MethodName)) ∈ lw_all := lw_g (lw_at lw_m4 232 rfl) rfl
theorem q1082 : (Jvm.Cond.code ({ cls := "BrushGlass$Reader", name := "personHere", desc := "()LBrushGlass$Person;" } : Jvm.MethodName) prog_16_method_11_code (2 : Nat) (Option.some (Jvm.ClassFile.FieldType.object "BrushGlass$Person"))) ∈ lw_all := lw_g (lw_at lw_m4 233 rfl) rfl
theorem q1083 : (Jvm.Cond.stringRef "BrushGlass$Reader" (260 : Nat) "to") ∈ lw_tbl := lw_at lw_m4 234 rfl
theorem q1084 : (Jvm.Cond.methodLink "BrushGlass$Reader" (147 : Nat) ({ cls := "BrushGlass$Reader", name := "moves", desc := "()V" } : Jvm.MethodName)) ∈ lw_all := lw_g (lw_at lw_m4 235 rfl) rfl
theorem q1085 : (Jvm.Cond.privateMethod ({ cls := "BrushGlass$Reader", name := "moves", desc := "()V" } : Jvm.MethodName)) ∈ lw_tbl := lw_at lw_m4 236 rfl
theorem q1086 : (Jvm.Cond.instanceMethod ({ cls := "BrushGlass$Reader", name := "moves", desc := "()V" } : Jvm.MethodName)) ∈ lw_all := lw_g (lw_at lw_m4 237 rfl) rfl
theorem q1087 : (Jvm.Cond.code ({ cls := "BrushGlass$Reader", name := "moves", desc := "()V" } : Jvm.MethodName) prog_16_method_27_code (5 : Nat) (Option.none : Option Jvm.ClassFile.FieldType)) ∈ lw_all := lw_g (lw_at lw_m4 238 rfl) rfl
theorem q1088 : (Jvm.Cond.classLink "BrushGlass$Reader" (267 : Nat) "BrushGlass$Move") ∈ lw_all := lw_g (lw_at lw_m4 239 rfl) rfl
theorem q1089 : (Jvm.Cond.methodLinkNest "BrushGlass$Reader" (269 : Nat) ({ cls := "BrushGlass$Move", name := "<init>", desc := "()V" } : Jvm.MethodName) "BrushGlass") ∈ lw_tbl := lw_at lw_m5 0 rfl
theorem q1090 : (Jvm.Cond.methodLink "BrushGlass$Reader" (270 : Nat) ({ cls := "BrushGlass$Reader", name := "day", desc := "()I" } : Jvm.MethodName)) ∈ lw_all := lw_g (lw_at lw_m5 1 rfl) rfl
theorem q1091 : (Jvm.Cond.privateMethod ({ cls := "BrushGlass$Reader", name := "day", desc := "()I" } : Jvm.MethodName)) ∈ lw_tbl := lw_at lw_m5 2 rfl
theorem q1092 : (Jvm.Cond.instanceMethod ({ cls := "BrushGlass$Reader", name := "day", desc := "()I" } : Jvm.MethodName)) ∈ lw_all := lw_g (lw_at lw_m5 3 rfl) rfl
theorem q1093 : (Jvm.Cond.code ({ cls := "BrushGlass$Reader", name := "day", desc := "()I" } : Jvm.MethodName) prog_16_method_16_code (1 : Nat) (Option.some Jvm.ClassFile.FieldType.int)) ∈ lw_all := lw_g (lw_at lw_m5 4 rfl) rfl
theorem q1094 : (Jvm.Cond.methodLink "BrushGlass$Reader" (273 : Nat) ({ cls := "BrushGlass$Move", name := "be", desc := "(III)V" } : Jvm.MethodName)) ∈ lw_all := lw_g (lw_at lw_m5 5 rfl) rfl
theorem q1098 : (Jvm.Cond.methodLink "BrushGlass$Reader" (149 : Nat) ({ cls := "BrushGlass$Reader", name := "seen", desc := "()V" } : Jvm.MethodName)) ∈ lw_all := lw_g (lw_at lw_m5 9 rfl) rfl
theorem q1099 : (Jvm.Cond.privateMethod ({ cls := "BrushGlass$Reader", name := "seen", desc := "()V" } : Jvm.MethodName)) ∈ lw_tbl := lw_at lw_m5 10 rfl
theorem q1100 : (Jvm.Cond.instanceMethod ({ cls := "BrushGlass$Reader", name := "seen", desc := "()V" } : Jvm.MethodName)) ∈ lw_all := lw_g (lw_at lw_m5 11 rfl) rfl
theorem q1101 : (Jvm.Cond.code ({ cls := "BrushGlass$Reader", name := "seen", desc := "()V" } : Jvm.MethodName) prog_16_method_28_code (4 : Nat) (Option.none : Option Jvm.ClassFile.FieldType)) ∈ lw_all := lw_g (lw_at lw_m5 12 rfl) rfl
theorem q1102 : (Jvm.Cond.classLink "BrushGlass$Reader" (283 : Nat) "BrushGlass$Seeing") ∈ lw_all := lw_g (lw_at lw_m5 13 rfl) rfl
theorem q1104 : (Jvm.Cond.methodLinkNest "BrushGlass$Reader" (285 : Nat) ({ cls := "BrushGlass$Seeing", name := "<init>", desc := "()V" } : Jvm.MethodName) "BrushGlass") ∈ lw_tbl := lw_at lw_m5 15 rfl
theorem q1109 : (Jvm.Cond.fieldLink "BrushGlass$Reader" (288 : Nat) "BrushGlass$Seeing" "row" "[I") ∈ lw_all := lw_g (lw_at lw_m5 20 rfl) rfl
theorem q1111 : (Jvm.Cond.fieldLink "BrushGlass$Reader" (286 : Nat) "BrushGlass$Seeing" "day" "I") ∈ lw_all := lw_g (lw_at lw_m5 22 rfl) rfl
theorem q1118 : (Jvm.Cond.methodLink "BrushGlass$Reader" (151 : Nat) ({ cls := "BrushGlass$Reader", name := "says", desc := "()V" } : Jvm.MethodName)) ∈ lw_all := lw_g (lw_at lw_m5 29 rfl) rfl
theorem q1119 : (Jvm.Cond.privateMethod ({ cls := "BrushGlass$Reader", name := "says", desc := "()V" } : Jvm.MethodName)) ∈ lw_tbl := lw_at lw_m5 30 rfl
theorem q1120 : (Jvm.Cond.instanceMethod ({ cls := "BrushGlass$Reader", name := "says", desc := "()V" } : Jvm.MethodName)) ∈ lw_all := lw_g (lw_at lw_m5 31 rfl) rfl
theorem q1121 : (Jvm.Cond.code ({ cls := "BrushGlass$Reader", name := "says", desc := "()V" } : Jvm.MethodName) prog_16_method_29_code (2 : Nat) (Option.none : Option Jvm.ClassFile.FieldType)) ∈ lw_all := lw_g (lw_at lw_m5 32 rfl) rfl
theorem q1122 : (Jvm.Cond.classLink "BrushGlass$Reader" (298 : Nat) "BrushGlass$Saying") ∈ lw_all := lw_g (lw_at lw_m5 33 rfl) rfl
theorem q1124 : (Jvm.Cond.methodLinkNest "BrushGlass$Reader" (300 : Nat) ({ cls := "BrushGlass$Saying", name := "<init>", desc := "()V" } : Jvm.MethodName) "BrushGlass") ∈ lw_tbl := lw_at lw_m5 35 rfl
theorem q1128 : (Jvm.Cond.fieldLink "BrushGlass$Reader" (305 : Nat) "BrushGlass$Saying" "person" "I") ∈ lw_all := lw_g (lw_at lw_m5 39 rfl) rfl
theorem q1130 : (Jvm.Cond.fieldLink "BrushGlass$Reader" (307 : Nat) "BrushGlass$Saying" "day" "I") ∈ lw_all := lw_g (lw_at lw_m5 41 rfl) rfl
theorem q1132 : (Jvm.Cond.fieldLink "BrushGlass$Reader" (308 : Nat) "BrushGlass$Saying" "place" "I") ∈ lw_all := lw_g (lw_at lw_m5 43 rfl) rfl
theorem q1141 : (Jvm.Cond.methodLink "BrushGlass$Reader" (301 : Nat) ({ cls := "BrushGlass$Reader", name := "person", desc := "()LBrushGlass$Person;" } : Jvm.MethodName)) ∈ lw_all := lw_g (lw_at lw_m5 52 rfl) rfl
theorem q1142 : (Jvm.Cond.privateMethod ({ cls := "BrushGlass$Reader", name := "person", desc := "()LBrushGlass$Person;" } : Jvm.MethodName)) ∈ lw_tbl := lw_at lw_m5 53 rfl
theorem q1143 : (Jvm.Cond.instanceMethod ({ cls := "BrushGlass$Reader", name := "person", desc := "()LBrushGlass$Person;" } : Jvm.MethodName)) ∈ lw_all := lw_g (lw_at lw_m5 54 rfl) rfl
theorem q1144 : (Jvm.Cond.code ({ cls := "BrushGlass$Reader", name := "person", desc := "()LBrushGlass$Person;" } : Jvm.MethodName) prog_16_method_12_code (2 : Nat) (Option.some (Jvm.ClassFile.FieldType.object "BrushGlass$Person"))) ∈ lw_all := lw_g (lw_at lw_m5 55 rfl) rfl
theorem q2592 : (Jvm.Cond.castable "BrushGlass$Reader" "java/lang/Object") ∈ lw_tbl := lw_at lw_m11 63 rfl
theorem in_X2 : ∀ w ∈ wsX20, w ∈ lw_all := lw_in wsX20 [263, 265, 267, 269, 271, 273, 275, 277, 279, 281] (by decide +kernel) (by decide +kernel)

/-! BrushGlass$Refused -/
set_option maxRecDepth 100000
def RX3 : String := "BrushGlass$Refused"
def TX3 : u_T := fun k => match k with
  | 0 => ("java/lang/Throwable", "cause", "Ljava/lang/Throwable;", false)
  | 1 => ("java/lang/Throwable", "stackTrace", "[Ljava/lang/StackTraceElement;", false)
  | 2 => ("java/lang/Throwable", "suppressedExceptions", "Ljava/util/List;", false)
  | 3 => ("java/lang/Throwable", "detailMessage", "Ljava/lang/String;", false)
  | 4 => ("java/lang/Throwable", "backtrace", "Ljava/lang/Object;", false)
  | 5 => ("java/lang/Throwable", "depth", "I", false)
  | 6 => ("BrushGlass$Refused", "fault", "I", false)
  | _ => ("BrushGlass$Refused", "place", "I", false)
def tyX3 : Nat → FieldType := fun k => match k with
  | 0 => .object "java/lang/Throwable"
  | 1 => .array (.object "java/lang/StackTraceElement")
  | 2 => .object "java/util/List"
  | 3 => .object "java/lang/String"
  | 4 => .object "java/lang/Object"
  | 5 => .int
  | 6 => .int
  | _ => .int
abbrev wsX30 : List Cond := u_ws RX3 TX3 8
theorem nmX3 : ∀ a, a < 8 → ∀ b, b < 8 → a ≠ b → (TX3 a).2.1 ≠ (TX3 b).2.1 := by decide +kernel
theorem tyX3_ok : ∀ k, k < 8 → parseFieldDescriptor (TX3 k).2.2.1 = some (tyX3 k) := by decide +kernel
abbrev cX3_init : ByteArray := prog_17_method_1_code
def yX3_init : MethodName := ⟨RX3, "<init>", "()V"⟩
def dkwX3_init_0 : List UInt8 := [42, 1, 1, 3, 3, 183, 0, 3, 42, 2, 181, 0, 9, 177]
abbrev dktX3_init_0 : List UInt8 := dkwX3_init_0 ++ []
theorem dksX3_init_0 : cX3_init.data.toList.drop 0 = dktX3_init_0 := by decide +kernel
theorem dX3_init_0 : decode cX3_init 0 = .ok (.aload_n 0, 1) := dk_42 (dk_at dksX3_init_0 0 rfl rfl)
theorem dX3_init_1 : decode cX3_init 1 = .ok (.aconst_null, 1) := dk_1 (dk_at dksX3_init_0 1 rfl rfl)
theorem dX3_init_2 : decode cX3_init 2 = .ok (.aconst_null, 1) := dk_1 (dk_at dksX3_init_0 2 rfl rfl)
theorem dX3_init_3 : decode cX3_init 3 = .ok (.iconst 0, 1) := dk_3 (dk_at dksX3_init_0 3 rfl rfl)
theorem dX3_init_4 : decode cX3_init 4 = .ok (.iconst 0, 1) := dk_3 (dk_at dksX3_init_0 4 rfl rfl)
theorem dX3_init_5 : decode cX3_init 5 = .ok (.invokespecial 3, 3) := dk_183 0 3 (dk_at dksX3_init_0 5 rfl rfl)
theorem dX3_init_8 : decode cX3_init 8 = .ok (.aload_n 0, 1) := dk_42 (dk_at dksX3_init_0 8 rfl rfl)
theorem dX3_init_9 : decode cX3_init 9 = .ok (.iconst (-1), 1) := dk_2 (dk_at dksX3_init_0 9 rfl rfl)
theorem dX3_init_10 : decode cX3_init 10 = .ok (.putfield 9, 3) := dk_181 0 9 (dk_at dksX3_init_0 10 rfl rfl)
theorem dX3_init_13 : decode cX3_init 13 = .ok (.return_, 1) := dk_177 (dk_at dksX3_init_0 13 rfl rfl)
abbrev cX3_at : ByteArray := prog_17_method_2_code
def yX3_at : MethodName := ⟨RX3, "at", "(II)LBrushGlass$Refused;"⟩
def dkwX3_at_0 : List UInt8 := [42, 27, 181, 0, 15, 42, 28, 181, 0, 9, 42, 176]
abbrev dktX3_at_0 : List UInt8 := dkwX3_at_0 ++ []
theorem dksX3_at_0 : cX3_at.data.toList.drop 0 = dktX3_at_0 := by decide +kernel
theorem dX3_at_0 : decode cX3_at 0 = .ok (.aload_n 0, 1) := dk_42 (dk_at dksX3_at_0 0 rfl rfl)
theorem dX3_at_1 : decode cX3_at 1 = .ok (.iload_n 1, 1) := dk_27 (dk_at dksX3_at_0 1 rfl rfl)
theorem dX3_at_2 : decode cX3_at 2 = .ok (.putfield 15, 3) := dk_181 0 15 (dk_at dksX3_at_0 2 rfl rfl)
theorem dX3_at_5 : decode cX3_at 5 = .ok (.aload_n 0, 1) := dk_42 (dk_at dksX3_at_0 5 rfl rfl)
theorem dX3_at_6 : decode cX3_at 6 = .ok (.iload_n 2, 1) := dk_28 (dk_at dksX3_at_0 6 rfl rfl)
theorem dX3_at_7 : decode cX3_at 7 = .ok (.putfield 9, 3) := dk_181 0 9 (dk_at dksX3_at_0 7 rfl rfl)
theorem dX3_at_10 : decode cX3_at 10 = .ok (.aload_n 0, 1) := dk_42 (dk_at dksX3_at_0 10 rfl rfl)
theorem dX3_at_11 : decode cX3_at 11 = .ok (.areturn, 1) := dk_176 (dk_at dksX3_at_0 11 rfl rfl)
theorem q135 : (Jvm.Cond.initialized "BrushGlass$Refused") ∈ lw_all := lw_g (lw_at lw_m1 6 rfl) rfl
theorem q180 : (Jvm.Cond.instantiable "BrushGlass$Refused" (8 : Nat)) ∈ lw_all := lw_g (lw_at lw_m1 51 rfl) rfl
theorem q181 : (Jvm.Cond.castable "BrushGlass$Refused" "BrushGlass$Refused") ∈ lw_tbl := lw_at lw_m1 52 rfl
theorem q188 : (Jvm.Cond.selects "BrushGlass$Refused" ({ cls := "java/lang/Throwable", name := "fillInStackTrace", desc := "(I)Ljava/lang/Throwable;" } : Jvm.MethodName) ({ cls := "java/lang/Throwable", name := "fillInStackTrace", desc := "(I)Ljava/lang/Throwable;" } : Jvm.MethodName)) ∈ lw_all := lw_g (lw_at lw_m1 59 rfl) rfl
theorem q189 : (Jvm.Cond.selects "BrushGlass$Refused" ({ cls := "java/lang/Throwable", name := "fillInStackTrace", desc := "()Ljava/lang/Throwable;" } : Jvm.MethodName) ({ cls := "java/lang/Throwable", name := "fillInStackTrace", desc := "()Ljava/lang/Throwable;" } : Jvm.MethodName)) ∈ lw_all := lw_g (lw_at lw_m1 60 rfl) rfl
theorem q190 : (Jvm.Cond.lays "BrushGlass$Refused" "java/lang/Throwable" "cause" "Ljava/lang/Throwable;") ∈ lw_all := lw_g (lw_at lw_m1 61 rfl) rfl
theorem q192 : (Jvm.Cond.lays "BrushGlass$Refused" "java/lang/Throwable" "stackTrace" "[Ljava/lang/StackTraceElement;") ∈ lw_all := lw_g (lw_at lw_m1 63 rfl) rfl
theorem q194 : (Jvm.Cond.lays "BrushGlass$Refused" "java/lang/Throwable" "suppressedExceptions" "Ljava/util/List;") ∈ lw_all := lw_g (lw_at lw_m1 65 rfl) rfl
theorem q196 : (Jvm.Cond.lays "BrushGlass$Refused" "java/lang/Throwable" "detailMessage" "Ljava/lang/String;") ∈ lw_all := lw_g (lw_at lw_m1 67 rfl) rfl
theorem q198 : (Jvm.Cond.lays "BrushGlass$Refused" "java/lang/Throwable" "backtrace" "Ljava/lang/Object;") ∈ lw_all := lw_g (lw_at lw_m1 69 rfl) rfl
theorem q220 : (Jvm.Cond.instanceMethod ({ cls := "BrushGlass$Refused", name := "<init>", desc := "()V" } : Jvm.MethodName)) ∈ lw_all := lw_g (lw_at lw_m1 91 rfl) rfl
theorem q221 : (Jvm.Cond.code ({ cls := "BrushGlass$Refused", name := "<init>", desc := "()V" } : Jvm.MethodName) prog_17_method_1_code (1 : Nat) (Option.none : Option Jvm.ClassFile.FieldType)) ∈ lw_all := lw_g (lw_at lw_m1 92 rfl) rfl
theorem q222 : (Jvm.Cond.methodLink "BrushGlass$Refused" (3 : Nat) ({ cls := "java/lang/RuntimeException", name := "<init>", desc := "(Ljava/lang/String;Ljava/lang/Throwable;ZZ)V" } : Jvm.MethodName)) ∈ lw_all := lw_g (lw_at lw_m1 93 rfl) rfl
theorem q231 : (Jvm.Cond.fieldLink "BrushGlass$Refused" (15 : Nat) "BrushGlass$Refused" "fault" "I") ∈ lw_all := lw_g (lw_at lw_m1 102 rfl) rfl
theorem q233 : (Jvm.Cond.fieldLink "BrushGlass$Refused" (9 : Nat) "BrushGlass$Refused" "place" "I") ∈ lw_all := lw_g (lw_at lw_m1 104 rfl) rfl
theorem q240 : (Jvm.Cond.lays "BrushGlass$Refused" "BrushGlass$Refused" "fault" "I") ∈ lw_all := lw_g (lw_at lw_m1 111 rfl) rfl
theorem q241 : (Jvm.Cond.soleField "BrushGlass$Refused" "fault") ∈ lw_all := lw_g (lw_at lw_m1 112 rfl) rfl
theorem q242 : (Jvm.Cond.lays "BrushGlass$Refused" "BrushGlass$Refused" "place" "I") ∈ lw_all := lw_g (lw_at lw_m1 113 rfl) rfl
theorem q243 : (Jvm.Cond.soleField "BrushGlass$Refused" "place") ∈ lw_all := lw_g (lw_at lw_m1 114 rfl) rfl
theorem q248 : (Jvm.Cond.lays "BrushGlass$Refused" "java/lang/Throwable" "depth" "I") ∈ lw_all := lw_g (lw_at lw_m1 119 rfl) rfl
theorem q251 : (Jvm.Cond.superclass "BrushGlass$Refused" "java/lang/RuntimeException") ∈ lw_all := lw_g (lw_at lw_m1 122 rfl) rfl
theorem q826 : (Jvm.Cond.instanceMethod ({ cls := "BrushGlass$Refused", name := "at", desc := "(II)LBrushGlass$Refused;" } : Jvm.MethodName)) ∈ lw_all := lw_g (lw_at lw_m3 217 rfl) rfl
theorem q827 : (Jvm.Cond.selects "BrushGlass$Refused" ({ cls := "BrushGlass$Refused", name := "at", desc := "(II)LBrushGlass$Refused;" } : Jvm.MethodName) ({ cls := "BrushGlass$Refused", name := "at", desc := "(II)LBrushGlass$Refused;" } : Jvm.MethodName)) ∈ lw_all := lw_g (lw_at lw_m3 218 rfl) rfl
theorem q828 : (Jvm.Cond.code ({ cls := "BrushGlass$Refused", name := "at", desc := "(II)LBrushGlass$Refused;" } : Jvm.MethodName) prog_17_method_2_code (3 : Nat) (Option.some (Jvm.ClassFile.FieldType.object "BrushGlass$Refused"))) ∈ lw_all := lw_g (lw_at lw_m3 219 rfl) rfl
theorem q2593 : (Jvm.Cond.castable "BrushGlass$Refused" "java/lang/Object") ∈ lw_tbl := lw_at lw_m11 64 rfl
theorem in_X3 : ∀ w ∈ wsX30, w ∈ lw_all := lw_in wsX30 [190, 192, 194, 196, 198, 248, 240, 242] (by decide +kernel) (by decide +kernel)

/-! BrushGlass$Plan -/
set_option maxRecDepth 100000
def RX4 : String := "BrushGlass$Plan"
def TX4 : u_T := fun k => match k with
  | 0 => ("BrushGlass$Plan", "kinds", "[I", true)
  | 1 => ("BrushGlass$Plan", "habits", "[I", true)
  | 2 => ("BrushGlass$Plan", "keeps", "[I", true)
  | 3 => ("BrushGlass$Plan", "more", "[LBrushGlass$Move;", true)
  | 4 => ("BrushGlass$Plan", "many", "I", false)
  | _ => ("BrushGlass$Plan", "seed", "I", false)
def tyX4 : Nat → FieldType := fun k => match k with
  | 0 => .array .int
  | 1 => .array .int
  | 2 => .array .int
  | 3 => .array (.object "BrushGlass$Move")
  | 4 => .int
  | _ => .int
abbrev wsX40 : List Cond := u_ws RX4 TX4 6
theorem nmX4 : ∀ a, a < 6 → ∀ b, b < 6 → a ≠ b → (TX4 a).2.1 ≠ (TX4 b).2.1 := by decide +kernel
theorem tyX4_ok : ∀ k, k < 6 → parseFieldDescriptor (TX4 k).2.2.1 = some (tyX4 k) := by decide +kernel
abbrev cX4_init : ByteArray := prog_14_method_1_code
def yX4_init : MethodName := ⟨RX4, "<init>", "()V"⟩
def dkwX4_init_2 : List UInt8 := [180, 0, 23, 27, 187, 0, 21, 89, 183, 0, 27, 83, 132, 1, 1, 167, 255, 234, 177]
abbrev dktX4_init_2 : List UInt8 := dkwX4_init_2 ++ []
def dkwX4_init_1 : List UInt8 := [188, 10, 181, 0, 18, 42, 16, 12, 189, 0, 21, 181, 0, 23, 3, 60, 27, 16, 12, 162, 0, 22, 42]
abbrev dktX4_init_1 : List UInt8 := dkwX4_init_1 ++ dktX4_init_2
def dkwX4_init_0 : List UInt8 := [42, 183, 0, 3, 42, 16, 7, 188, 10, 181, 0, 9, 42, 16, 7, 188, 10, 181, 0, 15, 42, 16, 7]
abbrev dktX4_init_0 : List UInt8 := dkwX4_init_0 ++ dktX4_init_1
theorem dksX4_init_0 : cX4_init.data.toList.drop 0 = dktX4_init_0 := by decide +kernel
theorem dksX4_init_1 : cX4_init.data.toList.drop 23 = dktX4_init_1 := dk_seg dksX4_init_0 23 rfl rfl
theorem dksX4_init_2 : cX4_init.data.toList.drop 46 = dktX4_init_2 := dk_seg dksX4_init_1 23 rfl rfl
theorem dX4_init_0 : decode cX4_init 0 = .ok (.aload_n 0, 1) := dk_42 (dk_at dksX4_init_0 0 rfl rfl)
theorem dX4_init_1 : decode cX4_init 1 = .ok (.invokespecial 3, 3) := dk_183 0 3 (dk_at dksX4_init_0 1 rfl rfl)
theorem dX4_init_4 : decode cX4_init 4 = .ok (.aload_n 0, 1) := dk_42 (dk_at dksX4_init_0 4 rfl rfl)
theorem dX4_init_5 : decode cX4_init 5 = .ok (.bipush 7, 2) := dk_16 7 (dk_at dksX4_init_0 5 rfl rfl)
theorem dX4_init_7 : decode cX4_init 7 = .ok (.newarray .int, 2) := dk_188_10 (dk_at dksX4_init_0 7 rfl rfl)
theorem dX4_init_9 : decode cX4_init 9 = .ok (.putfield 9, 3) := dk_181 0 9 (dk_at dksX4_init_0 9 rfl rfl)
theorem dX4_init_12 : decode cX4_init 12 = .ok (.aload_n 0, 1) := dk_42 (dk_at dksX4_init_0 12 rfl rfl)
theorem dX4_init_13 : decode cX4_init 13 = .ok (.bipush 7, 2) := dk_16 7 (dk_at dksX4_init_0 13 rfl rfl)
theorem dX4_init_15 : decode cX4_init 15 = .ok (.newarray .int, 2) := dk_188_10 (dk_at dksX4_init_0 15 rfl rfl)
theorem dX4_init_17 : decode cX4_init 17 = .ok (.putfield 15, 3) := dk_181 0 15 (dk_at dksX4_init_0 17 rfl rfl)
theorem dX4_init_20 : decode cX4_init 20 = .ok (.aload_n 0, 1) := dk_42 (dk_at dksX4_init_0 20 rfl rfl)
theorem dX4_init_21 : decode cX4_init 21 = .ok (.bipush 7, 2) := dk_16 7 (dk_at dksX4_init_0 21 rfl rfl)
theorem dX4_init_23 : decode cX4_init 23 = .ok (.newarray .int, 2) := dk_188_10 (dk_at dksX4_init_1 0 rfl rfl)
theorem dX4_init_25 : decode cX4_init 25 = .ok (.putfield 18, 3) := dk_181 0 18 (dk_at dksX4_init_1 2 rfl rfl)
theorem dX4_init_28 : decode cX4_init 28 = .ok (.aload_n 0, 1) := dk_42 (dk_at dksX4_init_1 5 rfl rfl)
theorem dX4_init_29 : decode cX4_init 29 = .ok (.bipush 12, 2) := dk_16 12 (dk_at dksX4_init_1 6 rfl rfl)
theorem dX4_init_31 : decode cX4_init 31 = .ok (.anewarray 21, 3) := dk_189 0 21 (dk_at dksX4_init_1 8 rfl rfl)
theorem dX4_init_34 : decode cX4_init 34 = .ok (.putfield 23, 3) := dk_181 0 23 (dk_at dksX4_init_1 11 rfl rfl)
theorem dX4_init_37 : decode cX4_init 37 = .ok (.iconst 0, 1) := dk_3 (dk_at dksX4_init_1 14 rfl rfl)
theorem dX4_init_38 : decode cX4_init 38 = .ok (.istore_n 1, 1) := dk_60 (dk_at dksX4_init_1 15 rfl rfl)
theorem dX4_init_39 : decode cX4_init 39 = .ok (.iload_n 1, 1) := dk_27 (dk_at dksX4_init_1 16 rfl rfl)
theorem dX4_init_40 : decode cX4_init 40 = .ok (.bipush 12, 2) := dk_16 12 (dk_at dksX4_init_1 17 rfl rfl)
theorem dX4_init_42 : decode cX4_init 42 = .ok (.if_icmp .ge 22, 3) := dk_162 0 22 (dk_at dksX4_init_1 19 rfl rfl)
theorem dX4_init_45 : decode cX4_init 45 = .ok (.aload_n 0, 1) := dk_42 (dk_at dksX4_init_1 22 rfl rfl)
theorem dX4_init_46 : decode cX4_init 46 = .ok (.getfield 23, 3) := dk_180 0 23 (dk_at dksX4_init_2 0 rfl rfl)
theorem dX4_init_49 : decode cX4_init 49 = .ok (.iload_n 1, 1) := dk_27 (dk_at dksX4_init_2 3 rfl rfl)
theorem dX4_init_50 : decode cX4_init 50 = .ok (.new 21, 3) := dk_187 0 21 (dk_at dksX4_init_2 4 rfl rfl)
theorem dX4_init_53 : decode cX4_init 53 = .ok (.dup, 1) := dk_89 (dk_at dksX4_init_2 7 rfl rfl)
theorem dX4_init_54 : decode cX4_init 54 = .ok (.invokespecial 27, 3) := dk_183 0 27 (dk_at dksX4_init_2 8 rfl rfl)
theorem dX4_init_57 : decode cX4_init 57 = .ok (.aastore, 1) := dk_83 (dk_at dksX4_init_2 11 rfl rfl)
theorem dX4_init_58 : decode cX4_init 58 = .ok (.iinc 1 1, 3) := dk_132 1 1 (dk_at dksX4_init_2 12 rfl rfl)
theorem dX4_init_61 : decode cX4_init 61 = .ok (.goto (-22), 3) := dk_167 255 234 (dk_at dksX4_init_2 15 rfl rfl)
theorem dX4_init_64 : decode cX4_init 64 = .ok (.return_, 1) := dk_177 (dk_at dksX4_init_2 18 rfl rfl)
abbrev cX4_begin : ByteArray := prog_14_method_2_code
def yX4_begin : MethodName := ⟨RX4, "begin", "(LBrushGlass$Glass;)V"⟩
def dkwX4_begin_3 : List UInt8 := [167, 255, 200, 177]
abbrev dktX4_begin_3 : List UInt8 := dkwX4_begin_3 ++ []
def dkwX4_begin_2 : List UInt8 := [180, 0, 49, 79, 42, 180, 0, 18, 28, 43, 180, 0, 40, 28, 50, 180, 0, 52, 79, 132, 2, 1]
abbrev dktX4_begin_2 : List UInt8 := dkwX4_begin_2 ++ dktX4_begin_3
def dkwX4_begin_1 : List UInt8 := [28, 43, 180, 0, 40, 28, 50, 180, 0, 44, 79, 42, 180, 0, 15, 28, 43, 180, 0, 40, 28, 50]
abbrev dktX4_begin_1 : List UInt8 := dkwX4_begin_1 ++ dktX4_begin_2
def dkwX4_begin_0 : List UInt8 := [42, 3, 181, 0, 28, 42, 3, 181, 0, 32, 3, 61, 28, 43, 180, 0, 35, 162, 0, 54, 42, 180, 0, 9]
abbrev dktX4_begin_0 : List UInt8 := dkwX4_begin_0 ++ dktX4_begin_1
theorem dksX4_begin_0 : cX4_begin.data.toList.drop 0 = dktX4_begin_0 := by decide +kernel
theorem dksX4_begin_1 : cX4_begin.data.toList.drop 24 = dktX4_begin_1 := dk_seg dksX4_begin_0 24 rfl rfl
theorem dksX4_begin_2 : cX4_begin.data.toList.drop 46 = dktX4_begin_2 := dk_seg dksX4_begin_1 22 rfl rfl
theorem dksX4_begin_3 : cX4_begin.data.toList.drop 68 = dktX4_begin_3 := dk_seg dksX4_begin_2 22 rfl rfl
theorem dX4_begin_0 : decode cX4_begin 0 = .ok (.aload_n 0, 1) := dk_42 (dk_at dksX4_begin_0 0 rfl rfl)
theorem dX4_begin_1 : decode cX4_begin 1 = .ok (.iconst 0, 1) := dk_3 (dk_at dksX4_begin_0 1 rfl rfl)
theorem dX4_begin_2 : decode cX4_begin 2 = .ok (.putfield 28, 3) := dk_181 0 28 (dk_at dksX4_begin_0 2 rfl rfl)
theorem dX4_begin_5 : decode cX4_begin 5 = .ok (.aload_n 0, 1) := dk_42 (dk_at dksX4_begin_0 5 rfl rfl)
theorem dX4_begin_6 : decode cX4_begin 6 = .ok (.iconst 0, 1) := dk_3 (dk_at dksX4_begin_0 6 rfl rfl)
theorem dX4_begin_7 : decode cX4_begin 7 = .ok (.putfield 32, 3) := dk_181 0 32 (dk_at dksX4_begin_0 7 rfl rfl)
theorem dX4_begin_10 : decode cX4_begin 10 = .ok (.iconst 0, 1) := dk_3 (dk_at dksX4_begin_0 10 rfl rfl)
theorem dX4_begin_11 : decode cX4_begin 11 = .ok (.istore_n 2, 1) := dk_61 (dk_at dksX4_begin_0 11 rfl rfl)
theorem dX4_begin_12 : decode cX4_begin 12 = .ok (.iload_n 2, 1) := dk_28 (dk_at dksX4_begin_0 12 rfl rfl)
theorem dX4_begin_13 : decode cX4_begin 13 = .ok (.aload_n 1, 1) := dk_43 (dk_at dksX4_begin_0 13 rfl rfl)
theorem dX4_begin_14 : decode cX4_begin 14 = .ok (.getfield 35, 3) := dk_180 0 35 (dk_at dksX4_begin_0 14 rfl rfl)
theorem dX4_begin_17 : decode cX4_begin 17 = .ok (.if_icmp .ge 54, 3) := dk_162 0 54 (dk_at dksX4_begin_0 17 rfl rfl)
theorem dX4_begin_20 : decode cX4_begin 20 = .ok (.aload_n 0, 1) := dk_42 (dk_at dksX4_begin_0 20 rfl rfl)
theorem dX4_begin_21 : decode cX4_begin 21 = .ok (.getfield 9, 3) := dk_180 0 9 (dk_at dksX4_begin_0 21 rfl rfl)
theorem dX4_begin_24 : decode cX4_begin 24 = .ok (.iload_n 2, 1) := dk_28 (dk_at dksX4_begin_1 0 rfl rfl)
theorem dX4_begin_25 : decode cX4_begin 25 = .ok (.aload_n 1, 1) := dk_43 (dk_at dksX4_begin_1 1 rfl rfl)
theorem dX4_begin_26 : decode cX4_begin 26 = .ok (.getfield 40, 3) := dk_180 0 40 (dk_at dksX4_begin_1 2 rfl rfl)
theorem dX4_begin_29 : decode cX4_begin 29 = .ok (.iload_n 2, 1) := dk_28 (dk_at dksX4_begin_1 5 rfl rfl)
theorem dX4_begin_30 : decode cX4_begin 30 = .ok (.aaload, 1) := dk_50 (dk_at dksX4_begin_1 6 rfl rfl)
theorem dX4_begin_31 : decode cX4_begin 31 = .ok (.getfield 44, 3) := dk_180 0 44 (dk_at dksX4_begin_1 7 rfl rfl)
theorem dX4_begin_34 : decode cX4_begin 34 = .ok (.iastore, 1) := dk_79 (dk_at dksX4_begin_1 10 rfl rfl)
theorem dX4_begin_35 : decode cX4_begin 35 = .ok (.aload_n 0, 1) := dk_42 (dk_at dksX4_begin_1 11 rfl rfl)
theorem dX4_begin_36 : decode cX4_begin 36 = .ok (.getfield 15, 3) := dk_180 0 15 (dk_at dksX4_begin_1 12 rfl rfl)
theorem dX4_begin_39 : decode cX4_begin 39 = .ok (.iload_n 2, 1) := dk_28 (dk_at dksX4_begin_1 15 rfl rfl)
theorem dX4_begin_40 : decode cX4_begin 40 = .ok (.aload_n 1, 1) := dk_43 (dk_at dksX4_begin_1 16 rfl rfl)
theorem dX4_begin_41 : decode cX4_begin 41 = .ok (.getfield 40, 3) := dk_180 0 40 (dk_at dksX4_begin_1 17 rfl rfl)
theorem dX4_begin_44 : decode cX4_begin 44 = .ok (.iload_n 2, 1) := dk_28 (dk_at dksX4_begin_1 20 rfl rfl)
theorem dX4_begin_45 : decode cX4_begin 45 = .ok (.aaload, 1) := dk_50 (dk_at dksX4_begin_1 21 rfl rfl)
theorem dX4_begin_46 : decode cX4_begin 46 = .ok (.getfield 49, 3) := dk_180 0 49 (dk_at dksX4_begin_2 0 rfl rfl)
theorem dX4_begin_49 : decode cX4_begin 49 = .ok (.iastore, 1) := dk_79 (dk_at dksX4_begin_2 3 rfl rfl)
theorem dX4_begin_50 : decode cX4_begin 50 = .ok (.aload_n 0, 1) := dk_42 (dk_at dksX4_begin_2 4 rfl rfl)
theorem dX4_begin_51 : decode cX4_begin 51 = .ok (.getfield 18, 3) := dk_180 0 18 (dk_at dksX4_begin_2 5 rfl rfl)
theorem dX4_begin_54 : decode cX4_begin 54 = .ok (.iload_n 2, 1) := dk_28 (dk_at dksX4_begin_2 8 rfl rfl)
theorem dX4_begin_55 : decode cX4_begin 55 = .ok (.aload_n 1, 1) := dk_43 (dk_at dksX4_begin_2 9 rfl rfl)
theorem dX4_begin_56 : decode cX4_begin 56 = .ok (.getfield 40, 3) := dk_180 0 40 (dk_at dksX4_begin_2 10 rfl rfl)
theorem dX4_begin_59 : decode cX4_begin 59 = .ok (.iload_n 2, 1) := dk_28 (dk_at dksX4_begin_2 13 rfl rfl)
theorem dX4_begin_60 : decode cX4_begin 60 = .ok (.aaload, 1) := dk_50 (dk_at dksX4_begin_2 14 rfl rfl)
theorem dX4_begin_61 : decode cX4_begin 61 = .ok (.getfield 52, 3) := dk_180 0 52 (dk_at dksX4_begin_2 15 rfl rfl)
theorem dX4_begin_64 : decode cX4_begin 64 = .ok (.iastore, 1) := dk_79 (dk_at dksX4_begin_2 18 rfl rfl)
theorem dX4_begin_65 : decode cX4_begin 65 = .ok (.iinc 2 1, 3) := dk_132 2 1 (dk_at dksX4_begin_2 19 rfl rfl)
theorem dX4_begin_68 : decode cX4_begin 68 = .ok (.goto (-56), 3) := dk_167 255 200 (dk_at dksX4_begin_3 0 rfl rfl)
theorem dX4_begin_71 : decode cX4_begin 71 = .ok (.return_, 1) := dk_177 (dk_at dksX4_begin_3 3 rfl rfl)
abbrev cX4_move : ByteArray := prog_14_method_4_code
def yX4_move : MethodName := ⟨RX4, "move", "(I)LBrushGlass$Move;"⟩
def dkwX4_move_0 : List UInt8 := [42, 180, 0, 23, 27, 50, 176]
abbrev dktX4_move_0 : List UInt8 := dkwX4_move_0 ++ []
theorem dksX4_move_0 : cX4_move.data.toList.drop 0 = dktX4_move_0 := by decide +kernel
theorem dX4_move_0 : decode cX4_move 0 = .ok (.aload_n 0, 1) := dk_42 (dk_at dksX4_move_0 0 rfl rfl)
theorem dX4_move_1 : decode cX4_move 1 = .ok (.getfield 23, 3) := dk_180 0 23 (dk_at dksX4_move_0 1 rfl rfl)
theorem dX4_move_4 : decode cX4_move 4 = .ok (.iload_n 1, 1) := dk_27 (dk_at dksX4_move_0 4 rfl rfl)
theorem dX4_move_5 : decode cX4_move 5 = .ok (.aaload, 1) := dk_50 (dk_at dksX4_move_0 5 rfl rfl)
theorem dX4_move_6 : decode cX4_move 6 = .ok (.areturn, 1) := dk_176 (dk_at dksX4_move_0 6 rfl rfl)
abbrev cX4_become : ByteArray := prog_14_method_3_code
def yX4_become : MethodName := ⟨RX4, "become", "(LBrushGlass$Plan;)V"⟩
def dkwX4_become_4 : List UInt8 := [177]
abbrev dktX4_become_4 : List UInt8 := dkwX4_become_4 ++ []
def dkwX4_become_3 : List UInt8 := [162, 0, 24, 42, 180, 0, 23, 28, 50, 43, 180, 0, 23, 28, 50, 182, 0, 60, 132, 2, 1, 167, 255, 230]
abbrev dktX4_become_3 : List UInt8 := dkwX4_become_3 ++ dktX4_become_4
def dkwX4_become_2 : List UInt8 := [43, 180, 0, 18, 3, 42, 180, 0, 18, 3, 16, 7, 184, 0, 54, 3, 61, 28, 42, 180, 0, 28]
abbrev dktX4_become_2 : List UInt8 := dkwX4_become_2 ++ dktX4_become_3
def dkwX4_become_1 : List UInt8 := [180, 0, 9, 3, 16, 7, 184, 0, 54, 43, 180, 0, 15, 3, 42, 180, 0, 15, 3, 16, 7, 184, 0, 54]
abbrev dktX4_become_1 : List UInt8 := dkwX4_become_1 ++ dktX4_become_2
def dkwX4_become_0 : List UInt8 := [42, 43, 180, 0, 28, 181, 0, 28, 42, 43, 180, 0, 32, 181, 0, 32, 43, 180, 0, 9, 3, 42]
abbrev dktX4_become_0 : List UInt8 := dkwX4_become_0 ++ dktX4_become_1
theorem dksX4_become_0 : cX4_become.data.toList.drop 0 = dktX4_become_0 := by decide +kernel
theorem dksX4_become_1 : cX4_become.data.toList.drop 22 = dktX4_become_1 := dk_seg dksX4_become_0 22 rfl rfl
theorem dksX4_become_2 : cX4_become.data.toList.drop 46 = dktX4_become_2 := dk_seg dksX4_become_1 24 rfl rfl
theorem dksX4_become_3 : cX4_become.data.toList.drop 68 = dktX4_become_3 := dk_seg dksX4_become_2 22 rfl rfl
theorem dksX4_become_4 : cX4_become.data.toList.drop 92 = dktX4_become_4 := dk_seg dksX4_become_3 24 rfl rfl
theorem dX4_become_0 : decode cX4_become 0 = .ok (.aload_n 0, 1) := dk_42 (dk_at dksX4_become_0 0 rfl rfl)
theorem dX4_become_1 : decode cX4_become 1 = .ok (.aload_n 1, 1) := dk_43 (dk_at dksX4_become_0 1 rfl rfl)
theorem dX4_become_2 : decode cX4_become 2 = .ok (.getfield 28, 3) := dk_180 0 28 (dk_at dksX4_become_0 2 rfl rfl)
theorem dX4_become_5 : decode cX4_become 5 = .ok (.putfield 28, 3) := dk_181 0 28 (dk_at dksX4_become_0 5 rfl rfl)
theorem dX4_become_8 : decode cX4_become 8 = .ok (.aload_n 0, 1) := dk_42 (dk_at dksX4_become_0 8 rfl rfl)
theorem dX4_become_9 : decode cX4_become 9 = .ok (.aload_n 1, 1) := dk_43 (dk_at dksX4_become_0 9 rfl rfl)
theorem dX4_become_10 : decode cX4_become 10 = .ok (.getfield 32, 3) := dk_180 0 32 (dk_at dksX4_become_0 10 rfl rfl)
theorem dX4_become_13 : decode cX4_become 13 = .ok (.putfield 32, 3) := dk_181 0 32 (dk_at dksX4_become_0 13 rfl rfl)
theorem dX4_become_16 : decode cX4_become 16 = .ok (.aload_n 1, 1) := dk_43 (dk_at dksX4_become_0 16 rfl rfl)
theorem dX4_become_17 : decode cX4_become 17 = .ok (.getfield 9, 3) := dk_180 0 9 (dk_at dksX4_become_0 17 rfl rfl)
theorem dX4_become_20 : decode cX4_become 20 = .ok (.iconst 0, 1) := dk_3 (dk_at dksX4_become_0 20 rfl rfl)
theorem dX4_become_21 : decode cX4_become 21 = .ok (.aload_n 0, 1) := dk_42 (dk_at dksX4_become_0 21 rfl rfl)
theorem dX4_become_22 : decode cX4_become 22 = .ok (.getfield 9, 3) := dk_180 0 9 (dk_at dksX4_become_1 0 rfl rfl)
theorem dX4_become_25 : decode cX4_become 25 = .ok (.iconst 0, 1) := dk_3 (dk_at dksX4_become_1 3 rfl rfl)
theorem dX4_become_26 : decode cX4_become 26 = .ok (.bipush 7, 2) := dk_16 7 (dk_at dksX4_become_1 4 rfl rfl)
theorem dX4_become_28 : decode cX4_become 28 = .ok (.invokestatic 54, 3) := dk_184 0 54 (dk_at dksX4_become_1 6 rfl rfl)
theorem dX4_become_31 : decode cX4_become 31 = .ok (.aload_n 1, 1) := dk_43 (dk_at dksX4_become_1 9 rfl rfl)
theorem dX4_become_32 : decode cX4_become 32 = .ok (.getfield 15, 3) := dk_180 0 15 (dk_at dksX4_become_1 10 rfl rfl)
theorem dX4_become_35 : decode cX4_become 35 = .ok (.iconst 0, 1) := dk_3 (dk_at dksX4_become_1 13 rfl rfl)
theorem dX4_become_36 : decode cX4_become 36 = .ok (.aload_n 0, 1) := dk_42 (dk_at dksX4_become_1 14 rfl rfl)
theorem dX4_become_37 : decode cX4_become 37 = .ok (.getfield 15, 3) := dk_180 0 15 (dk_at dksX4_become_1 15 rfl rfl)
theorem dX4_become_40 : decode cX4_become 40 = .ok (.iconst 0, 1) := dk_3 (dk_at dksX4_become_1 18 rfl rfl)
theorem dX4_become_41 : decode cX4_become 41 = .ok (.bipush 7, 2) := dk_16 7 (dk_at dksX4_become_1 19 rfl rfl)
theorem dX4_become_43 : decode cX4_become 43 = .ok (.invokestatic 54, 3) := dk_184 0 54 (dk_at dksX4_become_1 21 rfl rfl)
theorem dX4_become_46 : decode cX4_become 46 = .ok (.aload_n 1, 1) := dk_43 (dk_at dksX4_become_2 0 rfl rfl)
theorem dX4_become_47 : decode cX4_become 47 = .ok (.getfield 18, 3) := dk_180 0 18 (dk_at dksX4_become_2 1 rfl rfl)
theorem dX4_become_50 : decode cX4_become 50 = .ok (.iconst 0, 1) := dk_3 (dk_at dksX4_become_2 4 rfl rfl)
theorem dX4_become_51 : decode cX4_become 51 = .ok (.aload_n 0, 1) := dk_42 (dk_at dksX4_become_2 5 rfl rfl)
theorem dX4_become_52 : decode cX4_become 52 = .ok (.getfield 18, 3) := dk_180 0 18 (dk_at dksX4_become_2 6 rfl rfl)
theorem dX4_become_55 : decode cX4_become 55 = .ok (.iconst 0, 1) := dk_3 (dk_at dksX4_become_2 9 rfl rfl)
theorem dX4_become_56 : decode cX4_become 56 = .ok (.bipush 7, 2) := dk_16 7 (dk_at dksX4_become_2 10 rfl rfl)
theorem dX4_become_58 : decode cX4_become 58 = .ok (.invokestatic 54, 3) := dk_184 0 54 (dk_at dksX4_become_2 12 rfl rfl)
theorem dX4_become_61 : decode cX4_become 61 = .ok (.iconst 0, 1) := dk_3 (dk_at dksX4_become_2 15 rfl rfl)
theorem dX4_become_62 : decode cX4_become 62 = .ok (.istore_n 2, 1) := dk_61 (dk_at dksX4_become_2 16 rfl rfl)
theorem dX4_become_63 : decode cX4_become 63 = .ok (.iload_n 2, 1) := dk_28 (dk_at dksX4_become_2 17 rfl rfl)
theorem dX4_become_64 : decode cX4_become 64 = .ok (.aload_n 0, 1) := dk_42 (dk_at dksX4_become_2 18 rfl rfl)
theorem dX4_become_65 : decode cX4_become 65 = .ok (.getfield 28, 3) := dk_180 0 28 (dk_at dksX4_become_2 19 rfl rfl)
theorem dX4_become_68 : decode cX4_become 68 = .ok (.if_icmp .ge 24, 3) := dk_162 0 24 (dk_at dksX4_become_3 0 rfl rfl)
theorem dX4_become_71 : decode cX4_become 71 = .ok (.aload_n 0, 1) := dk_42 (dk_at dksX4_become_3 3 rfl rfl)
theorem dX4_become_72 : decode cX4_become 72 = .ok (.getfield 23, 3) := dk_180 0 23 (dk_at dksX4_become_3 4 rfl rfl)
theorem dX4_become_75 : decode cX4_become 75 = .ok (.iload_n 2, 1) := dk_28 (dk_at dksX4_become_3 7 rfl rfl)
theorem dX4_become_76 : decode cX4_become 76 = .ok (.aaload, 1) := dk_50 (dk_at dksX4_become_3 8 rfl rfl)
theorem dX4_become_77 : decode cX4_become 77 = .ok (.aload_n 1, 1) := dk_43 (dk_at dksX4_become_3 9 rfl rfl)
theorem dX4_become_78 : decode cX4_become 78 = .ok (.getfield 23, 3) := dk_180 0 23 (dk_at dksX4_become_3 10 rfl rfl)
theorem dX4_become_81 : decode cX4_become 81 = .ok (.iload_n 2, 1) := dk_28 (dk_at dksX4_become_3 13 rfl rfl)
theorem dX4_become_82 : decode cX4_become 82 = .ok (.aaload, 1) := dk_50 (dk_at dksX4_become_3 14 rfl rfl)
theorem dX4_become_83 : decode cX4_become 83 = .ok (.invokevirtual 60, 3) := dk_182 0 60 (dk_at dksX4_become_3 15 rfl rfl)
theorem dX4_become_86 : decode cX4_become 86 = .ok (.iinc 2 1, 3) := dk_132 2 1 (dk_at dksX4_become_3 18 rfl rfl)
theorem dX4_become_89 : decode cX4_become 89 = .ok (.goto (-26), 3) := dk_167 255 230 (dk_at dksX4_become_3 21 rfl rfl)
theorem dX4_become_92 : decode cX4_become 92 = .ok (.return_, 1) := dk_177 (dk_at dksX4_become_4 0 rfl rfl)
abbrev cX4_allByHabit : ByteArray := prog_14_method_8_code
def yX4_allByHabit : MethodName := ⟨RX4, "allByHabit", "(I)V"⟩
def dkwX4_allByHabit_0 : List UInt8 := [3, 61, 28, 16, 7, 162, 0, 16, 42, 180, 0, 15, 28, 27, 79, 132, 2, 1, 167, 255, 240, 177]
abbrev dktX4_allByHabit_0 : List UInt8 := dkwX4_allByHabit_0 ++ []
theorem dksX4_allByHabit_0 : cX4_allByHabit.data.toList.drop 0 = dktX4_allByHabit_0 := by decide +kernel
theorem dX4_allByHabit_0 : decode cX4_allByHabit 0 = .ok (.iconst 0, 1) := dk_3 (dk_at dksX4_allByHabit_0 0 rfl rfl)
theorem dX4_allByHabit_1 : decode cX4_allByHabit 1 = .ok (.istore_n 2, 1) := dk_61 (dk_at dksX4_allByHabit_0 1 rfl rfl)
theorem dX4_allByHabit_2 : decode cX4_allByHabit 2 = .ok (.iload_n 2, 1) := dk_28 (dk_at dksX4_allByHabit_0 2 rfl rfl)
theorem dX4_allByHabit_3 : decode cX4_allByHabit 3 = .ok (.bipush 7, 2) := dk_16 7 (dk_at dksX4_allByHabit_0 3 rfl rfl)
theorem dX4_allByHabit_5 : decode cX4_allByHabit 5 = .ok (.if_icmp .ge 16, 3) := dk_162 0 16 (dk_at dksX4_allByHabit_0 5 rfl rfl)
theorem dX4_allByHabit_8 : decode cX4_allByHabit 8 = .ok (.aload_n 0, 1) := dk_42 (dk_at dksX4_allByHabit_0 8 rfl rfl)
theorem dX4_allByHabit_9 : decode cX4_allByHabit 9 = .ok (.getfield 15, 3) := dk_180 0 15 (dk_at dksX4_allByHabit_0 9 rfl rfl)
theorem dX4_allByHabit_12 : decode cX4_allByHabit 12 = .ok (.iload_n 2, 1) := dk_28 (dk_at dksX4_allByHabit_0 12 rfl rfl)
theorem dX4_allByHabit_13 : decode cX4_allByHabit 13 = .ok (.iload_n 1, 1) := dk_27 (dk_at dksX4_allByHabit_0 13 rfl rfl)
theorem dX4_allByHabit_14 : decode cX4_allByHabit 14 = .ok (.iastore, 1) := dk_79 (dk_at dksX4_allByHabit_0 14 rfl rfl)
theorem dX4_allByHabit_15 : decode cX4_allByHabit 15 = .ok (.iinc 2 1, 3) := dk_132 2 1 (dk_at dksX4_allByHabit_0 15 rfl rfl)
theorem dX4_allByHabit_18 : decode cX4_allByHabit 18 = .ok (.goto (-16), 3) := dk_167 255 240 (dk_at dksX4_allByHabit_0 18 rfl rfl)
theorem dX4_allByHabit_21 : decode cX4_allByHabit 21 = .ok (.return_, 1) := dk_177 (dk_at dksX4_allByHabit_0 21 rfl rfl)
abbrev cX4_allOfKind : ByteArray := prog_14_method_7_code
def yX4_allOfKind : MethodName := ⟨RX4, "allOfKind", "(I)V"⟩
def dkwX4_allOfKind_0 : List UInt8 := [3, 61, 28, 16, 7, 162, 0, 16, 42, 180, 0, 9, 28, 27, 79, 132, 2, 1, 167, 255, 240, 177]
abbrev dktX4_allOfKind_0 : List UInt8 := dkwX4_allOfKind_0 ++ []
theorem dksX4_allOfKind_0 : cX4_allOfKind.data.toList.drop 0 = dktX4_allOfKind_0 := by decide +kernel
theorem dX4_allOfKind_0 : decode cX4_allOfKind 0 = .ok (.iconst 0, 1) := dk_3 (dk_at dksX4_allOfKind_0 0 rfl rfl)
theorem dX4_allOfKind_1 : decode cX4_allOfKind 1 = .ok (.istore_n 2, 1) := dk_61 (dk_at dksX4_allOfKind_0 1 rfl rfl)
theorem dX4_allOfKind_2 : decode cX4_allOfKind 2 = .ok (.iload_n 2, 1) := dk_28 (dk_at dksX4_allOfKind_0 2 rfl rfl)
theorem dX4_allOfKind_3 : decode cX4_allOfKind 3 = .ok (.bipush 7, 2) := dk_16 7 (dk_at dksX4_allOfKind_0 3 rfl rfl)
theorem dX4_allOfKind_5 : decode cX4_allOfKind 5 = .ok (.if_icmp .ge 16, 3) := dk_162 0 16 (dk_at dksX4_allOfKind_0 5 rfl rfl)
theorem dX4_allOfKind_8 : decode cX4_allOfKind 8 = .ok (.aload_n 0, 1) := dk_42 (dk_at dksX4_allOfKind_0 8 rfl rfl)
theorem dX4_allOfKind_9 : decode cX4_allOfKind 9 = .ok (.getfield 9, 3) := dk_180 0 9 (dk_at dksX4_allOfKind_0 9 rfl rfl)
theorem dX4_allOfKind_12 : decode cX4_allOfKind 12 = .ok (.iload_n 2, 1) := dk_28 (dk_at dksX4_allOfKind_0 12 rfl rfl)
theorem dX4_allOfKind_13 : decode cX4_allOfKind 13 = .ok (.iload_n 1, 1) := dk_27 (dk_at dksX4_allOfKind_0 13 rfl rfl)
theorem dX4_allOfKind_14 : decode cX4_allOfKind 14 = .ok (.iastore, 1) := dk_79 (dk_at dksX4_allOfKind_0 14 rfl rfl)
theorem dX4_allOfKind_15 : decode cX4_allOfKind 15 = .ok (.iinc 2 1, 3) := dk_132 2 1 (dk_at dksX4_allOfKind_0 15 rfl rfl)
theorem dX4_allOfKind_18 : decode cX4_allOfKind 18 = .ok (.goto (-16), 3) := dk_167 255 240 (dk_at dksX4_allOfKind_0 18 rfl rfl)
theorem dX4_allOfKind_21 : decode cX4_allOfKind 21 = .ok (.return_, 1) := dk_177 (dk_at dksX4_allOfKind_0 21 rfl rfl)
abbrev cX4_add : ByteArray := prog_14_method_5_code
def yX4_add : MethodName := ⟨RX4, "add", "(III)V"⟩
def dkwX4_add_1 : List UInt8 := [181, 0, 28, 177]
abbrev dktX4_add_1 : List UInt8 := dkwX4_add_1 ++ []
def dkwX4_add_0 : List UInt8 := [42, 180, 0, 23, 42, 180, 0, 28, 50, 27, 28, 29, 182, 0, 64, 42, 89, 180, 0, 28, 4, 96]
abbrev dktX4_add_0 : List UInt8 := dkwX4_add_0 ++ dktX4_add_1
theorem dksX4_add_0 : cX4_add.data.toList.drop 0 = dktX4_add_0 := by decide +kernel
theorem dksX4_add_1 : cX4_add.data.toList.drop 22 = dktX4_add_1 := dk_seg dksX4_add_0 22 rfl rfl
theorem dX4_add_0 : decode cX4_add 0 = .ok (.aload_n 0, 1) := dk_42 (dk_at dksX4_add_0 0 rfl rfl)
theorem dX4_add_1 : decode cX4_add 1 = .ok (.getfield 23, 3) := dk_180 0 23 (dk_at dksX4_add_0 1 rfl rfl)
theorem dX4_add_4 : decode cX4_add 4 = .ok (.aload_n 0, 1) := dk_42 (dk_at dksX4_add_0 4 rfl rfl)
theorem dX4_add_5 : decode cX4_add 5 = .ok (.getfield 28, 3) := dk_180 0 28 (dk_at dksX4_add_0 5 rfl rfl)
theorem dX4_add_8 : decode cX4_add 8 = .ok (.aaload, 1) := dk_50 (dk_at dksX4_add_0 8 rfl rfl)
theorem dX4_add_9 : decode cX4_add 9 = .ok (.iload_n 1, 1) := dk_27 (dk_at dksX4_add_0 9 rfl rfl)
theorem dX4_add_10 : decode cX4_add 10 = .ok (.iload_n 2, 1) := dk_28 (dk_at dksX4_add_0 10 rfl rfl)
theorem dX4_add_11 : decode cX4_add 11 = .ok (.iload_n 3, 1) := dk_29 (dk_at dksX4_add_0 11 rfl rfl)
theorem dX4_add_12 : decode cX4_add 12 = .ok (.invokevirtual 64, 3) := dk_182 0 64 (dk_at dksX4_add_0 12 rfl rfl)
theorem dX4_add_15 : decode cX4_add 15 = .ok (.aload_n 0, 1) := dk_42 (dk_at dksX4_add_0 15 rfl rfl)
theorem dX4_add_16 : decode cX4_add 16 = .ok (.dup, 1) := dk_89 (dk_at dksX4_add_0 16 rfl rfl)
theorem dX4_add_17 : decode cX4_add 17 = .ok (.getfield 28, 3) := dk_180 0 28 (dk_at dksX4_add_0 17 rfl rfl)
theorem dX4_add_20 : decode cX4_add 20 = .ok (.iconst 1, 1) := dk_4 (dk_at dksX4_add_0 20 rfl rfl)
theorem dX4_add_21 : decode cX4_add 21 = .ok (.iadd, 1) := dk_96 (dk_at dksX4_add_0 21 rfl rfl)
theorem dX4_add_22 : decode cX4_add 22 = .ok (.putfield 28, 3) := dk_181 0 28 (dk_at dksX4_add_1 0 rfl rfl)
theorem dX4_add_25 : decode cX4_add 25 = .ok (.return_, 1) := dk_177 (dk_at dksX4_add_1 3 rfl rfl)
abbrev cX4_draw : ByteArray := prog_14_method_6_code
def yX4_draw : MethodName := ⟨RX4, "draw", "()I"⟩
def dkwX4_draw_0 : List UInt8 := [42, 16, 75, 42, 180, 0, 32, 104, 16, 74, 96, 18, 68, 112, 181, 0, 32, 42, 180, 0, 32, 172]
abbrev dktX4_draw_0 : List UInt8 := dkwX4_draw_0 ++ []
theorem dksX4_draw_0 : cX4_draw.data.toList.drop 0 = dktX4_draw_0 := by decide +kernel
theorem dX4_draw_0 : decode cX4_draw 0 = .ok (.aload_n 0, 1) := dk_42 (dk_at dksX4_draw_0 0 rfl rfl)
theorem dX4_draw_1 : decode cX4_draw 1 = .ok (.bipush 75, 2) := dk_16 75 (dk_at dksX4_draw_0 1 rfl rfl)
theorem dX4_draw_3 : decode cX4_draw 3 = .ok (.aload_n 0, 1) := dk_42 (dk_at dksX4_draw_0 3 rfl rfl)
theorem dX4_draw_4 : decode cX4_draw 4 = .ok (.getfield 32, 3) := dk_180 0 32 (dk_at dksX4_draw_0 4 rfl rfl)
theorem dX4_draw_7 : decode cX4_draw 7 = .ok (.imul, 1) := dk_104 (dk_at dksX4_draw_0 7 rfl rfl)
theorem dX4_draw_8 : decode cX4_draw 8 = .ok (.bipush 74, 2) := dk_16 74 (dk_at dksX4_draw_0 8 rfl rfl)
theorem dX4_draw_10 : decode cX4_draw 10 = .ok (.iadd, 1) := dk_96 (dk_at dksX4_draw_0 10 rfl rfl)
theorem dX4_draw_11 : decode cX4_draw 11 = .ok (.ldc 68, 2) := dk_18 68 (dk_at dksX4_draw_0 11 rfl rfl)
theorem dX4_draw_13 : decode cX4_draw 13 = .ok (.irem, 1) := dk_112 (dk_at dksX4_draw_0 13 rfl rfl)
theorem dX4_draw_14 : decode cX4_draw 14 = .ok (.putfield 32, 3) := dk_181 0 32 (dk_at dksX4_draw_0 14 rfl rfl)
theorem dX4_draw_17 : decode cX4_draw 17 = .ok (.aload_n 0, 1) := dk_42 (dk_at dksX4_draw_0 17 rfl rfl)
theorem dX4_draw_18 : decode cX4_draw 18 = .ok (.getfield 32, 3) := dk_180 0 32 (dk_at dksX4_draw_0 18 rfl rfl)
theorem dX4_draw_21 : decode cX4_draw 21 = .ok (.ireturn, 1) := dk_172 (dk_at dksX4_draw_0 21 rfl rfl)
theorem q136 : (Jvm.Cond.initialized "BrushGlass$Plan") ∈ lw_all := lw_g (lw_at lw_m1 7 rfl) rfl
theorem q286 : (Jvm.Cond.instantiable "BrushGlass$Plan" (6 : Nat)) ∈ lw_all := lw_g (lw_at lw_m1 157 rfl) rfl
theorem q288 : (Jvm.Cond.instanceMethod ({ cls := "BrushGlass$Plan", name := "<init>", desc := "()V" } : Jvm.MethodName)) ∈ lw_all := lw_g (lw_at lw_m1 159 rfl) rfl
theorem q289 : (Jvm.Cond.code ({ cls := "BrushGlass$Plan", name := "<init>", desc := "()V" } : Jvm.MethodName) prog_14_method_1_code (2 : Nat) (Option.none : Option Jvm.ClassFile.FieldType)) ∈ lw_all := lw_g (lw_at lw_m1 160 rfl) rfl
theorem q290 : (Jvm.Cond.methodLink "BrushGlass$Plan" (3 : Nat) ({ cls := "java/lang/Object", name := "<init>", desc := "()V" } : Jvm.MethodName)) ∈ lw_all := lw_g (lw_at lw_m1 161 rfl) rfl
theorem q291 : (Jvm.Cond.classLink "BrushGlass$Plan" (21 : Nat) "BrushGlass$Move") ∈ lw_all := lw_g (lw_at lw_m1 162 rfl) rfl
theorem q294 : (Jvm.Cond.methodLinkNest "BrushGlass$Plan" (27 : Nat) ({ cls := "BrushGlass$Move", name := "<init>", desc := "()V" } : Jvm.MethodName) "BrushGlass") ∈ lw_tbl := lw_at lw_m1 165 rfl
theorem q315 : (Jvm.Cond.fieldLink "BrushGlass$Plan" (9 : Nat) "BrushGlass$Plan" "kinds" "[I") ∈ lw_all := lw_g (lw_at lw_m1 186 rfl) rfl
theorem q318 : (Jvm.Cond.fieldLink "BrushGlass$Plan" (15 : Nat) "BrushGlass$Plan" "habits" "[I") ∈ lw_all := lw_g (lw_at lw_m1 189 rfl) rfl
theorem q321 : (Jvm.Cond.fieldLink "BrushGlass$Plan" (18 : Nat) "BrushGlass$Plan" "keeps" "[I") ∈ lw_all := lw_g (lw_at lw_m1 192 rfl) rfl
theorem q324 : (Jvm.Cond.fieldLink "BrushGlass$Plan" (23 : Nat) "BrushGlass$Plan" "more" "[LBrushGlass$Move;") ∈ lw_all := lw_g (lw_at lw_m1 195 rfl) rfl
theorem q325 : (Jvm.Cond.fieldLink "BrushGlass$Plan" (28 : Nat) "BrushGlass$Plan" "many" "I") ∈ lw_all := lw_g (lw_at lw_m1 196 rfl) rfl
theorem q328 : (Jvm.Cond.fieldLink "BrushGlass$Plan" (32 : Nat) "BrushGlass$Plan" "seed" "I") ∈ lw_all := lw_g (lw_at lw_m1 199 rfl) rfl
theorem q330 : (Jvm.Cond.laysFinal "BrushGlass$Plan" "BrushGlass$Plan" "kinds" "[I") ∈ lw_all := lw_g (lw_at lw_m1 201 rfl) rfl
theorem q331 : (Jvm.Cond.soleField "BrushGlass$Plan" "kinds") ∈ lw_all := lw_g (lw_at lw_m1 202 rfl) rfl
theorem q332 : (Jvm.Cond.laysFinal "BrushGlass$Plan" "BrushGlass$Plan" "habits" "[I") ∈ lw_all := lw_g (lw_at lw_m1 203 rfl) rfl
theorem q333 : (Jvm.Cond.soleField "BrushGlass$Plan" "habits") ∈ lw_all := lw_g (lw_at lw_m1 204 rfl) rfl
theorem q334 : (Jvm.Cond.laysFinal "BrushGlass$Plan" "BrushGlass$Plan" "keeps" "[I") ∈ lw_all := lw_g (lw_at lw_m1 205 rfl) rfl
theorem q335 : (Jvm.Cond.soleField "BrushGlass$Plan" "keeps") ∈ lw_all := lw_g (lw_at lw_m1 206 rfl) rfl
theorem q336 : (Jvm.Cond.laysFinal "BrushGlass$Plan" "BrushGlass$Plan" "more" "[LBrushGlass$Move;") ∈ lw_all := lw_g (lw_at lw_m1 207 rfl) rfl
theorem q337 : (Jvm.Cond.soleField "BrushGlass$Plan" "more") ∈ lw_all := lw_g (lw_at lw_m1 208 rfl) rfl
theorem q338 : (Jvm.Cond.lays "BrushGlass$Plan" "BrushGlass$Plan" "many" "I") ∈ lw_all := lw_g (lw_at lw_m1 209 rfl) rfl
theorem q339 : (Jvm.Cond.soleField "BrushGlass$Plan" "many") ∈ lw_all := lw_g (lw_at lw_m1 210 rfl) rfl
theorem q340 : (Jvm.Cond.lays "BrushGlass$Plan" "BrushGlass$Plan" "seed" "I") ∈ lw_all := lw_g (lw_at lw_m1 211 rfl) rfl
theorem q341 : (Jvm.Cond.soleField "BrushGlass$Plan" "seed") ∈ lw_all := lw_g (lw_at lw_m1 212 rfl) rfl
theorem q342 : (Jvm.Cond.superclass "BrushGlass$Plan" "java/lang/Object") ∈ lw_all := lw_g (lw_at lw_m1 213 rfl) rfl
theorem q656 : (Jvm.Cond.fieldLink "BrushGlass$Plan" (40 : Nat) "BrushGlass$Glass" "people" "[LBrushGlass$Person;") ∈ lw_all := lw_g (lw_at lw_m3 47 rfl) rfl
theorem q684 : (Jvm.Cond.fieldLink "BrushGlass$Plan" (35 : Nat) "BrushGlass$Glass" "personMany" "I") ∈ lw_all := lw_g (lw_at lw_m3 75 rfl) rfl
theorem q976 : (Jvm.Cond.fieldLink "BrushGlass$Plan" (44 : Nat) "BrushGlass$Person" "kind" "I") ∈ lw_all := lw_g (lw_at lw_m4 127 rfl) rfl
theorem q978 : (Jvm.Cond.fieldLink "BrushGlass$Plan" (49 : Nat) "BrushGlass$Person" "habit" "I") ∈ lw_all := lw_g (lw_at lw_m4 129 rfl) rfl
theorem q980 : (Jvm.Cond.fieldLink "BrushGlass$Plan" (52 : Nat) "BrushGlass$Person" "keeps" "I") ∈ lw_all := lw_g (lw_at lw_m4 131 rfl) rfl
theorem q1146 : (Jvm.Cond.instanceMethod ({ cls := "BrushGlass$Plan", name := "begin", desc := "(LBrushGlass$Glass;)V" } : Jvm.MethodName)) ∈ lw_all := lw_g (lw_at lw_m5 57 rfl) rfl
theorem q1147 : (Jvm.Cond.selects "BrushGlass$Plan" ({ cls := "BrushGlass$Plan", name := "begin", desc := "(LBrushGlass$Glass;)V" } : Jvm.MethodName) ({ cls := "BrushGlass$Plan", name := "begin", desc := "(LBrushGlass$Glass;)V" } : Jvm.MethodName)) ∈ lw_all := lw_g (lw_at lw_m5 58 rfl) rfl
theorem q1148 : (Jvm.Cond.code ({ cls := "BrushGlass$Plan", name := "begin", desc := "(LBrushGlass$Glass;)V" } : Jvm.MethodName) prog_14_method_2_code (3 : Nat) (Option.none : Option Jvm.ClassFile.FieldType)) ∈ lw_all := lw_g (lw_at lw_m5 59 rfl) rfl
theorem q1225 : (Jvm.Cond.instanceMethod ({ cls := "BrushGlass$Plan", name := "move", desc := "(I)LBrushGlass$Move;" } : Jvm.MethodName)) ∈ lw_all := lw_g (lw_at lw_m5 136 rfl) rfl
theorem q1226 : (Jvm.Cond.selects "BrushGlass$Plan" ({ cls := "BrushGlass$Plan", name := "move", desc := "(I)LBrushGlass$Move;" } : Jvm.MethodName) ({ cls := "BrushGlass$Plan", name := "move", desc := "(I)LBrushGlass$Move;" } : Jvm.MethodName)) ∈ lw_all := lw_g (lw_at lw_m5 137 rfl) rfl
theorem q1227 : (Jvm.Cond.code ({ cls := "BrushGlass$Plan", name := "move", desc := "(I)LBrushGlass$Move;" } : Jvm.MethodName) prog_14_method_4_code (2 : Nat) (Option.some (Jvm.ClassFile.FieldType.object "BrushGlass$Move"))) ∈ lw_all := lw_g (lw_at lw_m5 138 rfl) rfl
theorem q1470 : (Jvm.Cond.instanceMethod ({ cls := "BrushGlass$Plan", name := "become", desc := "(LBrushGlass$Plan;)V" } : Jvm.MethodName)) ∈ lw_all := lw_g (lw_at lw_m6 141 rfl) rfl
theorem q1471 : (Jvm.Cond.selects "BrushGlass$Plan" ({ cls := "BrushGlass$Plan", name := "become", desc := "(LBrushGlass$Plan;)V" } : Jvm.MethodName) ({ cls := "BrushGlass$Plan", name := "become", desc := "(LBrushGlass$Plan;)V" } : Jvm.MethodName)) ∈ lw_all := lw_g (lw_at lw_m6 142 rfl) rfl
theorem q1472 : (Jvm.Cond.code ({ cls := "BrushGlass$Plan", name := "become", desc := "(LBrushGlass$Plan;)V" } : Jvm.MethodName) prog_14_method_3_code (3 : Nat) (Option.none : Option Jvm.ClassFile.FieldType)) ∈ lw_all := lw_g (lw_at lw_m6 143 rfl) rfl
theorem q1473 : (Jvm.Cond.methodLink "BrushGlass$Plan" (54 : Nat) ({ cls := "java/lang/System", name := "arraycopy", desc := "(Ljava/lang/Object;ILjava/lang/Object;II)V" } : Jvm.MethodName)) ∈ lw_all := lw_g (lw_at lw_m6 144 rfl) rfl
theorem q1476 : (Jvm.Cond.methodLink "BrushGlass$Plan" (60 : Nat) ({ cls := "BrushGlass$Move", name := "become", desc := "(LBrushGlass$Move;)V" } : Jvm.MethodName)) ∈ lw_all := lw_g (lw_at lw_m6 147 rfl) rfl
theorem q1482 : (Jvm.Cond.instanceMethod ({ cls := "BrushGlass$Plan", name := "allByHabit", desc := "(I)V" } : Jvm.MethodName)) ∈ lw_all := lw_g (lw_at lw_m6 153 rfl) rfl
theorem q1483 : (Jvm.Cond.selects "BrushGlass$Plan" ({ cls := "BrushGlass$Plan", name := "allByHabit", desc := "(I)V" } : Jvm.MethodName) ({ cls := "BrushGlass$Plan", name := "allByHabit", desc := "(I)V" } : Jvm.MethodName)) ∈ lw_all := lw_g (lw_at lw_m6 154 rfl) rfl
theorem q1484 : (Jvm.Cond.code ({ cls := "BrushGlass$Plan", name := "allByHabit", desc := "(I)V" } : Jvm.MethodName) prog_14_method_8_code (3 : Nat) (Option.none : Option Jvm.ClassFile.FieldType)) ∈ lw_all := lw_g (lw_at lw_m6 155 rfl) rfl
theorem q1498 : (Jvm.Cond.instanceMethod ({ cls := "BrushGlass$Plan", name := "allOfKind", desc := "(I)V" } : Jvm.MethodName)) ∈ lw_all := lw_g (lw_at lw_m6 169 rfl) rfl
theorem q1499 : (Jvm.Cond.selects "BrushGlass$Plan" ({ cls := "BrushGlass$Plan", name := "allOfKind", desc := "(I)V" } : Jvm.MethodName) ({ cls := "BrushGlass$Plan", name := "allOfKind", desc := "(I)V" } : Jvm.MethodName)) ∈ lw_all := lw_g (lw_at lw_m6 170 rfl) rfl
theorem q1500 : (Jvm.Cond.code ({ cls := "BrushGlass$Plan", name := "allOfKind", desc := "(I)V" } : Jvm.MethodName) prog_14_method_7_code (3 : Nat) (Option.none : Option Jvm.ClassFile.FieldType)) ∈ lw_all := lw_g (lw_at lw_m6 171 rfl) rfl
theorem q1662 : (Jvm.Cond.instanceMethod ({ cls := "BrushGlass$Plan", name := "add", desc := "(III)V" } : Jvm.MethodName)) ∈ lw_all := lw_g (lw_at lw_m7 93 rfl) rfl
theorem q1663 : (Jvm.Cond.selects "BrushGlass$Plan" ({ cls := "BrushGlass$Plan", name := "add", desc := "(III)V" } : Jvm.MethodName) ({ cls := "BrushGlass$Plan", name := "add", desc := "(III)V" } : Jvm.MethodName)) ∈ lw_all := lw_g (lw_at lw_m7 94 rfl) rfl
theorem q1664 : (Jvm.Cond.code ({ cls := "BrushGlass$Plan", name := "add", desc := "(III)V" } : Jvm.MethodName) prog_14_method_5_code (4 : Nat) (Option.none : Option Jvm.ClassFile.FieldType)) ∈ lw_all := lw_g (lw_at lw_m7 95 rfl) rfl
theorem q1665 : (Jvm.Cond.methodLink "BrushGlass$Plan" (64 : Nat) ({ cls := "BrushGlass$Move", name := "be", desc := "(III)V" } : Jvm.MethodName)) ∈ lw_all := lw_g (lw_at lw_m7 96 rfl) rfl
theorem q1675 : (Jvm.Cond.instanceMethod ({ cls := "BrushGlass$Plan", name := "draw", desc := "()I" } : Jvm.MethodName)) ∈ lw_all := lw_g (lw_at lw_m7 106 rfl) rfl
theorem q1676 : (Jvm.Cond.selects "BrushGlass$Plan" ({ cls := "BrushGlass$Plan", name := "draw", desc := "()I" } : Jvm.MethodName) ({ cls := "BrushGlass$Plan", name := "draw", desc := "()I" } : Jvm.MethodName)) ∈ lw_all := lw_g (lw_at lw_m7 107 rfl) rfl
theorem q1677 : (Jvm.Cond.code ({ cls := "BrushGlass$Plan", name := "draw", desc := "()I" } : Jvm.MethodName) prog_14_method_6_code (1 : Nat) (Option.some Jvm.ClassFile.FieldType.int)) ∈ lw_all := lw_g (lw_at lw_m7 108 rfl) rfl
theorem q1678 : (Jvm.Cond.constant "BrushGlass$Plan" (68 : Nat) (65537 : Int32)) ∈ lw_all := lw_g (lw_at lw_m7 109 rfl) rfl
theorem q2594 : (Jvm.Cond.castable "BrushGlass$Plan" "java/lang/Object") ∈ lw_tbl := lw_at lw_m11 65 rfl
theorem in_X4 : ∀ w ∈ wsX40, w ∈ lw_all := lw_in wsX40 [330, 332, 334, 336, 338, 340] (by decide +kernel) (by decide +kernel)

/-! BrushGlass$Move -/
set_option maxRecDepth 100000
def RX5 : String := "BrushGlass$Move"
def TX5 : u_T := fun k => match k with
  | 0 => ("BrushGlass$Move", "day", "I", false)
  | 1 => ("BrushGlass$Move", "place", "I", false)
  | _ => ("BrushGlass$Move", "other", "I", false)
def tyX5 : Nat → FieldType := fun k => match k with
  | 0 => .int
  | 1 => .int
  | _ => .int
abbrev wsX50 : List Cond := u_ws RX5 TX5 3
theorem nmX5 : ∀ a, a < 3 → ∀ b, b < 3 → a ≠ b → (TX5 a).2.1 ≠ (TX5 b).2.1 := by decide +kernel
theorem tyX5_ok : ∀ k, k < 3 → parseFieldDescriptor (TX5 k).2.2.1 = some (tyX5 k) := by decide +kernel
abbrev cX5_init : ByteArray := prog_11_method_1_code
def yX5_init : MethodName := ⟨RX5, "<init>", "()V"⟩
theorem dX5_init_0 : decode cX5_init 0 = .ok (.aload_n 0, 1) := by decide +kernel
theorem dX5_init_1 : decode cX5_init 1 = .ok (.invokespecial 1, 3) := by decide +kernel
theorem dX5_init_4 : decode cX5_init 4 = .ok (.return_, 1) := by decide +kernel
abbrev cX5_be : ByteArray := prog_11_method_2_code
def yX5_be : MethodName := ⟨RX5, "be", "(III)V"⟩
def dkwX5_be_0 : List UInt8 := [42, 27, 181, 0, 7, 42, 28, 181, 0, 13, 42, 29, 181, 0, 16, 177]
abbrev dktX5_be_0 : List UInt8 := dkwX5_be_0 ++ []
theorem dksX5_be_0 : cX5_be.data.toList.drop 0 = dktX5_be_0 := by decide +kernel
theorem dX5_be_0 : decode cX5_be 0 = .ok (.aload_n 0, 1) := dk_42 (dk_at dksX5_be_0 0 rfl rfl)
theorem dX5_be_1 : decode cX5_be 1 = .ok (.iload_n 1, 1) := dk_27 (dk_at dksX5_be_0 1 rfl rfl)
theorem dX5_be_2 : decode cX5_be 2 = .ok (.putfield 7, 3) := dk_181 0 7 (dk_at dksX5_be_0 2 rfl rfl)
theorem dX5_be_5 : decode cX5_be 5 = .ok (.aload_n 0, 1) := dk_42 (dk_at dksX5_be_0 5 rfl rfl)
theorem dX5_be_6 : decode cX5_be 6 = .ok (.iload_n 2, 1) := dk_28 (dk_at dksX5_be_0 6 rfl rfl)
theorem dX5_be_7 : decode cX5_be 7 = .ok (.putfield 13, 3) := dk_181 0 13 (dk_at dksX5_be_0 7 rfl rfl)
theorem dX5_be_10 : decode cX5_be 10 = .ok (.aload_n 0, 1) := dk_42 (dk_at dksX5_be_0 10 rfl rfl)
theorem dX5_be_11 : decode cX5_be 11 = .ok (.iload_n 3, 1) := dk_29 (dk_at dksX5_be_0 11 rfl rfl)
theorem dX5_be_12 : decode cX5_be 12 = .ok (.putfield 16, 3) := dk_181 0 16 (dk_at dksX5_be_0 12 rfl rfl)
theorem dX5_be_15 : decode cX5_be 15 = .ok (.return_, 1) := dk_177 (dk_at dksX5_be_0 15 rfl rfl)
abbrev cX5_become : ByteArray := prog_11_method_3_code
def yX5_become : MethodName := ⟨RX5, "become", "(LBrushGlass$Move;)V"⟩
def dkwX5_become_0 : List UInt8 := [42, 43, 180, 0, 7, 43, 180, 0, 13, 43, 180, 0, 16, 182, 0, 19, 177]
abbrev dktX5_become_0 : List UInt8 := dkwX5_become_0 ++ []
theorem dksX5_become_0 : cX5_become.data.toList.drop 0 = dktX5_become_0 := by decide +kernel
theorem dX5_become_0 : decode cX5_become 0 = .ok (.aload_n 0, 1) := dk_42 (dk_at dksX5_become_0 0 rfl rfl)
theorem dX5_become_1 : decode cX5_become 1 = .ok (.aload_n 1, 1) := dk_43 (dk_at dksX5_become_0 1 rfl rfl)
theorem dX5_become_2 : decode cX5_become 2 = .ok (.getfield 7, 3) := dk_180 0 7 (dk_at dksX5_become_0 2 rfl rfl)
theorem dX5_become_5 : decode cX5_become 5 = .ok (.aload_n 1, 1) := dk_43 (dk_at dksX5_become_0 5 rfl rfl)
theorem dX5_become_6 : decode cX5_become 6 = .ok (.getfield 13, 3) := dk_180 0 13 (dk_at dksX5_become_0 6 rfl rfl)
theorem dX5_become_9 : decode cX5_become 9 = .ok (.aload_n 1, 1) := dk_43 (dk_at dksX5_become_0 9 rfl rfl)
theorem dX5_become_10 : decode cX5_become 10 = .ok (.getfield 16, 3) := dk_180 0 16 (dk_at dksX5_become_0 10 rfl rfl)
theorem dX5_become_13 : decode cX5_become 13 = .ok (.invokevirtual 19, 3) := dk_182 0 19 (dk_at dksX5_become_0 13 rfl rfl)
theorem dX5_become_16 : decode cX5_become 16 = .ok (.return_, 1) := dk_177 (dk_at dksX5_become_0 16 rfl rfl)
theorem q137 : (Jvm.Cond.initialized "BrushGlass$Move") ∈ lw_all := lw_g (lw_at lw_m1 8 rfl) rfl
theorem q293 : (Jvm.Cond.instantiable "BrushGlass$Move" (3 : Nat)) ∈ lw_all := lw_g (lw_at lw_m1 164 rfl) rfl
theorem q295 : (Jvm.Cond.instanceMethod ({ cls := "BrushGlass$Move", name := "<init>", desc := "()V" } : Jvm.MethodName)) ∈ lw_all := lw_g (lw_at lw_m1 166 rfl) rfl
theorem q296 : (Jvm.Cond.code ({ cls := "BrushGlass$Move", name := "<init>", desc := "()V" } : Jvm.MethodName) prog_11_method_1_code (1 : Nat) (Option.none : Option Jvm.ClassFile.FieldType)) ∈ lw_all := lw_g (lw_at lw_m1 167 rfl) rfl
theorem q297 : (Jvm.Cond.methodLink "BrushGlass$Move" (1 : Nat) ({ cls := "java/lang/Object", name := "<init>", desc := "()V" } : Jvm.MethodName)) ∈ lw_all := lw_g (lw_at lw_m1 168 rfl) rfl
theorem q298 : (Jvm.Cond.fieldLink "BrushGlass$Move" (7 : Nat) "BrushGlass$Move" "day" "I") ∈ lw_all := lw_g (lw_at lw_m1 169 rfl) rfl
theorem q301 : (Jvm.Cond.fieldLink "BrushGlass$Move" (13 : Nat) "BrushGlass$Move" "place" "I") ∈ lw_all := lw_g (lw_at lw_m1 172 rfl) rfl
theorem q304 : (Jvm.Cond.fieldLink "BrushGlass$Move" (16 : Nat) "BrushGlass$Move" "other" "I") ∈ lw_all := lw_g (lw_at lw_m1 175 rfl) rfl
theorem q307 : (Jvm.Cond.lays "BrushGlass$Move" "BrushGlass$Move" "day" "I") ∈ lw_all := lw_g (lw_at lw_m1 178 rfl) rfl
theorem q308 : (Jvm.Cond.soleField "BrushGlass$Move" "day") ∈ lw_all := lw_g (lw_at lw_m1 179 rfl) rfl
theorem q309 : (Jvm.Cond.lays "BrushGlass$Move" "BrushGlass$Move" "place" "I") ∈ lw_all := lw_g (lw_at lw_m1 180 rfl) rfl
theorem q310 : (Jvm.Cond.soleField "BrushGlass$Move" "place") ∈ lw_all := lw_g (lw_at lw_m1 181 rfl) rfl
theorem q311 : (Jvm.Cond.lays "BrushGlass$Move" "BrushGlass$Move" "other" "I") ∈ lw_all := lw_g (lw_at lw_m1 182 rfl) rfl
theorem q312 : (Jvm.Cond.soleField "BrushGlass$Move" "other") ∈ lw_all := lw_g (lw_at lw_m1 183 rfl) rfl
theorem q313 : (Jvm.Cond.superclass "BrushGlass$Move" "java/lang/Object") ∈ lw_all := lw_g (lw_at lw_m1 184 rfl) rfl
theorem q1095 : (Jvm.Cond.instanceMethod ({ cls := "BrushGlass$Move", name := "be", desc := "(III)V" } : Jvm.MethodName)) ∈ lw_all := lw_g (lw_at lw_m5 6 rfl) rfl
theorem q1096 : (Jvm.Cond.selects "BrushGlass$Move" ({ cls := "BrushGlass$Move", name := "be", desc := "(III)V" } : Jvm.MethodName) ({ cls := "BrushGlass$Move", name := "be", desc := "(III)V" } : Jvm.MethodName)) ∈ lw_all := lw_g (lw_at lw_m5 7 rfl) rfl
theorem q1097 : (Jvm.Cond.code ({ cls := "BrushGlass$Move", name := "be", desc := "(III)V" } : Jvm.MethodName) prog_11_method_2_code (4 : Nat) (Option.none : Option Jvm.ClassFile.FieldType)) ∈ lw_all := lw_g (lw_at lw_m5 8 rfl) rfl
theorem q1477 : (Jvm.Cond.instanceMethod ({ cls := "BrushGlass$Move", name := "become", desc := "(LBrushGlass$Move;)V" } : Jvm.MethodName)) ∈ lw_all := lw_g (lw_at lw_m6 148 rfl) rfl
theorem q1478 : (Jvm.Cond.selects "BrushGlass$Move" ({ cls := "BrushGlass$Move", name := "become", desc := "(LBrushGlass$Move;)V" } : Jvm.MethodName) ({ cls := "BrushGlass$Move", name := "become", desc := "(LBrushGlass$Move;)V" } : Jvm.MethodName)) ∈ lw_all := lw_g (lw_at lw_m6 149 rfl) rfl
theorem q1479 : (Jvm.Cond.code ({ cls := "BrushGlass$Move", name := "become", desc := "(LBrushGlass$Move;)V" } : Jvm.MethodName) prog_11_method_3_code (2 : Nat) (Option.none : Option Jvm.ClassFile.FieldType)) ∈ lw_all := lw_g (lw_at lw_m6 150 rfl) rfl
theorem q1480 : (Jvm.Cond.methodLink "BrushGlass$Move" (19 : Nat) ({ cls := "BrushGlass$Move", name := "be", desc := "(III)V" } : Jvm.MethodName)) ∈ lw_all := lw_g (lw_at lw_m6 151 rfl) rfl
theorem q2595 : (Jvm.Cond.castable "BrushGlass$Move" "java/lang/Object") ∈ lw_tbl := lw_at lw_m11 66 rfl
theorem in_X5 : ∀ w ∈ wsX50, w ∈ lw_all := lw_in wsX50 [307, 309, 311] (by decide +kernel) (by decide +kernel)

/-! BrushGlass$Month -/
set_option maxRecDepth 100000
def RX6 : String := "BrushGlass$Month"
def TX6 : u_T := fun k => match k with
  | 0 => ("BrushGlass$Month", "habits", "[LBrushGlass$Habit;", true)
  | 1 => ("BrushGlass$Month", "kinds", "[LBrushGlass$Kind;", true)
  | 2 => ("BrushGlass$Month", "brushes", "[LBrushGlass$Brush;", true)
  | 3 => ("BrushGlass$Month", "stands", "[I", true)
  | 4 => ("BrushGlass$Month", "own", "[I", true)
  | 5 => ("BrushGlass$Month", "put", "[I", true)
  | 6 => ("BrushGlass$Month", "evening", "[I", true)
  | 7 => ("BrushGlass$Month", "places", "[I", true)
  | 8 => ("BrushGlass$Month", "uses", "[I", true)
  | 9 => ("BrushGlass$Month", "glass", "LBrushGlass$Glass;", false)
  | 10 => ("BrushGlass$Month", "plan", "LBrushGlass$Plan;", false)
  | 11 => ("BrushGlass$Month", "day", "I", false)
  | _ => ("BrushGlass$Month", "many", "I", false)
def tyX6 : Nat → FieldType := fun k => match k with
  | 0 => .array (.object "BrushGlass$Habit")
  | 1 => .array (.object "BrushGlass$Kind")
  | 2 => .array (.object "BrushGlass$Brush")
  | 3 => .array .int
  | 4 => .array .int
  | 5 => .array .int
  | 6 => .array .int
  | 7 => .array .int
  | 8 => .array .int
  | 9 => .object "BrushGlass$Glass"
  | 10 => .object "BrushGlass$Plan"
  | 11 => .int
  | _ => .int
abbrev wsX60 : List Cond := u_ws RX6 TX6 13
set_option maxRecDepth 100000 in
theorem nmX6 : ∀ a, a < 13 → ∀ b, b < 13 → a ≠ b → (TX6 a).2.1 ≠ (TX6 b).2.1 := by decide +kernel
set_option maxRecDepth 100000 in
theorem tyX6_ok : ∀ k, k < 13 → parseFieldDescriptor (TX6 k).2.2.1 = some (tyX6 k) := by decide +kernel
abbrev cX6_init : ByteArray := prog_10_method_1_code
def yX6_init : MethodName := ⟨RX6, "<init>", "()V"⟩
def dkwX6_init_7 : List UInt8 := [89, 183, 0, 69, 83, 132, 1, 1, 167, 255, 234, 177]
abbrev dktX6_init_7 : List UInt8 := dkwX6_init_7 ++ []
def dkwX6_init_6 : List UInt8 := [17, 0, 210, 188, 10, 181, 0, 66, 3, 60, 27, 16, 90, 162, 0, 22, 42, 180, 0, 46, 27, 187, 0, 44]
abbrev dktX6_init_6 : List UInt8 := dkwX6_init_6 ++ dktX6_init_7
def dkwX6_init_5 : List UInt8 := [181, 0, 57, 42, 17, 0, 240, 188, 10, 181, 0, 60, 42, 17, 0, 210, 188, 10, 181, 0, 63, 42]
abbrev dktX6_init_5 : List UInt8 := dkwX6_init_5 ++ dktX6_init_6
def dkwX6_init_4 : List UInt8 := [181, 0, 46, 42, 16, 8, 188, 10, 181, 0, 50, 42, 16, 7, 188, 10, 181, 0, 54, 42, 16, 7, 188, 10]
abbrev dktX6_init_4 : List UInt8 := dkwX6_init_4 ++ dktX6_init_5
def dkwX6_init_3 : List UInt8 := [89, 183, 0, 36, 83, 89, 6, 187, 0, 37, 89, 183, 0, 39, 83, 181, 0, 40, 42, 16, 90, 189, 0, 44]
abbrev dktX6_init_3 : List UInt8 := dkwX6_init_3 ++ dktX6_init_4
def dkwX6_init_2 : List UInt8 := [3, 187, 0, 28, 89, 183, 0, 30, 83, 89, 4, 187, 0, 31, 89, 183, 0, 33, 83, 89, 5, 187, 0, 34]
abbrev dktX6_init_2 : List UInt8 := dkwX6_init_2 ++ dktX6_init_3
def dkwX6_init_1 : List UInt8 := [89, 183, 0, 16, 83, 89, 5, 187, 0, 17, 89, 183, 0, 19, 83, 181, 0, 20, 42, 7, 189, 0, 26, 89]
abbrev dktX6_init_1 : List UInt8 := dkwX6_init_1 ++ dktX6_init_2
def dkwX6_init_0 : List UInt8 := [42, 183, 0, 3, 42, 6, 189, 0, 9, 89, 3, 187, 0, 11, 89, 183, 0, 13, 83, 89, 4, 187, 0, 14]
abbrev dktX6_init_0 : List UInt8 := dkwX6_init_0 ++ dktX6_init_1
theorem dksX6_init_0 : cX6_init.data.toList.drop 0 = dktX6_init_0 := by decide +kernel
theorem dksX6_init_1 : cX6_init.data.toList.drop 24 = dktX6_init_1 := dk_seg dksX6_init_0 24 rfl rfl
theorem dksX6_init_2 : cX6_init.data.toList.drop 48 = dktX6_init_2 := dk_seg dksX6_init_1 24 rfl rfl
theorem dksX6_init_3 : cX6_init.data.toList.drop 72 = dktX6_init_3 := dk_seg dksX6_init_2 24 rfl rfl
theorem dksX6_init_4 : cX6_init.data.toList.drop 96 = dktX6_init_4 := dk_seg dksX6_init_3 24 rfl rfl
theorem dksX6_init_5 : cX6_init.data.toList.drop 120 = dktX6_init_5 := dk_seg dksX6_init_4 24 rfl rfl
theorem dksX6_init_6 : cX6_init.data.toList.drop 142 = dktX6_init_6 := dk_seg dksX6_init_5 22 rfl rfl
theorem dksX6_init_7 : cX6_init.data.toList.drop 166 = dktX6_init_7 := dk_seg dksX6_init_6 24 rfl rfl
theorem dX6_init_0 : decode cX6_init 0 = .ok (.aload_n 0, 1) := dk_42 (dk_at dksX6_init_0 0 rfl rfl)
theorem dX6_init_1 : decode cX6_init 1 = .ok (.invokespecial 3, 3) := dk_183 0 3 (dk_at dksX6_init_0 1 rfl rfl)
theorem dX6_init_4 : decode cX6_init 4 = .ok (.aload_n 0, 1) := dk_42 (dk_at dksX6_init_0 4 rfl rfl)
theorem dX6_init_5 : decode cX6_init 5 = .ok (.iconst 3, 1) := dk_6 (dk_at dksX6_init_0 5 rfl rfl)
theorem dX6_init_6 : decode cX6_init 6 = .ok (.anewarray 9, 3) := dk_189 0 9 (dk_at dksX6_init_0 6 rfl rfl)
theorem dX6_init_9 : decode cX6_init 9 = .ok (.dup, 1) := dk_89 (dk_at dksX6_init_0 9 rfl rfl)
theorem dX6_init_10 : decode cX6_init 10 = .ok (.iconst 0, 1) := dk_3 (dk_at dksX6_init_0 10 rfl rfl)
theorem dX6_init_11 : decode cX6_init 11 = .ok (.new 11, 3) := dk_187 0 11 (dk_at dksX6_init_0 11 rfl rfl)
theorem dX6_init_14 : decode cX6_init 14 = .ok (.dup, 1) := dk_89 (dk_at dksX6_init_0 14 rfl rfl)
theorem dX6_init_15 : decode cX6_init 15 = .ok (.invokespecial 13, 3) := dk_183 0 13 (dk_at dksX6_init_0 15 rfl rfl)
theorem dX6_init_18 : decode cX6_init 18 = .ok (.aastore, 1) := dk_83 (dk_at dksX6_init_0 18 rfl rfl)
theorem dX6_init_19 : decode cX6_init 19 = .ok (.dup, 1) := dk_89 (dk_at dksX6_init_0 19 rfl rfl)
theorem dX6_init_20 : decode cX6_init 20 = .ok (.iconst 1, 1) := dk_4 (dk_at dksX6_init_0 20 rfl rfl)
theorem dX6_init_21 : decode cX6_init 21 = .ok (.new 14, 3) := dk_187 0 14 (dk_at dksX6_init_0 21 rfl rfl)
theorem dX6_init_24 : decode cX6_init 24 = .ok (.dup, 1) := dk_89 (dk_at dksX6_init_1 0 rfl rfl)
theorem dX6_init_25 : decode cX6_init 25 = .ok (.invokespecial 16, 3) := dk_183 0 16 (dk_at dksX6_init_1 1 rfl rfl)
theorem dX6_init_28 : decode cX6_init 28 = .ok (.aastore, 1) := dk_83 (dk_at dksX6_init_1 4 rfl rfl)
theorem dX6_init_29 : decode cX6_init 29 = .ok (.dup, 1) := dk_89 (dk_at dksX6_init_1 5 rfl rfl)
theorem dX6_init_30 : decode cX6_init 30 = .ok (.iconst 2, 1) := dk_5 (dk_at dksX6_init_1 6 rfl rfl)
theorem dX6_init_31 : decode cX6_init 31 = .ok (.new 17, 3) := dk_187 0 17 (dk_at dksX6_init_1 7 rfl rfl)
theorem dX6_init_34 : decode cX6_init 34 = .ok (.dup, 1) := dk_89 (dk_at dksX6_init_1 10 rfl rfl)
theorem dX6_init_35 : decode cX6_init 35 = .ok (.invokespecial 19, 3) := dk_183 0 19 (dk_at dksX6_init_1 11 rfl rfl)
theorem dX6_init_38 : decode cX6_init 38 = .ok (.aastore, 1) := dk_83 (dk_at dksX6_init_1 14 rfl rfl)
theorem dX6_init_39 : decode cX6_init 39 = .ok (.putfield 20, 3) := dk_181 0 20 (dk_at dksX6_init_1 15 rfl rfl)
theorem dX6_init_42 : decode cX6_init 42 = .ok (.aload_n 0, 1) := dk_42 (dk_at dksX6_init_1 18 rfl rfl)
theorem dX6_init_43 : decode cX6_init 43 = .ok (.iconst 4, 1) := dk_7 (dk_at dksX6_init_1 19 rfl rfl)
theorem dX6_init_44 : decode cX6_init 44 = .ok (.anewarray 26, 3) := dk_189 0 26 (dk_at dksX6_init_1 20 rfl rfl)
theorem dX6_init_47 : decode cX6_init 47 = .ok (.dup, 1) := dk_89 (dk_at dksX6_init_1 23 rfl rfl)
theorem dX6_init_48 : decode cX6_init 48 = .ok (.iconst 0, 1) := dk_3 (dk_at dksX6_init_2 0 rfl rfl)
theorem dX6_init_49 : decode cX6_init 49 = .ok (.new 28, 3) := dk_187 0 28 (dk_at dksX6_init_2 1 rfl rfl)
theorem dX6_init_52 : decode cX6_init 52 = .ok (.dup, 1) := dk_89 (dk_at dksX6_init_2 4 rfl rfl)
theorem dX6_init_53 : decode cX6_init 53 = .ok (.invokespecial 30, 3) := dk_183 0 30 (dk_at dksX6_init_2 5 rfl rfl)
theorem dX6_init_56 : decode cX6_init 56 = .ok (.aastore, 1) := dk_83 (dk_at dksX6_init_2 8 rfl rfl)
theorem dX6_init_57 : decode cX6_init 57 = .ok (.dup, 1) := dk_89 (dk_at dksX6_init_2 9 rfl rfl)
theorem dX6_init_58 : decode cX6_init 58 = .ok (.iconst 1, 1) := dk_4 (dk_at dksX6_init_2 10 rfl rfl)
theorem dX6_init_59 : decode cX6_init 59 = .ok (.new 31, 3) := dk_187 0 31 (dk_at dksX6_init_2 11 rfl rfl)
theorem dX6_init_62 : decode cX6_init 62 = .ok (.dup, 1) := dk_89 (dk_at dksX6_init_2 14 rfl rfl)
theorem dX6_init_63 : decode cX6_init 63 = .ok (.invokespecial 33, 3) := dk_183 0 33 (dk_at dksX6_init_2 15 rfl rfl)
theorem dX6_init_66 : decode cX6_init 66 = .ok (.aastore, 1) := dk_83 (dk_at dksX6_init_2 18 rfl rfl)
theorem dX6_init_67 : decode cX6_init 67 = .ok (.dup, 1) := dk_89 (dk_at dksX6_init_2 19 rfl rfl)
theorem dX6_init_68 : decode cX6_init 68 = .ok (.iconst 2, 1) := dk_5 (dk_at dksX6_init_2 20 rfl rfl)
theorem dX6_init_69 : decode cX6_init 69 = .ok (.new 34, 3) := dk_187 0 34 (dk_at dksX6_init_2 21 rfl rfl)
theorem dX6_init_72 : decode cX6_init 72 = .ok (.dup, 1) := dk_89 (dk_at dksX6_init_3 0 rfl rfl)
theorem dX6_init_73 : decode cX6_init 73 = .ok (.invokespecial 36, 3) := dk_183 0 36 (dk_at dksX6_init_3 1 rfl rfl)
theorem dX6_init_76 : decode cX6_init 76 = .ok (.aastore, 1) := dk_83 (dk_at dksX6_init_3 4 rfl rfl)
theorem dX6_init_77 : decode cX6_init 77 = .ok (.dup, 1) := dk_89 (dk_at dksX6_init_3 5 rfl rfl)
theorem dX6_init_78 : decode cX6_init 78 = .ok (.iconst 3, 1) := dk_6 (dk_at dksX6_init_3 6 rfl rfl)
theorem dX6_init_79 : decode cX6_init 79 = .ok (.new 37, 3) := dk_187 0 37 (dk_at dksX6_init_3 7 rfl rfl)
theorem dX6_init_82 : decode cX6_init 82 = .ok (.dup, 1) := dk_89 (dk_at dksX6_init_3 10 rfl rfl)
theorem dX6_init_83 : decode cX6_init 83 = .ok (.invokespecial 39, 3) := dk_183 0 39 (dk_at dksX6_init_3 11 rfl rfl)
theorem dX6_init_86 : decode cX6_init 86 = .ok (.aastore, 1) := dk_83 (dk_at dksX6_init_3 14 rfl rfl)
theorem dX6_init_87 : decode cX6_init 87 = .ok (.putfield 40, 3) := dk_181 0 40 (dk_at dksX6_init_3 15 rfl rfl)
theorem dX6_init_90 : decode cX6_init 90 = .ok (.aload_n 0, 1) := dk_42 (dk_at dksX6_init_3 18 rfl rfl)
theorem dX6_init_91 : decode cX6_init 91 = .ok (.bipush 90, 2) := dk_16 90 (dk_at dksX6_init_3 19 rfl rfl)
theorem dX6_init_93 : decode cX6_init 93 = .ok (.anewarray 44, 3) := dk_189 0 44 (dk_at dksX6_init_3 21 rfl rfl)
theorem dX6_init_96 : decode cX6_init 96 = .ok (.putfield 46, 3) := dk_181 0 46 (dk_at dksX6_init_4 0 rfl rfl)
theorem dX6_init_99 : decode cX6_init 99 = .ok (.aload_n 0, 1) := dk_42 (dk_at dksX6_init_4 3 rfl rfl)
theorem dX6_init_100 : decode cX6_init 100 = .ok (.bipush 8, 2) := dk_16 8 (dk_at dksX6_init_4 4 rfl rfl)
theorem dX6_init_102 : decode cX6_init 102 = .ok (.newarray .int, 2) := dk_188_10 (dk_at dksX6_init_4 6 rfl rfl)
theorem dX6_init_104 : decode cX6_init 104 = .ok (.putfield 50, 3) := dk_181 0 50 (dk_at dksX6_init_4 8 rfl rfl)
theorem dX6_init_107 : decode cX6_init 107 = .ok (.aload_n 0, 1) := dk_42 (dk_at dksX6_init_4 11 rfl rfl)
theorem dX6_init_108 : decode cX6_init 108 = .ok (.bipush 7, 2) := dk_16 7 (dk_at dksX6_init_4 12 rfl rfl)
theorem dX6_init_110 : decode cX6_init 110 = .ok (.newarray .int, 2) := dk_188_10 (dk_at dksX6_init_4 14 rfl rfl)
theorem dX6_init_112 : decode cX6_init 112 = .ok (.putfield 54, 3) := dk_181 0 54 (dk_at dksX6_init_4 16 rfl rfl)
theorem dX6_init_115 : decode cX6_init 115 = .ok (.aload_n 0, 1) := dk_42 (dk_at dksX6_init_4 19 rfl rfl)
theorem dX6_init_116 : decode cX6_init 116 = .ok (.bipush 7, 2) := dk_16 7 (dk_at dksX6_init_4 20 rfl rfl)
theorem dX6_init_118 : decode cX6_init 118 = .ok (.newarray .int, 2) := dk_188_10 (dk_at dksX6_init_4 22 rfl rfl)
theorem dX6_init_120 : decode cX6_init 120 = .ok (.putfield 57, 3) := dk_181 0 57 (dk_at dksX6_init_5 0 rfl rfl)
theorem dX6_init_123 : decode cX6_init 123 = .ok (.aload_n 0, 1) := dk_42 (dk_at dksX6_init_5 3 rfl rfl)
theorem dX6_init_124 : decode cX6_init 124 = .ok (.sipush 240, 3) := dk_17 0 240 (dk_at dksX6_init_5 4 rfl rfl)
theorem dX6_init_127 : decode cX6_init 127 = .ok (.newarray .int, 2) := dk_188_10 (dk_at dksX6_init_5 7 rfl rfl)
theorem dX6_init_129 : decode cX6_init 129 = .ok (.putfield 60, 3) := dk_181 0 60 (dk_at dksX6_init_5 9 rfl rfl)
theorem dX6_init_132 : decode cX6_init 132 = .ok (.aload_n 0, 1) := dk_42 (dk_at dksX6_init_5 12 rfl rfl)
theorem dX6_init_133 : decode cX6_init 133 = .ok (.sipush 210, 3) := dk_17 0 210 (dk_at dksX6_init_5 13 rfl rfl)
theorem dX6_init_136 : decode cX6_init 136 = .ok (.newarray .int, 2) := dk_188_10 (dk_at dksX6_init_5 16 rfl rfl)
theorem dX6_init_138 : decode cX6_init 138 = .ok (.putfield 63, 3) := dk_181 0 63 (dk_at dksX6_init_5 18 rfl rfl)
theorem dX6_init_141 : decode cX6_init 141 = .ok (.aload_n 0, 1) := dk_42 (dk_at dksX6_init_5 21 rfl rfl)
theorem dX6_init_142 : decode cX6_init 142 = .ok (.sipush 210, 3) := dk_17 0 210 (dk_at dksX6_init_6 0 rfl rfl)
theorem dX6_init_145 : decode cX6_init 145 = .ok (.newarray .int, 2) := dk_188_10 (dk_at dksX6_init_6 3 rfl rfl)
theorem dX6_init_147 : decode cX6_init 147 = .ok (.putfield 66, 3) := dk_181 0 66 (dk_at dksX6_init_6 5 rfl rfl)
theorem dX6_init_150 : decode cX6_init 150 = .ok (.iconst 0, 1) := dk_3 (dk_at dksX6_init_6 8 rfl rfl)
theorem dX6_init_151 : decode cX6_init 151 = .ok (.istore_n 1, 1) := dk_60 (dk_at dksX6_init_6 9 rfl rfl)
theorem dX6_init_152 : decode cX6_init 152 = .ok (.iload_n 1, 1) := dk_27 (dk_at dksX6_init_6 10 rfl rfl)
theorem dX6_init_153 : decode cX6_init 153 = .ok (.bipush 90, 2) := dk_16 90 (dk_at dksX6_init_6 11 rfl rfl)
theorem dX6_init_155 : decode cX6_init 155 = .ok (.if_icmp .ge 22, 3) := dk_162 0 22 (dk_at dksX6_init_6 13 rfl rfl)
theorem dX6_init_158 : decode cX6_init 158 = .ok (.aload_n 0, 1) := dk_42 (dk_at dksX6_init_6 16 rfl rfl)
theorem dX6_init_159 : decode cX6_init 159 = .ok (.getfield 46, 3) := dk_180 0 46 (dk_at dksX6_init_6 17 rfl rfl)
theorem dX6_init_162 : decode cX6_init 162 = .ok (.iload_n 1, 1) := dk_27 (dk_at dksX6_init_6 20 rfl rfl)
theorem dX6_init_163 : decode cX6_init 163 = .ok (.new 44, 3) := dk_187 0 44 (dk_at dksX6_init_6 21 rfl rfl)
theorem dX6_init_166 : decode cX6_init 166 = .ok (.dup, 1) := dk_89 (dk_at dksX6_init_7 0 rfl rfl)
theorem dX6_init_167 : decode cX6_init 167 = .ok (.invokespecial 69, 3) := dk_183 0 69 (dk_at dksX6_init_7 1 rfl rfl)
theorem dX6_init_170 : decode cX6_init 170 = .ok (.aastore, 1) := dk_83 (dk_at dksX6_init_7 4 rfl rfl)
theorem dX6_init_171 : decode cX6_init 171 = .ok (.iinc 1 1, 3) := dk_132 1 1 (dk_at dksX6_init_7 5 rfl rfl)
theorem dX6_init_174 : decode cX6_init 174 = .ok (.goto (-22), 3) := dk_167 255 234 (dk_at dksX6_init_7 8 rfl rfl)
theorem dX6_init_177 : decode cX6_init 177 = .ok (.return_, 1) := dk_177 (dk_at dksX6_init_7 11 rfl rfl)
abbrev cX6_run : ByteArray := prog_10_method_2_code
def yX6_run : MethodName := ⟨RX6, "run", "(LBrushGlass$Glass;LBrushGlass$Plan;LBrushGlass$Move;)V"⟩
def dkwX6_run_16 : List UInt8 := [167, 255, 208, 42, 89, 180, 0, 82, 4, 96, 181, 0, 82, 167, 254, 200, 177]
abbrev dktX6_run_16 : List UInt8 := dkwX6_run_16 ++ []
def dkwX6_run_15 : List UInt8 := [43, 180, 0, 93, 21, 4, 50, 180, 0, 142, 153, 0, 9, 42, 21, 4, 182, 0, 146, 132, 4, 1]
abbrev dktX6_run_15 : List UInt8 := dkwX6_run_15 ++ dktX6_run_16
def dkwX6_run_14 : List UInt8 := [43, 180, 0, 90, 162, 0, 45, 43, 180, 0, 93, 21, 4, 50, 42, 180, 0, 82, 182, 0, 139, 153, 0, 22]
abbrev dktX6_run_14 : List UInt8 := dkwX6_run_14 ++ dktX6_run_15
def dkwX6_run_13 : List UInt8 := [182, 0, 132, 167, 0, 5, 16, 254, 79, 132, 4, 1, 167, 255, 196, 42, 182, 0, 136, 3, 54, 4, 21, 4]
abbrev dktX6_run_13 : List UInt8 := dkwX6_run_13 ++ dktX6_run_14
def dkwX6_run_12 : List UInt8 := [180, 0, 93, 21, 4, 50, 42, 180, 0, 82, 182, 0, 106, 153, 0, 17, 42, 43, 180, 0, 93, 21, 4, 50]
abbrev dktX6_run_12 : List UInt8 := dkwX6_run_12 ++ dktX6_run_13
def dkwX6_run_11 : List UInt8 := [21, 4, 43, 180, 0, 90, 162, 0, 57, 42, 180, 0, 66, 16, 7, 42, 180, 0, 82, 104, 21, 4, 96, 43]
abbrev dktX6_run_11 : List UInt8 := dkwX6_run_11 ++ dktX6_run_12
def dkwX6_run_10 : List UInt8 := [182, 0, 128, 182, 0, 122, 132, 4, 1, 167, 255, 234, 45, 198, 0, 8, 42, 45, 182, 0, 122, 3, 54, 4]
abbrev dktX6_run_10 : List UInt8 := dkwX6_run_10 ++ dktX6_run_11
def dkwX6_run_9 : List UInt8 := [132, 4, 1, 167, 255, 233, 3, 54, 4, 21, 4, 44, 180, 0, 125, 162, 0, 19, 42, 44, 21, 4]
abbrev dktX6_run_9 : List UInt8 := dkwX6_run_9 ++ dktX6_run_10
def dkwX6_run_8 : List UInt8 := [54, 4, 21, 4, 43, 180, 0, 115, 162, 0, 20, 42, 43, 180, 0, 118, 21, 4, 50, 182, 0, 122]
abbrev dktX6_run_8 : List UInt8 := dkwX6_run_8 ++ dktX6_run_9
def dkwX6_run_7 : List UInt8 := [182, 0, 109, 153, 0, 14, 42, 43, 180, 0, 93, 21, 4, 50, 182, 0, 112, 132, 4, 1, 167, 255, 207, 3]
abbrev dktX6_run_7 : List UInt8 := dkwX6_run_7 ++ dktX6_run_8
def dkwX6_run_6 : List UInt8 := [162, 0, 46, 43, 180, 0, 93, 21, 4, 50, 42, 180, 0, 82, 182, 0, 106, 153, 0, 23, 42, 21, 4]
abbrev dktX6_run_6 : List UInt8 := dkwX6_run_6 ++ dktX6_run_7
def dkwX6_run_5 : List UInt8 := [180, 0, 93, 21, 4, 50, 182, 0, 103, 132, 4, 1, 167, 255, 216, 3, 54, 4, 21, 4, 43, 180, 0, 90]
abbrev dktX6_run_5 : List UInt8 := dkwX6_run_5 ++ dktX6_run_6
def dkwX6_run_4 : List UInt8 := [162, 0, 37, 43, 180, 0, 93, 21, 4, 50, 42, 180, 0, 82, 182, 0, 97, 153, 0, 14, 42, 43]
abbrev dktX6_run_4 : List UInt8 := dkwX6_run_4 ++ dktX6_run_5
def dkwX6_run_3 : List UInt8 := [181, 0, 82, 42, 180, 0, 82, 43, 180, 0, 85, 162, 1, 51, 3, 54, 4, 21, 4, 43, 180, 0, 90]
abbrev dktX6_run_3 : List UInt8 := dkwX6_run_3 ++ dktX6_run_4
def dkwX6_run_2 : List UInt8 := [16, 7, 162, 0, 18, 42, 180, 0, 54, 21, 4, 16, 254, 79, 132, 4, 1, 167, 255, 237, 42, 3]
abbrev dktX6_run_2 : List UInt8 := dkwX6_run_2 ++ dktX6_run_3
def dkwX6_run_1 : List UInt8 := [162, 0, 18, 42, 180, 0, 50, 21, 4, 16, 254, 79, 132, 4, 1, 167, 255, 237, 3, 54, 4, 21, 4]
abbrev dktX6_run_1 : List UInt8 := dkwX6_run_1 ++ dktX6_run_2
def dkwX6_run_0 : List UInt8 := [42, 43, 181, 0, 70, 42, 44, 181, 0, 74, 42, 3, 181, 0, 78, 3, 54, 4, 21, 4, 16, 8]
abbrev dktX6_run_0 : List UInt8 := dkwX6_run_0 ++ dktX6_run_1
theorem dksX6_run_0 : cX6_run.data.toList.drop 0 = dktX6_run_0 := by decide +kernel
theorem dksX6_run_1 : cX6_run.data.toList.drop 22 = dktX6_run_1 := dk_seg dksX6_run_0 22 rfl rfl
theorem dksX6_run_2 : cX6_run.data.toList.drop 45 = dktX6_run_2 := dk_seg dksX6_run_1 23 rfl rfl
theorem dksX6_run_3 : cX6_run.data.toList.drop 67 = dktX6_run_3 := dk_seg dksX6_run_2 22 rfl rfl
theorem dksX6_run_4 : cX6_run.data.toList.drop 90 = dktX6_run_4 := dk_seg dksX6_run_3 23 rfl rfl
theorem dksX6_run_5 : cX6_run.data.toList.drop 112 = dktX6_run_5 := dk_seg dksX6_run_4 22 rfl rfl
theorem dksX6_run_6 : cX6_run.data.toList.drop 136 = dktX6_run_6 := dk_seg dksX6_run_5 24 rfl rfl
theorem dksX6_run_7 : cX6_run.data.toList.drop 159 = dktX6_run_7 := dk_seg dksX6_run_6 23 rfl rfl
theorem dksX6_run_8 : cX6_run.data.toList.drop 183 = dktX6_run_8 := dk_seg dksX6_run_7 24 rfl rfl
theorem dksX6_run_9 : cX6_run.data.toList.drop 205 = dktX6_run_9 := dk_seg dksX6_run_8 22 rfl rfl
theorem dksX6_run_10 : cX6_run.data.toList.drop 227 = dktX6_run_10 := dk_seg dksX6_run_9 22 rfl rfl
theorem dksX6_run_11 : cX6_run.data.toList.drop 251 = dktX6_run_11 := dk_seg dksX6_run_10 24 rfl rfl
theorem dksX6_run_12 : cX6_run.data.toList.drop 275 = dktX6_run_12 := dk_seg dksX6_run_11 24 rfl rfl
theorem dksX6_run_13 : cX6_run.data.toList.drop 299 = dktX6_run_13 := dk_seg dksX6_run_12 24 rfl rfl
theorem dksX6_run_14 : cX6_run.data.toList.drop 323 = dktX6_run_14 := dk_seg dksX6_run_13 24 rfl rfl
theorem dksX6_run_15 : cX6_run.data.toList.drop 347 = dktX6_run_15 := dk_seg dksX6_run_14 24 rfl rfl
theorem dksX6_run_16 : cX6_run.data.toList.drop 369 = dktX6_run_16 := dk_seg dksX6_run_15 22 rfl rfl
theorem dX6_run_0 : decode cX6_run 0 = .ok (.aload_n 0, 1) := dk_42 (dk_at dksX6_run_0 0 rfl rfl)
theorem dX6_run_1 : decode cX6_run 1 = .ok (.aload_n 1, 1) := dk_43 (dk_at dksX6_run_0 1 rfl rfl)
theorem dX6_run_2 : decode cX6_run 2 = .ok (.putfield 70, 3) := dk_181 0 70 (dk_at dksX6_run_0 2 rfl rfl)
theorem dX6_run_5 : decode cX6_run 5 = .ok (.aload_n 0, 1) := dk_42 (dk_at dksX6_run_0 5 rfl rfl)
theorem dX6_run_6 : decode cX6_run 6 = .ok (.aload_n 2, 1) := dk_44 (dk_at dksX6_run_0 6 rfl rfl)
theorem dX6_run_7 : decode cX6_run 7 = .ok (.putfield 74, 3) := dk_181 0 74 (dk_at dksX6_run_0 7 rfl rfl)
theorem dX6_run_10 : decode cX6_run 10 = .ok (.aload_n 0, 1) := dk_42 (dk_at dksX6_run_0 10 rfl rfl)
theorem dX6_run_11 : decode cX6_run 11 = .ok (.iconst 0, 1) := dk_3 (dk_at dksX6_run_0 11 rfl rfl)
theorem dX6_run_12 : decode cX6_run 12 = .ok (.putfield 78, 3) := dk_181 0 78 (dk_at dksX6_run_0 12 rfl rfl)
theorem dX6_run_15 : decode cX6_run 15 = .ok (.iconst 0, 1) := dk_3 (dk_at dksX6_run_0 15 rfl rfl)
theorem dX6_run_16 : decode cX6_run 16 = .ok (.istore 4, 2) := dk_54 4 (dk_at dksX6_run_0 16 rfl rfl)
theorem dX6_run_18 : decode cX6_run 18 = .ok (.iload 4, 2) := dk_21 4 (dk_at dksX6_run_0 18 rfl rfl)
theorem dX6_run_20 : decode cX6_run 20 = .ok (.bipush 8, 2) := dk_16 8 (dk_at dksX6_run_0 20 rfl rfl)
theorem dX6_run_22 : decode cX6_run 22 = .ok (.if_icmp .ge 18, 3) := dk_162 0 18 (dk_at dksX6_run_1 0 rfl rfl)
theorem dX6_run_25 : decode cX6_run 25 = .ok (.aload_n 0, 1) := dk_42 (dk_at dksX6_run_1 3 rfl rfl)
theorem dX6_run_26 : decode cX6_run 26 = .ok (.getfield 50, 3) := dk_180 0 50 (dk_at dksX6_run_1 4 rfl rfl)
theorem dX6_run_29 : decode cX6_run 29 = .ok (.iload 4, 2) := dk_21 4 (dk_at dksX6_run_1 7 rfl rfl)
theorem dX6_run_31 : decode cX6_run 31 = .ok (.bipush (-2), 2) := dk_16 254 (dk_at dksX6_run_1 9 rfl rfl)
theorem dX6_run_33 : decode cX6_run 33 = .ok (.iastore, 1) := dk_79 (dk_at dksX6_run_1 11 rfl rfl)
theorem dX6_run_34 : decode cX6_run 34 = .ok (.iinc 4 1, 3) := dk_132 4 1 (dk_at dksX6_run_1 12 rfl rfl)
theorem dX6_run_37 : decode cX6_run 37 = .ok (.goto (-19), 3) := dk_167 255 237 (dk_at dksX6_run_1 15 rfl rfl)
theorem dX6_run_40 : decode cX6_run 40 = .ok (.iconst 0, 1) := dk_3 (dk_at dksX6_run_1 18 rfl rfl)
theorem dX6_run_41 : decode cX6_run 41 = .ok (.istore 4, 2) := dk_54 4 (dk_at dksX6_run_1 19 rfl rfl)
theorem dX6_run_43 : decode cX6_run 43 = .ok (.iload 4, 2) := dk_21 4 (dk_at dksX6_run_1 21 rfl rfl)
theorem dX6_run_45 : decode cX6_run 45 = .ok (.bipush 7, 2) := dk_16 7 (dk_at dksX6_run_2 0 rfl rfl)
theorem dX6_run_47 : decode cX6_run 47 = .ok (.if_icmp .ge 18, 3) := dk_162 0 18 (dk_at dksX6_run_2 2 rfl rfl)
theorem dX6_run_50 : decode cX6_run 50 = .ok (.aload_n 0, 1) := dk_42 (dk_at dksX6_run_2 5 rfl rfl)
theorem dX6_run_51 : decode cX6_run 51 = .ok (.getfield 54, 3) := dk_180 0 54 (dk_at dksX6_run_2 6 rfl rfl)
theorem dX6_run_54 : decode cX6_run 54 = .ok (.iload 4, 2) := dk_21 4 (dk_at dksX6_run_2 9 rfl rfl)
theorem dX6_run_56 : decode cX6_run 56 = .ok (.bipush (-2), 2) := dk_16 254 (dk_at dksX6_run_2 11 rfl rfl)
theorem dX6_run_58 : decode cX6_run 58 = .ok (.iastore, 1) := dk_79 (dk_at dksX6_run_2 13 rfl rfl)
theorem dX6_run_59 : decode cX6_run 59 = .ok (.iinc 4 1, 3) := dk_132 4 1 (dk_at dksX6_run_2 14 rfl rfl)
theorem dX6_run_62 : decode cX6_run 62 = .ok (.goto (-19), 3) := dk_167 255 237 (dk_at dksX6_run_2 17 rfl rfl)
theorem dX6_run_65 : decode cX6_run 65 = .ok (.aload_n 0, 1) := dk_42 (dk_at dksX6_run_2 20 rfl rfl)
theorem dX6_run_66 : decode cX6_run 66 = .ok (.iconst 0, 1) := dk_3 (dk_at dksX6_run_2 21 rfl rfl)
theorem dX6_run_67 : decode cX6_run 67 = .ok (.putfield 82, 3) := dk_181 0 82 (dk_at dksX6_run_3 0 rfl rfl)
theorem dX6_run_70 : decode cX6_run 70 = .ok (.aload_n 0, 1) := dk_42 (dk_at dksX6_run_3 3 rfl rfl)
theorem dX6_run_71 : decode cX6_run 71 = .ok (.getfield 82, 3) := dk_180 0 82 (dk_at dksX6_run_3 4 rfl rfl)
theorem dX6_run_74 : decode cX6_run 74 = .ok (.aload_n 1, 1) := dk_43 (dk_at dksX6_run_3 7 rfl rfl)
theorem dX6_run_75 : decode cX6_run 75 = .ok (.getfield 85, 3) := dk_180 0 85 (dk_at dksX6_run_3 8 rfl rfl)
theorem dX6_run_78 : decode cX6_run 78 = .ok (.if_icmp .ge 307, 3) := dk_162 1 51 (dk_at dksX6_run_3 11 rfl rfl)
theorem dX6_run_81 : decode cX6_run 81 = .ok (.iconst 0, 1) := dk_3 (dk_at dksX6_run_3 14 rfl rfl)
theorem dX6_run_82 : decode cX6_run 82 = .ok (.istore 4, 2) := dk_54 4 (dk_at dksX6_run_3 15 rfl rfl)
theorem dX6_run_84 : decode cX6_run 84 = .ok (.iload 4, 2) := dk_21 4 (dk_at dksX6_run_3 17 rfl rfl)
theorem dX6_run_86 : decode cX6_run 86 = .ok (.aload_n 1, 1) := dk_43 (dk_at dksX6_run_3 19 rfl rfl)
theorem dX6_run_87 : decode cX6_run 87 = .ok (.getfield 90, 3) := dk_180 0 90 (dk_at dksX6_run_3 20 rfl rfl)
theorem dX6_run_90 : decode cX6_run 90 = .ok (.if_icmp .ge 37, 3) := dk_162 0 37 (dk_at dksX6_run_4 0 rfl rfl)
theorem dX6_run_93 : decode cX6_run 93 = .ok (.aload_n 1, 1) := dk_43 (dk_at dksX6_run_4 3 rfl rfl)
theorem dX6_run_94 : decode cX6_run 94 = .ok (.getfield 93, 3) := dk_180 0 93 (dk_at dksX6_run_4 4 rfl rfl)
theorem dX6_run_97 : decode cX6_run 97 = .ok (.iload 4, 2) := dk_21 4 (dk_at dksX6_run_4 7 rfl rfl)
theorem dX6_run_99 : decode cX6_run 99 = .ok (.aaload, 1) := dk_50 (dk_at dksX6_run_4 9 rfl rfl)
theorem dX6_run_100 : decode cX6_run 100 = .ok (.aload_n 0, 1) := dk_42 (dk_at dksX6_run_4 10 rfl rfl)
theorem dX6_run_101 : decode cX6_run 101 = .ok (.getfield 82, 3) := dk_180 0 82 (dk_at dksX6_run_4 11 rfl rfl)
theorem dX6_run_104 : decode cX6_run 104 = .ok (.invokevirtual 97, 3) := dk_182 0 97 (dk_at dksX6_run_4 14 rfl rfl)
theorem dX6_run_107 : decode cX6_run 107 = .ok (.ifCond .eq 14, 3) := dk_153 0 14 (dk_at dksX6_run_4 17 rfl rfl)
theorem dX6_run_110 : decode cX6_run 110 = .ok (.aload_n 0, 1) := dk_42 (dk_at dksX6_run_4 20 rfl rfl)
theorem dX6_run_111 : decode cX6_run 111 = .ok (.aload_n 1, 1) := dk_43 (dk_at dksX6_run_4 21 rfl rfl)
theorem dX6_run_112 : decode cX6_run 112 = .ok (.getfield 93, 3) := dk_180 0 93 (dk_at dksX6_run_5 0 rfl rfl)
theorem dX6_run_115 : decode cX6_run 115 = .ok (.iload 4, 2) := dk_21 4 (dk_at dksX6_run_5 3 rfl rfl)
theorem dX6_run_117 : decode cX6_run 117 = .ok (.aaload, 1) := dk_50 (dk_at dksX6_run_5 5 rfl rfl)
theorem dX6_run_118 : decode cX6_run 118 = .ok (.invokevirtual 103, 3) := dk_182 0 103 (dk_at dksX6_run_5 6 rfl rfl)
theorem dX6_run_121 : decode cX6_run 121 = .ok (.iinc 4 1, 3) := dk_132 4 1 (dk_at dksX6_run_5 9 rfl rfl)
theorem dX6_run_124 : decode cX6_run 124 = .ok (.goto (-40), 3) := dk_167 255 216 (dk_at dksX6_run_5 12 rfl rfl)
theorem dX6_run_127 : decode cX6_run 127 = .ok (.iconst 0, 1) := dk_3 (dk_at dksX6_run_5 15 rfl rfl)
theorem dX6_run_128 : decode cX6_run 128 = .ok (.istore 4, 2) := dk_54 4 (dk_at dksX6_run_5 16 rfl rfl)
theorem dX6_run_130 : decode cX6_run 130 = .ok (.iload 4, 2) := dk_21 4 (dk_at dksX6_run_5 18 rfl rfl)
theorem dX6_run_132 : decode cX6_run 132 = .ok (.aload_n 1, 1) := dk_43 (dk_at dksX6_run_5 20 rfl rfl)
theorem dX6_run_133 : decode cX6_run 133 = .ok (.getfield 90, 3) := dk_180 0 90 (dk_at dksX6_run_5 21 rfl rfl)
theorem dX6_run_136 : decode cX6_run 136 = .ok (.if_icmp .ge 46, 3) := dk_162 0 46 (dk_at dksX6_run_6 0 rfl rfl)
theorem dX6_run_139 : decode cX6_run 139 = .ok (.aload_n 1, 1) := dk_43 (dk_at dksX6_run_6 3 rfl rfl)
theorem dX6_run_140 : decode cX6_run 140 = .ok (.getfield 93, 3) := dk_180 0 93 (dk_at dksX6_run_6 4 rfl rfl)
theorem dX6_run_143 : decode cX6_run 143 = .ok (.iload 4, 2) := dk_21 4 (dk_at dksX6_run_6 7 rfl rfl)
theorem dX6_run_145 : decode cX6_run 145 = .ok (.aaload, 1) := dk_50 (dk_at dksX6_run_6 9 rfl rfl)
theorem dX6_run_146 : decode cX6_run 146 = .ok (.aload_n 0, 1) := dk_42 (dk_at dksX6_run_6 10 rfl rfl)
theorem dX6_run_147 : decode cX6_run 147 = .ok (.getfield 82, 3) := dk_180 0 82 (dk_at dksX6_run_6 11 rfl rfl)
theorem dX6_run_150 : decode cX6_run 150 = .ok (.invokevirtual 106, 3) := dk_182 0 106 (dk_at dksX6_run_6 14 rfl rfl)
theorem dX6_run_153 : decode cX6_run 153 = .ok (.ifCond .eq 23, 3) := dk_153 0 23 (dk_at dksX6_run_6 17 rfl rfl)
theorem dX6_run_156 : decode cX6_run 156 = .ok (.aload_n 0, 1) := dk_42 (dk_at dksX6_run_6 20 rfl rfl)
theorem dX6_run_157 : decode cX6_run 157 = .ok (.iload 4, 2) := dk_21 4 (dk_at dksX6_run_6 21 rfl rfl)
theorem dX6_run_159 : decode cX6_run 159 = .ok (.invokevirtual 109, 3) := dk_182 0 109 (dk_at dksX6_run_7 0 rfl rfl)
theorem dX6_run_162 : decode cX6_run 162 = .ok (.ifCond .eq 14, 3) := dk_153 0 14 (dk_at dksX6_run_7 3 rfl rfl)
theorem dX6_run_165 : decode cX6_run 165 = .ok (.aload_n 0, 1) := dk_42 (dk_at dksX6_run_7 6 rfl rfl)
theorem dX6_run_166 : decode cX6_run 166 = .ok (.aload_n 1, 1) := dk_43 (dk_at dksX6_run_7 7 rfl rfl)
theorem dX6_run_167 : decode cX6_run 167 = .ok (.getfield 93, 3) := dk_180 0 93 (dk_at dksX6_run_7 8 rfl rfl)
theorem dX6_run_170 : decode cX6_run 170 = .ok (.iload 4, 2) := dk_21 4 (dk_at dksX6_run_7 11 rfl rfl)
theorem dX6_run_172 : decode cX6_run 172 = .ok (.aaload, 1) := dk_50 (dk_at dksX6_run_7 13 rfl rfl)
theorem dX6_run_173 : decode cX6_run 173 = .ok (.invokevirtual 112, 3) := dk_182 0 112 (dk_at dksX6_run_7 14 rfl rfl)
theorem dX6_run_176 : decode cX6_run 176 = .ok (.iinc 4 1, 3) := dk_132 4 1 (dk_at dksX6_run_7 17 rfl rfl)
theorem dX6_run_179 : decode cX6_run 179 = .ok (.goto (-49), 3) := dk_167 255 207 (dk_at dksX6_run_7 20 rfl rfl)
theorem dX6_run_182 : decode cX6_run 182 = .ok (.iconst 0, 1) := dk_3 (dk_at dksX6_run_7 23 rfl rfl)
theorem dX6_run_183 : decode cX6_run 183 = .ok (.istore 4, 2) := dk_54 4 (dk_at dksX6_run_8 0 rfl rfl)
theorem dX6_run_185 : decode cX6_run 185 = .ok (.iload 4, 2) := dk_21 4 (dk_at dksX6_run_8 2 rfl rfl)
theorem dX6_run_187 : decode cX6_run 187 = .ok (.aload_n 1, 1) := dk_43 (dk_at dksX6_run_8 4 rfl rfl)
theorem dX6_run_188 : decode cX6_run 188 = .ok (.getfield 115, 3) := dk_180 0 115 (dk_at dksX6_run_8 5 rfl rfl)
theorem dX6_run_191 : decode cX6_run 191 = .ok (.if_icmp .ge 20, 3) := dk_162 0 20 (dk_at dksX6_run_8 8 rfl rfl)
theorem dX6_run_194 : decode cX6_run 194 = .ok (.aload_n 0, 1) := dk_42 (dk_at dksX6_run_8 11 rfl rfl)
theorem dX6_run_195 : decode cX6_run 195 = .ok (.aload_n 1, 1) := dk_43 (dk_at dksX6_run_8 12 rfl rfl)
theorem dX6_run_196 : decode cX6_run 196 = .ok (.getfield 118, 3) := dk_180 0 118 (dk_at dksX6_run_8 13 rfl rfl)
theorem dX6_run_199 : decode cX6_run 199 = .ok (.iload 4, 2) := dk_21 4 (dk_at dksX6_run_8 16 rfl rfl)
theorem dX6_run_201 : decode cX6_run 201 = .ok (.aaload, 1) := dk_50 (dk_at dksX6_run_8 18 rfl rfl)
theorem dX6_run_202 : decode cX6_run 202 = .ok (.invokevirtual 122, 3) := dk_182 0 122 (dk_at dksX6_run_8 19 rfl rfl)
theorem dX6_run_205 : decode cX6_run 205 = .ok (.iinc 4 1, 3) := dk_132 4 1 (dk_at dksX6_run_9 0 rfl rfl)
theorem dX6_run_208 : decode cX6_run 208 = .ok (.goto (-23), 3) := dk_167 255 233 (dk_at dksX6_run_9 3 rfl rfl)
theorem dX6_run_211 : decode cX6_run 211 = .ok (.iconst 0, 1) := dk_3 (dk_at dksX6_run_9 6 rfl rfl)
theorem dX6_run_212 : decode cX6_run 212 = .ok (.istore 4, 2) := dk_54 4 (dk_at dksX6_run_9 7 rfl rfl)
theorem dX6_run_214 : decode cX6_run 214 = .ok (.iload 4, 2) := dk_21 4 (dk_at dksX6_run_9 9 rfl rfl)
theorem dX6_run_216 : decode cX6_run 216 = .ok (.aload_n 2, 1) := dk_44 (dk_at dksX6_run_9 11 rfl rfl)
theorem dX6_run_217 : decode cX6_run 217 = .ok (.getfield 125, 3) := dk_180 0 125 (dk_at dksX6_run_9 12 rfl rfl)
theorem dX6_run_220 : decode cX6_run 220 = .ok (.if_icmp .ge 19, 3) := dk_162 0 19 (dk_at dksX6_run_9 15 rfl rfl)
theorem dX6_run_223 : decode cX6_run 223 = .ok (.aload_n 0, 1) := dk_42 (dk_at dksX6_run_9 18 rfl rfl)
theorem dX6_run_224 : decode cX6_run 224 = .ok (.aload_n 2, 1) := dk_44 (dk_at dksX6_run_9 19 rfl rfl)
theorem dX6_run_225 : decode cX6_run 225 = .ok (.iload 4, 2) := dk_21 4 (dk_at dksX6_run_9 20 rfl rfl)
theorem dX6_run_227 : decode cX6_run 227 = .ok (.invokevirtual 128, 3) := dk_182 0 128 (dk_at dksX6_run_10 0 rfl rfl)
theorem dX6_run_230 : decode cX6_run 230 = .ok (.invokevirtual 122, 3) := dk_182 0 122 (dk_at dksX6_run_10 3 rfl rfl)
theorem dX6_run_233 : decode cX6_run 233 = .ok (.iinc 4 1, 3) := dk_132 4 1 (dk_at dksX6_run_10 6 rfl rfl)
theorem dX6_run_236 : decode cX6_run 236 = .ok (.goto (-22), 3) := dk_167 255 234 (dk_at dksX6_run_10 9 rfl rfl)
theorem dX6_run_239 : decode cX6_run 239 = .ok (.aload_n 3, 1) := dk_45 (dk_at dksX6_run_10 12 rfl rfl)
theorem dX6_run_240 : decode cX6_run 240 = .ok (.ifnull 8, 3) := dk_198 0 8 (dk_at dksX6_run_10 13 rfl rfl)
theorem dX6_run_243 : decode cX6_run 243 = .ok (.aload_n 0, 1) := dk_42 (dk_at dksX6_run_10 16 rfl rfl)
theorem dX6_run_244 : decode cX6_run 244 = .ok (.aload_n 3, 1) := dk_45 (dk_at dksX6_run_10 17 rfl rfl)
theorem dX6_run_245 : decode cX6_run 245 = .ok (.invokevirtual 122, 3) := dk_182 0 122 (dk_at dksX6_run_10 18 rfl rfl)
theorem dX6_run_248 : decode cX6_run 248 = .ok (.iconst 0, 1) := dk_3 (dk_at dksX6_run_10 21 rfl rfl)
theorem dX6_run_249 : decode cX6_run 249 = .ok (.istore 4, 2) := dk_54 4 (dk_at dksX6_run_10 22 rfl rfl)
theorem dX6_run_251 : decode cX6_run 251 = .ok (.iload 4, 2) := dk_21 4 (dk_at dksX6_run_11 0 rfl rfl)
theorem dX6_run_253 : decode cX6_run 253 = .ok (.aload_n 1, 1) := dk_43 (dk_at dksX6_run_11 2 rfl rfl)
theorem dX6_run_254 : decode cX6_run 254 = .ok (.getfield 90, 3) := dk_180 0 90 (dk_at dksX6_run_11 3 rfl rfl)
theorem dX6_run_257 : decode cX6_run 257 = .ok (.if_icmp .ge 57, 3) := dk_162 0 57 (dk_at dksX6_run_11 6 rfl rfl)
theorem dX6_run_260 : decode cX6_run 260 = .ok (.aload_n 0, 1) := dk_42 (dk_at dksX6_run_11 9 rfl rfl)
theorem dX6_run_261 : decode cX6_run 261 = .ok (.getfield 66, 3) := dk_180 0 66 (dk_at dksX6_run_11 10 rfl rfl)
theorem dX6_run_264 : decode cX6_run 264 = .ok (.bipush 7, 2) := dk_16 7 (dk_at dksX6_run_11 13 rfl rfl)
theorem dX6_run_266 : decode cX6_run 266 = .ok (.aload_n 0, 1) := dk_42 (dk_at dksX6_run_11 15 rfl rfl)
theorem dX6_run_267 : decode cX6_run 267 = .ok (.getfield 82, 3) := dk_180 0 82 (dk_at dksX6_run_11 16 rfl rfl)
theorem dX6_run_270 : decode cX6_run 270 = .ok (.imul, 1) := dk_104 (dk_at dksX6_run_11 19 rfl rfl)
theorem dX6_run_271 : decode cX6_run 271 = .ok (.iload 4, 2) := dk_21 4 (dk_at dksX6_run_11 20 rfl rfl)
theorem dX6_run_273 : decode cX6_run 273 = .ok (.iadd, 1) := dk_96 (dk_at dksX6_run_11 22 rfl rfl)
theorem dX6_run_274 : decode cX6_run 274 = .ok (.aload_n 1, 1) := dk_43 (dk_at dksX6_run_11 23 rfl rfl)
theorem dX6_run_275 : decode cX6_run 275 = .ok (.getfield 93, 3) := dk_180 0 93 (dk_at dksX6_run_12 0 rfl rfl)
theorem dX6_run_278 : decode cX6_run 278 = .ok (.iload 4, 2) := dk_21 4 (dk_at dksX6_run_12 3 rfl rfl)
theorem dX6_run_280 : decode cX6_run 280 = .ok (.aaload, 1) := dk_50 (dk_at dksX6_run_12 5 rfl rfl)
theorem dX6_run_281 : decode cX6_run 281 = .ok (.aload_n 0, 1) := dk_42 (dk_at dksX6_run_12 6 rfl rfl)
theorem dX6_run_282 : decode cX6_run 282 = .ok (.getfield 82, 3) := dk_180 0 82 (dk_at dksX6_run_12 7 rfl rfl)
theorem dX6_run_285 : decode cX6_run 285 = .ok (.invokevirtual 106, 3) := dk_182 0 106 (dk_at dksX6_run_12 10 rfl rfl)
theorem dX6_run_288 : decode cX6_run 288 = .ok (.ifCond .eq 17, 3) := dk_153 0 17 (dk_at dksX6_run_12 13 rfl rfl)
theorem dX6_run_291 : decode cX6_run 291 = .ok (.aload_n 0, 1) := dk_42 (dk_at dksX6_run_12 16 rfl rfl)
theorem dX6_run_292 : decode cX6_run 292 = .ok (.aload_n 1, 1) := dk_43 (dk_at dksX6_run_12 17 rfl rfl)
theorem dX6_run_293 : decode cX6_run 293 = .ok (.getfield 93, 3) := dk_180 0 93 (dk_at dksX6_run_12 18 rfl rfl)
theorem dX6_run_296 : decode cX6_run 296 = .ok (.iload 4, 2) := dk_21 4 (dk_at dksX6_run_12 21 rfl rfl)
theorem dX6_run_298 : decode cX6_run 298 = .ok (.aaload, 1) := dk_50 (dk_at dksX6_run_12 23 rfl rfl)
theorem dX6_run_299 : decode cX6_run 299 = .ok (.invokevirtual 132, 3) := dk_182 0 132 (dk_at dksX6_run_13 0 rfl rfl)
theorem dX6_run_302 : decode cX6_run 302 = .ok (.goto 5, 3) := dk_167 0 5 (dk_at dksX6_run_13 3 rfl rfl)
theorem dX6_run_305 : decode cX6_run 305 = .ok (.bipush (-2), 2) := dk_16 254 (dk_at dksX6_run_13 6 rfl rfl)
theorem dX6_run_307 : decode cX6_run 307 = .ok (.iastore, 1) := dk_79 (dk_at dksX6_run_13 8 rfl rfl)
theorem dX6_run_308 : decode cX6_run 308 = .ok (.iinc 4 1, 3) := dk_132 4 1 (dk_at dksX6_run_13 9 rfl rfl)
theorem dX6_run_311 : decode cX6_run 311 = .ok (.goto (-60), 3) := dk_167 255 196 (dk_at dksX6_run_13 12 rfl rfl)
theorem dX6_run_314 : decode cX6_run 314 = .ok (.aload_n 0, 1) := dk_42 (dk_at dksX6_run_13 15 rfl rfl)
theorem dX6_run_315 : decode cX6_run 315 = .ok (.invokevirtual 136, 3) := dk_182 0 136 (dk_at dksX6_run_13 16 rfl rfl)
theorem dX6_run_318 : decode cX6_run 318 = .ok (.iconst 0, 1) := dk_3 (dk_at dksX6_run_13 19 rfl rfl)
theorem dX6_run_319 : decode cX6_run 319 = .ok (.istore 4, 2) := dk_54 4 (dk_at dksX6_run_13 20 rfl rfl)
theorem dX6_run_321 : decode cX6_run 321 = .ok (.iload 4, 2) := dk_21 4 (dk_at dksX6_run_13 22 rfl rfl)
theorem dX6_run_323 : decode cX6_run 323 = .ok (.aload_n 1, 1) := dk_43 (dk_at dksX6_run_14 0 rfl rfl)
theorem dX6_run_324 : decode cX6_run 324 = .ok (.getfield 90, 3) := dk_180 0 90 (dk_at dksX6_run_14 1 rfl rfl)
theorem dX6_run_327 : decode cX6_run 327 = .ok (.if_icmp .ge 45, 3) := dk_162 0 45 (dk_at dksX6_run_14 4 rfl rfl)
theorem dX6_run_330 : decode cX6_run 330 = .ok (.aload_n 1, 1) := dk_43 (dk_at dksX6_run_14 7 rfl rfl)
theorem dX6_run_331 : decode cX6_run 331 = .ok (.getfield 93, 3) := dk_180 0 93 (dk_at dksX6_run_14 8 rfl rfl)
theorem dX6_run_334 : decode cX6_run 334 = .ok (.iload 4, 2) := dk_21 4 (dk_at dksX6_run_14 11 rfl rfl)
theorem dX6_run_336 : decode cX6_run 336 = .ok (.aaload, 1) := dk_50 (dk_at dksX6_run_14 13 rfl rfl)
theorem dX6_run_337 : decode cX6_run 337 = .ok (.aload_n 0, 1) := dk_42 (dk_at dksX6_run_14 14 rfl rfl)
theorem dX6_run_338 : decode cX6_run 338 = .ok (.getfield 82, 3) := dk_180 0 82 (dk_at dksX6_run_14 15 rfl rfl)
theorem dX6_run_341 : decode cX6_run 341 = .ok (.invokevirtual 139, 3) := dk_182 0 139 (dk_at dksX6_run_14 18 rfl rfl)
theorem dX6_run_344 : decode cX6_run 344 = .ok (.ifCond .eq 22, 3) := dk_153 0 22 (dk_at dksX6_run_14 21 rfl rfl)
theorem dX6_run_347 : decode cX6_run 347 = .ok (.aload_n 1, 1) := dk_43 (dk_at dksX6_run_15 0 rfl rfl)
theorem dX6_run_348 : decode cX6_run 348 = .ok (.getfield 93, 3) := dk_180 0 93 (dk_at dksX6_run_15 1 rfl rfl)
theorem dX6_run_351 : decode cX6_run 351 = .ok (.iload 4, 2) := dk_21 4 (dk_at dksX6_run_15 4 rfl rfl)
theorem dX6_run_353 : decode cX6_run 353 = .ok (.aaload, 1) := dk_50 (dk_at dksX6_run_15 6 rfl rfl)
theorem dX6_run_354 : decode cX6_run 354 = .ok (.getfield 142, 3) := dk_180 0 142 (dk_at dksX6_run_15 7 rfl rfl)
theorem dX6_run_357 : decode cX6_run 357 = .ok (.ifCond .eq 9, 3) := dk_153 0 9 (dk_at dksX6_run_15 10 rfl rfl)
theorem dX6_run_360 : decode cX6_run 360 = .ok (.aload_n 0, 1) := dk_42 (dk_at dksX6_run_15 13 rfl rfl)
theorem dX6_run_361 : decode cX6_run 361 = .ok (.iload 4, 2) := dk_21 4 (dk_at dksX6_run_15 14 rfl rfl)
theorem dX6_run_363 : decode cX6_run 363 = .ok (.invokevirtual 146, 3) := dk_182 0 146 (dk_at dksX6_run_15 16 rfl rfl)
theorem dX6_run_366 : decode cX6_run 366 = .ok (.iinc 4 1, 3) := dk_132 4 1 (dk_at dksX6_run_15 19 rfl rfl)
theorem dX6_run_369 : decode cX6_run 369 = .ok (.goto (-48), 3) := dk_167 255 208 (dk_at dksX6_run_16 0 rfl rfl)
theorem dX6_run_372 : decode cX6_run 372 = .ok (.aload_n 0, 1) := dk_42 (dk_at dksX6_run_16 3 rfl rfl)
theorem dX6_run_373 : decode cX6_run 373 = .ok (.dup, 1) := dk_89 (dk_at dksX6_run_16 4 rfl rfl)
theorem dX6_run_374 : decode cX6_run 374 = .ok (.getfield 82, 3) := dk_180 0 82 (dk_at dksX6_run_16 5 rfl rfl)
theorem dX6_run_377 : decode cX6_run 377 = .ok (.iconst 1, 1) := dk_4 (dk_at dksX6_run_16 8 rfl rfl)
theorem dX6_run_378 : decode cX6_run 378 = .ok (.iadd, 1) := dk_96 (dk_at dksX6_run_16 9 rfl rfl)
theorem dX6_run_379 : decode cX6_run 379 = .ok (.putfield 82, 3) := dk_181 0 82 (dk_at dksX6_run_16 10 rfl rfl)
theorem dX6_run_382 : decode cX6_run 382 = .ok (.goto (-312), 3) := dk_167 254 200 (dk_at dksX6_run_16 13 rfl rfl)
theorem dX6_run_385 : decode cX6_run 385 = .ok (.return_, 1) := dk_177 (dk_at dksX6_run_16 16 rfl rfl)
abbrev cX6_comes : ByteArray := prog_10_method_6_code
def yX6_comes : MethodName := ⟨RX6, "comes", "(LBrushGlass$Person;)V"⟩
def dkwX6_comes_2 : List UInt8 := [16, 8, 160, 0, 12, 42, 43, 180, 0, 154, 28, 182, 0, 163, 177]
abbrev dktX6_comes_2 : List UInt8 := dkwX6_comes_2 ++ []
def dkwX6_comes_1 : List UInt8 := [42, 180, 0, 46, 28, 50, 180, 0, 160, 16, 9, 159, 0, 17, 42, 180, 0, 46, 28, 50, 180, 0, 160]
abbrev dktX6_comes_1 : List UInt8 := dkwX6_comes_1 ++ dktX6_comes_2
def dkwX6_comes_0 : List UInt8 := [42, 180, 0, 54, 43, 180, 0, 154, 46, 61, 28, 16, 254, 160, 0, 11, 42, 43, 182, 0, 157, 167, 0, 40]
abbrev dktX6_comes_0 : List UInt8 := dkwX6_comes_0 ++ dktX6_comes_1
theorem dksX6_comes_0 : cX6_comes.data.toList.drop 0 = dktX6_comes_0 := by decide +kernel
theorem dksX6_comes_1 : cX6_comes.data.toList.drop 24 = dktX6_comes_1 := dk_seg dksX6_comes_0 24 rfl rfl
theorem dksX6_comes_2 : cX6_comes.data.toList.drop 47 = dktX6_comes_2 := dk_seg dksX6_comes_1 23 rfl rfl
theorem dX6_comes_0 : decode cX6_comes 0 = .ok (.aload_n 0, 1) := dk_42 (dk_at dksX6_comes_0 0 rfl rfl)
theorem dX6_comes_1 : decode cX6_comes 1 = .ok (.getfield 54, 3) := dk_180 0 54 (dk_at dksX6_comes_0 1 rfl rfl)
theorem dX6_comes_4 : decode cX6_comes 4 = .ok (.aload_n 1, 1) := dk_43 (dk_at dksX6_comes_0 4 rfl rfl)
theorem dX6_comes_5 : decode cX6_comes 5 = .ok (.getfield 154, 3) := dk_180 0 154 (dk_at dksX6_comes_0 5 rfl rfl)
theorem dX6_comes_8 : decode cX6_comes 8 = .ok (.iaload, 1) := dk_46 (dk_at dksX6_comes_0 8 rfl rfl)
theorem dX6_comes_9 : decode cX6_comes 9 = .ok (.istore_n 2, 1) := dk_61 (dk_at dksX6_comes_0 9 rfl rfl)
theorem dX6_comes_10 : decode cX6_comes 10 = .ok (.iload_n 2, 1) := dk_28 (dk_at dksX6_comes_0 10 rfl rfl)
theorem dX6_comes_11 : decode cX6_comes 11 = .ok (.bipush (-2), 2) := dk_16 254 (dk_at dksX6_comes_0 11 rfl rfl)
theorem dX6_comes_13 : decode cX6_comes 13 = .ok (.if_icmp .ne 11, 3) := dk_160 0 11 (dk_at dksX6_comes_0 13 rfl rfl)
theorem dX6_comes_16 : decode cX6_comes 16 = .ok (.aload_n 0, 1) := dk_42 (dk_at dksX6_comes_0 16 rfl rfl)
theorem dX6_comes_17 : decode cX6_comes 17 = .ok (.aload_n 1, 1) := dk_43 (dk_at dksX6_comes_0 17 rfl rfl)
theorem dX6_comes_18 : decode cX6_comes 18 = .ok (.invokevirtual 157, 3) := dk_182 0 157 (dk_at dksX6_comes_0 18 rfl rfl)
theorem dX6_comes_21 : decode cX6_comes 21 = .ok (.goto 40, 3) := dk_167 0 40 (dk_at dksX6_comes_0 21 rfl rfl)
theorem dX6_comes_24 : decode cX6_comes 24 = .ok (.aload_n 0, 1) := dk_42 (dk_at dksX6_comes_1 0 rfl rfl)
theorem dX6_comes_25 : decode cX6_comes 25 = .ok (.getfield 46, 3) := dk_180 0 46 (dk_at dksX6_comes_1 1 rfl rfl)
theorem dX6_comes_28 : decode cX6_comes 28 = .ok (.iload_n 2, 1) := dk_28 (dk_at dksX6_comes_1 4 rfl rfl)
theorem dX6_comes_29 : decode cX6_comes 29 = .ok (.aaload, 1) := dk_50 (dk_at dksX6_comes_1 5 rfl rfl)
theorem dX6_comes_30 : decode cX6_comes 30 = .ok (.getfield 160, 3) := dk_180 0 160 (dk_at dksX6_comes_1 6 rfl rfl)
theorem dX6_comes_33 : decode cX6_comes 33 = .ok (.bipush 9, 2) := dk_16 9 (dk_at dksX6_comes_1 9 rfl rfl)
theorem dX6_comes_35 : decode cX6_comes 35 = .ok (.if_icmp .eq 17, 3) := dk_159 0 17 (dk_at dksX6_comes_1 11 rfl rfl)
theorem dX6_comes_38 : decode cX6_comes 38 = .ok (.aload_n 0, 1) := dk_42 (dk_at dksX6_comes_1 14 rfl rfl)
theorem dX6_comes_39 : decode cX6_comes 39 = .ok (.getfield 46, 3) := dk_180 0 46 (dk_at dksX6_comes_1 15 rfl rfl)
theorem dX6_comes_42 : decode cX6_comes 42 = .ok (.iload_n 2, 1) := dk_28 (dk_at dksX6_comes_1 18 rfl rfl)
theorem dX6_comes_43 : decode cX6_comes 43 = .ok (.aaload, 1) := dk_50 (dk_at dksX6_comes_1 19 rfl rfl)
theorem dX6_comes_44 : decode cX6_comes 44 = .ok (.getfield 160, 3) := dk_180 0 160 (dk_at dksX6_comes_1 20 rfl rfl)
theorem dX6_comes_47 : decode cX6_comes 47 = .ok (.bipush 8, 2) := dk_16 8 (dk_at dksX6_comes_2 0 rfl rfl)
theorem dX6_comes_49 : decode cX6_comes 49 = .ok (.if_icmp .ne 12, 3) := dk_160 0 12 (dk_at dksX6_comes_2 2 rfl rfl)
theorem dX6_comes_52 : decode cX6_comes 52 = .ok (.aload_n 0, 1) := dk_42 (dk_at dksX6_comes_2 5 rfl rfl)
theorem dX6_comes_53 : decode cX6_comes 53 = .ok (.aload_n 1, 1) := dk_43 (dk_at dksX6_comes_2 6 rfl rfl)
theorem dX6_comes_54 : decode cX6_comes 54 = .ok (.getfield 154, 3) := dk_180 0 154 (dk_at dksX6_comes_2 7 rfl rfl)
theorem dX6_comes_57 : decode cX6_comes 57 = .ok (.iload_n 2, 1) := dk_28 (dk_at dksX6_comes_2 10 rfl rfl)
theorem dX6_comes_58 : decode cX6_comes 58 = .ok (.invokevirtual 163, 3) := dk_182 0 163 (dk_at dksX6_comes_2 11 rfl rfl)
theorem dX6_comes_61 : decode cX6_comes 61 = .ok (.return_, 1) := dk_177 (dk_at dksX6_comes_2 14 rfl rfl)
abbrev cX6_buys : ByteArray := prog_10_method_7_code
def yX6_buys : MethodName := ⟨RX6, "buys", "(LBrushGlass$Person;)V"⟩
def dkwX6_buys_3 : List UInt8 := [180, 0, 78, 4, 100, 182, 0, 163, 177]
abbrev dktX6_buys_3 : List UInt8 := dkwX6_buys_3 ++ []
def dkwX6_buys_2 : List UInt8 := [180, 0, 154, 42, 180, 0, 78, 79, 42, 89, 180, 0, 78, 4, 96, 181, 0, 78, 42, 43, 180, 0, 154, 42]
abbrev dktX6_buys_2 : List UInt8 := dkwX6_buys_2 ++ dktX6_buys_3
def dkwX6_buys_1 : List UInt8 := [43, 180, 0, 154, 46, 50, 42, 43, 182, 0, 169, 42, 180, 0, 82, 182, 0, 172, 42, 180, 0, 54, 43]
abbrev dktX6_buys_1 : List UInt8 := dkwX6_buys_1 ++ dktX6_buys_2
def dkwX6_buys_0 : List UInt8 := [42, 180, 0, 46, 42, 180, 0, 78, 50, 43, 180, 0, 154, 42, 180, 0, 20, 42, 180, 0, 74, 180, 0, 167]
abbrev dktX6_buys_0 : List UInt8 := dkwX6_buys_0 ++ dktX6_buys_1
theorem dksX6_buys_0 : cX6_buys.data.toList.drop 0 = dktX6_buys_0 := by decide +kernel
theorem dksX6_buys_1 : cX6_buys.data.toList.drop 24 = dktX6_buys_1 := dk_seg dksX6_buys_0 24 rfl rfl
theorem dksX6_buys_2 : cX6_buys.data.toList.drop 47 = dktX6_buys_2 := dk_seg dksX6_buys_1 23 rfl rfl
theorem dksX6_buys_3 : cX6_buys.data.toList.drop 71 = dktX6_buys_3 := dk_seg dksX6_buys_2 24 rfl rfl
theorem dX6_buys_0 : decode cX6_buys 0 = .ok (.aload_n 0, 1) := dk_42 (dk_at dksX6_buys_0 0 rfl rfl)
theorem dX6_buys_1 : decode cX6_buys 1 = .ok (.getfield 46, 3) := dk_180 0 46 (dk_at dksX6_buys_0 1 rfl rfl)
theorem dX6_buys_4 : decode cX6_buys 4 = .ok (.aload_n 0, 1) := dk_42 (dk_at dksX6_buys_0 4 rfl rfl)
theorem dX6_buys_5 : decode cX6_buys 5 = .ok (.getfield 78, 3) := dk_180 0 78 (dk_at dksX6_buys_0 5 rfl rfl)
theorem dX6_buys_8 : decode cX6_buys 8 = .ok (.aaload, 1) := dk_50 (dk_at dksX6_buys_0 8 rfl rfl)
theorem dX6_buys_9 : decode cX6_buys 9 = .ok (.aload_n 1, 1) := dk_43 (dk_at dksX6_buys_0 9 rfl rfl)
theorem dX6_buys_10 : decode cX6_buys 10 = .ok (.getfield 154, 3) := dk_180 0 154 (dk_at dksX6_buys_0 10 rfl rfl)
theorem dX6_buys_13 : decode cX6_buys 13 = .ok (.aload_n 0, 1) := dk_42 (dk_at dksX6_buys_0 13 rfl rfl)
theorem dX6_buys_14 : decode cX6_buys 14 = .ok (.getfield 20, 3) := dk_180 0 20 (dk_at dksX6_buys_0 14 rfl rfl)
theorem dX6_buys_17 : decode cX6_buys 17 = .ok (.aload_n 0, 1) := dk_42 (dk_at dksX6_buys_0 17 rfl rfl)
theorem dX6_buys_18 : decode cX6_buys 18 = .ok (.getfield 74, 3) := dk_180 0 74 (dk_at dksX6_buys_0 18 rfl rfl)
theorem dX6_buys_21 : decode cX6_buys 21 = .ok (.getfield 167, 3) := dk_180 0 167 (dk_at dksX6_buys_0 21 rfl rfl)
theorem dX6_buys_24 : decode cX6_buys 24 = .ok (.aload_n 1, 1) := dk_43 (dk_at dksX6_buys_1 0 rfl rfl)
theorem dX6_buys_25 : decode cX6_buys 25 = .ok (.getfield 154, 3) := dk_180 0 154 (dk_at dksX6_buys_1 1 rfl rfl)
theorem dX6_buys_28 : decode cX6_buys 28 = .ok (.iaload, 1) := dk_46 (dk_at dksX6_buys_1 4 rfl rfl)
theorem dX6_buys_29 : decode cX6_buys 29 = .ok (.aaload, 1) := dk_50 (dk_at dksX6_buys_1 5 rfl rfl)
theorem dX6_buys_30 : decode cX6_buys 30 = .ok (.aload_n 0, 1) := dk_42 (dk_at dksX6_buys_1 6 rfl rfl)
theorem dX6_buys_31 : decode cX6_buys 31 = .ok (.aload_n 1, 1) := dk_43 (dk_at dksX6_buys_1 7 rfl rfl)
theorem dX6_buys_32 : decode cX6_buys 32 = .ok (.invokevirtual 169, 3) := dk_182 0 169 (dk_at dksX6_buys_1 8 rfl rfl)
theorem dX6_buys_35 : decode cX6_buys 35 = .ok (.aload_n 0, 1) := dk_42 (dk_at dksX6_buys_1 11 rfl rfl)
theorem dX6_buys_36 : decode cX6_buys 36 = .ok (.getfield 82, 3) := dk_180 0 82 (dk_at dksX6_buys_1 12 rfl rfl)
theorem dX6_buys_39 : decode cX6_buys 39 = .ok (.invokevirtual 172, 3) := dk_182 0 172 (dk_at dksX6_buys_1 15 rfl rfl)
theorem dX6_buys_42 : decode cX6_buys 42 = .ok (.aload_n 0, 1) := dk_42 (dk_at dksX6_buys_1 18 rfl rfl)
theorem dX6_buys_43 : decode cX6_buys 43 = .ok (.getfield 54, 3) := dk_180 0 54 (dk_at dksX6_buys_1 19 rfl rfl)
theorem dX6_buys_46 : decode cX6_buys 46 = .ok (.aload_n 1, 1) := dk_43 (dk_at dksX6_buys_1 22 rfl rfl)
theorem dX6_buys_47 : decode cX6_buys 47 = .ok (.getfield 154, 3) := dk_180 0 154 (dk_at dksX6_buys_2 0 rfl rfl)
theorem dX6_buys_50 : decode cX6_buys 50 = .ok (.aload_n 0, 1) := dk_42 (dk_at dksX6_buys_2 3 rfl rfl)
theorem dX6_buys_51 : decode cX6_buys 51 = .ok (.getfield 78, 3) := dk_180 0 78 (dk_at dksX6_buys_2 4 rfl rfl)
theorem dX6_buys_54 : decode cX6_buys 54 = .ok (.iastore, 1) := dk_79 (dk_at dksX6_buys_2 7 rfl rfl)
theorem dX6_buys_55 : decode cX6_buys 55 = .ok (.aload_n 0, 1) := dk_42 (dk_at dksX6_buys_2 8 rfl rfl)
theorem dX6_buys_56 : decode cX6_buys 56 = .ok (.dup, 1) := dk_89 (dk_at dksX6_buys_2 9 rfl rfl)
theorem dX6_buys_57 : decode cX6_buys 57 = .ok (.getfield 78, 3) := dk_180 0 78 (dk_at dksX6_buys_2 10 rfl rfl)
theorem dX6_buys_60 : decode cX6_buys 60 = .ok (.iconst 1, 1) := dk_4 (dk_at dksX6_buys_2 13 rfl rfl)
theorem dX6_buys_61 : decode cX6_buys 61 = .ok (.iadd, 1) := dk_96 (dk_at dksX6_buys_2 14 rfl rfl)
theorem dX6_buys_62 : decode cX6_buys 62 = .ok (.putfield 78, 3) := dk_181 0 78 (dk_at dksX6_buys_2 15 rfl rfl)
theorem dX6_buys_65 : decode cX6_buys 65 = .ok (.aload_n 0, 1) := dk_42 (dk_at dksX6_buys_2 18 rfl rfl)
theorem dX6_buys_66 : decode cX6_buys 66 = .ok (.aload_n 1, 1) := dk_43 (dk_at dksX6_buys_2 19 rfl rfl)
theorem dX6_buys_67 : decode cX6_buys 67 = .ok (.getfield 154, 3) := dk_180 0 154 (dk_at dksX6_buys_2 20 rfl rfl)
theorem dX6_buys_70 : decode cX6_buys 70 = .ok (.aload_n 0, 1) := dk_42 (dk_at dksX6_buys_2 23 rfl rfl)
theorem dX6_buys_71 : decode cX6_buys 71 = .ok (.getfield 78, 3) := dk_180 0 78 (dk_at dksX6_buys_3 0 rfl rfl)
theorem dX6_buys_74 : decode cX6_buys 74 = .ok (.iconst 1, 1) := dk_4 (dk_at dksX6_buys_3 3 rfl rfl)
theorem dX6_buys_75 : decode cX6_buys 75 = .ok (.isub, 1) := dk_100 (dk_at dksX6_buys_3 4 rfl rfl)
theorem dX6_buys_76 : decode cX6_buys 76 = .ok (.invokevirtual 163, 3) := dk_182 0 163 (dk_at dksX6_buys_3 5 rfl rfl)
theorem dX6_buys_79 : decode cX6_buys 79 = .ok (.return_, 1) := dk_177 (dk_at dksX6_buys_3 8 rfl rfl)
abbrev cX6_thereOf : ByteArray := prog_10_method_5_code
def yX6_thereOf : MethodName := ⟨RX6, "thereOf", "(I)I"⟩
def dkwX6_thereOf_2 : List UInt8 := [167, 0, 4, 3, 96, 61, 132, 3, 1, 167, 255, 205, 28, 172]
abbrev dktX6_thereOf_2 : List UInt8 := dkwX6_thereOf_2 ++ []
def dkwX6_thereOf_1 : List UInt8 := [159, 0, 25, 42, 180, 0, 46, 42, 180, 0, 50, 29, 46, 50, 180, 0, 151, 27, 160, 0, 7, 4]
abbrev dktX6_thereOf_1 : List UInt8 := dkwX6_thereOf_1 ++ dktX6_thereOf_2
def dkwX6_thereOf_0 : List UInt8 := [3, 61, 3, 62, 29, 42, 180, 0, 70, 180, 0, 149, 162, 0, 46, 28, 42, 180, 0, 50, 29, 46, 16, 254]
abbrev dktX6_thereOf_0 : List UInt8 := dkwX6_thereOf_0 ++ dktX6_thereOf_1
theorem dksX6_thereOf_0 : cX6_thereOf.data.toList.drop 0 = dktX6_thereOf_0 := by decide +kernel
theorem dksX6_thereOf_1 : cX6_thereOf.data.toList.drop 24 = dktX6_thereOf_1 := dk_seg dksX6_thereOf_0 24 rfl rfl
theorem dksX6_thereOf_2 : cX6_thereOf.data.toList.drop 46 = dktX6_thereOf_2 := dk_seg dksX6_thereOf_1 22 rfl rfl
theorem dX6_thereOf_0 : decode cX6_thereOf 0 = .ok (.iconst 0, 1) := dk_3 (dk_at dksX6_thereOf_0 0 rfl rfl)
theorem dX6_thereOf_1 : decode cX6_thereOf 1 = .ok (.istore_n 2, 1) := dk_61 (dk_at dksX6_thereOf_0 1 rfl rfl)
theorem dX6_thereOf_2 : decode cX6_thereOf 2 = .ok (.iconst 0, 1) := dk_3 (dk_at dksX6_thereOf_0 2 rfl rfl)
theorem dX6_thereOf_3 : decode cX6_thereOf 3 = .ok (.istore_n 3, 1) := dk_62 (dk_at dksX6_thereOf_0 3 rfl rfl)
theorem dX6_thereOf_4 : decode cX6_thereOf 4 = .ok (.iload_n 3, 1) := dk_29 (dk_at dksX6_thereOf_0 4 rfl rfl)
theorem dX6_thereOf_5 : decode cX6_thereOf 5 = .ok (.aload_n 0, 1) := dk_42 (dk_at dksX6_thereOf_0 5 rfl rfl)
theorem dX6_thereOf_6 : decode cX6_thereOf 6 = .ok (.getfield 70, 3) := dk_180 0 70 (dk_at dksX6_thereOf_0 6 rfl rfl)
theorem dX6_thereOf_9 : decode cX6_thereOf 9 = .ok (.getfield 149, 3) := dk_180 0 149 (dk_at dksX6_thereOf_0 9 rfl rfl)
theorem dX6_thereOf_12 : decode cX6_thereOf 12 = .ok (.if_icmp .ge 46, 3) := dk_162 0 46 (dk_at dksX6_thereOf_0 12 rfl rfl)
theorem dX6_thereOf_15 : decode cX6_thereOf 15 = .ok (.iload_n 2, 1) := dk_28 (dk_at dksX6_thereOf_0 15 rfl rfl)
theorem dX6_thereOf_16 : decode cX6_thereOf 16 = .ok (.aload_n 0, 1) := dk_42 (dk_at dksX6_thereOf_0 16 rfl rfl)
theorem dX6_thereOf_17 : decode cX6_thereOf 17 = .ok (.getfield 50, 3) := dk_180 0 50 (dk_at dksX6_thereOf_0 17 rfl rfl)
theorem dX6_thereOf_20 : decode cX6_thereOf 20 = .ok (.iload_n 3, 1) := dk_29 (dk_at dksX6_thereOf_0 20 rfl rfl)
theorem dX6_thereOf_21 : decode cX6_thereOf 21 = .ok (.iaload, 1) := dk_46 (dk_at dksX6_thereOf_0 21 rfl rfl)
theorem dX6_thereOf_22 : decode cX6_thereOf 22 = .ok (.bipush (-2), 2) := dk_16 254 (dk_at dksX6_thereOf_0 22 rfl rfl)
theorem dX6_thereOf_24 : decode cX6_thereOf 24 = .ok (.if_icmp .eq 25, 3) := dk_159 0 25 (dk_at dksX6_thereOf_1 0 rfl rfl)
theorem dX6_thereOf_27 : decode cX6_thereOf 27 = .ok (.aload_n 0, 1) := dk_42 (dk_at dksX6_thereOf_1 3 rfl rfl)
theorem dX6_thereOf_28 : decode cX6_thereOf 28 = .ok (.getfield 46, 3) := dk_180 0 46 (dk_at dksX6_thereOf_1 4 rfl rfl)
theorem dX6_thereOf_31 : decode cX6_thereOf 31 = .ok (.aload_n 0, 1) := dk_42 (dk_at dksX6_thereOf_1 7 rfl rfl)
theorem dX6_thereOf_32 : decode cX6_thereOf 32 = .ok (.getfield 50, 3) := dk_180 0 50 (dk_at dksX6_thereOf_1 8 rfl rfl)
theorem dX6_thereOf_35 : decode cX6_thereOf 35 = .ok (.iload_n 3, 1) := dk_29 (dk_at dksX6_thereOf_1 11 rfl rfl)
theorem dX6_thereOf_36 : decode cX6_thereOf 36 = .ok (.iaload, 1) := dk_46 (dk_at dksX6_thereOf_1 12 rfl rfl)
theorem dX6_thereOf_37 : decode cX6_thereOf 37 = .ok (.aaload, 1) := dk_50 (dk_at dksX6_thereOf_1 13 rfl rfl)
theorem dX6_thereOf_38 : decode cX6_thereOf 38 = .ok (.getfield 151, 3) := dk_180 0 151 (dk_at dksX6_thereOf_1 14 rfl rfl)
theorem dX6_thereOf_41 : decode cX6_thereOf 41 = .ok (.iload_n 1, 1) := dk_27 (dk_at dksX6_thereOf_1 17 rfl rfl)
theorem dX6_thereOf_42 : decode cX6_thereOf 42 = .ok (.if_icmp .ne 7, 3) := dk_160 0 7 (dk_at dksX6_thereOf_1 18 rfl rfl)
theorem dX6_thereOf_45 : decode cX6_thereOf 45 = .ok (.iconst 1, 1) := dk_4 (dk_at dksX6_thereOf_1 21 rfl rfl)
theorem dX6_thereOf_46 : decode cX6_thereOf 46 = .ok (.goto 4, 3) := dk_167 0 4 (dk_at dksX6_thereOf_2 0 rfl rfl)
theorem dX6_thereOf_49 : decode cX6_thereOf 49 = .ok (.iconst 0, 1) := dk_3 (dk_at dksX6_thereOf_2 3 rfl rfl)
theorem dX6_thereOf_50 : decode cX6_thereOf 50 = .ok (.iadd, 1) := dk_96 (dk_at dksX6_thereOf_2 4 rfl rfl)
theorem dX6_thereOf_51 : decode cX6_thereOf 51 = .ok (.istore_n 2, 1) := dk_61 (dk_at dksX6_thereOf_2 5 rfl rfl)
theorem dX6_thereOf_52 : decode cX6_thereOf 52 = .ok (.iinc 3 1, 3) := dk_132 3 1 (dk_at dksX6_thereOf_2 6 rfl rfl)
theorem dX6_thereOf_55 : decode cX6_thereOf 55 = .ok (.goto (-51), 3) := dk_167 255 205 (dk_at dksX6_thereOf_2 9 rfl rfl)
theorem dX6_thereOf_58 : decode cX6_thereOf 58 = .ok (.iload_n 2, 1) := dk_28 (dk_at dksX6_thereOf_2 12 rfl rfl)
theorem dX6_thereOf_59 : decode cX6_thereOf 59 = .ok (.ireturn, 1) := dk_172 (dk_at dksX6_thereOf_2 13 rfl rfl)
abbrev cX6_puts : ByteArray := prog_10_method_9_code
def yX6_puts : MethodName := ⟨RX6, "puts", "(II)V"⟩
def dkwX6_puts_1 : List UInt8 := [16, 8, 159, 0, 10, 42, 180, 0, 50, 29, 28, 79, 177]
abbrev dktX6_puts_1 : List UInt8 := dkwX6_puts_1 ++ []
def dkwX6_puts_0 : List UInt8 := [42, 182, 0, 176, 62, 42, 180, 0, 46, 28, 50, 29, 181, 0, 160, 42, 180, 0, 57, 27, 29, 79, 29]
abbrev dktX6_puts_0 : List UInt8 := dkwX6_puts_0 ++ dktX6_puts_1
theorem dksX6_puts_0 : cX6_puts.data.toList.drop 0 = dktX6_puts_0 := by decide +kernel
theorem dksX6_puts_1 : cX6_puts.data.toList.drop 23 = dktX6_puts_1 := dk_seg dksX6_puts_0 23 rfl rfl
theorem dX6_puts_0 : decode cX6_puts 0 = .ok (.aload_n 0, 1) := dk_42 (dk_at dksX6_puts_0 0 rfl rfl)
theorem dX6_puts_1 : decode cX6_puts 1 = .ok (.invokevirtual 176, 3) := dk_182 0 176 (dk_at dksX6_puts_0 1 rfl rfl)
theorem dX6_puts_4 : decode cX6_puts 4 = .ok (.istore_n 3, 1) := dk_62 (dk_at dksX6_puts_0 4 rfl rfl)
theorem dX6_puts_5 : decode cX6_puts 5 = .ok (.aload_n 0, 1) := dk_42 (dk_at dksX6_puts_0 5 rfl rfl)
theorem dX6_puts_6 : decode cX6_puts 6 = .ok (.getfield 46, 3) := dk_180 0 46 (dk_at dksX6_puts_0 6 rfl rfl)
theorem dX6_puts_9 : decode cX6_puts 9 = .ok (.iload_n 2, 1) := dk_28 (dk_at dksX6_puts_0 9 rfl rfl)
theorem dX6_puts_10 : decode cX6_puts 10 = .ok (.aaload, 1) := dk_50 (dk_at dksX6_puts_0 10 rfl rfl)
theorem dX6_puts_11 : decode cX6_puts 11 = .ok (.iload_n 3, 1) := dk_29 (dk_at dksX6_puts_0 11 rfl rfl)
theorem dX6_puts_12 : decode cX6_puts 12 = .ok (.putfield 160, 3) := dk_181 0 160 (dk_at dksX6_puts_0 12 rfl rfl)
theorem dX6_puts_15 : decode cX6_puts 15 = .ok (.aload_n 0, 1) := dk_42 (dk_at dksX6_puts_0 15 rfl rfl)
theorem dX6_puts_16 : decode cX6_puts 16 = .ok (.getfield 57, 3) := dk_180 0 57 (dk_at dksX6_puts_0 16 rfl rfl)
theorem dX6_puts_19 : decode cX6_puts 19 = .ok (.iload_n 1, 1) := dk_27 (dk_at dksX6_puts_0 19 rfl rfl)
theorem dX6_puts_20 : decode cX6_puts 20 = .ok (.iload_n 3, 1) := dk_29 (dk_at dksX6_puts_0 20 rfl rfl)
theorem dX6_puts_21 : decode cX6_puts 21 = .ok (.iastore, 1) := dk_79 (dk_at dksX6_puts_0 21 rfl rfl)
theorem dX6_puts_22 : decode cX6_puts 22 = .ok (.iload_n 3, 1) := dk_29 (dk_at dksX6_puts_0 22 rfl rfl)
theorem dX6_puts_23 : decode cX6_puts 23 = .ok (.bipush 8, 2) := dk_16 8 (dk_at dksX6_puts_1 0 rfl rfl)
theorem dX6_puts_25 : decode cX6_puts 25 = .ok (.if_icmp .eq 10, 3) := dk_159 0 10 (dk_at dksX6_puts_1 2 rfl rfl)
theorem dX6_puts_28 : decode cX6_puts 28 = .ok (.aload_n 0, 1) := dk_42 (dk_at dksX6_puts_1 5 rfl rfl)
theorem dX6_puts_29 : decode cX6_puts 29 = .ok (.getfield 50, 3) := dk_180 0 50 (dk_at dksX6_puts_1 6 rfl rfl)
theorem dX6_puts_32 : decode cX6_puts 32 = .ok (.iload_n 3, 1) := dk_29 (dk_at dksX6_puts_1 9 rfl rfl)
theorem dX6_puts_33 : decode cX6_puts 33 = .ok (.iload_n 2, 1) := dk_28 (dk_at dksX6_puts_1 10 rfl rfl)
theorem dX6_puts_34 : decode cX6_puts 34 = .ok (.iastore, 1) := dk_79 (dk_at dksX6_puts_1 11 rfl rfl)
theorem dX6_puts_35 : decode cX6_puts 35 = .ok (.return_, 1) := dk_177 (dk_at dksX6_puts_1 12 rfl rfl)
abbrev cX6_firstFree : ByteArray := prog_10_method_8_code
def yX6_firstFree : MethodName := ⟨RX6, "firstFree", "()I"⟩
def dkwX6_firstFree_1 : List UInt8 := [27, 172, 132, 1, 1, 167, 255, 229, 16, 8, 172]
abbrev dktX6_firstFree_1 : List UInt8 := dkwX6_firstFree_1 ++ []
def dkwX6_firstFree_0 : List UInt8 := [3, 60, 27, 42, 180, 0, 70, 180, 0, 149, 162, 0, 22, 42, 180, 0, 50, 27, 46, 16, 254, 160, 0, 5]
abbrev dktX6_firstFree_0 : List UInt8 := dkwX6_firstFree_0 ++ dktX6_firstFree_1
theorem dksX6_firstFree_0 : cX6_firstFree.data.toList.drop 0 = dktX6_firstFree_0 := by decide +kernel
theorem dksX6_firstFree_1 : cX6_firstFree.data.toList.drop 24 = dktX6_firstFree_1 := dk_seg dksX6_firstFree_0 24 rfl rfl
theorem dX6_firstFree_0 : decode cX6_firstFree 0 = .ok (.iconst 0, 1) := dk_3 (dk_at dksX6_firstFree_0 0 rfl rfl)
theorem dX6_firstFree_1 : decode cX6_firstFree 1 = .ok (.istore_n 1, 1) := dk_60 (dk_at dksX6_firstFree_0 1 rfl rfl)
theorem dX6_firstFree_2 : decode cX6_firstFree 2 = .ok (.iload_n 1, 1) := dk_27 (dk_at dksX6_firstFree_0 2 rfl rfl)
theorem dX6_firstFree_3 : decode cX6_firstFree 3 = .ok (.aload_n 0, 1) := dk_42 (dk_at dksX6_firstFree_0 3 rfl rfl)
theorem dX6_firstFree_4 : decode cX6_firstFree 4 = .ok (.getfield 70, 3) := dk_180 0 70 (dk_at dksX6_firstFree_0 4 rfl rfl)
theorem dX6_firstFree_7 : decode cX6_firstFree 7 = .ok (.getfield 149, 3) := dk_180 0 149 (dk_at dksX6_firstFree_0 7 rfl rfl)
theorem dX6_firstFree_10 : decode cX6_firstFree 10 = .ok (.if_icmp .ge 22, 3) := dk_162 0 22 (dk_at dksX6_firstFree_0 10 rfl rfl)
theorem dX6_firstFree_13 : decode cX6_firstFree 13 = .ok (.aload_n 0, 1) := dk_42 (dk_at dksX6_firstFree_0 13 rfl rfl)
theorem dX6_firstFree_14 : decode cX6_firstFree 14 = .ok (.getfield 50, 3) := dk_180 0 50 (dk_at dksX6_firstFree_0 14 rfl rfl)
theorem dX6_firstFree_17 : decode cX6_firstFree 17 = .ok (.iload_n 1, 1) := dk_27 (dk_at dksX6_firstFree_0 17 rfl rfl)
theorem dX6_firstFree_18 : decode cX6_firstFree 18 = .ok (.iaload, 1) := dk_46 (dk_at dksX6_firstFree_0 18 rfl rfl)
theorem dX6_firstFree_19 : decode cX6_firstFree 19 = .ok (.bipush (-2), 2) := dk_16 254 (dk_at dksX6_firstFree_0 19 rfl rfl)
theorem dX6_firstFree_21 : decode cX6_firstFree 21 = .ok (.if_icmp .ne 5, 3) := dk_160 0 5 (dk_at dksX6_firstFree_0 21 rfl rfl)
theorem dX6_firstFree_24 : decode cX6_firstFree 24 = .ok (.iload_n 1, 1) := dk_27 (dk_at dksX6_firstFree_1 0 rfl rfl)
theorem dX6_firstFree_25 : decode cX6_firstFree 25 = .ok (.ireturn, 1) := dk_172 (dk_at dksX6_firstFree_1 1 rfl rfl)
theorem dX6_firstFree_26 : decode cX6_firstFree 26 = .ok (.iinc 1 1, 3) := dk_132 1 1 (dk_at dksX6_firstFree_1 2 rfl rfl)
theorem dX6_firstFree_29 : decode cX6_firstFree 29 = .ok (.goto (-27), 3) := dk_167 255 229 (dk_at dksX6_firstFree_1 5 rfl rfl)
theorem dX6_firstFree_32 : decode cX6_firstFree 32 = .ok (.bipush 8, 2) := dk_16 8 (dk_at dksX6_firstFree_1 8 rfl rfl)
theorem dX6_firstFree_34 : decode cX6_firstFree 34 = .ok (.ireturn, 1) := dk_172 (dk_at dksX6_firstFree_1 10 rfl rfl)
abbrev cX6_isOld : ByteArray := prog_10_method_11_code
def yX6_isOld : MethodName := ⟨RX6, "isOld", "(I)Z"⟩
def dkwX6_isOld_1 : List UInt8 := [46, 50, 180, 0, 184, 100, 42, 180, 0, 74, 180, 0, 187, 27, 46, 161, 0, 7, 4, 167, 0, 4, 3, 172]
abbrev dktX6_isOld_1 : List UInt8 := dkwX6_isOld_1 ++ []
def dkwX6_isOld_0 : List UInt8 := [42, 180, 0, 54, 27, 46, 16, 254, 159, 0, 38, 42, 180, 0, 82, 42, 180, 0, 46, 42, 180, 0, 54, 27]
abbrev dktX6_isOld_0 : List UInt8 := dkwX6_isOld_0 ++ dktX6_isOld_1
theorem dksX6_isOld_0 : cX6_isOld.data.toList.drop 0 = dktX6_isOld_0 := by decide +kernel
theorem dksX6_isOld_1 : cX6_isOld.data.toList.drop 24 = dktX6_isOld_1 := dk_seg dksX6_isOld_0 24 rfl rfl
theorem dX6_isOld_0 : decode cX6_isOld 0 = .ok (.aload_n 0, 1) := dk_42 (dk_at dksX6_isOld_0 0 rfl rfl)
theorem dX6_isOld_1 : decode cX6_isOld 1 = .ok (.getfield 54, 3) := dk_180 0 54 (dk_at dksX6_isOld_0 1 rfl rfl)
theorem dX6_isOld_4 : decode cX6_isOld 4 = .ok (.iload_n 1, 1) := dk_27 (dk_at dksX6_isOld_0 4 rfl rfl)
theorem dX6_isOld_5 : decode cX6_isOld 5 = .ok (.iaload, 1) := dk_46 (dk_at dksX6_isOld_0 5 rfl rfl)
theorem dX6_isOld_6 : decode cX6_isOld 6 = .ok (.bipush (-2), 2) := dk_16 254 (dk_at dksX6_isOld_0 6 rfl rfl)
theorem dX6_isOld_8 : decode cX6_isOld 8 = .ok (.if_icmp .eq 38, 3) := dk_159 0 38 (dk_at dksX6_isOld_0 8 rfl rfl)
theorem dX6_isOld_11 : decode cX6_isOld 11 = .ok (.aload_n 0, 1) := dk_42 (dk_at dksX6_isOld_0 11 rfl rfl)
theorem dX6_isOld_12 : decode cX6_isOld 12 = .ok (.getfield 82, 3) := dk_180 0 82 (dk_at dksX6_isOld_0 12 rfl rfl)
theorem dX6_isOld_15 : decode cX6_isOld 15 = .ok (.aload_n 0, 1) := dk_42 (dk_at dksX6_isOld_0 15 rfl rfl)
theorem dX6_isOld_16 : decode cX6_isOld 16 = .ok (.getfield 46, 3) := dk_180 0 46 (dk_at dksX6_isOld_0 16 rfl rfl)
theorem dX6_isOld_19 : decode cX6_isOld 19 = .ok (.aload_n 0, 1) := dk_42 (dk_at dksX6_isOld_0 19 rfl rfl)
theorem dX6_isOld_20 : decode cX6_isOld 20 = .ok (.getfield 54, 3) := dk_180 0 54 (dk_at dksX6_isOld_0 20 rfl rfl)
theorem dX6_isOld_23 : decode cX6_isOld 23 = .ok (.iload_n 1, 1) := dk_27 (dk_at dksX6_isOld_0 23 rfl rfl)
theorem dX6_isOld_24 : decode cX6_isOld 24 = .ok (.iaload, 1) := dk_46 (dk_at dksX6_isOld_1 0 rfl rfl)
theorem dX6_isOld_25 : decode cX6_isOld 25 = .ok (.aaload, 1) := dk_50 (dk_at dksX6_isOld_1 1 rfl rfl)
theorem dX6_isOld_26 : decode cX6_isOld 26 = .ok (.getfield 184, 3) := dk_180 0 184 (dk_at dksX6_isOld_1 2 rfl rfl)
theorem dX6_isOld_29 : decode cX6_isOld 29 = .ok (.isub, 1) := dk_100 (dk_at dksX6_isOld_1 5 rfl rfl)
theorem dX6_isOld_30 : decode cX6_isOld 30 = .ok (.aload_n 0, 1) := dk_42 (dk_at dksX6_isOld_1 6 rfl rfl)
theorem dX6_isOld_31 : decode cX6_isOld 31 = .ok (.getfield 74, 3) := dk_180 0 74 (dk_at dksX6_isOld_1 7 rfl rfl)
theorem dX6_isOld_34 : decode cX6_isOld 34 = .ok (.getfield 187, 3) := dk_180 0 187 (dk_at dksX6_isOld_1 10 rfl rfl)
theorem dX6_isOld_37 : decode cX6_isOld 37 = .ok (.iload_n 1, 1) := dk_27 (dk_at dksX6_isOld_1 13 rfl rfl)
theorem dX6_isOld_38 : decode cX6_isOld 38 = .ok (.iaload, 1) := dk_46 (dk_at dksX6_isOld_1 14 rfl rfl)
theorem dX6_isOld_39 : decode cX6_isOld 39 = .ok (.if_icmp .lt 7, 3) := dk_161 0 7 (dk_at dksX6_isOld_1 15 rfl rfl)
theorem dX6_isOld_42 : decode cX6_isOld 42 = .ok (.iconst 1, 1) := dk_4 (dk_at dksX6_isOld_1 18 rfl rfl)
theorem dX6_isOld_43 : decode cX6_isOld 43 = .ok (.goto 4, 3) := dk_167 0 4 (dk_at dksX6_isOld_1 19 rfl rfl)
theorem dX6_isOld_46 : decode cX6_isOld 46 = .ok (.iconst 0, 1) := dk_3 (dk_at dksX6_isOld_1 22 rfl rfl)
theorem dX6_isOld_47 : decode cX6_isOld 47 = .ok (.ireturn, 1) := dk_172 (dk_at dksX6_isOld_1 23 rfl rfl)
abbrev cX6_renews : ByteArray := prog_10_method_12_code
def yX6_renews : MethodName := ⟨RX6, "renews", "(LBrushGlass$Person;)V"⟩
def dkwX6_renews_1 : List UInt8 := [46, 182, 0, 190, 44, 42, 180, 0, 82, 181, 0, 193, 44, 16, 254, 181, 0, 160, 42, 43, 182, 0, 157, 177]
abbrev dktX6_renews_1 : List UInt8 := dkwX6_renews_1 ++ []
def dkwX6_renews_0 : List UInt8 := [42, 180, 0, 46, 42, 180, 0, 54, 43, 180, 0, 154, 46, 50, 77, 42, 42, 180, 0, 54, 43, 180, 0, 154]
abbrev dktX6_renews_0 : List UInt8 := dkwX6_renews_0 ++ dktX6_renews_1
theorem dksX6_renews_0 : cX6_renews.data.toList.drop 0 = dktX6_renews_0 := by decide +kernel
theorem dksX6_renews_1 : cX6_renews.data.toList.drop 24 = dktX6_renews_1 := dk_seg dksX6_renews_0 24 rfl rfl
theorem dX6_renews_0 : decode cX6_renews 0 = .ok (.aload_n 0, 1) := dk_42 (dk_at dksX6_renews_0 0 rfl rfl)
theorem dX6_renews_1 : decode cX6_renews 1 = .ok (.getfield 46, 3) := dk_180 0 46 (dk_at dksX6_renews_0 1 rfl rfl)
theorem dX6_renews_4 : decode cX6_renews 4 = .ok (.aload_n 0, 1) := dk_42 (dk_at dksX6_renews_0 4 rfl rfl)
theorem dX6_renews_5 : decode cX6_renews 5 = .ok (.getfield 54, 3) := dk_180 0 54 (dk_at dksX6_renews_0 5 rfl rfl)
theorem dX6_renews_8 : decode cX6_renews 8 = .ok (.aload_n 1, 1) := dk_43 (dk_at dksX6_renews_0 8 rfl rfl)
theorem dX6_renews_9 : decode cX6_renews 9 = .ok (.getfield 154, 3) := dk_180 0 154 (dk_at dksX6_renews_0 9 rfl rfl)
theorem dX6_renews_12 : decode cX6_renews 12 = .ok (.iaload, 1) := dk_46 (dk_at dksX6_renews_0 12 rfl rfl)
theorem dX6_renews_13 : decode cX6_renews 13 = .ok (.aaload, 1) := dk_50 (dk_at dksX6_renews_0 13 rfl rfl)
theorem dX6_renews_14 : decode cX6_renews 14 = .ok (.astore_n 2, 1) := dk_77 (dk_at dksX6_renews_0 14 rfl rfl)
theorem dX6_renews_15 : decode cX6_renews 15 = .ok (.aload_n 0, 1) := dk_42 (dk_at dksX6_renews_0 15 rfl rfl)
theorem dX6_renews_16 : decode cX6_renews 16 = .ok (.aload_n 0, 1) := dk_42 (dk_at dksX6_renews_0 16 rfl rfl)
theorem dX6_renews_17 : decode cX6_renews 17 = .ok (.getfield 54, 3) := dk_180 0 54 (dk_at dksX6_renews_0 17 rfl rfl)
theorem dX6_renews_20 : decode cX6_renews 20 = .ok (.aload_n 1, 1) := dk_43 (dk_at dksX6_renews_0 20 rfl rfl)
theorem dX6_renews_21 : decode cX6_renews 21 = .ok (.getfield 154, 3) := dk_180 0 154 (dk_at dksX6_renews_0 21 rfl rfl)
theorem dX6_renews_24 : decode cX6_renews 24 = .ok (.iaload, 1) := dk_46 (dk_at dksX6_renews_1 0 rfl rfl)
theorem dX6_renews_25 : decode cX6_renews 25 = .ok (.invokevirtual 190, 3) := dk_182 0 190 (dk_at dksX6_renews_1 1 rfl rfl)
theorem dX6_renews_28 : decode cX6_renews 28 = .ok (.aload_n 2, 1) := dk_44 (dk_at dksX6_renews_1 4 rfl rfl)
theorem dX6_renews_29 : decode cX6_renews 29 = .ok (.aload_n 0, 1) := dk_42 (dk_at dksX6_renews_1 5 rfl rfl)
theorem dX6_renews_30 : decode cX6_renews 30 = .ok (.getfield 82, 3) := dk_180 0 82 (dk_at dksX6_renews_1 6 rfl rfl)
theorem dX6_renews_33 : decode cX6_renews 33 = .ok (.putfield 193, 3) := dk_181 0 193 (dk_at dksX6_renews_1 9 rfl rfl)
theorem dX6_renews_36 : decode cX6_renews 36 = .ok (.aload_n 2, 1) := dk_44 (dk_at dksX6_renews_1 12 rfl rfl)
theorem dX6_renews_37 : decode cX6_renews 37 = .ok (.bipush (-2), 2) := dk_16 254 (dk_at dksX6_renews_1 13 rfl rfl)
theorem dX6_renews_39 : decode cX6_renews 39 = .ok (.putfield 160, 3) := dk_181 0 160 (dk_at dksX6_renews_1 15 rfl rfl)
theorem dX6_renews_42 : decode cX6_renews 42 = .ok (.aload_n 0, 1) := dk_42 (dk_at dksX6_renews_1 18 rfl rfl)
theorem dX6_renews_43 : decode cX6_renews 43 = .ok (.aload_n 1, 1) := dk_43 (dk_at dksX6_renews_1 19 rfl rfl)
theorem dX6_renews_44 : decode cX6_renews 44 = .ok (.invokevirtual 157, 3) := dk_182 0 157 (dk_at dksX6_renews_1 20 rfl rfl)
theorem dX6_renews_47 : decode cX6_renews 47 = .ok (.return_, 1) := dk_177 (dk_at dksX6_renews_1 23 rfl rfl)
abbrev cX6_leaves : ByteArray := prog_10_method_10_code
def yX6_leaves : MethodName := ⟨RX6, "leaves", "(I)V"⟩
def dkwX6_leaves_1 : List UInt8 := [180, 0, 160, 16, 254, 79, 177]
abbrev dktX6_leaves_1 : List UInt8 := dkwX6_leaves_1 ++ []
def dkwX6_leaves_0 : List UInt8 := [42, 180, 0, 46, 27, 50, 182, 0, 180, 153, 0, 19, 42, 180, 0, 50, 42, 180, 0, 46, 27, 50]
abbrev dktX6_leaves_0 : List UInt8 := dkwX6_leaves_0 ++ dktX6_leaves_1
theorem dksX6_leaves_0 : cX6_leaves.data.toList.drop 0 = dktX6_leaves_0 := by decide +kernel
theorem dksX6_leaves_1 : cX6_leaves.data.toList.drop 22 = dktX6_leaves_1 := dk_seg dksX6_leaves_0 22 rfl rfl
theorem dX6_leaves_0 : decode cX6_leaves 0 = .ok (.aload_n 0, 1) := dk_42 (dk_at dksX6_leaves_0 0 rfl rfl)
theorem dX6_leaves_1 : decode cX6_leaves 1 = .ok (.getfield 46, 3) := dk_180 0 46 (dk_at dksX6_leaves_0 1 rfl rfl)
theorem dX6_leaves_4 : decode cX6_leaves 4 = .ok (.iload_n 1, 1) := dk_27 (dk_at dksX6_leaves_0 4 rfl rfl)
theorem dX6_leaves_5 : decode cX6_leaves 5 = .ok (.aaload, 1) := dk_50 (dk_at dksX6_leaves_0 5 rfl rfl)
theorem dX6_leaves_6 : decode cX6_leaves 6 = .ok (.invokevirtual 180, 3) := dk_182 0 180 (dk_at dksX6_leaves_0 6 rfl rfl)
theorem dX6_leaves_9 : decode cX6_leaves 9 = .ok (.ifCond .eq 19, 3) := dk_153 0 19 (dk_at dksX6_leaves_0 9 rfl rfl)
theorem dX6_leaves_12 : decode cX6_leaves 12 = .ok (.aload_n 0, 1) := dk_42 (dk_at dksX6_leaves_0 12 rfl rfl)
theorem dX6_leaves_13 : decode cX6_leaves 13 = .ok (.getfield 50, 3) := dk_180 0 50 (dk_at dksX6_leaves_0 13 rfl rfl)
theorem dX6_leaves_16 : decode cX6_leaves 16 = .ok (.aload_n 0, 1) := dk_42 (dk_at dksX6_leaves_0 16 rfl rfl)
theorem dX6_leaves_17 : decode cX6_leaves 17 = .ok (.getfield 46, 3) := dk_180 0 46 (dk_at dksX6_leaves_0 17 rfl rfl)
theorem dX6_leaves_20 : decode cX6_leaves 20 = .ok (.iload_n 1, 1) := dk_27 (dk_at dksX6_leaves_0 20 rfl rfl)
theorem dX6_leaves_21 : decode cX6_leaves 21 = .ok (.aaload, 1) := dk_50 (dk_at dksX6_leaves_0 21 rfl rfl)
theorem dX6_leaves_22 : decode cX6_leaves 22 = .ok (.getfield 160, 3) := dk_180 0 160 (dk_at dksX6_leaves_1 0 rfl rfl)
theorem dX6_leaves_25 : decode cX6_leaves 25 = .ok (.bipush (-2), 2) := dk_16 254 (dk_at dksX6_leaves_1 3 rfl rfl)
theorem dX6_leaves_27 : decode cX6_leaves 27 = .ok (.iastore, 1) := dk_79 (dk_at dksX6_leaves_1 5 rfl rfl)
theorem dX6_leaves_28 : decode cX6_leaves 28 = .ok (.return_, 1) := dk_177 (dk_at dksX6_leaves_1 6 rfl rfl)
abbrev cX6_moves : ByteArray := prog_10_method_13_code
def yX6_moves : MethodName := ⟨RX6, "moves", "(LBrushGlass$Move;)V"⟩
def dkwX6_moves_4 : List UInt8 := [180, 0, 46, 28, 50, 43, 180, 0, 202, 181, 0, 160, 177]
abbrev dktX6_moves_4 : List UInt8 := dkwX6_moves_4 ++ []
def dkwX6_moves_3 : List UInt8 := [180, 0, 50, 43, 180, 0, 199, 46, 50, 43, 180, 0, 199, 181, 0, 160, 28, 16, 254, 159, 0, 16, 42]
abbrev dktX6_moves_3 : List UInt8 := dkwX6_moves_3 ++ dktX6_moves_4
def dkwX6_moves_2 : List UInt8 := [180, 0, 202, 28, 79, 42, 180, 0, 50, 43, 180, 0, 199, 46, 16, 254, 159, 0, 24, 42, 180, 0, 46, 42]
abbrev dktX6_moves_2 : List UInt8 := dkwX6_moves_2 ++ dktX6_moves_3
def dkwX6_moves_1 : List UInt8 := [180, 0, 50, 43, 180, 0, 199, 42, 180, 0, 50, 43, 180, 0, 202, 46, 79, 42, 180, 0, 50, 43]
abbrev dktX6_moves_1 : List UInt8 := dkwX6_moves_1 ++ dktX6_moves_2
def dkwX6_moves_0 : List UInt8 := [43, 180, 0, 196, 42, 180, 0, 82, 159, 0, 4, 177, 42, 180, 0, 50, 43, 180, 0, 199, 46, 61, 42]
abbrev dktX6_moves_0 : List UInt8 := dkwX6_moves_0 ++ dktX6_moves_1
theorem dksX6_moves_0 : cX6_moves.data.toList.drop 0 = dktX6_moves_0 := by decide +kernel
theorem dksX6_moves_1 : cX6_moves.data.toList.drop 23 = dktX6_moves_1 := dk_seg dksX6_moves_0 23 rfl rfl
theorem dksX6_moves_2 : cX6_moves.data.toList.drop 45 = dktX6_moves_2 := dk_seg dksX6_moves_1 22 rfl rfl
theorem dksX6_moves_3 : cX6_moves.data.toList.drop 69 = dktX6_moves_3 := dk_seg dksX6_moves_2 24 rfl rfl
theorem dksX6_moves_4 : cX6_moves.data.toList.drop 92 = dktX6_moves_4 := dk_seg dksX6_moves_3 23 rfl rfl
theorem dX6_moves_0 : decode cX6_moves 0 = .ok (.aload_n 1, 1) := dk_43 (dk_at dksX6_moves_0 0 rfl rfl)
theorem dX6_moves_1 : decode cX6_moves 1 = .ok (.getfield 196, 3) := dk_180 0 196 (dk_at dksX6_moves_0 1 rfl rfl)
theorem dX6_moves_4 : decode cX6_moves 4 = .ok (.aload_n 0, 1) := dk_42 (dk_at dksX6_moves_0 4 rfl rfl)
theorem dX6_moves_5 : decode cX6_moves 5 = .ok (.getfield 82, 3) := dk_180 0 82 (dk_at dksX6_moves_0 5 rfl rfl)
theorem dX6_moves_8 : decode cX6_moves 8 = .ok (.if_icmp .eq 4, 3) := dk_159 0 4 (dk_at dksX6_moves_0 8 rfl rfl)
theorem dX6_moves_11 : decode cX6_moves 11 = .ok (.return_, 1) := dk_177 (dk_at dksX6_moves_0 11 rfl rfl)
theorem dX6_moves_12 : decode cX6_moves 12 = .ok (.aload_n 0, 1) := dk_42 (dk_at dksX6_moves_0 12 rfl rfl)
theorem dX6_moves_13 : decode cX6_moves 13 = .ok (.getfield 50, 3) := dk_180 0 50 (dk_at dksX6_moves_0 13 rfl rfl)
theorem dX6_moves_16 : decode cX6_moves 16 = .ok (.aload_n 1, 1) := dk_43 (dk_at dksX6_moves_0 16 rfl rfl)
theorem dX6_moves_17 : decode cX6_moves 17 = .ok (.getfield 199, 3) := dk_180 0 199 (dk_at dksX6_moves_0 17 rfl rfl)
theorem dX6_moves_20 : decode cX6_moves 20 = .ok (.iaload, 1) := dk_46 (dk_at dksX6_moves_0 20 rfl rfl)
theorem dX6_moves_21 : decode cX6_moves 21 = .ok (.istore_n 2, 1) := dk_61 (dk_at dksX6_moves_0 21 rfl rfl)
theorem dX6_moves_22 : decode cX6_moves 22 = .ok (.aload_n 0, 1) := dk_42 (dk_at dksX6_moves_0 22 rfl rfl)
theorem dX6_moves_23 : decode cX6_moves 23 = .ok (.getfield 50, 3) := dk_180 0 50 (dk_at dksX6_moves_1 0 rfl rfl)
theorem dX6_moves_26 : decode cX6_moves 26 = .ok (.aload_n 1, 1) := dk_43 (dk_at dksX6_moves_1 3 rfl rfl)
theorem dX6_moves_27 : decode cX6_moves 27 = .ok (.getfield 199, 3) := dk_180 0 199 (dk_at dksX6_moves_1 4 rfl rfl)
theorem dX6_moves_30 : decode cX6_moves 30 = .ok (.aload_n 0, 1) := dk_42 (dk_at dksX6_moves_1 7 rfl rfl)
theorem dX6_moves_31 : decode cX6_moves 31 = .ok (.getfield 50, 3) := dk_180 0 50 (dk_at dksX6_moves_1 8 rfl rfl)
theorem dX6_moves_34 : decode cX6_moves 34 = .ok (.aload_n 1, 1) := dk_43 (dk_at dksX6_moves_1 11 rfl rfl)
theorem dX6_moves_35 : decode cX6_moves 35 = .ok (.getfield 202, 3) := dk_180 0 202 (dk_at dksX6_moves_1 12 rfl rfl)
theorem dX6_moves_38 : decode cX6_moves 38 = .ok (.iaload, 1) := dk_46 (dk_at dksX6_moves_1 15 rfl rfl)
theorem dX6_moves_39 : decode cX6_moves 39 = .ok (.iastore, 1) := dk_79 (dk_at dksX6_moves_1 16 rfl rfl)
theorem dX6_moves_40 : decode cX6_moves 40 = .ok (.aload_n 0, 1) := dk_42 (dk_at dksX6_moves_1 17 rfl rfl)
theorem dX6_moves_41 : decode cX6_moves 41 = .ok (.getfield 50, 3) := dk_180 0 50 (dk_at dksX6_moves_1 18 rfl rfl)
theorem dX6_moves_44 : decode cX6_moves 44 = .ok (.aload_n 1, 1) := dk_43 (dk_at dksX6_moves_1 21 rfl rfl)
theorem dX6_moves_45 : decode cX6_moves 45 = .ok (.getfield 202, 3) := dk_180 0 202 (dk_at dksX6_moves_2 0 rfl rfl)
theorem dX6_moves_48 : decode cX6_moves 48 = .ok (.iload_n 2, 1) := dk_28 (dk_at dksX6_moves_2 3 rfl rfl)
theorem dX6_moves_49 : decode cX6_moves 49 = .ok (.iastore, 1) := dk_79 (dk_at dksX6_moves_2 4 rfl rfl)
theorem dX6_moves_50 : decode cX6_moves 50 = .ok (.aload_n 0, 1) := dk_42 (dk_at dksX6_moves_2 5 rfl rfl)
theorem dX6_moves_51 : decode cX6_moves 51 = .ok (.getfield 50, 3) := dk_180 0 50 (dk_at dksX6_moves_2 6 rfl rfl)
theorem dX6_moves_54 : decode cX6_moves 54 = .ok (.aload_n 1, 1) := dk_43 (dk_at dksX6_moves_2 9 rfl rfl)
theorem dX6_moves_55 : decode cX6_moves 55 = .ok (.getfield 199, 3) := dk_180 0 199 (dk_at dksX6_moves_2 10 rfl rfl)
theorem dX6_moves_58 : decode cX6_moves 58 = .ok (.iaload, 1) := dk_46 (dk_at dksX6_moves_2 13 rfl rfl)
theorem dX6_moves_59 : decode cX6_moves 59 = .ok (.bipush (-2), 2) := dk_16 254 (dk_at dksX6_moves_2 14 rfl rfl)
theorem dX6_moves_61 : decode cX6_moves 61 = .ok (.if_icmp .eq 24, 3) := dk_159 0 24 (dk_at dksX6_moves_2 16 rfl rfl)
theorem dX6_moves_64 : decode cX6_moves 64 = .ok (.aload_n 0, 1) := dk_42 (dk_at dksX6_moves_2 19 rfl rfl)
theorem dX6_moves_65 : decode cX6_moves 65 = .ok (.getfield 46, 3) := dk_180 0 46 (dk_at dksX6_moves_2 20 rfl rfl)
theorem dX6_moves_68 : decode cX6_moves 68 = .ok (.aload_n 0, 1) := dk_42 (dk_at dksX6_moves_2 23 rfl rfl)
theorem dX6_moves_69 : decode cX6_moves 69 = .ok (.getfield 50, 3) := dk_180 0 50 (dk_at dksX6_moves_3 0 rfl rfl)
theorem dX6_moves_72 : decode cX6_moves 72 = .ok (.aload_n 1, 1) := dk_43 (dk_at dksX6_moves_3 3 rfl rfl)
theorem dX6_moves_73 : decode cX6_moves 73 = .ok (.getfield 199, 3) := dk_180 0 199 (dk_at dksX6_moves_3 4 rfl rfl)
theorem dX6_moves_76 : decode cX6_moves 76 = .ok (.iaload, 1) := dk_46 (dk_at dksX6_moves_3 7 rfl rfl)
theorem dX6_moves_77 : decode cX6_moves 77 = .ok (.aaload, 1) := dk_50 (dk_at dksX6_moves_3 8 rfl rfl)
theorem dX6_moves_78 : decode cX6_moves 78 = .ok (.aload_n 1, 1) := dk_43 (dk_at dksX6_moves_3 9 rfl rfl)
theorem dX6_moves_79 : decode cX6_moves 79 = .ok (.getfield 199, 3) := dk_180 0 199 (dk_at dksX6_moves_3 10 rfl rfl)
theorem dX6_moves_82 : decode cX6_moves 82 = .ok (.putfield 160, 3) := dk_181 0 160 (dk_at dksX6_moves_3 13 rfl rfl)
theorem dX6_moves_85 : decode cX6_moves 85 = .ok (.iload_n 2, 1) := dk_28 (dk_at dksX6_moves_3 16 rfl rfl)
theorem dX6_moves_86 : decode cX6_moves 86 = .ok (.bipush (-2), 2) := dk_16 254 (dk_at dksX6_moves_3 17 rfl rfl)
theorem dX6_moves_88 : decode cX6_moves 88 = .ok (.if_icmp .eq 16, 3) := dk_159 0 16 (dk_at dksX6_moves_3 19 rfl rfl)
theorem dX6_moves_91 : decode cX6_moves 91 = .ok (.aload_n 0, 1) := dk_42 (dk_at dksX6_moves_3 22 rfl rfl)
theorem dX6_moves_92 : decode cX6_moves 92 = .ok (.getfield 46, 3) := dk_180 0 46 (dk_at dksX6_moves_4 0 rfl rfl)
theorem dX6_moves_95 : decode cX6_moves 95 = .ok (.iload_n 2, 1) := dk_28 (dk_at dksX6_moves_4 3 rfl rfl)
theorem dX6_moves_96 : decode cX6_moves 96 = .ok (.aaload, 1) := dk_50 (dk_at dksX6_moves_4 4 rfl rfl)
theorem dX6_moves_97 : decode cX6_moves 97 = .ok (.aload_n 1, 1) := dk_43 (dk_at dksX6_moves_4 5 rfl rfl)
theorem dX6_moves_98 : decode cX6_moves 98 = .ok (.getfield 202, 3) := dk_180 0 202 (dk_at dksX6_moves_4 6 rfl rfl)
theorem dX6_moves_101 : decode cX6_moves 101 = .ok (.putfield 160, 3) := dk_181 0 160 (dk_at dksX6_moves_4 9 rfl rfl)
theorem dX6_moves_104 : decode cX6_moves 104 = .ok (.return_, 1) := dk_177 (dk_at dksX6_moves_4 12 rfl rfl)
abbrev cX6_use : ByteArray := prog_10_method_14_code
def yX6_use : MethodName := ⟨RX6, "use", "(LBrushGlass$Person;)I"⟩
def dkwX6_use_5 : List UInt8 := [182, 0, 190, 42, 43, 180, 0, 154, 28, 182, 0, 163, 21, 4, 172]
abbrev dktX6_use_5 : List UInt8 := dkwX6_use_5 ++ []
def dkwX6_use_4 : List UInt8 := [181, 0, 216, 45, 182, 0, 219, 153, 0, 29, 42, 180, 0, 46, 28, 50, 182, 0, 180, 153, 0, 17, 42, 28]
abbrev dktX6_use_4 : List UInt8 := dkwX6_use_4 ++ dktX6_use_5
def dkwX6_use_3 : List UInt8 := [89, 180, 0, 210, 43, 180, 0, 213, 96, 181, 0, 210, 42, 180, 0, 46, 21, 4, 50, 42, 180, 0, 82]
abbrev dktX6_use_3 : List UInt8 := dkwX6_use_3 ++ dktX6_use_4
def dkwX6_use_2 : List UInt8 := [180, 0, 57, 43, 180, 0, 154, 46, 182, 0, 207, 167, 0, 4, 28, 54, 4, 42, 180, 0, 46, 21, 4, 50]
abbrev dktX6_use_2 : List UInt8 := dkwX6_use_2 ++ dktX6_use_3
def dkwX6_use_1 : List UInt8 := [180, 0, 154, 46, 50, 78, 42, 180, 0, 46, 28, 50, 182, 0, 180, 153, 0, 21, 45, 42, 28, 42]
abbrev dktX6_use_1 : List UInt8 := dkwX6_use_1 ++ dktX6_use_2
def dkwX6_use_0 : List UInt8 := [42, 180, 0, 54, 43, 180, 0, 154, 46, 61, 42, 180, 0, 40, 42, 180, 0, 74, 180, 0, 205, 43]
abbrev dktX6_use_0 : List UInt8 := dkwX6_use_0 ++ dktX6_use_1
theorem dksX6_use_0 : cX6_use.data.toList.drop 0 = dktX6_use_0 := by decide +kernel
theorem dksX6_use_1 : cX6_use.data.toList.drop 22 = dktX6_use_1 := dk_seg dksX6_use_0 22 rfl rfl
theorem dksX6_use_2 : cX6_use.data.toList.drop 44 = dktX6_use_2 := dk_seg dksX6_use_1 22 rfl rfl
theorem dksX6_use_3 : cX6_use.data.toList.drop 68 = dktX6_use_3 := dk_seg dksX6_use_2 24 rfl rfl
theorem dksX6_use_4 : cX6_use.data.toList.drop 91 = dktX6_use_4 := dk_seg dksX6_use_3 23 rfl rfl
theorem dksX6_use_5 : cX6_use.data.toList.drop 115 = dktX6_use_5 := dk_seg dksX6_use_4 24 rfl rfl
theorem dX6_use_0 : decode cX6_use 0 = .ok (.aload_n 0, 1) := dk_42 (dk_at dksX6_use_0 0 rfl rfl)
theorem dX6_use_1 : decode cX6_use 1 = .ok (.getfield 54, 3) := dk_180 0 54 (dk_at dksX6_use_0 1 rfl rfl)
theorem dX6_use_4 : decode cX6_use 4 = .ok (.aload_n 1, 1) := dk_43 (dk_at dksX6_use_0 4 rfl rfl)
theorem dX6_use_5 : decode cX6_use 5 = .ok (.getfield 154, 3) := dk_180 0 154 (dk_at dksX6_use_0 5 rfl rfl)
theorem dX6_use_8 : decode cX6_use 8 = .ok (.iaload, 1) := dk_46 (dk_at dksX6_use_0 8 rfl rfl)
theorem dX6_use_9 : decode cX6_use 9 = .ok (.istore_n 2, 1) := dk_61 (dk_at dksX6_use_0 9 rfl rfl)
theorem dX6_use_10 : decode cX6_use 10 = .ok (.aload_n 0, 1) := dk_42 (dk_at dksX6_use_0 10 rfl rfl)
theorem dX6_use_11 : decode cX6_use 11 = .ok (.getfield 40, 3) := dk_180 0 40 (dk_at dksX6_use_0 11 rfl rfl)
theorem dX6_use_14 : decode cX6_use 14 = .ok (.aload_n 0, 1) := dk_42 (dk_at dksX6_use_0 14 rfl rfl)
theorem dX6_use_15 : decode cX6_use 15 = .ok (.getfield 74, 3) := dk_180 0 74 (dk_at dksX6_use_0 15 rfl rfl)
theorem dX6_use_18 : decode cX6_use 18 = .ok (.getfield 205, 3) := dk_180 0 205 (dk_at dksX6_use_0 18 rfl rfl)
theorem dX6_use_21 : decode cX6_use 21 = .ok (.aload_n 1, 1) := dk_43 (dk_at dksX6_use_0 21 rfl rfl)
theorem dX6_use_22 : decode cX6_use 22 = .ok (.getfield 154, 3) := dk_180 0 154 (dk_at dksX6_use_1 0 rfl rfl)
theorem dX6_use_25 : decode cX6_use 25 = .ok (.iaload, 1) := dk_46 (dk_at dksX6_use_1 3 rfl rfl)
theorem dX6_use_26 : decode cX6_use 26 = .ok (.aaload, 1) := dk_50 (dk_at dksX6_use_1 4 rfl rfl)
theorem dX6_use_27 : decode cX6_use 27 = .ok (.astore_n 3, 1) := dk_78 (dk_at dksX6_use_1 5 rfl rfl)
theorem dX6_use_28 : decode cX6_use 28 = .ok (.aload_n 0, 1) := dk_42 (dk_at dksX6_use_1 6 rfl rfl)
theorem dX6_use_29 : decode cX6_use 29 = .ok (.getfield 46, 3) := dk_180 0 46 (dk_at dksX6_use_1 7 rfl rfl)
theorem dX6_use_32 : decode cX6_use 32 = .ok (.iload_n 2, 1) := dk_28 (dk_at dksX6_use_1 10 rfl rfl)
theorem dX6_use_33 : decode cX6_use 33 = .ok (.aaload, 1) := dk_50 (dk_at dksX6_use_1 11 rfl rfl)
theorem dX6_use_34 : decode cX6_use 34 = .ok (.invokevirtual 180, 3) := dk_182 0 180 (dk_at dksX6_use_1 12 rfl rfl)
theorem dX6_use_37 : decode cX6_use 37 = .ok (.ifCond .eq 21, 3) := dk_153 0 21 (dk_at dksX6_use_1 15 rfl rfl)
theorem dX6_use_40 : decode cX6_use 40 = .ok (.aload_n 3, 1) := dk_45 (dk_at dksX6_use_1 18 rfl rfl)
theorem dX6_use_41 : decode cX6_use 41 = .ok (.aload_n 0, 1) := dk_42 (dk_at dksX6_use_1 19 rfl rfl)
theorem dX6_use_42 : decode cX6_use 42 = .ok (.iload_n 2, 1) := dk_28 (dk_at dksX6_use_1 20 rfl rfl)
theorem dX6_use_43 : decode cX6_use 43 = .ok (.aload_n 0, 1) := dk_42 (dk_at dksX6_use_1 21 rfl rfl)
theorem dX6_use_44 : decode cX6_use 44 = .ok (.getfield 57, 3) := dk_180 0 57 (dk_at dksX6_use_2 0 rfl rfl)
theorem dX6_use_47 : decode cX6_use 47 = .ok (.aload_n 1, 1) := dk_43 (dk_at dksX6_use_2 3 rfl rfl)
theorem dX6_use_48 : decode cX6_use 48 = .ok (.getfield 154, 3) := dk_180 0 154 (dk_at dksX6_use_2 4 rfl rfl)
theorem dX6_use_51 : decode cX6_use 51 = .ok (.iaload, 1) := dk_46 (dk_at dksX6_use_2 7 rfl rfl)
theorem dX6_use_52 : decode cX6_use 52 = .ok (.invokevirtual 207, 3) := dk_182 0 207 (dk_at dksX6_use_2 8 rfl rfl)
theorem dX6_use_55 : decode cX6_use 55 = .ok (.goto 4, 3) := dk_167 0 4 (dk_at dksX6_use_2 11 rfl rfl)
theorem dX6_use_58 : decode cX6_use 58 = .ok (.iload_n 2, 1) := dk_28 (dk_at dksX6_use_2 14 rfl rfl)
theorem dX6_use_59 : decode cX6_use 59 = .ok (.istore 4, 2) := dk_54 4 (dk_at dksX6_use_2 15 rfl rfl)
theorem dX6_use_61 : decode cX6_use 61 = .ok (.aload_n 0, 1) := dk_42 (dk_at dksX6_use_2 17 rfl rfl)
theorem dX6_use_62 : decode cX6_use 62 = .ok (.getfield 46, 3) := dk_180 0 46 (dk_at dksX6_use_2 18 rfl rfl)
theorem dX6_use_65 : decode cX6_use 65 = .ok (.iload 4, 2) := dk_21 4 (dk_at dksX6_use_2 21 rfl rfl)
theorem dX6_use_67 : decode cX6_use 67 = .ok (.aaload, 1) := dk_50 (dk_at dksX6_use_2 23 rfl rfl)
theorem dX6_use_68 : decode cX6_use 68 = .ok (.dup, 1) := dk_89 (dk_at dksX6_use_3 0 rfl rfl)
theorem dX6_use_69 : decode cX6_use 69 = .ok (.getfield 210, 3) := dk_180 0 210 (dk_at dksX6_use_3 1 rfl rfl)
theorem dX6_use_72 : decode cX6_use 72 = .ok (.aload_n 1, 1) := dk_43 (dk_at dksX6_use_3 4 rfl rfl)
theorem dX6_use_73 : decode cX6_use 73 = .ok (.getfield 213, 3) := dk_180 0 213 (dk_at dksX6_use_3 5 rfl rfl)
theorem dX6_use_76 : decode cX6_use 76 = .ok (.iadd, 1) := dk_96 (dk_at dksX6_use_3 8 rfl rfl)
theorem dX6_use_77 : decode cX6_use 77 = .ok (.putfield 210, 3) := dk_181 0 210 (dk_at dksX6_use_3 9 rfl rfl)
theorem dX6_use_80 : decode cX6_use 80 = .ok (.aload_n 0, 1) := dk_42 (dk_at dksX6_use_3 12 rfl rfl)
theorem dX6_use_81 : decode cX6_use 81 = .ok (.getfield 46, 3) := dk_180 0 46 (dk_at dksX6_use_3 13 rfl rfl)
theorem dX6_use_84 : decode cX6_use 84 = .ok (.iload 4, 2) := dk_21 4 (dk_at dksX6_use_3 16 rfl rfl)
theorem dX6_use_86 : decode cX6_use 86 = .ok (.aaload, 1) := dk_50 (dk_at dksX6_use_3 18 rfl rfl)
theorem dX6_use_87 : decode cX6_use 87 = .ok (.aload_n 0, 1) := dk_42 (dk_at dksX6_use_3 19 rfl rfl)
theorem dX6_use_88 : decode cX6_use 88 = .ok (.getfield 82, 3) := dk_180 0 82 (dk_at dksX6_use_3 20 rfl rfl)
theorem dX6_use_91 : decode cX6_use 91 = .ok (.putfield 216, 3) := dk_181 0 216 (dk_at dksX6_use_4 0 rfl rfl)
theorem dX6_use_94 : decode cX6_use 94 = .ok (.aload_n 3, 1) := dk_45 (dk_at dksX6_use_4 3 rfl rfl)
theorem dX6_use_95 : decode cX6_use 95 = .ok (.invokevirtual 219, 3) := dk_182 0 219 (dk_at dksX6_use_4 4 rfl rfl)
theorem dX6_use_98 : decode cX6_use 98 = .ok (.ifCond .eq 29, 3) := dk_153 0 29 (dk_at dksX6_use_4 7 rfl rfl)
theorem dX6_use_101 : decode cX6_use 101 = .ok (.aload_n 0, 1) := dk_42 (dk_at dksX6_use_4 10 rfl rfl)
theorem dX6_use_102 : decode cX6_use 102 = .ok (.getfield 46, 3) := dk_180 0 46 (dk_at dksX6_use_4 11 rfl rfl)
theorem dX6_use_105 : decode cX6_use 105 = .ok (.iload_n 2, 1) := dk_28 (dk_at dksX6_use_4 14 rfl rfl)
theorem dX6_use_106 : decode cX6_use 106 = .ok (.aaload, 1) := dk_50 (dk_at dksX6_use_4 15 rfl rfl)
theorem dX6_use_107 : decode cX6_use 107 = .ok (.invokevirtual 180, 3) := dk_182 0 180 (dk_at dksX6_use_4 16 rfl rfl)
theorem dX6_use_110 : decode cX6_use 110 = .ok (.ifCond .eq 17, 3) := dk_153 0 17 (dk_at dksX6_use_4 19 rfl rfl)
theorem dX6_use_113 : decode cX6_use 113 = .ok (.aload_n 0, 1) := dk_42 (dk_at dksX6_use_4 22 rfl rfl)
theorem dX6_use_114 : decode cX6_use 114 = .ok (.iload_n 2, 1) := dk_28 (dk_at dksX6_use_4 23 rfl rfl)
theorem dX6_use_115 : decode cX6_use 115 = .ok (.invokevirtual 190, 3) := dk_182 0 190 (dk_at dksX6_use_5 0 rfl rfl)
theorem dX6_use_118 : decode cX6_use 118 = .ok (.aload_n 0, 1) := dk_42 (dk_at dksX6_use_5 3 rfl rfl)
theorem dX6_use_119 : decode cX6_use 119 = .ok (.aload_n 1, 1) := dk_43 (dk_at dksX6_use_5 4 rfl rfl)
theorem dX6_use_120 : decode cX6_use 120 = .ok (.getfield 154, 3) := dk_180 0 154 (dk_at dksX6_use_5 5 rfl rfl)
theorem dX6_use_123 : decode cX6_use 123 = .ok (.iload_n 2, 1) := dk_28 (dk_at dksX6_use_5 8 rfl rfl)
theorem dX6_use_124 : decode cX6_use 124 = .ok (.invokevirtual 163, 3) := dk_182 0 163 (dk_at dksX6_use_5 9 rfl rfl)
theorem dX6_use_127 : decode cX6_use 127 = .ok (.iload 4, 2) := dk_21 4 (dk_at dksX6_use_5 12 rfl rfl)
theorem dX6_use_129 : decode cX6_use 129 = .ok (.ireturn, 1) := dk_172 (dk_at dksX6_use_5 14 rfl rfl)
abbrev cX6_stands : ByteArray := prog_10_method_4_code
def yX6_stands : MethodName := ⟨RX6, "stands", "(I)I"⟩
def dkwX6_stands_0 : List UInt8 := [42, 180, 0, 50, 27, 46, 172]
abbrev dktX6_stands_0 : List UInt8 := dkwX6_stands_0 ++ []
theorem dksX6_stands_0 : cX6_stands.data.toList.drop 0 = dktX6_stands_0 := by decide +kernel
theorem dX6_stands_0 : decode cX6_stands 0 = .ok (.aload_n 0, 1) := dk_42 (dk_at dksX6_stands_0 0 rfl rfl)
theorem dX6_stands_1 : decode cX6_stands 1 = .ok (.getfield 50, 3) := dk_180 0 50 (dk_at dksX6_stands_0 1 rfl rfl)
theorem dX6_stands_4 : decode cX6_stands 4 = .ok (.iload_n 1, 1) := dk_27 (dk_at dksX6_stands_0 4 rfl rfl)
theorem dX6_stands_5 : decode cX6_stands 5 = .ok (.iaload, 1) := dk_46 (dk_at dksX6_stands_0 5 rfl rfl)
theorem dX6_stands_6 : decode cX6_stands 6 = .ok (.ireturn, 1) := dk_172 (dk_at dksX6_stands_0 6 rfl rfl)
abbrev cX6_brush : ByteArray := prog_10_method_3_code
def yX6_brush : MethodName := ⟨RX6, "brush", "(I)LBrushGlass$Brush;"⟩
def dkwX6_brush_0 : List UInt8 := [42, 180, 0, 46, 27, 50, 176]
abbrev dktX6_brush_0 : List UInt8 := dkwX6_brush_0 ++ []
theorem dksX6_brush_0 : cX6_brush.data.toList.drop 0 = dktX6_brush_0 := by decide +kernel
theorem dX6_brush_0 : decode cX6_brush 0 = .ok (.aload_n 0, 1) := dk_42 (dk_at dksX6_brush_0 0 rfl rfl)
theorem dX6_brush_1 : decode cX6_brush 1 = .ok (.getfield 46, 3) := dk_180 0 46 (dk_at dksX6_brush_0 1 rfl rfl)
theorem dX6_brush_4 : decode cX6_brush 4 = .ok (.iload_n 1, 1) := dk_27 (dk_at dksX6_brush_0 4 rfl rfl)
theorem dX6_brush_5 : decode cX6_brush 5 = .ok (.aaload, 1) := dk_50 (dk_at dksX6_brush_0 5 rfl rfl)
theorem dX6_brush_6 : decode cX6_brush 6 = .ok (.areturn, 1) := dk_176 (dk_at dksX6_brush_0 6 rfl rfl)
abbrev cX6_keep : ByteArray := prog_10_method_15_code
def yX6_keep : MethodName := ⟨RX6, "keep", "()V"⟩
def dkwX6_keep_4 : List UInt8 := [180, 0, 46, 42, 180, 0, 54, 27, 46, 50, 180, 0, 160, 79, 132, 1, 1, 167, 255, 198, 177]
abbrev dktX6_keep_4 : List UInt8 := dkwX6_keep_4 ++ []
def dkwX6_keep_3 : List UInt8 := [180, 0, 82, 104, 27, 96, 42, 180, 0, 54, 27, 46, 16, 254, 160, 0, 8, 16, 254, 167, 0, 17, 42]
abbrev dktX6_keep_3 : List UInt8 := dkwX6_keep_3 ++ dktX6_keep_4
def dkwX6_keep_2 : List UInt8 := [167, 255, 211, 3, 60, 27, 42, 180, 0, 70, 180, 0, 90, 162, 0, 53, 42, 180, 0, 63, 16, 7, 42]
abbrev dktX6_keep_2 : List UInt8 := dkwX6_keep_2 ++ dktX6_keep_3
def dkwX6_keep_1 : List UInt8 := [180, 0, 70, 180, 0, 149, 162, 0, 12, 42, 180, 0, 50, 27, 46, 167, 0, 5, 16, 254, 79, 132, 1, 1]
abbrev dktX6_keep_1 : List UInt8 := dkwX6_keep_1 ++ dktX6_keep_2
def dkwX6_keep_0 : List UInt8 := [3, 60, 27, 16, 8, 162, 0, 45, 42, 180, 0, 60, 16, 8, 42, 180, 0, 82, 104, 27, 96, 27, 42]
abbrev dktX6_keep_0 : List UInt8 := dkwX6_keep_0 ++ dktX6_keep_1
theorem dksX6_keep_0 : cX6_keep.data.toList.drop 0 = dktX6_keep_0 := by decide +kernel
theorem dksX6_keep_1 : cX6_keep.data.toList.drop 23 = dktX6_keep_1 := dk_seg dksX6_keep_0 23 rfl rfl
theorem dksX6_keep_2 : cX6_keep.data.toList.drop 47 = dktX6_keep_2 := dk_seg dksX6_keep_1 24 rfl rfl
theorem dksX6_keep_3 : cX6_keep.data.toList.drop 70 = dktX6_keep_3 := dk_seg dksX6_keep_2 23 rfl rfl
theorem dksX6_keep_4 : cX6_keep.data.toList.drop 93 = dktX6_keep_4 := dk_seg dksX6_keep_3 23 rfl rfl
theorem dX6_keep_0 : decode cX6_keep 0 = .ok (.iconst 0, 1) := dk_3 (dk_at dksX6_keep_0 0 rfl rfl)
theorem dX6_keep_1 : decode cX6_keep 1 = .ok (.istore_n 1, 1) := dk_60 (dk_at dksX6_keep_0 1 rfl rfl)
theorem dX6_keep_2 : decode cX6_keep 2 = .ok (.iload_n 1, 1) := dk_27 (dk_at dksX6_keep_0 2 rfl rfl)
theorem dX6_keep_3 : decode cX6_keep 3 = .ok (.bipush 8, 2) := dk_16 8 (dk_at dksX6_keep_0 3 rfl rfl)
theorem dX6_keep_5 : decode cX6_keep 5 = .ok (.if_icmp .ge 45, 3) := dk_162 0 45 (dk_at dksX6_keep_0 5 rfl rfl)
theorem dX6_keep_8 : decode cX6_keep 8 = .ok (.aload_n 0, 1) := dk_42 (dk_at dksX6_keep_0 8 rfl rfl)
theorem dX6_keep_9 : decode cX6_keep 9 = .ok (.getfield 60, 3) := dk_180 0 60 (dk_at dksX6_keep_0 9 rfl rfl)
theorem dX6_keep_12 : decode cX6_keep 12 = .ok (.bipush 8, 2) := dk_16 8 (dk_at dksX6_keep_0 12 rfl rfl)
theorem dX6_keep_14 : decode cX6_keep 14 = .ok (.aload_n 0, 1) := dk_42 (dk_at dksX6_keep_0 14 rfl rfl)
theorem dX6_keep_15 : decode cX6_keep 15 = .ok (.getfield 82, 3) := dk_180 0 82 (dk_at dksX6_keep_0 15 rfl rfl)
theorem dX6_keep_18 : decode cX6_keep 18 = .ok (.imul, 1) := dk_104 (dk_at dksX6_keep_0 18 rfl rfl)
theorem dX6_keep_19 : decode cX6_keep 19 = .ok (.iload_n 1, 1) := dk_27 (dk_at dksX6_keep_0 19 rfl rfl)
theorem dX6_keep_20 : decode cX6_keep 20 = .ok (.iadd, 1) := dk_96 (dk_at dksX6_keep_0 20 rfl rfl)
theorem dX6_keep_21 : decode cX6_keep 21 = .ok (.iload_n 1, 1) := dk_27 (dk_at dksX6_keep_0 21 rfl rfl)
theorem dX6_keep_22 : decode cX6_keep 22 = .ok (.aload_n 0, 1) := dk_42 (dk_at dksX6_keep_0 22 rfl rfl)
theorem dX6_keep_23 : decode cX6_keep 23 = .ok (.getfield 70, 3) := dk_180 0 70 (dk_at dksX6_keep_1 0 rfl rfl)
theorem dX6_keep_26 : decode cX6_keep 26 = .ok (.getfield 149, 3) := dk_180 0 149 (dk_at dksX6_keep_1 3 rfl rfl)
theorem dX6_keep_29 : decode cX6_keep 29 = .ok (.if_icmp .ge 12, 3) := dk_162 0 12 (dk_at dksX6_keep_1 6 rfl rfl)
theorem dX6_keep_32 : decode cX6_keep 32 = .ok (.aload_n 0, 1) := dk_42 (dk_at dksX6_keep_1 9 rfl rfl)
theorem dX6_keep_33 : decode cX6_keep 33 = .ok (.getfield 50, 3) := dk_180 0 50 (dk_at dksX6_keep_1 10 rfl rfl)
theorem dX6_keep_36 : decode cX6_keep 36 = .ok (.iload_n 1, 1) := dk_27 (dk_at dksX6_keep_1 13 rfl rfl)
theorem dX6_keep_37 : decode cX6_keep 37 = .ok (.iaload, 1) := dk_46 (dk_at dksX6_keep_1 14 rfl rfl)
theorem dX6_keep_38 : decode cX6_keep 38 = .ok (.goto 5, 3) := dk_167 0 5 (dk_at dksX6_keep_1 15 rfl rfl)
theorem dX6_keep_41 : decode cX6_keep 41 = .ok (.bipush (-2), 2) := dk_16 254 (dk_at dksX6_keep_1 18 rfl rfl)
theorem dX6_keep_43 : decode cX6_keep 43 = .ok (.iastore, 1) := dk_79 (dk_at dksX6_keep_1 20 rfl rfl)
theorem dX6_keep_44 : decode cX6_keep 44 = .ok (.iinc 1 1, 3) := dk_132 1 1 (dk_at dksX6_keep_1 21 rfl rfl)
theorem dX6_keep_47 : decode cX6_keep 47 = .ok (.goto (-45), 3) := dk_167 255 211 (dk_at dksX6_keep_2 0 rfl rfl)
theorem dX6_keep_50 : decode cX6_keep 50 = .ok (.iconst 0, 1) := dk_3 (dk_at dksX6_keep_2 3 rfl rfl)
theorem dX6_keep_51 : decode cX6_keep 51 = .ok (.istore_n 1, 1) := dk_60 (dk_at dksX6_keep_2 4 rfl rfl)
theorem dX6_keep_52 : decode cX6_keep 52 = .ok (.iload_n 1, 1) := dk_27 (dk_at dksX6_keep_2 5 rfl rfl)
theorem dX6_keep_53 : decode cX6_keep 53 = .ok (.aload_n 0, 1) := dk_42 (dk_at dksX6_keep_2 6 rfl rfl)
theorem dX6_keep_54 : decode cX6_keep 54 = .ok (.getfield 70, 3) := dk_180 0 70 (dk_at dksX6_keep_2 7 rfl rfl)
theorem dX6_keep_57 : decode cX6_keep 57 = .ok (.getfield 90, 3) := dk_180 0 90 (dk_at dksX6_keep_2 10 rfl rfl)
theorem dX6_keep_60 : decode cX6_keep 60 = .ok (.if_icmp .ge 53, 3) := dk_162 0 53 (dk_at dksX6_keep_2 13 rfl rfl)
theorem dX6_keep_63 : decode cX6_keep 63 = .ok (.aload_n 0, 1) := dk_42 (dk_at dksX6_keep_2 16 rfl rfl)
theorem dX6_keep_64 : decode cX6_keep 64 = .ok (.getfield 63, 3) := dk_180 0 63 (dk_at dksX6_keep_2 17 rfl rfl)
theorem dX6_keep_67 : decode cX6_keep 67 = .ok (.bipush 7, 2) := dk_16 7 (dk_at dksX6_keep_2 20 rfl rfl)
theorem dX6_keep_69 : decode cX6_keep 69 = .ok (.aload_n 0, 1) := dk_42 (dk_at dksX6_keep_2 22 rfl rfl)
theorem dX6_keep_70 : decode cX6_keep 70 = .ok (.getfield 82, 3) := dk_180 0 82 (dk_at dksX6_keep_3 0 rfl rfl)
theorem dX6_keep_73 : decode cX6_keep 73 = .ok (.imul, 1) := dk_104 (dk_at dksX6_keep_3 3 rfl rfl)
theorem dX6_keep_74 : decode cX6_keep 74 = .ok (.iload_n 1, 1) := dk_27 (dk_at dksX6_keep_3 4 rfl rfl)
theorem dX6_keep_75 : decode cX6_keep 75 = .ok (.iadd, 1) := dk_96 (dk_at dksX6_keep_3 5 rfl rfl)
theorem dX6_keep_76 : decode cX6_keep 76 = .ok (.aload_n 0, 1) := dk_42 (dk_at dksX6_keep_3 6 rfl rfl)
theorem dX6_keep_77 : decode cX6_keep 77 = .ok (.getfield 54, 3) := dk_180 0 54 (dk_at dksX6_keep_3 7 rfl rfl)
theorem dX6_keep_80 : decode cX6_keep 80 = .ok (.iload_n 1, 1) := dk_27 (dk_at dksX6_keep_3 10 rfl rfl)
theorem dX6_keep_81 : decode cX6_keep 81 = .ok (.iaload, 1) := dk_46 (dk_at dksX6_keep_3 11 rfl rfl)
theorem dX6_keep_82 : decode cX6_keep 82 = .ok (.bipush (-2), 2) := dk_16 254 (dk_at dksX6_keep_3 12 rfl rfl)
theorem dX6_keep_84 : decode cX6_keep 84 = .ok (.if_icmp .ne 8, 3) := dk_160 0 8 (dk_at dksX6_keep_3 14 rfl rfl)
theorem dX6_keep_87 : decode cX6_keep 87 = .ok (.bipush (-2), 2) := dk_16 254 (dk_at dksX6_keep_3 17 rfl rfl)
theorem dX6_keep_89 : decode cX6_keep 89 = .ok (.goto 17, 3) := dk_167 0 17 (dk_at dksX6_keep_3 19 rfl rfl)
theorem dX6_keep_92 : decode cX6_keep 92 = .ok (.aload_n 0, 1) := dk_42 (dk_at dksX6_keep_3 22 rfl rfl)
theorem dX6_keep_93 : decode cX6_keep 93 = .ok (.getfield 46, 3) := dk_180 0 46 (dk_at dksX6_keep_4 0 rfl rfl)
theorem dX6_keep_96 : decode cX6_keep 96 = .ok (.aload_n 0, 1) := dk_42 (dk_at dksX6_keep_4 3 rfl rfl)
theorem dX6_keep_97 : decode cX6_keep 97 = .ok (.getfield 54, 3) := dk_180 0 54 (dk_at dksX6_keep_4 4 rfl rfl)
theorem dX6_keep_100 : decode cX6_keep 100 = .ok (.iload_n 1, 1) := dk_27 (dk_at dksX6_keep_4 7 rfl rfl)
theorem dX6_keep_101 : decode cX6_keep 101 = .ok (.iaload, 1) := dk_46 (dk_at dksX6_keep_4 8 rfl rfl)
theorem dX6_keep_102 : decode cX6_keep 102 = .ok (.aaload, 1) := dk_50 (dk_at dksX6_keep_4 9 rfl rfl)
theorem dX6_keep_103 : decode cX6_keep 103 = .ok (.getfield 160, 3) := dk_180 0 160 (dk_at dksX6_keep_4 10 rfl rfl)
theorem dX6_keep_106 : decode cX6_keep 106 = .ok (.iastore, 1) := dk_79 (dk_at dksX6_keep_4 13 rfl rfl)
theorem dX6_keep_107 : decode cX6_keep 107 = .ok (.iinc 1 1, 3) := dk_132 1 1 (dk_at dksX6_keep_4 14 rfl rfl)
theorem dX6_keep_110 : decode cX6_keep 110 = .ok (.goto (-58), 3) := dk_167 255 198 (dk_at dksX6_keep_4 17 rfl rfl)
theorem dX6_keep_113 : decode cX6_keep 113 = .ok (.return_, 1) := dk_177 (dk_at dksX6_keep_4 20 rfl rfl)
abbrev cX6_goes : ByteArray := prog_10_method_16_code
def yX6_goes : MethodName := ⟨RX6, "goes", "(I)V"⟩
def dkwX6_goes_0 : List UInt8 := [42, 180, 0, 54, 27, 46, 61, 42, 28, 182, 0, 190, 42, 180, 0, 46, 28, 50, 16, 9, 181, 0, 160, 177]
abbrev dktX6_goes_0 : List UInt8 := dkwX6_goes_0 ++ []
theorem dksX6_goes_0 : cX6_goes.data.toList.drop 0 = dktX6_goes_0 := by decide +kernel
theorem dX6_goes_0 : decode cX6_goes 0 = .ok (.aload_n 0, 1) := dk_42 (dk_at dksX6_goes_0 0 rfl rfl)
theorem dX6_goes_1 : decode cX6_goes 1 = .ok (.getfield 54, 3) := dk_180 0 54 (dk_at dksX6_goes_0 1 rfl rfl)
theorem dX6_goes_4 : decode cX6_goes 4 = .ok (.iload_n 1, 1) := dk_27 (dk_at dksX6_goes_0 4 rfl rfl)
theorem dX6_goes_5 : decode cX6_goes 5 = .ok (.iaload, 1) := dk_46 (dk_at dksX6_goes_0 5 rfl rfl)
theorem dX6_goes_6 : decode cX6_goes 6 = .ok (.istore_n 2, 1) := dk_61 (dk_at dksX6_goes_0 6 rfl rfl)
theorem dX6_goes_7 : decode cX6_goes 7 = .ok (.aload_n 0, 1) := dk_42 (dk_at dksX6_goes_0 7 rfl rfl)
theorem dX6_goes_8 : decode cX6_goes 8 = .ok (.iload_n 2, 1) := dk_28 (dk_at dksX6_goes_0 8 rfl rfl)
theorem dX6_goes_9 : decode cX6_goes 9 = .ok (.invokevirtual 190, 3) := dk_182 0 190 (dk_at dksX6_goes_0 9 rfl rfl)
theorem dX6_goes_12 : decode cX6_goes 12 = .ok (.aload_n 0, 1) := dk_42 (dk_at dksX6_goes_0 12 rfl rfl)
theorem dX6_goes_13 : decode cX6_goes 13 = .ok (.getfield 46, 3) := dk_180 0 46 (dk_at dksX6_goes_0 13 rfl rfl)
theorem dX6_goes_16 : decode cX6_goes 16 = .ok (.iload_n 2, 1) := dk_28 (dk_at dksX6_goes_0 16 rfl rfl)
theorem dX6_goes_17 : decode cX6_goes 17 = .ok (.aaload, 1) := dk_50 (dk_at dksX6_goes_0 17 rfl rfl)
theorem dX6_goes_18 : decode cX6_goes 18 = .ok (.bipush 9, 2) := dk_16 9 (dk_at dksX6_goes_0 18 rfl rfl)
theorem dX6_goes_20 : decode cX6_goes 20 = .ok (.putfield 160, 3) := dk_181 0 160 (dk_at dksX6_goes_0 20 rfl rfl)
theorem dX6_goes_23 : decode cX6_goes 23 = .ok (.return_, 1) := dk_177 (dk_at dksX6_goes_0 23 rfl rfl)
abbrev cX6_at : ByteArray := prog_10_method_17_code
def yX6_at : MethodName := ⟨RX6, "at", "(II)I"⟩
def dkwX6_at_0 : List UInt8 := [42, 180, 0, 60, 16, 8, 27, 104, 28, 96, 46, 172]
abbrev dktX6_at_0 : List UInt8 := dkwX6_at_0 ++ []
theorem dksX6_at_0 : cX6_at.data.toList.drop 0 = dktX6_at_0 := by decide +kernel
theorem dX6_at_0 : decode cX6_at 0 = .ok (.aload_n 0, 1) := dk_42 (dk_at dksX6_at_0 0 rfl rfl)
theorem dX6_at_1 : decode cX6_at 1 = .ok (.getfield 60, 3) := dk_180 0 60 (dk_at dksX6_at_0 1 rfl rfl)
theorem dX6_at_4 : decode cX6_at 4 = .ok (.bipush 8, 2) := dk_16 8 (dk_at dksX6_at_0 4 rfl rfl)
theorem dX6_at_6 : decode cX6_at 6 = .ok (.iload_n 1, 1) := dk_27 (dk_at dksX6_at_0 6 rfl rfl)
theorem dX6_at_7 : decode cX6_at 7 = .ok (.imul, 1) := dk_104 (dk_at dksX6_at_0 7 rfl rfl)
theorem dX6_at_8 : decode cX6_at 8 = .ok (.iload_n 2, 1) := dk_28 (dk_at dksX6_at_0 8 rfl rfl)
theorem dX6_at_9 : decode cX6_at 9 = .ok (.iadd, 1) := dk_96 (dk_at dksX6_at_0 9 rfl rfl)
theorem dX6_at_10 : decode cX6_at 10 = .ok (.iaload, 1) := dk_46 (dk_at dksX6_at_0 10 rfl rfl)
theorem dX6_at_11 : decode cX6_at 11 = .ok (.ireturn, 1) := dk_172 (dk_at dksX6_at_0 11 rfl rfl)
abbrev cX6_colour : ByteArray := prog_10_method_18_code
def yX6_colour : MethodName := ⟨RX6, "colour", "(II)I"⟩
def dkwX6_colour_1 : List UInt8 := [182, 0, 222, 50, 180, 0, 151, 172]
abbrev dktX6_colour_1 : List UInt8 := dkwX6_colour_1 ++ []
def dkwX6_colour_0 : List UInt8 := [42, 27, 28, 182, 0, 222, 16, 254, 160, 0, 8, 16, 254, 167, 0, 17, 42, 180, 0, 46, 42, 27, 28]
abbrev dktX6_colour_0 : List UInt8 := dkwX6_colour_0 ++ dktX6_colour_1
theorem dksX6_colour_0 : cX6_colour.data.toList.drop 0 = dktX6_colour_0 := by decide +kernel
theorem dksX6_colour_1 : cX6_colour.data.toList.drop 23 = dktX6_colour_1 := dk_seg dksX6_colour_0 23 rfl rfl
theorem dX6_colour_0 : decode cX6_colour 0 = .ok (.aload_n 0, 1) := dk_42 (dk_at dksX6_colour_0 0 rfl rfl)
theorem dX6_colour_1 : decode cX6_colour 1 = .ok (.iload_n 1, 1) := dk_27 (dk_at dksX6_colour_0 1 rfl rfl)
theorem dX6_colour_2 : decode cX6_colour 2 = .ok (.iload_n 2, 1) := dk_28 (dk_at dksX6_colour_0 2 rfl rfl)
theorem dX6_colour_3 : decode cX6_colour 3 = .ok (.invokevirtual 222, 3) := dk_182 0 222 (dk_at dksX6_colour_0 3 rfl rfl)
theorem dX6_colour_6 : decode cX6_colour 6 = .ok (.bipush (-2), 2) := dk_16 254 (dk_at dksX6_colour_0 6 rfl rfl)
theorem dX6_colour_8 : decode cX6_colour 8 = .ok (.if_icmp .ne 8, 3) := dk_160 0 8 (dk_at dksX6_colour_0 8 rfl rfl)
theorem dX6_colour_11 : decode cX6_colour 11 = .ok (.bipush (-2), 2) := dk_16 254 (dk_at dksX6_colour_0 11 rfl rfl)
theorem dX6_colour_13 : decode cX6_colour 13 = .ok (.goto 17, 3) := dk_167 0 17 (dk_at dksX6_colour_0 13 rfl rfl)
theorem dX6_colour_16 : decode cX6_colour 16 = .ok (.aload_n 0, 1) := dk_42 (dk_at dksX6_colour_0 16 rfl rfl)
theorem dX6_colour_17 : decode cX6_colour 17 = .ok (.getfield 46, 3) := dk_180 0 46 (dk_at dksX6_colour_0 17 rfl rfl)
theorem dX6_colour_20 : decode cX6_colour 20 = .ok (.aload_n 0, 1) := dk_42 (dk_at dksX6_colour_0 20 rfl rfl)
theorem dX6_colour_21 : decode cX6_colour 21 = .ok (.iload_n 1, 1) := dk_27 (dk_at dksX6_colour_0 21 rfl rfl)
theorem dX6_colour_22 : decode cX6_colour 22 = .ok (.iload_n 2, 1) := dk_28 (dk_at dksX6_colour_0 22 rfl rfl)
theorem dX6_colour_23 : decode cX6_colour 23 = .ok (.invokevirtual 222, 3) := dk_182 0 222 (dk_at dksX6_colour_1 0 rfl rfl)
theorem dX6_colour_26 : decode cX6_colour 26 = .ok (.aaload, 1) := dk_50 (dk_at dksX6_colour_1 3 rfl rfl)
theorem dX6_colour_27 : decode cX6_colour 27 = .ok (.getfield 151, 3) := dk_180 0 151 (dk_at dksX6_colour_1 4 rfl rfl)
theorem dX6_colour_30 : decode cX6_colour 30 = .ok (.ireturn, 1) := dk_172 (dk_at dksX6_colour_1 7 rfl rfl)
abbrev cX6_whose : ByteArray := prog_10_method_19_code
def yX6_whose : MethodName := ⟨RX6, "whose", "(II)I"⟩
def dkwX6_whose_1 : List UInt8 := [182, 0, 222, 50, 180, 0, 226, 172]
abbrev dktX6_whose_1 : List UInt8 := dkwX6_whose_1 ++ []
def dkwX6_whose_0 : List UInt8 := [42, 27, 28, 182, 0, 222, 16, 254, 160, 0, 8, 16, 254, 167, 0, 17, 42, 180, 0, 46, 42, 27, 28]
abbrev dktX6_whose_0 : List UInt8 := dkwX6_whose_0 ++ dktX6_whose_1
theorem dksX6_whose_0 : cX6_whose.data.toList.drop 0 = dktX6_whose_0 := by decide +kernel
theorem dksX6_whose_1 : cX6_whose.data.toList.drop 23 = dktX6_whose_1 := dk_seg dksX6_whose_0 23 rfl rfl
theorem dX6_whose_0 : decode cX6_whose 0 = .ok (.aload_n 0, 1) := dk_42 (dk_at dksX6_whose_0 0 rfl rfl)
theorem dX6_whose_1 : decode cX6_whose 1 = .ok (.iload_n 1, 1) := dk_27 (dk_at dksX6_whose_0 1 rfl rfl)
theorem dX6_whose_2 : decode cX6_whose 2 = .ok (.iload_n 2, 1) := dk_28 (dk_at dksX6_whose_0 2 rfl rfl)
theorem dX6_whose_3 : decode cX6_whose 3 = .ok (.invokevirtual 222, 3) := dk_182 0 222 (dk_at dksX6_whose_0 3 rfl rfl)
theorem dX6_whose_6 : decode cX6_whose 6 = .ok (.bipush (-2), 2) := dk_16 254 (dk_at dksX6_whose_0 6 rfl rfl)
theorem dX6_whose_8 : decode cX6_whose 8 = .ok (.if_icmp .ne 8, 3) := dk_160 0 8 (dk_at dksX6_whose_0 8 rfl rfl)
theorem dX6_whose_11 : decode cX6_whose 11 = .ok (.bipush (-2), 2) := dk_16 254 (dk_at dksX6_whose_0 11 rfl rfl)
theorem dX6_whose_13 : decode cX6_whose 13 = .ok (.goto 17, 3) := dk_167 0 17 (dk_at dksX6_whose_0 13 rfl rfl)
theorem dX6_whose_16 : decode cX6_whose 16 = .ok (.aload_n 0, 1) := dk_42 (dk_at dksX6_whose_0 16 rfl rfl)
theorem dX6_whose_17 : decode cX6_whose 17 = .ok (.getfield 46, 3) := dk_180 0 46 (dk_at dksX6_whose_0 17 rfl rfl)
theorem dX6_whose_20 : decode cX6_whose 20 = .ok (.aload_n 0, 1) := dk_42 (dk_at dksX6_whose_0 20 rfl rfl)
theorem dX6_whose_21 : decode cX6_whose 21 = .ok (.iload_n 1, 1) := dk_27 (dk_at dksX6_whose_0 21 rfl rfl)
theorem dX6_whose_22 : decode cX6_whose 22 = .ok (.iload_n 2, 1) := dk_28 (dk_at dksX6_whose_0 22 rfl rfl)
theorem dX6_whose_23 : decode cX6_whose 23 = .ok (.invokevirtual 222, 3) := dk_182 0 222 (dk_at dksX6_whose_1 0 rfl rfl)
theorem dX6_whose_26 : decode cX6_whose 26 = .ok (.aaload, 1) := dk_50 (dk_at dksX6_whose_1 3 rfl rfl)
theorem dX6_whose_27 : decode cX6_whose 27 = .ok (.getfield 226, 3) := dk_180 0 226 (dk_at dksX6_whose_1 4 rfl rfl)
theorem dX6_whose_30 : decode cX6_whose 30 = .ok (.ireturn, 1) := dk_172 (dk_at dksX6_whose_1 7 rfl rfl)
abbrev cX6_place : ByteArray := prog_10_method_20_code
def yX6_place : MethodName := ⟨RX6, "place", "(II)I"⟩
def dkwX6_place_0 : List UInt8 := [42, 180, 0, 63, 16, 7, 27, 104, 28, 96, 46, 172]
abbrev dktX6_place_0 : List UInt8 := dkwX6_place_0 ++ []
theorem dksX6_place_0 : cX6_place.data.toList.drop 0 = dktX6_place_0 := by decide +kernel
theorem dX6_place_0 : decode cX6_place 0 = .ok (.aload_n 0, 1) := dk_42 (dk_at dksX6_place_0 0 rfl rfl)
theorem dX6_place_1 : decode cX6_place 1 = .ok (.getfield 63, 3) := dk_180 0 63 (dk_at dksX6_place_0 1 rfl rfl)
theorem dX6_place_4 : decode cX6_place 4 = .ok (.bipush 7, 2) := dk_16 7 (dk_at dksX6_place_0 4 rfl rfl)
theorem dX6_place_6 : decode cX6_place 6 = .ok (.iload_n 1, 1) := dk_27 (dk_at dksX6_place_0 6 rfl rfl)
theorem dX6_place_7 : decode cX6_place 7 = .ok (.imul, 1) := dk_104 (dk_at dksX6_place_0 7 rfl rfl)
theorem dX6_place_8 : decode cX6_place 8 = .ok (.iload_n 2, 1) := dk_28 (dk_at dksX6_place_0 8 rfl rfl)
theorem dX6_place_9 : decode cX6_place 9 = .ok (.iadd, 1) := dk_96 (dk_at dksX6_place_0 9 rfl rfl)
theorem dX6_place_10 : decode cX6_place 10 = .ok (.iaload, 1) := dk_46 (dk_at dksX6_place_0 10 rfl rfl)
theorem dX6_place_11 : decode cX6_place 11 = .ok (.ireturn, 1) := dk_172 (dk_at dksX6_place_0 11 rfl rfl)
abbrev cX6_there : ByteArray := prog_10_method_22_code
def yX6_there : MethodName := ⟨RX6, "there", "(I)I"⟩
def dkwX6_there_1 : List UInt8 := [159, 0, 7, 4, 167, 0, 4, 3, 96, 61, 132, 3, 1, 167, 255, 223, 28, 172]
abbrev dktX6_there_1 : List UInt8 := dkwX6_there_1 ++ []
def dkwX6_there_0 : List UInt8 := [3, 61, 3, 62, 29, 42, 180, 0, 70, 180, 0, 149, 162, 0, 28, 28, 42, 27, 29, 182, 0, 222, 16, 254]
abbrev dktX6_there_0 : List UInt8 := dkwX6_there_0 ++ dktX6_there_1
theorem dksX6_there_0 : cX6_there.data.toList.drop 0 = dktX6_there_0 := by decide +kernel
theorem dksX6_there_1 : cX6_there.data.toList.drop 24 = dktX6_there_1 := dk_seg dksX6_there_0 24 rfl rfl
theorem dX6_there_0 : decode cX6_there 0 = .ok (.iconst 0, 1) := dk_3 (dk_at dksX6_there_0 0 rfl rfl)
theorem dX6_there_1 : decode cX6_there 1 = .ok (.istore_n 2, 1) := dk_61 (dk_at dksX6_there_0 1 rfl rfl)
theorem dX6_there_2 : decode cX6_there 2 = .ok (.iconst 0, 1) := dk_3 (dk_at dksX6_there_0 2 rfl rfl)
theorem dX6_there_3 : decode cX6_there 3 = .ok (.istore_n 3, 1) := dk_62 (dk_at dksX6_there_0 3 rfl rfl)
theorem dX6_there_4 : decode cX6_there 4 = .ok (.iload_n 3, 1) := dk_29 (dk_at dksX6_there_0 4 rfl rfl)
theorem dX6_there_5 : decode cX6_there 5 = .ok (.aload_n 0, 1) := dk_42 (dk_at dksX6_there_0 5 rfl rfl)
theorem dX6_there_6 : decode cX6_there 6 = .ok (.getfield 70, 3) := dk_180 0 70 (dk_at dksX6_there_0 6 rfl rfl)
theorem dX6_there_9 : decode cX6_there 9 = .ok (.getfield 149, 3) := dk_180 0 149 (dk_at dksX6_there_0 9 rfl rfl)
theorem dX6_there_12 : decode cX6_there 12 = .ok (.if_icmp .ge 28, 3) := dk_162 0 28 (dk_at dksX6_there_0 12 rfl rfl)
theorem dX6_there_15 : decode cX6_there 15 = .ok (.iload_n 2, 1) := dk_28 (dk_at dksX6_there_0 15 rfl rfl)
theorem dX6_there_16 : decode cX6_there 16 = .ok (.aload_n 0, 1) := dk_42 (dk_at dksX6_there_0 16 rfl rfl)
theorem dX6_there_17 : decode cX6_there 17 = .ok (.iload_n 1, 1) := dk_27 (dk_at dksX6_there_0 17 rfl rfl)
theorem dX6_there_18 : decode cX6_there 18 = .ok (.iload_n 3, 1) := dk_29 (dk_at dksX6_there_0 18 rfl rfl)
theorem dX6_there_19 : decode cX6_there 19 = .ok (.invokevirtual 222, 3) := dk_182 0 222 (dk_at dksX6_there_0 19 rfl rfl)
theorem dX6_there_22 : decode cX6_there 22 = .ok (.bipush (-2), 2) := dk_16 254 (dk_at dksX6_there_0 22 rfl rfl)
theorem dX6_there_24 : decode cX6_there 24 = .ok (.if_icmp .eq 7, 3) := dk_159 0 7 (dk_at dksX6_there_1 0 rfl rfl)
theorem dX6_there_27 : decode cX6_there 27 = .ok (.iconst 1, 1) := dk_4 (dk_at dksX6_there_1 3 rfl rfl)
theorem dX6_there_28 : decode cX6_there 28 = .ok (.goto 4, 3) := dk_167 0 4 (dk_at dksX6_there_1 4 rfl rfl)
theorem dX6_there_31 : decode cX6_there 31 = .ok (.iconst 0, 1) := dk_3 (dk_at dksX6_there_1 7 rfl rfl)
theorem dX6_there_32 : decode cX6_there 32 = .ok (.iadd, 1) := dk_96 (dk_at dksX6_there_1 8 rfl rfl)
theorem dX6_there_33 : decode cX6_there 33 = .ok (.istore_n 2, 1) := dk_61 (dk_at dksX6_there_1 9 rfl rfl)
theorem dX6_there_34 : decode cX6_there 34 = .ok (.iinc 3 1, 3) := dk_132 3 1 (dk_at dksX6_there_1 10 rfl rfl)
theorem dX6_there_37 : decode cX6_there 37 = .ok (.goto (-33), 3) := dk_167 255 223 (dk_at dksX6_there_1 13 rfl rfl)
theorem dX6_there_40 : decode cX6_there 40 = .ok (.iload_n 2, 1) := dk_28 (dk_at dksX6_there_1 16 rfl rfl)
theorem dX6_there_41 : decode cX6_there 41 = .ok (.ireturn, 1) := dk_172 (dk_at dksX6_there_1 17 rfl rfl)
abbrev cX6_used : ByteArray := prog_10_method_21_code
def yX6_used : MethodName := ⟨RX6, "used", "(II)I"⟩
def dkwX6_used_0 : List UInt8 := [42, 180, 0, 66, 16, 7, 27, 104, 28, 96, 46, 172]
abbrev dktX6_used_0 : List UInt8 := dkwX6_used_0 ++ []
theorem dksX6_used_0 : cX6_used.data.toList.drop 0 = dktX6_used_0 := by decide +kernel
theorem dX6_used_0 : decode cX6_used 0 = .ok (.aload_n 0, 1) := dk_42 (dk_at dksX6_used_0 0 rfl rfl)
theorem dX6_used_1 : decode cX6_used 1 = .ok (.getfield 66, 3) := dk_180 0 66 (dk_at dksX6_used_0 1 rfl rfl)
theorem dX6_used_4 : decode cX6_used 4 = .ok (.bipush 7, 2) := dk_16 7 (dk_at dksX6_used_0 4 rfl rfl)
theorem dX6_used_6 : decode cX6_used 6 = .ok (.iload_n 1, 1) := dk_27 (dk_at dksX6_used_0 6 rfl rfl)
theorem dX6_used_7 : decode cX6_used 7 = .ok (.imul, 1) := dk_104 (dk_at dksX6_used_0 7 rfl rfl)
theorem dX6_used_8 : decode cX6_used 8 = .ok (.iload_n 2, 1) := dk_28 (dk_at dksX6_used_0 8 rfl rfl)
theorem dX6_used_9 : decode cX6_used 9 = .ok (.iadd, 1) := dk_96 (dk_at dksX6_used_0 9 rfl rfl)
theorem dX6_used_10 : decode cX6_used 10 = .ok (.iaload, 1) := dk_46 (dk_at dksX6_used_0 10 rfl rfl)
theorem dX6_used_11 : decode cX6_used 11 = .ok (.ireturn, 1) := dk_172 (dk_at dksX6_used_0 11 rfl rfl)
abbrev cX6_shared : ByteArray := prog_10_method_24_code
def yX6_shared : MethodName := ⟨RX6, "shared", "(I)I"⟩
def dkwX6_shared_1 : List UInt8 := [153, 0, 7, 4, 167, 0, 4, 3, 96, 61, 132, 3, 1, 167, 255, 225, 28, 172]
abbrev dktX6_shared_1 : List UInt8 := dkwX6_shared_1 ++ []
def dkwX6_shared_0 : List UInt8 := [3, 61, 3, 62, 29, 42, 180, 0, 70, 180, 0, 90, 162, 0, 26, 28, 42, 27, 29, 182, 0, 232]
abbrev dktX6_shared_0 : List UInt8 := dkwX6_shared_0 ++ dktX6_shared_1
theorem dksX6_shared_0 : cX6_shared.data.toList.drop 0 = dktX6_shared_0 := by decide +kernel
theorem dksX6_shared_1 : cX6_shared.data.toList.drop 22 = dktX6_shared_1 := dk_seg dksX6_shared_0 22 rfl rfl
theorem dX6_shared_0 : decode cX6_shared 0 = .ok (.iconst 0, 1) := dk_3 (dk_at dksX6_shared_0 0 rfl rfl)
theorem dX6_shared_1 : decode cX6_shared 1 = .ok (.istore_n 2, 1) := dk_61 (dk_at dksX6_shared_0 1 rfl rfl)
theorem dX6_shared_2 : decode cX6_shared 2 = .ok (.iconst 0, 1) := dk_3 (dk_at dksX6_shared_0 2 rfl rfl)
theorem dX6_shared_3 : decode cX6_shared 3 = .ok (.istore_n 3, 1) := dk_62 (dk_at dksX6_shared_0 3 rfl rfl)
theorem dX6_shared_4 : decode cX6_shared 4 = .ok (.iload_n 3, 1) := dk_29 (dk_at dksX6_shared_0 4 rfl rfl)
theorem dX6_shared_5 : decode cX6_shared 5 = .ok (.aload_n 0, 1) := dk_42 (dk_at dksX6_shared_0 5 rfl rfl)
theorem dX6_shared_6 : decode cX6_shared 6 = .ok (.getfield 70, 3) := dk_180 0 70 (dk_at dksX6_shared_0 6 rfl rfl)
theorem dX6_shared_9 : decode cX6_shared 9 = .ok (.getfield 90, 3) := dk_180 0 90 (dk_at dksX6_shared_0 9 rfl rfl)
theorem dX6_shared_12 : decode cX6_shared 12 = .ok (.if_icmp .ge 26, 3) := dk_162 0 26 (dk_at dksX6_shared_0 12 rfl rfl)
theorem dX6_shared_15 : decode cX6_shared 15 = .ok (.iload_n 2, 1) := dk_28 (dk_at dksX6_shared_0 15 rfl rfl)
theorem dX6_shared_16 : decode cX6_shared 16 = .ok (.aload_n 0, 1) := dk_42 (dk_at dksX6_shared_0 16 rfl rfl)
theorem dX6_shared_17 : decode cX6_shared 17 = .ok (.iload_n 1, 1) := dk_27 (dk_at dksX6_shared_0 17 rfl rfl)
theorem dX6_shared_18 : decode cX6_shared 18 = .ok (.iload_n 3, 1) := dk_29 (dk_at dksX6_shared_0 18 rfl rfl)
theorem dX6_shared_19 : decode cX6_shared 19 = .ok (.invokevirtual 232, 3) := dk_182 0 232 (dk_at dksX6_shared_0 19 rfl rfl)
theorem dX6_shared_22 : decode cX6_shared 22 = .ok (.ifCond .eq 7, 3) := dk_153 0 7 (dk_at dksX6_shared_1 0 rfl rfl)
theorem dX6_shared_25 : decode cX6_shared 25 = .ok (.iconst 1, 1) := dk_4 (dk_at dksX6_shared_1 3 rfl rfl)
theorem dX6_shared_26 : decode cX6_shared 26 = .ok (.goto 4, 3) := dk_167 0 4 (dk_at dksX6_shared_1 4 rfl rfl)
theorem dX6_shared_29 : decode cX6_shared 29 = .ok (.iconst 0, 1) := dk_3 (dk_at dksX6_shared_1 7 rfl rfl)
theorem dX6_shared_30 : decode cX6_shared 30 = .ok (.iadd, 1) := dk_96 (dk_at dksX6_shared_1 8 rfl rfl)
theorem dX6_shared_31 : decode cX6_shared 31 = .ok (.istore_n 2, 1) := dk_61 (dk_at dksX6_shared_1 9 rfl rfl)
theorem dX6_shared_32 : decode cX6_shared 32 = .ok (.iinc 3 1, 3) := dk_132 3 1 (dk_at dksX6_shared_1 10 rfl rfl)
theorem dX6_shared_35 : decode cX6_shared 35 = .ok (.goto (-31), 3) := dk_167 255 225 (dk_at dksX6_shared_1 13 rfl rfl)
theorem dX6_shared_38 : decode cX6_shared 38 = .ok (.iload_n 2, 1) := dk_28 (dk_at dksX6_shared_1 16 rfl rfl)
theorem dX6_shared_39 : decode cX6_shared 39 = .ok (.ireturn, 1) := dk_172 (dk_at dksX6_shared_1 17 rfl rfl)
abbrev cX6_isShared : ByteArray := prog_10_method_23_code
def yX6_isShared : MethodName := ⟨RX6, "isShared", "(II)Z"⟩
def dkwX6_isShared_1 : List UInt8 := [180, 0, 226, 28, 159, 0, 7, 4, 167, 0, 4, 3, 172]
abbrev dktX6_isShared_1 : List UInt8 := dkwX6_isShared_1 ++ []
def dkwX6_isShared_0 : List UInt8 := [42, 27, 28, 182, 0, 229, 16, 254, 159, 0, 25, 42, 180, 0, 46, 42, 27, 28, 182, 0, 229, 50]
abbrev dktX6_isShared_0 : List UInt8 := dkwX6_isShared_0 ++ dktX6_isShared_1
theorem dksX6_isShared_0 : cX6_isShared.data.toList.drop 0 = dktX6_isShared_0 := by decide +kernel
theorem dksX6_isShared_1 : cX6_isShared.data.toList.drop 22 = dktX6_isShared_1 := dk_seg dksX6_isShared_0 22 rfl rfl
theorem dX6_isShared_0 : decode cX6_isShared 0 = .ok (.aload_n 0, 1) := dk_42 (dk_at dksX6_isShared_0 0 rfl rfl)
theorem dX6_isShared_1 : decode cX6_isShared 1 = .ok (.iload_n 1, 1) := dk_27 (dk_at dksX6_isShared_0 1 rfl rfl)
theorem dX6_isShared_2 : decode cX6_isShared 2 = .ok (.iload_n 2, 1) := dk_28 (dk_at dksX6_isShared_0 2 rfl rfl)
theorem dX6_isShared_3 : decode cX6_isShared 3 = .ok (.invokevirtual 229, 3) := dk_182 0 229 (dk_at dksX6_isShared_0 3 rfl rfl)
theorem dX6_isShared_6 : decode cX6_isShared 6 = .ok (.bipush (-2), 2) := dk_16 254 (dk_at dksX6_isShared_0 6 rfl rfl)
theorem dX6_isShared_8 : decode cX6_isShared 8 = .ok (.if_icmp .eq 25, 3) := dk_159 0 25 (dk_at dksX6_isShared_0 8 rfl rfl)
theorem dX6_isShared_11 : decode cX6_isShared 11 = .ok (.aload_n 0, 1) := dk_42 (dk_at dksX6_isShared_0 11 rfl rfl)
theorem dX6_isShared_12 : decode cX6_isShared 12 = .ok (.getfield 46, 3) := dk_180 0 46 (dk_at dksX6_isShared_0 12 rfl rfl)
theorem dX6_isShared_15 : decode cX6_isShared 15 = .ok (.aload_n 0, 1) := dk_42 (dk_at dksX6_isShared_0 15 rfl rfl)
theorem dX6_isShared_16 : decode cX6_isShared 16 = .ok (.iload_n 1, 1) := dk_27 (dk_at dksX6_isShared_0 16 rfl rfl)
theorem dX6_isShared_17 : decode cX6_isShared 17 = .ok (.iload_n 2, 1) := dk_28 (dk_at dksX6_isShared_0 17 rfl rfl)
theorem dX6_isShared_18 : decode cX6_isShared 18 = .ok (.invokevirtual 229, 3) := dk_182 0 229 (dk_at dksX6_isShared_0 18 rfl rfl)
theorem dX6_isShared_21 : decode cX6_isShared 21 = .ok (.aaload, 1) := dk_50 (dk_at dksX6_isShared_0 21 rfl rfl)
theorem dX6_isShared_22 : decode cX6_isShared 22 = .ok (.getfield 226, 3) := dk_180 0 226 (dk_at dksX6_isShared_1 0 rfl rfl)
theorem dX6_isShared_25 : decode cX6_isShared 25 = .ok (.iload_n 2, 1) := dk_28 (dk_at dksX6_isShared_1 3 rfl rfl)
theorem dX6_isShared_26 : decode cX6_isShared 26 = .ok (.if_icmp .eq 7, 3) := dk_159 0 7 (dk_at dksX6_isShared_1 4 rfl rfl)
theorem dX6_isShared_29 : decode cX6_isShared 29 = .ok (.iconst 1, 1) := dk_4 (dk_at dksX6_isShared_1 7 rfl rfl)
theorem dX6_isShared_30 : decode cX6_isShared 30 = .ok (.goto 4, 3) := dk_167 0 4 (dk_at dksX6_isShared_1 8 rfl rfl)
theorem dX6_isShared_33 : decode cX6_isShared 33 = .ok (.iconst 0, 1) := dk_3 (dk_at dksX6_isShared_1 11 rfl rfl)
theorem dX6_isShared_34 : decode cX6_isShared 34 = .ok (.ireturn, 1) := dk_172 (dk_at dksX6_isShared_1 12 rfl rfl)
abbrev cX6_sharedAll : ByteArray := prog_10_method_25_code
def yX6_sharedAll : MethodName := ⟨RX6, "sharedAll", "()I"⟩
def dkwX6_sharedAll_1 : List UInt8 := [132, 2, 1, 167, 255, 234, 27, 172]
abbrev dktX6_sharedAll_1 : List UInt8 := dkwX6_sharedAll_1 ++ []
def dkwX6_sharedAll_0 : List UInt8 := [3, 60, 3, 61, 28, 42, 180, 0, 70, 180, 0, 85, 162, 0, 17, 27, 42, 28, 182, 0, 236, 96, 60]
abbrev dktX6_sharedAll_0 : List UInt8 := dkwX6_sharedAll_0 ++ dktX6_sharedAll_1
theorem dksX6_sharedAll_0 : cX6_sharedAll.data.toList.drop 0 = dktX6_sharedAll_0 := by decide +kernel
theorem dksX6_sharedAll_1 : cX6_sharedAll.data.toList.drop 23 = dktX6_sharedAll_1 := dk_seg dksX6_sharedAll_0 23 rfl rfl
theorem dX6_sharedAll_0 : decode cX6_sharedAll 0 = .ok (.iconst 0, 1) := dk_3 (dk_at dksX6_sharedAll_0 0 rfl rfl)
theorem dX6_sharedAll_1 : decode cX6_sharedAll 1 = .ok (.istore_n 1, 1) := dk_60 (dk_at dksX6_sharedAll_0 1 rfl rfl)
theorem dX6_sharedAll_2 : decode cX6_sharedAll 2 = .ok (.iconst 0, 1) := dk_3 (dk_at dksX6_sharedAll_0 2 rfl rfl)
theorem dX6_sharedAll_3 : decode cX6_sharedAll 3 = .ok (.istore_n 2, 1) := dk_61 (dk_at dksX6_sharedAll_0 3 rfl rfl)
theorem dX6_sharedAll_4 : decode cX6_sharedAll 4 = .ok (.iload_n 2, 1) := dk_28 (dk_at dksX6_sharedAll_0 4 rfl rfl)
theorem dX6_sharedAll_5 : decode cX6_sharedAll 5 = .ok (.aload_n 0, 1) := dk_42 (dk_at dksX6_sharedAll_0 5 rfl rfl)
theorem dX6_sharedAll_6 : decode cX6_sharedAll 6 = .ok (.getfield 70, 3) := dk_180 0 70 (dk_at dksX6_sharedAll_0 6 rfl rfl)
theorem dX6_sharedAll_9 : decode cX6_sharedAll 9 = .ok (.getfield 85, 3) := dk_180 0 85 (dk_at dksX6_sharedAll_0 9 rfl rfl)
theorem dX6_sharedAll_12 : decode cX6_sharedAll 12 = .ok (.if_icmp .ge 17, 3) := dk_162 0 17 (dk_at dksX6_sharedAll_0 12 rfl rfl)
theorem dX6_sharedAll_15 : decode cX6_sharedAll 15 = .ok (.iload_n 1, 1) := dk_27 (dk_at dksX6_sharedAll_0 15 rfl rfl)
theorem dX6_sharedAll_16 : decode cX6_sharedAll 16 = .ok (.aload_n 0, 1) := dk_42 (dk_at dksX6_sharedAll_0 16 rfl rfl)
theorem dX6_sharedAll_17 : decode cX6_sharedAll 17 = .ok (.iload_n 2, 1) := dk_28 (dk_at dksX6_sharedAll_0 17 rfl rfl)
theorem dX6_sharedAll_18 : decode cX6_sharedAll 18 = .ok (.invokevirtual 236, 3) := dk_182 0 236 (dk_at dksX6_sharedAll_0 18 rfl rfl)
theorem dX6_sharedAll_21 : decode cX6_sharedAll 21 = .ok (.iadd, 1) := dk_96 (dk_at dksX6_sharedAll_0 21 rfl rfl)
theorem dX6_sharedAll_22 : decode cX6_sharedAll 22 = .ok (.istore_n 1, 1) := dk_60 (dk_at dksX6_sharedAll_0 22 rfl rfl)
theorem dX6_sharedAll_23 : decode cX6_sharedAll 23 = .ok (.iinc 2 1, 3) := dk_132 2 1 (dk_at dksX6_sharedAll_1 0 rfl rfl)
theorem dX6_sharedAll_26 : decode cX6_sharedAll 26 = .ok (.goto (-22), 3) := dk_167 255 234 (dk_at dksX6_sharedAll_1 3 rfl rfl)
theorem dX6_sharedAll_29 : decode cX6_sharedAll 29 = .ok (.iload_n 1, 1) := dk_27 (dk_at dksX6_sharedAll_1 6 rfl rfl)
theorem dX6_sharedAll_30 : decode cX6_sharedAll 30 = .ok (.ireturn, 1) := dk_172 (dk_at dksX6_sharedAll_1 7 rfl rfl)
abbrev cX6_alike : ByteArray := prog_10_method_27_code
def yX6_alike : MethodName := ⟨RX6, "alike", "(I)I"⟩
def dkwX6_alike_1 : List UInt8 := [100, 104, 5, 108, 96, 61, 132, 3, 1, 167, 255, 227, 28, 172]
abbrev dktX6_alike_1 : List UInt8 := dkwX6_alike_1 ++ []
def dkwX6_alike_0 : List UInt8 := [3, 61, 3, 62, 29, 16, 6, 162, 0, 29, 28, 42, 27, 29, 182, 0, 242, 42, 27, 29, 182, 0, 242, 4]
abbrev dktX6_alike_0 : List UInt8 := dkwX6_alike_0 ++ dktX6_alike_1
theorem dksX6_alike_0 : cX6_alike.data.toList.drop 0 = dktX6_alike_0 := by decide +kernel
theorem dksX6_alike_1 : cX6_alike.data.toList.drop 24 = dktX6_alike_1 := dk_seg dksX6_alike_0 24 rfl rfl
theorem dX6_alike_0 : decode cX6_alike 0 = .ok (.iconst 0, 1) := dk_3 (dk_at dksX6_alike_0 0 rfl rfl)
theorem dX6_alike_1 : decode cX6_alike 1 = .ok (.istore_n 2, 1) := dk_61 (dk_at dksX6_alike_0 1 rfl rfl)
theorem dX6_alike_2 : decode cX6_alike 2 = .ok (.iconst 0, 1) := dk_3 (dk_at dksX6_alike_0 2 rfl rfl)
theorem dX6_alike_3 : decode cX6_alike 3 = .ok (.istore_n 3, 1) := dk_62 (dk_at dksX6_alike_0 3 rfl rfl)
theorem dX6_alike_4 : decode cX6_alike 4 = .ok (.iload_n 3, 1) := dk_29 (dk_at dksX6_alike_0 4 rfl rfl)
theorem dX6_alike_5 : decode cX6_alike 5 = .ok (.bipush 6, 2) := dk_16 6 (dk_at dksX6_alike_0 5 rfl rfl)
theorem dX6_alike_7 : decode cX6_alike 7 = .ok (.if_icmp .ge 29, 3) := dk_162 0 29 (dk_at dksX6_alike_0 7 rfl rfl)
theorem dX6_alike_10 : decode cX6_alike 10 = .ok (.iload_n 2, 1) := dk_28 (dk_at dksX6_alike_0 10 rfl rfl)
theorem dX6_alike_11 : decode cX6_alike 11 = .ok (.aload_n 0, 1) := dk_42 (dk_at dksX6_alike_0 11 rfl rfl)
theorem dX6_alike_12 : decode cX6_alike 12 = .ok (.iload_n 1, 1) := dk_27 (dk_at dksX6_alike_0 12 rfl rfl)
theorem dX6_alike_13 : decode cX6_alike 13 = .ok (.iload_n 3, 1) := dk_29 (dk_at dksX6_alike_0 13 rfl rfl)
theorem dX6_alike_14 : decode cX6_alike 14 = .ok (.invokevirtual 242, 3) := dk_182 0 242 (dk_at dksX6_alike_0 14 rfl rfl)
theorem dX6_alike_17 : decode cX6_alike 17 = .ok (.aload_n 0, 1) := dk_42 (dk_at dksX6_alike_0 17 rfl rfl)
theorem dX6_alike_18 : decode cX6_alike 18 = .ok (.iload_n 1, 1) := dk_27 (dk_at dksX6_alike_0 18 rfl rfl)
theorem dX6_alike_19 : decode cX6_alike 19 = .ok (.iload_n 3, 1) := dk_29 (dk_at dksX6_alike_0 19 rfl rfl)
theorem dX6_alike_20 : decode cX6_alike 20 = .ok (.invokevirtual 242, 3) := dk_182 0 242 (dk_at dksX6_alike_0 20 rfl rfl)
theorem dX6_alike_23 : decode cX6_alike 23 = .ok (.iconst 1, 1) := dk_4 (dk_at dksX6_alike_0 23 rfl rfl)
theorem dX6_alike_24 : decode cX6_alike 24 = .ok (.isub, 1) := dk_100 (dk_at dksX6_alike_1 0 rfl rfl)
theorem dX6_alike_25 : decode cX6_alike 25 = .ok (.imul, 1) := dk_104 (dk_at dksX6_alike_1 1 rfl rfl)
theorem dX6_alike_26 : decode cX6_alike 26 = .ok (.iconst 2, 1) := dk_5 (dk_at dksX6_alike_1 2 rfl rfl)
theorem dX6_alike_27 : decode cX6_alike 27 = .ok (.idiv, 1) := dk_108 (dk_at dksX6_alike_1 3 rfl rfl)
theorem dX6_alike_28 : decode cX6_alike 28 = .ok (.iadd, 1) := dk_96 (dk_at dksX6_alike_1 4 rfl rfl)
theorem dX6_alike_29 : decode cX6_alike 29 = .ok (.istore_n 2, 1) := dk_61 (dk_at dksX6_alike_1 5 rfl rfl)
theorem dX6_alike_30 : decode cX6_alike 30 = .ok (.iinc 3 1, 3) := dk_132 3 1 (dk_at dksX6_alike_1 6 rfl rfl)
theorem dX6_alike_33 : decode cX6_alike 33 = .ok (.goto (-29), 3) := dk_167 255 227 (dk_at dksX6_alike_1 9 rfl rfl)
theorem dX6_alike_36 : decode cX6_alike 36 = .ok (.iload_n 2, 1) := dk_28 (dk_at dksX6_alike_1 12 rfl rfl)
theorem dX6_alike_37 : decode cX6_alike 37 = .ok (.ireturn, 1) := dk_172 (dk_at dksX6_alike_1 13 rfl rfl)
abbrev cX6_ofColour : ByteArray := prog_10_method_26_code
def yX6_ofColour : MethodName := ⟨RX6, "ofColour", "(II)I"⟩
def dkwX6_ofColour_1 : List UInt8 := [182, 0, 240, 28, 160, 0, 7, 4, 167, 0, 4, 3, 96, 62, 132, 4, 1, 167, 255, 222, 29, 172]
abbrev dktX6_ofColour_1 : List UInt8 := dkwX6_ofColour_1 ++ []
def dkwX6_ofColour_0 : List UInt8 := [3, 62, 3, 54, 4, 21, 4, 42, 180, 0, 70, 180, 0, 149, 162, 0, 28, 29, 42, 27, 21, 4]
abbrev dktX6_ofColour_0 : List UInt8 := dkwX6_ofColour_0 ++ dktX6_ofColour_1
theorem dksX6_ofColour_0 : cX6_ofColour.data.toList.drop 0 = dktX6_ofColour_0 := by decide +kernel
theorem dksX6_ofColour_1 : cX6_ofColour.data.toList.drop 22 = dktX6_ofColour_1 := dk_seg dksX6_ofColour_0 22 rfl rfl
theorem dX6_ofColour_0 : decode cX6_ofColour 0 = .ok (.iconst 0, 1) := dk_3 (dk_at dksX6_ofColour_0 0 rfl rfl)
theorem dX6_ofColour_1 : decode cX6_ofColour 1 = .ok (.istore_n 3, 1) := dk_62 (dk_at dksX6_ofColour_0 1 rfl rfl)
theorem dX6_ofColour_2 : decode cX6_ofColour 2 = .ok (.iconst 0, 1) := dk_3 (dk_at dksX6_ofColour_0 2 rfl rfl)
theorem dX6_ofColour_3 : decode cX6_ofColour 3 = .ok (.istore 4, 2) := dk_54 4 (dk_at dksX6_ofColour_0 3 rfl rfl)
theorem dX6_ofColour_5 : decode cX6_ofColour 5 = .ok (.iload 4, 2) := dk_21 4 (dk_at dksX6_ofColour_0 5 rfl rfl)
theorem dX6_ofColour_7 : decode cX6_ofColour 7 = .ok (.aload_n 0, 1) := dk_42 (dk_at dksX6_ofColour_0 7 rfl rfl)
theorem dX6_ofColour_8 : decode cX6_ofColour 8 = .ok (.getfield 70, 3) := dk_180 0 70 (dk_at dksX6_ofColour_0 8 rfl rfl)
theorem dX6_ofColour_11 : decode cX6_ofColour 11 = .ok (.getfield 149, 3) := dk_180 0 149 (dk_at dksX6_ofColour_0 11 rfl rfl)
theorem dX6_ofColour_14 : decode cX6_ofColour 14 = .ok (.if_icmp .ge 28, 3) := dk_162 0 28 (dk_at dksX6_ofColour_0 14 rfl rfl)
theorem dX6_ofColour_17 : decode cX6_ofColour 17 = .ok (.iload_n 3, 1) := dk_29 (dk_at dksX6_ofColour_0 17 rfl rfl)
theorem dX6_ofColour_18 : decode cX6_ofColour 18 = .ok (.aload_n 0, 1) := dk_42 (dk_at dksX6_ofColour_0 18 rfl rfl)
theorem dX6_ofColour_19 : decode cX6_ofColour 19 = .ok (.iload_n 1, 1) := dk_27 (dk_at dksX6_ofColour_0 19 rfl rfl)
theorem dX6_ofColour_20 : decode cX6_ofColour 20 = .ok (.iload 4, 2) := dk_21 4 (dk_at dksX6_ofColour_0 20 rfl rfl)
theorem dX6_ofColour_22 : decode cX6_ofColour 22 = .ok (.invokevirtual 240, 3) := dk_182 0 240 (dk_at dksX6_ofColour_1 0 rfl rfl)
theorem dX6_ofColour_25 : decode cX6_ofColour 25 = .ok (.iload_n 2, 1) := dk_28 (dk_at dksX6_ofColour_1 3 rfl rfl)
theorem dX6_ofColour_26 : decode cX6_ofColour 26 = .ok (.if_icmp .ne 7, 3) := dk_160 0 7 (dk_at dksX6_ofColour_1 4 rfl rfl)
theorem dX6_ofColour_29 : decode cX6_ofColour 29 = .ok (.iconst 1, 1) := dk_4 (dk_at dksX6_ofColour_1 7 rfl rfl)
theorem dX6_ofColour_30 : decode cX6_ofColour 30 = .ok (.goto 4, 3) := dk_167 0 4 (dk_at dksX6_ofColour_1 8 rfl rfl)
theorem dX6_ofColour_33 : decode cX6_ofColour 33 = .ok (.iconst 0, 1) := dk_3 (dk_at dksX6_ofColour_1 11 rfl rfl)
theorem dX6_ofColour_34 : decode cX6_ofColour 34 = .ok (.iadd, 1) := dk_96 (dk_at dksX6_ofColour_1 12 rfl rfl)
theorem dX6_ofColour_35 : decode cX6_ofColour 35 = .ok (.istore_n 3, 1) := dk_62 (dk_at dksX6_ofColour_1 13 rfl rfl)
theorem dX6_ofColour_36 : decode cX6_ofColour 36 = .ok (.iinc 4 1, 3) := dk_132 4 1 (dk_at dksX6_ofColour_1 14 rfl rfl)
theorem dX6_ofColour_39 : decode cX6_ofColour 39 = .ok (.goto (-34), 3) := dk_167 255 222 (dk_at dksX6_ofColour_1 17 rfl rfl)
theorem dX6_ofColour_42 : decode cX6_ofColour 42 = .ok (.iload_n 3, 1) := dk_29 (dk_at dksX6_ofColour_1 20 rfl rfl)
theorem dX6_ofColour_43 : decode cX6_ofColour 43 = .ok (.ireturn, 1) := dk_172 (dk_at dksX6_ofColour_1 21 rfl rfl)
abbrev cX6_alikeDays : ByteArray := prog_10_method_28_code
def yX6_alikeDays : MethodName := ⟨RX6, "alikeDays", "()I"⟩
def dkwX6_alikeDays_1 : List UInt8 := [4, 167, 0, 4, 3, 96, 60, 132, 2, 1, 167, 255, 226, 27, 172]
abbrev dktX6_alikeDays_1 : List UInt8 := dkwX6_alikeDays_1 ++ []
def dkwX6_alikeDays_0 : List UInt8 := [3, 60, 3, 61, 28, 42, 180, 0, 70, 180, 0, 85, 162, 0, 25, 27, 42, 28, 182, 0, 245, 158, 0, 7]
abbrev dktX6_alikeDays_0 : List UInt8 := dkwX6_alikeDays_0 ++ dktX6_alikeDays_1
theorem dksX6_alikeDays_0 : cX6_alikeDays.data.toList.drop 0 = dktX6_alikeDays_0 := by decide +kernel
theorem dksX6_alikeDays_1 : cX6_alikeDays.data.toList.drop 24 = dktX6_alikeDays_1 := dk_seg dksX6_alikeDays_0 24 rfl rfl
theorem dX6_alikeDays_0 : decode cX6_alikeDays 0 = .ok (.iconst 0, 1) := dk_3 (dk_at dksX6_alikeDays_0 0 rfl rfl)
theorem dX6_alikeDays_1 : decode cX6_alikeDays 1 = .ok (.istore_n 1, 1) := dk_60 (dk_at dksX6_alikeDays_0 1 rfl rfl)
theorem dX6_alikeDays_2 : decode cX6_alikeDays 2 = .ok (.iconst 0, 1) := dk_3 (dk_at dksX6_alikeDays_0 2 rfl rfl)
theorem dX6_alikeDays_3 : decode cX6_alikeDays 3 = .ok (.istore_n 2, 1) := dk_61 (dk_at dksX6_alikeDays_0 3 rfl rfl)
theorem dX6_alikeDays_4 : decode cX6_alikeDays 4 = .ok (.iload_n 2, 1) := dk_28 (dk_at dksX6_alikeDays_0 4 rfl rfl)
theorem dX6_alikeDays_5 : decode cX6_alikeDays 5 = .ok (.aload_n 0, 1) := dk_42 (dk_at dksX6_alikeDays_0 5 rfl rfl)
theorem dX6_alikeDays_6 : decode cX6_alikeDays 6 = .ok (.getfield 70, 3) := dk_180 0 70 (dk_at dksX6_alikeDays_0 6 rfl rfl)
theorem dX6_alikeDays_9 : decode cX6_alikeDays 9 = .ok (.getfield 85, 3) := dk_180 0 85 (dk_at dksX6_alikeDays_0 9 rfl rfl)
theorem dX6_alikeDays_12 : decode cX6_alikeDays 12 = .ok (.if_icmp .ge 25, 3) := dk_162 0 25 (dk_at dksX6_alikeDays_0 12 rfl rfl)
theorem dX6_alikeDays_15 : decode cX6_alikeDays 15 = .ok (.iload_n 1, 1) := dk_27 (dk_at dksX6_alikeDays_0 15 rfl rfl)
theorem dX6_alikeDays_16 : decode cX6_alikeDays 16 = .ok (.aload_n 0, 1) := dk_42 (dk_at dksX6_alikeDays_0 16 rfl rfl)
theorem dX6_alikeDays_17 : decode cX6_alikeDays 17 = .ok (.iload_n 2, 1) := dk_28 (dk_at dksX6_alikeDays_0 17 rfl rfl)
theorem dX6_alikeDays_18 : decode cX6_alikeDays 18 = .ok (.invokevirtual 245, 3) := dk_182 0 245 (dk_at dksX6_alikeDays_0 18 rfl rfl)
theorem dX6_alikeDays_21 : decode cX6_alikeDays 21 = .ok (.ifCond .le 7, 3) := dk_158 0 7 (dk_at dksX6_alikeDays_0 21 rfl rfl)
theorem dX6_alikeDays_24 : decode cX6_alikeDays 24 = .ok (.iconst 1, 1) := dk_4 (dk_at dksX6_alikeDays_1 0 rfl rfl)
theorem dX6_alikeDays_25 : decode cX6_alikeDays 25 = .ok (.goto 4, 3) := dk_167 0 4 (dk_at dksX6_alikeDays_1 1 rfl rfl)
theorem dX6_alikeDays_28 : decode cX6_alikeDays 28 = .ok (.iconst 0, 1) := dk_3 (dk_at dksX6_alikeDays_1 4 rfl rfl)
theorem dX6_alikeDays_29 : decode cX6_alikeDays 29 = .ok (.iadd, 1) := dk_96 (dk_at dksX6_alikeDays_1 5 rfl rfl)
theorem dX6_alikeDays_30 : decode cX6_alikeDays 30 = .ok (.istore_n 1, 1) := dk_60 (dk_at dksX6_alikeDays_1 6 rfl rfl)
theorem dX6_alikeDays_31 : decode cX6_alikeDays 31 = .ok (.iinc 2 1, 3) := dk_132 2 1 (dk_at dksX6_alikeDays_1 7 rfl rfl)
theorem dX6_alikeDays_34 : decode cX6_alikeDays 34 = .ok (.goto (-30), 3) := dk_167 255 226 (dk_at dksX6_alikeDays_1 10 rfl rfl)
theorem dX6_alikeDays_37 : decode cX6_alikeDays 37 = .ok (.iload_n 1, 1) := dk_27 (dk_at dksX6_alikeDays_1 13 rfl rfl)
theorem dX6_alikeDays_38 : decode cX6_alikeDays 38 = .ok (.ireturn, 1) := dk_172 (dk_at dksX6_alikeDays_1 14 rfl rfl)
abbrev cX6_wrong : ByteArray := prog_10_method_29_code
def yX6_wrong : MethodName := ⟨RX6, "wrong", "(LBrushGlass$Seeing;)I"⟩
def dkwX6_wrong_1 : List UInt8 := [180, 0, 251, 28, 46, 159, 0, 5, 28, 172, 132, 2, 1, 167, 255, 222, 16, 254, 172]
abbrev dktX6_wrong_1 : List UInt8 := dkwX6_wrong_1 ++ []
def dkwX6_wrong_0 : List UInt8 := [3, 61, 28, 42, 180, 0, 70, 180, 0, 149, 162, 0, 29, 42, 43, 180, 0, 248, 28, 182, 0, 240, 43]
abbrev dktX6_wrong_0 : List UInt8 := dkwX6_wrong_0 ++ dktX6_wrong_1
theorem dksX6_wrong_0 : cX6_wrong.data.toList.drop 0 = dktX6_wrong_0 := by decide +kernel
theorem dksX6_wrong_1 : cX6_wrong.data.toList.drop 23 = dktX6_wrong_1 := dk_seg dksX6_wrong_0 23 rfl rfl
theorem dX6_wrong_0 : decode cX6_wrong 0 = .ok (.iconst 0, 1) := dk_3 (dk_at dksX6_wrong_0 0 rfl rfl)
theorem dX6_wrong_1 : decode cX6_wrong 1 = .ok (.istore_n 2, 1) := dk_61 (dk_at dksX6_wrong_0 1 rfl rfl)
theorem dX6_wrong_2 : decode cX6_wrong 2 = .ok (.iload_n 2, 1) := dk_28 (dk_at dksX6_wrong_0 2 rfl rfl)
theorem dX6_wrong_3 : decode cX6_wrong 3 = .ok (.aload_n 0, 1) := dk_42 (dk_at dksX6_wrong_0 3 rfl rfl)
theorem dX6_wrong_4 : decode cX6_wrong 4 = .ok (.getfield 70, 3) := dk_180 0 70 (dk_at dksX6_wrong_0 4 rfl rfl)
theorem dX6_wrong_7 : decode cX6_wrong 7 = .ok (.getfield 149, 3) := dk_180 0 149 (dk_at dksX6_wrong_0 7 rfl rfl)
theorem dX6_wrong_10 : decode cX6_wrong 10 = .ok (.if_icmp .ge 29, 3) := dk_162 0 29 (dk_at dksX6_wrong_0 10 rfl rfl)
theorem dX6_wrong_13 : decode cX6_wrong 13 = .ok (.aload_n 0, 1) := dk_42 (dk_at dksX6_wrong_0 13 rfl rfl)
theorem dX6_wrong_14 : decode cX6_wrong 14 = .ok (.aload_n 1, 1) := dk_43 (dk_at dksX6_wrong_0 14 rfl rfl)
theorem dX6_wrong_15 : decode cX6_wrong 15 = .ok (.getfield 248, 3) := dk_180 0 248 (dk_at dksX6_wrong_0 15 rfl rfl)
theorem dX6_wrong_18 : decode cX6_wrong 18 = .ok (.iload_n 2, 1) := dk_28 (dk_at dksX6_wrong_0 18 rfl rfl)
theorem dX6_wrong_19 : decode cX6_wrong 19 = .ok (.invokevirtual 240, 3) := dk_182 0 240 (dk_at dksX6_wrong_0 19 rfl rfl)
theorem dX6_wrong_22 : decode cX6_wrong 22 = .ok (.aload_n 1, 1) := dk_43 (dk_at dksX6_wrong_0 22 rfl rfl)
theorem dX6_wrong_23 : decode cX6_wrong 23 = .ok (.getfield 251, 3) := dk_180 0 251 (dk_at dksX6_wrong_1 0 rfl rfl)
theorem dX6_wrong_26 : decode cX6_wrong 26 = .ok (.iload_n 2, 1) := dk_28 (dk_at dksX6_wrong_1 3 rfl rfl)
theorem dX6_wrong_27 : decode cX6_wrong 27 = .ok (.iaload, 1) := dk_46 (dk_at dksX6_wrong_1 4 rfl rfl)
theorem dX6_wrong_28 : decode cX6_wrong 28 = .ok (.if_icmp .eq 5, 3) := dk_159 0 5 (dk_at dksX6_wrong_1 5 rfl rfl)
theorem dX6_wrong_31 : decode cX6_wrong 31 = .ok (.iload_n 2, 1) := dk_28 (dk_at dksX6_wrong_1 8 rfl rfl)
theorem dX6_wrong_32 : decode cX6_wrong 32 = .ok (.ireturn, 1) := dk_172 (dk_at dksX6_wrong_1 9 rfl rfl)
theorem dX6_wrong_33 : decode cX6_wrong 33 = .ok (.iinc 2 1, 3) := dk_132 2 1 (dk_at dksX6_wrong_1 10 rfl rfl)
theorem dX6_wrong_36 : decode cX6_wrong 36 = .ok (.goto (-34), 3) := dk_167 255 222 (dk_at dksX6_wrong_1 13 rfl rfl)
theorem dX6_wrong_39 : decode cX6_wrong 39 = .ok (.bipush (-2), 2) := dk_16 254 (dk_at dksX6_wrong_1 16 rfl rfl)
theorem dX6_wrong_41 : decode cX6_wrong 41 = .ok (.ireturn, 1) := dk_172 (dk_at dksX6_wrong_1 18 rfl rfl)
abbrev cX6_isRight : ByteArray := prog_10_method_30_code
def yX6_isRight : MethodName := ⟨RX6, "isRight", "()Z"⟩
def dkwX6_isRight_2 : List UInt8 := [167, 255, 214, 27, 172]
abbrev dktX6_isRight_2 : List UInt8 := dkwX6_isRight_2 ++ []
def dkwX6_isRight_1 : List UInt8 := [180, 1, 1, 28, 50, 182, 1, 5, 16, 254, 160, 0, 7, 4, 167, 0, 4, 3, 60, 132, 2, 1]
abbrev dktX6_isRight_1 : List UInt8 := dkwX6_isRight_1 ++ dktX6_isRight_2
def dkwX6_isRight_0 : List UInt8 := [4, 60, 3, 61, 28, 42, 180, 0, 70, 180, 0, 254, 162, 0, 37, 27, 153, 0, 25, 42, 42, 180, 0, 70]
abbrev dktX6_isRight_0 : List UInt8 := dkwX6_isRight_0 ++ dktX6_isRight_1
theorem dksX6_isRight_0 : cX6_isRight.data.toList.drop 0 = dktX6_isRight_0 := by decide +kernel
theorem dksX6_isRight_1 : cX6_isRight.data.toList.drop 24 = dktX6_isRight_1 := dk_seg dksX6_isRight_0 24 rfl rfl
theorem dksX6_isRight_2 : cX6_isRight.data.toList.drop 46 = dktX6_isRight_2 := dk_seg dksX6_isRight_1 22 rfl rfl
theorem dX6_isRight_0 : decode cX6_isRight 0 = .ok (.iconst 1, 1) := dk_4 (dk_at dksX6_isRight_0 0 rfl rfl)
theorem dX6_isRight_1 : decode cX6_isRight 1 = .ok (.istore_n 1, 1) := dk_60 (dk_at dksX6_isRight_0 1 rfl rfl)
theorem dX6_isRight_2 : decode cX6_isRight 2 = .ok (.iconst 0, 1) := dk_3 (dk_at dksX6_isRight_0 2 rfl rfl)
theorem dX6_isRight_3 : decode cX6_isRight 3 = .ok (.istore_n 2, 1) := dk_61 (dk_at dksX6_isRight_0 3 rfl rfl)
theorem dX6_isRight_4 : decode cX6_isRight 4 = .ok (.iload_n 2, 1) := dk_28 (dk_at dksX6_isRight_0 4 rfl rfl)
theorem dX6_isRight_5 : decode cX6_isRight 5 = .ok (.aload_n 0, 1) := dk_42 (dk_at dksX6_isRight_0 5 rfl rfl)
theorem dX6_isRight_6 : decode cX6_isRight 6 = .ok (.getfield 70, 3) := dk_180 0 70 (dk_at dksX6_isRight_0 6 rfl rfl)
theorem dX6_isRight_9 : decode cX6_isRight 9 = .ok (.getfield 254, 3) := dk_180 0 254 (dk_at dksX6_isRight_0 9 rfl rfl)
theorem dX6_isRight_12 : decode cX6_isRight 12 = .ok (.if_icmp .ge 37, 3) := dk_162 0 37 (dk_at dksX6_isRight_0 12 rfl rfl)
theorem dX6_isRight_15 : decode cX6_isRight 15 = .ok (.iload_n 1, 1) := dk_27 (dk_at dksX6_isRight_0 15 rfl rfl)
theorem dX6_isRight_16 : decode cX6_isRight 16 = .ok (.ifCond .eq 25, 3) := dk_153 0 25 (dk_at dksX6_isRight_0 16 rfl rfl)
theorem dX6_isRight_19 : decode cX6_isRight 19 = .ok (.aload_n 0, 1) := dk_42 (dk_at dksX6_isRight_0 19 rfl rfl)
theorem dX6_isRight_20 : decode cX6_isRight 20 = .ok (.aload_n 0, 1) := dk_42 (dk_at dksX6_isRight_0 20 rfl rfl)
theorem dX6_isRight_21 : decode cX6_isRight 21 = .ok (.getfield 70, 3) := dk_180 0 70 (dk_at dksX6_isRight_0 21 rfl rfl)
theorem dX6_isRight_24 : decode cX6_isRight 24 = .ok (.getfield 257, 3) := dk_180 1 1 (dk_at dksX6_isRight_1 0 rfl rfl)
theorem dX6_isRight_27 : decode cX6_isRight 27 = .ok (.iload_n 2, 1) := dk_28 (dk_at dksX6_isRight_1 3 rfl rfl)
theorem dX6_isRight_28 : decode cX6_isRight 28 = .ok (.aaload, 1) := dk_50 (dk_at dksX6_isRight_1 4 rfl rfl)
theorem dX6_isRight_29 : decode cX6_isRight 29 = .ok (.invokevirtual 261, 3) := dk_182 1 5 (dk_at dksX6_isRight_1 5 rfl rfl)
theorem dX6_isRight_32 : decode cX6_isRight 32 = .ok (.bipush (-2), 2) := dk_16 254 (dk_at dksX6_isRight_1 8 rfl rfl)
theorem dX6_isRight_34 : decode cX6_isRight 34 = .ok (.if_icmp .ne 7, 3) := dk_160 0 7 (dk_at dksX6_isRight_1 10 rfl rfl)
theorem dX6_isRight_37 : decode cX6_isRight 37 = .ok (.iconst 1, 1) := dk_4 (dk_at dksX6_isRight_1 13 rfl rfl)
theorem dX6_isRight_38 : decode cX6_isRight 38 = .ok (.goto 4, 3) := dk_167 0 4 (dk_at dksX6_isRight_1 14 rfl rfl)
theorem dX6_isRight_41 : decode cX6_isRight 41 = .ok (.iconst 0, 1) := dk_3 (dk_at dksX6_isRight_1 17 rfl rfl)
theorem dX6_isRight_42 : decode cX6_isRight 42 = .ok (.istore_n 1, 1) := dk_60 (dk_at dksX6_isRight_1 18 rfl rfl)
theorem dX6_isRight_43 : decode cX6_isRight 43 = .ok (.iinc 2 1, 3) := dk_132 2 1 (dk_at dksX6_isRight_1 19 rfl rfl)
theorem dX6_isRight_46 : decode cX6_isRight 46 = .ok (.goto (-42), 3) := dk_167 255 214 (dk_at dksX6_isRight_2 0 rfl rfl)
theorem dX6_isRight_49 : decode cX6_isRight 49 = .ok (.iload_n 1, 1) := dk_27 (dk_at dksX6_isRight_2 3 rfl rfl)
theorem dX6_isRight_50 : decode cX6_isRight 50 = .ok (.ireturn, 1) := dk_172 (dk_at dksX6_isRight_2 4 rfl rfl)
theorem q138 : (Jvm.Cond.initialized "BrushGlass$Month") ∈ lw_all := lw_g (lw_at lw_m1 9 rfl) rfl
theorem q299 : (Jvm.Cond.fieldLink "BrushGlass$Month" (196 : Nat) "BrushGlass$Move" "day" "I") ∈ lw_all := lw_g (lw_at lw_m1 170 rfl) rfl
theorem q302 : (Jvm.Cond.fieldLink "BrushGlass$Month" (199 : Nat) "BrushGlass$Move" "place" "I") ∈ lw_all := lw_g (lw_at lw_m1 173 rfl) rfl
theorem q305 : (Jvm.Cond.fieldLink "BrushGlass$Month" (202 : Nat) "BrushGlass$Move" "other" "I") ∈ lw_all := lw_g (lw_at lw_m1 176 rfl) rfl
theorem q316 : (Jvm.Cond.fieldLink "BrushGlass$Month" (205 : Nat) "BrushGlass$Plan" "kinds" "[I") ∈ lw_all := lw_g (lw_at lw_m1 187 rfl) rfl
theorem q319 : (Jvm.Cond.fieldLink "BrushGlass$Month" (167 : Nat) "BrushGlass$Plan" "habits" "[I") ∈ lw_all := lw_g (lw_at lw_m1 190 rfl) rfl
theorem q322 : (Jvm.Cond.fieldLink "BrushGlass$Month" (187 : Nat) "BrushGlass$Plan" "keeps" "[I") ∈ lw_all := lw_g (lw_at lw_m1 193 rfl) rfl
theorem q326 : (Jvm.Cond.fieldLink "BrushGlass$Month" (125 : Nat) "BrushGlass$Plan" "many" "I") ∈ lw_all := lw_g (lw_at lw_m1 197 rfl) rfl
theorem q344 : (Jvm.Cond.instantiable "BrushGlass$Month" (13 : Nat)) ∈ lw_all := lw_g (lw_at lw_m1 215 rfl) rfl
theorem q346 : (Jvm.Cond.instanceMethod ({ cls := "BrushGlass$Month", name := "<init>", desc := "()V" } : Jvm.MethodName)) ∈ lw_all := lw_g (lw_at lw_m1 217 rfl) rfl
theorem q347 : (Jvm.Cond.code ({ cls := "BrushGlass$Month", name := "<init>", desc := "()V" } : Jvm.MethodName) prog_10_method_1_code (2 : Nat) (Option.none : Option Jvm.ClassFile.FieldType)) ∈ lw_all := lw_g (lw_at lw_m1 218 rfl) rfl
theorem q348 : (Jvm.Cond.methodLink "BrushGlass$Month" (3 : Nat) ({ cls := "java/lang/Object", name := "<init>", desc := "()V" } : Jvm.MethodName)) ∈ lw_all := lw_g (lw_at lw_m1 219 rfl) rfl
theorem q349 : (Jvm.Cond.classLink "BrushGlass$Month" (9 : Nat) "BrushGlass$Habit") ∈ lw_all := lw_g (lw_at lw_m1 220 rfl) rfl
theorem q351 : (Jvm.Cond.classLink "BrushGlass$Month" (11 : Nat) "BrushGlass$TheFirst") ∈ lw_all := lw_g (lw_at lw_m1 222 rfl) rfl
theorem q353 : (Jvm.Cond.methodLinkNest "BrushGlass$Month" (13 : Nat) ({ cls := "BrushGlass$TheFirst", name := "<init>", desc := "()V" } : Jvm.MethodName) "BrushGlass") ∈ lw_tbl := lw_at lw_m1 224 rfl
theorem q361 : (Jvm.Cond.classLink "BrushGlass$Month" (14 : Nat) "BrushGlass$Unlike") ∈ lw_all := lw_g (lw_at lw_m1 232 rfl) rfl
theorem q363 : (Jvm.Cond.methodLinkNest "BrushGlass$Month" (16 : Nat) ({ cls := "BrushGlass$Unlike", name := "<init>", desc := "()V" } : Jvm.MethodName) "BrushGlass") ∈ lw_tbl := lw_at lw_m1 234 rfl
theorem q368 : (Jvm.Cond.classLink "BrushGlass$Month" (17 : Nat) "BrushGlass$Rare") ∈ lw_all := lw_g (lw_at lw_m1 239 rfl) rfl
theorem q370 : (Jvm.Cond.methodLinkNest "BrushGlass$Month" (19 : Nat) ({ cls := "BrushGlass$Rare", name := "<init>", desc := "()V" } : Jvm.MethodName) "BrushGlass") ∈ lw_tbl := lw_at lw_m2 1 rfl
theorem q375 : (Jvm.Cond.classLink "BrushGlass$Month" (26 : Nat) "BrushGlass$Kind") ∈ lw_all := lw_g (lw_at lw_m2 6 rfl) rfl
theorem q377 : (Jvm.Cond.classLink "BrushGlass$Month" (28 : Nat) "BrushGlass$Sure") ∈ lw_all := lw_g (lw_at lw_m2 8 rfl) rfl
theorem q379 : (Jvm.Cond.methodLinkNest "BrushGlass$Month" (30 : Nat) ({ cls := "BrushGlass$Sure", name := "<init>", desc := "()V" } : Jvm.MethodName) "BrushGlass") ∈ lw_tbl := lw_at lw_m2 10 rfl
theorem q387 : (Jvm.Cond.classLink "BrushGlass$Month" (31 : Nat) "BrushGlass$ByColour") ∈ lw_all := lw_g (lw_at lw_m2 18 rfl) rfl
theorem q389 : (Jvm.Cond.methodLinkNest "BrushGlass$Month" (33 : Nat) ({ cls := "BrushGlass$ByColour", name := "<init>", desc := "()V" } : Jvm.MethodName) "BrushGlass") ∈ lw_tbl := lw_at lw_m2 20 rfl
theorem q394 : (Jvm.Cond.classLink "BrushGlass$Month" (34 : Nat) "BrushGlass$ByPlace") ∈ lw_all := lw_g (lw_at lw_m2 25 rfl) rfl
theorem q396 : (Jvm.Cond.methodLinkNest "BrushGlass$Month" (36 : Nat) ({ cls := "BrushGlass$ByPlace", name := "<init>", desc := "()V" } : Jvm.MethodName) "BrushGlass") ∈ lw_tbl := lw_at lw_m2 27 rfl
theorem q401 : (Jvm.Cond.classLink "BrushGlass$Month" (37 : Nat) "BrushGlass$Messy") ∈ lw_all := lw_g (lw_at lw_m2 32 rfl) rfl
theorem q403 : (Jvm.Cond.methodLinkNest "BrushGlass$Month" (39 : Nat) ({ cls := "BrushGlass$Messy", name := "<init>", desc := "()V" } : Jvm.MethodName) "BrushGlass") ∈ lw_tbl := lw_at lw_m2 34 rfl
theorem q408 : (Jvm.Cond.classLink "BrushGlass$Month" (44 : Nat) "BrushGlass$Brush") ∈ lw_all := lw_g (lw_at lw_m2 39 rfl) rfl
theorem q411 : (Jvm.Cond.methodLinkNest "BrushGlass$Month" (69 : Nat) ({ cls := "BrushGlass$Brush", name := "<init>", desc := "()V" } : Jvm.MethodName) "BrushGlass") ∈ lw_tbl := lw_at lw_m2 42 rfl
theorem q416 : (Jvm.Cond.fieldLink "BrushGlass$Month" (226 : Nat) "BrushGlass$Brush" "owner" "I") ∈ lw_all := lw_g (lw_at lw_m2 47 rfl) rfl
theorem q420 : (Jvm.Cond.fieldLink "BrushGlass$Month" (151 : Nat) "BrushGlass$Brush" "colour" "I") ∈ lw_all := lw_g (lw_at lw_m2 51 rfl) rfl
theorem q423 : (Jvm.Cond.fieldLink "BrushGlass$Month" (184 : Nat) "BrushGlass$Brush" "bought" "I") ∈ lw_all := lw_g (lw_at lw_m2 54 rfl) rfl
theorem q426 : (Jvm.Cond.fieldLink "BrushGlass$Month" (193 : Nat) "BrushGlass$Brush" "thrown" "I") ∈ lw_all := lw_g (lw_at lw_m2 57 rfl) rfl
theorem q429 : (Jvm.Cond.fieldLink "BrushGlass$Month" (210 : Nat) "BrushGlass$Brush" "worn" "I") ∈ lw_all := lw_g (lw_at lw_m2 60 rfl) rfl
theorem q432 : (Jvm.Cond.fieldLink "BrushGlass$Month" (216 : Nat) "BrushGlass$Brush" "usedOn" "I") ∈ lw_all := lw_g (lw_at lw_m2 63 rfl) rfl
theorem q434 : (Jvm.Cond.fieldLink "BrushGlass$Month" (160 : Nat) "BrushGlass$Brush" "where" "I") ∈ lw_all := lw_g (lw_at lw_m2 65 rfl) rfl
theorem q450 : (Jvm.Cond.fieldLink "BrushGlass$Month" (20 : Nat) "BrushGlass$Month" "habits" "[LBrushGlass$Habit;") ∈ lw_all := lw_g (lw_at lw_m2 81 rfl) rfl
theorem q451 : (Jvm.Cond.fieldLink "BrushGlass$Month" (40 : Nat) "BrushGlass$Month" "kinds" "[LBrushGlass$Kind;") ∈ lw_all := lw_g (lw_at lw_m2 82 rfl) rfl
theorem q452 : (Jvm.Cond.fieldLink "BrushGlass$Month" (46 : Nat) "BrushGlass$Month" "brushes" "[LBrushGlass$Brush;") ∈ lw_all := lw_g (lw_at lw_m2 83 rfl) rfl
theorem q453 : (Jvm.Cond.fieldLink "BrushGlass$Month" (50 : Nat) "BrushGlass$Month" "stands" "[I") ∈ lw_all := lw_g (lw_at lw_m2 84 rfl) rfl
theorem q454 : (Jvm.Cond.fieldLink "BrushGlass$Month" (54 : Nat) "BrushGlass$Month" "own" "[I") ∈ lw_all := lw_g (lw_at lw_m2 85 rfl) rfl
theorem q455 : (Jvm.Cond.fieldLink "BrushGlass$Month" (57 : Nat) "BrushGlass$Month" "put" "[I") ∈ lw_all := lw_g (lw_at lw_m2 86 rfl) rfl
theorem q456 : (Jvm.Cond.fieldLink "BrushGlass$Month" (60 : Nat) "BrushGlass$Month" "evening" "[I") ∈ lw_all := lw_g (lw_at lw_m2 87 rfl) rfl
theorem q457 : (Jvm.Cond.fieldLink "BrushGlass$Month" (63 : Nat) "BrushGlass$Month" "places" "[I") ∈ lw_all := lw_g (lw_at lw_m2 88 rfl) rfl
theorem q458 : (Jvm.Cond.fieldLink "BrushGlass$Month" (66 : Nat) "BrushGlass$Month" "uses" "[I") ∈ lw_all := lw_g (lw_at lw_m2 89 rfl) rfl
theorem q459 : (Jvm.Cond.fieldLink "BrushGlass$Month" (70 : Nat) "BrushGlass$Month" "glass" "LBrushGlass$Glass;") ∈ lw_all := lw_g (lw_at lw_m2 90 rfl) rfl
theorem q460 : (Jvm.Cond.fieldLink "BrushGlass$Month" (74 : Nat) "BrushGlass$Month" "plan" "LBrushGlass$Plan;") ∈ lw_all := lw_g (lw_at lw_m2 91 rfl) rfl
theorem q461 : (Jvm.Cond.fieldLink "BrushGlass$Month" (82 : Nat) "BrushGlass$Month" "day" "I") ∈ lw_all := lw_g (lw_at lw_m2 92 rfl) rfl
theorem q462 : (Jvm.Cond.fieldLink "BrushGlass$Month" (78 : Nat) "BrushGlass$Month" "many" "I") ∈ lw_all := lw_g (lw_at lw_m2 93 rfl) rfl
theorem q464 : (Jvm.Cond.laysFinal "BrushGlass$Month" "BrushGlass$Month" "habits" "[LBrushGlass$Habit;") ∈ lw_all := lw_g (lw_at lw_m2 95 rfl) rfl
theorem q465 : (Jvm.Cond.soleField "BrushGlass$Month" "habits") ∈ lw_all := lw_g (lw_at lw_m2 96 rfl) rfl
theorem q466 : (Jvm.Cond.laysFinal "BrushGlass$Month" "BrushGlass$Month" "kinds" "[LBrushGlass$Kind;") ∈ lw_all := lw_g (lw_at lw_m2 97 rfl) rfl
theorem q467 : (Jvm.Cond.soleField "BrushGlass$Month" "kinds") ∈ lw_all := lw_g (lw_at lw_m2 98 rfl) rfl
theorem q468 : (Jvm.Cond.laysFinal "BrushGlass$Month" "BrushGlass$Month" "brushes" "[LBrushGlass$Brush;") ∈ lw_all := lw_g (lw_at lw_m2 99 rfl) rfl
theorem q469 : (Jvm.Cond.soleField "BrushGlass$Month" "brushes") ∈ lw_all := lw_g (lw_at lw_m2 100 rfl) rfl
theorem q470 : (Jvm.Cond.laysFinal "BrushGlass$Month" "BrushGlass$Month" "stands" "[I") ∈ lw_all := lw_g (lw_at lw_m2 101 rfl) rfl
theorem q471 : (Jvm.Cond.soleField "BrushGlass$Month" "stands") ∈ lw_all := lw_g (lw_at lw_m2 102 rfl) rfl
theorem q472 : (Jvm.Cond.laysFinal "BrushGlass$Month" "BrushGlass$Month" "own" "[I") ∈ lw_all := lw_g (lw_at lw_m2 103 rfl) rfl
theorem q473 : (Jvm.Cond.soleField "BrushGlass$Month" "own") ∈ lw_all := lw_g (lw_at lw_m2 104 rfl) rfl
theorem q474 : (Jvm.Cond.laysFinal "BrushGlass$Month" "BrushGlass$Month" "put" "[I") ∈ lw_all := lw_g (lw_at lw_m2 105 rfl) rfl
theorem q475 : (Jvm.Cond.soleField "BrushGlass$Month" "put") ∈ lw_all := lw_g (lw_at lw_m2 106 rfl) rfl
theorem q476 : (Jvm.Cond.laysFinal "BrushGlass$Month" "BrushGlass$Month" "evening" "[I") ∈ lw_all := lw_g (lw_at lw_m2 107 rfl) rfl
theorem q477 : (Jvm.Cond.soleField "BrushGlass$Month" "evening") ∈ lw_all := lw_g (lw_at lw_m2 108 rfl) rfl
theorem q478 : (Jvm.Cond.laysFinal "BrushGlass$Month" "BrushGlass$Month" "places" "[I") ∈ lw_all := lw_g (lw_at lw_m2 109 rfl) rfl
theorem q479 : (Jvm.Cond.soleField "BrushGlass$Month" "places") ∈ lw_all := lw_g (lw_at lw_m2 110 rfl) rfl
theorem q480 : (Jvm.Cond.laysFinal "BrushGlass$Month" "BrushGlass$Month" "uses" "[I") ∈ lw_all := lw_g (lw_at lw_m2 111 rfl) rfl
theorem q481 : (Jvm.Cond.soleField "BrushGlass$Month" "uses") ∈ lw_all := lw_g (lw_at lw_m2 112 rfl) rfl
theorem q482 : (Jvm.Cond.lays "BrushGlass$Month" "BrushGlass$Month" "glass" "LBrushGlass$Glass;") ∈ lw_all := lw_g (lw_at lw_m2 113 rfl) rfl
theorem q483 : (Jvm.Cond.soleField "BrushGlass$Month" "glass") ∈ lw_all := lw_g (lw_at lw_m2 114 rfl) rfl
theorem q484 : (Jvm.Cond.lays "BrushGlass$Month" "BrushGlass$Month" "plan" "LBrushGlass$Plan;") ∈ lw_all := lw_g (lw_at lw_m2 115 rfl) rfl
theorem q485 : (Jvm.Cond.soleField "BrushGlass$Month" "plan") ∈ lw_all := lw_g (lw_at lw_m2 116 rfl) rfl
theorem q486 : (Jvm.Cond.lays "BrushGlass$Month" "BrushGlass$Month" "day" "I") ∈ lw_all := lw_g (lw_at lw_m2 117 rfl) rfl
theorem q487 : (Jvm.Cond.soleField "BrushGlass$Month" "day") ∈ lw_all := lw_g (lw_at lw_m2 118 rfl) rfl
theorem q488 : (Jvm.Cond.lays "BrushGlass$Month" "BrushGlass$Month" "many" "I") ∈ lw_all := lw_g (lw_at lw_m2 119 rfl) rfl
theorem q489 : (Jvm.Cond.soleField "BrushGlass$Month" "many") ∈ lw_all := lw_g (lw_at lw_m2 120 rfl) rfl
theorem q490 : (Jvm.Cond.superclass "BrushGlass$Month" "java/lang/Object") ∈ lw_all := lw_g (lw_at lw_m2 121 rfl) rfl
theorem q657 : (Jvm.Cond.fieldLink "BrushGlass$Month" (93 : Nat) "BrushGlass$Glass" "people" "[LBrushGlass$Person;") ∈ lw_all := lw_g (lw_at lw_m3 48 rfl) rfl
theorem q662 : (Jvm.Cond.fieldLink "BrushGlass$Month" (118 : Nat) "BrushGlass$Glass" "moves" "[LBrushGlass$Move;") ∈ lw_all := lw_g (lw_at lw_m3 53 rfl) rfl
theorem q666 : (Jvm.Cond.fieldLink "BrushGlass$Month" (257 : Nat) "BrushGlass$Glass" "seeings" "[LBrushGlass$Seeing;") ∈ lw_all := lw_g (lw_at lw_m3 57 rfl) rfl
theorem q671 : (Jvm.Cond.fieldLink "BrushGlass$Month" (85 : Nat) "BrushGlass$Glass" "days" "I") ∈ lw_all := lw_g (lw_at lw_m3 62 rfl) rfl
theorem q675 : (Jvm.Cond.fieldLink "BrushGlass$Month" (149 : Nat) "BrushGlass$Glass" "places" "I") ∈ lw_all := lw_g (lw_at lw_m3 66 rfl) rfl
theorem q686 : (Jvm.Cond.fieldLink "BrushGlass$Month" (90 : Nat) "BrushGlass$Glass" "personMany" "I") ∈ lw_all := lw_g (lw_at lw_m3 77 rfl) rfl
theorem q690 : (Jvm.Cond.fieldLink "BrushGlass$Month" (115 : Nat) "BrushGlass$Glass" "moveMany" "I") ∈ lw_all := lw_g (lw_at lw_m3 81 rfl) rfl
theorem q694 : (Jvm.Cond.fieldLink "BrushGlass$Month" (254 : Nat) "BrushGlass$Glass" "seeingMany" "I") ∈ lw_all := lw_g (lw_at lw_m3 85 rfl) rfl
theorem q954 : (Jvm.Cond.fieldLink "BrushGlass$Month" (154 : Nat) "BrushGlass$Person" "number" "I") ∈ lw_all := lw_g (lw_at lw_m4 105 rfl) rfl
theorem q982 : (Jvm.Cond.fieldLink "BrushGlass$Month" (213 : Nat) "BrushGlass$Person" "wears" "I") ∈ lw_all := lw_g (lw_at lw_m4 133 rfl) rfl
theorem q985 : (Jvm.Cond.fieldLink "BrushGlass$Month" (142 : Nat) "BrushGlass$Person" "takes" "Z") ∈ lw_all := lw_g (lw_at lw_m4 136 rfl) rfl
theorem q1110 : (Jvm.Cond.fieldLink "BrushGlass$Month" (251 : Nat) "BrushGlass$Seeing" "row" "[I") ∈ lw_all := lw_g (lw_at lw_m5 21 rfl) rfl
theorem q1112 : (Jvm.Cond.fieldLink "BrushGlass$Month" (248 : Nat) "BrushGlass$Seeing" "day" "I") ∈ lw_all := lw_g (lw_at lw_m5 23 rfl) rfl
theorem q1154 : (Jvm.Cond.instanceMethod ({ cls := "BrushGlass$Month", name := "run", desc := "(LBrushGlass$Glass;LBrushGlass$Plan;LBrushGlass$Move;)V" } : Jvm.MethodName)) ∈ lw_all := lw_g (lw_at lw_m5 65 rfl) rfl
theorem q1155 : (Jvm.Cond.selects "BrushGlass$Month" ({ cls := "BrushGlass$Month", name := "run", desc := "(LBrushGlass$Glass;LBrushGlass$Plan;LBrushGlass$Move;)V" } : Jvm.MethodName) ({ cls := "BrushGlass$Month", name := "run", desc := "(LBrushGlass$Glass;LBrushGlass$Plan;LBrushGlass$Move;)V" } : Jvm.MethodName)) ∈ lw_all := lw_g (lw_at lw_m5 66 rfl) rfl
theorem q1156 : (Jvm.Cond.code ({ cls := "BrushGlass$Month", name := "run", desc := "(LBrushGlass$Glass;LBrushGlass$Plan;LBrushGlass$Move;)V" } : Jvm.MethodName) prog_10_method_2_code (5 : Nat) (Option.none : Option Jvm.ClassFile.FieldType)) ∈ lw_all := lw_g (lw_at lw_m5 67 rfl) rfl
theorem q1157 : (Jvm.Cond.methodLink "BrushGlass$Month" (97 : Nat) ({ cls := "BrushGlass$Person", name := "comes", desc := "(I)Z" } : Jvm.MethodName)) ∈ lw_all := lw_g (lw_at lw_m5 68 rfl) rfl
theorem q1161 : (Jvm.Cond.methodLink "BrushGlass$Month" (103 : Nat) ({ cls := "BrushGlass$Month", name := "comes", desc := "(LBrushGlass$Person;)V" } : Jvm.MethodName)) ∈ lw_all := lw_g (lw_at lw_m5 72 rfl) rfl
theorem q1162 : (Jvm.Cond.privateMethod ({ cls := "BrushGlass$Month", name := "comes", desc := "(LBrushGlass$Person;)V" } : Jvm.MethodName)) ∈ lw_tbl := lw_at lw_m5 73 rfl
theorem q1163 : (Jvm.Cond.instanceMethod ({ cls := "BrushGlass$Month", name := "comes", desc := "(LBrushGlass$Person;)V" } : Jvm.MethodName)) ∈ lw_all := lw_g (lw_at lw_m5 74 rfl) rfl
theorem q1164 : (Jvm.Cond.code ({ cls := "BrushGlass$Month", name := "comes", desc := "(LBrushGlass$Person;)V" } : Jvm.MethodName) prog_10_method_6_code (3 : Nat) (Option.none : Option Jvm.ClassFile.FieldType)) ∈ lw_all := lw_g (lw_at lw_m5 75 rfl) rfl
theorem q1165 : (Jvm.Cond.methodLink "BrushGlass$Month" (157 : Nat) ({ cls := "BrushGlass$Month", name := "buys", desc := "(LBrushGlass$Person;)V" } : Jvm.MethodName)) ∈ lw_all := lw_g (lw_at lw_m5 76 rfl) rfl
theorem q1166 : (Jvm.Cond.privateMethod ({ cls := "BrushGlass$Month", name := "buys", desc := "(LBrushGlass$Person;)V" } : Jvm.MethodName)) ∈ lw_tbl := lw_at lw_m5 77 rfl
theorem q1167 : (Jvm.Cond.instanceMethod ({ cls := "BrushGlass$Month", name := "buys", desc := "(LBrushGlass$Person;)V" } : Jvm.MethodName)) ∈ lw_all := lw_g (lw_at lw_m5 78 rfl) rfl
theorem q1168 : (Jvm.Cond.code ({ cls := "BrushGlass$Month", name := "buys", desc := "(LBrushGlass$Person;)V" } : Jvm.MethodName) prog_10_method_7_code (2 : Nat) (Option.none : Option Jvm.ClassFile.FieldType)) ∈ lw_all := lw_g (lw_at lw_m5 79 rfl) rfl
theorem q1169 : (Jvm.Cond.methodLink "BrushGlass$Month" (169 : Nat) ({ cls := "BrushGlass$Habit", name := "colour", desc := "(LBrushGlass$Month;LBrushGlass$Person;)I" } : Jvm.MethodName)) ∈ lw_all := lw_g (lw_at lw_m5 80 rfl) rfl
theorem q1176 : (Jvm.Cond.instanceMethod ({ cls := "BrushGlass$Month", name := "thereOf", desc := "(I)I" } : Jvm.MethodName)) ∈ lw_all := lw_g (lw_at lw_m5 87 rfl) rfl
theorem q1177 : (Jvm.Cond.selects "BrushGlass$Month" ({ cls := "BrushGlass$Month", name := "thereOf", desc := "(I)I" } : Jvm.MethodName) ({ cls := "BrushGlass$Month", name := "thereOf", desc := "(I)I" } : Jvm.MethodName)) ∈ lw_all := lw_g (lw_at lw_m5 88 rfl) rfl
theorem q1178 : (Jvm.Cond.code ({ cls := "BrushGlass$Month", name := "thereOf", desc := "(I)I" } : Jvm.MethodName) prog_10_method_5_code (4 : Nat) (Option.some Jvm.ClassFile.FieldType.int)) ∈ lw_all := lw_g (lw_at lw_m5 89 rfl) rfl
theorem q1186 : (Jvm.Cond.methodLink "BrushGlass$Month" (172 : Nat) ({ cls := "BrushGlass$Brush", name := "begin", desc := "(III)V" } : Jvm.MethodName)) ∈ lw_all := lw_g (lw_at lw_m5 97 rfl) rfl
theorem q1190 : (Jvm.Cond.methodLink "BrushGlass$Month" (163 : Nat) ({ cls := "BrushGlass$Month", name := "puts", desc := "(II)V" } : Jvm.MethodName)) ∈ lw_all := lw_g (lw_at lw_m5 101 rfl) rfl
theorem q1191 : (Jvm.Cond.privateMethod ({ cls := "BrushGlass$Month", name := "puts", desc := "(II)V" } : Jvm.MethodName)) ∈ lw_tbl := lw_at lw_m5 102 rfl
theorem q1192 : (Jvm.Cond.instanceMethod ({ cls := "BrushGlass$Month", name := "puts", desc := "(II)V" } : Jvm.MethodName)) ∈ lw_all := lw_g (lw_at lw_m5 103 rfl) rfl
theorem q1193 : (Jvm.Cond.code ({ cls := "BrushGlass$Month", name := "puts", desc := "(II)V" } : Jvm.MethodName) prog_10_method_9_code (4 : Nat) (Option.none : Option Jvm.ClassFile.FieldType)) ∈ lw_all := lw_g (lw_at lw_m5 104 rfl) rfl
theorem q1194 : (Jvm.Cond.methodLink "BrushGlass$Month" (176 : Nat) ({ cls := "BrushGlass$Month", name := "firstFree", desc := "()I" } : Jvm.MethodName)) ∈ lw_all := lw_g (lw_at lw_m5 105 rfl) rfl
theorem q1195 : (Jvm.Cond.privateMethod ({ cls := "BrushGlass$Month", name := "firstFree", desc := "()I" } : Jvm.MethodName)) ∈ lw_tbl := lw_at lw_m5 106 rfl
theorem q1196 : (Jvm.Cond.instanceMethod ({ cls := "BrushGlass$Month", name := "firstFree", desc := "()I" } : Jvm.MethodName)) ∈ lw_all := lw_g (lw_at lw_m5 107 rfl) rfl
theorem q1197 : (Jvm.Cond.code ({ cls := "BrushGlass$Month", name := "firstFree", desc := "()I" } : Jvm.MethodName) prog_10_method_8_code (2 : Nat) (Option.some Jvm.ClassFile.FieldType.int)) ∈ lw_all := lw_g (lw_at lw_m5 108 rfl) rfl
theorem q1198 : (Jvm.Cond.methodLink "BrushGlass$Month" (106 : Nat) ({ cls := "BrushGlass$Person", name := "isHere", desc := "(I)Z" } : Jvm.MethodName)) ∈ lw_all := lw_g (lw_at lw_m5 109 rfl) rfl
theorem q1203 : (Jvm.Cond.methodLink "BrushGlass$Month" (109 : Nat) ({ cls := "BrushGlass$Month", name := "isOld", desc := "(I)Z" } : Jvm.MethodName)) ∈ lw_all := lw_g (lw_at lw_m5 114 rfl) rfl
theorem q1204 : (Jvm.Cond.privateMethod ({ cls := "BrushGlass$Month", name := "isOld", desc := "(I)Z" } : Jvm.MethodName)) ∈ lw_tbl := lw_at lw_m5 115 rfl
theorem q1205 : (Jvm.Cond.instanceMethod ({ cls := "BrushGlass$Month", name := "isOld", desc := "(I)Z" } : Jvm.MethodName)) ∈ lw_all := lw_g (lw_at lw_m5 116 rfl) rfl
theorem q1206 : (Jvm.Cond.code ({ cls := "BrushGlass$Month", name := "isOld", desc := "(I)Z" } : Jvm.MethodName) prog_10_method_11_code (2 : Nat) (Option.some Jvm.ClassFile.FieldType.boolean)) ∈ lw_all := lw_g (lw_at lw_m5 117 rfl) rfl
theorem q1207 : (Jvm.Cond.methodLink "BrushGlass$Month" (112 : Nat) ({ cls := "BrushGlass$Month", name := "renews", desc := "(LBrushGlass$Person;)V" } : Jvm.MethodName)) ∈ lw_all := lw_g (lw_at lw_m5 118 rfl) rfl
theorem q1208 : (Jvm.Cond.privateMethod ({ cls := "BrushGlass$Month", name := "renews", desc := "(LBrushGlass$Person;)V" } : Jvm.MethodName)) ∈ lw_tbl := lw_at lw_m5 119 rfl
theorem q1209 : (Jvm.Cond.instanceMethod ({ cls := "BrushGlass$Month", name := "renews", desc := "(LBrushGlass$Person;)V" } : Jvm.MethodName)) ∈ lw_all := lw_g (lw_at lw_m5 120 rfl) rfl
theorem q1210 : (Jvm.Cond.code ({ cls := "BrushGlass$Month", name := "renews", desc := "(LBrushGlass$Person;)V" } : Jvm.MethodName) prog_10_method_12_code (3 : Nat) (Option.none : Option Jvm.ClassFile.FieldType)) ∈ lw_all := lw_g (lw_at lw_m5 121 rfl) rfl
theorem q1211 : (Jvm.Cond.methodLink "BrushGlass$Month" (190 : Nat) ({ cls := "BrushGlass$Month", name := "leaves", desc := "(I)V" } : Jvm.MethodName)) ∈ lw_all := lw_g (lw_at lw_m5 122 rfl) rfl
theorem q1212 : (Jvm.Cond.privateMethod ({ cls := "BrushGlass$Month", name := "leaves", desc := "(I)V" } : Jvm.MethodName)) ∈ lw_tbl := lw_at lw_m5 123 rfl
theorem q1213 : (Jvm.Cond.instanceMethod ({ cls := "BrushGlass$Month", name := "leaves", desc := "(I)V" } : Jvm.MethodName)) ∈ lw_all := lw_g (lw_at lw_m5 124 rfl) rfl
theorem q1214 : (Jvm.Cond.code ({ cls := "BrushGlass$Month", name := "leaves", desc := "(I)V" } : Jvm.MethodName) prog_10_method_10_code (2 : Nat) (Option.none : Option Jvm.ClassFile.FieldType)) ∈ lw_all := lw_g (lw_at lw_m5 125 rfl) rfl
theorem q1215 : (Jvm.Cond.methodLink "BrushGlass$Month" (180 : Nat) ({ cls := "BrushGlass$Brush", name := "isThere", desc := "()Z" } : Jvm.MethodName)) ∈ lw_all := lw_g (lw_at lw_m5 126 rfl) rfl
theorem q1220 : (Jvm.Cond.methodLink "BrushGlass$Month" (122 : Nat) ({ cls := "BrushGlass$Month", name := "moves", desc := "(LBrushGlass$Move;)V" } : Jvm.MethodName)) ∈ lw_all := lw_g (lw_at lw_m5 131 rfl) rfl
theorem q1221 : (Jvm.Cond.privateMethod ({ cls := "BrushGlass$Month", name := "moves", desc := "(LBrushGlass$Move;)V" } : Jvm.MethodName)) ∈ lw_tbl := lw_at lw_m5 132 rfl
theorem q1222 : (Jvm.Cond.instanceMethod ({ cls := "BrushGlass$Month", name := "moves", desc := "(LBrushGlass$Move;)V" } : Jvm.MethodName)) ∈ lw_all := lw_g (lw_at lw_m5 133 rfl) rfl
theorem q1223 : (Jvm.Cond.code ({ cls := "BrushGlass$Month", name := "moves", desc := "(LBrushGlass$Move;)V" } : Jvm.MethodName) prog_10_method_13_code (3 : Nat) (Option.none : Option Jvm.ClassFile.FieldType)) ∈ lw_all := lw_g (lw_at lw_m5 134 rfl) rfl
theorem q1224 : (Jvm.Cond.methodLink "BrushGlass$Month" (128 : Nat) ({ cls := "BrushGlass$Plan", name := "move", desc := "(I)LBrushGlass$Move;" } : Jvm.MethodName)) ∈ lw_all := lw_g (lw_at lw_m5 135 rfl) rfl
theorem q1228 : (Jvm.Cond.methodLink "BrushGlass$Month" (132 : Nat) ({ cls := "BrushGlass$Month", name := "use", desc := "(LBrushGlass$Person;)I" } : Jvm.MethodName)) ∈ lw_all := lw_g (lw_at lw_m5 139 rfl) rfl
theorem q1229 : (Jvm.Cond.privateMethod ({ cls := "BrushGlass$Month", name := "use", desc := "(LBrushGlass$Person;)I" } : Jvm.MethodName)) ∈ lw_tbl := lw_at lw_m5 140 rfl
theorem q1230 : (Jvm.Cond.instanceMethod ({ cls := "BrushGlass$Month", name := "use", desc := "(LBrushGlass$Person;)I" } : Jvm.MethodName)) ∈ lw_all := lw_g (lw_at lw_m5 141 rfl) rfl
theorem q1231 : (Jvm.Cond.code ({ cls := "BrushGlass$Month", name := "use", desc := "(LBrushGlass$Person;)I" } : Jvm.MethodName) prog_10_method_14_code (5 : Nat) (Option.some Jvm.ClassFile.FieldType.int)) ∈ lw_all := lw_g (lw_at lw_m5 142 rfl) rfl
theorem q1232 : (Jvm.Cond.methodLink "BrushGlass$Month" (207 : Nat) ({ cls := "BrushGlass$Kind", name := "uses", desc := "(LBrushGlass$Month;II)I" } : Jvm.MethodName)) ∈ lw_all := lw_g (lw_at lw_m5 143 rfl) rfl
theorem q1239 : (Jvm.Cond.instanceMethod ({ cls := "BrushGlass$Month", name := "stands", desc := "(I)I" } : Jvm.MethodName)) ∈ lw_all := lw_g (lw_at lw_m5 150 rfl) rfl
theorem q1240 : (Jvm.Cond.selects "BrushGlass$Month" ({ cls := "BrushGlass$Month", name := "stands", desc := "(I)I" } : Jvm.MethodName) ({ cls := "BrushGlass$Month", name := "stands", desc := "(I)I" } : Jvm.MethodName)) ∈ lw_all := lw_g (lw_at lw_m5 151 rfl) rfl
theorem q1241 : (Jvm.Cond.code ({ cls := "BrushGlass$Month", name := "stands", desc := "(I)I" } : Jvm.MethodName) prog_10_method_4_code (2 : Nat) (Option.some Jvm.ClassFile.FieldType.int)) ∈ lw_all := lw_g (lw_at lw_m5 152 rfl) rfl
theorem q1243 : (Jvm.Cond.instanceMethod ({ cls := "BrushGlass$Month", name := "brush", desc := "(I)LBrushGlass$Brush;" } : Jvm.MethodName)) ∈ lw_all := lw_g (lw_at lw_m5 154 rfl) rfl
theorem q1244 : (Jvm.Cond.selects "BrushGlass$Month" ({ cls := "BrushGlass$Month", name := "brush", desc := "(I)LBrushGlass$Brush;" } : Jvm.MethodName) ({ cls := "BrushGlass$Month", name := "brush", desc := "(I)LBrushGlass$Brush;" } : Jvm.MethodName)) ∈ lw_all := lw_g (lw_at lw_m5 155 rfl) rfl
theorem q1245 : (Jvm.Cond.code ({ cls := "BrushGlass$Month", name := "brush", desc := "(I)LBrushGlass$Brush;" } : Jvm.MethodName) prog_10_method_3_code (2 : Nat) (Option.some (Jvm.ClassFile.FieldType.object "BrushGlass$Brush"))) ∈ lw_all := lw_g (lw_at lw_m5 156 rfl) rfl
theorem q1256 : (Jvm.Cond.methodLink "BrushGlass$Month" (219 : Nat) ({ cls := "BrushGlass$Kind", name := "isMessy", desc := "()Z" } : Jvm.MethodName)) ∈ lw_all := lw_g (lw_at lw_m5 167 rfl) rfl
theorem q1266 : (Jvm.Cond.methodLink "BrushGlass$Month" (136 : Nat) ({ cls := "BrushGlass$Month", name := "keep", desc := "()V" } : Jvm.MethodName)) ∈ lw_all := lw_g (lw_at lw_m5 177 rfl) rfl
theorem q1267 : (Jvm.Cond.privateMethod ({ cls := "BrushGlass$Month", name := "keep", desc := "()V" } : Jvm.MethodName)) ∈ lw_tbl := lw_at lw_m5 178 rfl
theorem q1268 : (Jvm.Cond.instanceMethod ({ cls := "BrushGlass$Month", name := "keep", desc := "()V" } : Jvm.MethodName)) ∈ lw_all := lw_g (lw_at lw_m5 179 rfl) rfl
theorem q1269 : (Jvm.Cond.code ({ cls := "BrushGlass$Month", name := "keep", desc := "()V" } : Jvm.MethodName) prog_10_method_15_code (2 : Nat) (Option.none : Option Jvm.ClassFile.FieldType)) ∈ lw_all := lw_g (lw_at lw_m5 180 rfl) rfl
theorem q1270 : (Jvm.Cond.methodLink "BrushGlass$Month" (139 : Nat) ({ cls := "BrushGlass$Person", name := "goes", desc := "(I)Z" } : Jvm.MethodName)) ∈ lw_all := lw_g (lw_at lw_m5 181 rfl) rfl
theorem q1274 : (Jvm.Cond.methodLink "BrushGlass$Month" (146 : Nat) ({ cls := "BrushGlass$Month", name := "goes", desc := "(I)V" } : Jvm.MethodName)) ∈ lw_all := lw_g (lw_at lw_m5 185 rfl) rfl
theorem q1275 : (Jvm.Cond.privateMethod ({ cls := "BrushGlass$Month", name := "goes", desc := "(I)V" } : Jvm.MethodName)) ∈ lw_tbl := lw_at lw_m5 186 rfl
theorem q1276 : (Jvm.Cond.instanceMethod ({ cls := "BrushGlass$Month", name := "goes", desc := "(I)V" } : Jvm.MethodName)) ∈ lw_all := lw_g (lw_at lw_m5 187 rfl) rfl
theorem q1277 : (Jvm.Cond.code ({ cls := "BrushGlass$Month", name := "goes", desc := "(I)V" } : Jvm.MethodName) prog_10_method_16_code (3 : Nat) (Option.none : Option Jvm.ClassFile.FieldType)) ∈ lw_all := lw_g (lw_at lw_m5 188 rfl) rfl
theorem q1347 : (Jvm.Cond.instanceMethod ({ cls := "BrushGlass$Month", name := "at", desc := "(II)I" } : Jvm.MethodName)) ∈ lw_all := lw_g (lw_at lw_m6 18 rfl) rfl
theorem q1348 : (Jvm.Cond.selects "BrushGlass$Month" ({ cls := "BrushGlass$Month", name := "at", desc := "(II)I" } : Jvm.MethodName) ({ cls := "BrushGlass$Month", name := "at", desc := "(II)I" } : Jvm.MethodName)) ∈ lw_all := lw_g (lw_at lw_m6 19 rfl) rfl
theorem q1349 : (Jvm.Cond.code ({ cls := "BrushGlass$Month", name := "at", desc := "(II)I" } : Jvm.MethodName) prog_10_method_17_code (3 : Nat) (Option.some Jvm.ClassFile.FieldType.int)) ∈ lw_all := lw_g (lw_at lw_m6 20 rfl) rfl
theorem q1355 : (Jvm.Cond.instanceMethod ({ cls := "BrushGlass$Month", name := "colour", desc := "(II)I" } : Jvm.MethodName)) ∈ lw_all := lw_g (lw_at lw_m6 26 rfl) rfl
theorem q1356 : (Jvm.Cond.selects "BrushGlass$Month" ({ cls := "BrushGlass$Month", name := "colour", desc := "(II)I" } : Jvm.MethodName) ({ cls := "BrushGlass$Month", name := "colour", desc := "(II)I" } : Jvm.MethodName)) ∈ lw_all := lw_g (lw_at lw_m6 27 rfl) rfl
theorem q1357 : (Jvm.Cond.code ({ cls := "BrushGlass$Month", name := "colour", desc := "(II)I" } : Jvm.MethodName) prog_10_method_18_code (3 : Nat) (Option.some Jvm.ClassFile.FieldType.int)) ∈ lw_all := lw_g (lw_at lw_m6 28 rfl) rfl
theorem q1358 : (Jvm.Cond.methodLink "BrushGlass$Month" (222 : Nat) ({ cls := "BrushGlass$Month", name := "at", desc := "(II)I" } : Jvm.MethodName)) ∈ lw_all := lw_g (lw_at lw_m6 29 rfl) rfl
theorem q1364 : (Jvm.Cond.instanceMethod ({ cls := "BrushGlass$Month", name := "whose", desc := "(II)I" } : Jvm.MethodName)) ∈ lw_all := lw_g (lw_at lw_m6 35 rfl) rfl
theorem q1365 : (Jvm.Cond.selects "BrushGlass$Month" ({ cls := "BrushGlass$Month", name := "whose", desc := "(II)I" } : Jvm.MethodName) ({ cls := "BrushGlass$Month", name := "whose", desc := "(II)I" } : Jvm.MethodName)) ∈ lw_all := lw_g (lw_at lw_m6 36 rfl) rfl
theorem q1366 : (Jvm.Cond.code ({ cls := "BrushGlass$Month", name := "whose", desc := "(II)I" } : Jvm.MethodName) prog_10_method_19_code (3 : Nat) (Option.some Jvm.ClassFile.FieldType.int)) ∈ lw_all := lw_g (lw_at lw_m6 37 rfl) rfl
theorem q1372 : (Jvm.Cond.instanceMethod ({ cls := "BrushGlass$Month", name := "place", desc := "(II)I" } : Jvm.MethodName)) ∈ lw_all := lw_g (lw_at lw_m6 43 rfl) rfl
theorem q1373 : (Jvm.Cond.selects "BrushGlass$Month" ({ cls := "BrushGlass$Month", name := "place", desc := "(II)I" } : Jvm.MethodName) ({ cls := "BrushGlass$Month", name := "place", desc := "(II)I" } : Jvm.MethodName)) ∈ lw_all := lw_g (lw_at lw_m6 44 rfl) rfl
theorem q1374 : (Jvm.Cond.code ({ cls := "BrushGlass$Month", name := "place", desc := "(II)I" } : Jvm.MethodName) prog_10_method_20_code (3 : Nat) (Option.some Jvm.ClassFile.FieldType.int)) ∈ lw_all := lw_g (lw_at lw_m6 45 rfl) rfl
theorem q1380 : (Jvm.Cond.instanceMethod ({ cls := "BrushGlass$Month", name := "there", desc := "(I)I" } : Jvm.MethodName)) ∈ lw_all := lw_g (lw_at lw_m6 51 rfl) rfl
theorem q1381 : (Jvm.Cond.selects "BrushGlass$Month" ({ cls := "BrushGlass$Month", name := "there", desc := "(I)I" } : Jvm.MethodName) ({ cls := "BrushGlass$Month", name := "there", desc := "(I)I" } : Jvm.MethodName)) ∈ lw_all := lw_g (lw_at lw_m6 52 rfl) rfl
theorem q1382 : (Jvm.Cond.code ({ cls := "BrushGlass$Month", name := "there", desc := "(I)I" } : Jvm.MethodName) prog_10_method_22_code (4 : Nat) (Option.some Jvm.ClassFile.FieldType.int)) ∈ lw_all := lw_g (lw_at lw_m6 53 rfl) rfl
theorem q1392 : (Jvm.Cond.instanceMethod ({ cls := "BrushGlass$Month", name := "used", desc := "(II)I" } : Jvm.MethodName)) ∈ lw_all := lw_g (lw_at lw_m6 63 rfl) rfl
theorem q1393 : (Jvm.Cond.selects "BrushGlass$Month" ({ cls := "BrushGlass$Month", name := "used", desc := "(II)I" } : Jvm.MethodName) ({ cls := "BrushGlass$Month", name := "used", desc := "(II)I" } : Jvm.MethodName)) ∈ lw_all := lw_g (lw_at lw_m6 64 rfl) rfl
theorem q1394 : (Jvm.Cond.code ({ cls := "BrushGlass$Month", name := "used", desc := "(II)I" } : Jvm.MethodName) prog_10_method_21_code (3 : Nat) (Option.some Jvm.ClassFile.FieldType.int)) ∈ lw_all := lw_g (lw_at lw_m6 65 rfl) rfl
theorem q1404 : (Jvm.Cond.instanceMethod ({ cls := "BrushGlass$Month", name := "shared", desc := "(I)I" } : Jvm.MethodName)) ∈ lw_all := lw_g (lw_at lw_m6 75 rfl) rfl
theorem q1405 : (Jvm.Cond.selects "BrushGlass$Month" ({ cls := "BrushGlass$Month", name := "shared", desc := "(I)I" } : Jvm.MethodName) ({ cls := "BrushGlass$Month", name := "shared", desc := "(I)I" } : Jvm.MethodName)) ∈ lw_all := lw_g (lw_at lw_m6 76 rfl) rfl
theorem q1406 : (Jvm.Cond.code ({ cls := "BrushGlass$Month", name := "shared", desc := "(I)I" } : Jvm.MethodName) prog_10_method_24_code (4 : Nat) (Option.some Jvm.ClassFile.FieldType.int)) ∈ lw_all := lw_g (lw_at lw_m6 77 rfl) rfl
theorem q1407 : (Jvm.Cond.methodLink "BrushGlass$Month" (232 : Nat) ({ cls := "BrushGlass$Month", name := "isShared", desc := "(II)Z" } : Jvm.MethodName)) ∈ lw_all := lw_g (lw_at lw_m6 78 rfl) rfl
theorem q1408 : (Jvm.Cond.instanceMethod ({ cls := "BrushGlass$Month", name := "isShared", desc := "(II)Z" } : Jvm.MethodName)) ∈ lw_all := lw_g (lw_at lw_m6 79 rfl) rfl
theorem q1409 : (Jvm.Cond.selects "BrushGlass$Month" ({ cls := "BrushGlass$Month", name := "isShared", desc := "(II)Z" } : Jvm.MethodName) ({ cls := "BrushGlass$Month", name := "isShared", desc := "(II)Z" } : Jvm.MethodName)) ∈ lw_all := lw_g (lw_at lw_m6 80 rfl) rfl
theorem q1410 : (Jvm.Cond.code ({ cls := "BrushGlass$Month", name := "isShared", desc := "(II)Z" } : Jvm.MethodName) prog_10_method_23_code (3 : Nat) (Option.some Jvm.ClassFile.FieldType.boolean)) ∈ lw_all := lw_g (lw_at lw_m6 81 rfl) rfl
theorem q1411 : (Jvm.Cond.methodLink "BrushGlass$Month" (229 : Nat) ({ cls := "BrushGlass$Month", name := "used", desc := "(II)I" } : Jvm.MethodName)) ∈ lw_all := lw_g (lw_at lw_m6 82 rfl) rfl
theorem q1417 : (Jvm.Cond.instanceMethod ({ cls := "BrushGlass$Month", name := "sharedAll", desc := "()I" } : Jvm.MethodName)) ∈ lw_all := lw_g (lw_at lw_m6 88 rfl) rfl
theorem q1418 : (Jvm.Cond.selects "BrushGlass$Month" ({ cls := "BrushGlass$Month", name := "sharedAll", desc := "()I" } : Jvm.MethodName) ({ cls := "BrushGlass$Month", name := "sharedAll", desc := "()I" } : Jvm.MethodName)) ∈ lw_all := lw_g (lw_at lw_m6 89 rfl) rfl
theorem q1419 : (Jvm.Cond.code ({ cls := "BrushGlass$Month", name := "sharedAll", desc := "()I" } : Jvm.MethodName) prog_10_method_25_code (3 : Nat) (Option.some Jvm.ClassFile.FieldType.int)) ∈ lw_all := lw_g (lw_at lw_m6 90 rfl) rfl
theorem q1420 : (Jvm.Cond.methodLink "BrushGlass$Month" (236 : Nat) ({ cls := "BrushGlass$Month", name := "shared", desc := "(I)I" } : Jvm.MethodName)) ∈ lw_all := lw_g (lw_at lw_m6 91 rfl) rfl
theorem q1439 : (Jvm.Cond.instanceMethod ({ cls := "BrushGlass$Month", name := "alike", desc := "(I)I" } : Jvm.MethodName)) ∈ lw_all := lw_g (lw_at lw_m6 110 rfl) rfl
theorem q1440 : (Jvm.Cond.selects "BrushGlass$Month" ({ cls := "BrushGlass$Month", name := "alike", desc := "(I)I" } : Jvm.MethodName) ({ cls := "BrushGlass$Month", name := "alike", desc := "(I)I" } : Jvm.MethodName)) ∈ lw_all := lw_g (lw_at lw_m6 111 rfl) rfl
theorem q1441 : (Jvm.Cond.code ({ cls := "BrushGlass$Month", name := "alike", desc := "(I)I" } : Jvm.MethodName) prog_10_method_27_code (4 : Nat) (Option.some Jvm.ClassFile.FieldType.int)) ∈ lw_all := lw_g (lw_at lw_m6 112 rfl) rfl
theorem q1442 : (Jvm.Cond.methodLink "BrushGlass$Month" (242 : Nat) ({ cls := "BrushGlass$Month", name := "ofColour", desc := "(II)I" } : Jvm.MethodName)) ∈ lw_all := lw_g (lw_at lw_m6 113 rfl) rfl
theorem q1443 : (Jvm.Cond.instanceMethod ({ cls := "BrushGlass$Month", name := "ofColour", desc := "(II)I" } : Jvm.MethodName)) ∈ lw_all := lw_g (lw_at lw_m6 114 rfl) rfl
theorem q1444 : (Jvm.Cond.selects "BrushGlass$Month" ({ cls := "BrushGlass$Month", name := "ofColour", desc := "(II)I" } : Jvm.MethodName) ({ cls := "BrushGlass$Month", name := "ofColour", desc := "(II)I" } : Jvm.MethodName)) ∈ lw_all := lw_g (lw_at lw_m6 115 rfl) rfl
theorem q1445 : (Jvm.Cond.code ({ cls := "BrushGlass$Month", name := "ofColour", desc := "(II)I" } : Jvm.MethodName) prog_10_method_26_code (5 : Nat) (Option.some Jvm.ClassFile.FieldType.int)) ∈ lw_all := lw_g (lw_at lw_m6 116 rfl) rfl
theorem q1446 : (Jvm.Cond.methodLink "BrushGlass$Month" (240 : Nat) ({ cls := "BrushGlass$Month", name := "colour", desc := "(II)I" } : Jvm.MethodName)) ∈ lw_all := lw_g (lw_at lw_m6 117 rfl) rfl
theorem q1452 : (Jvm.Cond.instanceMethod ({ cls := "BrushGlass$Month", name := "alikeDays", desc := "()I" } : Jvm.MethodName)) ∈ lw_all := lw_g (lw_at lw_m6 123 rfl) rfl
theorem q1453 : (Jvm.Cond.selects "BrushGlass$Month" ({ cls := "BrushGlass$Month", name := "alikeDays", desc := "()I" } : Jvm.MethodName) ({ cls := "BrushGlass$Month", name := "alikeDays", desc := "()I" } : Jvm.MethodName)) ∈ lw_all := lw_g (lw_at lw_m6 124 rfl) rfl
theorem q1454 : (Jvm.Cond.code ({ cls := "BrushGlass$Month", name := "alikeDays", desc := "()I" } : Jvm.MethodName) prog_10_method_28_code (3 : Nat) (Option.some Jvm.ClassFile.FieldType.int)) ∈ lw_all := lw_g (lw_at lw_m6 125 rfl) rfl
theorem q1455 : (Jvm.Cond.methodLink "BrushGlass$Month" (245 : Nat) ({ cls := "BrushGlass$Month", name := "alike", desc := "(I)I" } : Jvm.MethodName)) ∈ lw_all := lw_g (lw_at lw_m6 126 rfl) rfl
theorem q1538 : (Jvm.Cond.instanceMethod ({ cls := "BrushGlass$Month", name := "wrong", desc := "(LBrushGlass$Seeing;)I" } : Jvm.MethodName)) ∈ lw_all := lw_g (lw_at lw_m6 209 rfl) rfl
theorem q1539 : (Jvm.Cond.selects "BrushGlass$Month" ({ cls := "BrushGlass$Month", name := "wrong", desc := "(LBrushGlass$Seeing;)I" } : Jvm.MethodName) ({ cls := "BrushGlass$Month", name := "wrong", desc := "(LBrushGlass$Seeing;)I" } : Jvm.MethodName)) ∈ lw_all := lw_g (lw_at lw_m6 210 rfl) rfl
theorem q1540 : (Jvm.Cond.code ({ cls := "BrushGlass$Month", name := "wrong", desc := "(LBrushGlass$Seeing;)I" } : Jvm.MethodName) prog_10_method_29_code (3 : Nat) (Option.some Jvm.ClassFile.FieldType.int)) ∈ lw_all := lw_g (lw_at lw_m6 211 rfl) rfl
theorem q1554 : (Jvm.Cond.instanceMethod ({ cls := "BrushGlass$Month", name := "isRight", desc := "()Z" } : Jvm.MethodName)) ∈ lw_all := lw_g (lw_at lw_m6 225 rfl) rfl
theorem q1555 : (Jvm.Cond.selects "BrushGlass$Month" ({ cls := "BrushGlass$Month", name := "isRight", desc := "()Z" } : Jvm.MethodName) ({ cls := "BrushGlass$Month", name := "isRight", desc := "()Z" } : Jvm.MethodName)) ∈ lw_all := lw_g (lw_at lw_m6 226 rfl) rfl
theorem q1556 : (Jvm.Cond.code ({ cls := "BrushGlass$Month", name := "isRight", desc := "()Z" } : Jvm.MethodName) prog_10_method_30_code (3 : Nat) (Option.some Jvm.ClassFile.FieldType.boolean)) ∈ lw_all := lw_g (lw_at lw_m6 227 rfl) rfl
theorem q1557 : (Jvm.Cond.methodLink "BrushGlass$Month" (261 : Nat) ({ cls := "BrushGlass$Month", name := "wrong", desc := "(LBrushGlass$Seeing;)I" } : Jvm.MethodName)) ∈ lw_all := lw_g (lw_at lw_m6 228 rfl) rfl
theorem q2596 : (Jvm.Cond.castable "BrushGlass$Month" "java/lang/Object") ∈ lw_tbl := lw_at lw_m11 67 rfl
theorem in_X6 : ∀ w ∈ wsX60, w ∈ lw_all := lw_in wsX60 [464, 466, 468, 470, 472, 474, 476, 478, 480, 482, 484, 486, 488] (by decide +kernel) (by decide +kernel)

/-! BrushGlass$Habit -/
set_option maxRecDepth 100000
def RX7 : String := "BrushGlass$Habit"
abbrev cX7_init : ByteArray := prog_7_method_1_code
def yX7_init : MethodName := ⟨RX7, "<init>", "()V"⟩
theorem dX7_init_0 : decode cX7_init 0 = .ok (.aload_n 0, 1) := by decide +kernel
theorem dX7_init_1 : decode cX7_init 1 = .ok (.invokespecial 1, 3) := by decide +kernel
theorem dX7_init_4 : decode cX7_init 4 = .ok (.return_, 1) := by decide +kernel
theorem q139 : (Jvm.Cond.initialized "BrushGlass$Habit") ∈ lw_all := lw_g (lw_at lw_m1 10 rfl) rfl
theorem q357 : (Jvm.Cond.instanceMethod ({ cls := "BrushGlass$Habit", name := "<init>", desc := "()V" } : Jvm.MethodName)) ∈ lw_all := lw_g (lw_at lw_m1 228 rfl) rfl
theorem q358 : (Jvm.Cond.code ({ cls := "BrushGlass$Habit", name := "<init>", desc := "()V" } : Jvm.MethodName) prog_7_method_1_code (1 : Nat) (Option.none : Option Jvm.ClassFile.FieldType)) ∈ lw_all := lw_g (lw_at lw_m1 229 rfl) rfl
theorem q359 : (Jvm.Cond.methodLink "BrushGlass$Habit" (1 : Nat) ({ cls := "java/lang/Object", name := "<init>", desc := "()V" } : Jvm.MethodName)) ∈ lw_all := lw_g (lw_at lw_m1 230 rfl) rfl
theorem q1170 : (Jvm.Cond.declares ({ cls := "BrushGlass$Habit", name := "colour", desc := "(LBrushGlass$Month;LBrushGlass$Person;)I" } : Jvm.MethodName)) ∈ lw_tbl := lw_at lw_m5 81 rfl
theorem q1171 : (Jvm.Cond.sameMethod "BrushGlass$Habit" "BrushGlass$Habit" "colour" "(LBrushGlass$Month;LBrushGlass$Person;)I") ∈ lw_all := lw_g (lw_at lw_m5 82 rfl) rfl

/-! BrushGlass$TheFirst -/
set_option maxRecDepth 100000
def RX8 : String := "BrushGlass$TheFirst"
abbrev cX8_init : ByteArray := prog_21_method_1_code
def yX8_init : MethodName := ⟨RX8, "<init>", "()V"⟩
theorem dX8_init_0 : decode cX8_init 0 = .ok (.aload_n 0, 1) := by decide +kernel
theorem dX8_init_1 : decode cX8_init 1 = .ok (.invokespecial 1, 3) := by decide +kernel
theorem dX8_init_4 : decode cX8_init 4 = .ok (.return_, 1) := by decide +kernel
abbrev cX8_colour : ByteArray := prog_21_method_2_code
def yX8_colour : MethodName := ⟨RX8, "colour", "(LBrushGlass$Month;LBrushGlass$Person;)I"⟩
def dkwX8_colour_0 : List UInt8 := [44, 180, 0, 7, 3, 46, 172]
abbrev dktX8_colour_0 : List UInt8 := dkwX8_colour_0 ++ []
theorem dksX8_colour_0 : cX8_colour.data.toList.drop 0 = dktX8_colour_0 := by decide +kernel
theorem dX8_colour_0 : decode cX8_colour 0 = .ok (.aload_n 2, 1) := dk_44 (dk_at dksX8_colour_0 0 rfl rfl)
theorem dX8_colour_1 : decode cX8_colour 1 = .ok (.getfield 7, 3) := dk_180 0 7 (dk_at dksX8_colour_0 1 rfl rfl)
theorem dX8_colour_4 : decode cX8_colour 4 = .ok (.iconst 0, 1) := dk_3 (dk_at dksX8_colour_0 4 rfl rfl)
theorem dX8_colour_5 : decode cX8_colour 5 = .ok (.iaload, 1) := dk_46 (dk_at dksX8_colour_0 5 rfl rfl)
theorem dX8_colour_6 : decode cX8_colour 6 = .ok (.ireturn, 1) := dk_172 (dk_at dksX8_colour_0 6 rfl rfl)
theorem q140 : (Jvm.Cond.initialized "BrushGlass$TheFirst") ∈ lw_all := lw_g (lw_at lw_m1 11 rfl) rfl
theorem q352 : (Jvm.Cond.instantiable "BrushGlass$TheFirst" (0 : Nat)) ∈ lw_all := lw_g (lw_at lw_m1 223 rfl) rfl
theorem q354 : (Jvm.Cond.instanceMethod ({ cls := "BrushGlass$TheFirst", name := "<init>", desc := "()V" } : Jvm.MethodName)) ∈ lw_all := lw_g (lw_at lw_m1 225 rfl) rfl
theorem q355 : (Jvm.Cond.code ({ cls := "BrushGlass$TheFirst", name := "<init>", desc := "()V" } : Jvm.MethodName) prog_21_method_1_code (1 : Nat) (Option.none : Option Jvm.ClassFile.FieldType)) ∈ lw_all := lw_g (lw_at lw_m1 226 rfl) rfl
theorem q356 : (Jvm.Cond.methodLinkNest "BrushGlass$TheFirst" (1 : Nat) ({ cls := "BrushGlass$Habit", name := "<init>", desc := "()V" } : Jvm.MethodName) "BrushGlass") ∈ lw_tbl := lw_at lw_m1 227 rfl
theorem q360 : (Jvm.Cond.superclass "BrushGlass$TheFirst" "BrushGlass$Habit") ∈ lw_all := lw_g (lw_at lw_m1 231 rfl) rfl
theorem q958 : (Jvm.Cond.fieldLink "BrushGlass$TheFirst" (7 : Nat) "BrushGlass$Person" "order" "[I") ∈ lw_all := lw_g (lw_at lw_m4 109 rfl) rfl
theorem q1179 : (Jvm.Cond.selects "BrushGlass$TheFirst" ({ cls := "BrushGlass$Habit", name := "colour", desc := "(LBrushGlass$Month;LBrushGlass$Person;)I" } : Jvm.MethodName) ({ cls := "BrushGlass$TheFirst", name := "colour", desc := "(LBrushGlass$Month;LBrushGlass$Person;)I" } : Jvm.MethodName)) ∈ lw_all := lw_g (lw_at lw_m5 90 rfl) rfl
theorem q1180 : (Jvm.Cond.instanceMethod ({ cls := "BrushGlass$TheFirst", name := "colour", desc := "(LBrushGlass$Month;LBrushGlass$Person;)I" } : Jvm.MethodName)) ∈ lw_all := lw_g (lw_at lw_m5 91 rfl) rfl
theorem q1181 : (Jvm.Cond.code ({ cls := "BrushGlass$TheFirst", name := "colour", desc := "(LBrushGlass$Month;LBrushGlass$Person;)I" } : Jvm.MethodName) prog_21_method_2_code (3 : Nat) (Option.some Jvm.ClassFile.FieldType.int)) ∈ lw_all := lw_g (lw_at lw_m5 92 rfl) rfl
theorem q2597 : (Jvm.Cond.castable "BrushGlass$TheFirst" "java/lang/Object") ∈ lw_tbl := lw_at lw_m11 68 rfl
theorem q2617 : (Jvm.Cond.castable "BrushGlass$TheFirst" "BrushGlass$Habit") ∈ lw_tbl := lw_at lw_m11 88 rfl

/-! BrushGlass$Unlike -/
set_option maxRecDepth 100000
def RX9 : String := "BrushGlass$Unlike"
abbrev cX9_init : ByteArray := prog_22_method_1_code
def yX9_init : MethodName := ⟨RX9, "<init>", "()V"⟩
theorem dX9_init_0 : decode cX9_init 0 = .ok (.aload_n 0, 1) := by decide +kernel
theorem dX9_init_1 : decode cX9_init 1 = .ok (.invokespecial 1, 3) := by decide +kernel
theorem dX9_init_4 : decode cX9_init 4 = .ok (.return_, 1) := by decide +kernel
abbrev cX9_colour : ByteArray := prog_22_method_2_code
def yX9_colour : MethodName := ⟨RX9, "colour", "(LBrushGlass$Month;LBrushGlass$Person;)I"⟩
def dkwX9_colour_1 : List UInt8 := [180, 0, 13, 29, 46, 172, 132, 3, 1, 167, 255, 225, 44, 180, 0, 13, 3, 46, 172]
abbrev dktX9_colour_1 : List UInt8 := dkwX9_colour_1 ++ []
def dkwX9_colour_0 : List UInt8 := [3, 62, 29, 44, 180, 0, 7, 162, 0, 29, 43, 44, 180, 0, 13, 29, 46, 182, 0, 17, 154, 0, 10, 44]
abbrev dktX9_colour_0 : List UInt8 := dkwX9_colour_0 ++ dktX9_colour_1
theorem dksX9_colour_0 : cX9_colour.data.toList.drop 0 = dktX9_colour_0 := by decide +kernel
theorem dksX9_colour_1 : cX9_colour.data.toList.drop 24 = dktX9_colour_1 := dk_seg dksX9_colour_0 24 rfl rfl
theorem dX9_colour_0 : decode cX9_colour 0 = .ok (.iconst 0, 1) := dk_3 (dk_at dksX9_colour_0 0 rfl rfl)
theorem dX9_colour_1 : decode cX9_colour 1 = .ok (.istore_n 3, 1) := dk_62 (dk_at dksX9_colour_0 1 rfl rfl)
theorem dX9_colour_2 : decode cX9_colour 2 = .ok (.iload_n 3, 1) := dk_29 (dk_at dksX9_colour_0 2 rfl rfl)
theorem dX9_colour_3 : decode cX9_colour 3 = .ok (.aload_n 2, 1) := dk_44 (dk_at dksX9_colour_0 3 rfl rfl)
theorem dX9_colour_4 : decode cX9_colour 4 = .ok (.getfield 7, 3) := dk_180 0 7 (dk_at dksX9_colour_0 4 rfl rfl)
theorem dX9_colour_7 : decode cX9_colour 7 = .ok (.if_icmp .ge 29, 3) := dk_162 0 29 (dk_at dksX9_colour_0 7 rfl rfl)
theorem dX9_colour_10 : decode cX9_colour 10 = .ok (.aload_n 1, 1) := dk_43 (dk_at dksX9_colour_0 10 rfl rfl)
theorem dX9_colour_11 : decode cX9_colour 11 = .ok (.aload_n 2, 1) := dk_44 (dk_at dksX9_colour_0 11 rfl rfl)
theorem dX9_colour_12 : decode cX9_colour 12 = .ok (.getfield 13, 3) := dk_180 0 13 (dk_at dksX9_colour_0 12 rfl rfl)
theorem dX9_colour_15 : decode cX9_colour 15 = .ok (.iload_n 3, 1) := dk_29 (dk_at dksX9_colour_0 15 rfl rfl)
theorem dX9_colour_16 : decode cX9_colour 16 = .ok (.iaload, 1) := dk_46 (dk_at dksX9_colour_0 16 rfl rfl)
theorem dX9_colour_17 : decode cX9_colour 17 = .ok (.invokevirtual 17, 3) := dk_182 0 17 (dk_at dksX9_colour_0 17 rfl rfl)
theorem dX9_colour_20 : decode cX9_colour 20 = .ok (.ifCond .ne 10, 3) := dk_154 0 10 (dk_at dksX9_colour_0 20 rfl rfl)
theorem dX9_colour_23 : decode cX9_colour 23 = .ok (.aload_n 2, 1) := dk_44 (dk_at dksX9_colour_0 23 rfl rfl)
theorem dX9_colour_24 : decode cX9_colour 24 = .ok (.getfield 13, 3) := dk_180 0 13 (dk_at dksX9_colour_1 0 rfl rfl)
theorem dX9_colour_27 : decode cX9_colour 27 = .ok (.iload_n 3, 1) := dk_29 (dk_at dksX9_colour_1 3 rfl rfl)
theorem dX9_colour_28 : decode cX9_colour 28 = .ok (.iaload, 1) := dk_46 (dk_at dksX9_colour_1 4 rfl rfl)
theorem dX9_colour_29 : decode cX9_colour 29 = .ok (.ireturn, 1) := dk_172 (dk_at dksX9_colour_1 5 rfl rfl)
theorem dX9_colour_30 : decode cX9_colour 30 = .ok (.iinc 3 1, 3) := dk_132 3 1 (dk_at dksX9_colour_1 6 rfl rfl)
theorem dX9_colour_33 : decode cX9_colour 33 = .ok (.goto (-31), 3) := dk_167 255 225 (dk_at dksX9_colour_1 9 rfl rfl)
theorem dX9_colour_36 : decode cX9_colour 36 = .ok (.aload_n 2, 1) := dk_44 (dk_at dksX9_colour_1 12 rfl rfl)
theorem dX9_colour_37 : decode cX9_colour 37 = .ok (.getfield 13, 3) := dk_180 0 13 (dk_at dksX9_colour_1 13 rfl rfl)
theorem dX9_colour_40 : decode cX9_colour 40 = .ok (.iconst 0, 1) := dk_3 (dk_at dksX9_colour_1 16 rfl rfl)
theorem dX9_colour_41 : decode cX9_colour 41 = .ok (.iaload, 1) := dk_46 (dk_at dksX9_colour_1 17 rfl rfl)
theorem dX9_colour_42 : decode cX9_colour 42 = .ok (.ireturn, 1) := dk_172 (dk_at dksX9_colour_1 18 rfl rfl)
theorem q141 : (Jvm.Cond.initialized "BrushGlass$Unlike") ∈ lw_all := lw_g (lw_at lw_m1 12 rfl) rfl
theorem q362 : (Jvm.Cond.instantiable "BrushGlass$Unlike" (0 : Nat)) ∈ lw_all := lw_g (lw_at lw_m1 233 rfl) rfl
theorem q364 : (Jvm.Cond.instanceMethod ({ cls := "BrushGlass$Unlike", name := "<init>", desc := "()V" } : Jvm.MethodName)) ∈ lw_all := lw_g (lw_at lw_m1 235 rfl) rfl
theorem q365 : (Jvm.Cond.code ({ cls := "BrushGlass$Unlike", name := "<init>", desc := "()V" } : Jvm.MethodName) prog_22_method_1_code (1 : Nat) (Option.none : Option Jvm.ClassFile.FieldType)) ∈ lw_all := lw_g (lw_at lw_m1 236 rfl) rfl
theorem q366 : (Jvm.Cond.methodLinkNest "BrushGlass$Unlike" (1 : Nat) ({ cls := "BrushGlass$Habit", name := "<init>", desc := "()V" } : Jvm.MethodName) "BrushGlass") ∈ lw_tbl := lw_at lw_m1 237 rfl
theorem q367 : (Jvm.Cond.superclass "BrushGlass$Unlike" "BrushGlass$Habit") ∈ lw_all := lw_g (lw_at lw_m1 238 rfl) rfl
theorem q959 : (Jvm.Cond.fieldLink "BrushGlass$Unlike" (13 : Nat) "BrushGlass$Person" "order" "[I") ∈ lw_all := lw_g (lw_at lw_m4 110 rfl) rfl
theorem q968 : (Jvm.Cond.fieldLink "BrushGlass$Unlike" (7 : Nat) "BrushGlass$Person" "likes" "I") ∈ lw_all := lw_g (lw_at lw_m4 119 rfl) rfl
theorem q1182 : (Jvm.Cond.selects "BrushGlass$Unlike" ({ cls := "BrushGlass$Habit", name := "colour", desc := "(LBrushGlass$Month;LBrushGlass$Person;)I" } : Jvm.MethodName) ({ cls := "BrushGlass$Unlike", name := "colour", desc := "(LBrushGlass$Month;LBrushGlass$Person;)I" } : Jvm.MethodName)) ∈ lw_all := lw_g (lw_at lw_m5 93 rfl) rfl
theorem q1183 : (Jvm.Cond.instanceMethod ({ cls := "BrushGlass$Unlike", name := "colour", desc := "(LBrushGlass$Month;LBrushGlass$Person;)I" } : Jvm.MethodName)) ∈ lw_all := lw_g (lw_at lw_m5 94 rfl) rfl
theorem q1184 : (Jvm.Cond.code ({ cls := "BrushGlass$Unlike", name := "colour", desc := "(LBrushGlass$Month;LBrushGlass$Person;)I" } : Jvm.MethodName) prog_22_method_2_code (4 : Nat) (Option.some Jvm.ClassFile.FieldType.int)) ∈ lw_all := lw_g (lw_at lw_m5 95 rfl) rfl
theorem q1185 : (Jvm.Cond.methodLink "BrushGlass$Unlike" (17 : Nat) ({ cls := "BrushGlass$Month", name := "thereOf", desc := "(I)I" } : Jvm.MethodName)) ∈ lw_all := lw_g (lw_at lw_m5 96 rfl) rfl
theorem q2598 : (Jvm.Cond.castable "BrushGlass$Unlike" "java/lang/Object") ∈ lw_tbl := lw_at lw_m11 69 rfl
theorem q2618 : (Jvm.Cond.castable "BrushGlass$Unlike" "BrushGlass$Habit") ∈ lw_tbl := lw_at lw_m11 89 rfl

/-! BrushGlass$Rare -/
set_option maxRecDepth 100000
def RX10 : String := "BrushGlass$Rare"
abbrev cX10_init : ByteArray := prog_15_method_1_code
def yX10_init : MethodName := ⟨RX10, "<init>", "()V"⟩
theorem dX10_init_0 : decode cX10_init 0 = .ok (.aload_n 0, 1) := by decide +kernel
theorem dX10_init_1 : decode cX10_init 1 = .ok (.invokespecial 1, 3) := by decide +kernel
theorem dX10_init_4 : decode cX10_init 4 = .ok (.return_, 1) := by decide +kernel
abbrev cX10_colour : ByteArray := prog_15_method_2_code
def yX10_colour : MethodName := ⟨RX10, "colour", "(LBrushGlass$Month;LBrushGlass$Person;)I"⟩
def dkwX10_colour_2 : List UInt8 := [132, 4, 1, 167, 255, 217, 29, 172]
abbrev dktX10_colour_2 : List UInt8 := dkwX10_colour_2 ++ []
def dkwX10_colour_1 : List UInt8 := [21, 4, 46, 182, 0, 17, 43, 29, 182, 0, 17, 162, 0, 11, 44, 180, 0, 7, 21, 4, 46, 62]
abbrev dktX10_colour_1 : List UInt8 := dkwX10_colour_1 ++ dktX10_colour_2
def dkwX10_colour_0 : List UInt8 := [44, 180, 0, 7, 3, 46, 62, 4, 54, 4, 21, 4, 44, 180, 0, 13, 162, 0, 36, 43, 44, 180, 0, 7]
abbrev dktX10_colour_0 : List UInt8 := dkwX10_colour_0 ++ dktX10_colour_1
theorem dksX10_colour_0 : cX10_colour.data.toList.drop 0 = dktX10_colour_0 := by decide +kernel
theorem dksX10_colour_1 : cX10_colour.data.toList.drop 24 = dktX10_colour_1 := dk_seg dksX10_colour_0 24 rfl rfl
theorem dksX10_colour_2 : cX10_colour.data.toList.drop 46 = dktX10_colour_2 := dk_seg dksX10_colour_1 22 rfl rfl
theorem dX10_colour_0 : decode cX10_colour 0 = .ok (.aload_n 2, 1) := dk_44 (dk_at dksX10_colour_0 0 rfl rfl)
theorem dX10_colour_1 : decode cX10_colour 1 = .ok (.getfield 7, 3) := dk_180 0 7 (dk_at dksX10_colour_0 1 rfl rfl)
theorem dX10_colour_4 : decode cX10_colour 4 = .ok (.iconst 0, 1) := dk_3 (dk_at dksX10_colour_0 4 rfl rfl)
theorem dX10_colour_5 : decode cX10_colour 5 = .ok (.iaload, 1) := dk_46 (dk_at dksX10_colour_0 5 rfl rfl)
theorem dX10_colour_6 : decode cX10_colour 6 = .ok (.istore_n 3, 1) := dk_62 (dk_at dksX10_colour_0 6 rfl rfl)
theorem dX10_colour_7 : decode cX10_colour 7 = .ok (.iconst 1, 1) := dk_4 (dk_at dksX10_colour_0 7 rfl rfl)
theorem dX10_colour_8 : decode cX10_colour 8 = .ok (.istore 4, 2) := dk_54 4 (dk_at dksX10_colour_0 8 rfl rfl)
theorem dX10_colour_10 : decode cX10_colour 10 = .ok (.iload 4, 2) := dk_21 4 (dk_at dksX10_colour_0 10 rfl rfl)
theorem dX10_colour_12 : decode cX10_colour 12 = .ok (.aload_n 2, 1) := dk_44 (dk_at dksX10_colour_0 12 rfl rfl)
theorem dX10_colour_13 : decode cX10_colour 13 = .ok (.getfield 13, 3) := dk_180 0 13 (dk_at dksX10_colour_0 13 rfl rfl)
theorem dX10_colour_16 : decode cX10_colour 16 = .ok (.if_icmp .ge 36, 3) := dk_162 0 36 (dk_at dksX10_colour_0 16 rfl rfl)
theorem dX10_colour_19 : decode cX10_colour 19 = .ok (.aload_n 1, 1) := dk_43 (dk_at dksX10_colour_0 19 rfl rfl)
theorem dX10_colour_20 : decode cX10_colour 20 = .ok (.aload_n 2, 1) := dk_44 (dk_at dksX10_colour_0 20 rfl rfl)
theorem dX10_colour_21 : decode cX10_colour 21 = .ok (.getfield 7, 3) := dk_180 0 7 (dk_at dksX10_colour_0 21 rfl rfl)
theorem dX10_colour_24 : decode cX10_colour 24 = .ok (.iload 4, 2) := dk_21 4 (dk_at dksX10_colour_1 0 rfl rfl)
theorem dX10_colour_26 : decode cX10_colour 26 = .ok (.iaload, 1) := dk_46 (dk_at dksX10_colour_1 2 rfl rfl)
theorem dX10_colour_27 : decode cX10_colour 27 = .ok (.invokevirtual 17, 3) := dk_182 0 17 (dk_at dksX10_colour_1 3 rfl rfl)
theorem dX10_colour_30 : decode cX10_colour 30 = .ok (.aload_n 1, 1) := dk_43 (dk_at dksX10_colour_1 6 rfl rfl)
theorem dX10_colour_31 : decode cX10_colour 31 = .ok (.iload_n 3, 1) := dk_29 (dk_at dksX10_colour_1 7 rfl rfl)
theorem dX10_colour_32 : decode cX10_colour 32 = .ok (.invokevirtual 17, 3) := dk_182 0 17 (dk_at dksX10_colour_1 8 rfl rfl)
theorem dX10_colour_35 : decode cX10_colour 35 = .ok (.if_icmp .ge 11, 3) := dk_162 0 11 (dk_at dksX10_colour_1 11 rfl rfl)
theorem dX10_colour_38 : decode cX10_colour 38 = .ok (.aload_n 2, 1) := dk_44 (dk_at dksX10_colour_1 14 rfl rfl)
theorem dX10_colour_39 : decode cX10_colour 39 = .ok (.getfield 7, 3) := dk_180 0 7 (dk_at dksX10_colour_1 15 rfl rfl)
theorem dX10_colour_42 : decode cX10_colour 42 = .ok (.iload 4, 2) := dk_21 4 (dk_at dksX10_colour_1 18 rfl rfl)
theorem dX10_colour_44 : decode cX10_colour 44 = .ok (.iaload, 1) := dk_46 (dk_at dksX10_colour_1 20 rfl rfl)
theorem dX10_colour_45 : decode cX10_colour 45 = .ok (.istore_n 3, 1) := dk_62 (dk_at dksX10_colour_1 21 rfl rfl)
theorem dX10_colour_46 : decode cX10_colour 46 = .ok (.iinc 4 1, 3) := dk_132 4 1 (dk_at dksX10_colour_2 0 rfl rfl)
theorem dX10_colour_49 : decode cX10_colour 49 = .ok (.goto (-39), 3) := dk_167 255 217 (dk_at dksX10_colour_2 3 rfl rfl)
theorem dX10_colour_52 : decode cX10_colour 52 = .ok (.iload_n 3, 1) := dk_29 (dk_at dksX10_colour_2 6 rfl rfl)
theorem dX10_colour_53 : decode cX10_colour 53 = .ok (.ireturn, 1) := dk_172 (dk_at dksX10_colour_2 7 rfl rfl)
theorem q142 : (Jvm.Cond.initialized "BrushGlass$Rare") ∈ lw_all := lw_g (lw_at lw_m1 13 rfl) rfl
theorem q369 : (Jvm.Cond.instantiable "BrushGlass$Rare" (0 : Nat)) ∈ lw_all := lw_g (lw_at lw_m2 0 rfl) rfl
theorem q371 : (Jvm.Cond.instanceMethod ({ cls := "BrushGlass$Rare", name := "<init>", desc := "()V" } : Jvm.MethodName)) ∈ lw_all := lw_g (lw_at lw_m2 2 rfl) rfl
theorem q372 : (Jvm.Cond.code ({ cls := "BrushGlass$Rare", name := "<init>", desc := "()V" } : Jvm.MethodName) prog_15_method_1_code (1 : Nat) (Option.none : Option Jvm.ClassFile.FieldType)) ∈ lw_all := lw_g (lw_at lw_m2 3 rfl) rfl
theorem q373 : (Jvm.Cond.methodLinkNest "BrushGlass$Rare" (1 : Nat) ({ cls := "BrushGlass$Habit", name := "<init>", desc := "()V" } : Jvm.MethodName) "BrushGlass") ∈ lw_tbl := lw_at lw_m2 4 rfl
theorem q374 : (Jvm.Cond.superclass "BrushGlass$Rare" "BrushGlass$Habit") ∈ lw_all := lw_g (lw_at lw_m2 5 rfl) rfl
theorem q957 : (Jvm.Cond.fieldLink "BrushGlass$Rare" (7 : Nat) "BrushGlass$Person" "order" "[I") ∈ lw_all := lw_g (lw_at lw_m4 108 rfl) rfl
theorem q969 : (Jvm.Cond.fieldLink "BrushGlass$Rare" (13 : Nat) "BrushGlass$Person" "likes" "I") ∈ lw_all := lw_g (lw_at lw_m4 120 rfl) rfl
theorem q1172 : (Jvm.Cond.selects "BrushGlass$Rare" ({ cls := "BrushGlass$Habit", name := "colour", desc := "(LBrushGlass$Month;LBrushGlass$Person;)I" } : Jvm.MethodName) ({ cls := "BrushGlass$Rare", name := "colour", desc := "(LBrushGlass$Month;LBrushGlass$Person;)I" } : Jvm.MethodName)) ∈ lw_all := lw_g (lw_at lw_m5 83 rfl) rfl
theorem q1173 : (Jvm.Cond.instanceMethod ({ cls := "BrushGlass$Rare", name := "colour", desc := "(LBrushGlass$Month;LBrushGlass$Person;)I" } : Jvm.MethodName)) ∈ lw_all := lw_g (lw_at lw_m5 84 rfl) rfl
theorem q1174 : (Jvm.Cond.code ({ cls := "BrushGlass$Rare", name := "colour", desc := "(LBrushGlass$Month;LBrushGlass$Person;)I" } : Jvm.MethodName) prog_15_method_2_code (5 : Nat) (Option.some Jvm.ClassFile.FieldType.int)) ∈ lw_all := lw_g (lw_at lw_m5 85 rfl) rfl
theorem q1175 : (Jvm.Cond.methodLink "BrushGlass$Rare" (17 : Nat) ({ cls := "BrushGlass$Month", name := "thereOf", desc := "(I)I" } : Jvm.MethodName)) ∈ lw_all := lw_g (lw_at lw_m5 86 rfl) rfl
theorem q2599 : (Jvm.Cond.castable "BrushGlass$Rare" "java/lang/Object") ∈ lw_tbl := lw_at lw_m11 70 rfl
theorem q2619 : (Jvm.Cond.castable "BrushGlass$Rare" "BrushGlass$Habit") ∈ lw_tbl := lw_at lw_m11 90 rfl

/-! BrushGlass$Kind -/
set_option maxRecDepth 100000
def RX11 : String := "BrushGlass$Kind"
abbrev cX11_init : ByteArray := prog_8_method_1_code
def yX11_init : MethodName := ⟨RX11, "<init>", "()V"⟩
theorem dX11_init_0 : decode cX11_init 0 = .ok (.aload_n 0, 1) := by decide +kernel
theorem dX11_init_1 : decode cX11_init 1 = .ok (.invokespecial 1, 3) := by decide +kernel
theorem dX11_init_4 : decode cX11_init 4 = .ok (.return_, 1) := by decide +kernel
abbrev cX11_isMessy : ByteArray := prog_8_method_3_code
def yX11_isMessy : MethodName := ⟨RX11, "isMessy", "()Z"⟩
theorem dX11_isMessy_0 : decode cX11_isMessy 0 = .ok (.iconst 0, 1) := by decide +kernel
theorem dX11_isMessy_1 : decode cX11_isMessy 1 = .ok (.ireturn, 1) := by decide +kernel
theorem q143 : (Jvm.Cond.initialized "BrushGlass$Kind") ∈ lw_all := lw_g (lw_at lw_m1 14 rfl) rfl
theorem q383 : (Jvm.Cond.instanceMethod ({ cls := "BrushGlass$Kind", name := "<init>", desc := "()V" } : Jvm.MethodName)) ∈ lw_all := lw_g (lw_at lw_m2 14 rfl) rfl
theorem q384 : (Jvm.Cond.code ({ cls := "BrushGlass$Kind", name := "<init>", desc := "()V" } : Jvm.MethodName) prog_8_method_1_code (1 : Nat) (Option.none : Option Jvm.ClassFile.FieldType)) ∈ lw_all := lw_g (lw_at lw_m2 15 rfl) rfl
theorem q385 : (Jvm.Cond.methodLink "BrushGlass$Kind" (1 : Nat) ({ cls := "java/lang/Object", name := "<init>", desc := "()V" } : Jvm.MethodName)) ∈ lw_all := lw_g (lw_at lw_m2 16 rfl) rfl
theorem q1233 : (Jvm.Cond.declares ({ cls := "BrushGlass$Kind", name := "uses", desc := "(LBrushGlass$Month;II)I" } : Jvm.MethodName)) ∈ lw_tbl := lw_at lw_m5 144 rfl
theorem q1234 : (Jvm.Cond.sameMethod "BrushGlass$Kind" "BrushGlass$Kind" "uses" "(LBrushGlass$Month;II)I") ∈ lw_all := lw_g (lw_at lw_m5 145 rfl) rfl
theorem q1257 : (Jvm.Cond.instanceMethod ({ cls := "BrushGlass$Kind", name := "isMessy", desc := "()Z" } : Jvm.MethodName)) ∈ lw_all := lw_g (lw_at lw_m5 168 rfl) rfl
theorem q1258 : (Jvm.Cond.sameMethod "BrushGlass$Kind" "BrushGlass$Kind" "isMessy" "()Z") ∈ lw_all := lw_g (lw_at lw_m5 169 rfl) rfl
theorem q1265 : (Jvm.Cond.code ({ cls := "BrushGlass$Kind", name := "isMessy", desc := "()Z" } : Jvm.MethodName) prog_8_method_3_code (1 : Nat) (Option.some Jvm.ClassFile.FieldType.boolean)) ∈ lw_all := lw_g (lw_at lw_m5 176 rfl) rfl

/-! BrushGlass$Sure -/
set_option maxRecDepth 100000
def RX12 : String := "BrushGlass$Sure"
abbrev cX12_init : ByteArray := prog_20_method_1_code
def yX12_init : MethodName := ⟨RX12, "<init>", "()V"⟩
theorem dX12_init_0 : decode cX12_init 0 = .ok (.aload_n 0, 1) := by decide +kernel
theorem dX12_init_1 : decode cX12_init 1 = .ok (.invokespecial 1, 3) := by decide +kernel
theorem dX12_init_4 : decode cX12_init 4 = .ok (.return_, 1) := by decide +kernel
abbrev cX12_uses : ByteArray := prog_20_method_2_code
def yX12_uses : MethodName := ⟨RX12, "uses", "(LBrushGlass$Month;II)I"⟩
theorem dX12_uses_0 : decode cX12_uses 0 = .ok (.iload_n 2, 1) := by decide +kernel
theorem dX12_uses_1 : decode cX12_uses 1 = .ok (.ireturn, 1) := by decide +kernel
theorem q144 : (Jvm.Cond.initialized "BrushGlass$Sure") ∈ lw_all := lw_g (lw_at lw_m1 15 rfl) rfl
theorem q378 : (Jvm.Cond.instantiable "BrushGlass$Sure" (0 : Nat)) ∈ lw_all := lw_g (lw_at lw_m2 9 rfl) rfl
theorem q380 : (Jvm.Cond.instanceMethod ({ cls := "BrushGlass$Sure", name := "<init>", desc := "()V" } : Jvm.MethodName)) ∈ lw_all := lw_g (lw_at lw_m2 11 rfl) rfl
theorem q381 : (Jvm.Cond.code ({ cls := "BrushGlass$Sure", name := "<init>", desc := "()V" } : Jvm.MethodName) prog_20_method_1_code (1 : Nat) (Option.none : Option Jvm.ClassFile.FieldType)) ∈ lw_all := lw_g (lw_at lw_m2 12 rfl) rfl
theorem q382 : (Jvm.Cond.methodLinkNest "BrushGlass$Sure" (1 : Nat) ({ cls := "BrushGlass$Kind", name := "<init>", desc := "()V" } : Jvm.MethodName) "BrushGlass") ∈ lw_tbl := lw_at lw_m2 13 rfl
theorem q386 : (Jvm.Cond.superclass "BrushGlass$Sure" "BrushGlass$Kind") ∈ lw_all := lw_g (lw_at lw_m2 17 rfl) rfl
theorem q1253 : (Jvm.Cond.selects "BrushGlass$Sure" ({ cls := "BrushGlass$Kind", name := "uses", desc := "(LBrushGlass$Month;II)I" } : Jvm.MethodName) ({ cls := "BrushGlass$Sure", name := "uses", desc := "(LBrushGlass$Month;II)I" } : Jvm.MethodName)) ∈ lw_all := lw_g (lw_at lw_m5 164 rfl) rfl
theorem q1254 : (Jvm.Cond.instanceMethod ({ cls := "BrushGlass$Sure", name := "uses", desc := "(LBrushGlass$Month;II)I" } : Jvm.MethodName)) ∈ lw_all := lw_g (lw_at lw_m5 165 rfl) rfl
theorem q1255 : (Jvm.Cond.code ({ cls := "BrushGlass$Sure", name := "uses", desc := "(LBrushGlass$Month;II)I" } : Jvm.MethodName) prog_20_method_2_code (4 : Nat) (Option.some Jvm.ClassFile.FieldType.int)) ∈ lw_all := lw_g (lw_at lw_m5 166 rfl) rfl
theorem q1264 : (Jvm.Cond.selects "BrushGlass$Sure" ({ cls := "BrushGlass$Kind", name := "isMessy", desc := "()Z" } : Jvm.MethodName) ({ cls := "BrushGlass$Kind", name := "isMessy", desc := "()Z" } : Jvm.MethodName)) ∈ lw_all := lw_g (lw_at lw_m5 175 rfl) rfl
theorem q2600 : (Jvm.Cond.castable "BrushGlass$Sure" "java/lang/Object") ∈ lw_tbl := lw_at lw_m11 71 rfl
theorem q2620 : (Jvm.Cond.castable "BrushGlass$Sure" "BrushGlass$Kind") ∈ lw_tbl := lw_at lw_m11 91 rfl

/-! BrushGlass$ByColour -/
set_option maxRecDepth 100000
def RX13 : String := "BrushGlass$ByColour"
abbrev cX13_init : ByteArray := prog_3_method_1_code
def yX13_init : MethodName := ⟨RX13, "<init>", "()V"⟩
theorem dX13_init_0 : decode cX13_init 0 = .ok (.aload_n 0, 1) := by decide +kernel
theorem dX13_init_1 : decode cX13_init 1 = .ok (.invokespecial 3, 3) := by decide +kernel
theorem dX13_init_4 : decode cX13_init 4 = .ok (.return_, 1) := by decide +kernel
abbrev cX13_uses : ByteArray := prog_3_method_2_code
def yX13_uses : MethodName := ⟨RX13, "uses", "(LBrushGlass$Month;II)I"⟩
def dkwX13_uses_2 : List UInt8 := [21, 4, 182, 0, 9, 172, 132, 4, 1, 167, 255, 204, 28, 172]
abbrev dktX13_uses_2 : List UInt8 := dkwX13_uses_2 ++ []
def dkwX13_uses_1 : List UInt8 := [21, 4, 182, 0, 9, 182, 0, 15, 180, 0, 19, 43, 28, 182, 0, 15, 180, 0, 19, 160, 0, 10, 43]
abbrev dktX13_uses_1 : List UInt8 := dkwX13_uses_1 ++ dktX13_uses_2
def dkwX13_uses_0 : List UInt8 := [3, 54, 4, 21, 4, 16, 8, 162, 0, 51, 43, 21, 4, 182, 0, 9, 16, 254, 159, 0, 34, 43, 43]
abbrev dktX13_uses_0 : List UInt8 := dkwX13_uses_0 ++ dktX13_uses_1
theorem dksX13_uses_0 : cX13_uses.data.toList.drop 0 = dktX13_uses_0 := by decide +kernel
theorem dksX13_uses_1 : cX13_uses.data.toList.drop 23 = dktX13_uses_1 := dk_seg dksX13_uses_0 23 rfl rfl
theorem dksX13_uses_2 : cX13_uses.data.toList.drop 46 = dktX13_uses_2 := dk_seg dksX13_uses_1 23 rfl rfl
theorem dX13_uses_0 : decode cX13_uses 0 = .ok (.iconst 0, 1) := dk_3 (dk_at dksX13_uses_0 0 rfl rfl)
theorem dX13_uses_1 : decode cX13_uses 1 = .ok (.istore 4, 2) := dk_54 4 (dk_at dksX13_uses_0 1 rfl rfl)
theorem dX13_uses_3 : decode cX13_uses 3 = .ok (.iload 4, 2) := dk_21 4 (dk_at dksX13_uses_0 3 rfl rfl)
theorem dX13_uses_5 : decode cX13_uses 5 = .ok (.bipush 8, 2) := dk_16 8 (dk_at dksX13_uses_0 5 rfl rfl)
theorem dX13_uses_7 : decode cX13_uses 7 = .ok (.if_icmp .ge 51, 3) := dk_162 0 51 (dk_at dksX13_uses_0 7 rfl rfl)
theorem dX13_uses_10 : decode cX13_uses 10 = .ok (.aload_n 1, 1) := dk_43 (dk_at dksX13_uses_0 10 rfl rfl)
theorem dX13_uses_11 : decode cX13_uses 11 = .ok (.iload 4, 2) := dk_21 4 (dk_at dksX13_uses_0 11 rfl rfl)
theorem dX13_uses_13 : decode cX13_uses 13 = .ok (.invokevirtual 9, 3) := dk_182 0 9 (dk_at dksX13_uses_0 13 rfl rfl)
theorem dX13_uses_16 : decode cX13_uses 16 = .ok (.bipush (-2), 2) := dk_16 254 (dk_at dksX13_uses_0 16 rfl rfl)
theorem dX13_uses_18 : decode cX13_uses 18 = .ok (.if_icmp .eq 34, 3) := dk_159 0 34 (dk_at dksX13_uses_0 18 rfl rfl)
theorem dX13_uses_21 : decode cX13_uses 21 = .ok (.aload_n 1, 1) := dk_43 (dk_at dksX13_uses_0 21 rfl rfl)
theorem dX13_uses_22 : decode cX13_uses 22 = .ok (.aload_n 1, 1) := dk_43 (dk_at dksX13_uses_0 22 rfl rfl)
theorem dX13_uses_23 : decode cX13_uses 23 = .ok (.iload 4, 2) := dk_21 4 (dk_at dksX13_uses_1 0 rfl rfl)
theorem dX13_uses_25 : decode cX13_uses 25 = .ok (.invokevirtual 9, 3) := dk_182 0 9 (dk_at dksX13_uses_1 2 rfl rfl)
theorem dX13_uses_28 : decode cX13_uses 28 = .ok (.invokevirtual 15, 3) := dk_182 0 15 (dk_at dksX13_uses_1 5 rfl rfl)
theorem dX13_uses_31 : decode cX13_uses 31 = .ok (.getfield 19, 3) := dk_180 0 19 (dk_at dksX13_uses_1 8 rfl rfl)
theorem dX13_uses_34 : decode cX13_uses 34 = .ok (.aload_n 1, 1) := dk_43 (dk_at dksX13_uses_1 11 rfl rfl)
theorem dX13_uses_35 : decode cX13_uses 35 = .ok (.iload_n 2, 1) := dk_28 (dk_at dksX13_uses_1 12 rfl rfl)
theorem dX13_uses_36 : decode cX13_uses 36 = .ok (.invokevirtual 15, 3) := dk_182 0 15 (dk_at dksX13_uses_1 13 rfl rfl)
theorem dX13_uses_39 : decode cX13_uses 39 = .ok (.getfield 19, 3) := dk_180 0 19 (dk_at dksX13_uses_1 16 rfl rfl)
theorem dX13_uses_42 : decode cX13_uses 42 = .ok (.if_icmp .ne 10, 3) := dk_160 0 10 (dk_at dksX13_uses_1 19 rfl rfl)
theorem dX13_uses_45 : decode cX13_uses 45 = .ok (.aload_n 1, 1) := dk_43 (dk_at dksX13_uses_1 22 rfl rfl)
theorem dX13_uses_46 : decode cX13_uses 46 = .ok (.iload 4, 2) := dk_21 4 (dk_at dksX13_uses_2 0 rfl rfl)
theorem dX13_uses_48 : decode cX13_uses 48 = .ok (.invokevirtual 9, 3) := dk_182 0 9 (dk_at dksX13_uses_2 2 rfl rfl)
theorem dX13_uses_51 : decode cX13_uses 51 = .ok (.ireturn, 1) := dk_172 (dk_at dksX13_uses_2 5 rfl rfl)
theorem dX13_uses_52 : decode cX13_uses 52 = .ok (.iinc 4 1, 3) := dk_132 4 1 (dk_at dksX13_uses_2 6 rfl rfl)
theorem dX13_uses_55 : decode cX13_uses 55 = .ok (.goto (-52), 3) := dk_167 255 204 (dk_at dksX13_uses_2 9 rfl rfl)
theorem dX13_uses_58 : decode cX13_uses 58 = .ok (.iload_n 2, 1) := dk_28 (dk_at dksX13_uses_2 12 rfl rfl)
theorem dX13_uses_59 : decode cX13_uses 59 = .ok (.ireturn, 1) := dk_172 (dk_at dksX13_uses_2 13 rfl rfl)
theorem q145 : (Jvm.Cond.initialized "BrushGlass$ByColour") ∈ lw_all := lw_g (lw_at lw_m1 16 rfl) rfl
theorem q388 : (Jvm.Cond.instantiable "BrushGlass$ByColour" (0 : Nat)) ∈ lw_all := lw_g (lw_at lw_m2 19 rfl) rfl
theorem q390 : (Jvm.Cond.instanceMethod ({ cls := "BrushGlass$ByColour", name := "<init>", desc := "()V" } : Jvm.MethodName)) ∈ lw_all := lw_g (lw_at lw_m2 21 rfl) rfl
theorem q391 : (Jvm.Cond.code ({ cls := "BrushGlass$ByColour", name := "<init>", desc := "()V" } : Jvm.MethodName) prog_3_method_1_code (1 : Nat) (Option.none : Option Jvm.ClassFile.FieldType)) ∈ lw_all := lw_g (lw_at lw_m2 22 rfl) rfl
theorem q392 : (Jvm.Cond.methodLinkNest "BrushGlass$ByColour" (3 : Nat) ({ cls := "BrushGlass$Kind", name := "<init>", desc := "()V" } : Jvm.MethodName) "BrushGlass") ∈ lw_tbl := lw_at lw_m2 23 rfl
theorem q393 : (Jvm.Cond.superclass "BrushGlass$ByColour" "BrushGlass$Kind") ∈ lw_all := lw_g (lw_at lw_m2 24 rfl) rfl
theorem q419 : (Jvm.Cond.fieldLink "BrushGlass$ByColour" (19 : Nat) "BrushGlass$Brush" "colour" "I") ∈ lw_all := lw_g (lw_at lw_m2 50 rfl) rfl
theorem q1235 : (Jvm.Cond.selects "BrushGlass$ByColour" ({ cls := "BrushGlass$Kind", name := "uses", desc := "(LBrushGlass$Month;II)I" } : Jvm.MethodName) ({ cls := "BrushGlass$ByColour", name := "uses", desc := "(LBrushGlass$Month;II)I" } : Jvm.MethodName)) ∈ lw_all := lw_g (lw_at lw_m5 146 rfl) rfl
theorem q1236 : (Jvm.Cond.instanceMethod ({ cls := "BrushGlass$ByColour", name := "uses", desc := "(LBrushGlass$Month;II)I" } : Jvm.MethodName)) ∈ lw_all := lw_g (lw_at lw_m5 147 rfl) rfl
theorem q1237 : (Jvm.Cond.code ({ cls := "BrushGlass$ByColour", name := "uses", desc := "(LBrushGlass$Month;II)I" } : Jvm.MethodName) prog_3_method_2_code (5 : Nat) (Option.some Jvm.ClassFile.FieldType.int)) ∈ lw_all := lw_g (lw_at lw_m5 148 rfl) rfl
theorem q1238 : (Jvm.Cond.methodLink "BrushGlass$ByColour" (9 : Nat) ({ cls := "BrushGlass$Month", name := "stands", desc := "(I)I" } : Jvm.MethodName)) ∈ lw_all := lw_g (lw_at lw_m5 149 rfl) rfl
theorem q1242 : (Jvm.Cond.methodLink "BrushGlass$ByColour" (15 : Nat) ({ cls := "BrushGlass$Month", name := "brush", desc := "(I)LBrushGlass$Brush;" } : Jvm.MethodName)) ∈ lw_all := lw_g (lw_at lw_m5 153 rfl) rfl
theorem q1259 : (Jvm.Cond.selects "BrushGlass$ByColour" ({ cls := "BrushGlass$Kind", name := "isMessy", desc := "()Z" } : Jvm.MethodName) ({ cls := "BrushGlass$Kind", name := "isMessy", desc := "()Z" } : Jvm.MethodName)) ∈ lw_all := lw_g (lw_at lw_m5 170 rfl) rfl
theorem q2601 : (Jvm.Cond.castable "BrushGlass$ByColour" "java/lang/Object") ∈ lw_tbl := lw_at lw_m11 72 rfl
theorem q2621 : (Jvm.Cond.castable "BrushGlass$ByColour" "BrushGlass$Kind") ∈ lw_tbl := lw_at lw_m11 92 rfl

/-! BrushGlass$ByPlace -/
set_option maxRecDepth 100000
def RX14 : String := "BrushGlass$ByPlace"
abbrev cX14_init : ByteArray := prog_4_method_1_code
def yX14_init : MethodName := ⟨RX14, "<init>", "()V"⟩
theorem dX14_init_0 : decode cX14_init 0 = .ok (.aload_n 0, 1) := by decide +kernel
theorem dX14_init_1 : decode cX14_init 1 = .ok (.invokespecial 3, 3) := by decide +kernel
theorem dX14_init_4 : decode cX14_init 4 = .ok (.return_, 1) := by decide +kernel
abbrev cX14_uses : ByteArray := prog_4_method_2_code
def yX14_uses : MethodName := ⟨RX14, "uses", "(LBrushGlass$Month;II)I"⟩
def dkwX14_uses_0 : List UInt8 := [43, 29, 182, 0, 9, 16, 254, 160, 0, 7, 28, 167, 0, 8, 43, 29, 182, 0, 9, 172]
abbrev dktX14_uses_0 : List UInt8 := dkwX14_uses_0 ++ []
theorem dksX14_uses_0 : cX14_uses.data.toList.drop 0 = dktX14_uses_0 := by decide +kernel
theorem dX14_uses_0 : decode cX14_uses 0 = .ok (.aload_n 1, 1) := dk_43 (dk_at dksX14_uses_0 0 rfl rfl)
theorem dX14_uses_1 : decode cX14_uses 1 = .ok (.iload_n 3, 1) := dk_29 (dk_at dksX14_uses_0 1 rfl rfl)
theorem dX14_uses_2 : decode cX14_uses 2 = .ok (.invokevirtual 9, 3) := dk_182 0 9 (dk_at dksX14_uses_0 2 rfl rfl)
theorem dX14_uses_5 : decode cX14_uses 5 = .ok (.bipush (-2), 2) := dk_16 254 (dk_at dksX14_uses_0 5 rfl rfl)
theorem dX14_uses_7 : decode cX14_uses 7 = .ok (.if_icmp .ne 7, 3) := dk_160 0 7 (dk_at dksX14_uses_0 7 rfl rfl)
theorem dX14_uses_10 : decode cX14_uses 10 = .ok (.iload_n 2, 1) := dk_28 (dk_at dksX14_uses_0 10 rfl rfl)
theorem dX14_uses_11 : decode cX14_uses 11 = .ok (.goto 8, 3) := dk_167 0 8 (dk_at dksX14_uses_0 11 rfl rfl)
theorem dX14_uses_14 : decode cX14_uses 14 = .ok (.aload_n 1, 1) := dk_43 (dk_at dksX14_uses_0 14 rfl rfl)
theorem dX14_uses_15 : decode cX14_uses 15 = .ok (.iload_n 3, 1) := dk_29 (dk_at dksX14_uses_0 15 rfl rfl)
theorem dX14_uses_16 : decode cX14_uses 16 = .ok (.invokevirtual 9, 3) := dk_182 0 9 (dk_at dksX14_uses_0 16 rfl rfl)
theorem dX14_uses_19 : decode cX14_uses 19 = .ok (.ireturn, 1) := dk_172 (dk_at dksX14_uses_0 19 rfl rfl)
theorem q146 : (Jvm.Cond.initialized "BrushGlass$ByPlace") ∈ lw_all := lw_g (lw_at lw_m1 17 rfl) rfl
theorem q395 : (Jvm.Cond.instantiable "BrushGlass$ByPlace" (0 : Nat)) ∈ lw_all := lw_g (lw_at lw_m2 26 rfl) rfl
theorem q397 : (Jvm.Cond.instanceMethod ({ cls := "BrushGlass$ByPlace", name := "<init>", desc := "()V" } : Jvm.MethodName)) ∈ lw_all := lw_g (lw_at lw_m2 28 rfl) rfl
theorem q398 : (Jvm.Cond.code ({ cls := "BrushGlass$ByPlace", name := "<init>", desc := "()V" } : Jvm.MethodName) prog_4_method_1_code (1 : Nat) (Option.none : Option Jvm.ClassFile.FieldType)) ∈ lw_all := lw_g (lw_at lw_m2 29 rfl) rfl
theorem q399 : (Jvm.Cond.methodLinkNest "BrushGlass$ByPlace" (3 : Nat) ({ cls := "BrushGlass$Kind", name := "<init>", desc := "()V" } : Jvm.MethodName) "BrushGlass") ∈ lw_tbl := lw_at lw_m2 30 rfl
theorem q400 : (Jvm.Cond.superclass "BrushGlass$ByPlace" "BrushGlass$Kind") ∈ lw_all := lw_g (lw_at lw_m2 31 rfl) rfl
theorem q1246 : (Jvm.Cond.selects "BrushGlass$ByPlace" ({ cls := "BrushGlass$Kind", name := "uses", desc := "(LBrushGlass$Month;II)I" } : Jvm.MethodName) ({ cls := "BrushGlass$ByPlace", name := "uses", desc := "(LBrushGlass$Month;II)I" } : Jvm.MethodName)) ∈ lw_all := lw_g (lw_at lw_m5 157 rfl) rfl
theorem q1247 : (Jvm.Cond.instanceMethod ({ cls := "BrushGlass$ByPlace", name := "uses", desc := "(LBrushGlass$Month;II)I" } : Jvm.MethodName)) ∈ lw_all := lw_g (lw_at lw_m5 158 rfl) rfl
theorem q1248 : (Jvm.Cond.code ({ cls := "BrushGlass$ByPlace", name := "uses", desc := "(LBrushGlass$Month;II)I" } : Jvm.MethodName) prog_4_method_2_code (4 : Nat) (Option.some Jvm.ClassFile.FieldType.int)) ∈ lw_all := lw_g (lw_at lw_m5 159 rfl) rfl
theorem q1249 : (Jvm.Cond.methodLink "BrushGlass$ByPlace" (9 : Nat) ({ cls := "BrushGlass$Month", name := "stands", desc := "(I)I" } : Jvm.MethodName)) ∈ lw_all := lw_g (lw_at lw_m5 160 rfl) rfl
theorem q1260 : (Jvm.Cond.selects "BrushGlass$ByPlace" ({ cls := "BrushGlass$Kind", name := "isMessy", desc := "()Z" } : Jvm.MethodName) ({ cls := "BrushGlass$Kind", name := "isMessy", desc := "()Z" } : Jvm.MethodName)) ∈ lw_all := lw_g (lw_at lw_m5 171 rfl) rfl
theorem q2602 : (Jvm.Cond.castable "BrushGlass$ByPlace" "java/lang/Object") ∈ lw_tbl := lw_at lw_m11 73 rfl
theorem q2622 : (Jvm.Cond.castable "BrushGlass$ByPlace" "BrushGlass$Kind") ∈ lw_tbl := lw_at lw_m11 93 rfl

/-! BrushGlass$Messy -/
set_option maxRecDepth 100000
def RX15 : String := "BrushGlass$Messy"
abbrev cX15_init : ByteArray := prog_9_method_1_code
def yX15_init : MethodName := ⟨RX15, "<init>", "()V"⟩
theorem dX15_init_0 : decode cX15_init 0 = .ok (.aload_n 0, 1) := by decide +kernel
theorem dX15_init_1 : decode cX15_init 1 = .ok (.invokespecial 1, 3) := by decide +kernel
theorem dX15_init_4 : decode cX15_init 4 = .ok (.return_, 1) := by decide +kernel
abbrev cX15_uses : ByteArray := prog_9_method_2_code
def yX15_uses : MethodName := ⟨RX15, "uses", "(LBrushGlass$Month;II)I"⟩
theorem dX15_uses_0 : decode cX15_uses 0 = .ok (.iload_n 2, 1) := by decide +kernel
theorem dX15_uses_1 : decode cX15_uses 1 = .ok (.ireturn, 1) := by decide +kernel
abbrev cX15_isMessy : ByteArray := prog_9_method_3_code
def yX15_isMessy : MethodName := ⟨RX15, "isMessy", "()Z"⟩
theorem dX15_isMessy_0 : decode cX15_isMessy 0 = .ok (.iconst 1, 1) := by decide +kernel
theorem dX15_isMessy_1 : decode cX15_isMessy 1 = .ok (.ireturn, 1) := by decide +kernel
theorem q147 : (Jvm.Cond.initialized "BrushGlass$Messy") ∈ lw_all := lw_g (lw_at lw_m1 18 rfl) rfl
theorem q402 : (Jvm.Cond.instantiable "BrushGlass$Messy" (0 : Nat)) ∈ lw_all := lw_g (lw_at lw_m2 33 rfl) rfl
theorem q404 : (Jvm.Cond.instanceMethod ({ cls := "BrushGlass$Messy", name := "<init>", desc := "()V" } : Jvm.MethodName)) ∈ lw_all := lw_g (lw_at lw_m2 35 rfl) rfl
theorem q405 : (Jvm.Cond.code ({ cls := "BrushGlass$Messy", name := "<init>", desc := "()V" } : Jvm.MethodName) prog_9_method_1_code (1 : Nat) (Option.none : Option Jvm.ClassFile.FieldType)) ∈ lw_all := lw_g (lw_at lw_m2 36 rfl) rfl
theorem q406 : (Jvm.Cond.methodLinkNest "BrushGlass$Messy" (1 : Nat) ({ cls := "BrushGlass$Kind", name := "<init>", desc := "()V" } : Jvm.MethodName) "BrushGlass") ∈ lw_tbl := lw_at lw_m2 37 rfl
theorem q407 : (Jvm.Cond.superclass "BrushGlass$Messy" "BrushGlass$Kind") ∈ lw_all := lw_g (lw_at lw_m2 38 rfl) rfl
theorem q1250 : (Jvm.Cond.selects "BrushGlass$Messy" ({ cls := "BrushGlass$Kind", name := "uses", desc := "(LBrushGlass$Month;II)I" } : Jvm.MethodName) ({ cls := "BrushGlass$Messy", name := "uses", desc := "(LBrushGlass$Month;II)I" } : Jvm.MethodName)) ∈ lw_all := lw_g (lw_at lw_m5 161 rfl) rfl
theorem q1251 : (Jvm.Cond.instanceMethod ({ cls := "BrushGlass$Messy", name := "uses", desc := "(LBrushGlass$Month;II)I" } : Jvm.MethodName)) ∈ lw_all := lw_g (lw_at lw_m5 162 rfl) rfl
theorem q1252 : (Jvm.Cond.code ({ cls := "BrushGlass$Messy", name := "uses", desc := "(LBrushGlass$Month;II)I" } : Jvm.MethodName) prog_9_method_2_code (4 : Nat) (Option.some Jvm.ClassFile.FieldType.int)) ∈ lw_all := lw_g (lw_at lw_m5 163 rfl) rfl
theorem q1261 : (Jvm.Cond.selects "BrushGlass$Messy" ({ cls := "BrushGlass$Kind", name := "isMessy", desc := "()Z" } : Jvm.MethodName) ({ cls := "BrushGlass$Messy", name := "isMessy", desc := "()Z" } : Jvm.MethodName)) ∈ lw_all := lw_g (lw_at lw_m5 172 rfl) rfl
theorem q1262 : (Jvm.Cond.instanceMethod ({ cls := "BrushGlass$Messy", name := "isMessy", desc := "()Z" } : Jvm.MethodName)) ∈ lw_all := lw_g (lw_at lw_m5 173 rfl) rfl
theorem q1263 : (Jvm.Cond.code ({ cls := "BrushGlass$Messy", name := "isMessy", desc := "()Z" } : Jvm.MethodName) prog_9_method_3_code (1 : Nat) (Option.some Jvm.ClassFile.FieldType.boolean)) ∈ lw_all := lw_g (lw_at lw_m5 174 rfl) rfl
theorem q2603 : (Jvm.Cond.castable "BrushGlass$Messy" "java/lang/Object") ∈ lw_tbl := lw_at lw_m11 74 rfl
theorem q2623 : (Jvm.Cond.castable "BrushGlass$Messy" "BrushGlass$Kind") ∈ lw_tbl := lw_at lw_m11 94 rfl

/-! BrushGlass$Brush -/
set_option maxRecDepth 100000
def RX16 : String := "BrushGlass$Brush"
def TX16 : u_T := fun k => match k with
  | 0 => ("BrushGlass$Brush", "owner", "I", false)
  | 1 => ("BrushGlass$Brush", "colour", "I", false)
  | 2 => ("BrushGlass$Brush", "bought", "I", false)
  | 3 => ("BrushGlass$Brush", "thrown", "I", false)
  | 4 => ("BrushGlass$Brush", "worn", "I", false)
  | 5 => ("BrushGlass$Brush", "usedOn", "I", false)
  | _ => ("BrushGlass$Brush", "where", "I", false)
def tyX16 : Nat → FieldType := fun k => match k with
  | 0 => .int
  | 1 => .int
  | 2 => .int
  | 3 => .int
  | 4 => .int
  | 5 => .int
  | _ => .int
abbrev wsX160 : List Cond := u_ws RX16 TX16 7
theorem nmX16 : ∀ a, a < 7 → ∀ b, b < 7 → a ≠ b → (TX16 a).2.1 ≠ (TX16 b).2.1 := by decide +kernel
theorem tyX16_ok : ∀ k, k < 7 → parseFieldDescriptor (TX16 k).2.2.1 = some (tyX16 k) := by decide +kernel
abbrev cX16_init : ByteArray := prog_2_method_1_code
def yX16_init : MethodName := ⟨RX16, "<init>", "()V"⟩
theorem dX16_init_0 : decode cX16_init 0 = .ok (.aload_n 0, 1) := by decide +kernel
theorem dX16_init_1 : decode cX16_init 1 = .ok (.invokespecial 3, 3) := by decide +kernel
theorem dX16_init_4 : decode cX16_init 4 = .ok (.return_, 1) := by decide +kernel
abbrev cX16_begin : ByteArray := prog_2_method_2_code
def yX16_begin : MethodName := ⟨RX16, "begin", "(III)V"⟩
def dkwX16_begin_1 : List UInt8 := [181, 0, 24, 42, 2, 181, 0, 27, 42, 16, 254, 181, 0, 30, 177]
abbrev dktX16_begin_1 : List UInt8 := dkwX16_begin_1 ++ []
def dkwX16_begin_0 : List UInt8 := [42, 27, 181, 0, 9, 42, 28, 181, 0, 15, 42, 29, 181, 0, 18, 42, 16, 254, 181, 0, 21, 42, 3]
abbrev dktX16_begin_0 : List UInt8 := dkwX16_begin_0 ++ dktX16_begin_1
theorem dksX16_begin_0 : cX16_begin.data.toList.drop 0 = dktX16_begin_0 := by decide +kernel
theorem dksX16_begin_1 : cX16_begin.data.toList.drop 23 = dktX16_begin_1 := dk_seg dksX16_begin_0 23 rfl rfl
theorem dX16_begin_0 : decode cX16_begin 0 = .ok (.aload_n 0, 1) := dk_42 (dk_at dksX16_begin_0 0 rfl rfl)
theorem dX16_begin_1 : decode cX16_begin 1 = .ok (.iload_n 1, 1) := dk_27 (dk_at dksX16_begin_0 1 rfl rfl)
theorem dX16_begin_2 : decode cX16_begin 2 = .ok (.putfield 9, 3) := dk_181 0 9 (dk_at dksX16_begin_0 2 rfl rfl)
theorem dX16_begin_5 : decode cX16_begin 5 = .ok (.aload_n 0, 1) := dk_42 (dk_at dksX16_begin_0 5 rfl rfl)
theorem dX16_begin_6 : decode cX16_begin 6 = .ok (.iload_n 2, 1) := dk_28 (dk_at dksX16_begin_0 6 rfl rfl)
theorem dX16_begin_7 : decode cX16_begin 7 = .ok (.putfield 15, 3) := dk_181 0 15 (dk_at dksX16_begin_0 7 rfl rfl)
theorem dX16_begin_10 : decode cX16_begin 10 = .ok (.aload_n 0, 1) := dk_42 (dk_at dksX16_begin_0 10 rfl rfl)
theorem dX16_begin_11 : decode cX16_begin 11 = .ok (.iload_n 3, 1) := dk_29 (dk_at dksX16_begin_0 11 rfl rfl)
theorem dX16_begin_12 : decode cX16_begin 12 = .ok (.putfield 18, 3) := dk_181 0 18 (dk_at dksX16_begin_0 12 rfl rfl)
theorem dX16_begin_15 : decode cX16_begin 15 = .ok (.aload_n 0, 1) := dk_42 (dk_at dksX16_begin_0 15 rfl rfl)
theorem dX16_begin_16 : decode cX16_begin 16 = .ok (.bipush (-2), 2) := dk_16 254 (dk_at dksX16_begin_0 16 rfl rfl)
theorem dX16_begin_18 : decode cX16_begin 18 = .ok (.putfield 21, 3) := dk_181 0 21 (dk_at dksX16_begin_0 18 rfl rfl)
theorem dX16_begin_21 : decode cX16_begin 21 = .ok (.aload_n 0, 1) := dk_42 (dk_at dksX16_begin_0 21 rfl rfl)
theorem dX16_begin_22 : decode cX16_begin 22 = .ok (.iconst 0, 1) := dk_3 (dk_at dksX16_begin_0 22 rfl rfl)
theorem dX16_begin_23 : decode cX16_begin 23 = .ok (.putfield 24, 3) := dk_181 0 24 (dk_at dksX16_begin_1 0 rfl rfl)
theorem dX16_begin_26 : decode cX16_begin 26 = .ok (.aload_n 0, 1) := dk_42 (dk_at dksX16_begin_1 3 rfl rfl)
theorem dX16_begin_27 : decode cX16_begin 27 = .ok (.iconst (-1), 1) := dk_2 (dk_at dksX16_begin_1 4 rfl rfl)
theorem dX16_begin_28 : decode cX16_begin 28 = .ok (.putfield 27, 3) := dk_181 0 27 (dk_at dksX16_begin_1 5 rfl rfl)
theorem dX16_begin_31 : decode cX16_begin 31 = .ok (.aload_n 0, 1) := dk_42 (dk_at dksX16_begin_1 8 rfl rfl)
theorem dX16_begin_32 : decode cX16_begin 32 = .ok (.bipush (-2), 2) := dk_16 254 (dk_at dksX16_begin_1 9 rfl rfl)
theorem dX16_begin_34 : decode cX16_begin 34 = .ok (.putfield 30, 3) := dk_181 0 30 (dk_at dksX16_begin_1 11 rfl rfl)
theorem dX16_begin_37 : decode cX16_begin 37 = .ok (.return_, 1) := dk_177 (dk_at dksX16_begin_1 14 rfl rfl)
abbrev cX16_isThere : ByteArray := prog_2_method_3_code
def yX16_isThere : MethodName := ⟨RX16, "isThere", "()Z"⟩
def dkwX16_isThere_0 : List UInt8 := [42, 180, 0, 30, 3, 16, 7, 184, 0, 33, 172]
abbrev dktX16_isThere_0 : List UInt8 := dkwX16_isThere_0 ++ []
theorem dksX16_isThere_0 : cX16_isThere.data.toList.drop 0 = dktX16_isThere_0 := by decide +kernel
theorem dX16_isThere_0 : decode cX16_isThere 0 = .ok (.aload_n 0, 1) := dk_42 (dk_at dksX16_isThere_0 0 rfl rfl)
theorem dX16_isThere_1 : decode cX16_isThere 1 = .ok (.getfield 30, 3) := dk_180 0 30 (dk_at dksX16_isThere_0 1 rfl rfl)
theorem dX16_isThere_4 : decode cX16_isThere 4 = .ok (.iconst 0, 1) := dk_3 (dk_at dksX16_isThere_0 4 rfl rfl)
theorem dX16_isThere_5 : decode cX16_isThere 5 = .ok (.bipush 7, 2) := dk_16 7 (dk_at dksX16_isThere_0 5 rfl rfl)
theorem dX16_isThere_7 : decode cX16_isThere 7 = .ok (.invokestatic 33, 3) := dk_184 0 33 (dk_at dksX16_isThere_0 7 rfl rfl)
theorem dX16_isThere_10 : decode cX16_isThere 10 = .ok (.ireturn, 1) := dk_172 (dk_at dksX16_isThere_0 10 rfl rfl)
theorem q148 : (Jvm.Cond.initialized "BrushGlass$Brush") ∈ lw_all := lw_g (lw_at lw_m1 19 rfl) rfl
theorem q410 : (Jvm.Cond.instantiable "BrushGlass$Brush" (7 : Nat)) ∈ lw_all := lw_g (lw_at lw_m2 41 rfl) rfl
theorem q412 : (Jvm.Cond.instanceMethod ({ cls := "BrushGlass$Brush", name := "<init>", desc := "()V" } : Jvm.MethodName)) ∈ lw_all := lw_g (lw_at lw_m2 43 rfl) rfl
theorem q413 : (Jvm.Cond.code ({ cls := "BrushGlass$Brush", name := "<init>", desc := "()V" } : Jvm.MethodName) prog_2_method_1_code (1 : Nat) (Option.none : Option Jvm.ClassFile.FieldType)) ∈ lw_all := lw_g (lw_at lw_m2 44 rfl) rfl
theorem q414 : (Jvm.Cond.methodLink "BrushGlass$Brush" (3 : Nat) ({ cls := "java/lang/Object", name := "<init>", desc := "()V" } : Jvm.MethodName)) ∈ lw_all := lw_g (lw_at lw_m2 45 rfl) rfl
theorem q415 : (Jvm.Cond.fieldLink "BrushGlass$Brush" (9 : Nat) "BrushGlass$Brush" "owner" "I") ∈ lw_all := lw_g (lw_at lw_m2 46 rfl) rfl
theorem q418 : (Jvm.Cond.fieldLink "BrushGlass$Brush" (15 : Nat) "BrushGlass$Brush" "colour" "I") ∈ lw_all := lw_g (lw_at lw_m2 49 rfl) rfl
theorem q422 : (Jvm.Cond.fieldLink "BrushGlass$Brush" (18 : Nat) "BrushGlass$Brush" "bought" "I") ∈ lw_all := lw_g (lw_at lw_m2 53 rfl) rfl
theorem q425 : (Jvm.Cond.fieldLink "BrushGlass$Brush" (21 : Nat) "BrushGlass$Brush" "thrown" "I") ∈ lw_all := lw_g (lw_at lw_m2 56 rfl) rfl
theorem q428 : (Jvm.Cond.fieldLink "BrushGlass$Brush" (24 : Nat) "BrushGlass$Brush" "worn" "I") ∈ lw_all := lw_g (lw_at lw_m2 59 rfl) rfl
theorem q431 : (Jvm.Cond.fieldLink "BrushGlass$Brush" (27 : Nat) "BrushGlass$Brush" "usedOn" "I") ∈ lw_all := lw_g (lw_at lw_m2 62 rfl) rfl
theorem q433 : (Jvm.Cond.fieldLink "BrushGlass$Brush" (30 : Nat) "BrushGlass$Brush" "where" "I") ∈ lw_all := lw_g (lw_at lw_m2 64 rfl) rfl
theorem q435 : (Jvm.Cond.lays "BrushGlass$Brush" "BrushGlass$Brush" "owner" "I") ∈ lw_all := lw_g (lw_at lw_m2 66 rfl) rfl
theorem q436 : (Jvm.Cond.soleField "BrushGlass$Brush" "owner") ∈ lw_all := lw_g (lw_at lw_m2 67 rfl) rfl
theorem q437 : (Jvm.Cond.lays "BrushGlass$Brush" "BrushGlass$Brush" "colour" "I") ∈ lw_all := lw_g (lw_at lw_m2 68 rfl) rfl
theorem q438 : (Jvm.Cond.soleField "BrushGlass$Brush" "colour") ∈ lw_all := lw_g (lw_at lw_m2 69 rfl) rfl
theorem q439 : (Jvm.Cond.lays "BrushGlass$Brush" "BrushGlass$Brush" "bought" "I") ∈ lw_all := lw_g (lw_at lw_m2 70 rfl) rfl
theorem q440 : (Jvm.Cond.soleField "BrushGlass$Brush" "bought") ∈ lw_all := lw_g (lw_at lw_m2 71 rfl) rfl
theorem q441 : (Jvm.Cond.lays "BrushGlass$Brush" "BrushGlass$Brush" "thrown" "I") ∈ lw_all := lw_g (lw_at lw_m2 72 rfl) rfl
theorem q442 : (Jvm.Cond.soleField "BrushGlass$Brush" "thrown") ∈ lw_all := lw_g (lw_at lw_m2 73 rfl) rfl
theorem q443 : (Jvm.Cond.lays "BrushGlass$Brush" "BrushGlass$Brush" "worn" "I") ∈ lw_all := lw_g (lw_at lw_m2 74 rfl) rfl
theorem q444 : (Jvm.Cond.soleField "BrushGlass$Brush" "worn") ∈ lw_all := lw_g (lw_at lw_m2 75 rfl) rfl
theorem q445 : (Jvm.Cond.lays "BrushGlass$Brush" "BrushGlass$Brush" "usedOn" "I") ∈ lw_all := lw_g (lw_at lw_m2 76 rfl) rfl
theorem q446 : (Jvm.Cond.soleField "BrushGlass$Brush" "usedOn") ∈ lw_all := lw_g (lw_at lw_m2 77 rfl) rfl
theorem q447 : (Jvm.Cond.lays "BrushGlass$Brush" "BrushGlass$Brush" "where" "I") ∈ lw_all := lw_g (lw_at lw_m2 78 rfl) rfl
theorem q448 : (Jvm.Cond.soleField "BrushGlass$Brush" "where") ∈ lw_all := lw_g (lw_at lw_m2 79 rfl) rfl
theorem q449 : (Jvm.Cond.superclass "BrushGlass$Brush" "java/lang/Object") ∈ lw_all := lw_g (lw_at lw_m2 80 rfl) rfl
theorem q1187 : (Jvm.Cond.instanceMethod ({ cls := "BrushGlass$Brush", name := "begin", desc := "(III)V" } : Jvm.MethodName)) ∈ lw_all := lw_g (lw_at lw_m5 98 rfl) rfl
theorem q1188 : (Jvm.Cond.selects "BrushGlass$Brush" ({ cls := "BrushGlass$Brush", name := "begin", desc := "(III)V" } : Jvm.MethodName) ({ cls := "BrushGlass$Brush", name := "begin", desc := "(III)V" } : Jvm.MethodName)) ∈ lw_all := lw_g (lw_at lw_m5 99 rfl) rfl
theorem q1189 : (Jvm.Cond.code ({ cls := "BrushGlass$Brush", name := "begin", desc := "(III)V" } : Jvm.MethodName) prog_2_method_2_code (4 : Nat) (Option.none : Option Jvm.ClassFile.FieldType)) ∈ lw_all := lw_g (lw_at lw_m5 100 rfl) rfl
theorem q1216 : (Jvm.Cond.instanceMethod ({ cls := "BrushGlass$Brush", name := "isThere", desc := "()Z" } : Jvm.MethodName)) ∈ lw_all := lw_g (lw_at lw_m5 127 rfl) rfl
theorem q1217 : (Jvm.Cond.selects "BrushGlass$Brush" ({ cls := "BrushGlass$Brush", name := "isThere", desc := "()Z" } : Jvm.MethodName) ({ cls := "BrushGlass$Brush", name := "isThere", desc := "()Z" } : Jvm.MethodName)) ∈ lw_all := lw_g (lw_at lw_m5 128 rfl) rfl
theorem q1218 : (Jvm.Cond.code ({ cls := "BrushGlass$Brush", name := "isThere", desc := "()Z" } : Jvm.MethodName) prog_2_method_3_code (1 : Nat) (Option.some Jvm.ClassFile.FieldType.boolean)) ∈ lw_all := lw_g (lw_at lw_m5 129 rfl) rfl
theorem q1219 : (Jvm.Cond.methodLinkNest "BrushGlass$Brush" (33 : Nat) ({ cls := "BrushGlass", name := "in", desc := "(III)Z" } : Jvm.MethodName) "BrushGlass") ∈ lw_tbl := lw_at lw_m5 130 rfl
theorem q2604 : (Jvm.Cond.castable "BrushGlass$Brush" "java/lang/Object") ∈ lw_tbl := lw_at lw_m11 75 rfl
theorem in_X16 : ∀ w ∈ wsX160, w ∈ lw_all := lw_in wsX160 [435, 437, 439, 441, 443, 445, 447] (by decide +kernel) (by decide +kernel)

/-! BrushGlass$Pairings -/
set_option maxRecDepth 100000
def RX17 : String := "BrushGlass$Pairings"
def TX17 : u_T := fun k => match k with
  | 0 => ("BrushGlass$Pairings", "who", "[I", true)
  | 1 => ("BrushGlass$Pairings", "place", "[I", true)
  | 2 => ("BrushGlass$Pairings", "could", "[I", true)
  | 3 => ("BrushGlass$Pairings", "surely", "[I", true)
  | 4 => ("BrushGlass$Pairings", "glass", "LBrushGlass$Glass;", false)
  | 5 => ("BrushGlass$Pairings", "month", "LBrushGlass$Month;", false)
  | 6 => ("BrushGlass$Pairings", "day", "I", false)
  | 7 => ("BrushGlass$Pairings", "people", "I", false)
  | 8 => ("BrushGlass$Pairings", "asked", "I", false)
  | _ => ("BrushGlass$Pairings", "many", "I", false)
def tyX17 : Nat → FieldType := fun k => match k with
  | 0 => .array .int
  | 1 => .array .int
  | 2 => .array .int
  | 3 => .array .int
  | 4 => .object "BrushGlass$Glass"
  | 5 => .object "BrushGlass$Month"
  | 6 => .int
  | 7 => .int
  | 8 => .int
  | _ => .int
abbrev wsX170 : List Cond := u_ws RX17 TX17 10
theorem nmX17 : ∀ a, a < 10 → ∀ b, b < 10 → a ≠ b → (TX17 a).2.1 ≠ (TX17 b).2.1 := by decide +kernel
theorem tyX17_ok : ∀ k, k < 10 → parseFieldDescriptor (TX17 k).2.2.1 = some (tyX17 k) := by decide +kernel
abbrev cX17_init : ByteArray := prog_12_method_1_code
def yX17_init : MethodName := ⟨RX17, "<init>", "()V"⟩
def dkwX17_init_1 : List UInt8 := [188, 10, 181, 0, 18, 42, 16, 8, 188, 10, 181, 0, 21, 177]
abbrev dktX17_init_1 : List UInt8 := dkwX17_init_1 ++ []
def dkwX17_init_0 : List UInt8 := [42, 183, 0, 3, 42, 16, 7, 188, 10, 181, 0, 9, 42, 16, 7, 188, 10, 181, 0, 15, 42, 16, 7]
abbrev dktX17_init_0 : List UInt8 := dkwX17_init_0 ++ dktX17_init_1
theorem dksX17_init_0 : cX17_init.data.toList.drop 0 = dktX17_init_0 := by decide +kernel
theorem dksX17_init_1 : cX17_init.data.toList.drop 23 = dktX17_init_1 := dk_seg dksX17_init_0 23 rfl rfl
theorem dX17_init_0 : decode cX17_init 0 = .ok (.aload_n 0, 1) := dk_42 (dk_at dksX17_init_0 0 rfl rfl)
theorem dX17_init_1 : decode cX17_init 1 = .ok (.invokespecial 3, 3) := dk_183 0 3 (dk_at dksX17_init_0 1 rfl rfl)
theorem dX17_init_4 : decode cX17_init 4 = .ok (.aload_n 0, 1) := dk_42 (dk_at dksX17_init_0 4 rfl rfl)
theorem dX17_init_5 : decode cX17_init 5 = .ok (.bipush 7, 2) := dk_16 7 (dk_at dksX17_init_0 5 rfl rfl)
theorem dX17_init_7 : decode cX17_init 7 = .ok (.newarray .int, 2) := dk_188_10 (dk_at dksX17_init_0 7 rfl rfl)
theorem dX17_init_9 : decode cX17_init 9 = .ok (.putfield 9, 3) := dk_181 0 9 (dk_at dksX17_init_0 9 rfl rfl)
theorem dX17_init_12 : decode cX17_init 12 = .ok (.aload_n 0, 1) := dk_42 (dk_at dksX17_init_0 12 rfl rfl)
theorem dX17_init_13 : decode cX17_init 13 = .ok (.bipush 7, 2) := dk_16 7 (dk_at dksX17_init_0 13 rfl rfl)
theorem dX17_init_15 : decode cX17_init 15 = .ok (.newarray .int, 2) := dk_188_10 (dk_at dksX17_init_0 15 rfl rfl)
theorem dX17_init_17 : decode cX17_init 17 = .ok (.putfield 15, 3) := dk_181 0 15 (dk_at dksX17_init_0 17 rfl rfl)
theorem dX17_init_20 : decode cX17_init 20 = .ok (.aload_n 0, 1) := dk_42 (dk_at dksX17_init_0 20 rfl rfl)
theorem dX17_init_21 : decode cX17_init 21 = .ok (.bipush 7, 2) := dk_16 7 (dk_at dksX17_init_0 21 rfl rfl)
theorem dX17_init_23 : decode cX17_init 23 = .ok (.newarray .int, 2) := dk_188_10 (dk_at dksX17_init_1 0 rfl rfl)
theorem dX17_init_25 : decode cX17_init 25 = .ok (.putfield 18, 3) := dk_181 0 18 (dk_at dksX17_init_1 2 rfl rfl)
theorem dX17_init_28 : decode cX17_init 28 = .ok (.aload_n 0, 1) := dk_42 (dk_at dksX17_init_1 5 rfl rfl)
theorem dX17_init_29 : decode cX17_init 29 = .ok (.bipush 8, 2) := dk_16 8 (dk_at dksX17_init_1 6 rfl rfl)
theorem dX17_init_31 : decode cX17_init 31 = .ok (.newarray .int, 2) := dk_188_10 (dk_at dksX17_init_1 8 rfl rfl)
theorem dX17_init_33 : decode cX17_init 33 = .ok (.putfield 21, 3) := dk_181 0 21 (dk_at dksX17_init_1 10 rfl rfl)
theorem dX17_init_36 : decode cX17_init 36 = .ok (.return_, 1) := dk_177 (dk_at dksX17_init_1 13 rfl rfl)
abbrev cX17_lay : ByteArray := prog_12_method_2_code
def yX17_lay : MethodName := ⟨RX17, "lay", "(LBrushGlass$Glass;LBrushGlass$Month;II)V"⟩
def dkwX17_lay_5 : List UInt8 := [182, 0, 54, 177]
abbrev dktX17_lay_5 : List UInt8 := dkwX17_lay_5 ++ []
def dkwX17_lay_4 : List UInt8 := [16, 8, 162, 0, 17, 42, 180, 0, 21, 21, 5, 2, 79, 132, 5, 1, 167, 255, 238, 42, 3, 3]
abbrev dktX17_lay_4 : List UInt8 := dkwX17_lay_4 ++ dktX17_lay_5
def dkwX17_lay_3 : List UInt8 := [21, 5, 79, 42, 89, 180, 0, 42, 4, 96, 181, 0, 42, 132, 5, 1, 167, 255, 203, 3, 54, 5, 21, 5]
abbrev dktX17_lay_3 : List UInt8 := dkwX17_lay_3 ++ dktX17_lay_4
def dkwX17_lay_2 : List UInt8 := [21, 5, 3, 79, 42, 21, 5, 182, 0, 50, 154, 0, 6, 167, 0, 24, 42, 180, 0, 9, 42, 180, 0, 42]
abbrev dktX17_lay_2 : List UInt8 := dkwX17_lay_2 ++ dktX17_lay_3
def dkwX17_lay_1 : List UInt8 := [181, 0, 39, 42, 3, 181, 0, 42, 3, 54, 5, 21, 5, 43, 180, 0, 45, 162, 0, 50, 42, 180, 0, 18]
abbrev dktX17_lay_1 : List UInt8 := dkwX17_lay_1 ++ dktX17_lay_2
def dkwX17_lay_0 : List UInt8 := [42, 43, 181, 0, 24, 42, 44, 181, 0, 28, 42, 29, 181, 0, 32, 42, 21, 4, 181, 0, 36, 42, 3]
abbrev dktX17_lay_0 : List UInt8 := dkwX17_lay_0 ++ dktX17_lay_1
theorem dksX17_lay_0 : cX17_lay.data.toList.drop 0 = dktX17_lay_0 := by decide +kernel
theorem dksX17_lay_1 : cX17_lay.data.toList.drop 23 = dktX17_lay_1 := dk_seg dksX17_lay_0 23 rfl rfl
theorem dksX17_lay_2 : cX17_lay.data.toList.drop 47 = dktX17_lay_2 := dk_seg dksX17_lay_1 24 rfl rfl
theorem dksX17_lay_3 : cX17_lay.data.toList.drop 71 = dktX17_lay_3 := dk_seg dksX17_lay_2 24 rfl rfl
theorem dksX17_lay_4 : cX17_lay.data.toList.drop 95 = dktX17_lay_4 := dk_seg dksX17_lay_3 24 rfl rfl
theorem dksX17_lay_5 : cX17_lay.data.toList.drop 117 = dktX17_lay_5 := dk_seg dksX17_lay_4 22 rfl rfl
theorem dX17_lay_0 : decode cX17_lay 0 = .ok (.aload_n 0, 1) := dk_42 (dk_at dksX17_lay_0 0 rfl rfl)
theorem dX17_lay_1 : decode cX17_lay 1 = .ok (.aload_n 1, 1) := dk_43 (dk_at dksX17_lay_0 1 rfl rfl)
theorem dX17_lay_2 : decode cX17_lay 2 = .ok (.putfield 24, 3) := dk_181 0 24 (dk_at dksX17_lay_0 2 rfl rfl)
theorem dX17_lay_5 : decode cX17_lay 5 = .ok (.aload_n 0, 1) := dk_42 (dk_at dksX17_lay_0 5 rfl rfl)
theorem dX17_lay_6 : decode cX17_lay 6 = .ok (.aload_n 2, 1) := dk_44 (dk_at dksX17_lay_0 6 rfl rfl)
theorem dX17_lay_7 : decode cX17_lay 7 = .ok (.putfield 28, 3) := dk_181 0 28 (dk_at dksX17_lay_0 7 rfl rfl)
theorem dX17_lay_10 : decode cX17_lay 10 = .ok (.aload_n 0, 1) := dk_42 (dk_at dksX17_lay_0 10 rfl rfl)
theorem dX17_lay_11 : decode cX17_lay 11 = .ok (.iload_n 3, 1) := dk_29 (dk_at dksX17_lay_0 11 rfl rfl)
theorem dX17_lay_12 : decode cX17_lay 12 = .ok (.putfield 32, 3) := dk_181 0 32 (dk_at dksX17_lay_0 12 rfl rfl)
theorem dX17_lay_15 : decode cX17_lay 15 = .ok (.aload_n 0, 1) := dk_42 (dk_at dksX17_lay_0 15 rfl rfl)
theorem dX17_lay_16 : decode cX17_lay 16 = .ok (.iload 4, 2) := dk_21 4 (dk_at dksX17_lay_0 16 rfl rfl)
theorem dX17_lay_18 : decode cX17_lay 18 = .ok (.putfield 36, 3) := dk_181 0 36 (dk_at dksX17_lay_0 18 rfl rfl)
theorem dX17_lay_21 : decode cX17_lay 21 = .ok (.aload_n 0, 1) := dk_42 (dk_at dksX17_lay_0 21 rfl rfl)
theorem dX17_lay_22 : decode cX17_lay 22 = .ok (.iconst 0, 1) := dk_3 (dk_at dksX17_lay_0 22 rfl rfl)
theorem dX17_lay_23 : decode cX17_lay 23 = .ok (.putfield 39, 3) := dk_181 0 39 (dk_at dksX17_lay_1 0 rfl rfl)
theorem dX17_lay_26 : decode cX17_lay 26 = .ok (.aload_n 0, 1) := dk_42 (dk_at dksX17_lay_1 3 rfl rfl)
theorem dX17_lay_27 : decode cX17_lay 27 = .ok (.iconst 0, 1) := dk_3 (dk_at dksX17_lay_1 4 rfl rfl)
theorem dX17_lay_28 : decode cX17_lay 28 = .ok (.putfield 42, 3) := dk_181 0 42 (dk_at dksX17_lay_1 5 rfl rfl)
theorem dX17_lay_31 : decode cX17_lay 31 = .ok (.iconst 0, 1) := dk_3 (dk_at dksX17_lay_1 8 rfl rfl)
theorem dX17_lay_32 : decode cX17_lay 32 = .ok (.istore 5, 2) := dk_54 5 (dk_at dksX17_lay_1 9 rfl rfl)
theorem dX17_lay_34 : decode cX17_lay 34 = .ok (.iload 5, 2) := dk_21 5 (dk_at dksX17_lay_1 11 rfl rfl)
theorem dX17_lay_36 : decode cX17_lay 36 = .ok (.aload_n 1, 1) := dk_43 (dk_at dksX17_lay_1 13 rfl rfl)
theorem dX17_lay_37 : decode cX17_lay 37 = .ok (.getfield 45, 3) := dk_180 0 45 (dk_at dksX17_lay_1 14 rfl rfl)
theorem dX17_lay_40 : decode cX17_lay 40 = .ok (.if_icmp .ge 50, 3) := dk_162 0 50 (dk_at dksX17_lay_1 17 rfl rfl)
theorem dX17_lay_43 : decode cX17_lay 43 = .ok (.aload_n 0, 1) := dk_42 (dk_at dksX17_lay_1 20 rfl rfl)
theorem dX17_lay_44 : decode cX17_lay 44 = .ok (.getfield 18, 3) := dk_180 0 18 (dk_at dksX17_lay_1 21 rfl rfl)
theorem dX17_lay_47 : decode cX17_lay 47 = .ok (.iload 5, 2) := dk_21 5 (dk_at dksX17_lay_2 0 rfl rfl)
theorem dX17_lay_49 : decode cX17_lay 49 = .ok (.iconst 0, 1) := dk_3 (dk_at dksX17_lay_2 2 rfl rfl)
theorem dX17_lay_50 : decode cX17_lay 50 = .ok (.iastore, 1) := dk_79 (dk_at dksX17_lay_2 3 rfl rfl)
theorem dX17_lay_51 : decode cX17_lay 51 = .ok (.aload_n 0, 1) := dk_42 (dk_at dksX17_lay_2 4 rfl rfl)
theorem dX17_lay_52 : decode cX17_lay 52 = .ok (.iload 5, 2) := dk_21 5 (dk_at dksX17_lay_2 5 rfl rfl)
theorem dX17_lay_54 : decode cX17_lay 54 = .ok (.invokevirtual 50, 3) := dk_182 0 50 (dk_at dksX17_lay_2 7 rfl rfl)
theorem dX17_lay_57 : decode cX17_lay 57 = .ok (.ifCond .ne 6, 3) := dk_154 0 6 (dk_at dksX17_lay_2 10 rfl rfl)
theorem dX17_lay_60 : decode cX17_lay 60 = .ok (.goto 24, 3) := dk_167 0 24 (dk_at dksX17_lay_2 13 rfl rfl)
theorem dX17_lay_63 : decode cX17_lay 63 = .ok (.aload_n 0, 1) := dk_42 (dk_at dksX17_lay_2 16 rfl rfl)
theorem dX17_lay_64 : decode cX17_lay 64 = .ok (.getfield 9, 3) := dk_180 0 9 (dk_at dksX17_lay_2 17 rfl rfl)
theorem dX17_lay_67 : decode cX17_lay 67 = .ok (.aload_n 0, 1) := dk_42 (dk_at dksX17_lay_2 20 rfl rfl)
theorem dX17_lay_68 : decode cX17_lay 68 = .ok (.getfield 42, 3) := dk_180 0 42 (dk_at dksX17_lay_2 21 rfl rfl)
theorem dX17_lay_71 : decode cX17_lay 71 = .ok (.iload 5, 2) := dk_21 5 (dk_at dksX17_lay_3 0 rfl rfl)
theorem dX17_lay_73 : decode cX17_lay 73 = .ok (.iastore, 1) := dk_79 (dk_at dksX17_lay_3 2 rfl rfl)
theorem dX17_lay_74 : decode cX17_lay 74 = .ok (.aload_n 0, 1) := dk_42 (dk_at dksX17_lay_3 3 rfl rfl)
theorem dX17_lay_75 : decode cX17_lay 75 = .ok (.dup, 1) := dk_89 (dk_at dksX17_lay_3 4 rfl rfl)
theorem dX17_lay_76 : decode cX17_lay 76 = .ok (.getfield 42, 3) := dk_180 0 42 (dk_at dksX17_lay_3 5 rfl rfl)
theorem dX17_lay_79 : decode cX17_lay 79 = .ok (.iconst 1, 1) := dk_4 (dk_at dksX17_lay_3 8 rfl rfl)
theorem dX17_lay_80 : decode cX17_lay 80 = .ok (.iadd, 1) := dk_96 (dk_at dksX17_lay_3 9 rfl rfl)
theorem dX17_lay_81 : decode cX17_lay 81 = .ok (.putfield 42, 3) := dk_181 0 42 (dk_at dksX17_lay_3 10 rfl rfl)
theorem dX17_lay_84 : decode cX17_lay 84 = .ok (.iinc 5 1, 3) := dk_132 5 1 (dk_at dksX17_lay_3 13 rfl rfl)
theorem dX17_lay_87 : decode cX17_lay 87 = .ok (.goto (-53), 3) := dk_167 255 203 (dk_at dksX17_lay_3 16 rfl rfl)
theorem dX17_lay_90 : decode cX17_lay 90 = .ok (.iconst 0, 1) := dk_3 (dk_at dksX17_lay_3 19 rfl rfl)
theorem dX17_lay_91 : decode cX17_lay 91 = .ok (.istore 5, 2) := dk_54 5 (dk_at dksX17_lay_3 20 rfl rfl)
theorem dX17_lay_93 : decode cX17_lay 93 = .ok (.iload 5, 2) := dk_21 5 (dk_at dksX17_lay_3 22 rfl rfl)
theorem dX17_lay_95 : decode cX17_lay 95 = .ok (.bipush 8, 2) := dk_16 8 (dk_at dksX17_lay_4 0 rfl rfl)
theorem dX17_lay_97 : decode cX17_lay 97 = .ok (.if_icmp .ge 17, 3) := dk_162 0 17 (dk_at dksX17_lay_4 2 rfl rfl)
theorem dX17_lay_100 : decode cX17_lay 100 = .ok (.aload_n 0, 1) := dk_42 (dk_at dksX17_lay_4 5 rfl rfl)
theorem dX17_lay_101 : decode cX17_lay 101 = .ok (.getfield 21, 3) := dk_180 0 21 (dk_at dksX17_lay_4 6 rfl rfl)
theorem dX17_lay_104 : decode cX17_lay 104 = .ok (.iload 5, 2) := dk_21 5 (dk_at dksX17_lay_4 9 rfl rfl)
theorem dX17_lay_106 : decode cX17_lay 106 = .ok (.iconst (-1), 1) := dk_2 (dk_at dksX17_lay_4 11 rfl rfl)
theorem dX17_lay_107 : decode cX17_lay 107 = .ok (.iastore, 1) := dk_79 (dk_at dksX17_lay_4 12 rfl rfl)
theorem dX17_lay_108 : decode cX17_lay 108 = .ok (.iinc 5 1, 3) := dk_132 5 1 (dk_at dksX17_lay_4 13 rfl rfl)
theorem dX17_lay_111 : decode cX17_lay 111 = .ok (.goto (-18), 3) := dk_167 255 238 (dk_at dksX17_lay_4 16 rfl rfl)
theorem dX17_lay_114 : decode cX17_lay 114 = .ok (.aload_n 0, 1) := dk_42 (dk_at dksX17_lay_4 19 rfl rfl)
theorem dX17_lay_115 : decode cX17_lay 115 = .ok (.iconst 0, 1) := dk_3 (dk_at dksX17_lay_4 20 rfl rfl)
theorem dX17_lay_116 : decode cX17_lay 116 = .ok (.iconst 0, 1) := dk_3 (dk_at dksX17_lay_4 21 rfl rfl)
theorem dX17_lay_117 : decode cX17_lay 117 = .ok (.invokevirtual 54, 3) := dk_182 0 54 (dk_at dksX17_lay_5 0 rfl rfl)
theorem dX17_lay_120 : decode cX17_lay 120 = .ok (.return_, 1) := dk_177 (dk_at dksX17_lay_5 3 rfl rfl)
abbrev cX17_isIn : ByteArray := prog_12_method_3_code
def yX17_isIn : MethodName := ⟨RX17, "isIn", "(I)Z"⟩
def dkwX17_isIn_1 : List UInt8 := [180, 0, 32, 27, 182, 0, 66, 3, 16, 7, 184, 0, 71, 153, 0, 7, 4, 167, 0, 4, 3, 172]
abbrev dktX17_isIn_1 : List UInt8 := dkwX17_isIn_1 ++ []
def dkwX17_isIn_0 : List UInt8 := [42, 180, 0, 24, 180, 0, 58, 27, 50, 42, 180, 0, 32, 182, 0, 61, 153, 0, 28, 42, 180, 0, 28, 42]
abbrev dktX17_isIn_0 : List UInt8 := dkwX17_isIn_0 ++ dktX17_isIn_1
theorem dksX17_isIn_0 : cX17_isIn.data.toList.drop 0 = dktX17_isIn_0 := by decide +kernel
theorem dksX17_isIn_1 : cX17_isIn.data.toList.drop 24 = dktX17_isIn_1 := dk_seg dksX17_isIn_0 24 rfl rfl
theorem dX17_isIn_0 : decode cX17_isIn 0 = .ok (.aload_n 0, 1) := dk_42 (dk_at dksX17_isIn_0 0 rfl rfl)
theorem dX17_isIn_1 : decode cX17_isIn 1 = .ok (.getfield 24, 3) := dk_180 0 24 (dk_at dksX17_isIn_0 1 rfl rfl)
theorem dX17_isIn_4 : decode cX17_isIn 4 = .ok (.getfield 58, 3) := dk_180 0 58 (dk_at dksX17_isIn_0 4 rfl rfl)
theorem dX17_isIn_7 : decode cX17_isIn 7 = .ok (.iload_n 1, 1) := dk_27 (dk_at dksX17_isIn_0 7 rfl rfl)
theorem dX17_isIn_8 : decode cX17_isIn 8 = .ok (.aaload, 1) := dk_50 (dk_at dksX17_isIn_0 8 rfl rfl)
theorem dX17_isIn_9 : decode cX17_isIn 9 = .ok (.aload_n 0, 1) := dk_42 (dk_at dksX17_isIn_0 9 rfl rfl)
theorem dX17_isIn_10 : decode cX17_isIn 10 = .ok (.getfield 32, 3) := dk_180 0 32 (dk_at dksX17_isIn_0 10 rfl rfl)
theorem dX17_isIn_13 : decode cX17_isIn 13 = .ok (.invokevirtual 61, 3) := dk_182 0 61 (dk_at dksX17_isIn_0 13 rfl rfl)
theorem dX17_isIn_16 : decode cX17_isIn 16 = .ok (.ifCond .eq 28, 3) := dk_153 0 28 (dk_at dksX17_isIn_0 16 rfl rfl)
theorem dX17_isIn_19 : decode cX17_isIn 19 = .ok (.aload_n 0, 1) := dk_42 (dk_at dksX17_isIn_0 19 rfl rfl)
theorem dX17_isIn_20 : decode cX17_isIn 20 = .ok (.getfield 28, 3) := dk_180 0 28 (dk_at dksX17_isIn_0 20 rfl rfl)
theorem dX17_isIn_23 : decode cX17_isIn 23 = .ok (.aload_n 0, 1) := dk_42 (dk_at dksX17_isIn_0 23 rfl rfl)
theorem dX17_isIn_24 : decode cX17_isIn 24 = .ok (.getfield 32, 3) := dk_180 0 32 (dk_at dksX17_isIn_1 0 rfl rfl)
theorem dX17_isIn_27 : decode cX17_isIn 27 = .ok (.iload_n 1, 1) := dk_27 (dk_at dksX17_isIn_1 3 rfl rfl)
theorem dX17_isIn_28 : decode cX17_isIn 28 = .ok (.invokevirtual 66, 3) := dk_182 0 66 (dk_at dksX17_isIn_1 4 rfl rfl)
theorem dX17_isIn_31 : decode cX17_isIn 31 = .ok (.iconst 0, 1) := dk_3 (dk_at dksX17_isIn_1 7 rfl rfl)
theorem dX17_isIn_32 : decode cX17_isIn 32 = .ok (.bipush 7, 2) := dk_16 7 (dk_at dksX17_isIn_1 8 rfl rfl)
theorem dX17_isIn_34 : decode cX17_isIn 34 = .ok (.invokestatic 71, 3) := dk_184 0 71 (dk_at dksX17_isIn_1 10 rfl rfl)
theorem dX17_isIn_37 : decode cX17_isIn 37 = .ok (.ifCond .eq 7, 3) := dk_153 0 7 (dk_at dksX17_isIn_1 13 rfl rfl)
theorem dX17_isIn_40 : decode cX17_isIn 40 = .ok (.iconst 1, 1) := dk_4 (dk_at dksX17_isIn_1 16 rfl rfl)
theorem dX17_isIn_41 : decode cX17_isIn 41 = .ok (.goto 4, 3) := dk_167 0 4 (dk_at dksX17_isIn_1 17 rfl rfl)
theorem dX17_isIn_44 : decode cX17_isIn 44 = .ok (.iconst 0, 1) := dk_3 (dk_at dksX17_isIn_1 20 rfl rfl)
theorem dX17_isIn_45 : decode cX17_isIn 45 = .ok (.ireturn, 1) := dk_172 (dk_at dksX17_isIn_1 21 rfl rfl)
abbrev cX17_tries : ByteArray := prog_12_method_5_code
def yX17_tries : MethodName := ⟨RX17, "tries", "(II)V"⟩
def dkwX17_tries_3 : List UInt8 := [182, 0, 54, 132, 3, 1, 167, 255, 198, 177]
abbrev dktX17_tries_3 : List UInt8 := dkwX17_tries_3 ++ []
def dkwX17_tries_2 : List UInt8 := [154, 0, 6, 167, 0, 22, 42, 180, 0, 15, 27, 29, 79, 42, 27, 4, 96, 28, 4, 29, 120, 128]
abbrev dktX17_tries_2 : List UInt8 := dkwX17_tries_2 ++ dktX17_tries_3
def dkwX17_tries_1 : List UInt8 := [162, 0, 53, 28, 29, 184, 0, 78, 154, 0, 39, 42, 42, 180, 0, 9, 27, 46, 29, 182, 0, 95]
abbrev dktX17_tries_1 : List UInt8 := dkwX17_tries_1 ++ dktX17_tries_2
def dkwX17_tries_0 : List UInt8 := [27, 42, 180, 0, 42, 160, 0, 9, 42, 28, 182, 0, 88, 177, 3, 62, 29, 42, 180, 0, 24, 180, 0, 92]
abbrev dktX17_tries_0 : List UInt8 := dkwX17_tries_0 ++ dktX17_tries_1
theorem dksX17_tries_0 : cX17_tries.data.toList.drop 0 = dktX17_tries_0 := by decide +kernel
theorem dksX17_tries_1 : cX17_tries.data.toList.drop 24 = dktX17_tries_1 := dk_seg dksX17_tries_0 24 rfl rfl
theorem dksX17_tries_2 : cX17_tries.data.toList.drop 46 = dktX17_tries_2 := dk_seg dksX17_tries_1 22 rfl rfl
theorem dksX17_tries_3 : cX17_tries.data.toList.drop 68 = dktX17_tries_3 := dk_seg dksX17_tries_2 22 rfl rfl
theorem dX17_tries_0 : decode cX17_tries 0 = .ok (.iload_n 1, 1) := dk_27 (dk_at dksX17_tries_0 0 rfl rfl)
theorem dX17_tries_1 : decode cX17_tries 1 = .ok (.aload_n 0, 1) := dk_42 (dk_at dksX17_tries_0 1 rfl rfl)
theorem dX17_tries_2 : decode cX17_tries 2 = .ok (.getfield 42, 3) := dk_180 0 42 (dk_at dksX17_tries_0 2 rfl rfl)
theorem dX17_tries_5 : decode cX17_tries 5 = .ok (.if_icmp .ne 9, 3) := dk_160 0 9 (dk_at dksX17_tries_0 5 rfl rfl)
theorem dX17_tries_8 : decode cX17_tries 8 = .ok (.aload_n 0, 1) := dk_42 (dk_at dksX17_tries_0 8 rfl rfl)
theorem dX17_tries_9 : decode cX17_tries 9 = .ok (.iload_n 2, 1) := dk_28 (dk_at dksX17_tries_0 9 rfl rfl)
theorem dX17_tries_10 : decode cX17_tries 10 = .ok (.invokevirtual 88, 3) := dk_182 0 88 (dk_at dksX17_tries_0 10 rfl rfl)
theorem dX17_tries_13 : decode cX17_tries 13 = .ok (.return_, 1) := dk_177 (dk_at dksX17_tries_0 13 rfl rfl)
theorem dX17_tries_14 : decode cX17_tries 14 = .ok (.iconst 0, 1) := dk_3 (dk_at dksX17_tries_0 14 rfl rfl)
theorem dX17_tries_15 : decode cX17_tries 15 = .ok (.istore_n 3, 1) := dk_62 (dk_at dksX17_tries_0 15 rfl rfl)
theorem dX17_tries_16 : decode cX17_tries 16 = .ok (.iload_n 3, 1) := dk_29 (dk_at dksX17_tries_0 16 rfl rfl)
theorem dX17_tries_17 : decode cX17_tries 17 = .ok (.aload_n 0, 1) := dk_42 (dk_at dksX17_tries_0 17 rfl rfl)
theorem dX17_tries_18 : decode cX17_tries 18 = .ok (.getfield 24, 3) := dk_180 0 24 (dk_at dksX17_tries_0 18 rfl rfl)
theorem dX17_tries_21 : decode cX17_tries 21 = .ok (.getfield 92, 3) := dk_180 0 92 (dk_at dksX17_tries_0 21 rfl rfl)
theorem dX17_tries_24 : decode cX17_tries 24 = .ok (.if_icmp .ge 53, 3) := dk_162 0 53 (dk_at dksX17_tries_1 0 rfl rfl)
theorem dX17_tries_27 : decode cX17_tries 27 = .ok (.iload_n 2, 1) := dk_28 (dk_at dksX17_tries_1 3 rfl rfl)
theorem dX17_tries_28 : decode cX17_tries 28 = .ok (.iload_n 3, 1) := dk_29 (dk_at dksX17_tries_1 4 rfl rfl)
theorem dX17_tries_29 : decode cX17_tries 29 = .ok (.invokestatic 78, 3) := dk_184 0 78 (dk_at dksX17_tries_1 5 rfl rfl)
theorem dX17_tries_32 : decode cX17_tries 32 = .ok (.ifCond .ne 39, 3) := dk_154 0 39 (dk_at dksX17_tries_1 8 rfl rfl)
theorem dX17_tries_35 : decode cX17_tries 35 = .ok (.aload_n 0, 1) := dk_42 (dk_at dksX17_tries_1 11 rfl rfl)
theorem dX17_tries_36 : decode cX17_tries 36 = .ok (.aload_n 0, 1) := dk_42 (dk_at dksX17_tries_1 12 rfl rfl)
theorem dX17_tries_37 : decode cX17_tries 37 = .ok (.getfield 9, 3) := dk_180 0 9 (dk_at dksX17_tries_1 13 rfl rfl)
theorem dX17_tries_40 : decode cX17_tries 40 = .ok (.iload_n 1, 1) := dk_27 (dk_at dksX17_tries_1 16 rfl rfl)
theorem dX17_tries_41 : decode cX17_tries 41 = .ok (.iaload, 1) := dk_46 (dk_at dksX17_tries_1 17 rfl rfl)
theorem dX17_tries_42 : decode cX17_tries 42 = .ok (.iload_n 3, 1) := dk_29 (dk_at dksX17_tries_1 18 rfl rfl)
theorem dX17_tries_43 : decode cX17_tries 43 = .ok (.invokevirtual 95, 3) := dk_182 0 95 (dk_at dksX17_tries_1 19 rfl rfl)
theorem dX17_tries_46 : decode cX17_tries 46 = .ok (.ifCond .ne 6, 3) := dk_154 0 6 (dk_at dksX17_tries_2 0 rfl rfl)
theorem dX17_tries_49 : decode cX17_tries 49 = .ok (.goto 22, 3) := dk_167 0 22 (dk_at dksX17_tries_2 3 rfl rfl)
theorem dX17_tries_52 : decode cX17_tries 52 = .ok (.aload_n 0, 1) := dk_42 (dk_at dksX17_tries_2 6 rfl rfl)
theorem dX17_tries_53 : decode cX17_tries 53 = .ok (.getfield 15, 3) := dk_180 0 15 (dk_at dksX17_tries_2 7 rfl rfl)
theorem dX17_tries_56 : decode cX17_tries 56 = .ok (.iload_n 1, 1) := dk_27 (dk_at dksX17_tries_2 10 rfl rfl)
theorem dX17_tries_57 : decode cX17_tries 57 = .ok (.iload_n 3, 1) := dk_29 (dk_at dksX17_tries_2 11 rfl rfl)
theorem dX17_tries_58 : decode cX17_tries 58 = .ok (.iastore, 1) := dk_79 (dk_at dksX17_tries_2 12 rfl rfl)
theorem dX17_tries_59 : decode cX17_tries 59 = .ok (.aload_n 0, 1) := dk_42 (dk_at dksX17_tries_2 13 rfl rfl)
theorem dX17_tries_60 : decode cX17_tries 60 = .ok (.iload_n 1, 1) := dk_27 (dk_at dksX17_tries_2 14 rfl rfl)
theorem dX17_tries_61 : decode cX17_tries 61 = .ok (.iconst 1, 1) := dk_4 (dk_at dksX17_tries_2 15 rfl rfl)
theorem dX17_tries_62 : decode cX17_tries 62 = .ok (.iadd, 1) := dk_96 (dk_at dksX17_tries_2 16 rfl rfl)
theorem dX17_tries_63 : decode cX17_tries 63 = .ok (.iload_n 2, 1) := dk_28 (dk_at dksX17_tries_2 17 rfl rfl)
theorem dX17_tries_64 : decode cX17_tries 64 = .ok (.iconst 1, 1) := dk_4 (dk_at dksX17_tries_2 18 rfl rfl)
theorem dX17_tries_65 : decode cX17_tries 65 = .ok (.iload_n 3, 1) := dk_29 (dk_at dksX17_tries_2 19 rfl rfl)
theorem dX17_tries_66 : decode cX17_tries 66 = .ok (.ishl, 1) := dk_120 (dk_at dksX17_tries_2 20 rfl rfl)
theorem dX17_tries_67 : decode cX17_tries 67 = .ok (.ior, 1) := dk_128 (dk_at dksX17_tries_2 21 rfl rfl)
theorem dX17_tries_68 : decode cX17_tries 68 = .ok (.invokevirtual 54, 3) := dk_182 0 54 (dk_at dksX17_tries_3 0 rfl rfl)
theorem dX17_tries_71 : decode cX17_tries 71 = .ok (.iinc 3 1, 3) := dk_132 3 1 (dk_at dksX17_tries_3 3 rfl rfl)
theorem dX17_tries_74 : decode cX17_tries 74 = .ok (.goto (-58), 3) := dk_167 255 198 (dk_at dksX17_tries_3 6 rfl rfl)
theorem dX17_tries_77 : decode cX17_tries 77 = .ok (.return_, 1) := dk_177 (dk_at dksX17_tries_3 9 rfl rfl)
abbrev cX17_end : ByteArray := prog_12_method_6_code
def yX17_end : MethodName := ⟨RX17, "end", "(I)V"⟩
def dkwX17_end_6 : List UInt8 := [16, 254, 79, 132, 2, 1, 167, 255, 162, 177]
abbrev dktX17_end_6 : List UInt8 := dkwX17_end_6 ++ []
def dkwX17_end_5 : List UInt8 := [180, 0, 21, 28, 46, 2, 159, 0, 13, 42, 180, 0, 21, 28, 46, 29, 160, 0, 7, 29, 167, 0, 5]
abbrev dktX17_end_5 : List UInt8 := dkwX17_end_5 ++ dktX17_end_6
def dkwX17_end_4 : List UInt8 := [160, 0, 11, 42, 180, 0, 9, 21, 4, 46, 62, 132, 4, 1, 167, 255, 217, 42, 180, 0, 21, 28, 42]
abbrev dktX17_end_4 : List UInt8 := dkwX17_end_4 ++ dktX17_end_5
def dkwX17_end_3 : List UInt8 := [180, 0, 42, 162, 0, 36, 27, 28, 184, 0, 78, 153, 0, 28, 42, 180, 0, 15, 21, 4, 46, 28]
abbrev dktX17_end_3 : List UInt8 := dkwX17_end_3 ++ dktX17_end_4
def dkwX17_end_2 : List UInt8 := [3, 61, 28, 42, 180, 0, 24, 180, 0, 92, 162, 0, 89, 16, 254, 62, 3, 54, 4, 21, 4, 42]
abbrev dktX17_end_2 : List UInt8 := dkwX17_end_2 ++ dktX17_end_3
def dkwX17_end_1 : List UInt8 := [42, 180, 0, 9, 28, 46, 92, 46, 4, 42, 180, 0, 15, 28, 46, 120, 128, 79, 132, 2, 1, 167, 255, 223]
abbrev dktX17_end_1 : List UInt8 := dkwX17_end_1 ++ dktX17_end_2
def dkwX17_end_0 : List UInt8 := [42, 89, 180, 0, 39, 4, 96, 181, 0, 39, 3, 61, 28, 42, 180, 0, 42, 162, 0, 31, 42, 180, 0, 18]
abbrev dktX17_end_0 : List UInt8 := dkwX17_end_0 ++ dktX17_end_1
theorem dksX17_end_0 : cX17_end.data.toList.drop 0 = dktX17_end_0 := by decide +kernel
theorem dksX17_end_1 : cX17_end.data.toList.drop 24 = dktX17_end_1 := dk_seg dksX17_end_0 24 rfl rfl
theorem dksX17_end_2 : cX17_end.data.toList.drop 48 = dktX17_end_2 := dk_seg dksX17_end_1 24 rfl rfl
theorem dksX17_end_3 : cX17_end.data.toList.drop 70 = dktX17_end_3 := dk_seg dksX17_end_2 22 rfl rfl
theorem dksX17_end_4 : cX17_end.data.toList.drop 92 = dktX17_end_4 := dk_seg dksX17_end_3 22 rfl rfl
theorem dksX17_end_5 : cX17_end.data.toList.drop 115 = dktX17_end_5 := dk_seg dksX17_end_4 23 rfl rfl
theorem dksX17_end_6 : cX17_end.data.toList.drop 138 = dktX17_end_6 := dk_seg dksX17_end_5 23 rfl rfl
theorem dX17_end_0 : decode cX17_end 0 = .ok (.aload_n 0, 1) := dk_42 (dk_at dksX17_end_0 0 rfl rfl)
theorem dX17_end_1 : decode cX17_end 1 = .ok (.dup, 1) := dk_89 (dk_at dksX17_end_0 1 rfl rfl)
theorem dX17_end_2 : decode cX17_end 2 = .ok (.getfield 39, 3) := dk_180 0 39 (dk_at dksX17_end_0 2 rfl rfl)
theorem dX17_end_5 : decode cX17_end 5 = .ok (.iconst 1, 1) := dk_4 (dk_at dksX17_end_0 5 rfl rfl)
theorem dX17_end_6 : decode cX17_end 6 = .ok (.iadd, 1) := dk_96 (dk_at dksX17_end_0 6 rfl rfl)
theorem dX17_end_7 : decode cX17_end 7 = .ok (.putfield 39, 3) := dk_181 0 39 (dk_at dksX17_end_0 7 rfl rfl)
theorem dX17_end_10 : decode cX17_end 10 = .ok (.iconst 0, 1) := dk_3 (dk_at dksX17_end_0 10 rfl rfl)
theorem dX17_end_11 : decode cX17_end 11 = .ok (.istore_n 2, 1) := dk_61 (dk_at dksX17_end_0 11 rfl rfl)
theorem dX17_end_12 : decode cX17_end 12 = .ok (.iload_n 2, 1) := dk_28 (dk_at dksX17_end_0 12 rfl rfl)
theorem dX17_end_13 : decode cX17_end 13 = .ok (.aload_n 0, 1) := dk_42 (dk_at dksX17_end_0 13 rfl rfl)
theorem dX17_end_14 : decode cX17_end 14 = .ok (.getfield 42, 3) := dk_180 0 42 (dk_at dksX17_end_0 14 rfl rfl)
theorem dX17_end_17 : decode cX17_end 17 = .ok (.if_icmp .ge 31, 3) := dk_162 0 31 (dk_at dksX17_end_0 17 rfl rfl)
theorem dX17_end_20 : decode cX17_end 20 = .ok (.aload_n 0, 1) := dk_42 (dk_at dksX17_end_0 20 rfl rfl)
theorem dX17_end_21 : decode cX17_end 21 = .ok (.getfield 18, 3) := dk_180 0 18 (dk_at dksX17_end_0 21 rfl rfl)
theorem dX17_end_24 : decode cX17_end 24 = .ok (.aload_n 0, 1) := dk_42 (dk_at dksX17_end_1 0 rfl rfl)
theorem dX17_end_25 : decode cX17_end 25 = .ok (.getfield 9, 3) := dk_180 0 9 (dk_at dksX17_end_1 1 rfl rfl)
theorem dX17_end_28 : decode cX17_end 28 = .ok (.iload_n 2, 1) := dk_28 (dk_at dksX17_end_1 4 rfl rfl)
theorem dX17_end_29 : decode cX17_end 29 = .ok (.iaload, 1) := dk_46 (dk_at dksX17_end_1 5 rfl rfl)
theorem dX17_end_30 : decode cX17_end 30 = .ok (.dup2, 1) := dk_92 (dk_at dksX17_end_1 6 rfl rfl)
theorem dX17_end_31 : decode cX17_end 31 = .ok (.iaload, 1) := dk_46 (dk_at dksX17_end_1 7 rfl rfl)
theorem dX17_end_32 : decode cX17_end 32 = .ok (.iconst 1, 1) := dk_4 (dk_at dksX17_end_1 8 rfl rfl)
theorem dX17_end_33 : decode cX17_end 33 = .ok (.aload_n 0, 1) := dk_42 (dk_at dksX17_end_1 9 rfl rfl)
theorem dX17_end_34 : decode cX17_end 34 = .ok (.getfield 15, 3) := dk_180 0 15 (dk_at dksX17_end_1 10 rfl rfl)
theorem dX17_end_37 : decode cX17_end 37 = .ok (.iload_n 2, 1) := dk_28 (dk_at dksX17_end_1 13 rfl rfl)
theorem dX17_end_38 : decode cX17_end 38 = .ok (.iaload, 1) := dk_46 (dk_at dksX17_end_1 14 rfl rfl)
theorem dX17_end_39 : decode cX17_end 39 = .ok (.ishl, 1) := dk_120 (dk_at dksX17_end_1 15 rfl rfl)
theorem dX17_end_40 : decode cX17_end 40 = .ok (.ior, 1) := dk_128 (dk_at dksX17_end_1 16 rfl rfl)
theorem dX17_end_41 : decode cX17_end 41 = .ok (.iastore, 1) := dk_79 (dk_at dksX17_end_1 17 rfl rfl)
theorem dX17_end_42 : decode cX17_end 42 = .ok (.iinc 2 1, 3) := dk_132 2 1 (dk_at dksX17_end_1 18 rfl rfl)
theorem dX17_end_45 : decode cX17_end 45 = .ok (.goto (-33), 3) := dk_167 255 223 (dk_at dksX17_end_1 21 rfl rfl)
theorem dX17_end_48 : decode cX17_end 48 = .ok (.iconst 0, 1) := dk_3 (dk_at dksX17_end_2 0 rfl rfl)
theorem dX17_end_49 : decode cX17_end 49 = .ok (.istore_n 2, 1) := dk_61 (dk_at dksX17_end_2 1 rfl rfl)
theorem dX17_end_50 : decode cX17_end 50 = .ok (.iload_n 2, 1) := dk_28 (dk_at dksX17_end_2 2 rfl rfl)
theorem dX17_end_51 : decode cX17_end 51 = .ok (.aload_n 0, 1) := dk_42 (dk_at dksX17_end_2 3 rfl rfl)
theorem dX17_end_52 : decode cX17_end 52 = .ok (.getfield 24, 3) := dk_180 0 24 (dk_at dksX17_end_2 4 rfl rfl)
theorem dX17_end_55 : decode cX17_end 55 = .ok (.getfield 92, 3) := dk_180 0 92 (dk_at dksX17_end_2 7 rfl rfl)
theorem dX17_end_58 : decode cX17_end 58 = .ok (.if_icmp .ge 89, 3) := dk_162 0 89 (dk_at dksX17_end_2 10 rfl rfl)
theorem dX17_end_61 : decode cX17_end 61 = .ok (.bipush (-2), 2) := dk_16 254 (dk_at dksX17_end_2 13 rfl rfl)
theorem dX17_end_63 : decode cX17_end 63 = .ok (.istore_n 3, 1) := dk_62 (dk_at dksX17_end_2 15 rfl rfl)
theorem dX17_end_64 : decode cX17_end 64 = .ok (.iconst 0, 1) := dk_3 (dk_at dksX17_end_2 16 rfl rfl)
theorem dX17_end_65 : decode cX17_end 65 = .ok (.istore 4, 2) := dk_54 4 (dk_at dksX17_end_2 17 rfl rfl)
theorem dX17_end_67 : decode cX17_end 67 = .ok (.iload 4, 2) := dk_21 4 (dk_at dksX17_end_2 19 rfl rfl)
theorem dX17_end_69 : decode cX17_end 69 = .ok (.aload_n 0, 1) := dk_42 (dk_at dksX17_end_2 21 rfl rfl)
theorem dX17_end_70 : decode cX17_end 70 = .ok (.getfield 42, 3) := dk_180 0 42 (dk_at dksX17_end_3 0 rfl rfl)
theorem dX17_end_73 : decode cX17_end 73 = .ok (.if_icmp .ge 36, 3) := dk_162 0 36 (dk_at dksX17_end_3 3 rfl rfl)
theorem dX17_end_76 : decode cX17_end 76 = .ok (.iload_n 1, 1) := dk_27 (dk_at dksX17_end_3 6 rfl rfl)
theorem dX17_end_77 : decode cX17_end 77 = .ok (.iload_n 2, 1) := dk_28 (dk_at dksX17_end_3 7 rfl rfl)
theorem dX17_end_78 : decode cX17_end 78 = .ok (.invokestatic 78, 3) := dk_184 0 78 (dk_at dksX17_end_3 8 rfl rfl)
theorem dX17_end_81 : decode cX17_end 81 = .ok (.ifCond .eq 28, 3) := dk_153 0 28 (dk_at dksX17_end_3 11 rfl rfl)
theorem dX17_end_84 : decode cX17_end 84 = .ok (.aload_n 0, 1) := dk_42 (dk_at dksX17_end_3 14 rfl rfl)
theorem dX17_end_85 : decode cX17_end 85 = .ok (.getfield 15, 3) := dk_180 0 15 (dk_at dksX17_end_3 15 rfl rfl)
theorem dX17_end_88 : decode cX17_end 88 = .ok (.iload 4, 2) := dk_21 4 (dk_at dksX17_end_3 18 rfl rfl)
theorem dX17_end_90 : decode cX17_end 90 = .ok (.iaload, 1) := dk_46 (dk_at dksX17_end_3 20 rfl rfl)
theorem dX17_end_91 : decode cX17_end 91 = .ok (.iload_n 2, 1) := dk_28 (dk_at dksX17_end_3 21 rfl rfl)
theorem dX17_end_92 : decode cX17_end 92 = .ok (.if_icmp .ne 11, 3) := dk_160 0 11 (dk_at dksX17_end_4 0 rfl rfl)
theorem dX17_end_95 : decode cX17_end 95 = .ok (.aload_n 0, 1) := dk_42 (dk_at dksX17_end_4 3 rfl rfl)
theorem dX17_end_96 : decode cX17_end 96 = .ok (.getfield 9, 3) := dk_180 0 9 (dk_at dksX17_end_4 4 rfl rfl)
theorem dX17_end_99 : decode cX17_end 99 = .ok (.iload 4, 2) := dk_21 4 (dk_at dksX17_end_4 7 rfl rfl)
theorem dX17_end_101 : decode cX17_end 101 = .ok (.iaload, 1) := dk_46 (dk_at dksX17_end_4 9 rfl rfl)
theorem dX17_end_102 : decode cX17_end 102 = .ok (.istore_n 3, 1) := dk_62 (dk_at dksX17_end_4 10 rfl rfl)
theorem dX17_end_103 : decode cX17_end 103 = .ok (.iinc 4 1, 3) := dk_132 4 1 (dk_at dksX17_end_4 11 rfl rfl)
theorem dX17_end_106 : decode cX17_end 106 = .ok (.goto (-39), 3) := dk_167 255 217 (dk_at dksX17_end_4 14 rfl rfl)
theorem dX17_end_109 : decode cX17_end 109 = .ok (.aload_n 0, 1) := dk_42 (dk_at dksX17_end_4 17 rfl rfl)
theorem dX17_end_110 : decode cX17_end 110 = .ok (.getfield 21, 3) := dk_180 0 21 (dk_at dksX17_end_4 18 rfl rfl)
theorem dX17_end_113 : decode cX17_end 113 = .ok (.iload_n 2, 1) := dk_28 (dk_at dksX17_end_4 21 rfl rfl)
theorem dX17_end_114 : decode cX17_end 114 = .ok (.aload_n 0, 1) := dk_42 (dk_at dksX17_end_4 22 rfl rfl)
theorem dX17_end_115 : decode cX17_end 115 = .ok (.getfield 21, 3) := dk_180 0 21 (dk_at dksX17_end_5 0 rfl rfl)
theorem dX17_end_118 : decode cX17_end 118 = .ok (.iload_n 2, 1) := dk_28 (dk_at dksX17_end_5 3 rfl rfl)
theorem dX17_end_119 : decode cX17_end 119 = .ok (.iaload, 1) := dk_46 (dk_at dksX17_end_5 4 rfl rfl)
theorem dX17_end_120 : decode cX17_end 120 = .ok (.iconst (-1), 1) := dk_2 (dk_at dksX17_end_5 5 rfl rfl)
theorem dX17_end_121 : decode cX17_end 121 = .ok (.if_icmp .eq 13, 3) := dk_159 0 13 (dk_at dksX17_end_5 6 rfl rfl)
theorem dX17_end_124 : decode cX17_end 124 = .ok (.aload_n 0, 1) := dk_42 (dk_at dksX17_end_5 9 rfl rfl)
theorem dX17_end_125 : decode cX17_end 125 = .ok (.getfield 21, 3) := dk_180 0 21 (dk_at dksX17_end_5 10 rfl rfl)
theorem dX17_end_128 : decode cX17_end 128 = .ok (.iload_n 2, 1) := dk_28 (dk_at dksX17_end_5 13 rfl rfl)
theorem dX17_end_129 : decode cX17_end 129 = .ok (.iaload, 1) := dk_46 (dk_at dksX17_end_5 14 rfl rfl)
theorem dX17_end_130 : decode cX17_end 130 = .ok (.iload_n 3, 1) := dk_29 (dk_at dksX17_end_5 15 rfl rfl)
theorem dX17_end_131 : decode cX17_end 131 = .ok (.if_icmp .ne 7, 3) := dk_160 0 7 (dk_at dksX17_end_5 16 rfl rfl)
theorem dX17_end_134 : decode cX17_end 134 = .ok (.iload_n 3, 1) := dk_29 (dk_at dksX17_end_5 19 rfl rfl)
theorem dX17_end_135 : decode cX17_end 135 = .ok (.goto 5, 3) := dk_167 0 5 (dk_at dksX17_end_5 20 rfl rfl)
theorem dX17_end_138 : decode cX17_end 138 = .ok (.bipush (-2), 2) := dk_16 254 (dk_at dksX17_end_6 0 rfl rfl)
theorem dX17_end_140 : decode cX17_end 140 = .ok (.iastore, 1) := dk_79 (dk_at dksX17_end_6 2 rfl rfl)
theorem dX17_end_141 : decode cX17_end 141 = .ok (.iinc 2 1, 3) := dk_132 2 1 (dk_at dksX17_end_6 3 rfl rfl)
theorem dX17_end_144 : decode cX17_end 144 = .ok (.goto (-94), 3) := dk_167 255 162 (dk_at dksX17_end_6 6 rfl rfl)
theorem dX17_end_147 : decode cX17_end 147 = .ok (.return_, 1) := dk_177 (dk_at dksX17_end_6 9 rfl rfl)
abbrev cX17_canHave : ByteArray := prog_12_method_4_code
def yX17_canHave : MethodName := ⟨RX17, "canHave", "(II)Z"⟩
def dkwX17_canHave_3 : List UInt8 := [28, 182, 0, 82, 182, 0, 85, 172]
abbrev dktX17_canHave_3 : List UInt8 := dkwX17_canHave_3 ++ []
def dkwX17_canHave_2 : List UInt8 := [167, 0, 31, 3, 167, 0, 27, 42, 180, 0, 24, 180, 0, 58, 27, 50, 42, 180, 0, 28, 42, 180, 0, 32]
abbrev dktX17_canHave_2 : List UInt8 := dkwX17_canHave_2 ++ dktX17_canHave_3
def dkwX17_canHave_1 : List UInt8 := [184, 0, 78, 153, 0, 27, 42, 180, 0, 28, 42, 180, 0, 32, 27, 182, 0, 66, 28, 160, 0, 7, 4]
abbrev dktX17_canHave_1 : List UInt8 := dkwX17_canHave_1 ++ dktX17_canHave_2
def dkwX17_canHave_0 : List UInt8 := [42, 180, 0, 28, 42, 180, 0, 32, 28, 182, 0, 75, 16, 254, 160, 0, 5, 3, 172, 42, 180, 0, 36, 27]
abbrev dktX17_canHave_0 : List UInt8 := dkwX17_canHave_0 ++ dktX17_canHave_1
theorem dksX17_canHave_0 : cX17_canHave.data.toList.drop 0 = dktX17_canHave_0 := by decide +kernel
theorem dksX17_canHave_1 : cX17_canHave.data.toList.drop 24 = dktX17_canHave_1 := dk_seg dksX17_canHave_0 24 rfl rfl
theorem dksX17_canHave_2 : cX17_canHave.data.toList.drop 47 = dktX17_canHave_2 := dk_seg dksX17_canHave_1 23 rfl rfl
theorem dksX17_canHave_3 : cX17_canHave.data.toList.drop 71 = dktX17_canHave_3 := dk_seg dksX17_canHave_2 24 rfl rfl
theorem dX17_canHave_0 : decode cX17_canHave 0 = .ok (.aload_n 0, 1) := dk_42 (dk_at dksX17_canHave_0 0 rfl rfl)
theorem dX17_canHave_1 : decode cX17_canHave 1 = .ok (.getfield 28, 3) := dk_180 0 28 (dk_at dksX17_canHave_0 1 rfl rfl)
theorem dX17_canHave_4 : decode cX17_canHave 4 = .ok (.aload_n 0, 1) := dk_42 (dk_at dksX17_canHave_0 4 rfl rfl)
theorem dX17_canHave_5 : decode cX17_canHave 5 = .ok (.getfield 32, 3) := dk_180 0 32 (dk_at dksX17_canHave_0 5 rfl rfl)
theorem dX17_canHave_8 : decode cX17_canHave 8 = .ok (.iload_n 2, 1) := dk_28 (dk_at dksX17_canHave_0 8 rfl rfl)
theorem dX17_canHave_9 : decode cX17_canHave 9 = .ok (.invokevirtual 75, 3) := dk_182 0 75 (dk_at dksX17_canHave_0 9 rfl rfl)
theorem dX17_canHave_12 : decode cX17_canHave 12 = .ok (.bipush (-2), 2) := dk_16 254 (dk_at dksX17_canHave_0 12 rfl rfl)
theorem dX17_canHave_14 : decode cX17_canHave 14 = .ok (.if_icmp .ne 5, 3) := dk_160 0 5 (dk_at dksX17_canHave_0 14 rfl rfl)
theorem dX17_canHave_17 : decode cX17_canHave 17 = .ok (.iconst 0, 1) := dk_3 (dk_at dksX17_canHave_0 17 rfl rfl)
theorem dX17_canHave_18 : decode cX17_canHave 18 = .ok (.ireturn, 1) := dk_172 (dk_at dksX17_canHave_0 18 rfl rfl)
theorem dX17_canHave_19 : decode cX17_canHave 19 = .ok (.aload_n 0, 1) := dk_42 (dk_at dksX17_canHave_0 19 rfl rfl)
theorem dX17_canHave_20 : decode cX17_canHave 20 = .ok (.getfield 36, 3) := dk_180 0 36 (dk_at dksX17_canHave_0 20 rfl rfl)
theorem dX17_canHave_23 : decode cX17_canHave 23 = .ok (.iload_n 1, 1) := dk_27 (dk_at dksX17_canHave_0 23 rfl rfl)
theorem dX17_canHave_24 : decode cX17_canHave 24 = .ok (.invokestatic 78, 3) := dk_184 0 78 (dk_at dksX17_canHave_1 0 rfl rfl)
theorem dX17_canHave_27 : decode cX17_canHave 27 = .ok (.ifCond .eq 27, 3) := dk_153 0 27 (dk_at dksX17_canHave_1 3 rfl rfl)
theorem dX17_canHave_30 : decode cX17_canHave 30 = .ok (.aload_n 0, 1) := dk_42 (dk_at dksX17_canHave_1 6 rfl rfl)
theorem dX17_canHave_31 : decode cX17_canHave 31 = .ok (.getfield 28, 3) := dk_180 0 28 (dk_at dksX17_canHave_1 7 rfl rfl)
theorem dX17_canHave_34 : decode cX17_canHave 34 = .ok (.aload_n 0, 1) := dk_42 (dk_at dksX17_canHave_1 10 rfl rfl)
theorem dX17_canHave_35 : decode cX17_canHave 35 = .ok (.getfield 32, 3) := dk_180 0 32 (dk_at dksX17_canHave_1 11 rfl rfl)
theorem dX17_canHave_38 : decode cX17_canHave 38 = .ok (.iload_n 1, 1) := dk_27 (dk_at dksX17_canHave_1 14 rfl rfl)
theorem dX17_canHave_39 : decode cX17_canHave 39 = .ok (.invokevirtual 66, 3) := dk_182 0 66 (dk_at dksX17_canHave_1 15 rfl rfl)
theorem dX17_canHave_42 : decode cX17_canHave 42 = .ok (.iload_n 2, 1) := dk_28 (dk_at dksX17_canHave_1 18 rfl rfl)
theorem dX17_canHave_43 : decode cX17_canHave 43 = .ok (.if_icmp .ne 7, 3) := dk_160 0 7 (dk_at dksX17_canHave_1 19 rfl rfl)
theorem dX17_canHave_46 : decode cX17_canHave 46 = .ok (.iconst 1, 1) := dk_4 (dk_at dksX17_canHave_1 22 rfl rfl)
theorem dX17_canHave_47 : decode cX17_canHave 47 = .ok (.goto 31, 3) := dk_167 0 31 (dk_at dksX17_canHave_2 0 rfl rfl)
theorem dX17_canHave_50 : decode cX17_canHave 50 = .ok (.iconst 0, 1) := dk_3 (dk_at dksX17_canHave_2 3 rfl rfl)
theorem dX17_canHave_51 : decode cX17_canHave 51 = .ok (.goto 27, 3) := dk_167 0 27 (dk_at dksX17_canHave_2 4 rfl rfl)
theorem dX17_canHave_54 : decode cX17_canHave 54 = .ok (.aload_n 0, 1) := dk_42 (dk_at dksX17_canHave_2 7 rfl rfl)
theorem dX17_canHave_55 : decode cX17_canHave 55 = .ok (.getfield 24, 3) := dk_180 0 24 (dk_at dksX17_canHave_2 8 rfl rfl)
theorem dX17_canHave_58 : decode cX17_canHave 58 = .ok (.getfield 58, 3) := dk_180 0 58 (dk_at dksX17_canHave_2 11 rfl rfl)
theorem dX17_canHave_61 : decode cX17_canHave 61 = .ok (.iload_n 1, 1) := dk_27 (dk_at dksX17_canHave_2 14 rfl rfl)
theorem dX17_canHave_62 : decode cX17_canHave 62 = .ok (.aaload, 1) := dk_50 (dk_at dksX17_canHave_2 15 rfl rfl)
theorem dX17_canHave_63 : decode cX17_canHave 63 = .ok (.aload_n 0, 1) := dk_42 (dk_at dksX17_canHave_2 16 rfl rfl)
theorem dX17_canHave_64 : decode cX17_canHave 64 = .ok (.getfield 28, 3) := dk_180 0 28 (dk_at dksX17_canHave_2 17 rfl rfl)
theorem dX17_canHave_67 : decode cX17_canHave 67 = .ok (.aload_n 0, 1) := dk_42 (dk_at dksX17_canHave_2 20 rfl rfl)
theorem dX17_canHave_68 : decode cX17_canHave 68 = .ok (.getfield 32, 3) := dk_180 0 32 (dk_at dksX17_canHave_2 21 rfl rfl)
theorem dX17_canHave_71 : decode cX17_canHave 71 = .ok (.iload_n 2, 1) := dk_28 (dk_at dksX17_canHave_3 0 rfl rfl)
theorem dX17_canHave_72 : decode cX17_canHave 72 = .ok (.invokevirtual 82, 3) := dk_182 0 82 (dk_at dksX17_canHave_3 1 rfl rfl)
theorem dX17_canHave_75 : decode cX17_canHave 75 = .ok (.invokevirtual 85, 3) := dk_182 0 85 (dk_at dksX17_canHave_3 4 rfl rfl)
theorem dX17_canHave_78 : decode cX17_canHave 78 = .ok (.ireturn, 1) := dk_172 (dk_at dksX17_canHave_3 7 rfl rfl)
abbrev cX17_could : ByteArray := prog_12_method_7_code
def yX17_could : MethodName := ⟨RX17, "could", "(I)I"⟩
def dkwX17_could_0 : List UInt8 := [42, 180, 0, 18, 27, 46, 172]
abbrev dktX17_could_0 : List UInt8 := dkwX17_could_0 ++ []
theorem dksX17_could_0 : cX17_could.data.toList.drop 0 = dktX17_could_0 := by decide +kernel
theorem dX17_could_0 : decode cX17_could 0 = .ok (.aload_n 0, 1) := dk_42 (dk_at dksX17_could_0 0 rfl rfl)
theorem dX17_could_1 : decode cX17_could 1 = .ok (.getfield 18, 3) := dk_180 0 18 (dk_at dksX17_could_0 1 rfl rfl)
theorem dX17_could_4 : decode cX17_could 4 = .ok (.iload_n 1, 1) := dk_27 (dk_at dksX17_could_0 4 rfl rfl)
theorem dX17_could_5 : decode cX17_could 5 = .ok (.iaload, 1) := dk_46 (dk_at dksX17_could_0 5 rfl rfl)
theorem dX17_could_6 : decode cX17_could 6 = .ok (.ireturn, 1) := dk_172 (dk_at dksX17_could_0 6 rfl rfl)
abbrev cX17_surely : ByteArray := prog_12_method_8_code
def yX17_surely : MethodName := ⟨RX17, "surely", "(I)I"⟩
def dkwX17_surely_0 : List UInt8 := [42, 180, 0, 21, 27, 46, 2, 160, 0, 8, 16, 254, 167, 0, 9, 42, 180, 0, 21, 27, 46, 172]
abbrev dktX17_surely_0 : List UInt8 := dkwX17_surely_0 ++ []
theorem dksX17_surely_0 : cX17_surely.data.toList.drop 0 = dktX17_surely_0 := by decide +kernel
theorem dX17_surely_0 : decode cX17_surely 0 = .ok (.aload_n 0, 1) := dk_42 (dk_at dksX17_surely_0 0 rfl rfl)
theorem dX17_surely_1 : decode cX17_surely 1 = .ok (.getfield 21, 3) := dk_180 0 21 (dk_at dksX17_surely_0 1 rfl rfl)
theorem dX17_surely_4 : decode cX17_surely 4 = .ok (.iload_n 1, 1) := dk_27 (dk_at dksX17_surely_0 4 rfl rfl)
theorem dX17_surely_5 : decode cX17_surely 5 = .ok (.iaload, 1) := dk_46 (dk_at dksX17_surely_0 5 rfl rfl)
theorem dX17_surely_6 : decode cX17_surely 6 = .ok (.iconst (-1), 1) := dk_2 (dk_at dksX17_surely_0 6 rfl rfl)
theorem dX17_surely_7 : decode cX17_surely 7 = .ok (.if_icmp .ne 8, 3) := dk_160 0 8 (dk_at dksX17_surely_0 7 rfl rfl)
theorem dX17_surely_10 : decode cX17_surely 10 = .ok (.bipush (-2), 2) := dk_16 254 (dk_at dksX17_surely_0 10 rfl rfl)
theorem dX17_surely_12 : decode cX17_surely 12 = .ok (.goto 9, 3) := dk_167 0 9 (dk_at dksX17_surely_0 12 rfl rfl)
theorem dX17_surely_15 : decode cX17_surely 15 = .ok (.aload_n 0, 1) := dk_42 (dk_at dksX17_surely_0 15 rfl rfl)
theorem dX17_surely_16 : decode cX17_surely 16 = .ok (.getfield 21, 3) := dk_180 0 21 (dk_at dksX17_surely_0 16 rfl rfl)
theorem dX17_surely_19 : decode cX17_surely 19 = .ok (.iload_n 1, 1) := dk_27 (dk_at dksX17_surely_0 19 rfl rfl)
theorem dX17_surely_20 : decode cX17_surely 20 = .ok (.iaload, 1) := dk_46 (dk_at dksX17_surely_0 20 rfl rfl)
theorem dX17_surely_21 : decode cX17_surely 21 = .ok (.ireturn, 1) := dk_172 (dk_at dksX17_surely_0 21 rfl rfl)
abbrev cX17_all : ByteArray := prog_12_method_9_code
def yX17_all : MethodName := ⟨RX17, "all", "()I"⟩
def dkwX17_all_1 : List UInt8 := [132, 2, 1, 167, 255, 234, 27, 172]
abbrev dktX17_all_1 : List UInt8 := dkwX17_all_1 ++ []
def dkwX17_all_0 : List UInt8 := [3, 60, 3, 61, 28, 42, 180, 0, 42, 162, 0, 20, 27, 4, 42, 180, 0, 9, 28, 46, 120, 128, 60]
abbrev dktX17_all_0 : List UInt8 := dkwX17_all_0 ++ dktX17_all_1
theorem dksX17_all_0 : cX17_all.data.toList.drop 0 = dktX17_all_0 := by decide +kernel
theorem dksX17_all_1 : cX17_all.data.toList.drop 23 = dktX17_all_1 := dk_seg dksX17_all_0 23 rfl rfl
theorem dX17_all_0 : decode cX17_all 0 = .ok (.iconst 0, 1) := dk_3 (dk_at dksX17_all_0 0 rfl rfl)
theorem dX17_all_1 : decode cX17_all 1 = .ok (.istore_n 1, 1) := dk_60 (dk_at dksX17_all_0 1 rfl rfl)
theorem dX17_all_2 : decode cX17_all 2 = .ok (.iconst 0, 1) := dk_3 (dk_at dksX17_all_0 2 rfl rfl)
theorem dX17_all_3 : decode cX17_all 3 = .ok (.istore_n 2, 1) := dk_61 (dk_at dksX17_all_0 3 rfl rfl)
theorem dX17_all_4 : decode cX17_all 4 = .ok (.iload_n 2, 1) := dk_28 (dk_at dksX17_all_0 4 rfl rfl)
theorem dX17_all_5 : decode cX17_all 5 = .ok (.aload_n 0, 1) := dk_42 (dk_at dksX17_all_0 5 rfl rfl)
theorem dX17_all_6 : decode cX17_all 6 = .ok (.getfield 42, 3) := dk_180 0 42 (dk_at dksX17_all_0 6 rfl rfl)
theorem dX17_all_9 : decode cX17_all 9 = .ok (.if_icmp .ge 20, 3) := dk_162 0 20 (dk_at dksX17_all_0 9 rfl rfl)
theorem dX17_all_12 : decode cX17_all 12 = .ok (.iload_n 1, 1) := dk_27 (dk_at dksX17_all_0 12 rfl rfl)
theorem dX17_all_13 : decode cX17_all 13 = .ok (.iconst 1, 1) := dk_4 (dk_at dksX17_all_0 13 rfl rfl)
theorem dX17_all_14 : decode cX17_all 14 = .ok (.aload_n 0, 1) := dk_42 (dk_at dksX17_all_0 14 rfl rfl)
theorem dX17_all_15 : decode cX17_all 15 = .ok (.getfield 9, 3) := dk_180 0 9 (dk_at dksX17_all_0 15 rfl rfl)
theorem dX17_all_18 : decode cX17_all 18 = .ok (.iload_n 2, 1) := dk_28 (dk_at dksX17_all_0 18 rfl rfl)
theorem dX17_all_19 : decode cX17_all 19 = .ok (.iaload, 1) := dk_46 (dk_at dksX17_all_0 19 rfl rfl)
theorem dX17_all_20 : decode cX17_all 20 = .ok (.ishl, 1) := dk_120 (dk_at dksX17_all_0 20 rfl rfl)
theorem dX17_all_21 : decode cX17_all 21 = .ok (.ior, 1) := dk_128 (dk_at dksX17_all_0 21 rfl rfl)
theorem dX17_all_22 : decode cX17_all 22 = .ok (.istore_n 1, 1) := dk_60 (dk_at dksX17_all_0 22 rfl rfl)
theorem dX17_all_23 : decode cX17_all 23 = .ok (.iinc 2 1, 3) := dk_132 2 1 (dk_at dksX17_all_1 0 rfl rfl)
theorem dX17_all_26 : decode cX17_all 26 = .ok (.goto (-22), 3) := dk_167 255 234 (dk_at dksX17_all_1 3 rfl rfl)
theorem dX17_all_29 : decode cX17_all 29 = .ok (.iload_n 1, 1) := dk_27 (dk_at dksX17_all_1 6 rfl rfl)
theorem dX17_all_30 : decode cX17_all 30 = .ok (.ireturn, 1) := dk_172 (dk_at dksX17_all_1 7 rfl rfl)
theorem q149 : (Jvm.Cond.initialized "BrushGlass$Pairings") ∈ lw_all := lw_g (lw_at lw_m1 20 rfl) rfl
theorem q492 : (Jvm.Cond.instantiable "BrushGlass$Pairings" (10 : Nat)) ∈ lw_all := lw_g (lw_at lw_m2 123 rfl) rfl
theorem q494 : (Jvm.Cond.instanceMethod ({ cls := "BrushGlass$Pairings", name := "<init>", desc := "()V" } : Jvm.MethodName)) ∈ lw_all := lw_g (lw_at lw_m2 125 rfl) rfl
theorem q495 : (Jvm.Cond.code ({ cls := "BrushGlass$Pairings", name := "<init>", desc := "()V" } : Jvm.MethodName) prog_12_method_1_code (1 : Nat) (Option.none : Option Jvm.ClassFile.FieldType)) ∈ lw_all := lw_g (lw_at lw_m2 126 rfl) rfl
theorem q496 : (Jvm.Cond.methodLink "BrushGlass$Pairings" (3 : Nat) ({ cls := "java/lang/Object", name := "<init>", desc := "()V" } : Jvm.MethodName)) ∈ lw_all := lw_g (lw_at lw_m2 127 rfl) rfl
theorem q497 : (Jvm.Cond.fieldLink "BrushGlass$Pairings" (9 : Nat) "BrushGlass$Pairings" "who" "[I") ∈ lw_all := lw_g (lw_at lw_m2 128 rfl) rfl
theorem q498 : (Jvm.Cond.fieldLink "BrushGlass$Pairings" (15 : Nat) "BrushGlass$Pairings" "place" "[I") ∈ lw_all := lw_g (lw_at lw_m2 129 rfl) rfl
theorem q499 : (Jvm.Cond.fieldLink "BrushGlass$Pairings" (18 : Nat) "BrushGlass$Pairings" "could" "[I") ∈ lw_all := lw_g (lw_at lw_m2 130 rfl) rfl
theorem q500 : (Jvm.Cond.fieldLink "BrushGlass$Pairings" (21 : Nat) "BrushGlass$Pairings" "surely" "[I") ∈ lw_all := lw_g (lw_at lw_m2 131 rfl) rfl
theorem q501 : (Jvm.Cond.fieldLink "BrushGlass$Pairings" (24 : Nat) "BrushGlass$Pairings" "glass" "LBrushGlass$Glass;") ∈ lw_all := lw_g (lw_at lw_m2 132 rfl) rfl
theorem q502 : (Jvm.Cond.fieldLink "BrushGlass$Pairings" (28 : Nat) "BrushGlass$Pairings" "month" "LBrushGlass$Month;") ∈ lw_all := lw_g (lw_at lw_m2 133 rfl) rfl
theorem q503 : (Jvm.Cond.fieldLink "BrushGlass$Pairings" (32 : Nat) "BrushGlass$Pairings" "day" "I") ∈ lw_all := lw_g (lw_at lw_m2 134 rfl) rfl
theorem q504 : (Jvm.Cond.fieldLink "BrushGlass$Pairings" (42 : Nat) "BrushGlass$Pairings" "people" "I") ∈ lw_all := lw_g (lw_at lw_m2 135 rfl) rfl
theorem q505 : (Jvm.Cond.fieldLink "BrushGlass$Pairings" (36 : Nat) "BrushGlass$Pairings" "asked" "I") ∈ lw_all := lw_g (lw_at lw_m2 136 rfl) rfl
theorem q506 : (Jvm.Cond.fieldLink "BrushGlass$Pairings" (39 : Nat) "BrushGlass$Pairings" "many" "I") ∈ lw_all := lw_g (lw_at lw_m2 137 rfl) rfl
theorem q508 : (Jvm.Cond.laysFinal "BrushGlass$Pairings" "BrushGlass$Pairings" "who" "[I") ∈ lw_all := lw_g (lw_at lw_m2 139 rfl) rfl
theorem q509 : (Jvm.Cond.soleField "BrushGlass$Pairings" "who") ∈ lw_all := lw_g (lw_at lw_m2 140 rfl) rfl
theorem q510 : (Jvm.Cond.laysFinal "BrushGlass$Pairings" "BrushGlass$Pairings" "place" "[I") ∈ lw_all := lw_g (lw_at lw_m2 141 rfl) rfl
theorem q511 : (Jvm.Cond.soleField "BrushGlass$Pairings" "place") ∈ lw_all := lw_g (lw_at lw_m2 142 rfl) rfl
theorem q512 : (Jvm.Cond.laysFinal "BrushGlass$Pairings" "BrushGlass$Pairings" "could" "[I") ∈ lw_all := lw_g (lw_at lw_m2 143 rfl) rfl
theorem q513 : (Jvm.Cond.soleField "BrushGlass$Pairings" "could") ∈ lw_all := lw_g (lw_at lw_m2 144 rfl) rfl
theorem q514 : (Jvm.Cond.laysFinal "BrushGlass$Pairings" "BrushGlass$Pairings" "surely" "[I") ∈ lw_all := lw_g (lw_at lw_m2 145 rfl) rfl
theorem q515 : (Jvm.Cond.soleField "BrushGlass$Pairings" "surely") ∈ lw_all := lw_g (lw_at lw_m2 146 rfl) rfl
theorem q516 : (Jvm.Cond.lays "BrushGlass$Pairings" "BrushGlass$Pairings" "glass" "LBrushGlass$Glass;") ∈ lw_all := lw_g (lw_at lw_m2 147 rfl) rfl
theorem q517 : (Jvm.Cond.soleField "BrushGlass$Pairings" "glass") ∈ lw_all := lw_g (lw_at lw_m2 148 rfl) rfl
theorem q518 : (Jvm.Cond.lays "BrushGlass$Pairings" "BrushGlass$Pairings" "month" "LBrushGlass$Month;") ∈ lw_all := lw_g (lw_at lw_m2 149 rfl) rfl
theorem q519 : (Jvm.Cond.soleField "BrushGlass$Pairings" "month") ∈ lw_all := lw_g (lw_at lw_m2 150 rfl) rfl
theorem q520 : (Jvm.Cond.lays "BrushGlass$Pairings" "BrushGlass$Pairings" "day" "I") ∈ lw_all := lw_g (lw_at lw_m2 151 rfl) rfl
theorem q521 : (Jvm.Cond.soleField "BrushGlass$Pairings" "day") ∈ lw_all := lw_g (lw_at lw_m2 152 rfl) rfl
theorem q522 : (Jvm.Cond.lays "BrushGlass$Pairings" "BrushGlass$Pairings" "people" "I") ∈ lw_all := lw_g (lw_at lw_m2 153 rfl) rfl
theorem q523 : (Jvm.Cond.soleField "BrushGlass$Pairings" "people") ∈ lw_all := lw_g (lw_at lw_m2 154 rfl) rfl
theorem q524 : (Jvm.Cond.lays "BrushGlass$Pairings" "BrushGlass$Pairings" "asked" "I") ∈ lw_all := lw_g (lw_at lw_m2 155 rfl) rfl
theorem q525 : (Jvm.Cond.soleField "BrushGlass$Pairings" "asked") ∈ lw_all := lw_g (lw_at lw_m2 156 rfl) rfl
theorem q526 : (Jvm.Cond.lays "BrushGlass$Pairings" "BrushGlass$Pairings" "many" "I") ∈ lw_all := lw_g (lw_at lw_m2 157 rfl) rfl
theorem q527 : (Jvm.Cond.soleField "BrushGlass$Pairings" "many") ∈ lw_all := lw_g (lw_at lw_m2 158 rfl) rfl
theorem q528 : (Jvm.Cond.superclass "BrushGlass$Pairings" "java/lang/Object") ∈ lw_all := lw_g (lw_at lw_m2 159 rfl) rfl
theorem q658 : (Jvm.Cond.fieldLink "BrushGlass$Pairings" (58 : Nat) "BrushGlass$Glass" "people" "[LBrushGlass$Person;") ∈ lw_all := lw_g (lw_at lw_m3 49 rfl) rfl
theorem q676 : (Jvm.Cond.fieldLink "BrushGlass$Pairings" (92 : Nat) "BrushGlass$Glass" "places" "I") ∈ lw_all := lw_g (lw_at lw_m3 67 rfl) rfl
theorem q685 : (Jvm.Cond.fieldLink "BrushGlass$Pairings" (45 : Nat) "BrushGlass$Glass" "personMany" "I") ∈ lw_all := lw_g (lw_at lw_m3 76 rfl) rfl
theorem q1584 : (Jvm.Cond.instanceMethod ({ cls := "BrushGlass$Pairings", name := "lay", desc := "(LBrushGlass$Glass;LBrushGlass$Month;II)V" } : Jvm.MethodName)) ∈ lw_all := lw_g (lw_at lw_m7 15 rfl) rfl
theorem q1585 : (Jvm.Cond.selects "BrushGlass$Pairings" ({ cls := "BrushGlass$Pairings", name := "lay", desc := "(LBrushGlass$Glass;LBrushGlass$Month;II)V" } : Jvm.MethodName) ({ cls := "BrushGlass$Pairings", name := "lay", desc := "(LBrushGlass$Glass;LBrushGlass$Month;II)V" } : Jvm.MethodName)) ∈ lw_all := lw_g (lw_at lw_m7 16 rfl) rfl
theorem q1586 : (Jvm.Cond.code ({ cls := "BrushGlass$Pairings", name := "lay", desc := "(LBrushGlass$Glass;LBrushGlass$Month;II)V" } : Jvm.MethodName) prog_12_method_2_code (6 : Nat) (Option.none : Option Jvm.ClassFile.FieldType)) ∈ lw_all := lw_g (lw_at lw_m7 17 rfl) rfl
theorem q1587 : (Jvm.Cond.methodLink "BrushGlass$Pairings" (50 : Nat) ({ cls := "BrushGlass$Pairings", name := "isIn", desc := "(I)Z" } : Jvm.MethodName)) ∈ lw_all := lw_g (lw_at lw_m7 18 rfl) rfl
theorem q1588 : (Jvm.Cond.instanceMethod ({ cls := "BrushGlass$Pairings", name := "isIn", desc := "(I)Z" } : Jvm.MethodName)) ∈ lw_all := lw_g (lw_at lw_m7 19 rfl) rfl
theorem q1589 : (Jvm.Cond.selects "BrushGlass$Pairings" ({ cls := "BrushGlass$Pairings", name := "isIn", desc := "(I)Z" } : Jvm.MethodName) ({ cls := "BrushGlass$Pairings", name := "isIn", desc := "(I)Z" } : Jvm.MethodName)) ∈ lw_all := lw_g (lw_at lw_m7 20 rfl) rfl
theorem q1590 : (Jvm.Cond.code ({ cls := "BrushGlass$Pairings", name := "isIn", desc := "(I)Z" } : Jvm.MethodName) prog_12_method_3_code (2 : Nat) (Option.some Jvm.ClassFile.FieldType.boolean)) ∈ lw_all := lw_g (lw_at lw_m7 21 rfl) rfl
theorem q1591 : (Jvm.Cond.methodLink "BrushGlass$Pairings" (61 : Nat) ({ cls := "BrushGlass$Person", name := "isHere", desc := "(I)Z" } : Jvm.MethodName)) ∈ lw_all := lw_g (lw_at lw_m7 22 rfl) rfl
theorem q1592 : (Jvm.Cond.methodLink "BrushGlass$Pairings" (66 : Nat) ({ cls := "BrushGlass$Month", name := "place", desc := "(II)I" } : Jvm.MethodName)) ∈ lw_all := lw_g (lw_at lw_m7 23 rfl) rfl
theorem q1593 : (Jvm.Cond.methodLinkNest "BrushGlass$Pairings" (71 : Nat) ({ cls := "BrushGlass", name := "in", desc := "(III)Z" } : Jvm.MethodName) "BrushGlass") ∈ lw_tbl := lw_at lw_m7 24 rfl
theorem q1594 : (Jvm.Cond.methodLink "BrushGlass$Pairings" (54 : Nat) ({ cls := "BrushGlass$Pairings", name := "tries", desc := "(II)V" } : Jvm.MethodName)) ∈ lw_all := lw_g (lw_at lw_m7 25 rfl) rfl
theorem q1595 : (Jvm.Cond.privateMethod ({ cls := "BrushGlass$Pairings", name := "tries", desc := "(II)V" } : Jvm.MethodName)) ∈ lw_tbl := lw_at lw_m7 26 rfl
theorem q1596 : (Jvm.Cond.instanceMethod ({ cls := "BrushGlass$Pairings", name := "tries", desc := "(II)V" } : Jvm.MethodName)) ∈ lw_all := lw_g (lw_at lw_m7 27 rfl) rfl
theorem q1597 : (Jvm.Cond.code ({ cls := "BrushGlass$Pairings", name := "tries", desc := "(II)V" } : Jvm.MethodName) prog_12_method_5_code (4 : Nat) (Option.none : Option Jvm.ClassFile.FieldType)) ∈ lw_all := lw_g (lw_at lw_m7 28 rfl) rfl
theorem q1598 : (Jvm.Cond.methodLink "BrushGlass$Pairings" (88 : Nat) ({ cls := "BrushGlass$Pairings", name := "end", desc := "(I)V" } : Jvm.MethodName)) ∈ lw_all := lw_g (lw_at lw_m7 29 rfl) rfl
theorem q1599 : (Jvm.Cond.privateMethod ({ cls := "BrushGlass$Pairings", name := "end", desc := "(I)V" } : Jvm.MethodName)) ∈ lw_tbl := lw_at lw_m7 30 rfl
theorem q1600 : (Jvm.Cond.instanceMethod ({ cls := "BrushGlass$Pairings", name := "end", desc := "(I)V" } : Jvm.MethodName)) ∈ lw_all := lw_g (lw_at lw_m7 31 rfl) rfl
theorem q1601 : (Jvm.Cond.code ({ cls := "BrushGlass$Pairings", name := "end", desc := "(I)V" } : Jvm.MethodName) prog_12_method_6_code (5 : Nat) (Option.none : Option Jvm.ClassFile.FieldType)) ∈ lw_all := lw_g (lw_at lw_m7 32 rfl) rfl
theorem q1602 : (Jvm.Cond.methodLinkNest "BrushGlass$Pairings" (78 : Nat) ({ cls := "BrushGlass", name := "has", desc := "(II)Z" } : Jvm.MethodName) "BrushGlass") ∈ lw_tbl := lw_at lw_m7 33 rfl
theorem q1605 : (Jvm.Cond.methodLink "BrushGlass$Pairings" (95 : Nat) ({ cls := "BrushGlass$Pairings", name := "canHave", desc := "(II)Z" } : Jvm.MethodName)) ∈ lw_all := lw_g (lw_at lw_m7 36 rfl) rfl
theorem q1606 : (Jvm.Cond.privateMethod ({ cls := "BrushGlass$Pairings", name := "canHave", desc := "(II)Z" } : Jvm.MethodName)) ∈ lw_tbl := lw_at lw_m7 37 rfl
theorem q1607 : (Jvm.Cond.instanceMethod ({ cls := "BrushGlass$Pairings", name := "canHave", desc := "(II)Z" } : Jvm.MethodName)) ∈ lw_all := lw_g (lw_at lw_m7 38 rfl) rfl
theorem q1608 : (Jvm.Cond.code ({ cls := "BrushGlass$Pairings", name := "canHave", desc := "(II)Z" } : Jvm.MethodName) prog_12_method_4_code (3 : Nat) (Option.some Jvm.ClassFile.FieldType.boolean)) ∈ lw_all := lw_g (lw_at lw_m7 39 rfl) rfl
theorem q1609 : (Jvm.Cond.methodLink "BrushGlass$Pairings" (75 : Nat) ({ cls := "BrushGlass$Month", name := "at", desc := "(II)I" } : Jvm.MethodName)) ∈ lw_all := lw_g (lw_at lw_m7 40 rfl) rfl
theorem q1610 : (Jvm.Cond.methodLink "BrushGlass$Pairings" (82 : Nat) ({ cls := "BrushGlass$Month", name := "colour", desc := "(II)I" } : Jvm.MethodName)) ∈ lw_all := lw_g (lw_at lw_m7 41 rfl) rfl
theorem q1611 : (Jvm.Cond.methodLink "BrushGlass$Pairings" (85 : Nat) ({ cls := "BrushGlass$Person", name := "doesLike", desc := "(I)Z" } : Jvm.MethodName)) ∈ lw_all := lw_g (lw_at lw_m7 42 rfl) rfl
theorem q1617 : (Jvm.Cond.instanceMethod ({ cls := "BrushGlass$Pairings", name := "could", desc := "(I)I" } : Jvm.MethodName)) ∈ lw_all := lw_g (lw_at lw_m7 48 rfl) rfl
theorem q1618 : (Jvm.Cond.selects "BrushGlass$Pairings" ({ cls := "BrushGlass$Pairings", name := "could", desc := "(I)I" } : Jvm.MethodName) ({ cls := "BrushGlass$Pairings", name := "could", desc := "(I)I" } : Jvm.MethodName)) ∈ lw_all := lw_g (lw_at lw_m7 49 rfl) rfl
theorem q1619 : (Jvm.Cond.code ({ cls := "BrushGlass$Pairings", name := "could", desc := "(I)I" } : Jvm.MethodName) prog_12_method_7_code (2 : Nat) (Option.some Jvm.ClassFile.FieldType.int)) ∈ lw_all := lw_g (lw_at lw_m7 50 rfl) rfl
theorem q1625 : (Jvm.Cond.instanceMethod ({ cls := "BrushGlass$Pairings", name := "surely", desc := "(I)I" } : Jvm.MethodName)) ∈ lw_all := lw_g (lw_at lw_m7 56 rfl) rfl
theorem q1626 : (Jvm.Cond.selects "BrushGlass$Pairings" ({ cls := "BrushGlass$Pairings", name := "surely", desc := "(I)I" } : Jvm.MethodName) ({ cls := "BrushGlass$Pairings", name := "surely", desc := "(I)I" } : Jvm.MethodName)) ∈ lw_all := lw_g (lw_at lw_m7 57 rfl) rfl
theorem q1627 : (Jvm.Cond.code ({ cls := "BrushGlass$Pairings", name := "surely", desc := "(I)I" } : Jvm.MethodName) prog_12_method_8_code (2 : Nat) (Option.some Jvm.ClassFile.FieldType.int)) ∈ lw_all := lw_g (lw_at lw_m7 58 rfl) rfl
theorem q1633 : (Jvm.Cond.instanceMethod ({ cls := "BrushGlass$Pairings", name := "all", desc := "()I" } : Jvm.MethodName)) ∈ lw_all := lw_g (lw_at lw_m7 64 rfl) rfl
theorem q1634 : (Jvm.Cond.selects "BrushGlass$Pairings" ({ cls := "BrushGlass$Pairings", name := "all", desc := "()I" } : Jvm.MethodName) ({ cls := "BrushGlass$Pairings", name := "all", desc := "()I" } : Jvm.MethodName)) ∈ lw_all := lw_g (lw_at lw_m7 65 rfl) rfl
theorem q1635 : (Jvm.Cond.code ({ cls := "BrushGlass$Pairings", name := "all", desc := "()I" } : Jvm.MethodName) prog_12_method_9_code (3 : Nat) (Option.some Jvm.ClassFile.FieldType.int)) ∈ lw_all := lw_g (lw_at lw_m7 66 rfl) rfl
theorem q2605 : (Jvm.Cond.castable "BrushGlass$Pairings" "java/lang/Object") ∈ lw_tbl := lw_at lw_m11 76 rfl
theorem in_X17 : ∀ w ∈ wsX170, w ∈ lw_all := lw_in wsX170 [508, 510, 512, 514, 516, 518, 520, 522, 524, 526] (by decide +kernel) (by decide +kernel)

/-! BrushGlass$Colouring -/
set_option maxRecDepth 100000
def RX18 : String := "BrushGlass$Colouring"
def TX18 : u_T := fun k => match k with
  | 0 => ("BrushGlass$Colouring", "of", "[I", true)
  | 1 => ("BrushGlass$Colouring", "glass", "LBrushGlass$Glass;", false)
  | _ => ("BrushGlass$Colouring", "fewest", "I", false)
def tyX18 : Nat → FieldType := fun k => match k with
  | 0 => .array .int
  | 1 => .object "BrushGlass$Glass"
  | _ => .int
abbrev wsX180 : List Cond := u_ws RX18 TX18 3
theorem nmX18 : ∀ a, a < 3 → ∀ b, b < 3 → a ≠ b → (TX18 a).2.1 ≠ (TX18 b).2.1 := by decide +kernel
theorem tyX18_ok : ∀ k, k < 3 → parseFieldDescriptor (TX18 k).2.2.1 = some (tyX18 k) := by decide +kernel
abbrev cX18_init : ByteArray := prog_5_method_1_code
def yX18_init : MethodName := ⟨RX18, "<init>", "()V"⟩
def dkwX18_init_0 : List UInt8 := [42, 183, 0, 3, 42, 16, 7, 188, 10, 181, 0, 9, 177]
abbrev dktX18_init_0 : List UInt8 := dkwX18_init_0 ++ []
theorem dksX18_init_0 : cX18_init.data.toList.drop 0 = dktX18_init_0 := by decide +kernel
theorem dX18_init_0 : decode cX18_init 0 = .ok (.aload_n 0, 1) := dk_42 (dk_at dksX18_init_0 0 rfl rfl)
theorem dX18_init_1 : decode cX18_init 1 = .ok (.invokespecial 3, 3) := dk_183 0 3 (dk_at dksX18_init_0 1 rfl rfl)
theorem dX18_init_4 : decode cX18_init 4 = .ok (.aload_n 0, 1) := dk_42 (dk_at dksX18_init_0 4 rfl rfl)
theorem dX18_init_5 : decode cX18_init 5 = .ok (.bipush 7, 2) := dk_16 7 (dk_at dksX18_init_0 5 rfl rfl)
theorem dX18_init_7 : decode cX18_init 7 = .ok (.newarray .int, 2) := dk_188_10 (dk_at dksX18_init_0 7 rfl rfl)
theorem dX18_init_9 : decode cX18_init 9 = .ok (.putfield 9, 3) := dk_181 0 9 (dk_at dksX18_init_0 9 rfl rfl)
theorem dX18_init_12 : decode cX18_init 12 = .ok (.return_, 1) := dk_177 (dk_at dksX18_init_0 12 rfl rfl)
abbrev cX18_find : ByteArray := prog_5_method_2_code
def yX18_find : MethodName := ⟨RX18, "find", "(LBrushGlass$Glass;)V"⟩
def dkwX18_find_1 : List UInt8 := [96, 181, 0, 19, 167, 255, 238, 177]
abbrev dktX18_find_1 : List UInt8 := dkwX18_find_1 ++ []
def dkwX18_find_0 : List UInt8 := [42, 43, 181, 0, 15, 42, 4, 181, 0, 19, 42, 3, 182, 0, 23, 154, 0, 16, 42, 89, 180, 0, 19, 4]
abbrev dktX18_find_0 : List UInt8 := dkwX18_find_0 ++ dktX18_find_1
theorem dksX18_find_0 : cX18_find.data.toList.drop 0 = dktX18_find_0 := by decide +kernel
theorem dksX18_find_1 : cX18_find.data.toList.drop 24 = dktX18_find_1 := dk_seg dksX18_find_0 24 rfl rfl
theorem dX18_find_0 : decode cX18_find 0 = .ok (.aload_n 0, 1) := dk_42 (dk_at dksX18_find_0 0 rfl rfl)
theorem dX18_find_1 : decode cX18_find 1 = .ok (.aload_n 1, 1) := dk_43 (dk_at dksX18_find_0 1 rfl rfl)
theorem dX18_find_2 : decode cX18_find 2 = .ok (.putfield 15, 3) := dk_181 0 15 (dk_at dksX18_find_0 2 rfl rfl)
theorem dX18_find_5 : decode cX18_find 5 = .ok (.aload_n 0, 1) := dk_42 (dk_at dksX18_find_0 5 rfl rfl)
theorem dX18_find_6 : decode cX18_find 6 = .ok (.iconst 1, 1) := dk_4 (dk_at dksX18_find_0 6 rfl rfl)
theorem dX18_find_7 : decode cX18_find 7 = .ok (.putfield 19, 3) := dk_181 0 19 (dk_at dksX18_find_0 7 rfl rfl)
theorem dX18_find_10 : decode cX18_find 10 = .ok (.aload_n 0, 1) := dk_42 (dk_at dksX18_find_0 10 rfl rfl)
theorem dX18_find_11 : decode cX18_find 11 = .ok (.iconst 0, 1) := dk_3 (dk_at dksX18_find_0 11 rfl rfl)
theorem dX18_find_12 : decode cX18_find 12 = .ok (.invokevirtual 23, 3) := dk_182 0 23 (dk_at dksX18_find_0 12 rfl rfl)
theorem dX18_find_15 : decode cX18_find 15 = .ok (.ifCond .ne 16, 3) := dk_154 0 16 (dk_at dksX18_find_0 15 rfl rfl)
theorem dX18_find_18 : decode cX18_find 18 = .ok (.aload_n 0, 1) := dk_42 (dk_at dksX18_find_0 18 rfl rfl)
theorem dX18_find_19 : decode cX18_find 19 = .ok (.dup, 1) := dk_89 (dk_at dksX18_find_0 19 rfl rfl)
theorem dX18_find_20 : decode cX18_find 20 = .ok (.getfield 19, 3) := dk_180 0 19 (dk_at dksX18_find_0 20 rfl rfl)
theorem dX18_find_23 : decode cX18_find 23 = .ok (.iconst 1, 1) := dk_4 (dk_at dksX18_find_0 23 rfl rfl)
theorem dX18_find_24 : decode cX18_find 24 = .ok (.iadd, 1) := dk_96 (dk_at dksX18_find_1 0 rfl rfl)
theorem dX18_find_25 : decode cX18_find 25 = .ok (.putfield 19, 3) := dk_181 0 19 (dk_at dksX18_find_1 1 rfl rfl)
theorem dX18_find_28 : decode cX18_find 28 = .ok (.goto (-18), 3) := dk_167 255 238 (dk_at dksX18_find_1 4 rfl rfl)
theorem dX18_find_31 : decode cX18_find 31 = .ok (.return_, 1) := dk_177 (dk_at dksX18_find_1 7 rfl rfl)
abbrev cX18_tries : ByteArray := prog_5_method_3_code
def yX18_tries : MethodName := ⟨RX18, "tries", "(I)Z"⟩
def dkwX18_tries_2 : List UInt8 := [153, 0, 5, 4, 172, 42, 180, 0, 9, 27, 92, 46, 4, 96, 79, 167, 255, 213, 3, 172]
abbrev dktX18_tries_2 : List UInt8 := dkwX18_tries_2 ++ []
def dkwX18_tries_1 : List UInt8 := [27, 46, 42, 180, 0, 19, 162, 0, 36, 42, 27, 182, 0, 32, 153, 0, 15, 42, 27, 4, 96, 182, 0, 23]
abbrev dktX18_tries_1 : List UInt8 := dkwX18_tries_1 ++ dktX18_tries_2
def dkwX18_tries_0 : List UInt8 := [27, 42, 180, 0, 15, 180, 0, 27, 160, 0, 5, 4, 172, 42, 180, 0, 9, 27, 3, 79, 42, 180, 0, 9]
abbrev dktX18_tries_0 : List UInt8 := dkwX18_tries_0 ++ dktX18_tries_1
theorem dksX18_tries_0 : cX18_tries.data.toList.drop 0 = dktX18_tries_0 := by decide +kernel
theorem dksX18_tries_1 : cX18_tries.data.toList.drop 24 = dktX18_tries_1 := dk_seg dksX18_tries_0 24 rfl rfl
theorem dksX18_tries_2 : cX18_tries.data.toList.drop 48 = dktX18_tries_2 := dk_seg dksX18_tries_1 24 rfl rfl
theorem dX18_tries_0 : decode cX18_tries 0 = .ok (.iload_n 1, 1) := dk_27 (dk_at dksX18_tries_0 0 rfl rfl)
theorem dX18_tries_1 : decode cX18_tries 1 = .ok (.aload_n 0, 1) := dk_42 (dk_at dksX18_tries_0 1 rfl rfl)
theorem dX18_tries_2 : decode cX18_tries 2 = .ok (.getfield 15, 3) := dk_180 0 15 (dk_at dksX18_tries_0 2 rfl rfl)
theorem dX18_tries_5 : decode cX18_tries 5 = .ok (.getfield 27, 3) := dk_180 0 27 (dk_at dksX18_tries_0 5 rfl rfl)
theorem dX18_tries_8 : decode cX18_tries 8 = .ok (.if_icmp .ne 5, 3) := dk_160 0 5 (dk_at dksX18_tries_0 8 rfl rfl)
theorem dX18_tries_11 : decode cX18_tries 11 = .ok (.iconst 1, 1) := dk_4 (dk_at dksX18_tries_0 11 rfl rfl)
theorem dX18_tries_12 : decode cX18_tries 12 = .ok (.ireturn, 1) := dk_172 (dk_at dksX18_tries_0 12 rfl rfl)
theorem dX18_tries_13 : decode cX18_tries 13 = .ok (.aload_n 0, 1) := dk_42 (dk_at dksX18_tries_0 13 rfl rfl)
theorem dX18_tries_14 : decode cX18_tries 14 = .ok (.getfield 9, 3) := dk_180 0 9 (dk_at dksX18_tries_0 14 rfl rfl)
theorem dX18_tries_17 : decode cX18_tries 17 = .ok (.iload_n 1, 1) := dk_27 (dk_at dksX18_tries_0 17 rfl rfl)
theorem dX18_tries_18 : decode cX18_tries 18 = .ok (.iconst 0, 1) := dk_3 (dk_at dksX18_tries_0 18 rfl rfl)
theorem dX18_tries_19 : decode cX18_tries 19 = .ok (.iastore, 1) := dk_79 (dk_at dksX18_tries_0 19 rfl rfl)
theorem dX18_tries_20 : decode cX18_tries 20 = .ok (.aload_n 0, 1) := dk_42 (dk_at dksX18_tries_0 20 rfl rfl)
theorem dX18_tries_21 : decode cX18_tries 21 = .ok (.getfield 9, 3) := dk_180 0 9 (dk_at dksX18_tries_0 21 rfl rfl)
theorem dX18_tries_24 : decode cX18_tries 24 = .ok (.iload_n 1, 1) := dk_27 (dk_at dksX18_tries_1 0 rfl rfl)
theorem dX18_tries_25 : decode cX18_tries 25 = .ok (.iaload, 1) := dk_46 (dk_at dksX18_tries_1 1 rfl rfl)
theorem dX18_tries_26 : decode cX18_tries 26 = .ok (.aload_n 0, 1) := dk_42 (dk_at dksX18_tries_1 2 rfl rfl)
theorem dX18_tries_27 : decode cX18_tries 27 = .ok (.getfield 19, 3) := dk_180 0 19 (dk_at dksX18_tries_1 3 rfl rfl)
theorem dX18_tries_30 : decode cX18_tries 30 = .ok (.if_icmp .ge 36, 3) := dk_162 0 36 (dk_at dksX18_tries_1 6 rfl rfl)
theorem dX18_tries_33 : decode cX18_tries 33 = .ok (.aload_n 0, 1) := dk_42 (dk_at dksX18_tries_1 9 rfl rfl)
theorem dX18_tries_34 : decode cX18_tries 34 = .ok (.iload_n 1, 1) := dk_27 (dk_at dksX18_tries_1 10 rfl rfl)
theorem dX18_tries_35 : decode cX18_tries 35 = .ok (.invokevirtual 32, 3) := dk_182 0 32 (dk_at dksX18_tries_1 11 rfl rfl)
theorem dX18_tries_38 : decode cX18_tries 38 = .ok (.ifCond .eq 15, 3) := dk_153 0 15 (dk_at dksX18_tries_1 14 rfl rfl)
theorem dX18_tries_41 : decode cX18_tries 41 = .ok (.aload_n 0, 1) := dk_42 (dk_at dksX18_tries_1 17 rfl rfl)
theorem dX18_tries_42 : decode cX18_tries 42 = .ok (.iload_n 1, 1) := dk_27 (dk_at dksX18_tries_1 18 rfl rfl)
theorem dX18_tries_43 : decode cX18_tries 43 = .ok (.iconst 1, 1) := dk_4 (dk_at dksX18_tries_1 19 rfl rfl)
theorem dX18_tries_44 : decode cX18_tries 44 = .ok (.iadd, 1) := dk_96 (dk_at dksX18_tries_1 20 rfl rfl)
theorem dX18_tries_45 : decode cX18_tries 45 = .ok (.invokevirtual 23, 3) := dk_182 0 23 (dk_at dksX18_tries_1 21 rfl rfl)
theorem dX18_tries_48 : decode cX18_tries 48 = .ok (.ifCond .eq 5, 3) := dk_153 0 5 (dk_at dksX18_tries_2 0 rfl rfl)
theorem dX18_tries_51 : decode cX18_tries 51 = .ok (.iconst 1, 1) := dk_4 (dk_at dksX18_tries_2 3 rfl rfl)
theorem dX18_tries_52 : decode cX18_tries 52 = .ok (.ireturn, 1) := dk_172 (dk_at dksX18_tries_2 4 rfl rfl)
theorem dX18_tries_53 : decode cX18_tries 53 = .ok (.aload_n 0, 1) := dk_42 (dk_at dksX18_tries_2 5 rfl rfl)
theorem dX18_tries_54 : decode cX18_tries 54 = .ok (.getfield 9, 3) := dk_180 0 9 (dk_at dksX18_tries_2 6 rfl rfl)
theorem dX18_tries_57 : decode cX18_tries 57 = .ok (.iload_n 1, 1) := dk_27 (dk_at dksX18_tries_2 9 rfl rfl)
theorem dX18_tries_58 : decode cX18_tries 58 = .ok (.dup2, 1) := dk_92 (dk_at dksX18_tries_2 10 rfl rfl)
theorem dX18_tries_59 : decode cX18_tries 59 = .ok (.iaload, 1) := dk_46 (dk_at dksX18_tries_2 11 rfl rfl)
theorem dX18_tries_60 : decode cX18_tries 60 = .ok (.iconst 1, 1) := dk_4 (dk_at dksX18_tries_2 12 rfl rfl)
theorem dX18_tries_61 : decode cX18_tries 61 = .ok (.iadd, 1) := dk_96 (dk_at dksX18_tries_2 13 rfl rfl)
theorem dX18_tries_62 : decode cX18_tries 62 = .ok (.iastore, 1) := dk_79 (dk_at dksX18_tries_2 14 rfl rfl)
theorem dX18_tries_63 : decode cX18_tries 63 = .ok (.goto (-43), 3) := dk_167 255 213 (dk_at dksX18_tries_2 15 rfl rfl)
theorem dX18_tries_66 : decode cX18_tries 66 = .ok (.iconst 0, 1) := dk_3 (dk_at dksX18_tries_2 18 rfl rfl)
theorem dX18_tries_67 : decode cX18_tries 67 = .ok (.ireturn, 1) := dk_172 (dk_at dksX18_tries_2 19 rfl rfl)
abbrev cX18_isRight : ByteArray := prog_5_method_4_code
def yX18_isRight : MethodName := ⟨RX18, "isRight", "(I)Z"⟩
def dkwX18_isRight_2 : List UInt8 := [132, 3, 1, 167, 255, 211, 28, 172]
abbrev dktX18_isRight_2 : List UInt8 := dkwX18_isRight_2 ++ []
def dkwX18_isRight_1 : List UInt8 := [46, 160, 0, 15, 42, 180, 0, 15, 27, 29, 182, 0, 35, 154, 0, 7, 4, 167, 0, 4, 3, 61]
abbrev dktX18_isRight_1 : List UInt8 := dkwX18_isRight_1 ++ dktX18_isRight_2
def dkwX18_isRight_0 : List UInt8 := [4, 61, 3, 62, 29, 27, 162, 0, 46, 28, 153, 0, 34, 42, 180, 0, 9, 29, 46, 42, 180, 0, 9, 27]
abbrev dktX18_isRight_0 : List UInt8 := dkwX18_isRight_0 ++ dktX18_isRight_1
theorem dksX18_isRight_0 : cX18_isRight.data.toList.drop 0 = dktX18_isRight_0 := by decide +kernel
theorem dksX18_isRight_1 : cX18_isRight.data.toList.drop 24 = dktX18_isRight_1 := dk_seg dksX18_isRight_0 24 rfl rfl
theorem dksX18_isRight_2 : cX18_isRight.data.toList.drop 46 = dktX18_isRight_2 := dk_seg dksX18_isRight_1 22 rfl rfl
theorem dX18_isRight_0 : decode cX18_isRight 0 = .ok (.iconst 1, 1) := dk_4 (dk_at dksX18_isRight_0 0 rfl rfl)
theorem dX18_isRight_1 : decode cX18_isRight 1 = .ok (.istore_n 2, 1) := dk_61 (dk_at dksX18_isRight_0 1 rfl rfl)
theorem dX18_isRight_2 : decode cX18_isRight 2 = .ok (.iconst 0, 1) := dk_3 (dk_at dksX18_isRight_0 2 rfl rfl)
theorem dX18_isRight_3 : decode cX18_isRight 3 = .ok (.istore_n 3, 1) := dk_62 (dk_at dksX18_isRight_0 3 rfl rfl)
theorem dX18_isRight_4 : decode cX18_isRight 4 = .ok (.iload_n 3, 1) := dk_29 (dk_at dksX18_isRight_0 4 rfl rfl)
theorem dX18_isRight_5 : decode cX18_isRight 5 = .ok (.iload_n 1, 1) := dk_27 (dk_at dksX18_isRight_0 5 rfl rfl)
theorem dX18_isRight_6 : decode cX18_isRight 6 = .ok (.if_icmp .ge 46, 3) := dk_162 0 46 (dk_at dksX18_isRight_0 6 rfl rfl)
theorem dX18_isRight_9 : decode cX18_isRight 9 = .ok (.iload_n 2, 1) := dk_28 (dk_at dksX18_isRight_0 9 rfl rfl)
theorem dX18_isRight_10 : decode cX18_isRight 10 = .ok (.ifCond .eq 34, 3) := dk_153 0 34 (dk_at dksX18_isRight_0 10 rfl rfl)
theorem dX18_isRight_13 : decode cX18_isRight 13 = .ok (.aload_n 0, 1) := dk_42 (dk_at dksX18_isRight_0 13 rfl rfl)
theorem dX18_isRight_14 : decode cX18_isRight 14 = .ok (.getfield 9, 3) := dk_180 0 9 (dk_at dksX18_isRight_0 14 rfl rfl)
theorem dX18_isRight_17 : decode cX18_isRight 17 = .ok (.iload_n 3, 1) := dk_29 (dk_at dksX18_isRight_0 17 rfl rfl)
theorem dX18_isRight_18 : decode cX18_isRight 18 = .ok (.iaload, 1) := dk_46 (dk_at dksX18_isRight_0 18 rfl rfl)
theorem dX18_isRight_19 : decode cX18_isRight 19 = .ok (.aload_n 0, 1) := dk_42 (dk_at dksX18_isRight_0 19 rfl rfl)
theorem dX18_isRight_20 : decode cX18_isRight 20 = .ok (.getfield 9, 3) := dk_180 0 9 (dk_at dksX18_isRight_0 20 rfl rfl)
theorem dX18_isRight_23 : decode cX18_isRight 23 = .ok (.iload_n 1, 1) := dk_27 (dk_at dksX18_isRight_0 23 rfl rfl)
theorem dX18_isRight_24 : decode cX18_isRight 24 = .ok (.iaload, 1) := dk_46 (dk_at dksX18_isRight_1 0 rfl rfl)
theorem dX18_isRight_25 : decode cX18_isRight 25 = .ok (.if_icmp .ne 15, 3) := dk_160 0 15 (dk_at dksX18_isRight_1 1 rfl rfl)
theorem dX18_isRight_28 : decode cX18_isRight 28 = .ok (.aload_n 0, 1) := dk_42 (dk_at dksX18_isRight_1 4 rfl rfl)
theorem dX18_isRight_29 : decode cX18_isRight 29 = .ok (.getfield 15, 3) := dk_180 0 15 (dk_at dksX18_isRight_1 5 rfl rfl)
theorem dX18_isRight_32 : decode cX18_isRight 32 = .ok (.iload_n 1, 1) := dk_27 (dk_at dksX18_isRight_1 8 rfl rfl)
theorem dX18_isRight_33 : decode cX18_isRight 33 = .ok (.iload_n 3, 1) := dk_29 (dk_at dksX18_isRight_1 9 rfl rfl)
theorem dX18_isRight_34 : decode cX18_isRight 34 = .ok (.invokevirtual 35, 3) := dk_182 0 35 (dk_at dksX18_isRight_1 10 rfl rfl)
theorem dX18_isRight_37 : decode cX18_isRight 37 = .ok (.ifCond .ne 7, 3) := dk_154 0 7 (dk_at dksX18_isRight_1 13 rfl rfl)
theorem dX18_isRight_40 : decode cX18_isRight 40 = .ok (.iconst 1, 1) := dk_4 (dk_at dksX18_isRight_1 16 rfl rfl)
theorem dX18_isRight_41 : decode cX18_isRight 41 = .ok (.goto 4, 3) := dk_167 0 4 (dk_at dksX18_isRight_1 17 rfl rfl)
theorem dX18_isRight_44 : decode cX18_isRight 44 = .ok (.iconst 0, 1) := dk_3 (dk_at dksX18_isRight_1 20 rfl rfl)
theorem dX18_isRight_45 : decode cX18_isRight 45 = .ok (.istore_n 2, 1) := dk_61 (dk_at dksX18_isRight_1 21 rfl rfl)
theorem dX18_isRight_46 : decode cX18_isRight 46 = .ok (.iinc 3 1, 3) := dk_132 3 1 (dk_at dksX18_isRight_2 0 rfl rfl)
theorem dX18_isRight_49 : decode cX18_isRight 49 = .ok (.goto (-45), 3) := dk_167 255 211 (dk_at dksX18_isRight_2 3 rfl rfl)
theorem dX18_isRight_52 : decode cX18_isRight 52 = .ok (.iload_n 2, 1) := dk_28 (dk_at dksX18_isRight_2 6 rfl rfl)
theorem dX18_isRight_53 : decode cX18_isRight 53 = .ok (.ireturn, 1) := dk_172 (dk_at dksX18_isRight_2 7 rfl rfl)
abbrev cX18_of : ByteArray := prog_5_method_5_code
def yX18_of : MethodName := ⟨RX18, "of", "(I)I"⟩
def dkwX18_of_0 : List UInt8 := [42, 180, 0, 9, 27, 46, 172]
abbrev dktX18_of_0 : List UInt8 := dkwX18_of_0 ++ []
theorem dksX18_of_0 : cX18_of.data.toList.drop 0 = dktX18_of_0 := by decide +kernel
theorem dX18_of_0 : decode cX18_of 0 = .ok (.aload_n 0, 1) := dk_42 (dk_at dksX18_of_0 0 rfl rfl)
theorem dX18_of_1 : decode cX18_of 1 = .ok (.getfield 9, 3) := dk_180 0 9 (dk_at dksX18_of_0 1 rfl rfl)
theorem dX18_of_4 : decode cX18_of 4 = .ok (.iload_n 1, 1) := dk_27 (dk_at dksX18_of_0 4 rfl rfl)
theorem dX18_of_5 : decode cX18_of 5 = .ok (.iaload, 1) := dk_46 (dk_at dksX18_of_0 5 rfl rfl)
theorem dX18_of_6 : decode cX18_of 6 = .ok (.ireturn, 1) := dk_172 (dk_at dksX18_of_0 6 rfl rfl)
theorem q150 : (Jvm.Cond.initialized "BrushGlass$Colouring") ∈ lw_all := lw_g (lw_at lw_m1 21 rfl) rfl
theorem q530 : (Jvm.Cond.instantiable "BrushGlass$Colouring" (3 : Nat)) ∈ lw_all := lw_g (lw_at lw_m2 161 rfl) rfl
theorem q532 : (Jvm.Cond.instanceMethod ({ cls := "BrushGlass$Colouring", name := "<init>", desc := "()V" } : Jvm.MethodName)) ∈ lw_all := lw_g (lw_at lw_m2 163 rfl) rfl
theorem q533 : (Jvm.Cond.code ({ cls := "BrushGlass$Colouring", name := "<init>", desc := "()V" } : Jvm.MethodName) prog_5_method_1_code (1 : Nat) (Option.none : Option Jvm.ClassFile.FieldType)) ∈ lw_all := lw_g (lw_at lw_m2 164 rfl) rfl
theorem q534 : (Jvm.Cond.methodLink "BrushGlass$Colouring" (3 : Nat) ({ cls := "java/lang/Object", name := "<init>", desc := "()V" } : Jvm.MethodName)) ∈ lw_all := lw_g (lw_at lw_m2 165 rfl) rfl
theorem q535 : (Jvm.Cond.fieldLink "BrushGlass$Colouring" (9 : Nat) "BrushGlass$Colouring" "of" "[I") ∈ lw_all := lw_g (lw_at lw_m2 166 rfl) rfl
theorem q536 : (Jvm.Cond.fieldLink "BrushGlass$Colouring" (15 : Nat) "BrushGlass$Colouring" "glass" "LBrushGlass$Glass;") ∈ lw_all := lw_g (lw_at lw_m2 167 rfl) rfl
theorem q537 : (Jvm.Cond.fieldLink "BrushGlass$Colouring" (19 : Nat) "BrushGlass$Colouring" "fewest" "I") ∈ lw_all := lw_g (lw_at lw_m2 168 rfl) rfl
theorem q539 : (Jvm.Cond.laysFinal "BrushGlass$Colouring" "BrushGlass$Colouring" "of" "[I") ∈ lw_all := lw_g (lw_at lw_m2 170 rfl) rfl
theorem q540 : (Jvm.Cond.soleField "BrushGlass$Colouring" "of") ∈ lw_all := lw_g (lw_at lw_m2 171 rfl) rfl
theorem q541 : (Jvm.Cond.lays "BrushGlass$Colouring" "BrushGlass$Colouring" "glass" "LBrushGlass$Glass;") ∈ lw_all := lw_g (lw_at lw_m2 172 rfl) rfl
theorem q542 : (Jvm.Cond.soleField "BrushGlass$Colouring" "glass") ∈ lw_all := lw_g (lw_at lw_m2 173 rfl) rfl
theorem q543 : (Jvm.Cond.lays "BrushGlass$Colouring" "BrushGlass$Colouring" "fewest" "I") ∈ lw_all := lw_g (lw_at lw_m2 174 rfl) rfl
theorem q544 : (Jvm.Cond.soleField "BrushGlass$Colouring" "fewest") ∈ lw_all := lw_g (lw_at lw_m2 175 rfl) rfl
theorem q545 : (Jvm.Cond.superclass "BrushGlass$Colouring" "java/lang/Object") ∈ lw_all := lw_g (lw_at lw_m2 176 rfl) rfl
theorem q687 : (Jvm.Cond.fieldLink "BrushGlass$Colouring" (27 : Nat) "BrushGlass$Glass" "personMany" "I") ∈ lw_all := lw_g (lw_at lw_m3 78 rfl) rfl
theorem q1510 : (Jvm.Cond.instanceMethod ({ cls := "BrushGlass$Colouring", name := "find", desc := "(LBrushGlass$Glass;)V" } : Jvm.MethodName)) ∈ lw_all := lw_g (lw_at lw_m6 181 rfl) rfl
theorem q1511 : (Jvm.Cond.selects "BrushGlass$Colouring" ({ cls := "BrushGlass$Colouring", name := "find", desc := "(LBrushGlass$Glass;)V" } : Jvm.MethodName) ({ cls := "BrushGlass$Colouring", name := "find", desc := "(LBrushGlass$Glass;)V" } : Jvm.MethodName)) ∈ lw_all := lw_g (lw_at lw_m6 182 rfl) rfl
theorem q1512 : (Jvm.Cond.code ({ cls := "BrushGlass$Colouring", name := "find", desc := "(LBrushGlass$Glass;)V" } : Jvm.MethodName) prog_5_method_2_code (2 : Nat) (Option.none : Option Jvm.ClassFile.FieldType)) ∈ lw_all := lw_g (lw_at lw_m6 183 rfl) rfl
theorem q1513 : (Jvm.Cond.methodLink "BrushGlass$Colouring" (23 : Nat) ({ cls := "BrushGlass$Colouring", name := "tries", desc := "(I)Z" } : Jvm.MethodName)) ∈ lw_all := lw_g (lw_at lw_m6 184 rfl) rfl
theorem q1514 : (Jvm.Cond.privateMethod ({ cls := "BrushGlass$Colouring", name := "tries", desc := "(I)Z" } : Jvm.MethodName)) ∈ lw_tbl := lw_at lw_m6 185 rfl
theorem q1515 : (Jvm.Cond.instanceMethod ({ cls := "BrushGlass$Colouring", name := "tries", desc := "(I)Z" } : Jvm.MethodName)) ∈ lw_all := lw_g (lw_at lw_m6 186 rfl) rfl
theorem q1516 : (Jvm.Cond.code ({ cls := "BrushGlass$Colouring", name := "tries", desc := "(I)Z" } : Jvm.MethodName) prog_5_method_3_code (2 : Nat) (Option.some Jvm.ClassFile.FieldType.boolean)) ∈ lw_all := lw_g (lw_at lw_m6 187 rfl) rfl
theorem q1517 : (Jvm.Cond.methodLink "BrushGlass$Colouring" (32 : Nat) ({ cls := "BrushGlass$Colouring", name := "isRight", desc := "(I)Z" } : Jvm.MethodName)) ∈ lw_all := lw_g (lw_at lw_m6 188 rfl) rfl
theorem q1518 : (Jvm.Cond.privateMethod ({ cls := "BrushGlass$Colouring", name := "isRight", desc := "(I)Z" } : Jvm.MethodName)) ∈ lw_tbl := lw_at lw_m6 189 rfl
theorem q1519 : (Jvm.Cond.instanceMethod ({ cls := "BrushGlass$Colouring", name := "isRight", desc := "(I)Z" } : Jvm.MethodName)) ∈ lw_all := lw_g (lw_at lw_m6 190 rfl) rfl
theorem q1520 : (Jvm.Cond.code ({ cls := "BrushGlass$Colouring", name := "isRight", desc := "(I)Z" } : Jvm.MethodName) prog_5_method_4_code (4 : Nat) (Option.some Jvm.ClassFile.FieldType.boolean)) ∈ lw_all := lw_g (lw_at lw_m6 191 rfl) rfl
theorem q1521 : (Jvm.Cond.methodLink "BrushGlass$Colouring" (35 : Nat) ({ cls := "BrushGlass$Glass", name := "doMeet", desc := "(II)Z" } : Jvm.MethodName)) ∈ lw_all := lw_g (lw_at lw_m6 192 rfl) rfl
theorem q1530 : (Jvm.Cond.instanceMethod ({ cls := "BrushGlass$Colouring", name := "of", desc := "(I)I" } : Jvm.MethodName)) ∈ lw_all := lw_g (lw_at lw_m6 201 rfl) rfl
theorem q1531 : (Jvm.Cond.selects "BrushGlass$Colouring" ({ cls := "BrushGlass$Colouring", name := "of", desc := "(I)I" } : Jvm.MethodName) ({ cls := "BrushGlass$Colouring", name := "of", desc := "(I)I" } : Jvm.MethodName)) ∈ lw_all := lw_g (lw_at lw_m6 202 rfl) rfl
theorem q1532 : (Jvm.Cond.code ({ cls := "BrushGlass$Colouring", name := "of", desc := "(I)I" } : Jvm.MethodName) prog_5_method_5_code (2 : Nat) (Option.some Jvm.ClassFile.FieldType.int)) ∈ lw_all := lw_g (lw_at lw_m6 203 rfl) rfl
theorem q2606 : (Jvm.Cond.castable "BrushGlass$Colouring" "java/lang/Object") ∈ lw_tbl := lw_at lw_m11 77 rfl
theorem in_X18 : ∀ w ∈ wsX180, w ∈ lw_all := lw_in wsX180 [539, 541, 543] (by decide +kernel) (by decide +kernel)

/-! BrushGlass$Glass -/
set_option maxRecDepth 100000
def RX20 : String := "BrushGlass$Glass"
def TX20 : u_T := fun k => match k with
  | 0 => ("BrushGlass$Glass", "people", "[LBrushGlass$Person;", true)
  | 1 => ("BrushGlass$Glass", "moves", "[LBrushGlass$Move;", true)
  | 2 => ("BrushGlass$Glass", "seeings", "[LBrushGlass$Seeing;", true)
  | 3 => ("BrushGlass$Glass", "sayings", "[LBrushGlass$Saying;", true)
  | 4 => ("BrushGlass$Glass", "days", "I", false)
  | 5 => ("BrushGlass$Glass", "places", "I", false)
  | 6 => ("BrushGlass$Glass", "colours", "I", false)
  | 7 => ("BrushGlass$Glass", "reach", "I", false)
  | 8 => ("BrushGlass$Glass", "personMany", "I", false)
  | 9 => ("BrushGlass$Glass", "moveMany", "I", false)
  | 10 => ("BrushGlass$Glass", "seeingMany", "I", false)
  | _ => ("BrushGlass$Glass", "sayingMany", "I", false)
def tyX20 : Nat → FieldType := fun k => match k with
  | 0 => .array (.object "BrushGlass$Person")
  | 1 => .array (.object "BrushGlass$Move")
  | 2 => .array (.object "BrushGlass$Seeing")
  | 3 => .array (.object "BrushGlass$Saying")
  | 4 => .int
  | 5 => .int
  | 6 => .int
  | 7 => .int
  | 8 => .int
  | 9 => .int
  | 10 => .int
  | _ => .int
abbrev wsX200 : List Cond := u_ws RX20 TX20 12
theorem nmX20 : ∀ a, a < 12 → ∀ b, b < 12 → a ≠ b → (TX20 a).2.1 ≠ (TX20 b).2.1 := by decide +kernel
theorem tyX20_ok : ∀ k, k < 12 → parseFieldDescriptor (TX20 k).2.2.1 = some (tyX20 k) := by decide +kernel
abbrev cX20_init : ByteArray := prog_6_method_1_code
def yX20_init : MethodName := ⟨RX20, "<init>", "()V"⟩
def dkwX20_init_1 : List UInt8 := [16, 6, 189, 0, 23, 181, 0, 25, 42, 16, 8, 189, 0, 29, 181, 0, 31, 177]
abbrev dktX20_init_1 : List UInt8 := dkwX20_init_1 ++ []
def dkwX20_init_0 : List UInt8 := [42, 183, 0, 3, 42, 16, 7, 189, 0, 9, 181, 0, 11, 42, 16, 10, 189, 0, 17, 181, 0, 19, 42]
abbrev dktX20_init_0 : List UInt8 := dkwX20_init_0 ++ dktX20_init_1
theorem dksX20_init_0 : cX20_init.data.toList.drop 0 = dktX20_init_0 := by decide +kernel
theorem dksX20_init_1 : cX20_init.data.toList.drop 23 = dktX20_init_1 := dk_seg dksX20_init_0 23 rfl rfl
theorem dX20_init_0 : decode cX20_init 0 = .ok (.aload_n 0, 1) := dk_42 (dk_at dksX20_init_0 0 rfl rfl)
theorem dX20_init_1 : decode cX20_init 1 = .ok (.invokespecial 3, 3) := dk_183 0 3 (dk_at dksX20_init_0 1 rfl rfl)
theorem dX20_init_4 : decode cX20_init 4 = .ok (.aload_n 0, 1) := dk_42 (dk_at dksX20_init_0 4 rfl rfl)
theorem dX20_init_5 : decode cX20_init 5 = .ok (.bipush 7, 2) := dk_16 7 (dk_at dksX20_init_0 5 rfl rfl)
theorem dX20_init_7 : decode cX20_init 7 = .ok (.anewarray 9, 3) := dk_189 0 9 (dk_at dksX20_init_0 7 rfl rfl)
theorem dX20_init_10 : decode cX20_init 10 = .ok (.putfield 11, 3) := dk_181 0 11 (dk_at dksX20_init_0 10 rfl rfl)
theorem dX20_init_13 : decode cX20_init 13 = .ok (.aload_n 0, 1) := dk_42 (dk_at dksX20_init_0 13 rfl rfl)
theorem dX20_init_14 : decode cX20_init 14 = .ok (.bipush 10, 2) := dk_16 10 (dk_at dksX20_init_0 14 rfl rfl)
theorem dX20_init_16 : decode cX20_init 16 = .ok (.anewarray 17, 3) := dk_189 0 17 (dk_at dksX20_init_0 16 rfl rfl)
theorem dX20_init_19 : decode cX20_init 19 = .ok (.putfield 19, 3) := dk_181 0 19 (dk_at dksX20_init_0 19 rfl rfl)
theorem dX20_init_22 : decode cX20_init 22 = .ok (.aload_n 0, 1) := dk_42 (dk_at dksX20_init_0 22 rfl rfl)
theorem dX20_init_23 : decode cX20_init 23 = .ok (.bipush 6, 2) := dk_16 6 (dk_at dksX20_init_1 0 rfl rfl)
theorem dX20_init_25 : decode cX20_init 25 = .ok (.anewarray 23, 3) := dk_189 0 23 (dk_at dksX20_init_1 2 rfl rfl)
theorem dX20_init_28 : decode cX20_init 28 = .ok (.putfield 25, 3) := dk_181 0 25 (dk_at dksX20_init_1 5 rfl rfl)
theorem dX20_init_31 : decode cX20_init 31 = .ok (.aload_n 0, 1) := dk_42 (dk_at dksX20_init_1 8 rfl rfl)
theorem dX20_init_32 : decode cX20_init 32 = .ok (.bipush 8, 2) := dk_16 8 (dk_at dksX20_init_1 9 rfl rfl)
theorem dX20_init_34 : decode cX20_init 34 = .ok (.anewarray 29, 3) := dk_189 0 29 (dk_at dksX20_init_1 11 rfl rfl)
theorem dX20_init_37 : decode cX20_init 37 = .ok (.putfield 31, 3) := dk_181 0 31 (dk_at dksX20_init_1 14 rfl rfl)
theorem dX20_init_40 : decode cX20_init 40 = .ok (.return_, 1) := dk_177 (dk_at dksX20_init_1 17 rfl rfl)
abbrev cX20_find : ByteArray := prog_6_method_2_code
def yX20_find : MethodName := ⟨RX20, "find", "(Ljava/lang/String;)LBrushGlass$Person;"⟩
def dkwX20_find_1 : List UInt8 := [153, 0, 10, 42, 180, 0, 11, 28, 50, 176, 132, 2, 1, 167, 255, 222, 1, 176]
abbrev dktX20_find_1 : List UInt8 := dkwX20_find_1 ++ []
def dkwX20_find_0 : List UInt8 := [3, 61, 28, 42, 180, 0, 35, 162, 0, 32, 42, 180, 0, 11, 28, 50, 180, 0, 39, 43, 182, 0, 43]
abbrev dktX20_find_0 : List UInt8 := dkwX20_find_0 ++ dktX20_find_1
theorem dksX20_find_0 : cX20_find.data.toList.drop 0 = dktX20_find_0 := by decide +kernel
theorem dksX20_find_1 : cX20_find.data.toList.drop 23 = dktX20_find_1 := dk_seg dksX20_find_0 23 rfl rfl
theorem dX20_find_0 : decode cX20_find 0 = .ok (.iconst 0, 1) := dk_3 (dk_at dksX20_find_0 0 rfl rfl)
theorem dX20_find_1 : decode cX20_find 1 = .ok (.istore_n 2, 1) := dk_61 (dk_at dksX20_find_0 1 rfl rfl)
theorem dX20_find_2 : decode cX20_find 2 = .ok (.iload_n 2, 1) := dk_28 (dk_at dksX20_find_0 2 rfl rfl)
theorem dX20_find_3 : decode cX20_find 3 = .ok (.aload_n 0, 1) := dk_42 (dk_at dksX20_find_0 3 rfl rfl)
theorem dX20_find_4 : decode cX20_find 4 = .ok (.getfield 35, 3) := dk_180 0 35 (dk_at dksX20_find_0 4 rfl rfl)
theorem dX20_find_7 : decode cX20_find 7 = .ok (.if_icmp .ge 32, 3) := dk_162 0 32 (dk_at dksX20_find_0 7 rfl rfl)
theorem dX20_find_10 : decode cX20_find 10 = .ok (.aload_n 0, 1) := dk_42 (dk_at dksX20_find_0 10 rfl rfl)
theorem dX20_find_11 : decode cX20_find 11 = .ok (.getfield 11, 3) := dk_180 0 11 (dk_at dksX20_find_0 11 rfl rfl)
theorem dX20_find_14 : decode cX20_find 14 = .ok (.iload_n 2, 1) := dk_28 (dk_at dksX20_find_0 14 rfl rfl)
theorem dX20_find_15 : decode cX20_find 15 = .ok (.aaload, 1) := dk_50 (dk_at dksX20_find_0 15 rfl rfl)
theorem dX20_find_16 : decode cX20_find 16 = .ok (.getfield 39, 3) := dk_180 0 39 (dk_at dksX20_find_0 16 rfl rfl)
theorem dX20_find_19 : decode cX20_find 19 = .ok (.aload_n 1, 1) := dk_43 (dk_at dksX20_find_0 19 rfl rfl)
theorem dX20_find_20 : decode cX20_find 20 = .ok (.invokevirtual 43, 3) := dk_182 0 43 (dk_at dksX20_find_0 20 rfl rfl)
theorem dX20_find_23 : decode cX20_find 23 = .ok (.ifCond .eq 10, 3) := dk_153 0 10 (dk_at dksX20_find_1 0 rfl rfl)
theorem dX20_find_26 : decode cX20_find 26 = .ok (.aload_n 0, 1) := dk_42 (dk_at dksX20_find_1 3 rfl rfl)
theorem dX20_find_27 : decode cX20_find 27 = .ok (.getfield 11, 3) := dk_180 0 11 (dk_at dksX20_find_1 4 rfl rfl)
theorem dX20_find_30 : decode cX20_find 30 = .ok (.iload_n 2, 1) := dk_28 (dk_at dksX20_find_1 7 rfl rfl)
theorem dX20_find_31 : decode cX20_find 31 = .ok (.aaload, 1) := dk_50 (dk_at dksX20_find_1 8 rfl rfl)
theorem dX20_find_32 : decode cX20_find 32 = .ok (.areturn, 1) := dk_176 (dk_at dksX20_find_1 9 rfl rfl)
theorem dX20_find_33 : decode cX20_find 33 = .ok (.iinc 2 1, 3) := dk_132 2 1 (dk_at dksX20_find_1 10 rfl rfl)
theorem dX20_find_36 : decode cX20_find 36 = .ok (.goto (-34), 3) := dk_167 255 222 (dk_at dksX20_find_1 13 rfl rfl)
theorem dX20_find_39 : decode cX20_find 39 = .ok (.aconst_null, 1) := dk_1 (dk_at dksX20_find_1 16 rfl rfl)
theorem dX20_find_40 : decode cX20_find 40 = .ok (.areturn, 1) := dk_176 (dk_at dksX20_find_1 17 rfl rfl)
abbrev cX20_here : ByteArray := prog_6_method_3_code
def yX20_here : MethodName := ⟨RX20, "here", "(I)I"⟩
def dkwX20_here_1 : List UInt8 := [153, 0, 9, 4, 29, 120, 167, 0, 4, 3, 128, 61, 132, 3, 1, 167, 255, 222, 28, 172]
abbrev dktX20_here_1 : List UInt8 := dkwX20_here_1 ++ []
def dkwX20_here_0 : List UInt8 := [3, 61, 3, 62, 29, 42, 180, 0, 35, 162, 0, 32, 28, 42, 180, 0, 11, 29, 50, 27, 182, 0, 49]
abbrev dktX20_here_0 : List UInt8 := dkwX20_here_0 ++ dktX20_here_1
theorem dksX20_here_0 : cX20_here.data.toList.drop 0 = dktX20_here_0 := by decide +kernel
theorem dksX20_here_1 : cX20_here.data.toList.drop 23 = dktX20_here_1 := dk_seg dksX20_here_0 23 rfl rfl
theorem dX20_here_0 : decode cX20_here 0 = .ok (.iconst 0, 1) := dk_3 (dk_at dksX20_here_0 0 rfl rfl)
theorem dX20_here_1 : decode cX20_here 1 = .ok (.istore_n 2, 1) := dk_61 (dk_at dksX20_here_0 1 rfl rfl)
theorem dX20_here_2 : decode cX20_here 2 = .ok (.iconst 0, 1) := dk_3 (dk_at dksX20_here_0 2 rfl rfl)
theorem dX20_here_3 : decode cX20_here 3 = .ok (.istore_n 3, 1) := dk_62 (dk_at dksX20_here_0 3 rfl rfl)
theorem dX20_here_4 : decode cX20_here 4 = .ok (.iload_n 3, 1) := dk_29 (dk_at dksX20_here_0 4 rfl rfl)
theorem dX20_here_5 : decode cX20_here 5 = .ok (.aload_n 0, 1) := dk_42 (dk_at dksX20_here_0 5 rfl rfl)
theorem dX20_here_6 : decode cX20_here 6 = .ok (.getfield 35, 3) := dk_180 0 35 (dk_at dksX20_here_0 6 rfl rfl)
theorem dX20_here_9 : decode cX20_here 9 = .ok (.if_icmp .ge 32, 3) := dk_162 0 32 (dk_at dksX20_here_0 9 rfl rfl)
theorem dX20_here_12 : decode cX20_here 12 = .ok (.iload_n 2, 1) := dk_28 (dk_at dksX20_here_0 12 rfl rfl)
theorem dX20_here_13 : decode cX20_here 13 = .ok (.aload_n 0, 1) := dk_42 (dk_at dksX20_here_0 13 rfl rfl)
theorem dX20_here_14 : decode cX20_here 14 = .ok (.getfield 11, 3) := dk_180 0 11 (dk_at dksX20_here_0 14 rfl rfl)
theorem dX20_here_17 : decode cX20_here 17 = .ok (.iload_n 3, 1) := dk_29 (dk_at dksX20_here_0 17 rfl rfl)
theorem dX20_here_18 : decode cX20_here 18 = .ok (.aaload, 1) := dk_50 (dk_at dksX20_here_0 18 rfl rfl)
theorem dX20_here_19 : decode cX20_here 19 = .ok (.iload_n 1, 1) := dk_27 (dk_at dksX20_here_0 19 rfl rfl)
theorem dX20_here_20 : decode cX20_here 20 = .ok (.invokevirtual 49, 3) := dk_182 0 49 (dk_at dksX20_here_0 20 rfl rfl)
theorem dX20_here_23 : decode cX20_here 23 = .ok (.ifCond .eq 9, 3) := dk_153 0 9 (dk_at dksX20_here_1 0 rfl rfl)
theorem dX20_here_26 : decode cX20_here 26 = .ok (.iconst 1, 1) := dk_4 (dk_at dksX20_here_1 3 rfl rfl)
theorem dX20_here_27 : decode cX20_here 27 = .ok (.iload_n 3, 1) := dk_29 (dk_at dksX20_here_1 4 rfl rfl)
theorem dX20_here_28 : decode cX20_here 28 = .ok (.ishl, 1) := dk_120 (dk_at dksX20_here_1 5 rfl rfl)
theorem dX20_here_29 : decode cX20_here 29 = .ok (.goto 4, 3) := dk_167 0 4 (dk_at dksX20_here_1 6 rfl rfl)
theorem dX20_here_32 : decode cX20_here 32 = .ok (.iconst 0, 1) := dk_3 (dk_at dksX20_here_1 9 rfl rfl)
theorem dX20_here_33 : decode cX20_here 33 = .ok (.ior, 1) := dk_128 (dk_at dksX20_here_1 10 rfl rfl)
theorem dX20_here_34 : decode cX20_here 34 = .ok (.istore_n 2, 1) := dk_61 (dk_at dksX20_here_1 11 rfl rfl)
theorem dX20_here_35 : decode cX20_here 35 = .ok (.iinc 3 1, 3) := dk_132 3 1 (dk_at dksX20_here_1 12 rfl rfl)
theorem dX20_here_38 : decode cX20_here 38 = .ok (.goto (-34), 3) := dk_167 255 222 (dk_at dksX20_here_1 15 rfl rfl)
theorem dX20_here_41 : decode cX20_here 41 = .ok (.iload_n 2, 1) := dk_28 (dk_at dksX20_here_1 18 rfl rfl)
theorem dX20_here_42 : decode cX20_here 42 = .ok (.ireturn, 1) := dk_172 (dk_at dksX20_here_1 19 rfl rfl)
abbrev cX20_doMeet : ByteArray := prog_6_method_4_code
def yX20_doMeet : MethodName := ⟨RX20, "doMeet", "(II)Z"⟩
def dkwX20_doMeet_2 : List UInt8 := [167, 0, 4, 3, 62, 132, 4, 1, 167, 255, 206, 29, 172]
abbrev dktX20_doMeet_2 : List UInt8 := dkwX20_doMeet_2 ++ []
def dkwX20_doMeet_1 : List UInt8 := [21, 4, 182, 0, 49, 153, 0, 21, 42, 180, 0, 11, 28, 50, 21, 4, 182, 0, 49, 153, 0, 7, 4]
abbrev dktX20_doMeet_1 : List UInt8 := dkwX20_doMeet_1 ++ dktX20_doMeet_2
def dkwX20_doMeet_0 : List UInt8 := [3, 62, 3, 54, 4, 21, 4, 42, 180, 0, 53, 162, 0, 47, 29, 154, 0, 31, 42, 180, 0, 11, 27, 50]
abbrev dktX20_doMeet_0 : List UInt8 := dkwX20_doMeet_0 ++ dktX20_doMeet_1
theorem dksX20_doMeet_0 : cX20_doMeet.data.toList.drop 0 = dktX20_doMeet_0 := by decide +kernel
theorem dksX20_doMeet_1 : cX20_doMeet.data.toList.drop 24 = dktX20_doMeet_1 := dk_seg dksX20_doMeet_0 24 rfl rfl
theorem dksX20_doMeet_2 : cX20_doMeet.data.toList.drop 47 = dktX20_doMeet_2 := dk_seg dksX20_doMeet_1 23 rfl rfl
theorem dX20_doMeet_0 : decode cX20_doMeet 0 = .ok (.iconst 0, 1) := dk_3 (dk_at dksX20_doMeet_0 0 rfl rfl)
theorem dX20_doMeet_1 : decode cX20_doMeet 1 = .ok (.istore_n 3, 1) := dk_62 (dk_at dksX20_doMeet_0 1 rfl rfl)
theorem dX20_doMeet_2 : decode cX20_doMeet 2 = .ok (.iconst 0, 1) := dk_3 (dk_at dksX20_doMeet_0 2 rfl rfl)
theorem dX20_doMeet_3 : decode cX20_doMeet 3 = .ok (.istore 4, 2) := dk_54 4 (dk_at dksX20_doMeet_0 3 rfl rfl)
theorem dX20_doMeet_5 : decode cX20_doMeet 5 = .ok (.iload 4, 2) := dk_21 4 (dk_at dksX20_doMeet_0 5 rfl rfl)
theorem dX20_doMeet_7 : decode cX20_doMeet 7 = .ok (.aload_n 0, 1) := dk_42 (dk_at dksX20_doMeet_0 7 rfl rfl)
theorem dX20_doMeet_8 : decode cX20_doMeet 8 = .ok (.getfield 53, 3) := dk_180 0 53 (dk_at dksX20_doMeet_0 8 rfl rfl)
theorem dX20_doMeet_11 : decode cX20_doMeet 11 = .ok (.if_icmp .ge 47, 3) := dk_162 0 47 (dk_at dksX20_doMeet_0 11 rfl rfl)
theorem dX20_doMeet_14 : decode cX20_doMeet 14 = .ok (.iload_n 3, 1) := dk_29 (dk_at dksX20_doMeet_0 14 rfl rfl)
theorem dX20_doMeet_15 : decode cX20_doMeet 15 = .ok (.ifCond .ne 31, 3) := dk_154 0 31 (dk_at dksX20_doMeet_0 15 rfl rfl)
theorem dX20_doMeet_18 : decode cX20_doMeet 18 = .ok (.aload_n 0, 1) := dk_42 (dk_at dksX20_doMeet_0 18 rfl rfl)
theorem dX20_doMeet_19 : decode cX20_doMeet 19 = .ok (.getfield 11, 3) := dk_180 0 11 (dk_at dksX20_doMeet_0 19 rfl rfl)
theorem dX20_doMeet_22 : decode cX20_doMeet 22 = .ok (.iload_n 1, 1) := dk_27 (dk_at dksX20_doMeet_0 22 rfl rfl)
theorem dX20_doMeet_23 : decode cX20_doMeet 23 = .ok (.aaload, 1) := dk_50 (dk_at dksX20_doMeet_0 23 rfl rfl)
theorem dX20_doMeet_24 : decode cX20_doMeet 24 = .ok (.iload 4, 2) := dk_21 4 (dk_at dksX20_doMeet_1 0 rfl rfl)
theorem dX20_doMeet_26 : decode cX20_doMeet 26 = .ok (.invokevirtual 49, 3) := dk_182 0 49 (dk_at dksX20_doMeet_1 2 rfl rfl)
theorem dX20_doMeet_29 : decode cX20_doMeet 29 = .ok (.ifCond .eq 21, 3) := dk_153 0 21 (dk_at dksX20_doMeet_1 5 rfl rfl)
theorem dX20_doMeet_32 : decode cX20_doMeet 32 = .ok (.aload_n 0, 1) := dk_42 (dk_at dksX20_doMeet_1 8 rfl rfl)
theorem dX20_doMeet_33 : decode cX20_doMeet 33 = .ok (.getfield 11, 3) := dk_180 0 11 (dk_at dksX20_doMeet_1 9 rfl rfl)
theorem dX20_doMeet_36 : decode cX20_doMeet 36 = .ok (.iload_n 2, 1) := dk_28 (dk_at dksX20_doMeet_1 12 rfl rfl)
theorem dX20_doMeet_37 : decode cX20_doMeet 37 = .ok (.aaload, 1) := dk_50 (dk_at dksX20_doMeet_1 13 rfl rfl)
theorem dX20_doMeet_38 : decode cX20_doMeet 38 = .ok (.iload 4, 2) := dk_21 4 (dk_at dksX20_doMeet_1 14 rfl rfl)
theorem dX20_doMeet_40 : decode cX20_doMeet 40 = .ok (.invokevirtual 49, 3) := dk_182 0 49 (dk_at dksX20_doMeet_1 16 rfl rfl)
theorem dX20_doMeet_43 : decode cX20_doMeet 43 = .ok (.ifCond .eq 7, 3) := dk_153 0 7 (dk_at dksX20_doMeet_1 19 rfl rfl)
theorem dX20_doMeet_46 : decode cX20_doMeet 46 = .ok (.iconst 1, 1) := dk_4 (dk_at dksX20_doMeet_1 22 rfl rfl)
theorem dX20_doMeet_47 : decode cX20_doMeet 47 = .ok (.goto 4, 3) := dk_167 0 4 (dk_at dksX20_doMeet_2 0 rfl rfl)
theorem dX20_doMeet_50 : decode cX20_doMeet 50 = .ok (.iconst 0, 1) := dk_3 (dk_at dksX20_doMeet_2 3 rfl rfl)
theorem dX20_doMeet_51 : decode cX20_doMeet 51 = .ok (.istore_n 3, 1) := dk_62 (dk_at dksX20_doMeet_2 4 rfl rfl)
theorem dX20_doMeet_52 : decode cX20_doMeet 52 = .ok (.iinc 4 1, 3) := dk_132 4 1 (dk_at dksX20_doMeet_2 5 rfl rfl)
theorem dX20_doMeet_55 : decode cX20_doMeet 55 = .ok (.goto (-50), 3) := dk_167 255 206 (dk_at dksX20_doMeet_2 8 rfl rfl)
theorem dX20_doMeet_58 : decode cX20_doMeet 58 = .ok (.iload_n 3, 1) := dk_29 (dk_at dksX20_doMeet_2 11 rfl rfl)
theorem dX20_doMeet_59 : decode cX20_doMeet 59 = .ok (.ireturn, 1) := dk_172 (dk_at dksX20_doMeet_2 12 rfl rfl)
theorem q152 : (Jvm.Cond.initialized "BrushGlass$Glass") ∈ lw_all := lw_g (lw_at lw_m1 23 rfl) rfl
theorem q643 : (Jvm.Cond.instantiable "BrushGlass$Glass" (12 : Nat)) ∈ lw_all := lw_g (lw_at lw_m3 34 rfl) rfl
theorem q645 : (Jvm.Cond.instanceMethod ({ cls := "BrushGlass$Glass", name := "<init>", desc := "()V" } : Jvm.MethodName)) ∈ lw_all := lw_g (lw_at lw_m3 36 rfl) rfl
theorem q646 : (Jvm.Cond.code ({ cls := "BrushGlass$Glass", name := "<init>", desc := "()V" } : Jvm.MethodName) prog_6_method_1_code (1 : Nat) (Option.none : Option Jvm.ClassFile.FieldType)) ∈ lw_all := lw_g (lw_at lw_m3 37 rfl) rfl
theorem q647 : (Jvm.Cond.methodLink "BrushGlass$Glass" (3 : Nat) ({ cls := "java/lang/Object", name := "<init>", desc := "()V" } : Jvm.MethodName)) ∈ lw_all := lw_g (lw_at lw_m3 38 rfl) rfl
theorem q648 : (Jvm.Cond.classLink "BrushGlass$Glass" (9 : Nat) "BrushGlass$Person") ∈ lw_all := lw_g (lw_at lw_m3 39 rfl) rfl
theorem q650 : (Jvm.Cond.classLink "BrushGlass$Glass" (17 : Nat) "BrushGlass$Move") ∈ lw_all := lw_g (lw_at lw_m3 41 rfl) rfl
theorem q651 : (Jvm.Cond.classLink "BrushGlass$Glass" (23 : Nat) "BrushGlass$Seeing") ∈ lw_all := lw_g (lw_at lw_m3 42 rfl) rfl
theorem q653 : (Jvm.Cond.classLink "BrushGlass$Glass" (29 : Nat) "BrushGlass$Saying") ∈ lw_all := lw_g (lw_at lw_m3 44 rfl) rfl
theorem q655 : (Jvm.Cond.fieldLink "BrushGlass$Glass" (11 : Nat) "BrushGlass$Glass" "people" "[LBrushGlass$Person;") ∈ lw_all := lw_g (lw_at lw_m3 46 rfl) rfl
theorem q661 : (Jvm.Cond.fieldLink "BrushGlass$Glass" (19 : Nat) "BrushGlass$Glass" "moves" "[LBrushGlass$Move;") ∈ lw_all := lw_g (lw_at lw_m3 52 rfl) rfl
theorem q664 : (Jvm.Cond.fieldLink "BrushGlass$Glass" (25 : Nat) "BrushGlass$Glass" "seeings" "[LBrushGlass$Seeing;") ∈ lw_all := lw_g (lw_at lw_m3 55 rfl) rfl
theorem q668 : (Jvm.Cond.fieldLink "BrushGlass$Glass" (31 : Nat) "BrushGlass$Glass" "sayings" "[LBrushGlass$Saying;") ∈ lw_all := lw_g (lw_at lw_m3 59 rfl) rfl
theorem q672 : (Jvm.Cond.fieldLink "BrushGlass$Glass" (53 : Nat) "BrushGlass$Glass" "days" "I") ∈ lw_all := lw_g (lw_at lw_m3 63 rfl) rfl
theorem q683 : (Jvm.Cond.fieldLink "BrushGlass$Glass" (35 : Nat) "BrushGlass$Glass" "personMany" "I") ∈ lw_all := lw_g (lw_at lw_m3 74 rfl) rfl
theorem q698 : (Jvm.Cond.laysFinal "BrushGlass$Glass" "BrushGlass$Glass" "people" "[LBrushGlass$Person;") ∈ lw_all := lw_g (lw_at lw_m3 89 rfl) rfl
theorem q699 : (Jvm.Cond.soleField "BrushGlass$Glass" "people") ∈ lw_all := lw_g (lw_at lw_m3 90 rfl) rfl
theorem q700 : (Jvm.Cond.laysFinal "BrushGlass$Glass" "BrushGlass$Glass" "moves" "[LBrushGlass$Move;") ∈ lw_all := lw_g (lw_at lw_m3 91 rfl) rfl
theorem q701 : (Jvm.Cond.soleField "BrushGlass$Glass" "moves") ∈ lw_all := lw_g (lw_at lw_m3 92 rfl) rfl
theorem q702 : (Jvm.Cond.laysFinal "BrushGlass$Glass" "BrushGlass$Glass" "seeings" "[LBrushGlass$Seeing;") ∈ lw_all := lw_g (lw_at lw_m3 93 rfl) rfl
theorem q703 : (Jvm.Cond.soleField "BrushGlass$Glass" "seeings") ∈ lw_all := lw_g (lw_at lw_m3 94 rfl) rfl
theorem q704 : (Jvm.Cond.laysFinal "BrushGlass$Glass" "BrushGlass$Glass" "sayings" "[LBrushGlass$Saying;") ∈ lw_all := lw_g (lw_at lw_m3 95 rfl) rfl
theorem q705 : (Jvm.Cond.soleField "BrushGlass$Glass" "sayings") ∈ lw_all := lw_g (lw_at lw_m3 96 rfl) rfl
theorem q706 : (Jvm.Cond.lays "BrushGlass$Glass" "BrushGlass$Glass" "days" "I") ∈ lw_all := lw_g (lw_at lw_m3 97 rfl) rfl
theorem q707 : (Jvm.Cond.soleField "BrushGlass$Glass" "days") ∈ lw_all := lw_g (lw_at lw_m3 98 rfl) rfl
theorem q708 : (Jvm.Cond.lays "BrushGlass$Glass" "BrushGlass$Glass" "places" "I") ∈ lw_all := lw_g (lw_at lw_m3 99 rfl) rfl
theorem q709 : (Jvm.Cond.soleField "BrushGlass$Glass" "places") ∈ lw_all := lw_g (lw_at lw_m3 100 rfl) rfl
theorem q710 : (Jvm.Cond.lays "BrushGlass$Glass" "BrushGlass$Glass" "colours" "I") ∈ lw_all := lw_g (lw_at lw_m3 101 rfl) rfl
theorem q711 : (Jvm.Cond.soleField "BrushGlass$Glass" "colours") ∈ lw_all := lw_g (lw_at lw_m3 102 rfl) rfl
theorem q712 : (Jvm.Cond.lays "BrushGlass$Glass" "BrushGlass$Glass" "reach" "I") ∈ lw_all := lw_g (lw_at lw_m3 103 rfl) rfl
theorem q713 : (Jvm.Cond.soleField "BrushGlass$Glass" "reach") ∈ lw_all := lw_g (lw_at lw_m3 104 rfl) rfl
theorem q714 : (Jvm.Cond.lays "BrushGlass$Glass" "BrushGlass$Glass" "personMany" "I") ∈ lw_all := lw_g (lw_at lw_m3 105 rfl) rfl
theorem q715 : (Jvm.Cond.soleField "BrushGlass$Glass" "personMany") ∈ lw_all := lw_g (lw_at lw_m3 106 rfl) rfl
theorem q716 : (Jvm.Cond.lays "BrushGlass$Glass" "BrushGlass$Glass" "moveMany" "I") ∈ lw_all := lw_g (lw_at lw_m3 107 rfl) rfl
theorem q717 : (Jvm.Cond.soleField "BrushGlass$Glass" "moveMany") ∈ lw_all := lw_g (lw_at lw_m3 108 rfl) rfl
theorem q718 : (Jvm.Cond.lays "BrushGlass$Glass" "BrushGlass$Glass" "seeingMany" "I") ∈ lw_all := lw_g (lw_at lw_m3 109 rfl) rfl
theorem q719 : (Jvm.Cond.soleField "BrushGlass$Glass" "seeingMany") ∈ lw_all := lw_g (lw_at lw_m3 110 rfl) rfl
theorem q720 : (Jvm.Cond.lays "BrushGlass$Glass" "BrushGlass$Glass" "sayingMany" "I") ∈ lw_all := lw_g (lw_at lw_m3 111 rfl) rfl
theorem q721 : (Jvm.Cond.soleField "BrushGlass$Glass" "sayingMany") ∈ lw_all := lw_g (lw_at lw_m3 112 rfl) rfl
theorem q722 : (Jvm.Cond.superclass "BrushGlass$Glass" "java/lang/Object") ∈ lw_all := lw_g (lw_at lw_m3 113 rfl) rfl
theorem q943 : (Jvm.Cond.instanceMethod ({ cls := "BrushGlass$Glass", name := "find", desc := "(Ljava/lang/String;)LBrushGlass$Person;" } : Jvm.MethodName)) ∈ lw_all := lw_g (lw_at lw_m4 94 rfl) rfl
theorem q944 : (Jvm.Cond.selects "BrushGlass$Glass" ({ cls := "BrushGlass$Glass", name := "find", desc := "(Ljava/lang/String;)LBrushGlass$Person;" } : Jvm.MethodName) ({ cls := "BrushGlass$Glass", name := "find", desc := "(Ljava/lang/String;)LBrushGlass$Person;" } : Jvm.MethodName)) ∈ lw_all := lw_g (lw_at lw_m4 95 rfl) rfl
theorem q945 : (Jvm.Cond.code ({ cls := "BrushGlass$Glass", name := "find", desc := "(Ljava/lang/String;)LBrushGlass$Person;" } : Jvm.MethodName) prog_6_method_2_code (3 : Nat) (Option.some (Jvm.ClassFile.FieldType.object "BrushGlass$Person"))) ∈ lw_all := lw_g (lw_at lw_m4 96 rfl) rfl
theorem q946 : (Jvm.Cond.methodLink "BrushGlass$Glass" (43 : Nat) ({ cls := "java/lang/String", name := "equals", desc := "(Ljava/lang/Object;)Z" } : Jvm.MethodName)) ∈ lw_all := lw_g (lw_at lw_m4 97 rfl) rfl
theorem q952 : (Jvm.Cond.fieldLink "BrushGlass$Glass" (39 : Nat) "BrushGlass$Person" "name" "Ljava/lang/String;") ∈ lw_all := lw_g (lw_at lw_m4 103 rfl) rfl
theorem q1315 : (Jvm.Cond.instanceMethod ({ cls := "BrushGlass$Glass", name := "here", desc := "(I)I" } : Jvm.MethodName)) ∈ lw_all := lw_g (lw_at lw_m5 226 rfl) rfl
theorem q1316 : (Jvm.Cond.selects "BrushGlass$Glass" ({ cls := "BrushGlass$Glass", name := "here", desc := "(I)I" } : Jvm.MethodName) ({ cls := "BrushGlass$Glass", name := "here", desc := "(I)I" } : Jvm.MethodName)) ∈ lw_all := lw_g (lw_at lw_m5 227 rfl) rfl
theorem q1317 : (Jvm.Cond.code ({ cls := "BrushGlass$Glass", name := "here", desc := "(I)I" } : Jvm.MethodName) prog_6_method_3_code (4 : Nat) (Option.some Jvm.ClassFile.FieldType.int)) ∈ lw_all := lw_g (lw_at lw_m5 228 rfl) rfl
theorem q1318 : (Jvm.Cond.methodLink "BrushGlass$Glass" (49 : Nat) ({ cls := "BrushGlass$Person", name := "isHere", desc := "(I)Z" } : Jvm.MethodName)) ∈ lw_all := lw_g (lw_at lw_m5 229 rfl) rfl
theorem q1522 : (Jvm.Cond.instanceMethod ({ cls := "BrushGlass$Glass", name := "doMeet", desc := "(II)Z" } : Jvm.MethodName)) ∈ lw_all := lw_g (lw_at lw_m6 193 rfl) rfl
theorem q1523 : (Jvm.Cond.selects "BrushGlass$Glass" ({ cls := "BrushGlass$Glass", name := "doMeet", desc := "(II)Z" } : Jvm.MethodName) ({ cls := "BrushGlass$Glass", name := "doMeet", desc := "(II)Z" } : Jvm.MethodName)) ∈ lw_all := lw_g (lw_at lw_m6 194 rfl) rfl
theorem q1524 : (Jvm.Cond.code ({ cls := "BrushGlass$Glass", name := "doMeet", desc := "(II)Z" } : Jvm.MethodName) prog_6_method_4_code (5 : Nat) (Option.some Jvm.ClassFile.FieldType.boolean)) ∈ lw_all := lw_g (lw_at lw_m6 195 rfl) rfl
theorem q2608 : (Jvm.Cond.castable "BrushGlass$Glass" "java/lang/Object") ∈ lw_tbl := lw_at lw_m11 79 rfl
theorem in_X20 : ∀ w ∈ wsX200, w ∈ lw_all := lw_in wsX200 [698, 700, 702, 704, 706, 708, 710, 712, 714, 716, 718, 720] (by decide +kernel) (by decide +kernel)

/-! BrushGlass$Person -/
set_option maxRecDepth 100000
def RX21 : String := "BrushGlass$Person"
def TX21 : u_T := fun k => match k with
  | 0 => ("BrushGlass$Person", "name", "Ljava/lang/String;", true)
  | 1 => ("BrushGlass$Person", "number", "I", true)
  | 2 => ("BrushGlass$Person", "order", "[I", true)
  | 3 => ("BrushGlass$Person", "begins", "[I", true)
  | 4 => ("BrushGlass$Person", "ends", "[I", true)
  | 5 => ("BrushGlass$Person", "likes", "I", false)
  | 6 => ("BrushGlass$Person", "stays", "I", false)
  | 7 => ("BrushGlass$Person", "kind", "I", false)
  | 8 => ("BrushGlass$Person", "habit", "I", false)
  | 9 => ("BrushGlass$Person", "keeps", "I", false)
  | 10 => ("BrushGlass$Person", "wears", "I", false)
  | _ => ("BrushGlass$Person", "takes", "Z", false)
def tyX21 : Nat → FieldType := fun k => match k with
  | 0 => .object "java/lang/String"
  | 1 => .int
  | 2 => .array .int
  | 3 => .array .int
  | 4 => .array .int
  | 5 => .int
  | 6 => .int
  | 7 => .int
  | 8 => .int
  | 9 => .int
  | 10 => .int
  | _ => .boolean
abbrev wsX210 : List Cond := u_ws RX21 TX21 12
theorem nmX21 : ∀ a, a < 12 → ∀ b, b < 12 → a ≠ b → (TX21 a).2.1 ≠ (TX21 b).2.1 := by decide +kernel
theorem tyX21_ok : ∀ k, k < 12 → parseFieldDescriptor (TX21 k).2.2.1 = some (tyX21 k) := by decide +kernel
abbrev cX21_init : ByteArray := prog_13_method_1_code
def yX21_init : MethodName := ⟨RX21, "<init>", "(Ljava/lang/String;I)V"⟩
def dkwX21_init_1 : List UInt8 := [181, 0, 18, 42, 43, 181, 0, 21, 42, 28, 181, 0, 25, 177]
abbrev dktX21_init_1 : List UInt8 := dkwX21_init_1 ++ []
def dkwX21_init_0 : List UInt8 := [42, 183, 0, 3, 42, 16, 6, 188, 10, 181, 0, 9, 42, 6, 188, 10, 181, 0, 15, 42, 6, 188, 10]
abbrev dktX21_init_0 : List UInt8 := dkwX21_init_0 ++ dktX21_init_1
theorem dksX21_init_0 : cX21_init.data.toList.drop 0 = dktX21_init_0 := by decide +kernel
theorem dksX21_init_1 : cX21_init.data.toList.drop 23 = dktX21_init_1 := dk_seg dksX21_init_0 23 rfl rfl
theorem dX21_init_0 : decode cX21_init 0 = .ok (.aload_n 0, 1) := dk_42 (dk_at dksX21_init_0 0 rfl rfl)
theorem dX21_init_1 : decode cX21_init 1 = .ok (.invokespecial 3, 3) := dk_183 0 3 (dk_at dksX21_init_0 1 rfl rfl)
theorem dX21_init_4 : decode cX21_init 4 = .ok (.aload_n 0, 1) := dk_42 (dk_at dksX21_init_0 4 rfl rfl)
theorem dX21_init_5 : decode cX21_init 5 = .ok (.bipush 6, 2) := dk_16 6 (dk_at dksX21_init_0 5 rfl rfl)
theorem dX21_init_7 : decode cX21_init 7 = .ok (.newarray .int, 2) := dk_188_10 (dk_at dksX21_init_0 7 rfl rfl)
theorem dX21_init_9 : decode cX21_init 9 = .ok (.putfield 9, 3) := dk_181 0 9 (dk_at dksX21_init_0 9 rfl rfl)
theorem dX21_init_12 : decode cX21_init 12 = .ok (.aload_n 0, 1) := dk_42 (dk_at dksX21_init_0 12 rfl rfl)
theorem dX21_init_13 : decode cX21_init 13 = .ok (.iconst 3, 1) := dk_6 (dk_at dksX21_init_0 13 rfl rfl)
theorem dX21_init_14 : decode cX21_init 14 = .ok (.newarray .int, 2) := dk_188_10 (dk_at dksX21_init_0 14 rfl rfl)
theorem dX21_init_16 : decode cX21_init 16 = .ok (.putfield 15, 3) := dk_181 0 15 (dk_at dksX21_init_0 16 rfl rfl)
theorem dX21_init_19 : decode cX21_init 19 = .ok (.aload_n 0, 1) := dk_42 (dk_at dksX21_init_0 19 rfl rfl)
theorem dX21_init_20 : decode cX21_init 20 = .ok (.iconst 3, 1) := dk_6 (dk_at dksX21_init_0 20 rfl rfl)
theorem dX21_init_21 : decode cX21_init 21 = .ok (.newarray .int, 2) := dk_188_10 (dk_at dksX21_init_0 21 rfl rfl)
theorem dX21_init_23 : decode cX21_init 23 = .ok (.putfield 18, 3) := dk_181 0 18 (dk_at dksX21_init_1 0 rfl rfl)
theorem dX21_init_26 : decode cX21_init 26 = .ok (.aload_n 0, 1) := dk_42 (dk_at dksX21_init_1 3 rfl rfl)
theorem dX21_init_27 : decode cX21_init 27 = .ok (.aload_n 1, 1) := dk_43 (dk_at dksX21_init_1 4 rfl rfl)
theorem dX21_init_28 : decode cX21_init 28 = .ok (.putfield 21, 3) := dk_181 0 21 (dk_at dksX21_init_1 5 rfl rfl)
theorem dX21_init_31 : decode cX21_init 31 = .ok (.aload_n 0, 1) := dk_42 (dk_at dksX21_init_1 8 rfl rfl)
theorem dX21_init_32 : decode cX21_init 32 = .ok (.iload_n 2, 1) := dk_28 (dk_at dksX21_init_1 9 rfl rfl)
theorem dX21_init_33 : decode cX21_init 33 = .ok (.putfield 25, 3) := dk_181 0 25 (dk_at dksX21_init_1 10 rfl rfl)
theorem dX21_init_36 : decode cX21_init 36 = .ok (.return_, 1) := dk_177 (dk_at dksX21_init_1 13 rfl rfl)
abbrev cX21_doesLike : ByteArray := prog_13_method_5_code
def yX21_doesLike : MethodName := ⟨RX21, "doesLike", "(I)Z"⟩
def dkwX21_doesLike_1 : List UInt8 := [160, 0, 7, 4, 167, 0, 4, 3, 61, 132, 3, 1, 167, 255, 225, 28, 172]
abbrev dktX21_doesLike_1 : List UInt8 := dkwX21_doesLike_1 ++ []
def dkwX21_doesLike_0 : List UInt8 := [3, 61, 3, 62, 29, 42, 180, 0, 36, 162, 0, 29, 28, 154, 0, 13, 42, 180, 0, 9, 29, 46, 27]
abbrev dktX21_doesLike_0 : List UInt8 := dkwX21_doesLike_0 ++ dktX21_doesLike_1
theorem dksX21_doesLike_0 : cX21_doesLike.data.toList.drop 0 = dktX21_doesLike_0 := by decide +kernel
theorem dksX21_doesLike_1 : cX21_doesLike.data.toList.drop 23 = dktX21_doesLike_1 := dk_seg dksX21_doesLike_0 23 rfl rfl
theorem dX21_doesLike_0 : decode cX21_doesLike 0 = .ok (.iconst 0, 1) := dk_3 (dk_at dksX21_doesLike_0 0 rfl rfl)
theorem dX21_doesLike_1 : decode cX21_doesLike 1 = .ok (.istore_n 2, 1) := dk_61 (dk_at dksX21_doesLike_0 1 rfl rfl)
theorem dX21_doesLike_2 : decode cX21_doesLike 2 = .ok (.iconst 0, 1) := dk_3 (dk_at dksX21_doesLike_0 2 rfl rfl)
theorem dX21_doesLike_3 : decode cX21_doesLike 3 = .ok (.istore_n 3, 1) := dk_62 (dk_at dksX21_doesLike_0 3 rfl rfl)
theorem dX21_doesLike_4 : decode cX21_doesLike 4 = .ok (.iload_n 3, 1) := dk_29 (dk_at dksX21_doesLike_0 4 rfl rfl)
theorem dX21_doesLike_5 : decode cX21_doesLike 5 = .ok (.aload_n 0, 1) := dk_42 (dk_at dksX21_doesLike_0 5 rfl rfl)
theorem dX21_doesLike_6 : decode cX21_doesLike 6 = .ok (.getfield 36, 3) := dk_180 0 36 (dk_at dksX21_doesLike_0 6 rfl rfl)
theorem dX21_doesLike_9 : decode cX21_doesLike 9 = .ok (.if_icmp .ge 29, 3) := dk_162 0 29 (dk_at dksX21_doesLike_0 9 rfl rfl)
theorem dX21_doesLike_12 : decode cX21_doesLike 12 = .ok (.iload_n 2, 1) := dk_28 (dk_at dksX21_doesLike_0 12 rfl rfl)
theorem dX21_doesLike_13 : decode cX21_doesLike 13 = .ok (.ifCond .ne 13, 3) := dk_154 0 13 (dk_at dksX21_doesLike_0 13 rfl rfl)
theorem dX21_doesLike_16 : decode cX21_doesLike 16 = .ok (.aload_n 0, 1) := dk_42 (dk_at dksX21_doesLike_0 16 rfl rfl)
theorem dX21_doesLike_17 : decode cX21_doesLike 17 = .ok (.getfield 9, 3) := dk_180 0 9 (dk_at dksX21_doesLike_0 17 rfl rfl)
theorem dX21_doesLike_20 : decode cX21_doesLike 20 = .ok (.iload_n 3, 1) := dk_29 (dk_at dksX21_doesLike_0 20 rfl rfl)
theorem dX21_doesLike_21 : decode cX21_doesLike 21 = .ok (.iaload, 1) := dk_46 (dk_at dksX21_doesLike_0 21 rfl rfl)
theorem dX21_doesLike_22 : decode cX21_doesLike 22 = .ok (.iload_n 1, 1) := dk_27 (dk_at dksX21_doesLike_0 22 rfl rfl)
theorem dX21_doesLike_23 : decode cX21_doesLike 23 = .ok (.if_icmp .ne 7, 3) := dk_160 0 7 (dk_at dksX21_doesLike_1 0 rfl rfl)
theorem dX21_doesLike_26 : decode cX21_doesLike 26 = .ok (.iconst 1, 1) := dk_4 (dk_at dksX21_doesLike_1 3 rfl rfl)
theorem dX21_doesLike_27 : decode cX21_doesLike 27 = .ok (.goto 4, 3) := dk_167 0 4 (dk_at dksX21_doesLike_1 4 rfl rfl)
theorem dX21_doesLike_30 : decode cX21_doesLike 30 = .ok (.iconst 0, 1) := dk_3 (dk_at dksX21_doesLike_1 7 rfl rfl)
theorem dX21_doesLike_31 : decode cX21_doesLike 31 = .ok (.istore_n 2, 1) := dk_61 (dk_at dksX21_doesLike_1 8 rfl rfl)
theorem dX21_doesLike_32 : decode cX21_doesLike 32 = .ok (.iinc 3 1, 3) := dk_132 3 1 (dk_at dksX21_doesLike_1 9 rfl rfl)
theorem dX21_doesLike_35 : decode cX21_doesLike 35 = .ok (.goto (-31), 3) := dk_167 255 225 (dk_at dksX21_doesLike_1 12 rfl rfl)
theorem dX21_doesLike_38 : decode cX21_doesLike 38 = .ok (.iload_n 2, 1) := dk_28 (dk_at dksX21_doesLike_1 15 rfl rfl)
theorem dX21_doesLike_39 : decode cX21_doesLike 39 = .ok (.ireturn, 1) := dk_172 (dk_at dksX21_doesLike_1 16 rfl rfl)
abbrev cX21_comes : ByteArray := prog_13_method_3_code
def yX21_comes : MethodName := ⟨RX21, "comes", "(I)Z"⟩
def dkwX21_comes_1 : List UInt8 := [160, 0, 7, 4, 167, 0, 4, 3, 61, 132, 3, 1, 167, 255, 225, 28, 172]
abbrev dktX21_comes_1 : List UInt8 := dkwX21_comes_1 ++ []
def dkwX21_comes_0 : List UInt8 := [3, 61, 3, 62, 29, 42, 180, 0, 29, 162, 0, 29, 28, 154, 0, 13, 42, 180, 0, 15, 29, 46, 27]
abbrev dktX21_comes_0 : List UInt8 := dkwX21_comes_0 ++ dktX21_comes_1
theorem dksX21_comes_0 : cX21_comes.data.toList.drop 0 = dktX21_comes_0 := by decide +kernel
theorem dksX21_comes_1 : cX21_comes.data.toList.drop 23 = dktX21_comes_1 := dk_seg dksX21_comes_0 23 rfl rfl
theorem dX21_comes_0 : decode cX21_comes 0 = .ok (.iconst 0, 1) := dk_3 (dk_at dksX21_comes_0 0 rfl rfl)
theorem dX21_comes_1 : decode cX21_comes 1 = .ok (.istore_n 2, 1) := dk_61 (dk_at dksX21_comes_0 1 rfl rfl)
theorem dX21_comes_2 : decode cX21_comes 2 = .ok (.iconst 0, 1) := dk_3 (dk_at dksX21_comes_0 2 rfl rfl)
theorem dX21_comes_3 : decode cX21_comes 3 = .ok (.istore_n 3, 1) := dk_62 (dk_at dksX21_comes_0 3 rfl rfl)
theorem dX21_comes_4 : decode cX21_comes 4 = .ok (.iload_n 3, 1) := dk_29 (dk_at dksX21_comes_0 4 rfl rfl)
theorem dX21_comes_5 : decode cX21_comes 5 = .ok (.aload_n 0, 1) := dk_42 (dk_at dksX21_comes_0 5 rfl rfl)
theorem dX21_comes_6 : decode cX21_comes 6 = .ok (.getfield 29, 3) := dk_180 0 29 (dk_at dksX21_comes_0 6 rfl rfl)
theorem dX21_comes_9 : decode cX21_comes 9 = .ok (.if_icmp .ge 29, 3) := dk_162 0 29 (dk_at dksX21_comes_0 9 rfl rfl)
theorem dX21_comes_12 : decode cX21_comes 12 = .ok (.iload_n 2, 1) := dk_28 (dk_at dksX21_comes_0 12 rfl rfl)
theorem dX21_comes_13 : decode cX21_comes 13 = .ok (.ifCond .ne 13, 3) := dk_154 0 13 (dk_at dksX21_comes_0 13 rfl rfl)
theorem dX21_comes_16 : decode cX21_comes 16 = .ok (.aload_n 0, 1) := dk_42 (dk_at dksX21_comes_0 16 rfl rfl)
theorem dX21_comes_17 : decode cX21_comes 17 = .ok (.getfield 15, 3) := dk_180 0 15 (dk_at dksX21_comes_0 17 rfl rfl)
theorem dX21_comes_20 : decode cX21_comes 20 = .ok (.iload_n 3, 1) := dk_29 (dk_at dksX21_comes_0 20 rfl rfl)
theorem dX21_comes_21 : decode cX21_comes 21 = .ok (.iaload, 1) := dk_46 (dk_at dksX21_comes_0 21 rfl rfl)
theorem dX21_comes_22 : decode cX21_comes 22 = .ok (.iload_n 1, 1) := dk_27 (dk_at dksX21_comes_0 22 rfl rfl)
theorem dX21_comes_23 : decode cX21_comes 23 = .ok (.if_icmp .ne 7, 3) := dk_160 0 7 (dk_at dksX21_comes_1 0 rfl rfl)
theorem dX21_comes_26 : decode cX21_comes 26 = .ok (.iconst 1, 1) := dk_4 (dk_at dksX21_comes_1 3 rfl rfl)
theorem dX21_comes_27 : decode cX21_comes 27 = .ok (.goto 4, 3) := dk_167 0 4 (dk_at dksX21_comes_1 4 rfl rfl)
theorem dX21_comes_30 : decode cX21_comes 30 = .ok (.iconst 0, 1) := dk_3 (dk_at dksX21_comes_1 7 rfl rfl)
theorem dX21_comes_31 : decode cX21_comes 31 = .ok (.istore_n 2, 1) := dk_61 (dk_at dksX21_comes_1 8 rfl rfl)
theorem dX21_comes_32 : decode cX21_comes 32 = .ok (.iinc 3 1, 3) := dk_132 3 1 (dk_at dksX21_comes_1 9 rfl rfl)
theorem dX21_comes_35 : decode cX21_comes 35 = .ok (.goto (-31), 3) := dk_167 255 225 (dk_at dksX21_comes_1 12 rfl rfl)
theorem dX21_comes_38 : decode cX21_comes 38 = .ok (.iload_n 2, 1) := dk_28 (dk_at dksX21_comes_1 15 rfl rfl)
theorem dX21_comes_39 : decode cX21_comes 39 = .ok (.ireturn, 1) := dk_172 (dk_at dksX21_comes_1 16 rfl rfl)
abbrev cX21_isHere : ByteArray := prog_13_method_2_code
def yX21_isHere : MethodName := ⟨RX21, "isHere", "(I)Z"⟩
def dkwX21_isHere_2 : List UInt8 := [172]
abbrev dktX21_isHere_2 : List UInt8 := dkwX21_isHere_2 ++ []
def dkwX21_isHere_1 : List UInt8 := [180, 0, 18, 29, 46, 184, 0, 32, 153, 0, 7, 4, 167, 0, 4, 3, 61, 132, 3, 1, 167, 255, 216, 28]
abbrev dktX21_isHere_1 : List UInt8 := dkwX21_isHere_1 ++ dktX21_isHere_2
def dkwX21_isHere_0 : List UInt8 := [3, 61, 3, 62, 29, 42, 180, 0, 29, 162, 0, 38, 28, 154, 0, 22, 27, 42, 180, 0, 15, 29, 46, 42]
abbrev dktX21_isHere_0 : List UInt8 := dkwX21_isHere_0 ++ dktX21_isHere_1
theorem dksX21_isHere_0 : cX21_isHere.data.toList.drop 0 = dktX21_isHere_0 := by decide +kernel
theorem dksX21_isHere_1 : cX21_isHere.data.toList.drop 24 = dktX21_isHere_1 := dk_seg dksX21_isHere_0 24 rfl rfl
theorem dksX21_isHere_2 : cX21_isHere.data.toList.drop 48 = dktX21_isHere_2 := dk_seg dksX21_isHere_1 24 rfl rfl
theorem dX21_isHere_0 : decode cX21_isHere 0 = .ok (.iconst 0, 1) := dk_3 (dk_at dksX21_isHere_0 0 rfl rfl)
theorem dX21_isHere_1 : decode cX21_isHere 1 = .ok (.istore_n 2, 1) := dk_61 (dk_at dksX21_isHere_0 1 rfl rfl)
theorem dX21_isHere_2 : decode cX21_isHere 2 = .ok (.iconst 0, 1) := dk_3 (dk_at dksX21_isHere_0 2 rfl rfl)
theorem dX21_isHere_3 : decode cX21_isHere 3 = .ok (.istore_n 3, 1) := dk_62 (dk_at dksX21_isHere_0 3 rfl rfl)
theorem dX21_isHere_4 : decode cX21_isHere 4 = .ok (.iload_n 3, 1) := dk_29 (dk_at dksX21_isHere_0 4 rfl rfl)
theorem dX21_isHere_5 : decode cX21_isHere 5 = .ok (.aload_n 0, 1) := dk_42 (dk_at dksX21_isHere_0 5 rfl rfl)
theorem dX21_isHere_6 : decode cX21_isHere 6 = .ok (.getfield 29, 3) := dk_180 0 29 (dk_at dksX21_isHere_0 6 rfl rfl)
theorem dX21_isHere_9 : decode cX21_isHere 9 = .ok (.if_icmp .ge 38, 3) := dk_162 0 38 (dk_at dksX21_isHere_0 9 rfl rfl)
theorem dX21_isHere_12 : decode cX21_isHere 12 = .ok (.iload_n 2, 1) := dk_28 (dk_at dksX21_isHere_0 12 rfl rfl)
theorem dX21_isHere_13 : decode cX21_isHere 13 = .ok (.ifCond .ne 22, 3) := dk_154 0 22 (dk_at dksX21_isHere_0 13 rfl rfl)
theorem dX21_isHere_16 : decode cX21_isHere 16 = .ok (.iload_n 1, 1) := dk_27 (dk_at dksX21_isHere_0 16 rfl rfl)
theorem dX21_isHere_17 : decode cX21_isHere 17 = .ok (.aload_n 0, 1) := dk_42 (dk_at dksX21_isHere_0 17 rfl rfl)
theorem dX21_isHere_18 : decode cX21_isHere 18 = .ok (.getfield 15, 3) := dk_180 0 15 (dk_at dksX21_isHere_0 18 rfl rfl)
theorem dX21_isHere_21 : decode cX21_isHere 21 = .ok (.iload_n 3, 1) := dk_29 (dk_at dksX21_isHere_0 21 rfl rfl)
theorem dX21_isHere_22 : decode cX21_isHere 22 = .ok (.iaload, 1) := dk_46 (dk_at dksX21_isHere_0 22 rfl rfl)
theorem dX21_isHere_23 : decode cX21_isHere 23 = .ok (.aload_n 0, 1) := dk_42 (dk_at dksX21_isHere_0 23 rfl rfl)
theorem dX21_isHere_24 : decode cX21_isHere 24 = .ok (.getfield 18, 3) := dk_180 0 18 (dk_at dksX21_isHere_1 0 rfl rfl)
theorem dX21_isHere_27 : decode cX21_isHere 27 = .ok (.iload_n 3, 1) := dk_29 (dk_at dksX21_isHere_1 3 rfl rfl)
theorem dX21_isHere_28 : decode cX21_isHere 28 = .ok (.iaload, 1) := dk_46 (dk_at dksX21_isHere_1 4 rfl rfl)
theorem dX21_isHere_29 : decode cX21_isHere 29 = .ok (.invokestatic 32, 3) := dk_184 0 32 (dk_at dksX21_isHere_1 5 rfl rfl)
theorem dX21_isHere_32 : decode cX21_isHere 32 = .ok (.ifCond .eq 7, 3) := dk_153 0 7 (dk_at dksX21_isHere_1 8 rfl rfl)
theorem dX21_isHere_35 : decode cX21_isHere 35 = .ok (.iconst 1, 1) := dk_4 (dk_at dksX21_isHere_1 11 rfl rfl)
theorem dX21_isHere_36 : decode cX21_isHere 36 = .ok (.goto 4, 3) := dk_167 0 4 (dk_at dksX21_isHere_1 12 rfl rfl)
theorem dX21_isHere_39 : decode cX21_isHere 39 = .ok (.iconst 0, 1) := dk_3 (dk_at dksX21_isHere_1 15 rfl rfl)
theorem dX21_isHere_40 : decode cX21_isHere 40 = .ok (.istore_n 2, 1) := dk_61 (dk_at dksX21_isHere_1 16 rfl rfl)
theorem dX21_isHere_41 : decode cX21_isHere 41 = .ok (.iinc 3 1, 3) := dk_132 3 1 (dk_at dksX21_isHere_1 17 rfl rfl)
theorem dX21_isHere_44 : decode cX21_isHere 44 = .ok (.goto (-40), 3) := dk_167 255 216 (dk_at dksX21_isHere_1 20 rfl rfl)
theorem dX21_isHere_47 : decode cX21_isHere 47 = .ok (.iload_n 2, 1) := dk_28 (dk_at dksX21_isHere_1 23 rfl rfl)
theorem dX21_isHere_48 : decode cX21_isHere 48 = .ok (.ireturn, 1) := dk_172 (dk_at dksX21_isHere_2 0 rfl rfl)
abbrev cX21_goes : ByteArray := prog_13_method_4_code
def yX21_goes : MethodName := ⟨RX21, "goes", "(I)Z"⟩
def dkwX21_goes_1 : List UInt8 := [160, 0, 7, 4, 167, 0, 4, 3, 61, 132, 3, 1, 167, 255, 225, 28, 172]
abbrev dktX21_goes_1 : List UInt8 := dkwX21_goes_1 ++ []
def dkwX21_goes_0 : List UInt8 := [3, 61, 3, 62, 29, 42, 180, 0, 29, 162, 0, 29, 28, 154, 0, 13, 42, 180, 0, 18, 29, 46, 27]
abbrev dktX21_goes_0 : List UInt8 := dkwX21_goes_0 ++ dktX21_goes_1
theorem dksX21_goes_0 : cX21_goes.data.toList.drop 0 = dktX21_goes_0 := by decide +kernel
theorem dksX21_goes_1 : cX21_goes.data.toList.drop 23 = dktX21_goes_1 := dk_seg dksX21_goes_0 23 rfl rfl
theorem dX21_goes_0 : decode cX21_goes 0 = .ok (.iconst 0, 1) := dk_3 (dk_at dksX21_goes_0 0 rfl rfl)
theorem dX21_goes_1 : decode cX21_goes 1 = .ok (.istore_n 2, 1) := dk_61 (dk_at dksX21_goes_0 1 rfl rfl)
theorem dX21_goes_2 : decode cX21_goes 2 = .ok (.iconst 0, 1) := dk_3 (dk_at dksX21_goes_0 2 rfl rfl)
theorem dX21_goes_3 : decode cX21_goes 3 = .ok (.istore_n 3, 1) := dk_62 (dk_at dksX21_goes_0 3 rfl rfl)
theorem dX21_goes_4 : decode cX21_goes 4 = .ok (.iload_n 3, 1) := dk_29 (dk_at dksX21_goes_0 4 rfl rfl)
theorem dX21_goes_5 : decode cX21_goes 5 = .ok (.aload_n 0, 1) := dk_42 (dk_at dksX21_goes_0 5 rfl rfl)
theorem dX21_goes_6 : decode cX21_goes 6 = .ok (.getfield 29, 3) := dk_180 0 29 (dk_at dksX21_goes_0 6 rfl rfl)
theorem dX21_goes_9 : decode cX21_goes 9 = .ok (.if_icmp .ge 29, 3) := dk_162 0 29 (dk_at dksX21_goes_0 9 rfl rfl)
theorem dX21_goes_12 : decode cX21_goes 12 = .ok (.iload_n 2, 1) := dk_28 (dk_at dksX21_goes_0 12 rfl rfl)
theorem dX21_goes_13 : decode cX21_goes 13 = .ok (.ifCond .ne 13, 3) := dk_154 0 13 (dk_at dksX21_goes_0 13 rfl rfl)
theorem dX21_goes_16 : decode cX21_goes 16 = .ok (.aload_n 0, 1) := dk_42 (dk_at dksX21_goes_0 16 rfl rfl)
theorem dX21_goes_17 : decode cX21_goes 17 = .ok (.getfield 18, 3) := dk_180 0 18 (dk_at dksX21_goes_0 17 rfl rfl)
theorem dX21_goes_20 : decode cX21_goes 20 = .ok (.iload_n 3, 1) := dk_29 (dk_at dksX21_goes_0 20 rfl rfl)
theorem dX21_goes_21 : decode cX21_goes 21 = .ok (.iaload, 1) := dk_46 (dk_at dksX21_goes_0 21 rfl rfl)
theorem dX21_goes_22 : decode cX21_goes 22 = .ok (.iload_n 1, 1) := dk_27 (dk_at dksX21_goes_0 22 rfl rfl)
theorem dX21_goes_23 : decode cX21_goes 23 = .ok (.if_icmp .ne 7, 3) := dk_160 0 7 (dk_at dksX21_goes_1 0 rfl rfl)
theorem dX21_goes_26 : decode cX21_goes 26 = .ok (.iconst 1, 1) := dk_4 (dk_at dksX21_goes_1 3 rfl rfl)
theorem dX21_goes_27 : decode cX21_goes 27 = .ok (.goto 4, 3) := dk_167 0 4 (dk_at dksX21_goes_1 4 rfl rfl)
theorem dX21_goes_30 : decode cX21_goes 30 = .ok (.iconst 0, 1) := dk_3 (dk_at dksX21_goes_1 7 rfl rfl)
theorem dX21_goes_31 : decode cX21_goes 31 = .ok (.istore_n 2, 1) := dk_61 (dk_at dksX21_goes_1 8 rfl rfl)
theorem dX21_goes_32 : decode cX21_goes 32 = .ok (.iinc 3 1, 3) := dk_132 3 1 (dk_at dksX21_goes_1 9 rfl rfl)
theorem dX21_goes_35 : decode cX21_goes 35 = .ok (.goto (-31), 3) := dk_167 255 225 (dk_at dksX21_goes_1 12 rfl rfl)
theorem dX21_goes_38 : decode cX21_goes 38 = .ok (.iload_n 2, 1) := dk_28 (dk_at dksX21_goes_1 15 rfl rfl)
theorem dX21_goes_39 : decode cX21_goes 39 = .ok (.ireturn, 1) := dk_172 (dk_at dksX21_goes_1 16 rfl rfl)
theorem q158 : (Jvm.Cond.initialized "BrushGlass$Person") ∈ lw_all := lw_g (lw_at lw_m1 29 rfl) rfl
theorem q933 : (Jvm.Cond.instantiable "BrushGlass$Person" (12 : Nat)) ∈ lw_all := lw_g (lw_at lw_m4 84 rfl) rfl
theorem q948 : (Jvm.Cond.instanceMethod ({ cls := "BrushGlass$Person", name := "<init>", desc := "(Ljava/lang/String;I)V" } : Jvm.MethodName)) ∈ lw_all := lw_g (lw_at lw_m4 99 rfl) rfl
theorem q949 : (Jvm.Cond.code ({ cls := "BrushGlass$Person", name := "<init>", desc := "(Ljava/lang/String;I)V" } : Jvm.MethodName) prog_13_method_1_code (3 : Nat) (Option.none : Option Jvm.ClassFile.FieldType)) ∈ lw_all := lw_g (lw_at lw_m4 100 rfl) rfl
theorem q950 : (Jvm.Cond.methodLink "BrushGlass$Person" (3 : Nat) ({ cls := "java/lang/Object", name := "<init>", desc := "()V" } : Jvm.MethodName)) ∈ lw_all := lw_g (lw_at lw_m4 101 rfl) rfl
theorem q951 : (Jvm.Cond.fieldLink "BrushGlass$Person" (21 : Nat) "BrushGlass$Person" "name" "Ljava/lang/String;") ∈ lw_all := lw_g (lw_at lw_m4 102 rfl) rfl
theorem q953 : (Jvm.Cond.fieldLink "BrushGlass$Person" (25 : Nat) "BrushGlass$Person" "number" "I") ∈ lw_all := lw_g (lw_at lw_m4 104 rfl) rfl
theorem q956 : (Jvm.Cond.fieldLink "BrushGlass$Person" (9 : Nat) "BrushGlass$Person" "order" "[I") ∈ lw_all := lw_g (lw_at lw_m4 107 rfl) rfl
theorem q962 : (Jvm.Cond.fieldLink "BrushGlass$Person" (15 : Nat) "BrushGlass$Person" "begins" "[I") ∈ lw_all := lw_g (lw_at lw_m4 113 rfl) rfl
theorem q965 : (Jvm.Cond.fieldLink "BrushGlass$Person" (18 : Nat) "BrushGlass$Person" "ends" "[I") ∈ lw_all := lw_g (lw_at lw_m4 116 rfl) rfl
theorem q970 : (Jvm.Cond.fieldLink "BrushGlass$Person" (36 : Nat) "BrushGlass$Person" "likes" "I") ∈ lw_all := lw_g (lw_at lw_m4 121 rfl) rfl
theorem q973 : (Jvm.Cond.fieldLink "BrushGlass$Person" (29 : Nat) "BrushGlass$Person" "stays" "I") ∈ lw_all := lw_g (lw_at lw_m4 124 rfl) rfl
theorem q988 : (Jvm.Cond.laysFinal "BrushGlass$Person" "BrushGlass$Person" "name" "Ljava/lang/String;") ∈ lw_all := lw_g (lw_at lw_m4 139 rfl) rfl
theorem q989 : (Jvm.Cond.soleField "BrushGlass$Person" "name") ∈ lw_all := lw_g (lw_at lw_m4 140 rfl) rfl
theorem q990 : (Jvm.Cond.laysFinal "BrushGlass$Person" "BrushGlass$Person" "number" "I") ∈ lw_all := lw_g (lw_at lw_m4 141 rfl) rfl
theorem q991 : (Jvm.Cond.soleField "BrushGlass$Person" "number") ∈ lw_all := lw_g (lw_at lw_m4 142 rfl) rfl
theorem q992 : (Jvm.Cond.laysFinal "BrushGlass$Person" "BrushGlass$Person" "order" "[I") ∈ lw_all := lw_g (lw_at lw_m4 143 rfl) rfl
theorem q993 : (Jvm.Cond.soleField "BrushGlass$Person" "order") ∈ lw_all := lw_g (lw_at lw_m4 144 rfl) rfl
theorem q994 : (Jvm.Cond.laysFinal "BrushGlass$Person" "BrushGlass$Person" "begins" "[I") ∈ lw_all := lw_g (lw_at lw_m4 145 rfl) rfl
theorem q995 : (Jvm.Cond.soleField "BrushGlass$Person" "begins") ∈ lw_all := lw_g (lw_at lw_m4 146 rfl) rfl
theorem q996 : (Jvm.Cond.laysFinal "BrushGlass$Person" "BrushGlass$Person" "ends" "[I") ∈ lw_all := lw_g (lw_at lw_m4 147 rfl) rfl
theorem q997 : (Jvm.Cond.soleField "BrushGlass$Person" "ends") ∈ lw_all := lw_g (lw_at lw_m4 148 rfl) rfl
theorem q998 : (Jvm.Cond.lays "BrushGlass$Person" "BrushGlass$Person" "likes" "I") ∈ lw_all := lw_g (lw_at lw_m4 149 rfl) rfl
theorem q999 : (Jvm.Cond.soleField "BrushGlass$Person" "likes") ∈ lw_all := lw_g (lw_at lw_m4 150 rfl) rfl
theorem q1000 : (Jvm.Cond.lays "BrushGlass$Person" "BrushGlass$Person" "stays" "I") ∈ lw_all := lw_g (lw_at lw_m4 151 rfl) rfl
theorem q1001 : (Jvm.Cond.soleField "BrushGlass$Person" "stays") ∈ lw_all := lw_g (lw_at lw_m4 152 rfl) rfl
theorem q1002 : (Jvm.Cond.lays "BrushGlass$Person" "BrushGlass$Person" "kind" "I") ∈ lw_all := lw_g (lw_at lw_m4 153 rfl) rfl
theorem q1003 : (Jvm.Cond.soleField "BrushGlass$Person" "kind") ∈ lw_all := lw_g (lw_at lw_m4 154 rfl) rfl
theorem q1004 : (Jvm.Cond.lays "BrushGlass$Person" "BrushGlass$Person" "habit" "I") ∈ lw_all := lw_g (lw_at lw_m4 155 rfl) rfl
theorem q1005 : (Jvm.Cond.soleField "BrushGlass$Person" "habit") ∈ lw_all := lw_g (lw_at lw_m4 156 rfl) rfl
theorem q1006 : (Jvm.Cond.lays "BrushGlass$Person" "BrushGlass$Person" "keeps" "I") ∈ lw_all := lw_g (lw_at lw_m4 157 rfl) rfl
theorem q1007 : (Jvm.Cond.soleField "BrushGlass$Person" "keeps") ∈ lw_all := lw_g (lw_at lw_m4 158 rfl) rfl
theorem q1008 : (Jvm.Cond.lays "BrushGlass$Person" "BrushGlass$Person" "wears" "I") ∈ lw_all := lw_g (lw_at lw_m4 159 rfl) rfl
theorem q1009 : (Jvm.Cond.soleField "BrushGlass$Person" "wears") ∈ lw_all := lw_g (lw_at lw_m4 160 rfl) rfl
theorem q1010 : (Jvm.Cond.lays "BrushGlass$Person" "BrushGlass$Person" "takes" "Z") ∈ lw_all := lw_g (lw_at lw_m4 161 rfl) rfl
theorem q1011 : (Jvm.Cond.soleField "BrushGlass$Person" "takes") ∈ lw_all := lw_g (lw_at lw_m4 162 rfl) rfl
theorem q1012 : (Jvm.Cond.superclass "BrushGlass$Person" "java/lang/Object") ∈ lw_all := lw_g (lw_at lw_m4 163 rfl) rfl
theorem q1063 : (Jvm.Cond.instanceMethod ({ cls := "BrushGlass$Person", name := "doesLike", desc := "(I)Z" } : Jvm.MethodName)) ∈ lw_all := lw_g (lw_at lw_m4 214 rfl) rfl
theorem q1064 : (Jvm.Cond.selects "BrushGlass$Person" ({ cls := "BrushGlass$Person", name := "doesLike", desc := "(I)Z" } : Jvm.MethodName) ({ cls := "BrushGlass$Person", name := "doesLike", desc := "(I)Z" } : Jvm.MethodName)) ∈ lw_all := lw_g (lw_at lw_m4 215 rfl) rfl
theorem q1065 : (Jvm.Cond.code ({ cls := "BrushGlass$Person", name := "doesLike", desc := "(I)Z" } : Jvm.MethodName) prog_13_method_5_code (4 : Nat) (Option.some Jvm.ClassFile.FieldType.boolean)) ∈ lw_all := lw_g (lw_at lw_m4 216 rfl) rfl
theorem q1158 : (Jvm.Cond.instanceMethod ({ cls := "BrushGlass$Person", name := "comes", desc := "(I)Z" } : Jvm.MethodName)) ∈ lw_all := lw_g (lw_at lw_m5 69 rfl) rfl
theorem q1159 : (Jvm.Cond.selects "BrushGlass$Person" ({ cls := "BrushGlass$Person", name := "comes", desc := "(I)Z" } : Jvm.MethodName) ({ cls := "BrushGlass$Person", name := "comes", desc := "(I)Z" } : Jvm.MethodName)) ∈ lw_all := lw_g (lw_at lw_m5 70 rfl) rfl
theorem q1160 : (Jvm.Cond.code ({ cls := "BrushGlass$Person", name := "comes", desc := "(I)Z" } : Jvm.MethodName) prog_13_method_3_code (4 : Nat) (Option.some Jvm.ClassFile.FieldType.boolean)) ∈ lw_all := lw_g (lw_at lw_m5 71 rfl) rfl
theorem q1199 : (Jvm.Cond.instanceMethod ({ cls := "BrushGlass$Person", name := "isHere", desc := "(I)Z" } : Jvm.MethodName)) ∈ lw_all := lw_g (lw_at lw_m5 110 rfl) rfl
theorem q1200 : (Jvm.Cond.selects "BrushGlass$Person" ({ cls := "BrushGlass$Person", name := "isHere", desc := "(I)Z" } : Jvm.MethodName) ({ cls := "BrushGlass$Person", name := "isHere", desc := "(I)Z" } : Jvm.MethodName)) ∈ lw_all := lw_g (lw_at lw_m5 111 rfl) rfl
theorem q1201 : (Jvm.Cond.code ({ cls := "BrushGlass$Person", name := "isHere", desc := "(I)Z" } : Jvm.MethodName) prog_13_method_2_code (4 : Nat) (Option.some Jvm.ClassFile.FieldType.boolean)) ∈ lw_all := lw_g (lw_at lw_m5 112 rfl) rfl
theorem q1202 : (Jvm.Cond.methodLinkNest "BrushGlass$Person" (32 : Nat) ({ cls := "BrushGlass", name := "in", desc := "(III)Z" } : Jvm.MethodName) "BrushGlass") ∈ lw_tbl := lw_at lw_m5 113 rfl
theorem q1271 : (Jvm.Cond.instanceMethod ({ cls := "BrushGlass$Person", name := "goes", desc := "(I)Z" } : Jvm.MethodName)) ∈ lw_all := lw_g (lw_at lw_m5 182 rfl) rfl
theorem q1272 : (Jvm.Cond.selects "BrushGlass$Person" ({ cls := "BrushGlass$Person", name := "goes", desc := "(I)Z" } : Jvm.MethodName) ({ cls := "BrushGlass$Person", name := "goes", desc := "(I)Z" } : Jvm.MethodName)) ∈ lw_all := lw_g (lw_at lw_m5 183 rfl) rfl
theorem q1273 : (Jvm.Cond.code ({ cls := "BrushGlass$Person", name := "goes", desc := "(I)Z" } : Jvm.MethodName) prog_13_method_4_code (4 : Nat) (Option.some Jvm.ClassFile.FieldType.boolean)) ∈ lw_all := lw_g (lw_at lw_m5 184 rfl) rfl
theorem q2611 : (Jvm.Cond.castable "BrushGlass$Person" "java/lang/Object") ∈ lw_tbl := lw_at lw_m11 82 rfl
theorem in_X21 : ∀ w ∈ wsX210, w ∈ lw_all := lw_in wsX210 [988, 990, 992, 994, 996, 998, 1000, 1002, 1004, 1006, 1008, 1010] (by decide +kernel) (by decide +kernel)

/-! BrushGlass$Seeing -/
set_option maxRecDepth 100000
def RX22 : String := "BrushGlass$Seeing"
def TX22 : u_T := fun k => match k with
  | 0 => ("BrushGlass$Seeing", "row", "[I", true)
  | _ => ("BrushGlass$Seeing", "day", "I", false)
def tyX22 : Nat → FieldType := fun k => match k with
  | 0 => .array .int
  | _ => .int
abbrev wsX220 : List Cond := u_ws RX22 TX22 2
theorem nmX22 : ∀ a, a < 2 → ∀ b, b < 2 → a ≠ b → (TX22 a).2.1 ≠ (TX22 b).2.1 := by decide +kernel
theorem tyX22_ok : ∀ k, k < 2 → parseFieldDescriptor (TX22 k).2.2.1 = some (tyX22 k) := by decide +kernel
abbrev cX22_init : ByteArray := prog_19_method_1_code
def yX22_init : MethodName := ⟨RX22, "<init>", "()V"⟩
def dkwX22_init_0 : List UInt8 := [42, 183, 0, 3, 42, 16, 8, 188, 10, 181, 0, 9, 177]
abbrev dktX22_init_0 : List UInt8 := dkwX22_init_0 ++ []
theorem dksX22_init_0 : cX22_init.data.toList.drop 0 = dktX22_init_0 := by decide +kernel
theorem dX22_init_0 : decode cX22_init 0 = .ok (.aload_n 0, 1) := dk_42 (dk_at dksX22_init_0 0 rfl rfl)
theorem dX22_init_1 : decode cX22_init 1 = .ok (.invokespecial 3, 3) := dk_183 0 3 (dk_at dksX22_init_0 1 rfl rfl)
theorem dX22_init_4 : decode cX22_init 4 = .ok (.aload_n 0, 1) := dk_42 (dk_at dksX22_init_0 4 rfl rfl)
theorem dX22_init_5 : decode cX22_init 5 = .ok (.bipush 8, 2) := dk_16 8 (dk_at dksX22_init_0 5 rfl rfl)
theorem dX22_init_7 : decode cX22_init 7 = .ok (.newarray .int, 2) := dk_188_10 (dk_at dksX22_init_0 7 rfl rfl)
theorem dX22_init_9 : decode cX22_init 9 = .ok (.putfield 9, 3) := dk_181 0 9 (dk_at dksX22_init_0 9 rfl rfl)
theorem dX22_init_12 : decode cX22_init 12 = .ok (.return_, 1) := dk_177 (dk_at dksX22_init_0 12 rfl rfl)
theorem q159 : (Jvm.Cond.initialized "BrushGlass$Seeing") ∈ lw_all := lw_g (lw_at lw_m1 30 rfl) rfl
theorem q1103 : (Jvm.Cond.instantiable "BrushGlass$Seeing" (2 : Nat)) ∈ lw_all := lw_g (lw_at lw_m5 14 rfl) rfl
theorem q1105 : (Jvm.Cond.instanceMethod ({ cls := "BrushGlass$Seeing", name := "<init>", desc := "()V" } : Jvm.MethodName)) ∈ lw_all := lw_g (lw_at lw_m5 16 rfl) rfl
theorem q1106 : (Jvm.Cond.code ({ cls := "BrushGlass$Seeing", name := "<init>", desc := "()V" } : Jvm.MethodName) prog_19_method_1_code (1 : Nat) (Option.none : Option Jvm.ClassFile.FieldType)) ∈ lw_all := lw_g (lw_at lw_m5 17 rfl) rfl
theorem q1107 : (Jvm.Cond.methodLink "BrushGlass$Seeing" (3 : Nat) ({ cls := "java/lang/Object", name := "<init>", desc := "()V" } : Jvm.MethodName)) ∈ lw_all := lw_g (lw_at lw_m5 18 rfl) rfl
theorem q1108 : (Jvm.Cond.fieldLink "BrushGlass$Seeing" (9 : Nat) "BrushGlass$Seeing" "row" "[I") ∈ lw_all := lw_g (lw_at lw_m5 19 rfl) rfl
theorem q1113 : (Jvm.Cond.laysFinal "BrushGlass$Seeing" "BrushGlass$Seeing" "row" "[I") ∈ lw_all := lw_g (lw_at lw_m5 24 rfl) rfl
theorem q1114 : (Jvm.Cond.soleField "BrushGlass$Seeing" "row") ∈ lw_all := lw_g (lw_at lw_m5 25 rfl) rfl
theorem q1115 : (Jvm.Cond.lays "BrushGlass$Seeing" "BrushGlass$Seeing" "day" "I") ∈ lw_all := lw_g (lw_at lw_m5 26 rfl) rfl
theorem q1116 : (Jvm.Cond.soleField "BrushGlass$Seeing" "day") ∈ lw_all := lw_g (lw_at lw_m5 27 rfl) rfl
theorem q1117 : (Jvm.Cond.superclass "BrushGlass$Seeing" "java/lang/Object") ∈ lw_all := lw_g (lw_at lw_m5 28 rfl) rfl
theorem q2612 : (Jvm.Cond.castable "BrushGlass$Seeing" "java/lang/Object") ∈ lw_tbl := lw_at lw_m11 83 rfl
theorem in_X22 : ∀ w ∈ wsX220, w ∈ lw_all := lw_in wsX220 [1113, 1115] (by decide +kernel) (by decide +kernel)

/-! BrushGlass$Saying -/
set_option maxRecDepth 100000
def RX23 : String := "BrushGlass$Saying"
def TX23 : u_T := fun k => match k with
  | 0 => ("BrushGlass$Saying", "person", "I", false)
  | 1 => ("BrushGlass$Saying", "day", "I", false)
  | _ => ("BrushGlass$Saying", "place", "I", false)
def tyX23 : Nat → FieldType := fun k => match k with
  | 0 => .int
  | 1 => .int
  | _ => .int
abbrev wsX230 : List Cond := u_ws RX23 TX23 3
theorem nmX23 : ∀ a, a < 3 → ∀ b, b < 3 → a ≠ b → (TX23 a).2.1 ≠ (TX23 b).2.1 := by decide +kernel
theorem tyX23_ok : ∀ k, k < 3 → parseFieldDescriptor (TX23 k).2.2.1 = some (tyX23 k) := by decide +kernel
abbrev cX23_init : ByteArray := prog_18_method_1_code
def yX23_init : MethodName := ⟨RX23, "<init>", "()V"⟩
theorem dX23_init_0 : decode cX23_init 0 = .ok (.aload_n 0, 1) := by decide +kernel
theorem dX23_init_1 : decode cX23_init 1 = .ok (.invokespecial 1, 3) := by decide +kernel
theorem dX23_init_4 : decode cX23_init 4 = .ok (.return_, 1) := by decide +kernel
theorem q160 : (Jvm.Cond.initialized "BrushGlass$Saying") ∈ lw_all := lw_g (lw_at lw_m1 31 rfl) rfl
theorem q1123 : (Jvm.Cond.instantiable "BrushGlass$Saying" (3 : Nat)) ∈ lw_all := lw_g (lw_at lw_m5 34 rfl) rfl
theorem q1125 : (Jvm.Cond.instanceMethod ({ cls := "BrushGlass$Saying", name := "<init>", desc := "()V" } : Jvm.MethodName)) ∈ lw_all := lw_g (lw_at lw_m5 36 rfl) rfl
theorem q1126 : (Jvm.Cond.code ({ cls := "BrushGlass$Saying", name := "<init>", desc := "()V" } : Jvm.MethodName) prog_18_method_1_code (1 : Nat) (Option.none : Option Jvm.ClassFile.FieldType)) ∈ lw_all := lw_g (lw_at lw_m5 37 rfl) rfl
theorem q1127 : (Jvm.Cond.methodLink "BrushGlass$Saying" (1 : Nat) ({ cls := "java/lang/Object", name := "<init>", desc := "()V" } : Jvm.MethodName)) ∈ lw_all := lw_g (lw_at lw_m5 38 rfl) rfl
theorem q1134 : (Jvm.Cond.lays "BrushGlass$Saying" "BrushGlass$Saying" "person" "I") ∈ lw_all := lw_g (lw_at lw_m5 45 rfl) rfl
theorem q1135 : (Jvm.Cond.soleField "BrushGlass$Saying" "person") ∈ lw_all := lw_g (lw_at lw_m5 46 rfl) rfl
theorem q1136 : (Jvm.Cond.lays "BrushGlass$Saying" "BrushGlass$Saying" "day" "I") ∈ lw_all := lw_g (lw_at lw_m5 47 rfl) rfl
theorem q1137 : (Jvm.Cond.soleField "BrushGlass$Saying" "day") ∈ lw_all := lw_g (lw_at lw_m5 48 rfl) rfl
theorem q1138 : (Jvm.Cond.lays "BrushGlass$Saying" "BrushGlass$Saying" "place" "I") ∈ lw_all := lw_g (lw_at lw_m5 49 rfl) rfl
theorem q1139 : (Jvm.Cond.soleField "BrushGlass$Saying" "place") ∈ lw_all := lw_g (lw_at lw_m5 50 rfl) rfl
theorem q1140 : (Jvm.Cond.superclass "BrushGlass$Saying" "java/lang/Object") ∈ lw_all := lw_g (lw_at lw_m5 51 rfl) rfl
theorem q2613 : (Jvm.Cond.castable "BrushGlass$Saying" "java/lang/Object") ∈ lw_tbl := lw_at lw_m11 84 rfl
theorem in_X23 : ∀ w ∈ wsX230, w ∈ lw_all := lw_in wsX230 [1134, 1136, 1138] (by decide +kernel) (by decide +kernel)

/-! BrushGlassModel$Glass -/
set_option maxRecDepth 100000
def RX24 : String := "BrushGlassModel$Glass"
def TX24 : u_T := fun k => match k with
  | 0 => ("BrushGlassModel$Glass", "days", "I", false)
  | 1 => ("BrushGlassModel$Glass", "places", "I", false)
  | 2 => ("BrushGlassModel$Glass", "colours", "I", false)
  | 3 => ("BrushGlassModel$Glass", "reach", "I", false)
  | 4 => ("BrushGlassModel$Glass", "people", "I", false)
  | 5 => ("BrushGlassModel$Glass", "moves", "I", false)
  | 6 => ("BrushGlassModel$Glass", "seeings", "I", false)
  | 7 => ("BrushGlassModel$Glass", "sayings", "I", false)
  | 8 => ("BrushGlassModel$Glass", "name", "[J", true)
  | 9 => ("BrushGlassModel$Glass", "kind", "[I", true)
  | 10 => ("BrushGlassModel$Glass", "habit", "[I", true)
  | 11 => ("BrushGlassModel$Glass", "liked", "[I", true)
  | 12 => ("BrushGlassModel$Glass", "likes", "[I", true)
  | 13 => ("BrushGlassModel$Glass", "keeps", "[I", true)
  | 14 => ("BrushGlassModel$Glass", "wears", "[I", true)
  | 15 => ("BrushGlassModel$Glass", "stays", "[I", true)
  | 16 => ("BrushGlassModel$Glass", "from", "[I", true)
  | 17 => ("BrushGlassModel$Glass", "to", "[I", true)
  | 18 => ("BrushGlassModel$Glass", "takes", "[Z", true)
  | 19 => ("BrushGlassModel$Glass", "moveDay", "[I", true)
  | 20 => ("BrushGlassModel$Glass", "moveOne", "[I", true)
  | 21 => ("BrushGlassModel$Glass", "moveTwo", "[I", true)
  | 22 => ("BrushGlassModel$Glass", "seenDay", "[I", true)
  | 23 => ("BrushGlassModel$Glass", "seen", "[I", true)
  | 24 => ("BrushGlassModel$Glass", "saidBy", "[I", true)
  | 25 => ("BrushGlassModel$Glass", "saidDay", "[I", true)
  | _ => ("BrushGlassModel$Glass", "saidPlace", "[I", true)
def tyX24 : Nat → FieldType := fun k => match k with
  | 0 => .int
  | 1 => .int
  | 2 => .int
  | 3 => .int
  | 4 => .int
  | 5 => .int
  | 6 => .int
  | 7 => .int
  | 8 => .array .long
  | 9 => .array .int
  | 10 => .array .int
  | 11 => .array .int
  | 12 => .array .int
  | 13 => .array .int
  | 14 => .array .int
  | 15 => .array .int
  | 16 => .array .int
  | 17 => .array .int
  | 18 => .array .boolean
  | 19 => .array .int
  | 20 => .array .int
  | 21 => .array .int
  | 22 => .array .int
  | 23 => .array .int
  | 24 => .array .int
  | 25 => .array .int
  | _ => .array .int
abbrev wsX240 : List Cond := u_ws RX24 TX24 27
set_option maxRecDepth 100000 in
theorem nmX24 : ∀ a, a < 27 → ∀ b, b < 27 → a ≠ b → (TX24 a).2.1 ≠ (TX24 b).2.1 := by decide +kernel
set_option maxRecDepth 100000 in
theorem tyX24_ok : ∀ k, k < 27 → parseFieldDescriptor (TX24 k).2.2.1 = some (tyX24 k) := by decide +kernel
abbrev cX24_init : ByteArray := prog_25_method_1_code
def yX24_init : MethodName := ⟨RX24, "<init>", "()V"⟩
def dkwX24_init_6 : List UInt8 := [188, 10, 181, 0, 65, 42, 16, 8, 188, 10, 181, 0, 68, 177]
abbrev dktX24_init_6 : List UInt8 := dkwX24_init_6 ++ []
def dkwX24_init_5 : List UInt8 := [188, 10, 181, 0, 56, 42, 16, 48, 188, 10, 181, 0, 59, 42, 16, 8, 188, 10, 181, 0, 62, 42, 16, 8]
abbrev dktX24_init_5 : List UInt8 := dkwX24_init_5 ++ dktX24_init_6
def dkwX24_init_4 : List UInt8 := [188, 10, 181, 0, 47, 42, 16, 10, 188, 10, 181, 0, 50, 42, 16, 10, 188, 10, 181, 0, 53, 42, 16, 6]
abbrev dktX24_init_4 : List UInt8 := dkwX24_init_4 ++ dktX24_init_5
def dkwX24_init_3 : List UInt8 := [188, 10, 181, 0, 37, 42, 16, 21, 188, 10, 181, 0, 40, 42, 16, 7, 188, 4, 181, 0, 43, 42, 16, 10]
abbrev dktX24_init_3 : List UInt8 := dkwX24_init_3 ++ dktX24_init_4
def dkwX24_init_2 : List UInt8 := [188, 10, 181, 0, 28, 42, 16, 7, 188, 10, 181, 0, 31, 42, 16, 7, 188, 10, 181, 0, 34, 42, 16, 21]
abbrev dktX24_init_2 : List UInt8 := dkwX24_init_2 ++ dktX24_init_3
def dkwX24_init_1 : List UInt8 := [188, 10, 181, 0, 19, 42, 16, 7, 188, 10, 181, 0, 22, 42, 16, 42, 188, 10, 181, 0, 25, 42, 16, 7]
abbrev dktX24_init_1 : List UInt8 := dkwX24_init_1 ++ dktX24_init_2
def dkwX24_init_0 : List UInt8 := [42, 183, 0, 3, 42, 16, 7, 188, 11, 181, 0, 9, 42, 16, 7, 188, 10, 181, 0, 15, 42, 16, 7]
abbrev dktX24_init_0 : List UInt8 := dkwX24_init_0 ++ dktX24_init_1
theorem dksX24_init_0 : cX24_init.data.toList.drop 0 = dktX24_init_0 := by decide +kernel
theorem dksX24_init_1 : cX24_init.data.toList.drop 23 = dktX24_init_1 := dk_seg dksX24_init_0 23 rfl rfl
theorem dksX24_init_2 : cX24_init.data.toList.drop 47 = dktX24_init_2 := dk_seg dksX24_init_1 24 rfl rfl
theorem dksX24_init_3 : cX24_init.data.toList.drop 71 = dktX24_init_3 := dk_seg dksX24_init_2 24 rfl rfl
theorem dksX24_init_4 : cX24_init.data.toList.drop 95 = dktX24_init_4 := dk_seg dksX24_init_3 24 rfl rfl
theorem dksX24_init_5 : cX24_init.data.toList.drop 119 = dktX24_init_5 := dk_seg dksX24_init_4 24 rfl rfl
theorem dksX24_init_6 : cX24_init.data.toList.drop 143 = dktX24_init_6 := dk_seg dksX24_init_5 24 rfl rfl
theorem dX24_init_0 : decode cX24_init 0 = .ok (.aload_n 0, 1) := dk_42 (dk_at dksX24_init_0 0 rfl rfl)
theorem dX24_init_1 : decode cX24_init 1 = .ok (.invokespecial 3, 3) := dk_183 0 3 (dk_at dksX24_init_0 1 rfl rfl)
theorem dX24_init_4 : decode cX24_init 4 = .ok (.aload_n 0, 1) := dk_42 (dk_at dksX24_init_0 4 rfl rfl)
theorem dX24_init_5 : decode cX24_init 5 = .ok (.bipush 7, 2) := dk_16 7 (dk_at dksX24_init_0 5 rfl rfl)
theorem dX24_init_7 : decode cX24_init 7 = .ok (.newarray .long, 2) := dk_188_11 (dk_at dksX24_init_0 7 rfl rfl)
theorem dX24_init_9 : decode cX24_init 9 = .ok (.putfield 9, 3) := dk_181 0 9 (dk_at dksX24_init_0 9 rfl rfl)
theorem dX24_init_12 : decode cX24_init 12 = .ok (.aload_n 0, 1) := dk_42 (dk_at dksX24_init_0 12 rfl rfl)
theorem dX24_init_13 : decode cX24_init 13 = .ok (.bipush 7, 2) := dk_16 7 (dk_at dksX24_init_0 13 rfl rfl)
theorem dX24_init_15 : decode cX24_init 15 = .ok (.newarray .int, 2) := dk_188_10 (dk_at dksX24_init_0 15 rfl rfl)
theorem dX24_init_17 : decode cX24_init 17 = .ok (.putfield 15, 3) := dk_181 0 15 (dk_at dksX24_init_0 17 rfl rfl)
theorem dX24_init_20 : decode cX24_init 20 = .ok (.aload_n 0, 1) := dk_42 (dk_at dksX24_init_0 20 rfl rfl)
theorem dX24_init_21 : decode cX24_init 21 = .ok (.bipush 7, 2) := dk_16 7 (dk_at dksX24_init_0 21 rfl rfl)
theorem dX24_init_23 : decode cX24_init 23 = .ok (.newarray .int, 2) := dk_188_10 (dk_at dksX24_init_1 0 rfl rfl)
theorem dX24_init_25 : decode cX24_init 25 = .ok (.putfield 19, 3) := dk_181 0 19 (dk_at dksX24_init_1 2 rfl rfl)
theorem dX24_init_28 : decode cX24_init 28 = .ok (.aload_n 0, 1) := dk_42 (dk_at dksX24_init_1 5 rfl rfl)
theorem dX24_init_29 : decode cX24_init 29 = .ok (.bipush 7, 2) := dk_16 7 (dk_at dksX24_init_1 6 rfl rfl)
theorem dX24_init_31 : decode cX24_init 31 = .ok (.newarray .int, 2) := dk_188_10 (dk_at dksX24_init_1 8 rfl rfl)
theorem dX24_init_33 : decode cX24_init 33 = .ok (.putfield 22, 3) := dk_181 0 22 (dk_at dksX24_init_1 10 rfl rfl)
theorem dX24_init_36 : decode cX24_init 36 = .ok (.aload_n 0, 1) := dk_42 (dk_at dksX24_init_1 13 rfl rfl)
theorem dX24_init_37 : decode cX24_init 37 = .ok (.bipush 42, 2) := dk_16 42 (dk_at dksX24_init_1 14 rfl rfl)
theorem dX24_init_39 : decode cX24_init 39 = .ok (.newarray .int, 2) := dk_188_10 (dk_at dksX24_init_1 16 rfl rfl)
theorem dX24_init_41 : decode cX24_init 41 = .ok (.putfield 25, 3) := dk_181 0 25 (dk_at dksX24_init_1 18 rfl rfl)
theorem dX24_init_44 : decode cX24_init 44 = .ok (.aload_n 0, 1) := dk_42 (dk_at dksX24_init_1 21 rfl rfl)
theorem dX24_init_45 : decode cX24_init 45 = .ok (.bipush 7, 2) := dk_16 7 (dk_at dksX24_init_1 22 rfl rfl)
theorem dX24_init_47 : decode cX24_init 47 = .ok (.newarray .int, 2) := dk_188_10 (dk_at dksX24_init_2 0 rfl rfl)
theorem dX24_init_49 : decode cX24_init 49 = .ok (.putfield 28, 3) := dk_181 0 28 (dk_at dksX24_init_2 2 rfl rfl)
theorem dX24_init_52 : decode cX24_init 52 = .ok (.aload_n 0, 1) := dk_42 (dk_at dksX24_init_2 5 rfl rfl)
theorem dX24_init_53 : decode cX24_init 53 = .ok (.bipush 7, 2) := dk_16 7 (dk_at dksX24_init_2 6 rfl rfl)
theorem dX24_init_55 : decode cX24_init 55 = .ok (.newarray .int, 2) := dk_188_10 (dk_at dksX24_init_2 8 rfl rfl)
theorem dX24_init_57 : decode cX24_init 57 = .ok (.putfield 31, 3) := dk_181 0 31 (dk_at dksX24_init_2 10 rfl rfl)
theorem dX24_init_60 : decode cX24_init 60 = .ok (.aload_n 0, 1) := dk_42 (dk_at dksX24_init_2 13 rfl rfl)
theorem dX24_init_61 : decode cX24_init 61 = .ok (.bipush 7, 2) := dk_16 7 (dk_at dksX24_init_2 14 rfl rfl)
theorem dX24_init_63 : decode cX24_init 63 = .ok (.newarray .int, 2) := dk_188_10 (dk_at dksX24_init_2 16 rfl rfl)
theorem dX24_init_65 : decode cX24_init 65 = .ok (.putfield 34, 3) := dk_181 0 34 (dk_at dksX24_init_2 18 rfl rfl)
theorem dX24_init_68 : decode cX24_init 68 = .ok (.aload_n 0, 1) := dk_42 (dk_at dksX24_init_2 21 rfl rfl)
theorem dX24_init_69 : decode cX24_init 69 = .ok (.bipush 21, 2) := dk_16 21 (dk_at dksX24_init_2 22 rfl rfl)
theorem dX24_init_71 : decode cX24_init 71 = .ok (.newarray .int, 2) := dk_188_10 (dk_at dksX24_init_3 0 rfl rfl)
theorem dX24_init_73 : decode cX24_init 73 = .ok (.putfield 37, 3) := dk_181 0 37 (dk_at dksX24_init_3 2 rfl rfl)
theorem dX24_init_76 : decode cX24_init 76 = .ok (.aload_n 0, 1) := dk_42 (dk_at dksX24_init_3 5 rfl rfl)
theorem dX24_init_77 : decode cX24_init 77 = .ok (.bipush 21, 2) := dk_16 21 (dk_at dksX24_init_3 6 rfl rfl)
theorem dX24_init_79 : decode cX24_init 79 = .ok (.newarray .int, 2) := dk_188_10 (dk_at dksX24_init_3 8 rfl rfl)
theorem dX24_init_81 : decode cX24_init 81 = .ok (.putfield 40, 3) := dk_181 0 40 (dk_at dksX24_init_3 10 rfl rfl)
theorem dX24_init_84 : decode cX24_init 84 = .ok (.aload_n 0, 1) := dk_42 (dk_at dksX24_init_3 13 rfl rfl)
theorem dX24_init_85 : decode cX24_init 85 = .ok (.bipush 7, 2) := dk_16 7 (dk_at dksX24_init_3 14 rfl rfl)
theorem dX24_init_87 : decode cX24_init 87 = .ok (.newarray .boolean, 2) := dk_188_4 (dk_at dksX24_init_3 16 rfl rfl)
theorem dX24_init_89 : decode cX24_init 89 = .ok (.putfield 43, 3) := dk_181 0 43 (dk_at dksX24_init_3 18 rfl rfl)
theorem dX24_init_92 : decode cX24_init 92 = .ok (.aload_n 0, 1) := dk_42 (dk_at dksX24_init_3 21 rfl rfl)
theorem dX24_init_93 : decode cX24_init 93 = .ok (.bipush 10, 2) := dk_16 10 (dk_at dksX24_init_3 22 rfl rfl)
theorem dX24_init_95 : decode cX24_init 95 = .ok (.newarray .int, 2) := dk_188_10 (dk_at dksX24_init_4 0 rfl rfl)
theorem dX24_init_97 : decode cX24_init 97 = .ok (.putfield 47, 3) := dk_181 0 47 (dk_at dksX24_init_4 2 rfl rfl)
theorem dX24_init_100 : decode cX24_init 100 = .ok (.aload_n 0, 1) := dk_42 (dk_at dksX24_init_4 5 rfl rfl)
theorem dX24_init_101 : decode cX24_init 101 = .ok (.bipush 10, 2) := dk_16 10 (dk_at dksX24_init_4 6 rfl rfl)
theorem dX24_init_103 : decode cX24_init 103 = .ok (.newarray .int, 2) := dk_188_10 (dk_at dksX24_init_4 8 rfl rfl)
theorem dX24_init_105 : decode cX24_init 105 = .ok (.putfield 50, 3) := dk_181 0 50 (dk_at dksX24_init_4 10 rfl rfl)
theorem dX24_init_108 : decode cX24_init 108 = .ok (.aload_n 0, 1) := dk_42 (dk_at dksX24_init_4 13 rfl rfl)
theorem dX24_init_109 : decode cX24_init 109 = .ok (.bipush 10, 2) := dk_16 10 (dk_at dksX24_init_4 14 rfl rfl)
theorem dX24_init_111 : decode cX24_init 111 = .ok (.newarray .int, 2) := dk_188_10 (dk_at dksX24_init_4 16 rfl rfl)
theorem dX24_init_113 : decode cX24_init 113 = .ok (.putfield 53, 3) := dk_181 0 53 (dk_at dksX24_init_4 18 rfl rfl)
theorem dX24_init_116 : decode cX24_init 116 = .ok (.aload_n 0, 1) := dk_42 (dk_at dksX24_init_4 21 rfl rfl)
theorem dX24_init_117 : decode cX24_init 117 = .ok (.bipush 6, 2) := dk_16 6 (dk_at dksX24_init_4 22 rfl rfl)
theorem dX24_init_119 : decode cX24_init 119 = .ok (.newarray .int, 2) := dk_188_10 (dk_at dksX24_init_5 0 rfl rfl)
theorem dX24_init_121 : decode cX24_init 121 = .ok (.putfield 56, 3) := dk_181 0 56 (dk_at dksX24_init_5 2 rfl rfl)
theorem dX24_init_124 : decode cX24_init 124 = .ok (.aload_n 0, 1) := dk_42 (dk_at dksX24_init_5 5 rfl rfl)
theorem dX24_init_125 : decode cX24_init 125 = .ok (.bipush 48, 2) := dk_16 48 (dk_at dksX24_init_5 6 rfl rfl)
theorem dX24_init_127 : decode cX24_init 127 = .ok (.newarray .int, 2) := dk_188_10 (dk_at dksX24_init_5 8 rfl rfl)
theorem dX24_init_129 : decode cX24_init 129 = .ok (.putfield 59, 3) := dk_181 0 59 (dk_at dksX24_init_5 10 rfl rfl)
theorem dX24_init_132 : decode cX24_init 132 = .ok (.aload_n 0, 1) := dk_42 (dk_at dksX24_init_5 13 rfl rfl)
theorem dX24_init_133 : decode cX24_init 133 = .ok (.bipush 8, 2) := dk_16 8 (dk_at dksX24_init_5 14 rfl rfl)
theorem dX24_init_135 : decode cX24_init 135 = .ok (.newarray .int, 2) := dk_188_10 (dk_at dksX24_init_5 16 rfl rfl)
theorem dX24_init_137 : decode cX24_init 137 = .ok (.putfield 62, 3) := dk_181 0 62 (dk_at dksX24_init_5 18 rfl rfl)
theorem dX24_init_140 : decode cX24_init 140 = .ok (.aload_n 0, 1) := dk_42 (dk_at dksX24_init_5 21 rfl rfl)
theorem dX24_init_141 : decode cX24_init 141 = .ok (.bipush 8, 2) := dk_16 8 (dk_at dksX24_init_5 22 rfl rfl)
theorem dX24_init_143 : decode cX24_init 143 = .ok (.newarray .int, 2) := dk_188_10 (dk_at dksX24_init_6 0 rfl rfl)
theorem dX24_init_145 : decode cX24_init 145 = .ok (.putfield 65, 3) := dk_181 0 65 (dk_at dksX24_init_6 2 rfl rfl)
theorem dX24_init_148 : decode cX24_init 148 = .ok (.aload_n 0, 1) := dk_42 (dk_at dksX24_init_6 5 rfl rfl)
theorem dX24_init_149 : decode cX24_init 149 = .ok (.bipush 8, 2) := dk_16 8 (dk_at dksX24_init_6 6 rfl rfl)
theorem dX24_init_151 : decode cX24_init 151 = .ok (.newarray .int, 2) := dk_188_10 (dk_at dksX24_init_6 8 rfl rfl)
theorem dX24_init_153 : decode cX24_init 153 = .ok (.putfield 68, 3) := dk_181 0 68 (dk_at dksX24_init_6 10 rfl rfl)
theorem dX24_init_156 : decode cX24_init 156 = .ok (.return_, 1) := dk_177 (dk_at dksX24_init_6 13 rfl rfl)
abbrev cX24_find : ByteArray := prog_25_method_2_code
def yX24_find : MethodName := ⟨RX24, "find", "(J)I"⟩
def dkwX24_find_1 : List UInt8 := [132, 3, 1, 167, 255, 232, 2, 172]
abbrev dktX24_find_1 : List UInt8 := dkwX24_find_1 ++ []
def dkwX24_find_0 : List UInt8 := [3, 62, 29, 42, 180, 0, 71, 162, 0, 22, 42, 180, 0, 9, 29, 47, 31, 148, 154, 0, 5, 29, 172]
abbrev dktX24_find_0 : List UInt8 := dkwX24_find_0 ++ dktX24_find_1
theorem dksX24_find_0 : cX24_find.data.toList.drop 0 = dktX24_find_0 := by decide +kernel
theorem dksX24_find_1 : cX24_find.data.toList.drop 23 = dktX24_find_1 := dk_seg dksX24_find_0 23 rfl rfl
theorem dX24_find_0 : decode cX24_find 0 = .ok (.iconst 0, 1) := dk_3 (dk_at dksX24_find_0 0 rfl rfl)
theorem dX24_find_1 : decode cX24_find 1 = .ok (.istore_n 3, 1) := dk_62 (dk_at dksX24_find_0 1 rfl rfl)
theorem dX24_find_2 : decode cX24_find 2 = .ok (.iload_n 3, 1) := dk_29 (dk_at dksX24_find_0 2 rfl rfl)
theorem dX24_find_3 : decode cX24_find 3 = .ok (.aload_n 0, 1) := dk_42 (dk_at dksX24_find_0 3 rfl rfl)
theorem dX24_find_4 : decode cX24_find 4 = .ok (.getfield 71, 3) := dk_180 0 71 (dk_at dksX24_find_0 4 rfl rfl)
theorem dX24_find_7 : decode cX24_find 7 = .ok (.if_icmp .ge 22, 3) := dk_162 0 22 (dk_at dksX24_find_0 7 rfl rfl)
theorem dX24_find_10 : decode cX24_find 10 = .ok (.aload_n 0, 1) := dk_42 (dk_at dksX24_find_0 10 rfl rfl)
theorem dX24_find_11 : decode cX24_find 11 = .ok (.getfield 9, 3) := dk_180 0 9 (dk_at dksX24_find_0 11 rfl rfl)
theorem dX24_find_14 : decode cX24_find 14 = .ok (.iload_n 3, 1) := dk_29 (dk_at dksX24_find_0 14 rfl rfl)
theorem dX24_find_15 : decode cX24_find 15 = .ok (.laload, 1) := dk_47 (dk_at dksX24_find_0 15 rfl rfl)
theorem dX24_find_16 : decode cX24_find 16 = .ok (.lload_n 1, 1) := dk_31 (dk_at dksX24_find_0 16 rfl rfl)
theorem dX24_find_17 : decode cX24_find 17 = .ok (.lcmp, 1) := dk_148 (dk_at dksX24_find_0 17 rfl rfl)
theorem dX24_find_18 : decode cX24_find 18 = .ok (.ifCond .ne 5, 3) := dk_154 0 5 (dk_at dksX24_find_0 18 rfl rfl)
theorem dX24_find_21 : decode cX24_find 21 = .ok (.iload_n 3, 1) := dk_29 (dk_at dksX24_find_0 21 rfl rfl)
theorem dX24_find_22 : decode cX24_find 22 = .ok (.ireturn, 1) := dk_172 (dk_at dksX24_find_0 22 rfl rfl)
theorem dX24_find_23 : decode cX24_find 23 = .ok (.iinc 3 1, 3) := dk_132 3 1 (dk_at dksX24_find_1 0 rfl rfl)
theorem dX24_find_26 : decode cX24_find 26 = .ok (.goto (-24), 3) := dk_167 255 232 (dk_at dksX24_find_1 3 rfl rfl)
theorem dX24_find_29 : decode cX24_find 29 = .ok (.iconst (-1), 1) := dk_2 (dk_at dksX24_find_1 6 rfl rfl)
theorem dX24_find_30 : decode cX24_find 30 = .ok (.ireturn, 1) := dk_172 (dk_at dksX24_find_1 7 rfl rfl)
abbrev cX24_here : ByteArray := prog_25_method_6_code
def yX24_here : MethodName := ⟨RX24, "here", "(I)I"⟩
def dkwX24_here_1 : List UInt8 := [120, 167, 0, 4, 3, 128, 61, 132, 3, 1, 167, 255, 226, 28, 172]
abbrev dktX24_here_1 : List UInt8 := dkwX24_here_1 ++ []
def dkwX24_here_0 : List UInt8 := [3, 61, 3, 62, 29, 42, 180, 0, 71, 162, 0, 28, 28, 42, 29, 27, 182, 0, 79, 153, 0, 9, 4, 29]
abbrev dktX24_here_0 : List UInt8 := dkwX24_here_0 ++ dktX24_here_1
theorem dksX24_here_0 : cX24_here.data.toList.drop 0 = dktX24_here_0 := by decide +kernel
theorem dksX24_here_1 : cX24_here.data.toList.drop 24 = dktX24_here_1 := dk_seg dksX24_here_0 24 rfl rfl
theorem dX24_here_0 : decode cX24_here 0 = .ok (.iconst 0, 1) := dk_3 (dk_at dksX24_here_0 0 rfl rfl)
theorem dX24_here_1 : decode cX24_here 1 = .ok (.istore_n 2, 1) := dk_61 (dk_at dksX24_here_0 1 rfl rfl)
theorem dX24_here_2 : decode cX24_here 2 = .ok (.iconst 0, 1) := dk_3 (dk_at dksX24_here_0 2 rfl rfl)
theorem dX24_here_3 : decode cX24_here 3 = .ok (.istore_n 3, 1) := dk_62 (dk_at dksX24_here_0 3 rfl rfl)
theorem dX24_here_4 : decode cX24_here 4 = .ok (.iload_n 3, 1) := dk_29 (dk_at dksX24_here_0 4 rfl rfl)
theorem dX24_here_5 : decode cX24_here 5 = .ok (.aload_n 0, 1) := dk_42 (dk_at dksX24_here_0 5 rfl rfl)
theorem dX24_here_6 : decode cX24_here 6 = .ok (.getfield 71, 3) := dk_180 0 71 (dk_at dksX24_here_0 6 rfl rfl)
theorem dX24_here_9 : decode cX24_here 9 = .ok (.if_icmp .ge 28, 3) := dk_162 0 28 (dk_at dksX24_here_0 9 rfl rfl)
theorem dX24_here_12 : decode cX24_here 12 = .ok (.iload_n 2, 1) := dk_28 (dk_at dksX24_here_0 12 rfl rfl)
theorem dX24_here_13 : decode cX24_here 13 = .ok (.aload_n 0, 1) := dk_42 (dk_at dksX24_here_0 13 rfl rfl)
theorem dX24_here_14 : decode cX24_here 14 = .ok (.iload_n 3, 1) := dk_29 (dk_at dksX24_here_0 14 rfl rfl)
theorem dX24_here_15 : decode cX24_here 15 = .ok (.iload_n 1, 1) := dk_27 (dk_at dksX24_here_0 15 rfl rfl)
theorem dX24_here_16 : decode cX24_here 16 = .ok (.invokevirtual 79, 3) := dk_182 0 79 (dk_at dksX24_here_0 16 rfl rfl)
theorem dX24_here_19 : decode cX24_here 19 = .ok (.ifCond .eq 9, 3) := dk_153 0 9 (dk_at dksX24_here_0 19 rfl rfl)
theorem dX24_here_22 : decode cX24_here 22 = .ok (.iconst 1, 1) := dk_4 (dk_at dksX24_here_0 22 rfl rfl)
theorem dX24_here_23 : decode cX24_here 23 = .ok (.iload_n 3, 1) := dk_29 (dk_at dksX24_here_0 23 rfl rfl)
theorem dX24_here_24 : decode cX24_here 24 = .ok (.ishl, 1) := dk_120 (dk_at dksX24_here_1 0 rfl rfl)
theorem dX24_here_25 : decode cX24_here 25 = .ok (.goto 4, 3) := dk_167 0 4 (dk_at dksX24_here_1 1 rfl rfl)
theorem dX24_here_28 : decode cX24_here 28 = .ok (.iconst 0, 1) := dk_3 (dk_at dksX24_here_1 4 rfl rfl)
theorem dX24_here_29 : decode cX24_here 29 = .ok (.ior, 1) := dk_128 (dk_at dksX24_here_1 5 rfl rfl)
theorem dX24_here_30 : decode cX24_here 30 = .ok (.istore_n 2, 1) := dk_61 (dk_at dksX24_here_1 6 rfl rfl)
theorem dX24_here_31 : decode cX24_here 31 = .ok (.iinc 3 1, 3) := dk_132 3 1 (dk_at dksX24_here_1 7 rfl rfl)
theorem dX24_here_34 : decode cX24_here 34 = .ok (.goto (-30), 3) := dk_167 255 226 (dk_at dksX24_here_1 10 rfl rfl)
theorem dX24_here_37 : decode cX24_here 37 = .ok (.iload_n 2, 1) := dk_28 (dk_at dksX24_here_1 13 rfl rfl)
theorem dX24_here_38 : decode cX24_here 38 = .ok (.ireturn, 1) := dk_172 (dk_at dksX24_here_1 14 rfl rfl)
abbrev cX24_isHere : ByteArray := prog_25_method_3_code
def yX24_isHere : MethodName := ⟨RX24, "isHere", "(II)Z"⟩
def dkwX24_isHere_2 : List UInt8 := [172]
abbrev dktX24_isHere_2 : List UInt8 := dkwX24_isHere_2 ++ []
def dkwX24_isHere_1 : List UInt8 := [180, 0, 40, 6, 27, 104, 29, 96, 46, 184, 0, 75, 153, 0, 5, 4, 172, 132, 3, 1, 167, 255, 214, 3]
abbrev dktX24_isHere_1 : List UInt8 := dkwX24_isHere_1 ++ dktX24_isHere_2
def dkwX24_isHere_0 : List UInt8 := [3, 62, 29, 42, 180, 0, 34, 27, 46, 162, 0, 38, 28, 42, 180, 0, 37, 6, 27, 104, 29, 96, 46, 42]
abbrev dktX24_isHere_0 : List UInt8 := dkwX24_isHere_0 ++ dktX24_isHere_1
theorem dksX24_isHere_0 : cX24_isHere.data.toList.drop 0 = dktX24_isHere_0 := by decide +kernel
theorem dksX24_isHere_1 : cX24_isHere.data.toList.drop 24 = dktX24_isHere_1 := dk_seg dksX24_isHere_0 24 rfl rfl
theorem dksX24_isHere_2 : cX24_isHere.data.toList.drop 48 = dktX24_isHere_2 := dk_seg dksX24_isHere_1 24 rfl rfl
theorem dX24_isHere_0 : decode cX24_isHere 0 = .ok (.iconst 0, 1) := dk_3 (dk_at dksX24_isHere_0 0 rfl rfl)
theorem dX24_isHere_1 : decode cX24_isHere 1 = .ok (.istore_n 3, 1) := dk_62 (dk_at dksX24_isHere_0 1 rfl rfl)
theorem dX24_isHere_2 : decode cX24_isHere 2 = .ok (.iload_n 3, 1) := dk_29 (dk_at dksX24_isHere_0 2 rfl rfl)
theorem dX24_isHere_3 : decode cX24_isHere 3 = .ok (.aload_n 0, 1) := dk_42 (dk_at dksX24_isHere_0 3 rfl rfl)
theorem dX24_isHere_4 : decode cX24_isHere 4 = .ok (.getfield 34, 3) := dk_180 0 34 (dk_at dksX24_isHere_0 4 rfl rfl)
theorem dX24_isHere_7 : decode cX24_isHere 7 = .ok (.iload_n 1, 1) := dk_27 (dk_at dksX24_isHere_0 7 rfl rfl)
theorem dX24_isHere_8 : decode cX24_isHere 8 = .ok (.iaload, 1) := dk_46 (dk_at dksX24_isHere_0 8 rfl rfl)
theorem dX24_isHere_9 : decode cX24_isHere 9 = .ok (.if_icmp .ge 38, 3) := dk_162 0 38 (dk_at dksX24_isHere_0 9 rfl rfl)
theorem dX24_isHere_12 : decode cX24_isHere 12 = .ok (.iload_n 2, 1) := dk_28 (dk_at dksX24_isHere_0 12 rfl rfl)
theorem dX24_isHere_13 : decode cX24_isHere 13 = .ok (.aload_n 0, 1) := dk_42 (dk_at dksX24_isHere_0 13 rfl rfl)
theorem dX24_isHere_14 : decode cX24_isHere 14 = .ok (.getfield 37, 3) := dk_180 0 37 (dk_at dksX24_isHere_0 14 rfl rfl)
theorem dX24_isHere_17 : decode cX24_isHere 17 = .ok (.iconst 3, 1) := dk_6 (dk_at dksX24_isHere_0 17 rfl rfl)
theorem dX24_isHere_18 : decode cX24_isHere 18 = .ok (.iload_n 1, 1) := dk_27 (dk_at dksX24_isHere_0 18 rfl rfl)
theorem dX24_isHere_19 : decode cX24_isHere 19 = .ok (.imul, 1) := dk_104 (dk_at dksX24_isHere_0 19 rfl rfl)
theorem dX24_isHere_20 : decode cX24_isHere 20 = .ok (.iload_n 3, 1) := dk_29 (dk_at dksX24_isHere_0 20 rfl rfl)
theorem dX24_isHere_21 : decode cX24_isHere 21 = .ok (.iadd, 1) := dk_96 (dk_at dksX24_isHere_0 21 rfl rfl)
theorem dX24_isHere_22 : decode cX24_isHere 22 = .ok (.iaload, 1) := dk_46 (dk_at dksX24_isHere_0 22 rfl rfl)
theorem dX24_isHere_23 : decode cX24_isHere 23 = .ok (.aload_n 0, 1) := dk_42 (dk_at dksX24_isHere_0 23 rfl rfl)
theorem dX24_isHere_24 : decode cX24_isHere 24 = .ok (.getfield 40, 3) := dk_180 0 40 (dk_at dksX24_isHere_1 0 rfl rfl)
theorem dX24_isHere_27 : decode cX24_isHere 27 = .ok (.iconst 3, 1) := dk_6 (dk_at dksX24_isHere_1 3 rfl rfl)
theorem dX24_isHere_28 : decode cX24_isHere 28 = .ok (.iload_n 1, 1) := dk_27 (dk_at dksX24_isHere_1 4 rfl rfl)
theorem dX24_isHere_29 : decode cX24_isHere 29 = .ok (.imul, 1) := dk_104 (dk_at dksX24_isHere_1 5 rfl rfl)
theorem dX24_isHere_30 : decode cX24_isHere 30 = .ok (.iload_n 3, 1) := dk_29 (dk_at dksX24_isHere_1 6 rfl rfl)
theorem dX24_isHere_31 : decode cX24_isHere 31 = .ok (.iadd, 1) := dk_96 (dk_at dksX24_isHere_1 7 rfl rfl)
theorem dX24_isHere_32 : decode cX24_isHere 32 = .ok (.iaload, 1) := dk_46 (dk_at dksX24_isHere_1 8 rfl rfl)
theorem dX24_isHere_33 : decode cX24_isHere 33 = .ok (.invokestatic 75, 3) := dk_184 0 75 (dk_at dksX24_isHere_1 9 rfl rfl)
theorem dX24_isHere_36 : decode cX24_isHere 36 = .ok (.ifCond .eq 5, 3) := dk_153 0 5 (dk_at dksX24_isHere_1 12 rfl rfl)
theorem dX24_isHere_39 : decode cX24_isHere 39 = .ok (.iconst 1, 1) := dk_4 (dk_at dksX24_isHere_1 15 rfl rfl)
theorem dX24_isHere_40 : decode cX24_isHere 40 = .ok (.ireturn, 1) := dk_172 (dk_at dksX24_isHere_1 16 rfl rfl)
theorem dX24_isHere_41 : decode cX24_isHere 41 = .ok (.iinc 3 1, 3) := dk_132 3 1 (dk_at dksX24_isHere_1 17 rfl rfl)
theorem dX24_isHere_44 : decode cX24_isHere 44 = .ok (.goto (-42), 3) := dk_167 255 214 (dk_at dksX24_isHere_1 20 rfl rfl)
theorem dX24_isHere_47 : decode cX24_isHere 47 = .ok (.iconst 0, 1) := dk_3 (dk_at dksX24_isHere_1 23 rfl rfl)
theorem dX24_isHere_48 : decode cX24_isHere 48 = .ok (.ireturn, 1) := dk_172 (dk_at dksX24_isHere_2 0 rfl rfl)
abbrev cX24_comes : ByteArray := prog_25_method_4_code
def yX24_comes : MethodName := ⟨RX24, "comes", "(II)Z"⟩
def dkwX24_comes_1 : List UInt8 := [160, 0, 5, 4, 172, 132, 3, 1, 167, 255, 227, 3, 172]
abbrev dktX24_comes_1 : List UInt8 := dkwX24_comes_1 ++ []
def dkwX24_comes_0 : List UInt8 := [3, 62, 29, 42, 180, 0, 34, 27, 46, 162, 0, 25, 42, 180, 0, 37, 6, 27, 104, 29, 96, 46, 28]
abbrev dktX24_comes_0 : List UInt8 := dkwX24_comes_0 ++ dktX24_comes_1
theorem dksX24_comes_0 : cX24_comes.data.toList.drop 0 = dktX24_comes_0 := by decide +kernel
theorem dksX24_comes_1 : cX24_comes.data.toList.drop 23 = dktX24_comes_1 := dk_seg dksX24_comes_0 23 rfl rfl
theorem dX24_comes_0 : decode cX24_comes 0 = .ok (.iconst 0, 1) := dk_3 (dk_at dksX24_comes_0 0 rfl rfl)
theorem dX24_comes_1 : decode cX24_comes 1 = .ok (.istore_n 3, 1) := dk_62 (dk_at dksX24_comes_0 1 rfl rfl)
theorem dX24_comes_2 : decode cX24_comes 2 = .ok (.iload_n 3, 1) := dk_29 (dk_at dksX24_comes_0 2 rfl rfl)
theorem dX24_comes_3 : decode cX24_comes 3 = .ok (.aload_n 0, 1) := dk_42 (dk_at dksX24_comes_0 3 rfl rfl)
theorem dX24_comes_4 : decode cX24_comes 4 = .ok (.getfield 34, 3) := dk_180 0 34 (dk_at dksX24_comes_0 4 rfl rfl)
theorem dX24_comes_7 : decode cX24_comes 7 = .ok (.iload_n 1, 1) := dk_27 (dk_at dksX24_comes_0 7 rfl rfl)
theorem dX24_comes_8 : decode cX24_comes 8 = .ok (.iaload, 1) := dk_46 (dk_at dksX24_comes_0 8 rfl rfl)
theorem dX24_comes_9 : decode cX24_comes 9 = .ok (.if_icmp .ge 25, 3) := dk_162 0 25 (dk_at dksX24_comes_0 9 rfl rfl)
theorem dX24_comes_12 : decode cX24_comes 12 = .ok (.aload_n 0, 1) := dk_42 (dk_at dksX24_comes_0 12 rfl rfl)
theorem dX24_comes_13 : decode cX24_comes 13 = .ok (.getfield 37, 3) := dk_180 0 37 (dk_at dksX24_comes_0 13 rfl rfl)
theorem dX24_comes_16 : decode cX24_comes 16 = .ok (.iconst 3, 1) := dk_6 (dk_at dksX24_comes_0 16 rfl rfl)
theorem dX24_comes_17 : decode cX24_comes 17 = .ok (.iload_n 1, 1) := dk_27 (dk_at dksX24_comes_0 17 rfl rfl)
theorem dX24_comes_18 : decode cX24_comes 18 = .ok (.imul, 1) := dk_104 (dk_at dksX24_comes_0 18 rfl rfl)
theorem dX24_comes_19 : decode cX24_comes 19 = .ok (.iload_n 3, 1) := dk_29 (dk_at dksX24_comes_0 19 rfl rfl)
theorem dX24_comes_20 : decode cX24_comes 20 = .ok (.iadd, 1) := dk_96 (dk_at dksX24_comes_0 20 rfl rfl)
theorem dX24_comes_21 : decode cX24_comes 21 = .ok (.iaload, 1) := dk_46 (dk_at dksX24_comes_0 21 rfl rfl)
theorem dX24_comes_22 : decode cX24_comes 22 = .ok (.iload_n 2, 1) := dk_28 (dk_at dksX24_comes_0 22 rfl rfl)
theorem dX24_comes_23 : decode cX24_comes 23 = .ok (.if_icmp .ne 5, 3) := dk_160 0 5 (dk_at dksX24_comes_1 0 rfl rfl)
theorem dX24_comes_26 : decode cX24_comes 26 = .ok (.iconst 1, 1) := dk_4 (dk_at dksX24_comes_1 3 rfl rfl)
theorem dX24_comes_27 : decode cX24_comes 27 = .ok (.ireturn, 1) := dk_172 (dk_at dksX24_comes_1 4 rfl rfl)
theorem dX24_comes_28 : decode cX24_comes 28 = .ok (.iinc 3 1, 3) := dk_132 3 1 (dk_at dksX24_comes_1 5 rfl rfl)
theorem dX24_comes_31 : decode cX24_comes 31 = .ok (.goto (-29), 3) := dk_167 255 227 (dk_at dksX24_comes_1 8 rfl rfl)
theorem dX24_comes_34 : decode cX24_comes 34 = .ok (.iconst 0, 1) := dk_3 (dk_at dksX24_comes_1 11 rfl rfl)
theorem dX24_comes_35 : decode cX24_comes 35 = .ok (.ireturn, 1) := dk_172 (dk_at dksX24_comes_1 12 rfl rfl)
abbrev cX24_goes : ByteArray := prog_25_method_5_code
def yX24_goes : MethodName := ⟨RX24, "goes", "(II)Z"⟩
def dkwX24_goes_1 : List UInt8 := [160, 0, 5, 4, 172, 132, 3, 1, 167, 255, 227, 3, 172]
abbrev dktX24_goes_1 : List UInt8 := dkwX24_goes_1 ++ []
def dkwX24_goes_0 : List UInt8 := [3, 62, 29, 42, 180, 0, 34, 27, 46, 162, 0, 25, 42, 180, 0, 40, 6, 27, 104, 29, 96, 46, 28]
abbrev dktX24_goes_0 : List UInt8 := dkwX24_goes_0 ++ dktX24_goes_1
theorem dksX24_goes_0 : cX24_goes.data.toList.drop 0 = dktX24_goes_0 := by decide +kernel
theorem dksX24_goes_1 : cX24_goes.data.toList.drop 23 = dktX24_goes_1 := dk_seg dksX24_goes_0 23 rfl rfl
theorem dX24_goes_0 : decode cX24_goes 0 = .ok (.iconst 0, 1) := dk_3 (dk_at dksX24_goes_0 0 rfl rfl)
theorem dX24_goes_1 : decode cX24_goes 1 = .ok (.istore_n 3, 1) := dk_62 (dk_at dksX24_goes_0 1 rfl rfl)
theorem dX24_goes_2 : decode cX24_goes 2 = .ok (.iload_n 3, 1) := dk_29 (dk_at dksX24_goes_0 2 rfl rfl)
theorem dX24_goes_3 : decode cX24_goes 3 = .ok (.aload_n 0, 1) := dk_42 (dk_at dksX24_goes_0 3 rfl rfl)
theorem dX24_goes_4 : decode cX24_goes 4 = .ok (.getfield 34, 3) := dk_180 0 34 (dk_at dksX24_goes_0 4 rfl rfl)
theorem dX24_goes_7 : decode cX24_goes 7 = .ok (.iload_n 1, 1) := dk_27 (dk_at dksX24_goes_0 7 rfl rfl)
theorem dX24_goes_8 : decode cX24_goes 8 = .ok (.iaload, 1) := dk_46 (dk_at dksX24_goes_0 8 rfl rfl)
theorem dX24_goes_9 : decode cX24_goes 9 = .ok (.if_icmp .ge 25, 3) := dk_162 0 25 (dk_at dksX24_goes_0 9 rfl rfl)
theorem dX24_goes_12 : decode cX24_goes 12 = .ok (.aload_n 0, 1) := dk_42 (dk_at dksX24_goes_0 12 rfl rfl)
theorem dX24_goes_13 : decode cX24_goes 13 = .ok (.getfield 40, 3) := dk_180 0 40 (dk_at dksX24_goes_0 13 rfl rfl)
theorem dX24_goes_16 : decode cX24_goes 16 = .ok (.iconst 3, 1) := dk_6 (dk_at dksX24_goes_0 16 rfl rfl)
theorem dX24_goes_17 : decode cX24_goes 17 = .ok (.iload_n 1, 1) := dk_27 (dk_at dksX24_goes_0 17 rfl rfl)
theorem dX24_goes_18 : decode cX24_goes 18 = .ok (.imul, 1) := dk_104 (dk_at dksX24_goes_0 18 rfl rfl)
theorem dX24_goes_19 : decode cX24_goes 19 = .ok (.iload_n 3, 1) := dk_29 (dk_at dksX24_goes_0 19 rfl rfl)
theorem dX24_goes_20 : decode cX24_goes 20 = .ok (.iadd, 1) := dk_96 (dk_at dksX24_goes_0 20 rfl rfl)
theorem dX24_goes_21 : decode cX24_goes 21 = .ok (.iaload, 1) := dk_46 (dk_at dksX24_goes_0 21 rfl rfl)
theorem dX24_goes_22 : decode cX24_goes 22 = .ok (.iload_n 2, 1) := dk_28 (dk_at dksX24_goes_0 22 rfl rfl)
theorem dX24_goes_23 : decode cX24_goes 23 = .ok (.if_icmp .ne 5, 3) := dk_160 0 5 (dk_at dksX24_goes_1 0 rfl rfl)
theorem dX24_goes_26 : decode cX24_goes 26 = .ok (.iconst 1, 1) := dk_4 (dk_at dksX24_goes_1 3 rfl rfl)
theorem dX24_goes_27 : decode cX24_goes 27 = .ok (.ireturn, 1) := dk_172 (dk_at dksX24_goes_1 4 rfl rfl)
theorem dX24_goes_28 : decode cX24_goes 28 = .ok (.iinc 3 1, 3) := dk_132 3 1 (dk_at dksX24_goes_1 5 rfl rfl)
theorem dX24_goes_31 : decode cX24_goes 31 = .ok (.goto (-29), 3) := dk_167 255 227 (dk_at dksX24_goes_1 8 rfl rfl)
theorem dX24_goes_34 : decode cX24_goes 34 = .ok (.iconst 0, 1) := dk_3 (dk_at dksX24_goes_1 11 rfl rfl)
theorem dX24_goes_35 : decode cX24_goes 35 = .ok (.ireturn, 1) := dk_172 (dk_at dksX24_goes_1 12 rfl rfl)
theorem q161 : (Jvm.Cond.initialized "BrushGlassModel$Glass") ∈ lw_all := lw_g (lw_at lw_m1 32 rfl) rfl
theorem q1925 : (Jvm.Cond.instantiable "BrushGlassModel$Glass" (27 : Nat)) ∈ lw_all := lw_g (lw_at lw_m8 116 rfl) rfl
theorem q1927 : (Jvm.Cond.instanceMethod ({ cls := "BrushGlassModel$Glass", name := "<init>", desc := "()V" } : Jvm.MethodName)) ∈ lw_all := lw_g (lw_at lw_m8 118 rfl) rfl
theorem q1928 : (Jvm.Cond.code ({ cls := "BrushGlassModel$Glass", name := "<init>", desc := "()V" } : Jvm.MethodName) prog_25_method_1_code (1 : Nat) (Option.none : Option Jvm.ClassFile.FieldType)) ∈ lw_all := lw_g (lw_at lw_m8 119 rfl) rfl
theorem q1929 : (Jvm.Cond.methodLink "BrushGlassModel$Glass" (3 : Nat) ({ cls := "java/lang/Object", name := "<init>", desc := "()V" } : Jvm.MethodName)) ∈ lw_all := lw_g (lw_at lw_m8 120 rfl) rfl
theorem q1934 : (Jvm.Cond.fieldLink "BrushGlassModel$Glass" (71 : Nat) "BrushGlassModel$Glass" "people" "I") ∈ lw_all := lw_g (lw_at lw_m8 125 rfl) rfl
theorem q1939 : (Jvm.Cond.fieldLink "BrushGlassModel$Glass" (9 : Nat) "BrushGlassModel$Glass" "name" "[J") ∈ lw_all := lw_g (lw_at lw_m8 130 rfl) rfl
theorem q1941 : (Jvm.Cond.fieldLink "BrushGlassModel$Glass" (15 : Nat) "BrushGlassModel$Glass" "kind" "[I") ∈ lw_all := lw_g (lw_at lw_m8 132 rfl) rfl
theorem q1943 : (Jvm.Cond.fieldLink "BrushGlassModel$Glass" (19 : Nat) "BrushGlassModel$Glass" "habit" "[I") ∈ lw_all := lw_g (lw_at lw_m8 134 rfl) rfl
theorem q1945 : (Jvm.Cond.fieldLink "BrushGlassModel$Glass" (22 : Nat) "BrushGlassModel$Glass" "liked" "[I") ∈ lw_all := lw_g (lw_at lw_m8 136 rfl) rfl
theorem q1947 : (Jvm.Cond.fieldLink "BrushGlassModel$Glass" (25 : Nat) "BrushGlassModel$Glass" "likes" "[I") ∈ lw_all := lw_g (lw_at lw_m8 138 rfl) rfl
theorem q1949 : (Jvm.Cond.fieldLink "BrushGlassModel$Glass" (28 : Nat) "BrushGlassModel$Glass" "keeps" "[I") ∈ lw_all := lw_g (lw_at lw_m8 140 rfl) rfl
theorem q1951 : (Jvm.Cond.fieldLink "BrushGlassModel$Glass" (31 : Nat) "BrushGlassModel$Glass" "wears" "[I") ∈ lw_all := lw_g (lw_at lw_m8 142 rfl) rfl
theorem q1953 : (Jvm.Cond.fieldLink "BrushGlassModel$Glass" (34 : Nat) "BrushGlassModel$Glass" "stays" "[I") ∈ lw_all := lw_g (lw_at lw_m8 144 rfl) rfl
theorem q1955 : (Jvm.Cond.fieldLink "BrushGlassModel$Glass" (37 : Nat) "BrushGlassModel$Glass" "from" "[I") ∈ lw_all := lw_g (lw_at lw_m8 146 rfl) rfl
theorem q1957 : (Jvm.Cond.fieldLink "BrushGlassModel$Glass" (40 : Nat) "BrushGlassModel$Glass" "to" "[I") ∈ lw_all := lw_g (lw_at lw_m8 148 rfl) rfl
theorem q1959 : (Jvm.Cond.fieldLink "BrushGlassModel$Glass" (43 : Nat) "BrushGlassModel$Glass" "takes" "[Z") ∈ lw_all := lw_g (lw_at lw_m8 150 rfl) rfl
theorem q1961 : (Jvm.Cond.fieldLink "BrushGlassModel$Glass" (47 : Nat) "BrushGlassModel$Glass" "moveDay" "[I") ∈ lw_all := lw_g (lw_at lw_m8 152 rfl) rfl
theorem q1963 : (Jvm.Cond.fieldLink "BrushGlassModel$Glass" (50 : Nat) "BrushGlassModel$Glass" "moveOne" "[I") ∈ lw_all := lw_g (lw_at lw_m8 154 rfl) rfl
theorem q1965 : (Jvm.Cond.fieldLink "BrushGlassModel$Glass" (53 : Nat) "BrushGlassModel$Glass" "moveTwo" "[I") ∈ lw_all := lw_g (lw_at lw_m8 156 rfl) rfl
theorem q1967 : (Jvm.Cond.fieldLink "BrushGlassModel$Glass" (56 : Nat) "BrushGlassModel$Glass" "seenDay" "[I") ∈ lw_all := lw_g (lw_at lw_m8 158 rfl) rfl
theorem q1969 : (Jvm.Cond.fieldLink "BrushGlassModel$Glass" (59 : Nat) "BrushGlassModel$Glass" "seen" "[I") ∈ lw_all := lw_g (lw_at lw_m8 160 rfl) rfl
theorem q1971 : (Jvm.Cond.fieldLink "BrushGlassModel$Glass" (62 : Nat) "BrushGlassModel$Glass" "saidBy" "[I") ∈ lw_all := lw_g (lw_at lw_m8 162 rfl) rfl
theorem q1973 : (Jvm.Cond.fieldLink "BrushGlassModel$Glass" (65 : Nat) "BrushGlassModel$Glass" "saidDay" "[I") ∈ lw_all := lw_g (lw_at lw_m8 164 rfl) rfl
theorem q1975 : (Jvm.Cond.fieldLink "BrushGlassModel$Glass" (68 : Nat) "BrushGlassModel$Glass" "saidPlace" "[I") ∈ lw_all := lw_g (lw_at lw_m8 166 rfl) rfl
theorem q1977 : (Jvm.Cond.lays "BrushGlassModel$Glass" "BrushGlassModel$Glass" "days" "I") ∈ lw_all := lw_g (lw_at lw_m8 168 rfl) rfl
theorem q1978 : (Jvm.Cond.soleField "BrushGlassModel$Glass" "days") ∈ lw_all := lw_g (lw_at lw_m8 169 rfl) rfl
theorem q1979 : (Jvm.Cond.lays "BrushGlassModel$Glass" "BrushGlassModel$Glass" "places" "I") ∈ lw_all := lw_g (lw_at lw_m8 170 rfl) rfl
theorem q1980 : (Jvm.Cond.soleField "BrushGlassModel$Glass" "places") ∈ lw_all := lw_g (lw_at lw_m8 171 rfl) rfl
theorem q1981 : (Jvm.Cond.lays "BrushGlassModel$Glass" "BrushGlassModel$Glass" "colours" "I") ∈ lw_all := lw_g (lw_at lw_m8 172 rfl) rfl
theorem q1982 : (Jvm.Cond.soleField "BrushGlassModel$Glass" "colours") ∈ lw_all := lw_g (lw_at lw_m8 173 rfl) rfl
theorem q1983 : (Jvm.Cond.lays "BrushGlassModel$Glass" "BrushGlassModel$Glass" "reach" "I") ∈ lw_all := lw_g (lw_at lw_m8 174 rfl) rfl
theorem q1984 : (Jvm.Cond.soleField "BrushGlassModel$Glass" "reach") ∈ lw_all := lw_g (lw_at lw_m8 175 rfl) rfl
theorem q1985 : (Jvm.Cond.lays "BrushGlassModel$Glass" "BrushGlassModel$Glass" "people" "I") ∈ lw_all := lw_g (lw_at lw_m8 176 rfl) rfl
theorem q1986 : (Jvm.Cond.soleField "BrushGlassModel$Glass" "people") ∈ lw_all := lw_g (lw_at lw_m8 177 rfl) rfl
theorem q1987 : (Jvm.Cond.lays "BrushGlassModel$Glass" "BrushGlassModel$Glass" "moves" "I") ∈ lw_all := lw_g (lw_at lw_m8 178 rfl) rfl
theorem q1988 : (Jvm.Cond.soleField "BrushGlassModel$Glass" "moves") ∈ lw_all := lw_g (lw_at lw_m8 179 rfl) rfl
theorem q1989 : (Jvm.Cond.lays "BrushGlassModel$Glass" "BrushGlassModel$Glass" "seeings" "I") ∈ lw_all := lw_g (lw_at lw_m8 180 rfl) rfl
theorem q1990 : (Jvm.Cond.soleField "BrushGlassModel$Glass" "seeings") ∈ lw_all := lw_g (lw_at lw_m8 181 rfl) rfl
theorem q1991 : (Jvm.Cond.lays "BrushGlassModel$Glass" "BrushGlassModel$Glass" "sayings" "I") ∈ lw_all := lw_g (lw_at lw_m8 182 rfl) rfl
theorem q1992 : (Jvm.Cond.soleField "BrushGlassModel$Glass" "sayings") ∈ lw_all := lw_g (lw_at lw_m8 183 rfl) rfl
theorem q1993 : (Jvm.Cond.laysFinal "BrushGlassModel$Glass" "BrushGlassModel$Glass" "name" "[J") ∈ lw_all := lw_g (lw_at lw_m8 184 rfl) rfl
theorem q1994 : (Jvm.Cond.soleField "BrushGlassModel$Glass" "name") ∈ lw_all := lw_g (lw_at lw_m8 185 rfl) rfl
theorem q1995 : (Jvm.Cond.laysFinal "BrushGlassModel$Glass" "BrushGlassModel$Glass" "kind" "[I") ∈ lw_all := lw_g (lw_at lw_m8 186 rfl) rfl
theorem q1996 : (Jvm.Cond.soleField "BrushGlassModel$Glass" "kind") ∈ lw_all := lw_g (lw_at lw_m8 187 rfl) rfl
theorem q1997 : (Jvm.Cond.laysFinal "BrushGlassModel$Glass" "BrushGlassModel$Glass" "habit" "[I") ∈ lw_all := lw_g (lw_at lw_m8 188 rfl) rfl
theorem q1998 : (Jvm.Cond.soleField "BrushGlassModel$Glass" "habit") ∈ lw_all := lw_g (lw_at lw_m8 189 rfl) rfl
theorem q1999 : (Jvm.Cond.laysFinal "BrushGlassModel$Glass" "BrushGlassModel$Glass" "liked" "[I") ∈ lw_all := lw_g (lw_at lw_m8 190 rfl) rfl
theorem q2000 : (Jvm.Cond.soleField "BrushGlassModel$Glass" "liked") ∈ lw_all := lw_g (lw_at lw_m8 191 rfl) rfl
theorem q2001 : (Jvm.Cond.laysFinal "BrushGlassModel$Glass" "BrushGlassModel$Glass" "likes" "[I") ∈ lw_all := lw_g (lw_at lw_m8 192 rfl) rfl
theorem q2002 : (Jvm.Cond.soleField "BrushGlassModel$Glass" "likes") ∈ lw_all := lw_g (lw_at lw_m8 193 rfl) rfl
theorem q2003 : (Jvm.Cond.laysFinal "BrushGlassModel$Glass" "BrushGlassModel$Glass" "keeps" "[I") ∈ lw_all := lw_g (lw_at lw_m8 194 rfl) rfl
theorem q2004 : (Jvm.Cond.soleField "BrushGlassModel$Glass" "keeps") ∈ lw_all := lw_g (lw_at lw_m8 195 rfl) rfl
theorem q2005 : (Jvm.Cond.laysFinal "BrushGlassModel$Glass" "BrushGlassModel$Glass" "wears" "[I") ∈ lw_all := lw_g (lw_at lw_m8 196 rfl) rfl
theorem q2006 : (Jvm.Cond.soleField "BrushGlassModel$Glass" "wears") ∈ lw_all := lw_g (lw_at lw_m8 197 rfl) rfl
theorem q2007 : (Jvm.Cond.laysFinal "BrushGlassModel$Glass" "BrushGlassModel$Glass" "stays" "[I") ∈ lw_all := lw_g (lw_at lw_m8 198 rfl) rfl
theorem q2008 : (Jvm.Cond.soleField "BrushGlassModel$Glass" "stays") ∈ lw_all := lw_g (lw_at lw_m8 199 rfl) rfl
theorem q2009 : (Jvm.Cond.laysFinal "BrushGlassModel$Glass" "BrushGlassModel$Glass" "from" "[I") ∈ lw_all := lw_g (lw_at lw_m8 200 rfl) rfl
theorem q2010 : (Jvm.Cond.soleField "BrushGlassModel$Glass" "from") ∈ lw_all := lw_g (lw_at lw_m8 201 rfl) rfl
theorem q2011 : (Jvm.Cond.laysFinal "BrushGlassModel$Glass" "BrushGlassModel$Glass" "to" "[I") ∈ lw_all := lw_g (lw_at lw_m8 202 rfl) rfl
theorem q2012 : (Jvm.Cond.soleField "BrushGlassModel$Glass" "to") ∈ lw_all := lw_g (lw_at lw_m8 203 rfl) rfl
theorem q2013 : (Jvm.Cond.laysFinal "BrushGlassModel$Glass" "BrushGlassModel$Glass" "takes" "[Z") ∈ lw_all := lw_g (lw_at lw_m8 204 rfl) rfl
theorem q2014 : (Jvm.Cond.soleField "BrushGlassModel$Glass" "takes") ∈ lw_all := lw_g (lw_at lw_m8 205 rfl) rfl
theorem q2015 : (Jvm.Cond.laysFinal "BrushGlassModel$Glass" "BrushGlassModel$Glass" "moveDay" "[I") ∈ lw_all := lw_g (lw_at lw_m8 206 rfl) rfl
theorem q2016 : (Jvm.Cond.soleField "BrushGlassModel$Glass" "moveDay") ∈ lw_all := lw_g (lw_at lw_m8 207 rfl) rfl
theorem q2017 : (Jvm.Cond.laysFinal "BrushGlassModel$Glass" "BrushGlassModel$Glass" "moveOne" "[I") ∈ lw_all := lw_g (lw_at lw_m8 208 rfl) rfl
theorem q2018 : (Jvm.Cond.soleField "BrushGlassModel$Glass" "moveOne") ∈ lw_all := lw_g (lw_at lw_m8 209 rfl) rfl
theorem q2019 : (Jvm.Cond.laysFinal "BrushGlassModel$Glass" "BrushGlassModel$Glass" "moveTwo" "[I") ∈ lw_all := lw_g (lw_at lw_m8 210 rfl) rfl
theorem q2020 : (Jvm.Cond.soleField "BrushGlassModel$Glass" "moveTwo") ∈ lw_all := lw_g (lw_at lw_m8 211 rfl) rfl
theorem q2021 : (Jvm.Cond.laysFinal "BrushGlassModel$Glass" "BrushGlassModel$Glass" "seenDay" "[I") ∈ lw_all := lw_g (lw_at lw_m8 212 rfl) rfl
theorem q2022 : (Jvm.Cond.soleField "BrushGlassModel$Glass" "seenDay") ∈ lw_all := lw_g (lw_at lw_m8 213 rfl) rfl
theorem q2023 : (Jvm.Cond.laysFinal "BrushGlassModel$Glass" "BrushGlassModel$Glass" "seen" "[I") ∈ lw_all := lw_g (lw_at lw_m8 214 rfl) rfl
theorem q2024 : (Jvm.Cond.soleField "BrushGlassModel$Glass" "seen") ∈ lw_all := lw_g (lw_at lw_m8 215 rfl) rfl
theorem q2025 : (Jvm.Cond.laysFinal "BrushGlassModel$Glass" "BrushGlassModel$Glass" "saidBy" "[I") ∈ lw_all := lw_g (lw_at lw_m8 216 rfl) rfl
theorem q2026 : (Jvm.Cond.soleField "BrushGlassModel$Glass" "saidBy") ∈ lw_all := lw_g (lw_at lw_m8 217 rfl) rfl
theorem q2027 : (Jvm.Cond.laysFinal "BrushGlassModel$Glass" "BrushGlassModel$Glass" "saidDay" "[I") ∈ lw_all := lw_g (lw_at lw_m8 218 rfl) rfl
theorem q2028 : (Jvm.Cond.soleField "BrushGlassModel$Glass" "saidDay") ∈ lw_all := lw_g (lw_at lw_m8 219 rfl) rfl
theorem q2029 : (Jvm.Cond.laysFinal "BrushGlassModel$Glass" "BrushGlassModel$Glass" "saidPlace" "[I") ∈ lw_all := lw_g (lw_at lw_m8 220 rfl) rfl
theorem q2030 : (Jvm.Cond.soleField "BrushGlassModel$Glass" "saidPlace") ∈ lw_all := lw_g (lw_at lw_m8 221 rfl) rfl
theorem q2031 : (Jvm.Cond.superclass "BrushGlassModel$Glass" "java/lang/Object") ∈ lw_all := lw_g (lw_at lw_m8 222 rfl) rfl
theorem q2115 : (Jvm.Cond.instanceMethod ({ cls := "BrushGlassModel$Glass", name := "find", desc := "(J)I" } : Jvm.MethodName)) ∈ lw_all := lw_g (lw_at lw_m9 66 rfl) rfl
theorem q2116 : (Jvm.Cond.selects "BrushGlassModel$Glass" ({ cls := "BrushGlassModel$Glass", name := "find", desc := "(J)I" } : Jvm.MethodName) ({ cls := "BrushGlassModel$Glass", name := "find", desc := "(J)I" } : Jvm.MethodName)) ∈ lw_all := lw_g (lw_at lw_m9 67 rfl) rfl
theorem q2117 : (Jvm.Cond.code ({ cls := "BrushGlassModel$Glass", name := "find", desc := "(J)I" } : Jvm.MethodName) prog_25_method_2_code (4 : Nat) (Option.some Jvm.ClassFile.FieldType.int)) ∈ lw_all := lw_g (lw_at lw_m9 68 rfl) rfl
theorem q2202 : (Jvm.Cond.instanceMethod ({ cls := "BrushGlassModel$Glass", name := "here", desc := "(I)I" } : Jvm.MethodName)) ∈ lw_all := lw_g (lw_at lw_m9 153 rfl) rfl
theorem q2203 : (Jvm.Cond.selects "BrushGlassModel$Glass" ({ cls := "BrushGlassModel$Glass", name := "here", desc := "(I)I" } : Jvm.MethodName) ({ cls := "BrushGlassModel$Glass", name := "here", desc := "(I)I" } : Jvm.MethodName)) ∈ lw_all := lw_g (lw_at lw_m9 154 rfl) rfl
theorem q2204 : (Jvm.Cond.code ({ cls := "BrushGlassModel$Glass", name := "here", desc := "(I)I" } : Jvm.MethodName) prog_25_method_6_code (4 : Nat) (Option.some Jvm.ClassFile.FieldType.int)) ∈ lw_all := lw_g (lw_at lw_m9 155 rfl) rfl
theorem q2205 : (Jvm.Cond.methodLink "BrushGlassModel$Glass" (79 : Nat) ({ cls := "BrushGlassModel$Glass", name := "isHere", desc := "(II)Z" } : Jvm.MethodName)) ∈ lw_all := lw_g (lw_at lw_m9 156 rfl) rfl
theorem q2206 : (Jvm.Cond.instanceMethod ({ cls := "BrushGlassModel$Glass", name := "isHere", desc := "(II)Z" } : Jvm.MethodName)) ∈ lw_all := lw_g (lw_at lw_m9 157 rfl) rfl
theorem q2207 : (Jvm.Cond.selects "BrushGlassModel$Glass" ({ cls := "BrushGlassModel$Glass", name := "isHere", desc := "(II)Z" } : Jvm.MethodName) ({ cls := "BrushGlassModel$Glass", name := "isHere", desc := "(II)Z" } : Jvm.MethodName)) ∈ lw_all := lw_g (lw_at lw_m9 158 rfl) rfl
theorem q2208 : (Jvm.Cond.code ({ cls := "BrushGlassModel$Glass", name := "isHere", desc := "(II)Z" } : Jvm.MethodName) prog_25_method_3_code (4 : Nat) (Option.some Jvm.ClassFile.FieldType.boolean)) ∈ lw_all := lw_g (lw_at lw_m9 159 rfl) rfl
theorem q2209 : (Jvm.Cond.methodLinkNest "BrushGlassModel$Glass" (75 : Nat) ({ cls := "BrushGlassModel", name := "in", desc := "(III)Z" } : Jvm.MethodName) "BrushGlassModel") ∈ lw_tbl := lw_at lw_m9 160 rfl
theorem q2234 : (Jvm.Cond.instanceMethod ({ cls := "BrushGlassModel$Glass", name := "comes", desc := "(II)Z" } : Jvm.MethodName)) ∈ lw_all := lw_g (lw_at lw_m9 185 rfl) rfl
theorem q2235 : (Jvm.Cond.selects "BrushGlassModel$Glass" ({ cls := "BrushGlassModel$Glass", name := "comes", desc := "(II)Z" } : Jvm.MethodName) ({ cls := "BrushGlassModel$Glass", name := "comes", desc := "(II)Z" } : Jvm.MethodName)) ∈ lw_all := lw_g (lw_at lw_m9 186 rfl) rfl
theorem q2236 : (Jvm.Cond.code ({ cls := "BrushGlassModel$Glass", name := "comes", desc := "(II)Z" } : Jvm.MethodName) prog_25_method_4_code (4 : Nat) (Option.some Jvm.ClassFile.FieldType.boolean)) ∈ lw_all := lw_g (lw_at lw_m9 187 rfl) rfl
theorem q2275 : (Jvm.Cond.instanceMethod ({ cls := "BrushGlassModel$Glass", name := "goes", desc := "(II)Z" } : Jvm.MethodName)) ∈ lw_all := lw_g (lw_at lw_m9 226 rfl) rfl
theorem q2276 : (Jvm.Cond.selects "BrushGlassModel$Glass" ({ cls := "BrushGlassModel$Glass", name := "goes", desc := "(II)Z" } : Jvm.MethodName) ({ cls := "BrushGlassModel$Glass", name := "goes", desc := "(II)Z" } : Jvm.MethodName)) ∈ lw_all := lw_g (lw_at lw_m9 227 rfl) rfl
theorem q2277 : (Jvm.Cond.code ({ cls := "BrushGlassModel$Glass", name := "goes", desc := "(II)Z" } : Jvm.MethodName) prog_25_method_5_code (4 : Nat) (Option.some Jvm.ClassFile.FieldType.boolean)) ∈ lw_all := lw_g (lw_at lw_m9 228 rfl) rfl
theorem q2614 : (Jvm.Cond.castable "BrushGlassModel$Glass" "java/lang/Object") ∈ lw_tbl := lw_at lw_m11 85 rfl
theorem in_X24 : ∀ w ∈ wsX240, w ∈ lw_all := lw_in wsX240 [1977, 1979, 1981, 1983, 1985, 1987, 1989, 1991, 1993, 1995, 1997, 1999, 2001, 2003, 2005, 2007, 2009, 2011, 2013, 2015, 2017, 2019, 2021, 2023, 2025, 2027, 2029] (by decide +kernel) (by decide +kernel)
