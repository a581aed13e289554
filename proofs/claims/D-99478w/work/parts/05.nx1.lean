/-! GlassStreetLaw -/
set_option maxRecDepth 100000
def RX0 : String := "GlassStreetLaw"
abbrev cX0_rests : ByteArray := method_3_code
def yX0_rests : MethodName := ⟨RX0, "rests", "(LGlassStreet;IIII[J)I"⟩
def dkwX0_rests_0 : List UInt8 := [25, 5, 3, 42, 27, 28, 29, 21, 4, 182, 0, 7, 133, 80, 167, 0, 7, 58, 6, 4, 172, 3, 172]
abbrev dktX0_rests_0 : List UInt8 := dkwX0_rests_0 ++ []
theorem dksX0_rests_0 : cX0_rests.data.toList.drop 0 = dktX0_rests_0 := by decide +kernel
theorem dX0_rests_0 : decode cX0_rests 0 = .ok (.aload 5, 2) := dk_25 5 (dk_at dksX0_rests_0 0 rfl rfl)
theorem dX0_rests_2 : decode cX0_rests 2 = .ok (.iconst 0, 1) := dk_3 (dk_at dksX0_rests_0 2 rfl rfl)
theorem dX0_rests_3 : decode cX0_rests 3 = .ok (.aload_n 0, 1) := dk_42 (dk_at dksX0_rests_0 3 rfl rfl)
theorem dX0_rests_4 : decode cX0_rests 4 = .ok (.iload_n 1, 1) := dk_27 (dk_at dksX0_rests_0 4 rfl rfl)
theorem dX0_rests_5 : decode cX0_rests 5 = .ok (.iload_n 2, 1) := dk_28 (dk_at dksX0_rests_0 5 rfl rfl)
theorem dX0_rests_6 : decode cX0_rests 6 = .ok (.iload_n 3, 1) := dk_29 (dk_at dksX0_rests_0 6 rfl rfl)
theorem dX0_rests_7 : decode cX0_rests 7 = .ok (.iload 4, 2) := dk_21 4 (dk_at dksX0_rests_0 7 rfl rfl)
theorem dX0_rests_9 : decode cX0_rests 9 = .ok (.invokevirtual 7, 3) := dk_182 0 7 (dk_at dksX0_rests_0 9 rfl rfl)
theorem dX0_rests_12 : decode cX0_rests 12 = .ok (.i2l, 1) := dk_133 (dk_at dksX0_rests_0 12 rfl rfl)
theorem dX0_rests_13 : decode cX0_rests 13 = .ok (.lastore, 1) := dk_80 (dk_at dksX0_rests_0 13 rfl rfl)
theorem dX0_rests_14 : decode cX0_rests 14 = .ok (.goto 7, 3) := dk_167 0 7 (dk_at dksX0_rests_0 14 rfl rfl)
theorem dX0_rests_17 : decode cX0_rests 17 = .ok (.astore 6, 2) := dk_58 6 (dk_at dksX0_rests_0 17 rfl rfl)
theorem dX0_rests_19 : decode cX0_rests 19 = .ok (.iconst 1, 1) := dk_4 (dk_at dksX0_rests_0 19 rfl rfl)
theorem dX0_rests_20 : decode cX0_rests 20 = .ok (.ireturn, 1) := dk_172 (dk_at dksX0_rests_0 20 rfl rfl)
theorem dX0_rests_21 : decode cX0_rests 21 = .ok (.iconst 0, 1) := dk_3 (dk_at dksX0_rests_0 21 rfl rfl)
theorem dX0_rests_22 : decode cX0_rests 22 = .ok (.ireturn, 1) := dk_172 (dk_at dksX0_rests_0 22 rfl rfl)
theorem q120 : (Jvm.Cond.initialized "GlassStreetLaw") ∈ lw_all := lw_g (lw_at lw_m1 0 rfl) rfl
theorem q164 : (Jvm.Cond.classLink "GlassStreetLaw" (8 : Nat) "GlassStreet") ∈ lw_all := lw_g (lw_at lw_m1 44 rfl) rfl
theorem q166 : (Jvm.Cond.methodLink "GlassStreetLaw" (15 : Nat) ({ cls := "GlassStreet", name := "<init>", desc := "()V" } : Jvm.MethodName)) ∈ lw_all := lw_g (lw_at lw_m1 46 rfl) rfl
theorem q393 : (Jvm.Cond.methodLink "GlassStreetLaw" (21 : Nat) ({ cls := "GlassStreet", name := "feed", desc := "(JJJ)I" } : Jvm.MethodName)) ∈ lw_all := lw_g (lw_at lw_m2 33 rfl) rfl
theorem q397 : (Jvm.Cond.methodLink "GlassStreetLaw" (26 : Nat) ({ cls := "GlassStreet", name := "street", desc := "()I" } : Jvm.MethodName)) ∈ lw_all := lw_g (lw_at lw_m2 37 rfl) rfl
theorem q1070 : (Jvm.Cond.methodLink "GlassStreetLaw" (31 : Nat) ({ cls := "GlassStreet", name := "day", desc := "()I" } : Jvm.MethodName)) ∈ lw_all := lw_g (lw_at lw_m4 230 rfl) rfl
theorem q1149 : (Jvm.Cond.methodLink "GlassStreetLaw" (35 : Nat) ({ cls := "GlassStreet", name := "pane", desc := "(II)I" } : Jvm.MethodName)) ∈ lw_all := lw_g (lw_at lw_m5 69 rfl) rfl
theorem q1212 : (Jvm.Cond.methodLink "GlassStreetLaw" (40 : Nat) ({ cls := "GlassStreet", name := "shown", desc := "(III)I" } : Jvm.MethodName)) ∈ lw_all := lw_g (lw_at lw_m5 132 rfl) rfl
theorem q1234 : (Jvm.Cond.methodLink "GlassStreetLaw" (45 : Nat) ({ cls := "GlassStreet", name := "person", desc := "(I)I" } : Jvm.MethodName)) ∈ lw_all := lw_g (lw_at lw_m5 154 rfl) rfl
theorem q1246 : (Jvm.Cond.methodLink "GlassStreetLaw" (50 : Nat) ({ cls := "GlassStreet", name := "walk", desc := "(II)Z" } : Jvm.MethodName)) ∈ lw_all := lw_g (lw_at lw_m5 166 rfl) rfl
theorem q1266 : (Jvm.Cond.methodLink "GlassStreetLaw" (55 : Nat) ({ cls := "GlassStreet", name := "does", desc := "(II)I" } : Jvm.MethodName)) ∈ lw_all := lw_g (lw_at lw_m5 186 rfl) rfl
theorem q1294 : (Jvm.Cond.methodLink "GlassStreetLaw" (59 : Nat) ({ cls := "GlassStreet", name := "wash", desc := "(I)I" } : Jvm.MethodName)) ∈ lw_all := lw_g (lw_at lw_m5 214 rfl) rfl
theorem q1302 : (Jvm.Cond.methodLink "GlassStreetLaw" (63 : Nat) ({ cls := "GlassStreet", name := "curtain", desc := "(I)Z" } : Jvm.MethodName)) ∈ lw_all := lw_g (lw_at lw_m5 222 rfl) rfl
theorem q1306 : (Jvm.Cond.methodLink "GlassStreetLaw" (68 : Nat) ({ cls := "GlassStreet", name := "stone", desc := "(I)Z" } : Jvm.MethodName)) ∈ lw_all := lw_g (lw_at lw_m5 226 rfl) rfl
theorem q1310 : (Jvm.Cond.methodLink "GlassStreetLaw" (72 : Nat) ({ cls := "GlassStreet", name := "hour", desc := "()I" } : Jvm.MethodName)) ∈ lw_all := lw_g (lw_at lw_m5 230 rfl) rfl
theorem q1344 : (Jvm.Cond.methodLink "GlassStreetLaw" (76 : Nat) ({ cls := "GlassStreet", name := "undo", desc := "()Z" } : Jvm.MethodName)) ∈ lw_all := lw_g (lw_at lw_m6 24 rfl) rfl
theorem q1348 : (Jvm.Cond.methodLink "GlassStreetLaw" (81 : Nat) ({ cls := "GlassStreet", name := "judged", desc := "(I)I" } : Jvm.MethodName)) ∈ lw_all := lw_g (lw_at lw_m6 28 rfl) rfl
theorem q1390 : (Jvm.Cond.methodLink "GlassStreetLaw" (85 : Nat) ({ cls := "GlassStreet", name := "shame", desc := "(I)I" } : Jvm.MethodName)) ∈ lw_all := lw_g (lw_at lw_m6 70 rfl) rfl
theorem q1398 : (Jvm.Cond.methodLink "GlassStreetLaw" (89 : Nat) ({ cls := "GlassStreet", name := "harm", desc := "()I" } : Jvm.MethodName)) ∈ lw_all := lw_g (lw_at lw_m6 78 rfl) rfl
theorem q1402 : (Jvm.Cond.methodLink "GlassStreetLaw" (122 : Nat) ({ cls := "GlassStreet", name := "memory", desc := "(I)I" } : Jvm.MethodName)) ∈ lw_all := lw_g (lw_at lw_m6 82 rfl) rfl
theorem q1406 : (Jvm.Cond.methodLink "GlassStreetLaw" (93 : Nat) ({ cls := "GlassStreet", name := "hide", desc := "(II)I" } : Jvm.MethodName)) ∈ lw_all := lw_g (lw_at lw_m6 86 rfl) rfl
theorem q1410 : (Jvm.Cond.methodLink "GlassStreetLaw" (97 : Nat) ({ cls := "GlassStreet", name := "proof", desc := "(II)I" } : Jvm.MethodName)) ∈ lw_all := lw_g (lw_at lw_m6 90 rfl) rfl
theorem q1420 : (Jvm.Cond.methodLink "GlassStreetLaw" (101 : Nat) ({ cls := "GlassStreet", name := "washes", desc := "(II)I" } : Jvm.MethodName)) ∈ lw_all := lw_g (lw_at lw_m6 100 rfl) rfl
theorem q1428 : (Jvm.Cond.methodLink "GlassStreetLaw" (105 : Nat) ({ cls := "GlassStreet", name := "dark", desc := "(I)I" } : Jvm.MethodName)) ∈ lw_all := lw_g (lw_at lw_m6 108 rfl) rfl
theorem q1432 : (Jvm.Cond.methodLink "GlassStreetLaw" (109 : Nat) ({ cls := "GlassStreet", name := "say", desc := "(IZ)Z" } : Jvm.MethodName)) ∈ lw_all := lw_g (lw_at lw_m6 112 rfl) rfl
theorem q1436 : (Jvm.Cond.methodLink "GlassStreetLaw" (114 : Nat) ({ cls := "GlassStreet", name := "where", desc := "()I" } : Jvm.MethodName)) ∈ lw_all := lw_g (lw_at lw_m6 116 rfl) rfl
theorem q1440 : (Jvm.Cond.methodLink "GlassStreetLaw" (118 : Nat) ({ cls := "GlassStreet", name := "ask", desc := "()I" } : Jvm.MethodName)) ∈ lw_all := lw_g (lw_at lw_m6 120 rfl) rfl
theorem q1445 : (Jvm.Cond.methodLink "GlassStreetLaw" (126 : Nat) ({ cls := "GlassStreet", name := "glass", desc := "(I)I" } : Jvm.MethodName)) ∈ lw_all := lw_g (lw_at lw_m6 125 rfl) rfl
theorem q1449 : (Jvm.Cond.methodLink "GlassStreetLaw" (130 : Nat) ({ cls := "GlassStreet", name := "seen", desc := "(I)I" } : Jvm.MethodName)) ∈ lw_all := lw_g (lw_at lw_m6 129 rfl) rfl
theorem q1453 : (Jvm.Cond.methodLink "GlassStreetLaw" (134 : Nat) ({ cls := "GlassStreet", name := "eyes", desc := "()I" } : Jvm.MethodName)) ∈ lw_all := lw_g (lw_at lw_m6 133 rfl) rfl
theorem q1457 : (Jvm.Cond.methodLink "GlassStreetLaw" (138 : Nat) ({ cls := "GlassStreet", name := "blind", desc := "()I" } : Jvm.MethodName)) ∈ lw_all := lw_g (lw_at lw_m6 137 rfl) rfl
theorem q1461 : (Jvm.Cond.methodLink "GlassStreetLaw" (142 : Nat) ({ cls := "GlassStreet", name := "young", desc := "(I)I" } : Jvm.MethodName)) ∈ lw_all := lw_g (lw_at lw_m6 141 rfl) rfl
theorem q1465 : (Jvm.Cond.methodLink "GlassStreetLaw" (146 : Nat) ({ cls := "GlassStreet", name := "trail", desc := "(I)I" } : Jvm.MethodName)) ∈ lw_all := lw_g (lw_at lw_m6 145 rfl) rfl
theorem q1473 : (Jvm.Cond.methodLink "GlassStreetLaw" (150 : Nat) ({ cls := "GlassStreet", name := "last", desc := "(I)I" } : Jvm.MethodName)) ∈ lw_all := lw_g (lw_at lw_m6 153 rfl) rfl
theorem q1477 : (Jvm.Cond.methodLink "GlassStreetLaw" (154 : Nat) ({ cls := "GlassStreet", name := "worst", desc := "()I" } : Jvm.MethodName)) ∈ lw_all := lw_g (lw_at lw_m6 157 rfl) rfl
theorem q1481 : (Jvm.Cond.methodLink "GlassStreetLaw" (158 : Nat) ({ cls := "GlassStreet", name := "oldest", desc := "()I" } : Jvm.MethodName)) ∈ lw_all := lw_g (lw_at lw_m6 161 rfl) rfl
theorem q1485 : (Jvm.Cond.methodLink "GlassStreetLaw" (162 : Nat) ({ cls := "GlassStreet", name := "cloak", desc := "(II)I" } : Jvm.MethodName)) ∈ lw_all := lw_g (lw_at lw_m6 165 rfl) rfl
theorem q1489 : (Jvm.Cond.methodLink "GlassStreetLaw" (166 : Nat) ({ cls := "GlassStreet", name := "twin", desc := "(II)I" } : Jvm.MethodName)) ∈ lw_all := lw_g (lw_at lw_m6 169 rfl) rfl
theorem q1498 : (Jvm.Cond.methodLink "GlassStreetLaw" (170 : Nat) ({ cls := "GlassStreet", name := "run", desc := "(I)I" } : Jvm.MethodName)) ∈ lw_all := lw_g (lw_at lw_m6 178 rfl) rfl
theorem q1502 : (Jvm.Cond.methodLink "GlassStreetLaw" (183 : Nat) ({ cls := "GlassStreet", name := "years", desc := "(III)I" } : Jvm.MethodName)) ∈ lw_all := lw_g (lw_at lw_m6 182 rfl) rfl
theorem q1519 : (Jvm.Cond.methodLink "GlassStreetLaw" (187 : Nat) ({ cls := "GlassStreet", name := "notch", desc := "(IZ)Z" } : Jvm.MethodName)) ∈ lw_all := lw_g (lw_at lw_m6 199 rfl) rfl
theorem q1540 : (Jvm.Cond.methodLink "GlassStreetLaw" (191 : Nat) ({ cls := "GlassStreet", name := "count", desc := "(I)I" } : Jvm.MethodName)) ∈ lw_all := lw_g (lw_at lw_m6 220 rfl) rfl
theorem q1552 : (Jvm.Cond.methodLink "GlassStreetLaw" (174 : Nat) ({ cls := "GlassStreetLaw", name := "rests", desc := "(LGlassStreet;IIII[J)I" } : Jvm.MethodName)) ∈ lw_all := lw_g (lw_at lw_m6 232 rfl) rfl
theorem q1553 : (Jvm.Cond.static ({ cls := "GlassStreetLaw", name := "rests", desc := "(LGlassStreet;IIII[J)I" } : Jvm.MethodName)) ∈ lw_all := lw_g (lw_at lw_m6 233 rfl) rfl
theorem q1554 : (Jvm.Cond.codeWith ({ cls := "GlassStreetLaw", name := "rests", desc := "(LGlassStreet;IIII[J)I" } : Jvm.MethodName) method_3_code (7 : Nat) (Option.some Jvm.ClassFile.FieldType.int) [((0 : Nat), (14 : Nat), (17 : Nat), (13 : Nat))]) ∈ lw_all := lw_g (lw_at lw_m6 234 rfl) rfl
theorem q1555 : (Jvm.Cond.classLink "GlassStreetLaw" (13 : Nat) "java/util/NoSuchElementException") ∈ lw_all := lw_g (lw_at lw_m6 235 rfl) rfl
theorem q1556 : (Jvm.Cond.methodLink "GlassStreetLaw" (7 : Nat) ({ cls := "GlassStreet", name := "rests", desc := "(IIII)I" } : Jvm.MethodName)) ∈ lw_all := lw_g (lw_at lw_m6 236 rfl) rfl
theorem q1587 : (Jvm.Cond.methodLink "GlassStreetLaw" (180 : Nat) ({ cls := "GlassStreetModel", name := "thrown", desc := "()I" } : Jvm.MethodName)) ∈ lw_all := lw_g (lw_at lw_m7 27 rfl) rfl
theorem q1591 : (Jvm.Cond.methodLink "GlassStreetLaw" (25 : Nat) ({ cls := "GlassStreetModel", name := "feed", desc := "(JJJ)I" } : Jvm.MethodName)) ∈ lw_all := lw_g (lw_at lw_m7 31 rfl) rfl
theorem q1600 : (Jvm.Cond.classLink "GlassStreetLaw" (16 : Nat) "GlassStreetModel") ∈ lw_all := lw_g (lw_at lw_m7 40 rfl) rfl
theorem q1601 : (Jvm.Cond.methodLink "GlassStreetLaw" (18 : Nat) ({ cls := "GlassStreetModel", name := "<init>", desc := "()V" } : Jvm.MethodName)) ∈ lw_all := lw_g (lw_at lw_m7 41 rfl) rfl
theorem q1743 : (Jvm.Cond.methodLink "GlassStreetLaw" (30 : Nat) ({ cls := "GlassStreetModel", name := "street", desc := "()I" } : Jvm.MethodName)) ∈ lw_all := lw_g (lw_at lw_m7 183 rfl) rfl
theorem q1862 : (Jvm.Cond.methodLink "GlassStreetLaw" (34 : Nat) ({ cls := "GlassStreetModel", name := "day", desc := "()I" } : Jvm.MethodName)) ∈ lw_all := lw_g (lw_at lw_m8 62 rfl) rfl
theorem q1873 : (Jvm.Cond.methodLink "GlassStreetLaw" (39 : Nat) ({ cls := "GlassStreetModel", name := "pane", desc := "(II)I" } : Jvm.MethodName)) ∈ lw_all := lw_g (lw_at lw_m8 73 rfl) rfl
theorem q1901 : (Jvm.Cond.methodLink "GlassStreetLaw" (44 : Nat) ({ cls := "GlassStreetModel", name := "shown", desc := "(III)I" } : Jvm.MethodName)) ∈ lw_all := lw_g (lw_at lw_m8 101 rfl) rfl
theorem q1929 : (Jvm.Cond.methodLink "GlassStreetLaw" (49 : Nat) ({ cls := "GlassStreetModel", name := "person", desc := "(I)I" } : Jvm.MethodName)) ∈ lw_all := lw_g (lw_at lw_m8 129 rfl) rfl
theorem q1937 : (Jvm.Cond.methodLink "GlassStreetLaw" (54 : Nat) ({ cls := "GlassStreetModel", name := "walk", desc := "(II)Z" } : Jvm.MethodName)) ∈ lw_all := lw_g (lw_at lw_m8 137 rfl) rfl
theorem q1953 : (Jvm.Cond.methodLink "GlassStreetLaw" (58 : Nat) ({ cls := "GlassStreetModel", name := "does", desc := "(II)I" } : Jvm.MethodName)) ∈ lw_all := lw_g (lw_at lw_m8 153 rfl) rfl
theorem q1981 : (Jvm.Cond.methodLink "GlassStreetLaw" (62 : Nat) ({ cls := "GlassStreetModel", name := "wash", desc := "(I)I" } : Jvm.MethodName)) ∈ lw_all := lw_g (lw_at lw_m8 181 rfl) rfl
theorem q1989 : (Jvm.Cond.methodLink "GlassStreetLaw" (67 : Nat) ({ cls := "GlassStreetModel", name := "curtain", desc := "(I)Z" } : Jvm.MethodName)) ∈ lw_all := lw_g (lw_at lw_m8 189 rfl) rfl
theorem q1993 : (Jvm.Cond.methodLink "GlassStreetLaw" (71 : Nat) ({ cls := "GlassStreetModel", name := "stone", desc := "(I)Z" } : Jvm.MethodName)) ∈ lw_all := lw_g (lw_at lw_m8 193 rfl) rfl
theorem q1997 : (Jvm.Cond.methodLink "GlassStreetLaw" (75 : Nat) ({ cls := "GlassStreetModel", name := "hour", desc := "()I" } : Jvm.MethodName)) ∈ lw_all := lw_g (lw_at lw_m8 197 rfl) rfl
theorem q2016 : (Jvm.Cond.methodLink "GlassStreetLaw" (80 : Nat) ({ cls := "GlassStreetModel", name := "undo", desc := "()Z" } : Jvm.MethodName)) ∈ lw_all := lw_g (lw_at lw_m8 216 rfl) rfl
theorem q2020 : (Jvm.Cond.methodLink "GlassStreetLaw" (84 : Nat) ({ cls := "GlassStreetModel", name := "judged", desc := "(I)I" } : Jvm.MethodName)) ∈ lw_all := lw_g (lw_at lw_m8 220 rfl) rfl
theorem q2040 : (Jvm.Cond.methodLink "GlassStreetLaw" (88 : Nat) ({ cls := "GlassStreetModel", name := "shame", desc := "(I)I" } : Jvm.MethodName)) ∈ lw_all := lw_g (lw_at lw_m9 0 rfl) rfl
theorem q2044 : (Jvm.Cond.methodLink "GlassStreetLaw" (92 : Nat) ({ cls := "GlassStreetModel", name := "harm", desc := "()I" } : Jvm.MethodName)) ∈ lw_all := lw_g (lw_at lw_m9 4 rfl) rfl
theorem q2048 : (Jvm.Cond.methodLink "GlassStreetLaw" (125 : Nat) ({ cls := "GlassStreetModel", name := "memory", desc := "(I)I" } : Jvm.MethodName)) ∈ lw_all := lw_g (lw_at lw_m9 8 rfl) rfl
theorem q2052 : (Jvm.Cond.methodLink "GlassStreetLaw" (149 : Nat) ({ cls := "GlassStreetModel", name := "trail", desc := "(I)I" } : Jvm.MethodName)) ∈ lw_all := lw_g (lw_at lw_m9 12 rfl) rfl
theorem q2056 : (Jvm.Cond.methodLink "GlassStreetLaw" (153 : Nat) ({ cls := "GlassStreetModel", name := "last", desc := "(I)I" } : Jvm.MethodName)) ∈ lw_all := lw_g (lw_at lw_m9 16 rfl) rfl
theorem q2060 : (Jvm.Cond.methodLink "GlassStreetLaw" (157 : Nat) ({ cls := "GlassStreetModel", name := "worst", desc := "()I" } : Jvm.MethodName)) ∈ lw_all := lw_g (lw_at lw_m9 20 rfl) rfl
theorem q2064 : (Jvm.Cond.methodLink "GlassStreetLaw" (161 : Nat) ({ cls := "GlassStreetModel", name := "oldest", desc := "()I" } : Jvm.MethodName)) ∈ lw_all := lw_g (lw_at lw_m9 24 rfl) rfl
theorem q2068 : (Jvm.Cond.methodLink "GlassStreetLaw" (145 : Nat) ({ cls := "GlassStreetModel", name := "young", desc := "(I)I" } : Jvm.MethodName)) ∈ lw_all := lw_g (lw_at lw_m9 28 rfl) rfl
theorem q2072 : (Jvm.Cond.methodLink "GlassStreetLaw" (165 : Nat) ({ cls := "GlassStreetModel", name := "cloak", desc := "(II)I" } : Jvm.MethodName)) ∈ lw_all := lw_g (lw_at lw_m9 32 rfl) rfl
theorem q2079 : (Jvm.Cond.methodLink "GlassStreetLaw" (96 : Nat) ({ cls := "GlassStreetModel", name := "hide", desc := "(II)I" } : Jvm.MethodName)) ∈ lw_all := lw_g (lw_at lw_m9 39 rfl) rfl
theorem q2083 : (Jvm.Cond.methodLink "GlassStreetLaw" (100 : Nat) ({ cls := "GlassStreetModel", name := "proof", desc := "(II)I" } : Jvm.MethodName)) ∈ lw_all := lw_g (lw_at lw_m9 43 rfl) rfl
theorem q2087 : (Jvm.Cond.methodLink "GlassStreetLaw" (104 : Nat) ({ cls := "GlassStreetModel", name := "washes", desc := "(II)I" } : Jvm.MethodName)) ∈ lw_all := lw_g (lw_at lw_m9 47 rfl) rfl
theorem q2091 : (Jvm.Cond.methodLink "GlassStreetLaw" (108 : Nat) ({ cls := "GlassStreetModel", name := "dark", desc := "(I)I" } : Jvm.MethodName)) ∈ lw_all := lw_g (lw_at lw_m9 51 rfl) rfl
theorem q2095 : (Jvm.Cond.methodLink "GlassStreetLaw" (113 : Nat) ({ cls := "GlassStreetModel", name := "say", desc := "(IZ)Z" } : Jvm.MethodName)) ∈ lw_all := lw_g (lw_at lw_m9 55 rfl) rfl
theorem q2099 : (Jvm.Cond.methodLink "GlassStreetLaw" (117 : Nat) ({ cls := "GlassStreetModel", name := "where", desc := "()I" } : Jvm.MethodName)) ∈ lw_all := lw_g (lw_at lw_m9 59 rfl) rfl
theorem q2107 : (Jvm.Cond.methodLink "GlassStreetLaw" (121 : Nat) ({ cls := "GlassStreetModel", name := "ask", desc := "()I" } : Jvm.MethodName)) ∈ lw_all := lw_g (lw_at lw_m9 67 rfl) rfl
theorem q2111 : (Jvm.Cond.methodLink "GlassStreetLaw" (129 : Nat) ({ cls := "GlassStreetModel", name := "glass", desc := "(I)I" } : Jvm.MethodName)) ∈ lw_all := lw_g (lw_at lw_m9 71 rfl) rfl
theorem q2119 : (Jvm.Cond.methodLink "GlassStreetLaw" (133 : Nat) ({ cls := "GlassStreetModel", name := "seen", desc := "(I)I" } : Jvm.MethodName)) ∈ lw_all := lw_g (lw_at lw_m9 79 rfl) rfl
theorem q2123 : (Jvm.Cond.methodLink "GlassStreetLaw" (137 : Nat) ({ cls := "GlassStreetModel", name := "eyes", desc := "()I" } : Jvm.MethodName)) ∈ lw_all := lw_g (lw_at lw_m9 83 rfl) rfl
theorem q2127 : (Jvm.Cond.methodLink "GlassStreetLaw" (141 : Nat) ({ cls := "GlassStreetModel", name := "blind", desc := "()I" } : Jvm.MethodName)) ∈ lw_all := lw_g (lw_at lw_m9 87 rfl) rfl
theorem q2131 : (Jvm.Cond.methodLink "GlassStreetLaw" (169 : Nat) ({ cls := "GlassStreetModel", name := "twin", desc := "(II)I" } : Jvm.MethodName)) ∈ lw_all := lw_g (lw_at lw_m9 91 rfl) rfl
theorem q2139 : (Jvm.Cond.methodLink "GlassStreetLaw" (173 : Nat) ({ cls := "GlassStreetModel", name := "run", desc := "(I)I" } : Jvm.MethodName)) ∈ lw_all := lw_g (lw_at lw_m9 99 rfl) rfl
theorem q2143 : (Jvm.Cond.methodLink "GlassStreetLaw" (179 : Nat) ({ cls := "GlassStreetModel", name := "rests", desc := "(IIII)I" } : Jvm.MethodName)) ∈ lw_all := lw_g (lw_at lw_m9 103 rfl) rfl
theorem q2150 : (Jvm.Cond.methodLink "GlassStreetLaw" (186 : Nat) ({ cls := "GlassStreetModel", name := "years", desc := "(III)I" } : Jvm.MethodName)) ∈ lw_all := lw_g (lw_at lw_m9 110 rfl) rfl
theorem q2166 : (Jvm.Cond.methodLink "GlassStreetLaw" (190 : Nat) ({ cls := "GlassStreetModel", name := "notch", desc := "(IZ)Z" } : Jvm.MethodName)) ∈ lw_all := lw_g (lw_at lw_m9 126 rfl) rfl
theorem q2170 : (Jvm.Cond.methodLink "GlassStreetLaw" (194 : Nat) ({ cls := "GlassStreetModel", name := "count", desc := "(I)I" } : Jvm.MethodName)) ∈ lw_all := lw_g (lw_at lw_m9 130 rfl) rfl
theorem q2182 : (Jvm.Cond.constantLong "GlassStreetLaw" (19 : Nat) (4294967295 : Int64)) ∈ lw_all := lw_g (lw_at lw_m9 142 rfl) rfl
/-! GlassStreet -/
set_option maxRecDepth 100000
def RX1 : String := "GlassStreet"
def TX1 : u_T := fun k => match k with
  | 0 => ("GlassStreet", "tape", "[B", true)
  | 1 => ("GlassStreet", "reader", "LGlassStreet$Reader;", true)
  | 2 => ("GlassStreet", "houses", "LGlassStreet$Houses;", false)
  | 3 => ("GlassStreet", "lines", "Ljava/util/ArrayList;", false)
  | 4 => ("GlassStreet", "state", "LGlassStreet$State;", true)
  | 5 => ("GlassStreet", "trial", "LGlassStreet$State;", true)
  | 6 => ("GlassStreet", "facts", "[I", true)
  | 7 => ("GlassStreet", "taped", "I", false)
  | 8 => ("GlassStreet", "undone", "[LGlassStreet$State;", true)
  | 9 => ("GlassStreet", "undos", "I", false)
  | 10 => ("GlassStreet", "said", "[I", true)
  | 11 => ("GlassStreet", "g", "J", false)
  | 12 => ("GlassStreet", "did", "I", false)
  | 13 => ("GlassStreet", "unseen", "I", false)
  | _ => ("GlassStreet", "notches", "[LGlassStreet$Notch;", true)
def tyX1 : Nat → FieldType := fun k => match k with
  | 0 => .array .byte
  | 1 => .object "GlassStreet$Reader"
  | 2 => .object "GlassStreet$Houses"
  | 3 => .object "java/util/ArrayList"
  | 4 => .object "GlassStreet$State"
  | 5 => .object "GlassStreet$State"
  | 6 => .array .int
  | 7 => .int
  | 8 => .array (.object "GlassStreet$State")
  | 9 => .int
  | 10 => .array .int
  | 11 => .long
  | 12 => .int
  | 13 => .int
  | _ => .array (.object "GlassStreet$Notch")
abbrev wsX10 : List Cond := u_ws RX1 TX1 15
set_option maxRecDepth 100000 in
theorem nmX1 : ∀ a, a < 15 → ∀ b, b < 15 → a ≠ b → (TX1 a).2.1 ≠ (TX1 b).2.1 := by decide +kernel
set_option maxRecDepth 100000 in
theorem tyX1_ok : ∀ k, k < 15 → parseFieldDescriptor (TX1 k).2.2.1 = some (tyX1 k) := by decide +kernel
abbrev cX1_init : ByteArray := prog_1_method_6_code
def yX1_init : MethodName := ⟨RX1, "<init>", "()V"⟩
def dkwX1_init_4 : List UInt8 := [189, 0, 64, 181, 0, 66, 42, 182, 0, 70, 177]
abbrev dktX1_init_4 : List UInt8 := dkwX1_init_4 ++ []
def dkwX1_init_3 : List UInt8 := [188, 10, 181, 0, 53, 42, 16, 16, 189, 0, 43, 181, 0, 57, 42, 16, 6, 188, 10, 181, 0, 61, 42, 7]
abbrev dktX1_init_3 : List UInt8 := dkwX1_init_3 ++ dktX1_init_4
def dkwX1_init_2 : List UInt8 := [187, 0, 43, 89, 183, 0, 45, 181, 0, 46, 42, 187, 0, 43, 89, 183, 0, 45, 181, 0, 50, 42, 7]
abbrev dktX1_init_2 : List UInt8 := dkwX1_init_2 ++ dktX1_init_3
def dkwX1_init_1 : List UInt8 := [42, 187, 0, 27, 89, 183, 0, 29, 181, 0, 30, 42, 187, 0, 34, 89, 3, 183, 0, 36, 181, 0, 39, 42]
abbrev dktX1_init_1 : List UInt8 := dkwX1_init_1 ++ dktX1_init_2
def dkwX1_init_0 : List UInt8 := [42, 183, 0, 13, 42, 17, 3, 232, 188, 8, 181, 0, 16, 42, 187, 0, 20, 89, 183, 0, 22, 181, 0, 23]
abbrev dktX1_init_0 : List UInt8 := dkwX1_init_0 ++ dktX1_init_1
theorem dksX1_init_0 : cX1_init.data.toList.drop 0 = dktX1_init_0 := by decide +kernel
theorem dksX1_init_1 : cX1_init.data.toList.drop 24 = dktX1_init_1 := dk_seg dksX1_init_0 24 rfl rfl
theorem dksX1_init_2 : cX1_init.data.toList.drop 48 = dktX1_init_2 := dk_seg dksX1_init_1 24 rfl rfl
theorem dksX1_init_3 : cX1_init.data.toList.drop 71 = dktX1_init_3 := dk_seg dksX1_init_2 23 rfl rfl
theorem dksX1_init_4 : cX1_init.data.toList.drop 95 = dktX1_init_4 := dk_seg dksX1_init_3 24 rfl rfl
theorem dX1_init_0 : decode cX1_init 0 = .ok (.aload_n 0, 1) := dk_42 (dk_at dksX1_init_0 0 rfl rfl)
theorem dX1_init_1 : decode cX1_init 1 = .ok (.invokespecial 13, 3) := dk_183 0 13 (dk_at dksX1_init_0 1 rfl rfl)
theorem dX1_init_4 : decode cX1_init 4 = .ok (.aload_n 0, 1) := dk_42 (dk_at dksX1_init_0 4 rfl rfl)
theorem dX1_init_5 : decode cX1_init 5 = .ok (.sipush 1000, 3) := dk_17 3 232 (dk_at dksX1_init_0 5 rfl rfl)
theorem dX1_init_8 : decode cX1_init 8 = .ok (.newarray .byte, 2) := dk_188_8 (dk_at dksX1_init_0 8 rfl rfl)
theorem dX1_init_10 : decode cX1_init 10 = .ok (.putfield 16, 3) := dk_181 0 16 (dk_at dksX1_init_0 10 rfl rfl)
theorem dX1_init_13 : decode cX1_init 13 = .ok (.aload_n 0, 1) := dk_42 (dk_at dksX1_init_0 13 rfl rfl)
theorem dX1_init_14 : decode cX1_init 14 = .ok (.new 20, 3) := dk_187 0 20 (dk_at dksX1_init_0 14 rfl rfl)
theorem dX1_init_17 : decode cX1_init 17 = .ok (.dup, 1) := dk_89 (dk_at dksX1_init_0 17 rfl rfl)
theorem dX1_init_18 : decode cX1_init 18 = .ok (.invokespecial 22, 3) := dk_183 0 22 (dk_at dksX1_init_0 18 rfl rfl)
theorem dX1_init_21 : decode cX1_init 21 = .ok (.putfield 23, 3) := dk_181 0 23 (dk_at dksX1_init_0 21 rfl rfl)
theorem dX1_init_24 : decode cX1_init 24 = .ok (.aload_n 0, 1) := dk_42 (dk_at dksX1_init_1 0 rfl rfl)
theorem dX1_init_25 : decode cX1_init 25 = .ok (.new 27, 3) := dk_187 0 27 (dk_at dksX1_init_1 1 rfl rfl)
theorem dX1_init_28 : decode cX1_init 28 = .ok (.dup, 1) := dk_89 (dk_at dksX1_init_1 4 rfl rfl)
theorem dX1_init_29 : decode cX1_init 29 = .ok (.invokespecial 29, 3) := dk_183 0 29 (dk_at dksX1_init_1 5 rfl rfl)
theorem dX1_init_32 : decode cX1_init 32 = .ok (.putfield 30, 3) := dk_181 0 30 (dk_at dksX1_init_1 8 rfl rfl)
theorem dX1_init_35 : decode cX1_init 35 = .ok (.aload_n 0, 1) := dk_42 (dk_at dksX1_init_1 11 rfl rfl)
theorem dX1_init_36 : decode cX1_init 36 = .ok (.new 34, 3) := dk_187 0 34 (dk_at dksX1_init_1 12 rfl rfl)
theorem dX1_init_39 : decode cX1_init 39 = .ok (.dup, 1) := dk_89 (dk_at dksX1_init_1 15 rfl rfl)
theorem dX1_init_40 : decode cX1_init 40 = .ok (.iconst 0, 1) := dk_3 (dk_at dksX1_init_1 16 rfl rfl)
theorem dX1_init_41 : decode cX1_init 41 = .ok (.invokespecial 36, 3) := dk_183 0 36 (dk_at dksX1_init_1 17 rfl rfl)
theorem dX1_init_44 : decode cX1_init 44 = .ok (.putfield 39, 3) := dk_181 0 39 (dk_at dksX1_init_1 20 rfl rfl)
theorem dX1_init_47 : decode cX1_init 47 = .ok (.aload_n 0, 1) := dk_42 (dk_at dksX1_init_1 23 rfl rfl)
theorem dX1_init_48 : decode cX1_init 48 = .ok (.new 43, 3) := dk_187 0 43 (dk_at dksX1_init_2 0 rfl rfl)
theorem dX1_init_51 : decode cX1_init 51 = .ok (.dup, 1) := dk_89 (dk_at dksX1_init_2 3 rfl rfl)
theorem dX1_init_52 : decode cX1_init 52 = .ok (.invokespecial 45, 3) := dk_183 0 45 (dk_at dksX1_init_2 4 rfl rfl)
theorem dX1_init_55 : decode cX1_init 55 = .ok (.putfield 46, 3) := dk_181 0 46 (dk_at dksX1_init_2 7 rfl rfl)
theorem dX1_init_58 : decode cX1_init 58 = .ok (.aload_n 0, 1) := dk_42 (dk_at dksX1_init_2 10 rfl rfl)
theorem dX1_init_59 : decode cX1_init 59 = .ok (.new 43, 3) := dk_187 0 43 (dk_at dksX1_init_2 11 rfl rfl)
theorem dX1_init_62 : decode cX1_init 62 = .ok (.dup, 1) := dk_89 (dk_at dksX1_init_2 14 rfl rfl)
theorem dX1_init_63 : decode cX1_init 63 = .ok (.invokespecial 45, 3) := dk_183 0 45 (dk_at dksX1_init_2 15 rfl rfl)
theorem dX1_init_66 : decode cX1_init 66 = .ok (.putfield 50, 3) := dk_181 0 50 (dk_at dksX1_init_2 18 rfl rfl)
theorem dX1_init_69 : decode cX1_init 69 = .ok (.aload_n 0, 1) := dk_42 (dk_at dksX1_init_2 21 rfl rfl)
theorem dX1_init_70 : decode cX1_init 70 = .ok (.iconst 4, 1) := dk_7 (dk_at dksX1_init_2 22 rfl rfl)
theorem dX1_init_71 : decode cX1_init 71 = .ok (.newarray .int, 2) := dk_188_10 (dk_at dksX1_init_3 0 rfl rfl)
theorem dX1_init_73 : decode cX1_init 73 = .ok (.putfield 53, 3) := dk_181 0 53 (dk_at dksX1_init_3 2 rfl rfl)
theorem dX1_init_76 : decode cX1_init 76 = .ok (.aload_n 0, 1) := dk_42 (dk_at dksX1_init_3 5 rfl rfl)
theorem dX1_init_77 : decode cX1_init 77 = .ok (.bipush 16, 2) := dk_16 16 (dk_at dksX1_init_3 6 rfl rfl)
theorem dX1_init_79 : decode cX1_init 79 = .ok (.anewarray 43, 3) := dk_189 0 43 (dk_at dksX1_init_3 8 rfl rfl)
theorem dX1_init_82 : decode cX1_init 82 = .ok (.putfield 57, 3) := dk_181 0 57 (dk_at dksX1_init_3 11 rfl rfl)
theorem dX1_init_85 : decode cX1_init 85 = .ok (.aload_n 0, 1) := dk_42 (dk_at dksX1_init_3 14 rfl rfl)
theorem dX1_init_86 : decode cX1_init 86 = .ok (.bipush 6, 2) := dk_16 6 (dk_at dksX1_init_3 15 rfl rfl)
theorem dX1_init_88 : decode cX1_init 88 = .ok (.newarray .int, 2) := dk_188_10 (dk_at dksX1_init_3 17 rfl rfl)
theorem dX1_init_90 : decode cX1_init 90 = .ok (.putfield 61, 3) := dk_181 0 61 (dk_at dksX1_init_3 19 rfl rfl)
theorem dX1_init_93 : decode cX1_init 93 = .ok (.aload_n 0, 1) := dk_42 (dk_at dksX1_init_3 22 rfl rfl)
theorem dX1_init_94 : decode cX1_init 94 = .ok (.iconst 4, 1) := dk_7 (dk_at dksX1_init_3 23 rfl rfl)
theorem dX1_init_95 : decode cX1_init 95 = .ok (.anewarray 64, 3) := dk_189 0 64 (dk_at dksX1_init_4 0 rfl rfl)
theorem dX1_init_98 : decode cX1_init 98 = .ok (.putfield 66, 3) := dk_181 0 66 (dk_at dksX1_init_4 3 rfl rfl)
theorem dX1_init_101 : decode cX1_init 101 = .ok (.aload_n 0, 1) := dk_42 (dk_at dksX1_init_4 6 rfl rfl)
theorem dX1_init_102 : decode cX1_init 102 = .ok (.invokevirtual 70, 3) := dk_182 0 70 (dk_at dksX1_init_4 7 rfl rfl)
theorem dX1_init_105 : decode cX1_init 105 = .ok (.return_, 1) := dk_177 (dk_at dksX1_init_4 10 rfl rfl)
abbrev cX1_forgets : ByteArray := prog_1_method_49_code
def yX1_forgets : MethodName := ⟨RX1, "forgets", "()V"⟩
def dkwX1_forgets_0 : List UInt8 := [3, 60, 27, 16, 6, 162, 0, 16, 42, 180, 0, 61, 27, 2, 79, 132, 1, 1, 167, 255, 240, 177]
abbrev dktX1_forgets_0 : List UInt8 := dkwX1_forgets_0 ++ []
theorem dksX1_forgets_0 : cX1_forgets.data.toList.drop 0 = dktX1_forgets_0 := by decide +kernel
theorem dX1_forgets_0 : decode cX1_forgets 0 = .ok (.iconst 0, 1) := dk_3 (dk_at dksX1_forgets_0 0 rfl rfl)
theorem dX1_forgets_1 : decode cX1_forgets 1 = .ok (.istore_n 1, 1) := dk_60 (dk_at dksX1_forgets_0 1 rfl rfl)
theorem dX1_forgets_2 : decode cX1_forgets 2 = .ok (.iload_n 1, 1) := dk_27 (dk_at dksX1_forgets_0 2 rfl rfl)
theorem dX1_forgets_3 : decode cX1_forgets 3 = .ok (.bipush 6, 2) := dk_16 6 (dk_at dksX1_forgets_0 3 rfl rfl)
theorem dX1_forgets_5 : decode cX1_forgets 5 = .ok (.if_icmp .ge 16, 3) := dk_162 0 16 (dk_at dksX1_forgets_0 5 rfl rfl)
theorem dX1_forgets_8 : decode cX1_forgets 8 = .ok (.aload_n 0, 1) := dk_42 (dk_at dksX1_forgets_0 8 rfl rfl)
theorem dX1_forgets_9 : decode cX1_forgets 9 = .ok (.getfield 61, 3) := dk_180 0 61 (dk_at dksX1_forgets_0 9 rfl rfl)
theorem dX1_forgets_12 : decode cX1_forgets 12 = .ok (.iload_n 1, 1) := dk_27 (dk_at dksX1_forgets_0 12 rfl rfl)
theorem dX1_forgets_13 : decode cX1_forgets 13 = .ok (.iconst (-1), 1) := dk_2 (dk_at dksX1_forgets_0 13 rfl rfl)
theorem dX1_forgets_14 : decode cX1_forgets 14 = .ok (.iastore, 1) := dk_79 (dk_at dksX1_forgets_0 14 rfl rfl)
theorem dX1_forgets_15 : decode cX1_forgets 15 = .ok (.iinc 1 1, 3) := dk_132 1 1 (dk_at dksX1_forgets_0 15 rfl rfl)
theorem dX1_forgets_18 : decode cX1_forgets 18 = .ok (.goto (-16), 3) := dk_167 255 240 (dk_at dksX1_forgets_0 18 rfl rfl)
theorem dX1_forgets_21 : decode cX1_forgets 21 = .ok (.return_, 1) := dk_177 (dk_at dksX1_forgets_0 21 rfl rfl)
abbrev cX1_feed : ByteArray := prog_1_method_7_code
def yX1_feed : MethodName := ⟨RX1, "feed", "(JJJ)I"⟩
def dkwX1_feed_4 : List UInt8 := [96, 181, 0, 73, 21, 8, 145, 84, 132, 7, 1, 167, 255, 153, 42, 180, 0, 73, 172]
abbrev dktX1_feed_4 : List UInt8 := dkwX1_feed_4 ++ []
def dkwX1_feed_3 : List UInt8 := [163, 0, 32, 42, 180, 0, 73, 17, 3, 232, 162, 0, 22, 42, 180, 0, 16, 42, 89, 180, 0, 73, 90, 4]
abbrev dktX1_feed_3 : List UInt8 := dkwX1_feed_3 ++ dktX1_feed_4
def dkwX1_feed_2 : List UInt8 := [17, 0, 255, 126, 54, 8, 21, 8, 16, 10, 159, 0, 17, 21, 8, 16, 32, 161, 0, 39, 21, 8, 16, 126]
abbrev dktX1_feed_2 : List UInt8 := dkwX1_feed_2 ++ dktX1_feed_3
def dkwX1_feed_1 : List UInt8 := [16, 16, 162, 0, 7, 33, 167, 0, 5, 22, 5, 16, 56, 16, 8, 21, 7, 16, 8, 112, 104, 100, 123, 136]
abbrev dktX1_feed_1 : List UInt8 := dkwX1_feed_1 ++ dktX1_feed_2
def dkwX1_feed_0 : List UInt8 := [3, 54, 7, 21, 7, 16, 24, 162, 0, 102, 21, 7, 16, 8, 162, 0, 7, 31, 167, 0, 16, 21, 7]
abbrev dktX1_feed_0 : List UInt8 := dkwX1_feed_0 ++ dktX1_feed_1
theorem dksX1_feed_0 : cX1_feed.data.toList.drop 0 = dktX1_feed_0 := by decide +kernel
theorem dksX1_feed_1 : cX1_feed.data.toList.drop 23 = dktX1_feed_1 := dk_seg dksX1_feed_0 23 rfl rfl
theorem dksX1_feed_2 : cX1_feed.data.toList.drop 47 = dktX1_feed_2 := dk_seg dksX1_feed_1 24 rfl rfl
theorem dksX1_feed_3 : cX1_feed.data.toList.drop 71 = dktX1_feed_3 := dk_seg dksX1_feed_2 24 rfl rfl
theorem dksX1_feed_4 : cX1_feed.data.toList.drop 95 = dktX1_feed_4 := dk_seg dksX1_feed_3 24 rfl rfl
theorem dX1_feed_0 : decode cX1_feed 0 = .ok (.iconst 0, 1) := dk_3 (dk_at dksX1_feed_0 0 rfl rfl)
theorem dX1_feed_1 : decode cX1_feed 1 = .ok (.istore 7, 2) := dk_54 7 (dk_at dksX1_feed_0 1 rfl rfl)
theorem dX1_feed_3 : decode cX1_feed 3 = .ok (.iload 7, 2) := dk_21 7 (dk_at dksX1_feed_0 3 rfl rfl)
theorem dX1_feed_5 : decode cX1_feed 5 = .ok (.bipush 24, 2) := dk_16 24 (dk_at dksX1_feed_0 5 rfl rfl)
theorem dX1_feed_7 : decode cX1_feed 7 = .ok (.if_icmp .ge 102, 3) := dk_162 0 102 (dk_at dksX1_feed_0 7 rfl rfl)
theorem dX1_feed_10 : decode cX1_feed 10 = .ok (.iload 7, 2) := dk_21 7 (dk_at dksX1_feed_0 10 rfl rfl)
theorem dX1_feed_12 : decode cX1_feed 12 = .ok (.bipush 8, 2) := dk_16 8 (dk_at dksX1_feed_0 12 rfl rfl)
theorem dX1_feed_14 : decode cX1_feed 14 = .ok (.if_icmp .ge 7, 3) := dk_162 0 7 (dk_at dksX1_feed_0 14 rfl rfl)
theorem dX1_feed_17 : decode cX1_feed 17 = .ok (.lload_n 1, 1) := dk_31 (dk_at dksX1_feed_0 17 rfl rfl)
theorem dX1_feed_18 : decode cX1_feed 18 = .ok (.goto 16, 3) := dk_167 0 16 (dk_at dksX1_feed_0 18 rfl rfl)
theorem dX1_feed_21 : decode cX1_feed 21 = .ok (.iload 7, 2) := dk_21 7 (dk_at dksX1_feed_0 21 rfl rfl)
theorem dX1_feed_23 : decode cX1_feed 23 = .ok (.bipush 16, 2) := dk_16 16 (dk_at dksX1_feed_1 0 rfl rfl)
theorem dX1_feed_25 : decode cX1_feed 25 = .ok (.if_icmp .ge 7, 3) := dk_162 0 7 (dk_at dksX1_feed_1 2 rfl rfl)
theorem dX1_feed_28 : decode cX1_feed 28 = .ok (.lload_n 3, 1) := dk_33 (dk_at dksX1_feed_1 5 rfl rfl)
theorem dX1_feed_29 : decode cX1_feed 29 = .ok (.goto 5, 3) := dk_167 0 5 (dk_at dksX1_feed_1 6 rfl rfl)
theorem dX1_feed_32 : decode cX1_feed 32 = .ok (.lload 5, 2) := dk_22 5 (dk_at dksX1_feed_1 9 rfl rfl)
theorem dX1_feed_34 : decode cX1_feed 34 = .ok (.bipush 56, 2) := dk_16 56 (dk_at dksX1_feed_1 11 rfl rfl)
theorem dX1_feed_36 : decode cX1_feed 36 = .ok (.bipush 8, 2) := dk_16 8 (dk_at dksX1_feed_1 13 rfl rfl)
theorem dX1_feed_38 : decode cX1_feed 38 = .ok (.iload 7, 2) := dk_21 7 (dk_at dksX1_feed_1 15 rfl rfl)
theorem dX1_feed_40 : decode cX1_feed 40 = .ok (.bipush 8, 2) := dk_16 8 (dk_at dksX1_feed_1 17 rfl rfl)
theorem dX1_feed_42 : decode cX1_feed 42 = .ok (.irem, 1) := dk_112 (dk_at dksX1_feed_1 19 rfl rfl)
theorem dX1_feed_43 : decode cX1_feed 43 = .ok (.imul, 1) := dk_104 (dk_at dksX1_feed_1 20 rfl rfl)
theorem dX1_feed_44 : decode cX1_feed 44 = .ok (.isub, 1) := dk_100 (dk_at dksX1_feed_1 21 rfl rfl)
theorem dX1_feed_45 : decode cX1_feed 45 = .ok (.lshr, 1) := dk_123 (dk_at dksX1_feed_1 22 rfl rfl)
theorem dX1_feed_46 : decode cX1_feed 46 = .ok (.l2i, 1) := dk_136 (dk_at dksX1_feed_1 23 rfl rfl)
theorem dX1_feed_47 : decode cX1_feed 47 = .ok (.sipush 255, 3) := dk_17 0 255 (dk_at dksX1_feed_2 0 rfl rfl)
theorem dX1_feed_50 : decode cX1_feed 50 = .ok (.iand, 1) := dk_126 (dk_at dksX1_feed_2 3 rfl rfl)
theorem dX1_feed_51 : decode cX1_feed 51 = .ok (.istore 8, 2) := dk_54 8 (dk_at dksX1_feed_2 4 rfl rfl)
theorem dX1_feed_53 : decode cX1_feed 53 = .ok (.iload 8, 2) := dk_21 8 (dk_at dksX1_feed_2 6 rfl rfl)
theorem dX1_feed_55 : decode cX1_feed 55 = .ok (.bipush 10, 2) := dk_16 10 (dk_at dksX1_feed_2 8 rfl rfl)
theorem dX1_feed_57 : decode cX1_feed 57 = .ok (.if_icmp .eq 17, 3) := dk_159 0 17 (dk_at dksX1_feed_2 10 rfl rfl)
theorem dX1_feed_60 : decode cX1_feed 60 = .ok (.iload 8, 2) := dk_21 8 (dk_at dksX1_feed_2 13 rfl rfl)
theorem dX1_feed_62 : decode cX1_feed 62 = .ok (.bipush 32, 2) := dk_16 32 (dk_at dksX1_feed_2 15 rfl rfl)
theorem dX1_feed_64 : decode cX1_feed 64 = .ok (.if_icmp .lt 39, 3) := dk_161 0 39 (dk_at dksX1_feed_2 17 rfl rfl)
theorem dX1_feed_67 : decode cX1_feed 67 = .ok (.iload 8, 2) := dk_21 8 (dk_at dksX1_feed_2 20 rfl rfl)
theorem dX1_feed_69 : decode cX1_feed 69 = .ok (.bipush 126, 2) := dk_16 126 (dk_at dksX1_feed_2 22 rfl rfl)
theorem dX1_feed_71 : decode cX1_feed 71 = .ok (.if_icmp .gt 32, 3) := dk_163 0 32 (dk_at dksX1_feed_3 0 rfl rfl)
theorem dX1_feed_74 : decode cX1_feed 74 = .ok (.aload_n 0, 1) := dk_42 (dk_at dksX1_feed_3 3 rfl rfl)
theorem dX1_feed_75 : decode cX1_feed 75 = .ok (.getfield 73, 3) := dk_180 0 73 (dk_at dksX1_feed_3 4 rfl rfl)
theorem dX1_feed_78 : decode cX1_feed 78 = .ok (.sipush 1000, 3) := dk_17 3 232 (dk_at dksX1_feed_3 7 rfl rfl)
theorem dX1_feed_81 : decode cX1_feed 81 = .ok (.if_icmp .ge 22, 3) := dk_162 0 22 (dk_at dksX1_feed_3 10 rfl rfl)
theorem dX1_feed_84 : decode cX1_feed 84 = .ok (.aload_n 0, 1) := dk_42 (dk_at dksX1_feed_3 13 rfl rfl)
theorem dX1_feed_85 : decode cX1_feed 85 = .ok (.getfield 16, 3) := dk_180 0 16 (dk_at dksX1_feed_3 14 rfl rfl)
theorem dX1_feed_88 : decode cX1_feed 88 = .ok (.aload_n 0, 1) := dk_42 (dk_at dksX1_feed_3 17 rfl rfl)
theorem dX1_feed_89 : decode cX1_feed 89 = .ok (.dup, 1) := dk_89 (dk_at dksX1_feed_3 18 rfl rfl)
theorem dX1_feed_90 : decode cX1_feed 90 = .ok (.getfield 73, 3) := dk_180 0 73 (dk_at dksX1_feed_3 19 rfl rfl)
theorem dX1_feed_93 : decode cX1_feed 93 = .ok (.dup_x1, 1) := dk_90 (dk_at dksX1_feed_3 22 rfl rfl)
theorem dX1_feed_94 : decode cX1_feed 94 = .ok (.iconst 1, 1) := dk_4 (dk_at dksX1_feed_3 23 rfl rfl)
theorem dX1_feed_95 : decode cX1_feed 95 = .ok (.iadd, 1) := dk_96 (dk_at dksX1_feed_4 0 rfl rfl)
theorem dX1_feed_96 : decode cX1_feed 96 = .ok (.putfield 73, 3) := dk_181 0 73 (dk_at dksX1_feed_4 1 rfl rfl)
theorem dX1_feed_99 : decode cX1_feed 99 = .ok (.iload 8, 2) := dk_21 8 (dk_at dksX1_feed_4 4 rfl rfl)
theorem dX1_feed_101 : decode cX1_feed 101 = .ok (.i2b, 1) := dk_145 (dk_at dksX1_feed_4 6 rfl rfl)
theorem dX1_feed_102 : decode cX1_feed 102 = .ok (.bastore, 1) := dk_84 (dk_at dksX1_feed_4 7 rfl rfl)
theorem dX1_feed_103 : decode cX1_feed 103 = .ok (.iinc 7 1, 3) := dk_132 7 1 (dk_at dksX1_feed_4 8 rfl rfl)
theorem dX1_feed_106 : decode cX1_feed 106 = .ok (.goto (-103), 3) := dk_167 255 153 (dk_at dksX1_feed_4 11 rfl rfl)
theorem dX1_feed_109 : decode cX1_feed 109 = .ok (.aload_n 0, 1) := dk_42 (dk_at dksX1_feed_4 14 rfl rfl)
theorem dX1_feed_110 : decode cX1_feed 110 = .ok (.getfield 73, 3) := dk_180 0 73 (dk_at dksX1_feed_4 15 rfl rfl)
theorem dX1_feed_113 : decode cX1_feed 113 = .ok (.ireturn, 1) := dk_172 (dk_at dksX1_feed_4 18 rfl rfl)
abbrev cX1_street : ByteArray := prog_1_method_9_code
def yX1_street : MethodName := ⟨RX1, "street", "()I"⟩
def dkwX1_street_3 : List UInt8 := [132, 1, 1, 167, 255, 241, 3, 172]
abbrev dktX1_street_3 : List UInt8 := dkwX1_street_3 ++ []
def dkwX1_street_2 : List UInt8 := [182, 0, 70, 42, 3, 181, 0, 95, 3, 60, 27, 7, 162, 0, 16, 42, 180, 0, 66, 27, 1, 83]
abbrev dktX1_street_2 : List UInt8 := dkwX1_street_2 ++ dktX1_street_3
def dkwX1_street_1 : List UInt8 := [42, 180, 0, 46, 42, 180, 0, 30, 182, 0, 92, 42, 187, 0, 34, 89, 3, 183, 0, 36, 181, 0, 39, 42]
abbrev dktX1_street_1 : List UInt8 := dkwX1_street_1 ++ dktX1_street_2
def dkwX1_street_0 : List UInt8 := [42, 182, 0, 81, 42, 42, 180, 0, 23, 182, 0, 84, 181, 0, 30, 167, 0, 9, 76, 43, 180, 0, 89, 172]
abbrev dktX1_street_0 : List UInt8 := dkwX1_street_0 ++ dktX1_street_1
theorem dksX1_street_0 : cX1_street.data.toList.drop 0 = dktX1_street_0 := by decide +kernel
theorem dksX1_street_1 : cX1_street.data.toList.drop 24 = dktX1_street_1 := dk_seg dksX1_street_0 24 rfl rfl
theorem dksX1_street_2 : cX1_street.data.toList.drop 48 = dktX1_street_2 := dk_seg dksX1_street_1 24 rfl rfl
theorem dksX1_street_3 : cX1_street.data.toList.drop 70 = dktX1_street_3 := dk_seg dksX1_street_2 22 rfl rfl
theorem dX1_street_0 : decode cX1_street 0 = .ok (.aload_n 0, 1) := dk_42 (dk_at dksX1_street_0 0 rfl rfl)
theorem dX1_street_1 : decode cX1_street 1 = .ok (.invokevirtual 81, 3) := dk_182 0 81 (dk_at dksX1_street_0 1 rfl rfl)
theorem dX1_street_4 : decode cX1_street 4 = .ok (.aload_n 0, 1) := dk_42 (dk_at dksX1_street_0 4 rfl rfl)
theorem dX1_street_5 : decode cX1_street 5 = .ok (.aload_n 0, 1) := dk_42 (dk_at dksX1_street_0 5 rfl rfl)
theorem dX1_street_6 : decode cX1_street 6 = .ok (.getfield 23, 3) := dk_180 0 23 (dk_at dksX1_street_0 6 rfl rfl)
theorem dX1_street_9 : decode cX1_street 9 = .ok (.invokevirtual 84, 3) := dk_182 0 84 (dk_at dksX1_street_0 9 rfl rfl)
theorem dX1_street_12 : decode cX1_street 12 = .ok (.putfield 30, 3) := dk_181 0 30 (dk_at dksX1_street_0 12 rfl rfl)
theorem dX1_street_15 : decode cX1_street 15 = .ok (.goto 9, 3) := dk_167 0 9 (dk_at dksX1_street_0 15 rfl rfl)
theorem dX1_street_18 : decode cX1_street 18 = .ok (.astore_n 1, 1) := dk_76 (dk_at dksX1_street_0 18 rfl rfl)
theorem dX1_street_19 : decode cX1_street 19 = .ok (.aload_n 1, 1) := dk_43 (dk_at dksX1_street_0 19 rfl rfl)
theorem dX1_street_20 : decode cX1_street 20 = .ok (.getfield 89, 3) := dk_180 0 89 (dk_at dksX1_street_0 20 rfl rfl)
theorem dX1_street_23 : decode cX1_street 23 = .ok (.ireturn, 1) := dk_172 (dk_at dksX1_street_0 23 rfl rfl)
theorem dX1_street_24 : decode cX1_street 24 = .ok (.aload_n 0, 1) := dk_42 (dk_at dksX1_street_1 0 rfl rfl)
theorem dX1_street_25 : decode cX1_street 25 = .ok (.getfield 46, 3) := dk_180 0 46 (dk_at dksX1_street_1 1 rfl rfl)
theorem dX1_street_28 : decode cX1_street 28 = .ok (.aload_n 0, 1) := dk_42 (dk_at dksX1_street_1 4 rfl rfl)
theorem dX1_street_29 : decode cX1_street 29 = .ok (.getfield 30, 3) := dk_180 0 30 (dk_at dksX1_street_1 5 rfl rfl)
theorem dX1_street_32 : decode cX1_street 32 = .ok (.invokevirtual 92, 3) := dk_182 0 92 (dk_at dksX1_street_1 8 rfl rfl)
theorem dX1_street_35 : decode cX1_street 35 = .ok (.aload_n 0, 1) := dk_42 (dk_at dksX1_street_1 11 rfl rfl)
theorem dX1_street_36 : decode cX1_street 36 = .ok (.new 34, 3) := dk_187 0 34 (dk_at dksX1_street_1 12 rfl rfl)
theorem dX1_street_39 : decode cX1_street 39 = .ok (.dup, 1) := dk_89 (dk_at dksX1_street_1 15 rfl rfl)
theorem dX1_street_40 : decode cX1_street 40 = .ok (.iconst 0, 1) := dk_3 (dk_at dksX1_street_1 16 rfl rfl)
theorem dX1_street_41 : decode cX1_street 41 = .ok (.invokespecial 36, 3) := dk_183 0 36 (dk_at dksX1_street_1 17 rfl rfl)
theorem dX1_street_44 : decode cX1_street 44 = .ok (.putfield 39, 3) := dk_181 0 39 (dk_at dksX1_street_1 20 rfl rfl)
theorem dX1_street_47 : decode cX1_street 47 = .ok (.aload_n 0, 1) := dk_42 (dk_at dksX1_street_1 23 rfl rfl)
theorem dX1_street_48 : decode cX1_street 48 = .ok (.invokevirtual 70, 3) := dk_182 0 70 (dk_at dksX1_street_2 0 rfl rfl)
theorem dX1_street_51 : decode cX1_street 51 = .ok (.aload_n 0, 1) := dk_42 (dk_at dksX1_street_2 3 rfl rfl)
theorem dX1_street_52 : decode cX1_street 52 = .ok (.iconst 0, 1) := dk_3 (dk_at dksX1_street_2 4 rfl rfl)
theorem dX1_street_53 : decode cX1_street 53 = .ok (.putfield 95, 3) := dk_181 0 95 (dk_at dksX1_street_2 5 rfl rfl)
theorem dX1_street_56 : decode cX1_street 56 = .ok (.iconst 0, 1) := dk_3 (dk_at dksX1_street_2 8 rfl rfl)
theorem dX1_street_57 : decode cX1_street 57 = .ok (.istore_n 1, 1) := dk_60 (dk_at dksX1_street_2 9 rfl rfl)
theorem dX1_street_58 : decode cX1_street 58 = .ok (.iload_n 1, 1) := dk_27 (dk_at dksX1_street_2 10 rfl rfl)
theorem dX1_street_59 : decode cX1_street 59 = .ok (.iconst 4, 1) := dk_7 (dk_at dksX1_street_2 11 rfl rfl)
theorem dX1_street_60 : decode cX1_street 60 = .ok (.if_icmp .ge 16, 3) := dk_162 0 16 (dk_at dksX1_street_2 12 rfl rfl)
theorem dX1_street_63 : decode cX1_street 63 = .ok (.aload_n 0, 1) := dk_42 (dk_at dksX1_street_2 15 rfl rfl)
theorem dX1_street_64 : decode cX1_street 64 = .ok (.getfield 66, 3) := dk_180 0 66 (dk_at dksX1_street_2 16 rfl rfl)
theorem dX1_street_67 : decode cX1_street 67 = .ok (.iload_n 1, 1) := dk_27 (dk_at dksX1_street_2 19 rfl rfl)
theorem dX1_street_68 : decode cX1_street 68 = .ok (.aconst_null, 1) := dk_1 (dk_at dksX1_street_2 20 rfl rfl)
theorem dX1_street_69 : decode cX1_street 69 = .ok (.aastore, 1) := dk_83 (dk_at dksX1_street_2 21 rfl rfl)
theorem dX1_street_70 : decode cX1_street 70 = .ok (.iinc 1 1, 3) := dk_132 1 1 (dk_at dksX1_street_3 0 rfl rfl)
theorem dX1_street_73 : decode cX1_street 73 = .ok (.goto (-15), 3) := dk_167 255 241 (dk_at dksX1_street_3 3 rfl rfl)
theorem dX1_street_76 : decode cX1_street 76 = .ok (.iconst 0, 1) := dk_3 (dk_at dksX1_street_3 6 rfl rfl)
theorem dX1_street_77 : decode cX1_street 77 = .ok (.ireturn, 1) := dk_172 (dk_at dksX1_street_3 7 rfl rfl)
abbrev cX1_reads : ByteArray := prog_1_method_8_code
def yX1_reads : MethodName := ⟨RX1, "reads", "()V"⟩
def dkwX1_reads_0 : List UInt8 := [42, 180, 0, 23, 42, 180, 0, 16, 42, 180, 0, 73, 182, 0, 77, 42, 3, 181, 0, 73, 177]
abbrev dktX1_reads_0 : List UInt8 := dkwX1_reads_0 ++ []
theorem dksX1_reads_0 : cX1_reads.data.toList.drop 0 = dktX1_reads_0 := by decide +kernel
theorem dX1_reads_0 : decode cX1_reads 0 = .ok (.aload_n 0, 1) := dk_42 (dk_at dksX1_reads_0 0 rfl rfl)
theorem dX1_reads_1 : decode cX1_reads 1 = .ok (.getfield 23, 3) := dk_180 0 23 (dk_at dksX1_reads_0 1 rfl rfl)
theorem dX1_reads_4 : decode cX1_reads 4 = .ok (.aload_n 0, 1) := dk_42 (dk_at dksX1_reads_0 4 rfl rfl)
theorem dX1_reads_5 : decode cX1_reads 5 = .ok (.getfield 16, 3) := dk_180 0 16 (dk_at dksX1_reads_0 5 rfl rfl)
theorem dX1_reads_8 : decode cX1_reads 8 = .ok (.aload_n 0, 1) := dk_42 (dk_at dksX1_reads_0 8 rfl rfl)
theorem dX1_reads_9 : decode cX1_reads 9 = .ok (.getfield 73, 3) := dk_180 0 73 (dk_at dksX1_reads_0 9 rfl rfl)
theorem dX1_reads_12 : decode cX1_reads 12 = .ok (.invokevirtual 77, 3) := dk_182 0 77 (dk_at dksX1_reads_0 12 rfl rfl)
theorem dX1_reads_15 : decode cX1_reads 15 = .ok (.aload_n 0, 1) := dk_42 (dk_at dksX1_reads_0 15 rfl rfl)
theorem dX1_reads_16 : decode cX1_reads 16 = .ok (.iconst 0, 1) := dk_3 (dk_at dksX1_reads_0 16 rfl rfl)
theorem dX1_reads_17 : decode cX1_reads 17 = .ok (.putfield 73, 3) := dk_181 0 73 (dk_at dksX1_reads_0 17 rfl rfl)
theorem dX1_reads_20 : decode cX1_reads 20 = .ok (.return_, 1) := dk_177 (dk_at dksX1_reads_0 20 rfl rfl)
abbrev cX1_in : ByteArray := prog_1_method_1_code
def yX1_in : MethodName := ⟨RX1, "in", "(III)Z"⟩
def dkwX1_in_0 : List UInt8 := [26, 27, 161, 0, 12, 26, 28, 163, 0, 7, 4, 167, 0, 4, 3, 172]
abbrev dktX1_in_0 : List UInt8 := dkwX1_in_0 ++ []
theorem dksX1_in_0 : cX1_in.data.toList.drop 0 = dktX1_in_0 := by decide +kernel
theorem dX1_in_0 : decode cX1_in 0 = .ok (.iload_n 0, 1) := dk_26 (dk_at dksX1_in_0 0 rfl rfl)
theorem dX1_in_1 : decode cX1_in 1 = .ok (.iload_n 1, 1) := dk_27 (dk_at dksX1_in_0 1 rfl rfl)
theorem dX1_in_2 : decode cX1_in 2 = .ok (.if_icmp .lt 12, 3) := dk_161 0 12 (dk_at dksX1_in_0 2 rfl rfl)
theorem dX1_in_5 : decode cX1_in 5 = .ok (.iload_n 0, 1) := dk_26 (dk_at dksX1_in_0 5 rfl rfl)
theorem dX1_in_6 : decode cX1_in 6 = .ok (.iload_n 2, 1) := dk_28 (dk_at dksX1_in_0 6 rfl rfl)
theorem dX1_in_7 : decode cX1_in 7 = .ok (.if_icmp .gt 7, 3) := dk_163 0 7 (dk_at dksX1_in_0 7 rfl rfl)
theorem dX1_in_10 : decode cX1_in 10 = .ok (.iconst 1, 1) := dk_4 (dk_at dksX1_in_0 10 rfl rfl)
theorem dX1_in_11 : decode cX1_in 11 = .ok (.goto 4, 3) := dk_167 0 4 (dk_at dksX1_in_0 11 rfl rfl)
theorem dX1_in_14 : decode cX1_in 14 = .ok (.iconst 0, 1) := dk_3 (dk_at dksX1_in_0 14 rfl rfl)
theorem dX1_in_15 : decode cX1_in 15 = .ok (.ireturn, 1) := dk_172 (dk_at dksX1_in_0 15 rfl rfl)
abbrev cX1_isIn : ByteArray := prog_1_method_2_code
def yX1_isIn : MethodName := ⟨RX1, "isIn", "(II)Z"⟩
def dkwX1_isIn_0 : List UInt8 := [26, 27, 122, 4, 126, 4, 160, 0, 7, 4, 167, 0, 4, 3, 172]
abbrev dktX1_isIn_0 : List UInt8 := dkwX1_isIn_0 ++ []
theorem dksX1_isIn_0 : cX1_isIn.data.toList.drop 0 = dktX1_isIn_0 := by decide +kernel
theorem dX1_isIn_0 : decode cX1_isIn 0 = .ok (.iload_n 0, 1) := dk_26 (dk_at dksX1_isIn_0 0 rfl rfl)
theorem dX1_isIn_1 : decode cX1_isIn 1 = .ok (.iload_n 1, 1) := dk_27 (dk_at dksX1_isIn_0 1 rfl rfl)
theorem dX1_isIn_2 : decode cX1_isIn 2 = .ok (.ishr, 1) := dk_122 (dk_at dksX1_isIn_0 2 rfl rfl)
theorem dX1_isIn_3 : decode cX1_isIn 3 = .ok (.iconst 1, 1) := dk_4 (dk_at dksX1_isIn_0 3 rfl rfl)
theorem dX1_isIn_4 : decode cX1_isIn 4 = .ok (.iand, 1) := dk_126 (dk_at dksX1_isIn_0 4 rfl rfl)
theorem dX1_isIn_5 : decode cX1_isIn 5 = .ok (.iconst 1, 1) := dk_4 (dk_at dksX1_isIn_0 5 rfl rfl)
theorem dX1_isIn_6 : decode cX1_isIn 6 = .ok (.if_icmp .ne 7, 3) := dk_160 0 7 (dk_at dksX1_isIn_0 6 rfl rfl)
theorem dX1_isIn_9 : decode cX1_isIn 9 = .ok (.iconst 1, 1) := dk_4 (dk_at dksX1_isIn_0 9 rfl rfl)
theorem dX1_isIn_10 : decode cX1_isIn 10 = .ok (.goto 4, 3) := dk_167 0 4 (dk_at dksX1_isIn_0 10 rfl rfl)
theorem dX1_isIn_13 : decode cX1_isIn 13 = .ok (.iconst 0, 1) := dk_3 (dk_at dksX1_isIn_0 13 rfl rfl)
theorem dX1_isIn_14 : decode cX1_isIn 14 = .ok (.ireturn, 1) := dk_172 (dk_at dksX1_isIn_0 14 rfl rfl)
abbrev cX1_copies : ByteArray := prog_1_method_4_code
def yX1_copies : MethodName := ⟨RX1, "copies", "([I[I)V"⟩
def dkwX1_copies_0 : List UInt8 := [3, 61, 28, 43, 190, 162, 0, 15, 43, 28, 42, 28, 46, 79, 132, 2, 1, 167, 255, 241, 177]
abbrev dktX1_copies_0 : List UInt8 := dkwX1_copies_0 ++ []
theorem dksX1_copies_0 : cX1_copies.data.toList.drop 0 = dktX1_copies_0 := by decide +kernel
theorem dX1_copies_0 : decode cX1_copies 0 = .ok (.iconst 0, 1) := dk_3 (dk_at dksX1_copies_0 0 rfl rfl)
theorem dX1_copies_1 : decode cX1_copies 1 = .ok (.istore_n 2, 1) := dk_61 (dk_at dksX1_copies_0 1 rfl rfl)
theorem dX1_copies_2 : decode cX1_copies 2 = .ok (.iload_n 2, 1) := dk_28 (dk_at dksX1_copies_0 2 rfl rfl)
theorem dX1_copies_3 : decode cX1_copies 3 = .ok (.aload_n 1, 1) := dk_43 (dk_at dksX1_copies_0 3 rfl rfl)
theorem dX1_copies_4 : decode cX1_copies 4 = .ok (.arraylength, 1) := dk_190 (dk_at dksX1_copies_0 4 rfl rfl)
theorem dX1_copies_5 : decode cX1_copies 5 = .ok (.if_icmp .ge 15, 3) := dk_162 0 15 (dk_at dksX1_copies_0 5 rfl rfl)
theorem dX1_copies_8 : decode cX1_copies 8 = .ok (.aload_n 1, 1) := dk_43 (dk_at dksX1_copies_0 8 rfl rfl)
theorem dX1_copies_9 : decode cX1_copies 9 = .ok (.iload_n 2, 1) := dk_28 (dk_at dksX1_copies_0 9 rfl rfl)
theorem dX1_copies_10 : decode cX1_copies 10 = .ok (.aload_n 0, 1) := dk_42 (dk_at dksX1_copies_0 10 rfl rfl)
theorem dX1_copies_11 : decode cX1_copies 11 = .ok (.iload_n 2, 1) := dk_28 (dk_at dksX1_copies_0 11 rfl rfl)
theorem dX1_copies_12 : decode cX1_copies 12 = .ok (.iaload, 1) := dk_46 (dk_at dksX1_copies_0 12 rfl rfl)
theorem dX1_copies_13 : decode cX1_copies 13 = .ok (.iastore, 1) := dk_79 (dk_at dksX1_copies_0 13 rfl rfl)
theorem dX1_copies_14 : decode cX1_copies 14 = .ok (.iinc 2 1, 3) := dk_132 2 1 (dk_at dksX1_copies_0 14 rfl rfl)
theorem dX1_copies_17 : decode cX1_copies 17 = .ok (.goto (-15), 3) := dk_167 255 241 (dk_at dksX1_copies_0 17 rfl rfl)
theorem dX1_copies_20 : decode cX1_copies 20 = .ok (.return_, 1) := dk_177 (dk_at dksX1_copies_0 20 rfl rfl)
abbrev cX1_day : ByteArray := prog_1_method_10_code
def yX1_day : MethodName := ⟨RX1, "day", "()I"⟩
def dkwX1_day_1 : List UInt8 := [180, 0, 89, 172, 3, 172]
abbrev dktX1_day_1 : List UInt8 := dkwX1_day_1 ++ []
def dkwX1_day_0 : List UInt8 := [42, 182, 0, 81, 42, 42, 180, 0, 23, 42, 180, 0, 30, 182, 0, 98, 181, 0, 39, 167, 0, 9, 76, 43]
abbrev dktX1_day_0 : List UInt8 := dkwX1_day_0 ++ dktX1_day_1
theorem dksX1_day_0 : cX1_day.data.toList.drop 0 = dktX1_day_0 := by decide +kernel
theorem dksX1_day_1 : cX1_day.data.toList.drop 24 = dktX1_day_1 := dk_seg dksX1_day_0 24 rfl rfl
theorem dX1_day_0 : decode cX1_day 0 = .ok (.aload_n 0, 1) := dk_42 (dk_at dksX1_day_0 0 rfl rfl)
theorem dX1_day_1 : decode cX1_day 1 = .ok (.invokevirtual 81, 3) := dk_182 0 81 (dk_at dksX1_day_0 1 rfl rfl)
theorem dX1_day_4 : decode cX1_day 4 = .ok (.aload_n 0, 1) := dk_42 (dk_at dksX1_day_0 4 rfl rfl)
theorem dX1_day_5 : decode cX1_day 5 = .ok (.aload_n 0, 1) := dk_42 (dk_at dksX1_day_0 5 rfl rfl)
theorem dX1_day_6 : decode cX1_day 6 = .ok (.getfield 23, 3) := dk_180 0 23 (dk_at dksX1_day_0 6 rfl rfl)
theorem dX1_day_9 : decode cX1_day 9 = .ok (.aload_n 0, 1) := dk_42 (dk_at dksX1_day_0 9 rfl rfl)
theorem dX1_day_10 : decode cX1_day 10 = .ok (.getfield 30, 3) := dk_180 0 30 (dk_at dksX1_day_0 10 rfl rfl)
theorem dX1_day_13 : decode cX1_day 13 = .ok (.invokevirtual 98, 3) := dk_182 0 98 (dk_at dksX1_day_0 13 rfl rfl)
theorem dX1_day_16 : decode cX1_day 16 = .ok (.putfield 39, 3) := dk_181 0 39 (dk_at dksX1_day_0 16 rfl rfl)
theorem dX1_day_19 : decode cX1_day 19 = .ok (.goto 9, 3) := dk_167 0 9 (dk_at dksX1_day_0 19 rfl rfl)
theorem dX1_day_22 : decode cX1_day 22 = .ok (.astore_n 1, 1) := dk_76 (dk_at dksX1_day_0 22 rfl rfl)
theorem dX1_day_23 : decode cX1_day 23 = .ok (.aload_n 1, 1) := dk_43 (dk_at dksX1_day_0 23 rfl rfl)
theorem dX1_day_24 : decode cX1_day 24 = .ok (.getfield 89, 3) := dk_180 0 89 (dk_at dksX1_day_1 0 rfl rfl)
theorem dX1_day_27 : decode cX1_day 27 = .ok (.ireturn, 1) := dk_172 (dk_at dksX1_day_1 3 rfl rfl)
theorem dX1_day_28 : decode cX1_day 28 = .ok (.iconst 0, 1) := dk_3 (dk_at dksX1_day_1 4 rfl rfl)
theorem dX1_day_29 : decode cX1_day 29 = .ok (.ireturn, 1) := dk_172 (dk_at dksX1_day_1 5 rfl rfl)
abbrev cX1_pane : ByteArray := prog_1_method_25_code
def yX1_pane : MethodName := ⟨RX1, "pane", "(II)I"⟩
def dkwX1_pane_5 : List UInt8 := [172, 42, 42, 180, 0, 46, 27, 182, 0, 152, 172, 16, 254, 172]
abbrev dktX1_pane_5 : List UInt8 := dkwX1_pane_5 ++ []
def dkwX1_pane_4 : List UInt8 := [167, 0, 4, 3, 172, 42, 180, 0, 46, 180, 0, 212, 27, 184, 0, 9, 153, 0, 7, 4, 167, 0, 4, 3]
abbrev dktX1_pane_4 : List UInt8 := dkwX1_pane_4 ++ dktX1_pane_5
def dkwX1_pane_3 : List UInt8 := [180, 0, 161, 27, 50, 180, 0, 174, 172, 42, 180, 0, 46, 180, 0, 135, 27, 184, 0, 9, 153, 0, 7, 4]
abbrev dktX1_pane_3 : List UInt8 := dkwX1_pane_3 ++ dktX1_pane_4
def dkwX1_pane_2 : List UInt8 := [42, 27, 182, 0, 138, 182, 0, 209, 172, 42, 27, 182, 0, 138, 180, 0, 165, 172, 42, 180, 0, 46]
abbrev dktX1_pane_2 : List UInt8 := dkwX1_pane_2 ++ dktX1_pane_3
def dkwX1_pane_1 : List UInt8 := [170, 0, 0, 0, 0, 0, 0, 121, 0, 0, 0, 0, 0, 0, 0, 5, 0, 0, 0, 40, 0, 0, 0, 49, 0, 0, 0, 58, 0, 0, 0, 71, 0, 0, 0, 91, 0, 0, 0, 111]
abbrev dktX1_pane_1 : List UInt8 := dkwX1_pane_1 ++ dktX1_pane_2
def dkwX1_pane_0 : List UInt8 := [42, 27, 182, 0, 206, 154, 0, 6, 16, 254, 172, 28]
abbrev dktX1_pane_0 : List UInt8 := dkwX1_pane_0 ++ dktX1_pane_1
theorem dksX1_pane_0 : cX1_pane.data.toList.drop 0 = dktX1_pane_0 := by decide +kernel
theorem dksX1_pane_1 : cX1_pane.data.toList.drop 12 = dktX1_pane_1 := dk_seg dksX1_pane_0 12 rfl rfl
theorem dksX1_pane_2 : cX1_pane.data.toList.drop 52 = dktX1_pane_2 := dk_seg dksX1_pane_1 40 rfl rfl
theorem dksX1_pane_3 : cX1_pane.data.toList.drop 74 = dktX1_pane_3 := dk_seg dksX1_pane_2 22 rfl rfl
theorem dksX1_pane_4 : cX1_pane.data.toList.drop 98 = dktX1_pane_4 := dk_seg dksX1_pane_3 24 rfl rfl
theorem dksX1_pane_5 : cX1_pane.data.toList.drop 122 = dktX1_pane_5 := dk_seg dksX1_pane_4 24 rfl rfl
theorem dX1_pane_0 : decode cX1_pane 0 = .ok (.aload_n 0, 1) := dk_42 (dk_at dksX1_pane_0 0 rfl rfl)
theorem dX1_pane_1 : decode cX1_pane 1 = .ok (.iload_n 1, 1) := dk_27 (dk_at dksX1_pane_0 1 rfl rfl)
theorem dX1_pane_2 : decode cX1_pane 2 = .ok (.invokevirtual 206, 3) := dk_182 0 206 (dk_at dksX1_pane_0 2 rfl rfl)
theorem dX1_pane_5 : decode cX1_pane 5 = .ok (.ifCond .ne 6, 3) := dk_154 0 6 (dk_at dksX1_pane_0 5 rfl rfl)
theorem dX1_pane_8 : decode cX1_pane 8 = .ok (.bipush (-2), 2) := dk_16 254 (dk_at dksX1_pane_0 8 rfl rfl)
theorem dX1_pane_10 : decode cX1_pane 10 = .ok (.ireturn, 1) := dk_172 (dk_at dksX1_pane_0 10 rfl rfl)
theorem dX1_pane_11 : decode cX1_pane 11 = .ok (.iload_n 2, 1) := dk_28 (dk_at dksX1_pane_0 11 rfl rfl)
theorem dX1_pane_12 : decode cX1_pane 12 = .ok (.tableswitch 121 0 5 #[40, 49, 58, 71, 91, 111], 40) := by decide +kernel
theorem dX1_pane_52 : decode cX1_pane 52 = .ok (.aload_n 0, 1) := dk_42 (dk_at dksX1_pane_2 0 rfl rfl)
theorem dX1_pane_53 : decode cX1_pane 53 = .ok (.iload_n 1, 1) := dk_27 (dk_at dksX1_pane_2 1 rfl rfl)
theorem dX1_pane_54 : decode cX1_pane 54 = .ok (.invokevirtual 138, 3) := dk_182 0 138 (dk_at dksX1_pane_2 2 rfl rfl)
theorem dX1_pane_57 : decode cX1_pane 57 = .ok (.invokevirtual 209, 3) := dk_182 0 209 (dk_at dksX1_pane_2 5 rfl rfl)
theorem dX1_pane_60 : decode cX1_pane 60 = .ok (.ireturn, 1) := dk_172 (dk_at dksX1_pane_2 8 rfl rfl)
theorem dX1_pane_61 : decode cX1_pane 61 = .ok (.aload_n 0, 1) := dk_42 (dk_at dksX1_pane_2 9 rfl rfl)
theorem dX1_pane_62 : decode cX1_pane 62 = .ok (.iload_n 1, 1) := dk_27 (dk_at dksX1_pane_2 10 rfl rfl)
theorem dX1_pane_63 : decode cX1_pane 63 = .ok (.invokevirtual 138, 3) := dk_182 0 138 (dk_at dksX1_pane_2 11 rfl rfl)
theorem dX1_pane_66 : decode cX1_pane 66 = .ok (.getfield 165, 3) := dk_180 0 165 (dk_at dksX1_pane_2 14 rfl rfl)
theorem dX1_pane_69 : decode cX1_pane 69 = .ok (.ireturn, 1) := dk_172 (dk_at dksX1_pane_2 17 rfl rfl)
theorem dX1_pane_70 : decode cX1_pane 70 = .ok (.aload_n 0, 1) := dk_42 (dk_at dksX1_pane_2 18 rfl rfl)
theorem dX1_pane_71 : decode cX1_pane 71 = .ok (.getfield 46, 3) := dk_180 0 46 (dk_at dksX1_pane_2 19 rfl rfl)
theorem dX1_pane_74 : decode cX1_pane 74 = .ok (.getfield 161, 3) := dk_180 0 161 (dk_at dksX1_pane_3 0 rfl rfl)
theorem dX1_pane_77 : decode cX1_pane 77 = .ok (.iload_n 1, 1) := dk_27 (dk_at dksX1_pane_3 3 rfl rfl)
theorem dX1_pane_78 : decode cX1_pane 78 = .ok (.aaload, 1) := dk_50 (dk_at dksX1_pane_3 4 rfl rfl)
theorem dX1_pane_79 : decode cX1_pane 79 = .ok (.getfield 174, 3) := dk_180 0 174 (dk_at dksX1_pane_3 5 rfl rfl)
theorem dX1_pane_82 : decode cX1_pane 82 = .ok (.ireturn, 1) := dk_172 (dk_at dksX1_pane_3 8 rfl rfl)
theorem dX1_pane_83 : decode cX1_pane 83 = .ok (.aload_n 0, 1) := dk_42 (dk_at dksX1_pane_3 9 rfl rfl)
theorem dX1_pane_84 : decode cX1_pane 84 = .ok (.getfield 46, 3) := dk_180 0 46 (dk_at dksX1_pane_3 10 rfl rfl)
theorem dX1_pane_87 : decode cX1_pane 87 = .ok (.getfield 135, 3) := dk_180 0 135 (dk_at dksX1_pane_3 13 rfl rfl)
theorem dX1_pane_90 : decode cX1_pane 90 = .ok (.iload_n 1, 1) := dk_27 (dk_at dksX1_pane_3 16 rfl rfl)
theorem dX1_pane_91 : decode cX1_pane 91 = .ok (.invokestatic 9, 3) := dk_184 0 9 (dk_at dksX1_pane_3 17 rfl rfl)
theorem dX1_pane_94 : decode cX1_pane 94 = .ok (.ifCond .eq 7, 3) := dk_153 0 7 (dk_at dksX1_pane_3 20 rfl rfl)
theorem dX1_pane_97 : decode cX1_pane 97 = .ok (.iconst 1, 1) := dk_4 (dk_at dksX1_pane_3 23 rfl rfl)
theorem dX1_pane_98 : decode cX1_pane 98 = .ok (.goto 4, 3) := dk_167 0 4 (dk_at dksX1_pane_4 0 rfl rfl)
theorem dX1_pane_101 : decode cX1_pane 101 = .ok (.iconst 0, 1) := dk_3 (dk_at dksX1_pane_4 3 rfl rfl)
theorem dX1_pane_102 : decode cX1_pane 102 = .ok (.ireturn, 1) := dk_172 (dk_at dksX1_pane_4 4 rfl rfl)
theorem dX1_pane_103 : decode cX1_pane 103 = .ok (.aload_n 0, 1) := dk_42 (dk_at dksX1_pane_4 5 rfl rfl)
theorem dX1_pane_104 : decode cX1_pane 104 = .ok (.getfield 46, 3) := dk_180 0 46 (dk_at dksX1_pane_4 6 rfl rfl)
theorem dX1_pane_107 : decode cX1_pane 107 = .ok (.getfield 212, 3) := dk_180 0 212 (dk_at dksX1_pane_4 9 rfl rfl)
theorem dX1_pane_110 : decode cX1_pane 110 = .ok (.iload_n 1, 1) := dk_27 (dk_at dksX1_pane_4 12 rfl rfl)
theorem dX1_pane_111 : decode cX1_pane 111 = .ok (.invokestatic 9, 3) := dk_184 0 9 (dk_at dksX1_pane_4 13 rfl rfl)
theorem dX1_pane_114 : decode cX1_pane 114 = .ok (.ifCond .eq 7, 3) := dk_153 0 7 (dk_at dksX1_pane_4 16 rfl rfl)
theorem dX1_pane_117 : decode cX1_pane 117 = .ok (.iconst 1, 1) := dk_4 (dk_at dksX1_pane_4 19 rfl rfl)
theorem dX1_pane_118 : decode cX1_pane 118 = .ok (.goto 4, 3) := dk_167 0 4 (dk_at dksX1_pane_4 20 rfl rfl)
theorem dX1_pane_121 : decode cX1_pane 121 = .ok (.iconst 0, 1) := dk_3 (dk_at dksX1_pane_4 23 rfl rfl)
theorem dX1_pane_122 : decode cX1_pane 122 = .ok (.ireturn, 1) := dk_172 (dk_at dksX1_pane_5 0 rfl rfl)
theorem dX1_pane_123 : decode cX1_pane 123 = .ok (.aload_n 0, 1) := dk_42 (dk_at dksX1_pane_5 1 rfl rfl)
theorem dX1_pane_124 : decode cX1_pane 124 = .ok (.aload_n 0, 1) := dk_42 (dk_at dksX1_pane_5 2 rfl rfl)
theorem dX1_pane_125 : decode cX1_pane 125 = .ok (.getfield 46, 3) := dk_180 0 46 (dk_at dksX1_pane_5 3 rfl rfl)
theorem dX1_pane_128 : decode cX1_pane 128 = .ok (.iload_n 1, 1) := dk_27 (dk_at dksX1_pane_5 6 rfl rfl)
theorem dX1_pane_129 : decode cX1_pane 129 = .ok (.invokevirtual 152, 3) := dk_182 0 152 (dk_at dksX1_pane_5 7 rfl rfl)
theorem dX1_pane_132 : decode cX1_pane 132 = .ok (.ireturn, 1) := dk_172 (dk_at dksX1_pane_5 10 rfl rfl)
theorem dX1_pane_133 : decode cX1_pane 133 = .ok (.bipush (-2), 2) := dk_16 254 (dk_at dksX1_pane_5 11 rfl rfl)
theorem dX1_pane_135 : decode cX1_pane 135 = .ok (.ireturn, 1) := dk_172 (dk_at dksX1_pane_5 13 rfl rfl)
abbrev cX1_isPane : ByteArray := prog_1_method_15_code
def yX1_isPane : MethodName := ⟨RX1, "isPane", "(I)Z"⟩
def dkwX1_isPane_0 : List UInt8 := [27, 3, 42, 182, 0, 121, 4, 100, 184, 0, 123, 172]
abbrev dktX1_isPane_0 : List UInt8 := dkwX1_isPane_0 ++ []
theorem dksX1_isPane_0 : cX1_isPane.data.toList.drop 0 = dktX1_isPane_0 := by decide +kernel
theorem dX1_isPane_0 : decode cX1_isPane 0 = .ok (.iload_n 1, 1) := dk_27 (dk_at dksX1_isPane_0 0 rfl rfl)
theorem dX1_isPane_1 : decode cX1_isPane 1 = .ok (.iconst 0, 1) := dk_3 (dk_at dksX1_isPane_0 1 rfl rfl)
theorem dX1_isPane_2 : decode cX1_isPane 2 = .ok (.aload_n 0, 1) := dk_42 (dk_at dksX1_isPane_0 2 rfl rfl)
theorem dX1_isPane_3 : decode cX1_isPane 3 = .ok (.invokevirtual 121, 3) := dk_182 0 121 (dk_at dksX1_isPane_0 3 rfl rfl)
theorem dX1_isPane_6 : decode cX1_isPane 6 = .ok (.iconst 1, 1) := dk_4 (dk_at dksX1_isPane_0 6 rfl rfl)
theorem dX1_isPane_7 : decode cX1_isPane 7 = .ok (.isub, 1) := dk_100 (dk_at dksX1_isPane_0 7 rfl rfl)
theorem dX1_isPane_8 : decode cX1_isPane 8 = .ok (.invokestatic 123, 3) := dk_184 0 123 (dk_at dksX1_isPane_0 8 rfl rfl)
theorem dX1_isPane_11 : decode cX1_isPane 11 = .ok (.ireturn, 1) := dk_172 (dk_at dksX1_isPane_0 11 rfl rfl)
abbrev cX1_panes : ByteArray := prog_1_method_11_code
def yX1_panes : MethodName := ⟨RX1, "panes", "()I"⟩
def dkwX1_panes_0 : List UInt8 := [42, 180, 0, 30, 180, 0, 102, 182, 0, 105, 172]
abbrev dktX1_panes_0 : List UInt8 := dkwX1_panes_0 ++ []
theorem dksX1_panes_0 : cX1_panes.data.toList.drop 0 = dktX1_panes_0 := by decide +kernel
theorem dX1_panes_0 : decode cX1_panes 0 = .ok (.aload_n 0, 1) := dk_42 (dk_at dksX1_panes_0 0 rfl rfl)
theorem dX1_panes_1 : decode cX1_panes 1 = .ok (.getfield 30, 3) := dk_180 0 30 (dk_at dksX1_panes_0 1 rfl rfl)
theorem dX1_panes_4 : decode cX1_panes 4 = .ok (.getfield 102, 3) := dk_180 0 102 (dk_at dksX1_panes_0 4 rfl rfl)
theorem dX1_panes_7 : decode cX1_panes 7 = .ok (.invokevirtual 105, 3) := dk_182 0 105 (dk_at dksX1_panes_0 7 rfl rfl)
theorem dX1_panes_10 : decode cX1_panes 10 = .ok (.ireturn, 1) := dk_172 (dk_at dksX1_panes_0 10 rfl rfl)
abbrev cX1_pane_2 : ByteArray := prog_1_method_12_code
def yX1_pane_2 : MethodName := ⟨RX1, "pane", "(I)LGlassStreet$Pane;"⟩
def dkwX1_pane_2_0 : List UInt8 := [42, 180, 0, 30, 180, 0, 102, 27, 182, 0, 109, 192, 0, 113, 176]
abbrev dktX1_pane_2_0 : List UInt8 := dkwX1_pane_2_0 ++ []
theorem dksX1_pane_2_0 : cX1_pane_2.data.toList.drop 0 = dktX1_pane_2_0 := by decide +kernel
theorem dX1_pane_2_0 : decode cX1_pane_2 0 = .ok (.aload_n 0, 1) := dk_42 (dk_at dksX1_pane_2_0 0 rfl rfl)
theorem dX1_pane_2_1 : decode cX1_pane_2 1 = .ok (.getfield 30, 3) := dk_180 0 30 (dk_at dksX1_pane_2_0 1 rfl rfl)
theorem dX1_pane_2_4 : decode cX1_pane_2 4 = .ok (.getfield 102, 3) := dk_180 0 102 (dk_at dksX1_pane_2_0 4 rfl rfl)
theorem dX1_pane_2_7 : decode cX1_pane_2 7 = .ok (.iload_n 1, 1) := dk_27 (dk_at dksX1_pane_2_0 7 rfl rfl)
theorem dX1_pane_2_8 : decode cX1_pane_2 8 = .ok (.invokevirtual 109, 3) := dk_182 0 109 (dk_at dksX1_pane_2_0 8 rfl rfl)
theorem dX1_pane_2_11 : decode cX1_pane_2 11 = .ok (.checkcast 113, 3) := dk_192 0 113 (dk_at dksX1_pane_2_0 11 rfl rfl)
theorem dX1_pane_2_14 : decode cX1_pane_2 14 = .ok (.areturn, 1) := dk_176 (dk_at dksX1_pane_2_0 14 rfl rfl)
abbrev cX1_sees : ByteArray := prog_1_method_18_code
def yX1_sees : MethodName := ⟨RX1, "sees", "(LGlassStreet$State;I)I"⟩
def dkwX1_sees_1 : List UInt8 := [42, 180, 0, 30, 43, 180, 0, 142, 182, 0, 145, 182, 0, 149, 167, 0, 4, 3, 172]
abbrev dktX1_sees_1 : List UInt8 := dkwX1_sees_1 ++ []
def dkwX1_sees_0 : List UInt8 := [43, 28, 182, 0, 131, 153, 0, 36, 43, 180, 0, 135, 28, 184, 0, 9, 154, 0, 25, 42, 28, 182, 0, 138]
abbrev dktX1_sees_0 : List UInt8 := dkwX1_sees_0 ++ dktX1_sees_1
theorem dksX1_sees_0 : cX1_sees.data.toList.drop 0 = dktX1_sees_0 := by decide +kernel
theorem dksX1_sees_1 : cX1_sees.data.toList.drop 24 = dktX1_sees_1 := dk_seg dksX1_sees_0 24 rfl rfl
theorem dX1_sees_0 : decode cX1_sees 0 = .ok (.aload_n 1, 1) := dk_43 (dk_at dksX1_sees_0 0 rfl rfl)
theorem dX1_sees_1 : decode cX1_sees 1 = .ok (.iload_n 2, 1) := dk_28 (dk_at dksX1_sees_0 1 rfl rfl)
theorem dX1_sees_2 : decode cX1_sees 2 = .ok (.invokevirtual 131, 3) := dk_182 0 131 (dk_at dksX1_sees_0 2 rfl rfl)
theorem dX1_sees_5 : decode cX1_sees 5 = .ok (.ifCond .eq 36, 3) := dk_153 0 36 (dk_at dksX1_sees_0 5 rfl rfl)
theorem dX1_sees_8 : decode cX1_sees 8 = .ok (.aload_n 1, 1) := dk_43 (dk_at dksX1_sees_0 8 rfl rfl)
theorem dX1_sees_9 : decode cX1_sees 9 = .ok (.getfield 135, 3) := dk_180 0 135 (dk_at dksX1_sees_0 9 rfl rfl)
theorem dX1_sees_12 : decode cX1_sees 12 = .ok (.iload_n 2, 1) := dk_28 (dk_at dksX1_sees_0 12 rfl rfl)
theorem dX1_sees_13 : decode cX1_sees 13 = .ok (.invokestatic 9, 3) := dk_184 0 9 (dk_at dksX1_sees_0 13 rfl rfl)
theorem dX1_sees_16 : decode cX1_sees 16 = .ok (.ifCond .ne 25, 3) := dk_154 0 25 (dk_at dksX1_sees_0 16 rfl rfl)
theorem dX1_sees_19 : decode cX1_sees 19 = .ok (.aload_n 0, 1) := dk_42 (dk_at dksX1_sees_0 19 rfl rfl)
theorem dX1_sees_20 : decode cX1_sees 20 = .ok (.iload_n 2, 1) := dk_28 (dk_at dksX1_sees_0 20 rfl rfl)
theorem dX1_sees_21 : decode cX1_sees 21 = .ok (.invokevirtual 138, 3) := dk_182 0 138 (dk_at dksX1_sees_0 21 rfl rfl)
theorem dX1_sees_24 : decode cX1_sees 24 = .ok (.aload_n 0, 1) := dk_42 (dk_at dksX1_sees_1 0 rfl rfl)
theorem dX1_sees_25 : decode cX1_sees 25 = .ok (.getfield 30, 3) := dk_180 0 30 (dk_at dksX1_sees_1 1 rfl rfl)
theorem dX1_sees_28 : decode cX1_sees 28 = .ok (.aload_n 1, 1) := dk_43 (dk_at dksX1_sees_1 4 rfl rfl)
theorem dX1_sees_29 : decode cX1_sees 29 = .ok (.getfield 142, 3) := dk_180 0 142 (dk_at dksX1_sees_1 5 rfl rfl)
theorem dX1_sees_32 : decode cX1_sees 32 = .ok (.invokevirtual 145, 3) := dk_182 0 145 (dk_at dksX1_sees_1 8 rfl rfl)
theorem dX1_sees_35 : decode cX1_sees 35 = .ok (.invokevirtual 149, 3) := dk_182 0 149 (dk_at dksX1_sees_1 11 rfl rfl)
theorem dX1_sees_38 : decode cX1_sees 38 = .ok (.goto 4, 3) := dk_167 0 4 (dk_at dksX1_sees_1 14 rfl rfl)
theorem dX1_sees_41 : decode cX1_sees 41 = .ok (.iconst 0, 1) := dk_3 (dk_at dksX1_sees_1 17 rfl rfl)
theorem dX1_sees_42 : decode cX1_sees 42 = .ok (.ireturn, 1) := dk_172 (dk_at dksX1_sees_1 18 rfl rfl)
abbrev cX1_turned : ByteArray := prog_1_method_5_code
def yX1_turned : MethodName := ⟨RX1, "turned", "(I)I"⟩
def dkwX1_turned_1 : List UInt8 := [120, 128, 60, 132, 2, 1, 167, 255, 230, 27, 172]
abbrev dktX1_turned_1 : List UInt8 := dkwX1_turned_1 ++ []
def dkwX1_turned_0 : List UInt8 := [3, 60, 3, 61, 28, 16, 10, 162, 0, 26, 26, 28, 184, 0, 9, 153, 0, 12, 27, 4, 16, 9, 28, 100]
abbrev dktX1_turned_0 : List UInt8 := dkwX1_turned_0 ++ dktX1_turned_1
theorem dksX1_turned_0 : cX1_turned.data.toList.drop 0 = dktX1_turned_0 := by decide +kernel
theorem dksX1_turned_1 : cX1_turned.data.toList.drop 24 = dktX1_turned_1 := dk_seg dksX1_turned_0 24 rfl rfl
theorem dX1_turned_0 : decode cX1_turned 0 = .ok (.iconst 0, 1) := dk_3 (dk_at dksX1_turned_0 0 rfl rfl)
theorem dX1_turned_1 : decode cX1_turned 1 = .ok (.istore_n 1, 1) := dk_60 (dk_at dksX1_turned_0 1 rfl rfl)
theorem dX1_turned_2 : decode cX1_turned 2 = .ok (.iconst 0, 1) := dk_3 (dk_at dksX1_turned_0 2 rfl rfl)
theorem dX1_turned_3 : decode cX1_turned 3 = .ok (.istore_n 2, 1) := dk_61 (dk_at dksX1_turned_0 3 rfl rfl)
theorem dX1_turned_4 : decode cX1_turned 4 = .ok (.iload_n 2, 1) := dk_28 (dk_at dksX1_turned_0 4 rfl rfl)
theorem dX1_turned_5 : decode cX1_turned 5 = .ok (.bipush 10, 2) := dk_16 10 (dk_at dksX1_turned_0 5 rfl rfl)
theorem dX1_turned_7 : decode cX1_turned 7 = .ok (.if_icmp .ge 26, 3) := dk_162 0 26 (dk_at dksX1_turned_0 7 rfl rfl)
theorem dX1_turned_10 : decode cX1_turned 10 = .ok (.iload_n 0, 1) := dk_26 (dk_at dksX1_turned_0 10 rfl rfl)
theorem dX1_turned_11 : decode cX1_turned 11 = .ok (.iload_n 2, 1) := dk_28 (dk_at dksX1_turned_0 11 rfl rfl)
theorem dX1_turned_12 : decode cX1_turned 12 = .ok (.invokestatic 9, 3) := dk_184 0 9 (dk_at dksX1_turned_0 12 rfl rfl)
theorem dX1_turned_15 : decode cX1_turned 15 = .ok (.ifCond .eq 12, 3) := dk_153 0 12 (dk_at dksX1_turned_0 15 rfl rfl)
theorem dX1_turned_18 : decode cX1_turned 18 = .ok (.iload_n 1, 1) := dk_27 (dk_at dksX1_turned_0 18 rfl rfl)
theorem dX1_turned_19 : decode cX1_turned 19 = .ok (.iconst 1, 1) := dk_4 (dk_at dksX1_turned_0 19 rfl rfl)
theorem dX1_turned_20 : decode cX1_turned 20 = .ok (.bipush 9, 2) := dk_16 9 (dk_at dksX1_turned_0 20 rfl rfl)
theorem dX1_turned_22 : decode cX1_turned 22 = .ok (.iload_n 2, 1) := dk_28 (dk_at dksX1_turned_0 22 rfl rfl)
theorem dX1_turned_23 : decode cX1_turned 23 = .ok (.isub, 1) := dk_100 (dk_at dksX1_turned_0 23 rfl rfl)
theorem dX1_turned_24 : decode cX1_turned 24 = .ok (.ishl, 1) := dk_120 (dk_at dksX1_turned_1 0 rfl rfl)
theorem dX1_turned_25 : decode cX1_turned 25 = .ok (.ior, 1) := dk_128 (dk_at dksX1_turned_1 1 rfl rfl)
theorem dX1_turned_26 : decode cX1_turned 26 = .ok (.istore_n 1, 1) := dk_60 (dk_at dksX1_turned_1 2 rfl rfl)
theorem dX1_turned_27 : decode cX1_turned 27 = .ok (.iinc 2 1, 3) := dk_132 2 1 (dk_at dksX1_turned_1 3 rfl rfl)
theorem dX1_turned_30 : decode cX1_turned 30 = .ok (.goto (-26), 3) := dk_167 255 230 (dk_at dksX1_turned_1 6 rfl rfl)
theorem dX1_turned_33 : decode cX1_turned 33 = .ok (.iload_n 1, 1) := dk_27 (dk_at dksX1_turned_1 9 rfl rfl)
theorem dX1_turned_34 : decode cX1_turned 34 = .ok (.ireturn, 1) := dk_172 (dk_at dksX1_turned_1 10 rfl rfl)
abbrev cX1_shown : ByteArray := prog_1_method_27_code
def yX1_shown : MethodName := ⟨RX1, "shown", "(III)I"⟩
def dkwX1_shown_6 : List UInt8 := [16, 254, 172]
abbrev dktX1_shown_6 : List UInt8 := dkwX1_shown_6 ++ []
def dkwX1_shown_5 : List UInt8 := [25, 4, 180, 0, 187, 28, 46, 172, 25, 4, 180, 0, 228, 28, 46, 172, 25, 4, 180, 0, 181, 28, 46, 172]
abbrev dktX1_shown_5 : List UInt8 := dkwX1_shown_5 ++ dktX1_shown_6
def dkwX1_shown_4 : List UInt8 := [42, 42, 180, 0, 46, 27, 182, 0, 222, 153, 0, 13, 25, 4, 180, 0, 225, 28, 46, 167, 0, 4, 2, 172]
abbrev dktX1_shown_4 : List UInt8 := dkwX1_shown_4 ++ dktX1_shown_5
def dkwX1_shown_3 : List UInt8 := [170, 0, 0, 0, 0, 0, 0, 80, 0, 0, 0, 0, 0, 0, 0, 3, 0, 0, 0, 32, 0, 0, 0, 56, 0, 0, 0, 64, 0, 0, 0, 72]
abbrev dktX1_shown_3 : List UInt8 := dkwX1_shown_3 ++ dktX1_shown_4
def dkwX1_shown_2 : List UInt8 := [180, 0, 46, 180, 0, 161, 27, 50, 58, 4, 29]
abbrev dktX1_shown_2 : List UInt8 := dkwX1_shown_2 ++ dktX1_shown_3
def dkwX1_shown_1 : List UInt8 := [180, 0, 46, 180, 0, 161, 27, 50, 180, 0, 174, 4, 100, 184, 0, 123, 154, 0, 6, 16, 254, 172, 42]
abbrev dktX1_shown_1 : List UInt8 := dkwX1_shown_1 ++ dktX1_shown_2
def dkwX1_shown_0 : List UInt8 := [42, 27, 182, 0, 206, 153, 0, 36, 42, 180, 0, 46, 27, 182, 0, 219, 153, 0, 25, 28, 3, 42]
abbrev dktX1_shown_0 : List UInt8 := dkwX1_shown_0 ++ dktX1_shown_1
theorem dksX1_shown_0 : cX1_shown.data.toList.drop 0 = dktX1_shown_0 := by decide +kernel
theorem dksX1_shown_1 : cX1_shown.data.toList.drop 22 = dktX1_shown_1 := dk_seg dksX1_shown_0 22 rfl rfl
theorem dksX1_shown_2 : cX1_shown.data.toList.drop 45 = dktX1_shown_2 := dk_seg dksX1_shown_1 23 rfl rfl
theorem dksX1_shown_3 : cX1_shown.data.toList.drop 56 = dktX1_shown_3 := dk_seg dksX1_shown_2 11 rfl rfl
theorem dksX1_shown_4 : cX1_shown.data.toList.drop 88 = dktX1_shown_4 := dk_seg dksX1_shown_3 32 rfl rfl
theorem dksX1_shown_5 : cX1_shown.data.toList.drop 112 = dktX1_shown_5 := dk_seg dksX1_shown_4 24 rfl rfl
theorem dksX1_shown_6 : cX1_shown.data.toList.drop 136 = dktX1_shown_6 := dk_seg dksX1_shown_5 24 rfl rfl
theorem dX1_shown_0 : decode cX1_shown 0 = .ok (.aload_n 0, 1) := dk_42 (dk_at dksX1_shown_0 0 rfl rfl)
theorem dX1_shown_1 : decode cX1_shown 1 = .ok (.iload_n 1, 1) := dk_27 (dk_at dksX1_shown_0 1 rfl rfl)
theorem dX1_shown_2 : decode cX1_shown 2 = .ok (.invokevirtual 206, 3) := dk_182 0 206 (dk_at dksX1_shown_0 2 rfl rfl)
theorem dX1_shown_5 : decode cX1_shown 5 = .ok (.ifCond .eq 36, 3) := dk_153 0 36 (dk_at dksX1_shown_0 5 rfl rfl)
theorem dX1_shown_8 : decode cX1_shown 8 = .ok (.aload_n 0, 1) := dk_42 (dk_at dksX1_shown_0 8 rfl rfl)
theorem dX1_shown_9 : decode cX1_shown 9 = .ok (.getfield 46, 3) := dk_180 0 46 (dk_at dksX1_shown_0 9 rfl rfl)
theorem dX1_shown_12 : decode cX1_shown 12 = .ok (.iload_n 1, 1) := dk_27 (dk_at dksX1_shown_0 12 rfl rfl)
theorem dX1_shown_13 : decode cX1_shown 13 = .ok (.invokevirtual 219, 3) := dk_182 0 219 (dk_at dksX1_shown_0 13 rfl rfl)
theorem dX1_shown_16 : decode cX1_shown 16 = .ok (.ifCond .eq 25, 3) := dk_153 0 25 (dk_at dksX1_shown_0 16 rfl rfl)
theorem dX1_shown_19 : decode cX1_shown 19 = .ok (.iload_n 2, 1) := dk_28 (dk_at dksX1_shown_0 19 rfl rfl)
theorem dX1_shown_20 : decode cX1_shown 20 = .ok (.iconst 0, 1) := dk_3 (dk_at dksX1_shown_0 20 rfl rfl)
theorem dX1_shown_21 : decode cX1_shown 21 = .ok (.aload_n 0, 1) := dk_42 (dk_at dksX1_shown_0 21 rfl rfl)
theorem dX1_shown_22 : decode cX1_shown 22 = .ok (.getfield 46, 3) := dk_180 0 46 (dk_at dksX1_shown_1 0 rfl rfl)
theorem dX1_shown_25 : decode cX1_shown 25 = .ok (.getfield 161, 3) := dk_180 0 161 (dk_at dksX1_shown_1 3 rfl rfl)
theorem dX1_shown_28 : decode cX1_shown 28 = .ok (.iload_n 1, 1) := dk_27 (dk_at dksX1_shown_1 6 rfl rfl)
theorem dX1_shown_29 : decode cX1_shown 29 = .ok (.aaload, 1) := dk_50 (dk_at dksX1_shown_1 7 rfl rfl)
theorem dX1_shown_30 : decode cX1_shown 30 = .ok (.getfield 174, 3) := dk_180 0 174 (dk_at dksX1_shown_1 8 rfl rfl)
theorem dX1_shown_33 : decode cX1_shown 33 = .ok (.iconst 1, 1) := dk_4 (dk_at dksX1_shown_1 11 rfl rfl)
theorem dX1_shown_34 : decode cX1_shown 34 = .ok (.isub, 1) := dk_100 (dk_at dksX1_shown_1 12 rfl rfl)
theorem dX1_shown_35 : decode cX1_shown 35 = .ok (.invokestatic 123, 3) := dk_184 0 123 (dk_at dksX1_shown_1 13 rfl rfl)
theorem dX1_shown_38 : decode cX1_shown 38 = .ok (.ifCond .ne 6, 3) := dk_154 0 6 (dk_at dksX1_shown_1 16 rfl rfl)
theorem dX1_shown_41 : decode cX1_shown 41 = .ok (.bipush (-2), 2) := dk_16 254 (dk_at dksX1_shown_1 19 rfl rfl)
theorem dX1_shown_43 : decode cX1_shown 43 = .ok (.ireturn, 1) := dk_172 (dk_at dksX1_shown_1 21 rfl rfl)
theorem dX1_shown_44 : decode cX1_shown 44 = .ok (.aload_n 0, 1) := dk_42 (dk_at dksX1_shown_1 22 rfl rfl)
theorem dX1_shown_45 : decode cX1_shown 45 = .ok (.getfield 46, 3) := dk_180 0 46 (dk_at dksX1_shown_2 0 rfl rfl)
theorem dX1_shown_48 : decode cX1_shown 48 = .ok (.getfield 161, 3) := dk_180 0 161 (dk_at dksX1_shown_2 3 rfl rfl)
theorem dX1_shown_51 : decode cX1_shown 51 = .ok (.iload_n 1, 1) := dk_27 (dk_at dksX1_shown_2 6 rfl rfl)
theorem dX1_shown_52 : decode cX1_shown 52 = .ok (.aaload, 1) := dk_50 (dk_at dksX1_shown_2 7 rfl rfl)
theorem dX1_shown_53 : decode cX1_shown 53 = .ok (.astore 4, 2) := dk_58 4 (dk_at dksX1_shown_2 8 rfl rfl)
theorem dX1_shown_55 : decode cX1_shown 55 = .ok (.iload_n 3, 1) := dk_29 (dk_at dksX1_shown_2 10 rfl rfl)
theorem dX1_shown_56 : decode cX1_shown 56 = .ok (.tableswitch 80 0 3 #[32, 56, 64, 72], 32) := by decide +kernel
theorem dX1_shown_88 : decode cX1_shown 88 = .ok (.aload_n 0, 1) := dk_42 (dk_at dksX1_shown_4 0 rfl rfl)
theorem dX1_shown_89 : decode cX1_shown 89 = .ok (.aload_n 0, 1) := dk_42 (dk_at dksX1_shown_4 1 rfl rfl)
theorem dX1_shown_90 : decode cX1_shown 90 = .ok (.getfield 46, 3) := dk_180 0 46 (dk_at dksX1_shown_4 2 rfl rfl)
theorem dX1_shown_93 : decode cX1_shown 93 = .ok (.iload_n 1, 1) := dk_27 (dk_at dksX1_shown_4 5 rfl rfl)
theorem dX1_shown_94 : decode cX1_shown 94 = .ok (.invokevirtual 222, 3) := dk_182 0 222 (dk_at dksX1_shown_4 6 rfl rfl)
theorem dX1_shown_97 : decode cX1_shown 97 = .ok (.ifCond .eq 13, 3) := dk_153 0 13 (dk_at dksX1_shown_4 9 rfl rfl)
theorem dX1_shown_100 : decode cX1_shown 100 = .ok (.aload 4, 2) := dk_25 4 (dk_at dksX1_shown_4 12 rfl rfl)
theorem dX1_shown_102 : decode cX1_shown 102 = .ok (.getfield 225, 3) := dk_180 0 225 (dk_at dksX1_shown_4 14 rfl rfl)
theorem dX1_shown_105 : decode cX1_shown 105 = .ok (.iload_n 2, 1) := dk_28 (dk_at dksX1_shown_4 17 rfl rfl)
theorem dX1_shown_106 : decode cX1_shown 106 = .ok (.iaload, 1) := dk_46 (dk_at dksX1_shown_4 18 rfl rfl)
theorem dX1_shown_107 : decode cX1_shown 107 = .ok (.goto 4, 3) := dk_167 0 4 (dk_at dksX1_shown_4 19 rfl rfl)
theorem dX1_shown_110 : decode cX1_shown 110 = .ok (.iconst (-1), 1) := dk_2 (dk_at dksX1_shown_4 22 rfl rfl)
theorem dX1_shown_111 : decode cX1_shown 111 = .ok (.ireturn, 1) := dk_172 (dk_at dksX1_shown_4 23 rfl rfl)
theorem dX1_shown_112 : decode cX1_shown 112 = .ok (.aload 4, 2) := dk_25 4 (dk_at dksX1_shown_5 0 rfl rfl)
theorem dX1_shown_114 : decode cX1_shown 114 = .ok (.getfield 187, 3) := dk_180 0 187 (dk_at dksX1_shown_5 2 rfl rfl)
theorem dX1_shown_117 : decode cX1_shown 117 = .ok (.iload_n 2, 1) := dk_28 (dk_at dksX1_shown_5 5 rfl rfl)
theorem dX1_shown_118 : decode cX1_shown 118 = .ok (.iaload, 1) := dk_46 (dk_at dksX1_shown_5 6 rfl rfl)
theorem dX1_shown_119 : decode cX1_shown 119 = .ok (.ireturn, 1) := dk_172 (dk_at dksX1_shown_5 7 rfl rfl)
theorem dX1_shown_120 : decode cX1_shown 120 = .ok (.aload 4, 2) := dk_25 4 (dk_at dksX1_shown_5 8 rfl rfl)
theorem dX1_shown_122 : decode cX1_shown 122 = .ok (.getfield 228, 3) := dk_180 0 228 (dk_at dksX1_shown_5 10 rfl rfl)
theorem dX1_shown_125 : decode cX1_shown 125 = .ok (.iload_n 2, 1) := dk_28 (dk_at dksX1_shown_5 13 rfl rfl)
theorem dX1_shown_126 : decode cX1_shown 126 = .ok (.iaload, 1) := dk_46 (dk_at dksX1_shown_5 14 rfl rfl)
theorem dX1_shown_127 : decode cX1_shown 127 = .ok (.ireturn, 1) := dk_172 (dk_at dksX1_shown_5 15 rfl rfl)
theorem dX1_shown_128 : decode cX1_shown 128 = .ok (.aload 4, 2) := dk_25 4 (dk_at dksX1_shown_5 16 rfl rfl)
theorem dX1_shown_130 : decode cX1_shown 130 = .ok (.getfield 181, 3) := dk_180 0 181 (dk_at dksX1_shown_5 18 rfl rfl)
theorem dX1_shown_133 : decode cX1_shown 133 = .ok (.iload_n 2, 1) := dk_28 (dk_at dksX1_shown_5 21 rfl rfl)
theorem dX1_shown_134 : decode cX1_shown 134 = .ok (.iaload, 1) := dk_46 (dk_at dksX1_shown_5 22 rfl rfl)
theorem dX1_shown_135 : decode cX1_shown 135 = .ok (.ireturn, 1) := dk_172 (dk_at dksX1_shown_5 23 rfl rfl)
theorem dX1_shown_136 : decode cX1_shown 136 = .ok (.bipush (-2), 2) := dk_16 254 (dk_at dksX1_shown_6 0 rfl rfl)
theorem dX1_shown_138 : decode cX1_shown 138 = .ok (.ireturn, 1) := dk_172 (dk_at dksX1_shown_6 2 rfl rfl)
abbrev cX1_tellsWho : ByteArray := prog_1_method_26_code
def yX1_tellsWho : MethodName := ⟨RX1, "tellsWho", "(LGlassStreet$State;I)Z"⟩
def dkwX1_tellsWho_1 : List UInt8 := [172]
abbrev dktX1_tellsWho_1 : List UInt8 := dkwX1_tellsWho_1 ++ []
def dkwX1_tellsWho_0 : List UInt8 := [42, 28, 182, 0, 138, 182, 0, 215, 154, 0, 11, 43, 28, 182, 0, 131, 154, 0, 7, 4, 167, 0, 4, 3]
abbrev dktX1_tellsWho_0 : List UInt8 := dkwX1_tellsWho_0 ++ dktX1_tellsWho_1
theorem dksX1_tellsWho_0 : cX1_tellsWho.data.toList.drop 0 = dktX1_tellsWho_0 := by decide +kernel
theorem dksX1_tellsWho_1 : cX1_tellsWho.data.toList.drop 24 = dktX1_tellsWho_1 := dk_seg dksX1_tellsWho_0 24 rfl rfl
theorem dX1_tellsWho_0 : decode cX1_tellsWho 0 = .ok (.aload_n 0, 1) := dk_42 (dk_at dksX1_tellsWho_0 0 rfl rfl)
theorem dX1_tellsWho_1 : decode cX1_tellsWho 1 = .ok (.iload_n 2, 1) := dk_28 (dk_at dksX1_tellsWho_0 1 rfl rfl)
theorem dX1_tellsWho_2 : decode cX1_tellsWho 2 = .ok (.invokevirtual 138, 3) := dk_182 0 138 (dk_at dksX1_tellsWho_0 2 rfl rfl)
theorem dX1_tellsWho_5 : decode cX1_tellsWho 5 = .ok (.invokevirtual 215, 3) := dk_182 0 215 (dk_at dksX1_tellsWho_0 5 rfl rfl)
theorem dX1_tellsWho_8 : decode cX1_tellsWho 8 = .ok (.ifCond .ne 11, 3) := dk_154 0 11 (dk_at dksX1_tellsWho_0 8 rfl rfl)
theorem dX1_tellsWho_11 : decode cX1_tellsWho 11 = .ok (.aload_n 1, 1) := dk_43 (dk_at dksX1_tellsWho_0 11 rfl rfl)
theorem dX1_tellsWho_12 : decode cX1_tellsWho 12 = .ok (.iload_n 2, 1) := dk_28 (dk_at dksX1_tellsWho_0 12 rfl rfl)
theorem dX1_tellsWho_13 : decode cX1_tellsWho 13 = .ok (.invokevirtual 131, 3) := dk_182 0 131 (dk_at dksX1_tellsWho_0 13 rfl rfl)
theorem dX1_tellsWho_16 : decode cX1_tellsWho 16 = .ok (.ifCond .ne 7, 3) := dk_154 0 7 (dk_at dksX1_tellsWho_0 16 rfl rfl)
theorem dX1_tellsWho_19 : decode cX1_tellsWho 19 = .ok (.iconst 1, 1) := dk_4 (dk_at dksX1_tellsWho_0 19 rfl rfl)
theorem dX1_tellsWho_20 : decode cX1_tellsWho 20 = .ok (.goto 4, 3) := dk_167 0 4 (dk_at dksX1_tellsWho_0 20 rfl rfl)
theorem dX1_tellsWho_23 : decode cX1_tellsWho 23 = .ok (.iconst 0, 1) := dk_3 (dk_at dksX1_tellsWho_0 23 rfl rfl)
theorem dX1_tellsWho_24 : decode cX1_tellsWho 24 = .ok (.ireturn, 1) := dk_172 (dk_at dksX1_tellsWho_1 0 rfl rfl)
abbrev cX1_person : ByteArray := prog_1_method_28_code
def yX1_person : MethodName := ⟨RX1, "person", "(I)I"⟩
def dkwX1_person_0 : List UInt8 := [42, 27, 182, 0, 231, 153, 0, 15, 42, 180, 0, 46, 180, 0, 155, 27, 46, 167, 0, 4, 2, 172]
abbrev dktX1_person_0 : List UInt8 := dkwX1_person_0 ++ []
theorem dksX1_person_0 : cX1_person.data.toList.drop 0 = dktX1_person_0 := by decide +kernel
theorem dX1_person_0 : decode cX1_person 0 = .ok (.aload_n 0, 1) := dk_42 (dk_at dksX1_person_0 0 rfl rfl)
theorem dX1_person_1 : decode cX1_person 1 = .ok (.iload_n 1, 1) := dk_27 (dk_at dksX1_person_0 1 rfl rfl)
theorem dX1_person_2 : decode cX1_person 2 = .ok (.invokevirtual 231, 3) := dk_182 0 231 (dk_at dksX1_person_0 2 rfl rfl)
theorem dX1_person_5 : decode cX1_person 5 = .ok (.ifCond .eq 15, 3) := dk_153 0 15 (dk_at dksX1_person_0 5 rfl rfl)
theorem dX1_person_8 : decode cX1_person 8 = .ok (.aload_n 0, 1) := dk_42 (dk_at dksX1_person_0 8 rfl rfl)
theorem dX1_person_9 : decode cX1_person 9 = .ok (.getfield 46, 3) := dk_180 0 46 (dk_at dksX1_person_0 9 rfl rfl)
theorem dX1_person_12 : decode cX1_person 12 = .ok (.getfield 155, 3) := dk_180 0 155 (dk_at dksX1_person_0 12 rfl rfl)
theorem dX1_person_15 : decode cX1_person 15 = .ok (.iload_n 1, 1) := dk_27 (dk_at dksX1_person_0 15 rfl rfl)
theorem dX1_person_16 : decode cX1_person 16 = .ok (.iaload, 1) := dk_46 (dk_at dksX1_person_0 16 rfl rfl)
theorem dX1_person_17 : decode cX1_person 17 = .ok (.goto 4, 3) := dk_167 0 4 (dk_at dksX1_person_0 17 rfl rfl)
theorem dX1_person_20 : decode cX1_person 20 = .ok (.iconst (-1), 1) := dk_2 (dk_at dksX1_person_0 20 rfl rfl)
theorem dX1_person_21 : decode cX1_person 21 = .ok (.ireturn, 1) := dk_172 (dk_at dksX1_person_0 21 rfl rfl)
abbrev cX1_isPerson : ByteArray := prog_1_method_16_code
def yX1_isPerson : MethodName := ⟨RX1, "isPerson", "(I)Z"⟩
def dkwX1_isPerson_0 : List UInt8 := [27, 3, 42, 182, 0, 127, 4, 100, 184, 0, 123, 172]
abbrev dktX1_isPerson_0 : List UInt8 := dkwX1_isPerson_0 ++ []
theorem dksX1_isPerson_0 : cX1_isPerson.data.toList.drop 0 = dktX1_isPerson_0 := by decide +kernel
theorem dX1_isPerson_0 : decode cX1_isPerson 0 = .ok (.iload_n 1, 1) := dk_27 (dk_at dksX1_isPerson_0 0 rfl rfl)
theorem dX1_isPerson_1 : decode cX1_isPerson 1 = .ok (.iconst 0, 1) := dk_3 (dk_at dksX1_isPerson_0 1 rfl rfl)
theorem dX1_isPerson_2 : decode cX1_isPerson 2 = .ok (.aload_n 0, 1) := dk_42 (dk_at dksX1_isPerson_0 2 rfl rfl)
theorem dX1_isPerson_3 : decode cX1_isPerson 3 = .ok (.invokevirtual 127, 3) := dk_182 0 127 (dk_at dksX1_isPerson_0 3 rfl rfl)
theorem dX1_isPerson_6 : decode cX1_isPerson 6 = .ok (.iconst 1, 1) := dk_4 (dk_at dksX1_isPerson_0 6 rfl rfl)
theorem dX1_isPerson_7 : decode cX1_isPerson 7 = .ok (.isub, 1) := dk_100 (dk_at dksX1_isPerson_0 7 rfl rfl)
theorem dX1_isPerson_8 : decode cX1_isPerson 8 = .ok (.invokestatic 123, 3) := dk_184 0 123 (dk_at dksX1_isPerson_0 8 rfl rfl)
theorem dX1_isPerson_11 : decode cX1_isPerson 11 = .ok (.ireturn, 1) := dk_172 (dk_at dksX1_isPerson_0 11 rfl rfl)
abbrev cX1_people : ByteArray := prog_1_method_13_code
def yX1_people : MethodName := ⟨RX1, "people", "()I"⟩
def dkwX1_people_0 : List UInt8 := [42, 180, 0, 30, 180, 0, 115, 182, 0, 105, 172]
abbrev dktX1_people_0 : List UInt8 := dkwX1_people_0 ++ []
theorem dksX1_people_0 : cX1_people.data.toList.drop 0 = dktX1_people_0 := by decide +kernel
theorem dX1_people_0 : decode cX1_people 0 = .ok (.aload_n 0, 1) := dk_42 (dk_at dksX1_people_0 0 rfl rfl)
theorem dX1_people_1 : decode cX1_people 1 = .ok (.getfield 30, 3) := dk_180 0 30 (dk_at dksX1_people_0 1 rfl rfl)
theorem dX1_people_4 : decode cX1_people 4 = .ok (.getfield 115, 3) := dk_180 0 115 (dk_at dksX1_people_0 4 rfl rfl)
theorem dX1_people_7 : decode cX1_people 7 = .ok (.invokevirtual 105, 3) := dk_182 0 105 (dk_at dksX1_people_0 7 rfl rfl)
theorem dX1_people_10 : decode cX1_people 10 = .ok (.ireturn, 1) := dk_172 (dk_at dksX1_people_0 10 rfl rfl)
abbrev cX1_walk : ByteArray := prog_1_method_30_code
def yX1_walk : MethodName := ⟨RX1, "walk", "(II)Z"⟩
def dkwX1_walk_2 : List UInt8 := [180, 0, 155, 27, 28, 79, 4, 172]
abbrev dktX1_walk_2 : List UInt8 := dkwX1_walk_2 ++ []
def dkwX1_walk_1 : List UInt8 := [180, 0, 155, 27, 46, 28, 100, 184, 0, 238, 4, 159, 0, 5, 3, 172, 42, 182, 0, 243, 42, 180, 0, 46]
abbrev dktX1_walk_1 : List UInt8 := dkwX1_walk_1 ++ dktX1_walk_2
def dkwX1_walk_0 : List UInt8 := [42, 27, 182, 0, 231, 153, 0, 31, 28, 3, 16, 9, 184, 0, 123, 153, 0, 21, 42, 180, 0, 46]
abbrev dktX1_walk_0 : List UInt8 := dkwX1_walk_0 ++ dktX1_walk_1
theorem dksX1_walk_0 : cX1_walk.data.toList.drop 0 = dktX1_walk_0 := by decide +kernel
theorem dksX1_walk_1 : cX1_walk.data.toList.drop 22 = dktX1_walk_1 := dk_seg dksX1_walk_0 22 rfl rfl
theorem dksX1_walk_2 : cX1_walk.data.toList.drop 46 = dktX1_walk_2 := dk_seg dksX1_walk_1 24 rfl rfl
theorem dX1_walk_0 : decode cX1_walk 0 = .ok (.aload_n 0, 1) := dk_42 (dk_at dksX1_walk_0 0 rfl rfl)
theorem dX1_walk_1 : decode cX1_walk 1 = .ok (.iload_n 1, 1) := dk_27 (dk_at dksX1_walk_0 1 rfl rfl)
theorem dX1_walk_2 : decode cX1_walk 2 = .ok (.invokevirtual 231, 3) := dk_182 0 231 (dk_at dksX1_walk_0 2 rfl rfl)
theorem dX1_walk_5 : decode cX1_walk 5 = .ok (.ifCond .eq 31, 3) := dk_153 0 31 (dk_at dksX1_walk_0 5 rfl rfl)
theorem dX1_walk_8 : decode cX1_walk 8 = .ok (.iload_n 2, 1) := dk_28 (dk_at dksX1_walk_0 8 rfl rfl)
theorem dX1_walk_9 : decode cX1_walk 9 = .ok (.iconst 0, 1) := dk_3 (dk_at dksX1_walk_0 9 rfl rfl)
theorem dX1_walk_10 : decode cX1_walk 10 = .ok (.bipush 9, 2) := dk_16 9 (dk_at dksX1_walk_0 10 rfl rfl)
theorem dX1_walk_12 : decode cX1_walk 12 = .ok (.invokestatic 123, 3) := dk_184 0 123 (dk_at dksX1_walk_0 12 rfl rfl)
theorem dX1_walk_15 : decode cX1_walk 15 = .ok (.ifCond .eq 21, 3) := dk_153 0 21 (dk_at dksX1_walk_0 15 rfl rfl)
theorem dX1_walk_18 : decode cX1_walk 18 = .ok (.aload_n 0, 1) := dk_42 (dk_at dksX1_walk_0 18 rfl rfl)
theorem dX1_walk_19 : decode cX1_walk 19 = .ok (.getfield 46, 3) := dk_180 0 46 (dk_at dksX1_walk_0 19 rfl rfl)
theorem dX1_walk_22 : decode cX1_walk 22 = .ok (.getfield 155, 3) := dk_180 0 155 (dk_at dksX1_walk_1 0 rfl rfl)
theorem dX1_walk_25 : decode cX1_walk 25 = .ok (.iload_n 1, 1) := dk_27 (dk_at dksX1_walk_1 3 rfl rfl)
theorem dX1_walk_26 : decode cX1_walk 26 = .ok (.iaload, 1) := dk_46 (dk_at dksX1_walk_1 4 rfl rfl)
theorem dX1_walk_27 : decode cX1_walk 27 = .ok (.iload_n 2, 1) := dk_28 (dk_at dksX1_walk_1 5 rfl rfl)
theorem dX1_walk_28 : decode cX1_walk 28 = .ok (.isub, 1) := dk_100 (dk_at dksX1_walk_1 6 rfl rfl)
theorem dX1_walk_29 : decode cX1_walk 29 = .ok (.invokestatic 238, 3) := dk_184 0 238 (dk_at dksX1_walk_1 7 rfl rfl)
theorem dX1_walk_32 : decode cX1_walk 32 = .ok (.iconst 1, 1) := dk_4 (dk_at dksX1_walk_1 10 rfl rfl)
theorem dX1_walk_33 : decode cX1_walk 33 = .ok (.if_icmp .eq 5, 3) := dk_159 0 5 (dk_at dksX1_walk_1 11 rfl rfl)
theorem dX1_walk_36 : decode cX1_walk 36 = .ok (.iconst 0, 1) := dk_3 (dk_at dksX1_walk_1 14 rfl rfl)
theorem dX1_walk_37 : decode cX1_walk 37 = .ok (.ireturn, 1) := dk_172 (dk_at dksX1_walk_1 15 rfl rfl)
theorem dX1_walk_38 : decode cX1_walk 38 = .ok (.aload_n 0, 1) := dk_42 (dk_at dksX1_walk_1 16 rfl rfl)
theorem dX1_walk_39 : decode cX1_walk 39 = .ok (.invokevirtual 243, 3) := dk_182 0 243 (dk_at dksX1_walk_1 17 rfl rfl)
theorem dX1_walk_42 : decode cX1_walk 42 = .ok (.aload_n 0, 1) := dk_42 (dk_at dksX1_walk_1 20 rfl rfl)
theorem dX1_walk_43 : decode cX1_walk 43 = .ok (.getfield 46, 3) := dk_180 0 46 (dk_at dksX1_walk_1 21 rfl rfl)
theorem dX1_walk_46 : decode cX1_walk 46 = .ok (.getfield 155, 3) := dk_180 0 155 (dk_at dksX1_walk_2 0 rfl rfl)
theorem dX1_walk_49 : decode cX1_walk 49 = .ok (.iload_n 1, 1) := dk_27 (dk_at dksX1_walk_2 3 rfl rfl)
theorem dX1_walk_50 : decode cX1_walk 50 = .ok (.iload_n 2, 1) := dk_28 (dk_at dksX1_walk_2 4 rfl rfl)
theorem dX1_walk_51 : decode cX1_walk 51 = .ok (.iastore, 1) := dk_79 (dk_at dksX1_walk_2 5 rfl rfl)
theorem dX1_walk_52 : decode cX1_walk 52 = .ok (.iconst 1, 1) := dk_4 (dk_at dksX1_walk_2 6 rfl rfl)
theorem dX1_walk_53 : decode cX1_walk 53 = .ok (.ireturn, 1) := dk_172 (dk_at dksX1_walk_2 7 rfl rfl)
abbrev cX1_keeps : ByteArray := prog_1_method_29_code
def yX1_keeps : MethodName := ⟨RX1, "keeps", "()V"⟩
def dkwX1_keeps_4 : List UInt8 := [180, 0, 57, 42, 89, 180, 0, 95, 90, 4, 96, 181, 0, 95, 50, 42, 180, 0, 46, 182, 0, 234, 177]
abbrev dktX1_keeps_4 : List UInt8 := dkwX1_keeps_4 ++ []
def dkwX1_keeps_3 : List UInt8 := [180, 0, 95, 50, 199, 0, 19, 42, 180, 0, 57, 42, 180, 0, 95, 187, 0, 43, 89, 183, 0, 45, 83, 42]
abbrev dktX1_keeps_3 : List UInt8 := dkwX1_keeps_3 ++ dktX1_keeps_4
def dkwX1_keeps_2 : List UInt8 := [180, 0, 57, 16, 15, 43, 83, 42, 89, 180, 0, 95, 4, 100, 181, 0, 95, 42, 180, 0, 57, 42]
abbrev dktX1_keeps_2 : List UInt8 := dkwX1_keeps_2 ++ dktX1_keeps_3
def dkwX1_keeps_1 : List UInt8 := [162, 0, 23, 42, 180, 0, 57, 28, 42, 180, 0, 57, 28, 4, 96, 50, 83, 132, 2, 1, 167, 255, 231, 42]
abbrev dktX1_keeps_1 : List UInt8 := dkwX1_keeps_1 ++ dktX1_keeps_2
def dkwX1_keeps_0 : List UInt8 := [42, 180, 0, 95, 16, 16, 160, 0, 58, 42, 180, 0, 57, 3, 50, 76, 3, 61, 28, 4, 96, 16, 16]
abbrev dktX1_keeps_0 : List UInt8 := dkwX1_keeps_0 ++ dktX1_keeps_1
theorem dksX1_keeps_0 : cX1_keeps.data.toList.drop 0 = dktX1_keeps_0 := by decide +kernel
theorem dksX1_keeps_1 : cX1_keeps.data.toList.drop 23 = dktX1_keeps_1 := dk_seg dksX1_keeps_0 23 rfl rfl
theorem dksX1_keeps_2 : cX1_keeps.data.toList.drop 47 = dktX1_keeps_2 := dk_seg dksX1_keeps_1 24 rfl rfl
theorem dksX1_keeps_3 : cX1_keeps.data.toList.drop 69 = dktX1_keeps_3 := dk_seg dksX1_keeps_2 22 rfl rfl
theorem dksX1_keeps_4 : cX1_keeps.data.toList.drop 93 = dktX1_keeps_4 := dk_seg dksX1_keeps_3 24 rfl rfl
theorem dX1_keeps_0 : decode cX1_keeps 0 = .ok (.aload_n 0, 1) := dk_42 (dk_at dksX1_keeps_0 0 rfl rfl)
theorem dX1_keeps_1 : decode cX1_keeps 1 = .ok (.getfield 95, 3) := dk_180 0 95 (dk_at dksX1_keeps_0 1 rfl rfl)
theorem dX1_keeps_4 : decode cX1_keeps 4 = .ok (.bipush 16, 2) := dk_16 16 (dk_at dksX1_keeps_0 4 rfl rfl)
theorem dX1_keeps_6 : decode cX1_keeps 6 = .ok (.if_icmp .ne 58, 3) := dk_160 0 58 (dk_at dksX1_keeps_0 6 rfl rfl)
theorem dX1_keeps_9 : decode cX1_keeps 9 = .ok (.aload_n 0, 1) := dk_42 (dk_at dksX1_keeps_0 9 rfl rfl)
theorem dX1_keeps_10 : decode cX1_keeps 10 = .ok (.getfield 57, 3) := dk_180 0 57 (dk_at dksX1_keeps_0 10 rfl rfl)
theorem dX1_keeps_13 : decode cX1_keeps 13 = .ok (.iconst 0, 1) := dk_3 (dk_at dksX1_keeps_0 13 rfl rfl)
theorem dX1_keeps_14 : decode cX1_keeps 14 = .ok (.aaload, 1) := dk_50 (dk_at dksX1_keeps_0 14 rfl rfl)
theorem dX1_keeps_15 : decode cX1_keeps 15 = .ok (.astore_n 1, 1) := dk_76 (dk_at dksX1_keeps_0 15 rfl rfl)
theorem dX1_keeps_16 : decode cX1_keeps 16 = .ok (.iconst 0, 1) := dk_3 (dk_at dksX1_keeps_0 16 rfl rfl)
theorem dX1_keeps_17 : decode cX1_keeps 17 = .ok (.istore_n 2, 1) := dk_61 (dk_at dksX1_keeps_0 17 rfl rfl)
theorem dX1_keeps_18 : decode cX1_keeps 18 = .ok (.iload_n 2, 1) := dk_28 (dk_at dksX1_keeps_0 18 rfl rfl)
theorem dX1_keeps_19 : decode cX1_keeps 19 = .ok (.iconst 1, 1) := dk_4 (dk_at dksX1_keeps_0 19 rfl rfl)
theorem dX1_keeps_20 : decode cX1_keeps 20 = .ok (.iadd, 1) := dk_96 (dk_at dksX1_keeps_0 20 rfl rfl)
theorem dX1_keeps_21 : decode cX1_keeps 21 = .ok (.bipush 16, 2) := dk_16 16 (dk_at dksX1_keeps_0 21 rfl rfl)
theorem dX1_keeps_23 : decode cX1_keeps 23 = .ok (.if_icmp .ge 23, 3) := dk_162 0 23 (dk_at dksX1_keeps_1 0 rfl rfl)
theorem dX1_keeps_26 : decode cX1_keeps 26 = .ok (.aload_n 0, 1) := dk_42 (dk_at dksX1_keeps_1 3 rfl rfl)
theorem dX1_keeps_27 : decode cX1_keeps 27 = .ok (.getfield 57, 3) := dk_180 0 57 (dk_at dksX1_keeps_1 4 rfl rfl)
theorem dX1_keeps_30 : decode cX1_keeps 30 = .ok (.iload_n 2, 1) := dk_28 (dk_at dksX1_keeps_1 7 rfl rfl)
theorem dX1_keeps_31 : decode cX1_keeps 31 = .ok (.aload_n 0, 1) := dk_42 (dk_at dksX1_keeps_1 8 rfl rfl)
theorem dX1_keeps_32 : decode cX1_keeps 32 = .ok (.getfield 57, 3) := dk_180 0 57 (dk_at dksX1_keeps_1 9 rfl rfl)
theorem dX1_keeps_35 : decode cX1_keeps 35 = .ok (.iload_n 2, 1) := dk_28 (dk_at dksX1_keeps_1 12 rfl rfl)
theorem dX1_keeps_36 : decode cX1_keeps 36 = .ok (.iconst 1, 1) := dk_4 (dk_at dksX1_keeps_1 13 rfl rfl)
theorem dX1_keeps_37 : decode cX1_keeps 37 = .ok (.iadd, 1) := dk_96 (dk_at dksX1_keeps_1 14 rfl rfl)
theorem dX1_keeps_38 : decode cX1_keeps 38 = .ok (.aaload, 1) := dk_50 (dk_at dksX1_keeps_1 15 rfl rfl)
theorem dX1_keeps_39 : decode cX1_keeps 39 = .ok (.aastore, 1) := dk_83 (dk_at dksX1_keeps_1 16 rfl rfl)
theorem dX1_keeps_40 : decode cX1_keeps 40 = .ok (.iinc 2 1, 3) := dk_132 2 1 (dk_at dksX1_keeps_1 17 rfl rfl)
theorem dX1_keeps_43 : decode cX1_keeps 43 = .ok (.goto (-25), 3) := dk_167 255 231 (dk_at dksX1_keeps_1 20 rfl rfl)
theorem dX1_keeps_46 : decode cX1_keeps 46 = .ok (.aload_n 0, 1) := dk_42 (dk_at dksX1_keeps_1 23 rfl rfl)
theorem dX1_keeps_47 : decode cX1_keeps 47 = .ok (.getfield 57, 3) := dk_180 0 57 (dk_at dksX1_keeps_2 0 rfl rfl)
theorem dX1_keeps_50 : decode cX1_keeps 50 = .ok (.bipush 15, 2) := dk_16 15 (dk_at dksX1_keeps_2 3 rfl rfl)
theorem dX1_keeps_52 : decode cX1_keeps 52 = .ok (.aload_n 1, 1) := dk_43 (dk_at dksX1_keeps_2 5 rfl rfl)
theorem dX1_keeps_53 : decode cX1_keeps 53 = .ok (.aastore, 1) := dk_83 (dk_at dksX1_keeps_2 6 rfl rfl)
theorem dX1_keeps_54 : decode cX1_keeps 54 = .ok (.aload_n 0, 1) := dk_42 (dk_at dksX1_keeps_2 7 rfl rfl)
theorem dX1_keeps_55 : decode cX1_keeps 55 = .ok (.dup, 1) := dk_89 (dk_at dksX1_keeps_2 8 rfl rfl)
theorem dX1_keeps_56 : decode cX1_keeps 56 = .ok (.getfield 95, 3) := dk_180 0 95 (dk_at dksX1_keeps_2 9 rfl rfl)
theorem dX1_keeps_59 : decode cX1_keeps 59 = .ok (.iconst 1, 1) := dk_4 (dk_at dksX1_keeps_2 12 rfl rfl)
theorem dX1_keeps_60 : decode cX1_keeps 60 = .ok (.isub, 1) := dk_100 (dk_at dksX1_keeps_2 13 rfl rfl)
theorem dX1_keeps_61 : decode cX1_keeps 61 = .ok (.putfield 95, 3) := dk_181 0 95 (dk_at dksX1_keeps_2 14 rfl rfl)
theorem dX1_keeps_64 : decode cX1_keeps 64 = .ok (.aload_n 0, 1) := dk_42 (dk_at dksX1_keeps_2 17 rfl rfl)
theorem dX1_keeps_65 : decode cX1_keeps 65 = .ok (.getfield 57, 3) := dk_180 0 57 (dk_at dksX1_keeps_2 18 rfl rfl)
theorem dX1_keeps_68 : decode cX1_keeps 68 = .ok (.aload_n 0, 1) := dk_42 (dk_at dksX1_keeps_2 21 rfl rfl)
theorem dX1_keeps_69 : decode cX1_keeps 69 = .ok (.getfield 95, 3) := dk_180 0 95 (dk_at dksX1_keeps_3 0 rfl rfl)
theorem dX1_keeps_72 : decode cX1_keeps 72 = .ok (.aaload, 1) := dk_50 (dk_at dksX1_keeps_3 3 rfl rfl)
theorem dX1_keeps_73 : decode cX1_keeps 73 = .ok (.ifnonnull 19, 3) := dk_199 0 19 (dk_at dksX1_keeps_3 4 rfl rfl)
theorem dX1_keeps_76 : decode cX1_keeps 76 = .ok (.aload_n 0, 1) := dk_42 (dk_at dksX1_keeps_3 7 rfl rfl)
theorem dX1_keeps_77 : decode cX1_keeps 77 = .ok (.getfield 57, 3) := dk_180 0 57 (dk_at dksX1_keeps_3 8 rfl rfl)
theorem dX1_keeps_80 : decode cX1_keeps 80 = .ok (.aload_n 0, 1) := dk_42 (dk_at dksX1_keeps_3 11 rfl rfl)
theorem dX1_keeps_81 : decode cX1_keeps 81 = .ok (.getfield 95, 3) := dk_180 0 95 (dk_at dksX1_keeps_3 12 rfl rfl)
theorem dX1_keeps_84 : decode cX1_keeps 84 = .ok (.new 43, 3) := dk_187 0 43 (dk_at dksX1_keeps_3 15 rfl rfl)
theorem dX1_keeps_87 : decode cX1_keeps 87 = .ok (.dup, 1) := dk_89 (dk_at dksX1_keeps_3 18 rfl rfl)
theorem dX1_keeps_88 : decode cX1_keeps 88 = .ok (.invokespecial 45, 3) := dk_183 0 45 (dk_at dksX1_keeps_3 19 rfl rfl)
theorem dX1_keeps_91 : decode cX1_keeps 91 = .ok (.aastore, 1) := dk_83 (dk_at dksX1_keeps_3 22 rfl rfl)
theorem dX1_keeps_92 : decode cX1_keeps 92 = .ok (.aload_n 0, 1) := dk_42 (dk_at dksX1_keeps_3 23 rfl rfl)
theorem dX1_keeps_93 : decode cX1_keeps 93 = .ok (.getfield 57, 3) := dk_180 0 57 (dk_at dksX1_keeps_4 0 rfl rfl)
theorem dX1_keeps_96 : decode cX1_keeps 96 = .ok (.aload_n 0, 1) := dk_42 (dk_at dksX1_keeps_4 3 rfl rfl)
theorem dX1_keeps_97 : decode cX1_keeps 97 = .ok (.dup, 1) := dk_89 (dk_at dksX1_keeps_4 4 rfl rfl)
theorem dX1_keeps_98 : decode cX1_keeps 98 = .ok (.getfield 95, 3) := dk_180 0 95 (dk_at dksX1_keeps_4 5 rfl rfl)
theorem dX1_keeps_101 : decode cX1_keeps 101 = .ok (.dup_x1, 1) := dk_90 (dk_at dksX1_keeps_4 8 rfl rfl)
theorem dX1_keeps_102 : decode cX1_keeps 102 = .ok (.iconst 1, 1) := dk_4 (dk_at dksX1_keeps_4 9 rfl rfl)
theorem dX1_keeps_103 : decode cX1_keeps 103 = .ok (.iadd, 1) := dk_96 (dk_at dksX1_keeps_4 10 rfl rfl)
theorem dX1_keeps_104 : decode cX1_keeps 104 = .ok (.putfield 95, 3) := dk_181 0 95 (dk_at dksX1_keeps_4 11 rfl rfl)
theorem dX1_keeps_107 : decode cX1_keeps 107 = .ok (.aaload, 1) := dk_50 (dk_at dksX1_keeps_4 14 rfl rfl)
theorem dX1_keeps_108 : decode cX1_keeps 108 = .ok (.aload_n 0, 1) := dk_42 (dk_at dksX1_keeps_4 15 rfl rfl)
theorem dX1_keeps_109 : decode cX1_keeps 109 = .ok (.getfield 46, 3) := dk_180 0 46 (dk_at dksX1_keeps_4 16 rfl rfl)
theorem dX1_keeps_112 : decode cX1_keeps 112 = .ok (.invokevirtual 234, 3) := dk_182 0 234 (dk_at dksX1_keeps_4 19 rfl rfl)
theorem dX1_keeps_115 : decode cX1_keeps 115 = .ok (.return_, 1) := dk_177 (dk_at dksX1_keeps_4 22 rfl rfl)
abbrev cX1_does : ByteArray := prog_1_method_31_code
def yX1_does : MethodName := ⟨RX1, "does", "(II)I"⟩
def dkwX1_does_1 : List UInt8 := [180, 0, 46, 27, 28, 182, 0, 248, 172]
abbrev dktX1_does_1 : List UInt8 := dkwX1_does_1 ++ []
def dkwX1_does_0 : List UInt8 := [42, 27, 182, 0, 231, 153, 0, 11, 42, 28, 182, 0, 245, 154, 0, 5, 2, 172, 42, 182, 0, 243, 42, 42]
abbrev dktX1_does_0 : List UInt8 := dkwX1_does_0 ++ dktX1_does_1
theorem dksX1_does_0 : cX1_does.data.toList.drop 0 = dktX1_does_0 := by decide +kernel
theorem dksX1_does_1 : cX1_does.data.toList.drop 24 = dktX1_does_1 := dk_seg dksX1_does_0 24 rfl rfl
theorem dX1_does_0 : decode cX1_does 0 = .ok (.aload_n 0, 1) := dk_42 (dk_at dksX1_does_0 0 rfl rfl)
theorem dX1_does_1 : decode cX1_does 1 = .ok (.iload_n 1, 1) := dk_27 (dk_at dksX1_does_0 1 rfl rfl)
theorem dX1_does_2 : decode cX1_does 2 = .ok (.invokevirtual 231, 3) := dk_182 0 231 (dk_at dksX1_does_0 2 rfl rfl)
theorem dX1_does_5 : decode cX1_does 5 = .ok (.ifCond .eq 11, 3) := dk_153 0 11 (dk_at dksX1_does_0 5 rfl rfl)
theorem dX1_does_8 : decode cX1_does 8 = .ok (.aload_n 0, 1) := dk_42 (dk_at dksX1_does_0 8 rfl rfl)
theorem dX1_does_9 : decode cX1_does 9 = .ok (.iload_n 2, 1) := dk_28 (dk_at dksX1_does_0 9 rfl rfl)
theorem dX1_does_10 : decode cX1_does 10 = .ok (.invokevirtual 245, 3) := dk_182 0 245 (dk_at dksX1_does_0 10 rfl rfl)
theorem dX1_does_13 : decode cX1_does 13 = .ok (.ifCond .ne 5, 3) := dk_154 0 5 (dk_at dksX1_does_0 13 rfl rfl)
theorem dX1_does_16 : decode cX1_does 16 = .ok (.iconst (-1), 1) := dk_2 (dk_at dksX1_does_0 16 rfl rfl)
theorem dX1_does_17 : decode cX1_does 17 = .ok (.ireturn, 1) := dk_172 (dk_at dksX1_does_0 17 rfl rfl)
theorem dX1_does_18 : decode cX1_does 18 = .ok (.aload_n 0, 1) := dk_42 (dk_at dksX1_does_0 18 rfl rfl)
theorem dX1_does_19 : decode cX1_does 19 = .ok (.invokevirtual 243, 3) := dk_182 0 243 (dk_at dksX1_does_0 19 rfl rfl)
theorem dX1_does_22 : decode cX1_does 22 = .ok (.aload_n 0, 1) := dk_42 (dk_at dksX1_does_0 22 rfl rfl)
theorem dX1_does_23 : decode cX1_does 23 = .ok (.aload_n 0, 1) := dk_42 (dk_at dksX1_does_0 23 rfl rfl)
theorem dX1_does_24 : decode cX1_does 24 = .ok (.getfield 46, 3) := dk_180 0 46 (dk_at dksX1_does_1 0 rfl rfl)
theorem dX1_does_27 : decode cX1_does 27 = .ok (.iload_n 1, 1) := dk_27 (dk_at dksX1_does_1 3 rfl rfl)
theorem dX1_does_28 : decode cX1_does 28 = .ok (.iload_n 2, 1) := dk_28 (dk_at dksX1_does_1 4 rfl rfl)
theorem dX1_does_29 : decode cX1_does 29 = .ok (.invokevirtual 248, 3) := dk_182 0 248 (dk_at dksX1_does_1 5 rfl rfl)
theorem dX1_does_32 : decode cX1_does 32 = .ok (.ireturn, 1) := dk_172 (dk_at dksX1_does_1 8 rfl rfl)
abbrev cX1_isDeed : ByteArray := prog_1_method_17_code
def yX1_isDeed : MethodName := ⟨RX1, "isDeed", "(I)Z"⟩
def dkwX1_isDeed_0 : List UInt8 := [27, 3, 42, 182, 0, 129, 4, 100, 184, 0, 123, 172]
abbrev dktX1_isDeed_0 : List UInt8 := dkwX1_isDeed_0 ++ []
theorem dksX1_isDeed_0 : cX1_isDeed.data.toList.drop 0 = dktX1_isDeed_0 := by decide +kernel
theorem dX1_isDeed_0 : decode cX1_isDeed 0 = .ok (.iload_n 1, 1) := dk_27 (dk_at dksX1_isDeed_0 0 rfl rfl)
theorem dX1_isDeed_1 : decode cX1_isDeed 1 = .ok (.iconst 0, 1) := dk_3 (dk_at dksX1_isDeed_0 1 rfl rfl)
theorem dX1_isDeed_2 : decode cX1_isDeed 2 = .ok (.aload_n 0, 1) := dk_42 (dk_at dksX1_isDeed_0 2 rfl rfl)
theorem dX1_isDeed_3 : decode cX1_isDeed 3 = .ok (.invokevirtual 129, 3) := dk_182 0 129 (dk_at dksX1_isDeed_0 3 rfl rfl)
theorem dX1_isDeed_6 : decode cX1_isDeed 6 = .ok (.iconst 1, 1) := dk_4 (dk_at dksX1_isDeed_0 6 rfl rfl)
theorem dX1_isDeed_7 : decode cX1_isDeed 7 = .ok (.isub, 1) := dk_100 (dk_at dksX1_isDeed_0 7 rfl rfl)
theorem dX1_isDeed_8 : decode cX1_isDeed 8 = .ok (.invokestatic 123, 3) := dk_184 0 123 (dk_at dksX1_isDeed_0 8 rfl rfl)
theorem dX1_isDeed_11 : decode cX1_isDeed 11 = .ok (.ireturn, 1) := dk_172 (dk_at dksX1_isDeed_0 11 rfl rfl)
abbrev cX1_deeds : ByteArray := prog_1_method_14_code
def yX1_deeds : MethodName := ⟨RX1, "deeds", "()I"⟩
def dkwX1_deeds_0 : List UInt8 := [42, 180, 0, 30, 180, 0, 118, 182, 0, 105, 172]
abbrev dktX1_deeds_0 : List UInt8 := dkwX1_deeds_0 ++ []
theorem dksX1_deeds_0 : cX1_deeds.data.toList.drop 0 = dktX1_deeds_0 := by decide +kernel
theorem dX1_deeds_0 : decode cX1_deeds 0 = .ok (.aload_n 0, 1) := dk_42 (dk_at dksX1_deeds_0 0 rfl rfl)
theorem dX1_deeds_1 : decode cX1_deeds 1 = .ok (.getfield 30, 3) := dk_180 0 30 (dk_at dksX1_deeds_0 1 rfl rfl)
theorem dX1_deeds_4 : decode cX1_deeds 4 = .ok (.getfield 118, 3) := dk_180 0 118 (dk_at dksX1_deeds_0 4 rfl rfl)
theorem dX1_deeds_7 : decode cX1_deeds 7 = .ok (.invokevirtual 105, 3) := dk_182 0 105 (dk_at dksX1_deeds_0 7 rfl rfl)
theorem dX1_deeds_10 : decode cX1_deeds 10 = .ok (.ireturn, 1) := dk_172 (dk_at dksX1_deeds_0 10 rfl rfl)
abbrev cX1_done : ByteArray := prog_1_method_20_code
def yX1_done : MethodName := ⟨RX1, "done", "(LGlassStreet$State;II)I"⟩
def dkwX1_done_3 : List UInt8 := [21, 4, 172]
abbrev dktX1_done_3 : List UInt8 := dkwX1_done_3 ++ []
def dkwX1_done_2 : List UInt8 := [180, 0, 155, 28, 46, 42, 21, 5, 182, 0, 138, 180, 0, 165, 182, 0, 168, 132, 5, 1, 167, 255, 207]
abbrev dktX1_done_2 : List UInt8 := dkwX1_done_2 ++ dktX1_done_3
def dkwX1_done_1 : List UInt8 := [162, 0, 46, 21, 4, 21, 5, 184, 0, 9, 153, 0, 30, 43, 180, 0, 161, 21, 5, 50, 28, 29, 43]
abbrev dktX1_done_1 : List UInt8 := dkwX1_done_1 ++ dktX1_done_2
def dkwX1_done_0 : List UInt8 := [42, 43, 43, 180, 0, 155, 28, 46, 182, 0, 158, 54, 4, 3, 54, 5, 21, 5, 42, 182, 0, 121]
abbrev dktX1_done_0 : List UInt8 := dkwX1_done_0 ++ dktX1_done_1
theorem dksX1_done_0 : cX1_done.data.toList.drop 0 = dktX1_done_0 := by decide +kernel
theorem dksX1_done_1 : cX1_done.data.toList.drop 22 = dktX1_done_1 := dk_seg dksX1_done_0 22 rfl rfl
theorem dksX1_done_2 : cX1_done.data.toList.drop 45 = dktX1_done_2 := dk_seg dksX1_done_1 23 rfl rfl
theorem dksX1_done_3 : cX1_done.data.toList.drop 68 = dktX1_done_3 := dk_seg dksX1_done_2 23 rfl rfl
theorem dX1_done_0 : decode cX1_done 0 = .ok (.aload_n 0, 1) := dk_42 (dk_at dksX1_done_0 0 rfl rfl)
theorem dX1_done_1 : decode cX1_done 1 = .ok (.aload_n 1, 1) := dk_43 (dk_at dksX1_done_0 1 rfl rfl)
theorem dX1_done_2 : decode cX1_done 2 = .ok (.aload_n 1, 1) := dk_43 (dk_at dksX1_done_0 2 rfl rfl)
theorem dX1_done_3 : decode cX1_done 3 = .ok (.getfield 155, 3) := dk_180 0 155 (dk_at dksX1_done_0 3 rfl rfl)
theorem dX1_done_6 : decode cX1_done 6 = .ok (.iload_n 2, 1) := dk_28 (dk_at dksX1_done_0 6 rfl rfl)
theorem dX1_done_7 : decode cX1_done 7 = .ok (.iaload, 1) := dk_46 (dk_at dksX1_done_0 7 rfl rfl)
theorem dX1_done_8 : decode cX1_done 8 = .ok (.invokevirtual 158, 3) := dk_182 0 158 (dk_at dksX1_done_0 8 rfl rfl)
theorem dX1_done_11 : decode cX1_done 11 = .ok (.istore 4, 2) := dk_54 4 (dk_at dksX1_done_0 11 rfl rfl)
theorem dX1_done_13 : decode cX1_done 13 = .ok (.iconst 0, 1) := dk_3 (dk_at dksX1_done_0 13 rfl rfl)
theorem dX1_done_14 : decode cX1_done 14 = .ok (.istore 5, 2) := dk_54 5 (dk_at dksX1_done_0 14 rfl rfl)
theorem dX1_done_16 : decode cX1_done 16 = .ok (.iload 5, 2) := dk_21 5 (dk_at dksX1_done_0 16 rfl rfl)
theorem dX1_done_18 : decode cX1_done 18 = .ok (.aload_n 0, 1) := dk_42 (dk_at dksX1_done_0 18 rfl rfl)
theorem dX1_done_19 : decode cX1_done 19 = .ok (.invokevirtual 121, 3) := dk_182 0 121 (dk_at dksX1_done_0 19 rfl rfl)
theorem dX1_done_22 : decode cX1_done 22 = .ok (.if_icmp .ge 46, 3) := dk_162 0 46 (dk_at dksX1_done_1 0 rfl rfl)
theorem dX1_done_25 : decode cX1_done 25 = .ok (.iload 4, 2) := dk_21 4 (dk_at dksX1_done_1 3 rfl rfl)
theorem dX1_done_27 : decode cX1_done 27 = .ok (.iload 5, 2) := dk_21 5 (dk_at dksX1_done_1 5 rfl rfl)
theorem dX1_done_29 : decode cX1_done 29 = .ok (.invokestatic 9, 3) := dk_184 0 9 (dk_at dksX1_done_1 7 rfl rfl)
theorem dX1_done_32 : decode cX1_done 32 = .ok (.ifCond .eq 30, 3) := dk_153 0 30 (dk_at dksX1_done_1 10 rfl rfl)
theorem dX1_done_35 : decode cX1_done 35 = .ok (.aload_n 1, 1) := dk_43 (dk_at dksX1_done_1 13 rfl rfl)
theorem dX1_done_36 : decode cX1_done 36 = .ok (.getfield 161, 3) := dk_180 0 161 (dk_at dksX1_done_1 14 rfl rfl)
theorem dX1_done_39 : decode cX1_done 39 = .ok (.iload 5, 2) := dk_21 5 (dk_at dksX1_done_1 17 rfl rfl)
theorem dX1_done_41 : decode cX1_done 41 = .ok (.aaload, 1) := dk_50 (dk_at dksX1_done_1 19 rfl rfl)
theorem dX1_done_42 : decode cX1_done 42 = .ok (.iload_n 2, 1) := dk_28 (dk_at dksX1_done_1 20 rfl rfl)
theorem dX1_done_43 : decode cX1_done 43 = .ok (.iload_n 3, 1) := dk_29 (dk_at dksX1_done_1 21 rfl rfl)
theorem dX1_done_44 : decode cX1_done 44 = .ok (.aload_n 1, 1) := dk_43 (dk_at dksX1_done_1 22 rfl rfl)
theorem dX1_done_45 : decode cX1_done 45 = .ok (.getfield 155, 3) := dk_180 0 155 (dk_at dksX1_done_2 0 rfl rfl)
theorem dX1_done_48 : decode cX1_done 48 = .ok (.iload_n 2, 1) := dk_28 (dk_at dksX1_done_2 3 rfl rfl)
theorem dX1_done_49 : decode cX1_done 49 = .ok (.iaload, 1) := dk_46 (dk_at dksX1_done_2 4 rfl rfl)
theorem dX1_done_50 : decode cX1_done 50 = .ok (.aload_n 0, 1) := dk_42 (dk_at dksX1_done_2 5 rfl rfl)
theorem dX1_done_51 : decode cX1_done 51 = .ok (.iload 5, 2) := dk_21 5 (dk_at dksX1_done_2 6 rfl rfl)
theorem dX1_done_53 : decode cX1_done 53 = .ok (.invokevirtual 138, 3) := dk_182 0 138 (dk_at dksX1_done_2 8 rfl rfl)
theorem dX1_done_56 : decode cX1_done 56 = .ok (.getfield 165, 3) := dk_180 0 165 (dk_at dksX1_done_2 11 rfl rfl)
theorem dX1_done_59 : decode cX1_done 59 = .ok (.invokevirtual 168, 3) := dk_182 0 168 (dk_at dksX1_done_2 14 rfl rfl)
theorem dX1_done_62 : decode cX1_done 62 = .ok (.iinc 5 1, 3) := dk_132 5 1 (dk_at dksX1_done_2 17 rfl rfl)
theorem dX1_done_65 : decode cX1_done 65 = .ok (.goto (-49), 3) := dk_167 255 207 (dk_at dksX1_done_2 20 rfl rfl)
theorem dX1_done_68 : decode cX1_done 68 = .ok (.iload 4, 2) := dk_21 4 (dk_at dksX1_done_3 0 rfl rfl)
theorem dX1_done_70 : decode cX1_done 70 = .ok (.ireturn, 1) := dk_172 (dk_at dksX1_done_3 2 rfl rfl)
abbrev cX1_seeing : ByteArray := prog_1_method_19_code
def yX1_seeing : MethodName := ⟨RX1, "seeing", "(LGlassStreet$State;I)I"⟩
def dkwX1_seeing_1 : List UInt8 := [184, 0, 9, 153, 0, 10, 29, 4, 21, 4, 120, 128, 62, 132, 4, 1, 167, 255, 223, 29, 172]
abbrev dktX1_seeing_1 : List UInt8 := dkwX1_seeing_1 ++ []
def dkwX1_seeing_0 : List UInt8 := [3, 62, 3, 54, 4, 21, 4, 42, 182, 0, 121, 162, 0, 30, 42, 43, 21, 4, 182, 0, 152, 28]
abbrev dktX1_seeing_0 : List UInt8 := dkwX1_seeing_0 ++ dktX1_seeing_1
theorem dksX1_seeing_0 : cX1_seeing.data.toList.drop 0 = dktX1_seeing_0 := by decide +kernel
theorem dksX1_seeing_1 : cX1_seeing.data.toList.drop 22 = dktX1_seeing_1 := dk_seg dksX1_seeing_0 22 rfl rfl
theorem dX1_seeing_0 : decode cX1_seeing 0 = .ok (.iconst 0, 1) := dk_3 (dk_at dksX1_seeing_0 0 rfl rfl)
theorem dX1_seeing_1 : decode cX1_seeing 1 = .ok (.istore_n 3, 1) := dk_62 (dk_at dksX1_seeing_0 1 rfl rfl)
theorem dX1_seeing_2 : decode cX1_seeing 2 = .ok (.iconst 0, 1) := dk_3 (dk_at dksX1_seeing_0 2 rfl rfl)
theorem dX1_seeing_3 : decode cX1_seeing 3 = .ok (.istore 4, 2) := dk_54 4 (dk_at dksX1_seeing_0 3 rfl rfl)
theorem dX1_seeing_5 : decode cX1_seeing 5 = .ok (.iload 4, 2) := dk_21 4 (dk_at dksX1_seeing_0 5 rfl rfl)
theorem dX1_seeing_7 : decode cX1_seeing 7 = .ok (.aload_n 0, 1) := dk_42 (dk_at dksX1_seeing_0 7 rfl rfl)
theorem dX1_seeing_8 : decode cX1_seeing 8 = .ok (.invokevirtual 121, 3) := dk_182 0 121 (dk_at dksX1_seeing_0 8 rfl rfl)
theorem dX1_seeing_11 : decode cX1_seeing 11 = .ok (.if_icmp .ge 30, 3) := dk_162 0 30 (dk_at dksX1_seeing_0 11 rfl rfl)
theorem dX1_seeing_14 : decode cX1_seeing 14 = .ok (.aload_n 0, 1) := dk_42 (dk_at dksX1_seeing_0 14 rfl rfl)
theorem dX1_seeing_15 : decode cX1_seeing 15 = .ok (.aload_n 1, 1) := dk_43 (dk_at dksX1_seeing_0 15 rfl rfl)
theorem dX1_seeing_16 : decode cX1_seeing 16 = .ok (.iload 4, 2) := dk_21 4 (dk_at dksX1_seeing_0 16 rfl rfl)
theorem dX1_seeing_18 : decode cX1_seeing 18 = .ok (.invokevirtual 152, 3) := dk_182 0 152 (dk_at dksX1_seeing_0 18 rfl rfl)
theorem dX1_seeing_21 : decode cX1_seeing 21 = .ok (.iload_n 2, 1) := dk_28 (dk_at dksX1_seeing_0 21 rfl rfl)
theorem dX1_seeing_22 : decode cX1_seeing 22 = .ok (.invokestatic 9, 3) := dk_184 0 9 (dk_at dksX1_seeing_1 0 rfl rfl)
theorem dX1_seeing_25 : decode cX1_seeing 25 = .ok (.ifCond .eq 10, 3) := dk_153 0 10 (dk_at dksX1_seeing_1 3 rfl rfl)
theorem dX1_seeing_28 : decode cX1_seeing 28 = .ok (.iload_n 3, 1) := dk_29 (dk_at dksX1_seeing_1 6 rfl rfl)
theorem dX1_seeing_29 : decode cX1_seeing 29 = .ok (.iconst 1, 1) := dk_4 (dk_at dksX1_seeing_1 7 rfl rfl)
theorem dX1_seeing_30 : decode cX1_seeing 30 = .ok (.iload 4, 2) := dk_21 4 (dk_at dksX1_seeing_1 8 rfl rfl)
theorem dX1_seeing_32 : decode cX1_seeing 32 = .ok (.ishl, 1) := dk_120 (dk_at dksX1_seeing_1 10 rfl rfl)
theorem dX1_seeing_33 : decode cX1_seeing 33 = .ok (.ior, 1) := dk_128 (dk_at dksX1_seeing_1 11 rfl rfl)
theorem dX1_seeing_34 : decode cX1_seeing 34 = .ok (.istore_n 3, 1) := dk_62 (dk_at dksX1_seeing_1 12 rfl rfl)
theorem dX1_seeing_35 : decode cX1_seeing 35 = .ok (.iinc 4 1, 3) := dk_132 4 1 (dk_at dksX1_seeing_1 13 rfl rfl)
theorem dX1_seeing_38 : decode cX1_seeing 38 = .ok (.goto (-33), 3) := dk_167 255 223 (dk_at dksX1_seeing_1 16 rfl rfl)
theorem dX1_seeing_41 : decode cX1_seeing 41 = .ok (.iload_n 3, 1) := dk_29 (dk_at dksX1_seeing_1 19 rfl rfl)
theorem dX1_seeing_42 : decode cX1_seeing 42 = .ok (.ireturn, 1) := dk_172 (dk_at dksX1_seeing_1 20 rfl rfl)
abbrev cX1_wash : ByteArray := prog_1_method_32_code
def yX1_wash : MethodName := ⟨RX1, "wash", "(I)I"⟩
def dkwX1_wash_1 : List UInt8 := [182, 0, 243, 42, 180, 0, 46, 180, 0, 161, 27, 50, 89, 180, 0, 174, 4, 100, 90, 181, 0, 174, 172]
abbrev dktX1_wash_1 : List UInt8 := dkwX1_wash_1 ++ []
def dkwX1_wash_0 : List UInt8 := [42, 27, 182, 0, 206, 153, 0, 15, 42, 42, 180, 0, 46, 27, 182, 0, 252, 154, 0, 5, 2, 172, 42]
abbrev dktX1_wash_0 : List UInt8 := dkwX1_wash_0 ++ dktX1_wash_1
theorem dksX1_wash_0 : cX1_wash.data.toList.drop 0 = dktX1_wash_0 := by decide +kernel
theorem dksX1_wash_1 : cX1_wash.data.toList.drop 23 = dktX1_wash_1 := dk_seg dksX1_wash_0 23 rfl rfl
theorem dX1_wash_0 : decode cX1_wash 0 = .ok (.aload_n 0, 1) := dk_42 (dk_at dksX1_wash_0 0 rfl rfl)
theorem dX1_wash_1 : decode cX1_wash 1 = .ok (.iload_n 1, 1) := dk_27 (dk_at dksX1_wash_0 1 rfl rfl)
theorem dX1_wash_2 : decode cX1_wash 2 = .ok (.invokevirtual 206, 3) := dk_182 0 206 (dk_at dksX1_wash_0 2 rfl rfl)
theorem dX1_wash_5 : decode cX1_wash 5 = .ok (.ifCond .eq 15, 3) := dk_153 0 15 (dk_at dksX1_wash_0 5 rfl rfl)
theorem dX1_wash_8 : decode cX1_wash 8 = .ok (.aload_n 0, 1) := dk_42 (dk_at dksX1_wash_0 8 rfl rfl)
theorem dX1_wash_9 : decode cX1_wash 9 = .ok (.aload_n 0, 1) := dk_42 (dk_at dksX1_wash_0 9 rfl rfl)
theorem dX1_wash_10 : decode cX1_wash 10 = .ok (.getfield 46, 3) := dk_180 0 46 (dk_at dksX1_wash_0 10 rfl rfl)
theorem dX1_wash_13 : decode cX1_wash 13 = .ok (.iload_n 1, 1) := dk_27 (dk_at dksX1_wash_0 13 rfl rfl)
theorem dX1_wash_14 : decode cX1_wash 14 = .ok (.invokevirtual 252, 3) := dk_182 0 252 (dk_at dksX1_wash_0 14 rfl rfl)
theorem dX1_wash_17 : decode cX1_wash 17 = .ok (.ifCond .ne 5, 3) := dk_154 0 5 (dk_at dksX1_wash_0 17 rfl rfl)
theorem dX1_wash_20 : decode cX1_wash 20 = .ok (.iconst (-1), 1) := dk_2 (dk_at dksX1_wash_0 20 rfl rfl)
theorem dX1_wash_21 : decode cX1_wash 21 = .ok (.ireturn, 1) := dk_172 (dk_at dksX1_wash_0 21 rfl rfl)
theorem dX1_wash_22 : decode cX1_wash 22 = .ok (.aload_n 0, 1) := dk_42 (dk_at dksX1_wash_0 22 rfl rfl)
theorem dX1_wash_23 : decode cX1_wash 23 = .ok (.invokevirtual 243, 3) := dk_182 0 243 (dk_at dksX1_wash_1 0 rfl rfl)
theorem dX1_wash_26 : decode cX1_wash 26 = .ok (.aload_n 0, 1) := dk_42 (dk_at dksX1_wash_1 3 rfl rfl)
theorem dX1_wash_27 : decode cX1_wash 27 = .ok (.getfield 46, 3) := dk_180 0 46 (dk_at dksX1_wash_1 4 rfl rfl)
theorem dX1_wash_30 : decode cX1_wash 30 = .ok (.getfield 161, 3) := dk_180 0 161 (dk_at dksX1_wash_1 7 rfl rfl)
theorem dX1_wash_33 : decode cX1_wash 33 = .ok (.iload_n 1, 1) := dk_27 (dk_at dksX1_wash_1 10 rfl rfl)
theorem dX1_wash_34 : decode cX1_wash 34 = .ok (.aaload, 1) := dk_50 (dk_at dksX1_wash_1 11 rfl rfl)
theorem dX1_wash_35 : decode cX1_wash 35 = .ok (.dup, 1) := dk_89 (dk_at dksX1_wash_1 12 rfl rfl)
theorem dX1_wash_36 : decode cX1_wash 36 = .ok (.getfield 174, 3) := dk_180 0 174 (dk_at dksX1_wash_1 13 rfl rfl)
theorem dX1_wash_39 : decode cX1_wash 39 = .ok (.iconst 1, 1) := dk_4 (dk_at dksX1_wash_1 16 rfl rfl)
theorem dX1_wash_40 : decode cX1_wash 40 = .ok (.isub, 1) := dk_100 (dk_at dksX1_wash_1 17 rfl rfl)
theorem dX1_wash_41 : decode cX1_wash 41 = .ok (.dup_x1, 1) := dk_90 (dk_at dksX1_wash_1 18 rfl rfl)
theorem dX1_wash_42 : decode cX1_wash 42 = .ok (.putfield 174, 3) := dk_181 0 174 (dk_at dksX1_wash_1 19 rfl rfl)
theorem dX1_wash_45 : decode cX1_wash 45 = .ok (.ireturn, 1) := dk_172 (dk_at dksX1_wash_1 22 rfl rfl)
abbrev cX1_canWash : ByteArray := prog_1_method_21_code
def yX1_canWash : MethodName := ⟨RX1, "canWash", "(LGlassStreet$State;I)Z"⟩
def dkwX1_canWash_1 : List UInt8 := [3, 172]
abbrev dktX1_canWash_1 : List UInt8 := dkwX1_canWash_1 ++ []
def dkwX1_canWash_0 : List UInt8 := [43, 28, 182, 0, 131, 153, 0, 19, 43, 180, 0, 161, 28, 50, 180, 0, 174, 158, 0, 7, 4, 167, 0, 4]
abbrev dktX1_canWash_0 : List UInt8 := dkwX1_canWash_0 ++ dktX1_canWash_1
theorem dksX1_canWash_0 : cX1_canWash.data.toList.drop 0 = dktX1_canWash_0 := by decide +kernel
theorem dksX1_canWash_1 : cX1_canWash.data.toList.drop 24 = dktX1_canWash_1 := dk_seg dksX1_canWash_0 24 rfl rfl
theorem dX1_canWash_0 : decode cX1_canWash 0 = .ok (.aload_n 1, 1) := dk_43 (dk_at dksX1_canWash_0 0 rfl rfl)
theorem dX1_canWash_1 : decode cX1_canWash 1 = .ok (.iload_n 2, 1) := dk_28 (dk_at dksX1_canWash_0 1 rfl rfl)
theorem dX1_canWash_2 : decode cX1_canWash 2 = .ok (.invokevirtual 131, 3) := dk_182 0 131 (dk_at dksX1_canWash_0 2 rfl rfl)
theorem dX1_canWash_5 : decode cX1_canWash 5 = .ok (.ifCond .eq 19, 3) := dk_153 0 19 (dk_at dksX1_canWash_0 5 rfl rfl)
theorem dX1_canWash_8 : decode cX1_canWash 8 = .ok (.aload_n 1, 1) := dk_43 (dk_at dksX1_canWash_0 8 rfl rfl)
theorem dX1_canWash_9 : decode cX1_canWash 9 = .ok (.getfield 161, 3) := dk_180 0 161 (dk_at dksX1_canWash_0 9 rfl rfl)
theorem dX1_canWash_12 : decode cX1_canWash 12 = .ok (.iload_n 2, 1) := dk_28 (dk_at dksX1_canWash_0 12 rfl rfl)
theorem dX1_canWash_13 : decode cX1_canWash 13 = .ok (.aaload, 1) := dk_50 (dk_at dksX1_canWash_0 13 rfl rfl)
theorem dX1_canWash_14 : decode cX1_canWash 14 = .ok (.getfield 174, 3) := dk_180 0 174 (dk_at dksX1_canWash_0 14 rfl rfl)
theorem dX1_canWash_17 : decode cX1_canWash 17 = .ok (.ifCond .le 7, 3) := dk_158 0 7 (dk_at dksX1_canWash_0 17 rfl rfl)
theorem dX1_canWash_20 : decode cX1_canWash 20 = .ok (.iconst 1, 1) := dk_4 (dk_at dksX1_canWash_0 20 rfl rfl)
theorem dX1_canWash_21 : decode cX1_canWash 21 = .ok (.goto 4, 3) := dk_167 0 4 (dk_at dksX1_canWash_0 21 rfl rfl)
theorem dX1_canWash_24 : decode cX1_canWash 24 = .ok (.iconst 0, 1) := dk_3 (dk_at dksX1_canWash_1 0 rfl rfl)
theorem dX1_canWash_25 : decode cX1_canWash 25 = .ok (.ireturn, 1) := dk_172 (dk_at dksX1_canWash_1 1 rfl rfl)
abbrev cX1_curtain : ByteArray := prog_1_method_33_code
def yX1_curtain : MethodName := ⟨RX1, "curtain", "(I)Z"⟩
def dkwX1_curtain_1 : List UInt8 := [182, 0, 243, 42, 180, 0, 46, 89, 180, 0, 135, 4, 27, 120, 130, 181, 0, 135, 4, 172]
abbrev dktX1_curtain_1 : List UInt8 := dkwX1_curtain_1 ++ []
def dkwX1_curtain_0 : List UInt8 := [42, 27, 182, 0, 206, 153, 0, 14, 42, 180, 0, 46, 27, 182, 0, 131, 154, 0, 5, 3, 172, 42]
abbrev dktX1_curtain_0 : List UInt8 := dkwX1_curtain_0 ++ dktX1_curtain_1
theorem dksX1_curtain_0 : cX1_curtain.data.toList.drop 0 = dktX1_curtain_0 := by decide +kernel
theorem dksX1_curtain_1 : cX1_curtain.data.toList.drop 22 = dktX1_curtain_1 := dk_seg dksX1_curtain_0 22 rfl rfl
theorem dX1_curtain_0 : decode cX1_curtain 0 = .ok (.aload_n 0, 1) := dk_42 (dk_at dksX1_curtain_0 0 rfl rfl)
theorem dX1_curtain_1 : decode cX1_curtain 1 = .ok (.iload_n 1, 1) := dk_27 (dk_at dksX1_curtain_0 1 rfl rfl)
theorem dX1_curtain_2 : decode cX1_curtain 2 = .ok (.invokevirtual 206, 3) := dk_182 0 206 (dk_at dksX1_curtain_0 2 rfl rfl)
theorem dX1_curtain_5 : decode cX1_curtain 5 = .ok (.ifCond .eq 14, 3) := dk_153 0 14 (dk_at dksX1_curtain_0 5 rfl rfl)
theorem dX1_curtain_8 : decode cX1_curtain 8 = .ok (.aload_n 0, 1) := dk_42 (dk_at dksX1_curtain_0 8 rfl rfl)
theorem dX1_curtain_9 : decode cX1_curtain 9 = .ok (.getfield 46, 3) := dk_180 0 46 (dk_at dksX1_curtain_0 9 rfl rfl)
theorem dX1_curtain_12 : decode cX1_curtain 12 = .ok (.iload_n 1, 1) := dk_27 (dk_at dksX1_curtain_0 12 rfl rfl)
theorem dX1_curtain_13 : decode cX1_curtain 13 = .ok (.invokevirtual 131, 3) := dk_182 0 131 (dk_at dksX1_curtain_0 13 rfl rfl)
theorem dX1_curtain_16 : decode cX1_curtain 16 = .ok (.ifCond .ne 5, 3) := dk_154 0 5 (dk_at dksX1_curtain_0 16 rfl rfl)
theorem dX1_curtain_19 : decode cX1_curtain 19 = .ok (.iconst 0, 1) := dk_3 (dk_at dksX1_curtain_0 19 rfl rfl)
theorem dX1_curtain_20 : decode cX1_curtain 20 = .ok (.ireturn, 1) := dk_172 (dk_at dksX1_curtain_0 20 rfl rfl)
theorem dX1_curtain_21 : decode cX1_curtain 21 = .ok (.aload_n 0, 1) := dk_42 (dk_at dksX1_curtain_0 21 rfl rfl)
theorem dX1_curtain_22 : decode cX1_curtain 22 = .ok (.invokevirtual 243, 3) := dk_182 0 243 (dk_at dksX1_curtain_1 0 rfl rfl)
theorem dX1_curtain_25 : decode cX1_curtain 25 = .ok (.aload_n 0, 1) := dk_42 (dk_at dksX1_curtain_1 3 rfl rfl)
theorem dX1_curtain_26 : decode cX1_curtain 26 = .ok (.getfield 46, 3) := dk_180 0 46 (dk_at dksX1_curtain_1 4 rfl rfl)
theorem dX1_curtain_29 : decode cX1_curtain 29 = .ok (.dup, 1) := dk_89 (dk_at dksX1_curtain_1 7 rfl rfl)
theorem dX1_curtain_30 : decode cX1_curtain 30 = .ok (.getfield 135, 3) := dk_180 0 135 (dk_at dksX1_curtain_1 8 rfl rfl)
theorem dX1_curtain_33 : decode cX1_curtain 33 = .ok (.iconst 1, 1) := dk_4 (dk_at dksX1_curtain_1 11 rfl rfl)
theorem dX1_curtain_34 : decode cX1_curtain 34 = .ok (.iload_n 1, 1) := dk_27 (dk_at dksX1_curtain_1 12 rfl rfl)
theorem dX1_curtain_35 : decode cX1_curtain 35 = .ok (.ishl, 1) := dk_120 (dk_at dksX1_curtain_1 13 rfl rfl)
theorem dX1_curtain_36 : decode cX1_curtain 36 = .ok (.ixor, 1) := dk_130 (dk_at dksX1_curtain_1 14 rfl rfl)
theorem dX1_curtain_37 : decode cX1_curtain 37 = .ok (.putfield 135, 3) := dk_181 0 135 (dk_at dksX1_curtain_1 15 rfl rfl)
theorem dX1_curtain_40 : decode cX1_curtain 40 = .ok (.iconst 1, 1) := dk_4 (dk_at dksX1_curtain_1 18 rfl rfl)
theorem dX1_curtain_41 : decode cX1_curtain 41 = .ok (.ireturn, 1) := dk_172 (dk_at dksX1_curtain_1 19 rfl rfl)
abbrev cX1_stone : ByteArray := prog_1_method_34_code
def yX1_stone : MethodName := ⟨RX1, "stone", "(I)Z"⟩
def dkwX1_stone_1 : List UInt8 := [182, 0, 243, 42, 180, 0, 46, 89, 180, 0, 212, 4, 27, 120, 128, 181, 0, 212, 4, 172]
abbrev dktX1_stone_1 : List UInt8 := dkwX1_stone_1 ++ []
def dkwX1_stone_0 : List UInt8 := [42, 27, 182, 0, 206, 153, 0, 14, 42, 180, 0, 46, 27, 182, 0, 131, 154, 0, 5, 3, 172, 42]
abbrev dktX1_stone_0 : List UInt8 := dkwX1_stone_0 ++ dktX1_stone_1
theorem dksX1_stone_0 : cX1_stone.data.toList.drop 0 = dktX1_stone_0 := by decide +kernel
theorem dksX1_stone_1 : cX1_stone.data.toList.drop 22 = dktX1_stone_1 := dk_seg dksX1_stone_0 22 rfl rfl
theorem dX1_stone_0 : decode cX1_stone 0 = .ok (.aload_n 0, 1) := dk_42 (dk_at dksX1_stone_0 0 rfl rfl)
theorem dX1_stone_1 : decode cX1_stone 1 = .ok (.iload_n 1, 1) := dk_27 (dk_at dksX1_stone_0 1 rfl rfl)
theorem dX1_stone_2 : decode cX1_stone 2 = .ok (.invokevirtual 206, 3) := dk_182 0 206 (dk_at dksX1_stone_0 2 rfl rfl)
theorem dX1_stone_5 : decode cX1_stone 5 = .ok (.ifCond .eq 14, 3) := dk_153 0 14 (dk_at dksX1_stone_0 5 rfl rfl)
theorem dX1_stone_8 : decode cX1_stone 8 = .ok (.aload_n 0, 1) := dk_42 (dk_at dksX1_stone_0 8 rfl rfl)
theorem dX1_stone_9 : decode cX1_stone 9 = .ok (.getfield 46, 3) := dk_180 0 46 (dk_at dksX1_stone_0 9 rfl rfl)
theorem dX1_stone_12 : decode cX1_stone 12 = .ok (.iload_n 1, 1) := dk_27 (dk_at dksX1_stone_0 12 rfl rfl)
theorem dX1_stone_13 : decode cX1_stone 13 = .ok (.invokevirtual 131, 3) := dk_182 0 131 (dk_at dksX1_stone_0 13 rfl rfl)
theorem dX1_stone_16 : decode cX1_stone 16 = .ok (.ifCond .ne 5, 3) := dk_154 0 5 (dk_at dksX1_stone_0 16 rfl rfl)
theorem dX1_stone_19 : decode cX1_stone 19 = .ok (.iconst 0, 1) := dk_3 (dk_at dksX1_stone_0 19 rfl rfl)
theorem dX1_stone_20 : decode cX1_stone 20 = .ok (.ireturn, 1) := dk_172 (dk_at dksX1_stone_0 20 rfl rfl)
theorem dX1_stone_21 : decode cX1_stone 21 = .ok (.aload_n 0, 1) := dk_42 (dk_at dksX1_stone_0 21 rfl rfl)
theorem dX1_stone_22 : decode cX1_stone 22 = .ok (.invokevirtual 243, 3) := dk_182 0 243 (dk_at dksX1_stone_1 0 rfl rfl)
theorem dX1_stone_25 : decode cX1_stone 25 = .ok (.aload_n 0, 1) := dk_42 (dk_at dksX1_stone_1 3 rfl rfl)
theorem dX1_stone_26 : decode cX1_stone 26 = .ok (.getfield 46, 3) := dk_180 0 46 (dk_at dksX1_stone_1 4 rfl rfl)
theorem dX1_stone_29 : decode cX1_stone 29 = .ok (.dup, 1) := dk_89 (dk_at dksX1_stone_1 7 rfl rfl)
theorem dX1_stone_30 : decode cX1_stone 30 = .ok (.getfield 212, 3) := dk_180 0 212 (dk_at dksX1_stone_1 8 rfl rfl)
theorem dX1_stone_33 : decode cX1_stone 33 = .ok (.iconst 1, 1) := dk_4 (dk_at dksX1_stone_1 11 rfl rfl)
theorem dX1_stone_34 : decode cX1_stone 34 = .ok (.iload_n 1, 1) := dk_27 (dk_at dksX1_stone_1 12 rfl rfl)
theorem dX1_stone_35 : decode cX1_stone 35 = .ok (.ishl, 1) := dk_120 (dk_at dksX1_stone_1 13 rfl rfl)
theorem dX1_stone_36 : decode cX1_stone 36 = .ok (.ior, 1) := dk_128 (dk_at dksX1_stone_1 14 rfl rfl)
theorem dX1_stone_37 : decode cX1_stone 37 = .ok (.putfield 212, 3) := dk_181 0 212 (dk_at dksX1_stone_1 15 rfl rfl)
theorem dX1_stone_40 : decode cX1_stone 40 = .ok (.iconst 1, 1) := dk_4 (dk_at dksX1_stone_1 18 rfl rfl)
theorem dX1_stone_41 : decode cX1_stone 41 = .ok (.ireturn, 1) := dk_172 (dk_at dksX1_stone_1 19 rfl rfl)
abbrev cX1_hour : ByteArray := prog_1_method_35_code
def yX1_hour : MethodName := ⟨RX1, "hour", "()I"⟩
def dkwX1_hour_0 : List UInt8 := [42, 182, 0, 243, 42, 42, 180, 0, 46, 182, 0, 255, 172]
abbrev dktX1_hour_0 : List UInt8 := dkwX1_hour_0 ++ []
theorem dksX1_hour_0 : cX1_hour.data.toList.drop 0 = dktX1_hour_0 := by decide +kernel
theorem dX1_hour_0 : decode cX1_hour 0 = .ok (.aload_n 0, 1) := dk_42 (dk_at dksX1_hour_0 0 rfl rfl)
theorem dX1_hour_1 : decode cX1_hour 1 = .ok (.invokevirtual 243, 3) := dk_182 0 243 (dk_at dksX1_hour_0 1 rfl rfl)
theorem dX1_hour_4 : decode cX1_hour 4 = .ok (.aload_n 0, 1) := dk_42 (dk_at dksX1_hour_0 4 rfl rfl)
theorem dX1_hour_5 : decode cX1_hour 5 = .ok (.aload_n 0, 1) := dk_42 (dk_at dksX1_hour_0 5 rfl rfl)
theorem dX1_hour_6 : decode cX1_hour 6 = .ok (.getfield 46, 3) := dk_180 0 46 (dk_at dksX1_hour_0 6 rfl rfl)
theorem dX1_hour_9 : decode cX1_hour 9 = .ok (.invokevirtual 255, 3) := dk_182 0 255 (dk_at dksX1_hour_0 9 rfl rfl)
theorem dX1_hour_12 : decode cX1_hour 12 = .ok (.ireturn, 1) := dk_172 (dk_at dksX1_hour_0 12 rfl rfl)
abbrev cX1_passes : ByteArray := prog_1_method_24_code
def yX1_passes : MethodName := ⟨RX1, "passes", "(LGlassStreet$State;)I"⟩
def dkwX1_passes_2 : List UInt8 := [181, 0, 142, 28, 172]
abbrev dktX1_passes_2 : List UInt8 := dkwX1_passes_2 ++ []
def dkwX1_passes_1 : List UInt8 := [180, 0, 161, 29, 50, 182, 0, 202, 96, 61, 132, 3, 1, 167, 255, 223, 43, 89, 180, 0, 142, 4, 96]
abbrev dktX1_passes_1 : List UInt8 := dkwX1_passes_1 ++ dktX1_passes_2
def dkwX1_passes_0 : List UInt8 := [3, 61, 3, 62, 29, 42, 182, 0, 121, 162, 0, 31, 43, 29, 182, 0, 131, 153, 0, 17, 28, 42, 43, 43]
abbrev dktX1_passes_0 : List UInt8 := dkwX1_passes_0 ++ dktX1_passes_1
theorem dksX1_passes_0 : cX1_passes.data.toList.drop 0 = dktX1_passes_0 := by decide +kernel
theorem dksX1_passes_1 : cX1_passes.data.toList.drop 24 = dktX1_passes_1 := dk_seg dksX1_passes_0 24 rfl rfl
theorem dksX1_passes_2 : cX1_passes.data.toList.drop 47 = dktX1_passes_2 := dk_seg dksX1_passes_1 23 rfl rfl
theorem dX1_passes_0 : decode cX1_passes 0 = .ok (.iconst 0, 1) := dk_3 (dk_at dksX1_passes_0 0 rfl rfl)
theorem dX1_passes_1 : decode cX1_passes 1 = .ok (.istore_n 2, 1) := dk_61 (dk_at dksX1_passes_0 1 rfl rfl)
theorem dX1_passes_2 : decode cX1_passes 2 = .ok (.iconst 0, 1) := dk_3 (dk_at dksX1_passes_0 2 rfl rfl)
theorem dX1_passes_3 : decode cX1_passes 3 = .ok (.istore_n 3, 1) := dk_62 (dk_at dksX1_passes_0 3 rfl rfl)
theorem dX1_passes_4 : decode cX1_passes 4 = .ok (.iload_n 3, 1) := dk_29 (dk_at dksX1_passes_0 4 rfl rfl)
theorem dX1_passes_5 : decode cX1_passes 5 = .ok (.aload_n 0, 1) := dk_42 (dk_at dksX1_passes_0 5 rfl rfl)
theorem dX1_passes_6 : decode cX1_passes 6 = .ok (.invokevirtual 121, 3) := dk_182 0 121 (dk_at dksX1_passes_0 6 rfl rfl)
theorem dX1_passes_9 : decode cX1_passes 9 = .ok (.if_icmp .ge 31, 3) := dk_162 0 31 (dk_at dksX1_passes_0 9 rfl rfl)
theorem dX1_passes_12 : decode cX1_passes 12 = .ok (.aload_n 1, 1) := dk_43 (dk_at dksX1_passes_0 12 rfl rfl)
theorem dX1_passes_13 : decode cX1_passes 13 = .ok (.iload_n 3, 1) := dk_29 (dk_at dksX1_passes_0 13 rfl rfl)
theorem dX1_passes_14 : decode cX1_passes 14 = .ok (.invokevirtual 131, 3) := dk_182 0 131 (dk_at dksX1_passes_0 14 rfl rfl)
theorem dX1_passes_17 : decode cX1_passes 17 = .ok (.ifCond .eq 17, 3) := dk_153 0 17 (dk_at dksX1_passes_0 17 rfl rfl)
theorem dX1_passes_20 : decode cX1_passes 20 = .ok (.iload_n 2, 1) := dk_28 (dk_at dksX1_passes_0 20 rfl rfl)
theorem dX1_passes_21 : decode cX1_passes 21 = .ok (.aload_n 0, 1) := dk_42 (dk_at dksX1_passes_0 21 rfl rfl)
theorem dX1_passes_22 : decode cX1_passes 22 = .ok (.aload_n 1, 1) := dk_43 (dk_at dksX1_passes_0 22 rfl rfl)
theorem dX1_passes_23 : decode cX1_passes 23 = .ok (.aload_n 1, 1) := dk_43 (dk_at dksX1_passes_0 23 rfl rfl)
theorem dX1_passes_24 : decode cX1_passes 24 = .ok (.getfield 161, 3) := dk_180 0 161 (dk_at dksX1_passes_1 0 rfl rfl)
theorem dX1_passes_27 : decode cX1_passes 27 = .ok (.iload_n 3, 1) := dk_29 (dk_at dksX1_passes_1 3 rfl rfl)
theorem dX1_passes_28 : decode cX1_passes 28 = .ok (.aaload, 1) := dk_50 (dk_at dksX1_passes_1 4 rfl rfl)
theorem dX1_passes_29 : decode cX1_passes 29 = .ok (.invokevirtual 202, 3) := dk_182 0 202 (dk_at dksX1_passes_1 5 rfl rfl)
theorem dX1_passes_32 : decode cX1_passes 32 = .ok (.iadd, 1) := dk_96 (dk_at dksX1_passes_1 8 rfl rfl)
theorem dX1_passes_33 : decode cX1_passes 33 = .ok (.istore_n 2, 1) := dk_61 (dk_at dksX1_passes_1 9 rfl rfl)
theorem dX1_passes_34 : decode cX1_passes 34 = .ok (.iinc 3 1, 3) := dk_132 3 1 (dk_at dksX1_passes_1 10 rfl rfl)
theorem dX1_passes_37 : decode cX1_passes 37 = .ok (.goto (-33), 3) := dk_167 255 223 (dk_at dksX1_passes_1 13 rfl rfl)
theorem dX1_passes_40 : decode cX1_passes 40 = .ok (.aload_n 1, 1) := dk_43 (dk_at dksX1_passes_1 16 rfl rfl)
theorem dX1_passes_41 : decode cX1_passes 41 = .ok (.dup, 1) := dk_89 (dk_at dksX1_passes_1 17 rfl rfl)
theorem dX1_passes_42 : decode cX1_passes 42 = .ok (.getfield 142, 3) := dk_180 0 142 (dk_at dksX1_passes_1 18 rfl rfl)
theorem dX1_passes_45 : decode cX1_passes 45 = .ok (.iconst 1, 1) := dk_4 (dk_at dksX1_passes_1 21 rfl rfl)
theorem dX1_passes_46 : decode cX1_passes 46 = .ok (.iadd, 1) := dk_96 (dk_at dksX1_passes_1 22 rfl rfl)
theorem dX1_passes_47 : decode cX1_passes 47 = .ok (.putfield 142, 3) := dk_181 0 142 (dk_at dksX1_passes_2 0 rfl rfl)
theorem dX1_passes_50 : decode cX1_passes 50 = .ok (.iload_n 2, 1) := dk_28 (dk_at dksX1_passes_2 3 rfl rfl)
theorem dX1_passes_51 : decode cX1_passes 51 = .ok (.ireturn, 1) := dk_172 (dk_at dksX1_passes_2 4 rfl rfl)
abbrev cX1_fadesOf : ByteArray := prog_1_method_23_code
def yX1_fadesOf : MethodName := ⟨RX1, "fadesOf", "(LGlassStreet$State;LGlassStreet$Marks;)I"⟩
def dkwX1_fadesOf_3 : List UInt8 := [29, 172]
abbrev dktX1_fadesOf_3 : List UInt8 := dkwX1_fadesOf_3 ++ []
def dkwX1_fadesOf_2 : List UInt8 := [182, 0, 196, 153, 0, 15, 44, 21, 4, 182, 0, 199, 132, 3, 1, 167, 255, 227, 132, 4, 1, 167, 255, 221]
abbrev dktX1_fadesOf_2 : List UInt8 := dkwX1_fadesOf_2 ++ dktX1_fadesOf_3
def dkwX1_fadesOf_1 : List UInt8 := [46, 4, 96, 79, 132, 5, 1, 167, 255, 233, 21, 4, 44, 180, 0, 174, 162, 0, 32, 42, 43, 44, 21, 4]
abbrev dktX1_fadesOf_1 : List UInt8 := dkwX1_fadesOf_1 ++ dktX1_fadesOf_2
def dkwX1_fadesOf_0 : List UInt8 := [3, 62, 3, 54, 4, 3, 54, 5, 21, 5, 44, 180, 0, 174, 162, 0, 20, 44, 180, 0, 181, 21, 5, 92]
abbrev dktX1_fadesOf_0 : List UInt8 := dkwX1_fadesOf_0 ++ dktX1_fadesOf_1
theorem dksX1_fadesOf_0 : cX1_fadesOf.data.toList.drop 0 = dktX1_fadesOf_0 := by decide +kernel
theorem dksX1_fadesOf_1 : cX1_fadesOf.data.toList.drop 24 = dktX1_fadesOf_1 := dk_seg dksX1_fadesOf_0 24 rfl rfl
theorem dksX1_fadesOf_2 : cX1_fadesOf.data.toList.drop 48 = dktX1_fadesOf_2 := dk_seg dksX1_fadesOf_1 24 rfl rfl
theorem dksX1_fadesOf_3 : cX1_fadesOf.data.toList.drop 72 = dktX1_fadesOf_3 := dk_seg dksX1_fadesOf_2 24 rfl rfl
theorem dX1_fadesOf_0 : decode cX1_fadesOf 0 = .ok (.iconst 0, 1) := dk_3 (dk_at dksX1_fadesOf_0 0 rfl rfl)
theorem dX1_fadesOf_1 : decode cX1_fadesOf 1 = .ok (.istore_n 3, 1) := dk_62 (dk_at dksX1_fadesOf_0 1 rfl rfl)
theorem dX1_fadesOf_2 : decode cX1_fadesOf 2 = .ok (.iconst 0, 1) := dk_3 (dk_at dksX1_fadesOf_0 2 rfl rfl)
theorem dX1_fadesOf_3 : decode cX1_fadesOf 3 = .ok (.istore 4, 2) := dk_54 4 (dk_at dksX1_fadesOf_0 3 rfl rfl)
theorem dX1_fadesOf_5 : decode cX1_fadesOf 5 = .ok (.iconst 0, 1) := dk_3 (dk_at dksX1_fadesOf_0 5 rfl rfl)
theorem dX1_fadesOf_6 : decode cX1_fadesOf 6 = .ok (.istore 5, 2) := dk_54 5 (dk_at dksX1_fadesOf_0 6 rfl rfl)
theorem dX1_fadesOf_8 : decode cX1_fadesOf 8 = .ok (.iload 5, 2) := dk_21 5 (dk_at dksX1_fadesOf_0 8 rfl rfl)
theorem dX1_fadesOf_10 : decode cX1_fadesOf 10 = .ok (.aload_n 2, 1) := dk_44 (dk_at dksX1_fadesOf_0 10 rfl rfl)
theorem dX1_fadesOf_11 : decode cX1_fadesOf 11 = .ok (.getfield 174, 3) := dk_180 0 174 (dk_at dksX1_fadesOf_0 11 rfl rfl)
theorem dX1_fadesOf_14 : decode cX1_fadesOf 14 = .ok (.if_icmp .ge 20, 3) := dk_162 0 20 (dk_at dksX1_fadesOf_0 14 rfl rfl)
theorem dX1_fadesOf_17 : decode cX1_fadesOf 17 = .ok (.aload_n 2, 1) := dk_44 (dk_at dksX1_fadesOf_0 17 rfl rfl)
theorem dX1_fadesOf_18 : decode cX1_fadesOf 18 = .ok (.getfield 181, 3) := dk_180 0 181 (dk_at dksX1_fadesOf_0 18 rfl rfl)
theorem dX1_fadesOf_21 : decode cX1_fadesOf 21 = .ok (.iload 5, 2) := dk_21 5 (dk_at dksX1_fadesOf_0 21 rfl rfl)
theorem dX1_fadesOf_23 : decode cX1_fadesOf 23 = .ok (.dup2, 1) := dk_92 (dk_at dksX1_fadesOf_0 23 rfl rfl)
theorem dX1_fadesOf_24 : decode cX1_fadesOf 24 = .ok (.iaload, 1) := dk_46 (dk_at dksX1_fadesOf_1 0 rfl rfl)
theorem dX1_fadesOf_25 : decode cX1_fadesOf 25 = .ok (.iconst 1, 1) := dk_4 (dk_at dksX1_fadesOf_1 1 rfl rfl)
theorem dX1_fadesOf_26 : decode cX1_fadesOf 26 = .ok (.iadd, 1) := dk_96 (dk_at dksX1_fadesOf_1 2 rfl rfl)
theorem dX1_fadesOf_27 : decode cX1_fadesOf 27 = .ok (.iastore, 1) := dk_79 (dk_at dksX1_fadesOf_1 3 rfl rfl)
theorem dX1_fadesOf_28 : decode cX1_fadesOf 28 = .ok (.iinc 5 1, 3) := dk_132 5 1 (dk_at dksX1_fadesOf_1 4 rfl rfl)
theorem dX1_fadesOf_31 : decode cX1_fadesOf 31 = .ok (.goto (-23), 3) := dk_167 255 233 (dk_at dksX1_fadesOf_1 7 rfl rfl)
theorem dX1_fadesOf_34 : decode cX1_fadesOf 34 = .ok (.iload 4, 2) := dk_21 4 (dk_at dksX1_fadesOf_1 10 rfl rfl)
theorem dX1_fadesOf_36 : decode cX1_fadesOf 36 = .ok (.aload_n 2, 1) := dk_44 (dk_at dksX1_fadesOf_1 12 rfl rfl)
theorem dX1_fadesOf_37 : decode cX1_fadesOf 37 = .ok (.getfield 174, 3) := dk_180 0 174 (dk_at dksX1_fadesOf_1 13 rfl rfl)
theorem dX1_fadesOf_40 : decode cX1_fadesOf 40 = .ok (.if_icmp .ge 32, 3) := dk_162 0 32 (dk_at dksX1_fadesOf_1 16 rfl rfl)
theorem dX1_fadesOf_43 : decode cX1_fadesOf 43 = .ok (.aload_n 0, 1) := dk_42 (dk_at dksX1_fadesOf_1 19 rfl rfl)
theorem dX1_fadesOf_44 : decode cX1_fadesOf 44 = .ok (.aload_n 1, 1) := dk_43 (dk_at dksX1_fadesOf_1 20 rfl rfl)
theorem dX1_fadesOf_45 : decode cX1_fadesOf 45 = .ok (.aload_n 2, 1) := dk_44 (dk_at dksX1_fadesOf_1 21 rfl rfl)
theorem dX1_fadesOf_46 : decode cX1_fadesOf 46 = .ok (.iload 4, 2) := dk_21 4 (dk_at dksX1_fadesOf_1 22 rfl rfl)
theorem dX1_fadesOf_48 : decode cX1_fadesOf 48 = .ok (.invokevirtual 196, 3) := dk_182 0 196 (dk_at dksX1_fadesOf_2 0 rfl rfl)
theorem dX1_fadesOf_51 : decode cX1_fadesOf 51 = .ok (.ifCond .eq 15, 3) := dk_153 0 15 (dk_at dksX1_fadesOf_2 3 rfl rfl)
theorem dX1_fadesOf_54 : decode cX1_fadesOf 54 = .ok (.aload_n 2, 1) := dk_44 (dk_at dksX1_fadesOf_2 6 rfl rfl)
theorem dX1_fadesOf_55 : decode cX1_fadesOf 55 = .ok (.iload 4, 2) := dk_21 4 (dk_at dksX1_fadesOf_2 7 rfl rfl)
theorem dX1_fadesOf_57 : decode cX1_fadesOf 57 = .ok (.invokevirtual 199, 3) := dk_182 0 199 (dk_at dksX1_fadesOf_2 9 rfl rfl)
theorem dX1_fadesOf_60 : decode cX1_fadesOf 60 = .ok (.iinc 3 1, 3) := dk_132 3 1 (dk_at dksX1_fadesOf_2 12 rfl rfl)
theorem dX1_fadesOf_63 : decode cX1_fadesOf 63 = .ok (.goto (-29), 3) := dk_167 255 227 (dk_at dksX1_fadesOf_2 15 rfl rfl)
theorem dX1_fadesOf_66 : decode cX1_fadesOf 66 = .ok (.iinc 4 1, 3) := dk_132 4 1 (dk_at dksX1_fadesOf_2 18 rfl rfl)
theorem dX1_fadesOf_69 : decode cX1_fadesOf 69 = .ok (.goto (-35), 3) := dk_167 255 221 (dk_at dksX1_fadesOf_2 21 rfl rfl)
theorem dX1_fadesOf_72 : decode cX1_fadesOf 72 = .ok (.iload_n 3, 1) := dk_29 (dk_at dksX1_fadesOf_3 0 rfl rfl)
theorem dX1_fadesOf_73 : decode cX1_fadesOf 73 = .ok (.ireturn, 1) := dk_172 (dk_at dksX1_fadesOf_3 1 rfl rfl)
abbrev cX1_fades : ByteArray := prog_1_method_22_code
def yX1_fades : MethodName := ⟨RX1, "fades", "(LGlassStreet$State;LGlassStreet$Marks;I)Z"⟩
def dkwX1_fades_4 : List UInt8 := [180, 0, 30, 180, 0, 177, 42, 180, 0, 53, 182, 0, 190, 153, 0, 7, 4, 167, 0, 4, 3, 172]
abbrev dktX1_fades_4 : List UInt8 := dkwX1_fades_4 ++ []
def dkwX1_fades_3 : List UInt8 := [180, 0, 142, 182, 0, 145, 79, 42, 180, 0, 53, 6, 44, 180, 0, 174, 4, 100, 29, 100, 79, 42]
abbrev dktX1_fades_3 : List UInt8 := dkwX1_fades_3 ++ dktX1_fades_4
def dkwX1_fades_2 : List UInt8 := [180, 0, 30, 180, 0, 184, 44, 180, 0, 187, 29, 46, 46, 79, 42, 180, 0, 53, 5, 42, 180, 0, 30, 43]
abbrev dktX1_fades_2 : List UInt8 := dkwX1_fades_2 ++ dktX1_fades_3
def dkwX1_fades_1 : List UInt8 := [167, 0, 4, 3, 172, 42, 180, 0, 53, 3, 44, 180, 0, 181, 29, 46, 79, 42, 180, 0, 53, 4, 42]
abbrev dktX1_fades_1 : List UInt8 := dkwX1_fades_1 ++ dktX1_fades_2
def dkwX1_fades_0 : List UInt8 := [42, 180, 0, 30, 180, 0, 177, 199, 0, 20, 44, 180, 0, 181, 29, 46, 16, 8, 164, 0, 7, 4]
abbrev dktX1_fades_0 : List UInt8 := dkwX1_fades_0 ++ dktX1_fades_1
theorem dksX1_fades_0 : cX1_fades.data.toList.drop 0 = dktX1_fades_0 := by decide +kernel
theorem dksX1_fades_1 : cX1_fades.data.toList.drop 22 = dktX1_fades_1 := dk_seg dksX1_fades_0 22 rfl rfl
theorem dksX1_fades_2 : cX1_fades.data.toList.drop 45 = dktX1_fades_2 := dk_seg dksX1_fades_1 23 rfl rfl
theorem dksX1_fades_3 : cX1_fades.data.toList.drop 69 = dktX1_fades_3 := dk_seg dksX1_fades_2 24 rfl rfl
theorem dksX1_fades_4 : cX1_fades.data.toList.drop 91 = dktX1_fades_4 := dk_seg dksX1_fades_3 22 rfl rfl
theorem dX1_fades_0 : decode cX1_fades 0 = .ok (.aload_n 0, 1) := dk_42 (dk_at dksX1_fades_0 0 rfl rfl)
theorem dX1_fades_1 : decode cX1_fades 1 = .ok (.getfield 30, 3) := dk_180 0 30 (dk_at dksX1_fades_0 1 rfl rfl)
theorem dX1_fades_4 : decode cX1_fades 4 = .ok (.getfield 177, 3) := dk_180 0 177 (dk_at dksX1_fades_0 4 rfl rfl)
theorem dX1_fades_7 : decode cX1_fades 7 = .ok (.ifnonnull 20, 3) := dk_199 0 20 (dk_at dksX1_fades_0 7 rfl rfl)
theorem dX1_fades_10 : decode cX1_fades 10 = .ok (.aload_n 2, 1) := dk_44 (dk_at dksX1_fades_0 10 rfl rfl)
theorem dX1_fades_11 : decode cX1_fades 11 = .ok (.getfield 181, 3) := dk_180 0 181 (dk_at dksX1_fades_0 11 rfl rfl)
theorem dX1_fades_14 : decode cX1_fades 14 = .ok (.iload_n 3, 1) := dk_29 (dk_at dksX1_fades_0 14 rfl rfl)
theorem dX1_fades_15 : decode cX1_fades 15 = .ok (.iaload, 1) := dk_46 (dk_at dksX1_fades_0 15 rfl rfl)
theorem dX1_fades_16 : decode cX1_fades 16 = .ok (.bipush 8, 2) := dk_16 8 (dk_at dksX1_fades_0 16 rfl rfl)
theorem dX1_fades_18 : decode cX1_fades 18 = .ok (.if_icmp .le 7, 3) := dk_164 0 7 (dk_at dksX1_fades_0 18 rfl rfl)
theorem dX1_fades_21 : decode cX1_fades 21 = .ok (.iconst 1, 1) := dk_4 (dk_at dksX1_fades_0 21 rfl rfl)
theorem dX1_fades_22 : decode cX1_fades 22 = .ok (.goto 4, 3) := dk_167 0 4 (dk_at dksX1_fades_1 0 rfl rfl)
theorem dX1_fades_25 : decode cX1_fades 25 = .ok (.iconst 0, 1) := dk_3 (dk_at dksX1_fades_1 3 rfl rfl)
theorem dX1_fades_26 : decode cX1_fades 26 = .ok (.ireturn, 1) := dk_172 (dk_at dksX1_fades_1 4 rfl rfl)
theorem dX1_fades_27 : decode cX1_fades 27 = .ok (.aload_n 0, 1) := dk_42 (dk_at dksX1_fades_1 5 rfl rfl)
theorem dX1_fades_28 : decode cX1_fades 28 = .ok (.getfield 53, 3) := dk_180 0 53 (dk_at dksX1_fades_1 6 rfl rfl)
theorem dX1_fades_31 : decode cX1_fades 31 = .ok (.iconst 0, 1) := dk_3 (dk_at dksX1_fades_1 9 rfl rfl)
theorem dX1_fades_32 : decode cX1_fades 32 = .ok (.aload_n 2, 1) := dk_44 (dk_at dksX1_fades_1 10 rfl rfl)
theorem dX1_fades_33 : decode cX1_fades 33 = .ok (.getfield 181, 3) := dk_180 0 181 (dk_at dksX1_fades_1 11 rfl rfl)
theorem dX1_fades_36 : decode cX1_fades 36 = .ok (.iload_n 3, 1) := dk_29 (dk_at dksX1_fades_1 14 rfl rfl)
theorem dX1_fades_37 : decode cX1_fades 37 = .ok (.iaload, 1) := dk_46 (dk_at dksX1_fades_1 15 rfl rfl)
theorem dX1_fades_38 : decode cX1_fades 38 = .ok (.iastore, 1) := dk_79 (dk_at dksX1_fades_1 16 rfl rfl)
theorem dX1_fades_39 : decode cX1_fades 39 = .ok (.aload_n 0, 1) := dk_42 (dk_at dksX1_fades_1 17 rfl rfl)
theorem dX1_fades_40 : decode cX1_fades 40 = .ok (.getfield 53, 3) := dk_180 0 53 (dk_at dksX1_fades_1 18 rfl rfl)
theorem dX1_fades_43 : decode cX1_fades 43 = .ok (.iconst 1, 1) := dk_4 (dk_at dksX1_fades_1 21 rfl rfl)
theorem dX1_fades_44 : decode cX1_fades 44 = .ok (.aload_n 0, 1) := dk_42 (dk_at dksX1_fades_1 22 rfl rfl)
theorem dX1_fades_45 : decode cX1_fades 45 = .ok (.getfield 30, 3) := dk_180 0 30 (dk_at dksX1_fades_2 0 rfl rfl)
theorem dX1_fades_48 : decode cX1_fades 48 = .ok (.getfield 184, 3) := dk_180 0 184 (dk_at dksX1_fades_2 3 rfl rfl)
theorem dX1_fades_51 : decode cX1_fades 51 = .ok (.aload_n 2, 1) := dk_44 (dk_at dksX1_fades_2 6 rfl rfl)
theorem dX1_fades_52 : decode cX1_fades 52 = .ok (.getfield 187, 3) := dk_180 0 187 (dk_at dksX1_fades_2 7 rfl rfl)
theorem dX1_fades_55 : decode cX1_fades 55 = .ok (.iload_n 3, 1) := dk_29 (dk_at dksX1_fades_2 10 rfl rfl)
theorem dX1_fades_56 : decode cX1_fades 56 = .ok (.iaload, 1) := dk_46 (dk_at dksX1_fades_2 11 rfl rfl)
theorem dX1_fades_57 : decode cX1_fades 57 = .ok (.iaload, 1) := dk_46 (dk_at dksX1_fades_2 12 rfl rfl)
theorem dX1_fades_58 : decode cX1_fades 58 = .ok (.iastore, 1) := dk_79 (dk_at dksX1_fades_2 13 rfl rfl)
theorem dX1_fades_59 : decode cX1_fades 59 = .ok (.aload_n 0, 1) := dk_42 (dk_at dksX1_fades_2 14 rfl rfl)
theorem dX1_fades_60 : decode cX1_fades 60 = .ok (.getfield 53, 3) := dk_180 0 53 (dk_at dksX1_fades_2 15 rfl rfl)
theorem dX1_fades_63 : decode cX1_fades 63 = .ok (.iconst 2, 1) := dk_5 (dk_at dksX1_fades_2 18 rfl rfl)
theorem dX1_fades_64 : decode cX1_fades 64 = .ok (.aload_n 0, 1) := dk_42 (dk_at dksX1_fades_2 19 rfl rfl)
theorem dX1_fades_65 : decode cX1_fades 65 = .ok (.getfield 30, 3) := dk_180 0 30 (dk_at dksX1_fades_2 20 rfl rfl)
theorem dX1_fades_68 : decode cX1_fades 68 = .ok (.aload_n 1, 1) := dk_43 (dk_at dksX1_fades_2 23 rfl rfl)
theorem dX1_fades_69 : decode cX1_fades 69 = .ok (.getfield 142, 3) := dk_180 0 142 (dk_at dksX1_fades_3 0 rfl rfl)
theorem dX1_fades_72 : decode cX1_fades 72 = .ok (.invokevirtual 145, 3) := dk_182 0 145 (dk_at dksX1_fades_3 3 rfl rfl)
theorem dX1_fades_75 : decode cX1_fades 75 = .ok (.iastore, 1) := dk_79 (dk_at dksX1_fades_3 6 rfl rfl)
theorem dX1_fades_76 : decode cX1_fades 76 = .ok (.aload_n 0, 1) := dk_42 (dk_at dksX1_fades_3 7 rfl rfl)
theorem dX1_fades_77 : decode cX1_fades 77 = .ok (.getfield 53, 3) := dk_180 0 53 (dk_at dksX1_fades_3 8 rfl rfl)
theorem dX1_fades_80 : decode cX1_fades 80 = .ok (.iconst 3, 1) := dk_6 (dk_at dksX1_fades_3 11 rfl rfl)
theorem dX1_fades_81 : decode cX1_fades 81 = .ok (.aload_n 2, 1) := dk_44 (dk_at dksX1_fades_3 12 rfl rfl)
theorem dX1_fades_82 : decode cX1_fades 82 = .ok (.getfield 174, 3) := dk_180 0 174 (dk_at dksX1_fades_3 13 rfl rfl)
theorem dX1_fades_85 : decode cX1_fades 85 = .ok (.iconst 1, 1) := dk_4 (dk_at dksX1_fades_3 16 rfl rfl)
theorem dX1_fades_86 : decode cX1_fades 86 = .ok (.isub, 1) := dk_100 (dk_at dksX1_fades_3 17 rfl rfl)
theorem dX1_fades_87 : decode cX1_fades 87 = .ok (.iload_n 3, 1) := dk_29 (dk_at dksX1_fades_3 18 rfl rfl)
theorem dX1_fades_88 : decode cX1_fades 88 = .ok (.isub, 1) := dk_100 (dk_at dksX1_fades_3 19 rfl rfl)
theorem dX1_fades_89 : decode cX1_fades 89 = .ok (.iastore, 1) := dk_79 (dk_at dksX1_fades_3 20 rfl rfl)
theorem dX1_fades_90 : decode cX1_fades 90 = .ok (.aload_n 0, 1) := dk_42 (dk_at dksX1_fades_3 21 rfl rfl)
theorem dX1_fades_91 : decode cX1_fades 91 = .ok (.getfield 30, 3) := dk_180 0 30 (dk_at dksX1_fades_4 0 rfl rfl)
theorem dX1_fades_94 : decode cX1_fades 94 = .ok (.getfield 177, 3) := dk_180 0 177 (dk_at dksX1_fades_4 3 rfl rfl)
theorem dX1_fades_97 : decode cX1_fades 97 = .ok (.aload_n 0, 1) := dk_42 (dk_at dksX1_fades_4 6 rfl rfl)
theorem dX1_fades_98 : decode cX1_fades 98 = .ok (.getfield 53, 3) := dk_180 0 53 (dk_at dksX1_fades_4 7 rfl rfl)
theorem dX1_fades_101 : decode cX1_fades 101 = .ok (.invokevirtual 190, 3) := dk_182 0 190 (dk_at dksX1_fades_4 10 rfl rfl)
theorem dX1_fades_104 : decode cX1_fades 104 = .ok (.ifCond .eq 7, 3) := dk_153 0 7 (dk_at dksX1_fades_4 13 rfl rfl)
theorem dX1_fades_107 : decode cX1_fades 107 = .ok (.iconst 1, 1) := dk_4 (dk_at dksX1_fades_4 16 rfl rfl)
theorem dX1_fades_108 : decode cX1_fades 108 = .ok (.goto 4, 3) := dk_167 0 4 (dk_at dksX1_fades_4 17 rfl rfl)
theorem dX1_fades_111 : decode cX1_fades 111 = .ok (.iconst 0, 1) := dk_3 (dk_at dksX1_fades_4 20 rfl rfl)
theorem dX1_fades_112 : decode cX1_fades 112 = .ok (.ireturn, 1) := dk_172 (dk_at dksX1_fades_4 21 rfl rfl)
abbrev cX1_undo : ByteArray := prog_1_method_36_code
def yX1_undo : MethodName := ⟨RX1, "undo", "()Z"⟩
def dkwX1_undo_1 : List UInt8 := [90, 181, 0, 95, 50, 182, 0, 234, 4, 172]
abbrev dktX1_undo_1 : List UInt8 := dkwX1_undo_1 ++ []
def dkwX1_undo_0 : List UInt8 := [42, 180, 0, 95, 154, 0, 5, 3, 172, 42, 180, 0, 46, 42, 180, 0, 57, 42, 89, 180, 0, 95, 4, 100]
abbrev dktX1_undo_0 : List UInt8 := dkwX1_undo_0 ++ dktX1_undo_1
theorem dksX1_undo_0 : cX1_undo.data.toList.drop 0 = dktX1_undo_0 := by decide +kernel
theorem dksX1_undo_1 : cX1_undo.data.toList.drop 24 = dktX1_undo_1 := dk_seg dksX1_undo_0 24 rfl rfl
theorem dX1_undo_0 : decode cX1_undo 0 = .ok (.aload_n 0, 1) := dk_42 (dk_at dksX1_undo_0 0 rfl rfl)
theorem dX1_undo_1 : decode cX1_undo 1 = .ok (.getfield 95, 3) := dk_180 0 95 (dk_at dksX1_undo_0 1 rfl rfl)
theorem dX1_undo_4 : decode cX1_undo 4 = .ok (.ifCond .ne 5, 3) := dk_154 0 5 (dk_at dksX1_undo_0 4 rfl rfl)
theorem dX1_undo_7 : decode cX1_undo 7 = .ok (.iconst 0, 1) := dk_3 (dk_at dksX1_undo_0 7 rfl rfl)
theorem dX1_undo_8 : decode cX1_undo 8 = .ok (.ireturn, 1) := dk_172 (dk_at dksX1_undo_0 8 rfl rfl)
theorem dX1_undo_9 : decode cX1_undo 9 = .ok (.aload_n 0, 1) := dk_42 (dk_at dksX1_undo_0 9 rfl rfl)
theorem dX1_undo_10 : decode cX1_undo 10 = .ok (.getfield 46, 3) := dk_180 0 46 (dk_at dksX1_undo_0 10 rfl rfl)
theorem dX1_undo_13 : decode cX1_undo 13 = .ok (.aload_n 0, 1) := dk_42 (dk_at dksX1_undo_0 13 rfl rfl)
theorem dX1_undo_14 : decode cX1_undo 14 = .ok (.getfield 57, 3) := dk_180 0 57 (dk_at dksX1_undo_0 14 rfl rfl)
theorem dX1_undo_17 : decode cX1_undo 17 = .ok (.aload_n 0, 1) := dk_42 (dk_at dksX1_undo_0 17 rfl rfl)
theorem dX1_undo_18 : decode cX1_undo 18 = .ok (.dup, 1) := dk_89 (dk_at dksX1_undo_0 18 rfl rfl)
theorem dX1_undo_19 : decode cX1_undo 19 = .ok (.getfield 95, 3) := dk_180 0 95 (dk_at dksX1_undo_0 19 rfl rfl)
theorem dX1_undo_22 : decode cX1_undo 22 = .ok (.iconst 1, 1) := dk_4 (dk_at dksX1_undo_0 22 rfl rfl)
theorem dX1_undo_23 : decode cX1_undo 23 = .ok (.isub, 1) := dk_100 (dk_at dksX1_undo_0 23 rfl rfl)
theorem dX1_undo_24 : decode cX1_undo 24 = .ok (.dup_x1, 1) := dk_90 (dk_at dksX1_undo_1 0 rfl rfl)
theorem dX1_undo_25 : decode cX1_undo 25 = .ok (.putfield 95, 3) := dk_181 0 95 (dk_at dksX1_undo_1 1 rfl rfl)
theorem dX1_undo_28 : decode cX1_undo 28 = .ok (.aaload, 1) := dk_50 (dk_at dksX1_undo_1 4 rfl rfl)
theorem dX1_undo_29 : decode cX1_undo 29 = .ok (.invokevirtual 234, 3) := dk_182 0 234 (dk_at dksX1_undo_1 5 rfl rfl)
theorem dX1_undo_32 : decode cX1_undo 32 = .ok (.iconst 1, 1) := dk_4 (dk_at dksX1_undo_1 8 rfl rfl)
theorem dX1_undo_33 : decode cX1_undo 33 = .ok (.ireturn, 1) := dk_172 (dk_at dksX1_undo_1 9 rfl rfl)
abbrev cX1_judged : ByteArray := prog_1_method_37_code
def yX1_judged : MethodName := ⟨RX1, "judged", "(I)I"⟩
def dkwX1_judged_6 : List UInt8 := [167, 0, 13, 42, 42, 180, 0, 50, 16, 6, 182, 1, 14, 172]
abbrev dktX1_judged_6 : List UInt8 := dkwX1_judged_6 ++ []
def dkwX1_judged_5 : List UInt8 := [21, 4, 61, 132, 4, 1, 167, 255, 165, 27, 154, 0, 7, 28, 167, 0, 22, 27, 4, 160, 0, 7, 29]
abbrev dktX1_judged_5 : List UInt8 := dkwX1_judged_5 ++ dktX1_judged_6
def dkwX1_judged_4 : List UInt8 := [154, 0, 6, 21, 4, 62, 25, 5, 42, 42, 180, 0, 50, 182, 1, 10, 154, 0, 10, 28, 156, 0, 6]
abbrev dktX1_judged_4 : List UInt8 := dkwX1_judged_4 ++ dktX1_judged_5
def dkwX1_judged_3 : List UInt8 := [180, 0, 50, 42, 180, 0, 50, 180, 0, 155, 25, 5, 192, 1, 5, 180, 1, 7, 46, 182, 0, 158]
abbrev dktX1_judged_3 : List UInt8 := dkwX1_judged_3 ++ dktX1_judged_4
def dkwX1_judged_2 : List UInt8 := [182, 0, 109, 192, 1, 3, 58, 5, 29, 156, 0, 41, 25, 5, 193, 1, 5, 153, 0, 33, 42, 42]
abbrev dktX1_judged_2 : List UInt8 := dkwX1_judged_2 ++ dktX1_judged_3
def dkwX1_judged_1 : List UInt8 := [61, 2, 62, 3, 54, 4, 21, 4, 42, 180, 0, 39, 182, 0, 105, 162, 0, 85, 42, 180, 0, 39, 21, 4]
abbrev dktX1_judged_1 : List UInt8 := dkwX1_judged_1 ++ dktX1_judged_2
def dkwX1_judged_0 : List UInt8 := [27, 3, 5, 184, 0, 123, 154, 0, 6, 16, 254, 172, 42, 180, 0, 50, 42, 180, 0, 30, 182, 0, 92, 2]
abbrev dktX1_judged_0 : List UInt8 := dkwX1_judged_0 ++ dktX1_judged_1
theorem dksX1_judged_0 : cX1_judged.data.toList.drop 0 = dktX1_judged_0 := by decide +kernel
theorem dksX1_judged_1 : cX1_judged.data.toList.drop 24 = dktX1_judged_1 := dk_seg dksX1_judged_0 24 rfl rfl
theorem dksX1_judged_2 : cX1_judged.data.toList.drop 48 = dktX1_judged_2 := dk_seg dksX1_judged_1 24 rfl rfl
theorem dksX1_judged_3 : cX1_judged.data.toList.drop 70 = dktX1_judged_3 := dk_seg dksX1_judged_2 22 rfl rfl
theorem dksX1_judged_4 : cX1_judged.data.toList.drop 92 = dktX1_judged_4 := dk_seg dksX1_judged_3 22 rfl rfl
theorem dksX1_judged_5 : cX1_judged.data.toList.drop 115 = dktX1_judged_5 := dk_seg dksX1_judged_4 23 rfl rfl
theorem dksX1_judged_6 : cX1_judged.data.toList.drop 138 = dktX1_judged_6 := dk_seg dksX1_judged_5 23 rfl rfl
theorem dX1_judged_0 : decode cX1_judged 0 = .ok (.iload_n 1, 1) := dk_27 (dk_at dksX1_judged_0 0 rfl rfl)
theorem dX1_judged_1 : decode cX1_judged 1 = .ok (.iconst 0, 1) := dk_3 (dk_at dksX1_judged_0 1 rfl rfl)
theorem dX1_judged_2 : decode cX1_judged 2 = .ok (.iconst 2, 1) := dk_5 (dk_at dksX1_judged_0 2 rfl rfl)
theorem dX1_judged_3 : decode cX1_judged 3 = .ok (.invokestatic 123, 3) := dk_184 0 123 (dk_at dksX1_judged_0 3 rfl rfl)
theorem dX1_judged_6 : decode cX1_judged 6 = .ok (.ifCond .ne 6, 3) := dk_154 0 6 (dk_at dksX1_judged_0 6 rfl rfl)
theorem dX1_judged_9 : decode cX1_judged 9 = .ok (.bipush (-2), 2) := dk_16 254 (dk_at dksX1_judged_0 9 rfl rfl)
theorem dX1_judged_11 : decode cX1_judged 11 = .ok (.ireturn, 1) := dk_172 (dk_at dksX1_judged_0 11 rfl rfl)
theorem dX1_judged_12 : decode cX1_judged 12 = .ok (.aload_n 0, 1) := dk_42 (dk_at dksX1_judged_0 12 rfl rfl)
theorem dX1_judged_13 : decode cX1_judged 13 = .ok (.getfield 50, 3) := dk_180 0 50 (dk_at dksX1_judged_0 13 rfl rfl)
theorem dX1_judged_16 : decode cX1_judged 16 = .ok (.aload_n 0, 1) := dk_42 (dk_at dksX1_judged_0 16 rfl rfl)
theorem dX1_judged_17 : decode cX1_judged 17 = .ok (.getfield 30, 3) := dk_180 0 30 (dk_at dksX1_judged_0 17 rfl rfl)
theorem dX1_judged_20 : decode cX1_judged 20 = .ok (.invokevirtual 92, 3) := dk_182 0 92 (dk_at dksX1_judged_0 20 rfl rfl)
theorem dX1_judged_23 : decode cX1_judged 23 = .ok (.iconst (-1), 1) := dk_2 (dk_at dksX1_judged_0 23 rfl rfl)
theorem dX1_judged_24 : decode cX1_judged 24 = .ok (.istore_n 2, 1) := dk_61 (dk_at dksX1_judged_1 0 rfl rfl)
theorem dX1_judged_25 : decode cX1_judged 25 = .ok (.iconst (-1), 1) := dk_2 (dk_at dksX1_judged_1 1 rfl rfl)
theorem dX1_judged_26 : decode cX1_judged 26 = .ok (.istore_n 3, 1) := dk_62 (dk_at dksX1_judged_1 2 rfl rfl)
theorem dX1_judged_27 : decode cX1_judged 27 = .ok (.iconst 0, 1) := dk_3 (dk_at dksX1_judged_1 3 rfl rfl)
theorem dX1_judged_28 : decode cX1_judged 28 = .ok (.istore 4, 2) := dk_54 4 (dk_at dksX1_judged_1 4 rfl rfl)
theorem dX1_judged_30 : decode cX1_judged 30 = .ok (.iload 4, 2) := dk_21 4 (dk_at dksX1_judged_1 6 rfl rfl)
theorem dX1_judged_32 : decode cX1_judged 32 = .ok (.aload_n 0, 1) := dk_42 (dk_at dksX1_judged_1 8 rfl rfl)
theorem dX1_judged_33 : decode cX1_judged 33 = .ok (.getfield 39, 3) := dk_180 0 39 (dk_at dksX1_judged_1 9 rfl rfl)
theorem dX1_judged_36 : decode cX1_judged 36 = .ok (.invokevirtual 105, 3) := dk_182 0 105 (dk_at dksX1_judged_1 12 rfl rfl)
theorem dX1_judged_39 : decode cX1_judged 39 = .ok (.if_icmp .ge 85, 3) := dk_162 0 85 (dk_at dksX1_judged_1 15 rfl rfl)
theorem dX1_judged_42 : decode cX1_judged 42 = .ok (.aload_n 0, 1) := dk_42 (dk_at dksX1_judged_1 18 rfl rfl)
theorem dX1_judged_43 : decode cX1_judged 43 = .ok (.getfield 39, 3) := dk_180 0 39 (dk_at dksX1_judged_1 19 rfl rfl)
theorem dX1_judged_46 : decode cX1_judged 46 = .ok (.iload 4, 2) := dk_21 4 (dk_at dksX1_judged_1 22 rfl rfl)
theorem dX1_judged_48 : decode cX1_judged 48 = .ok (.invokevirtual 109, 3) := dk_182 0 109 (dk_at dksX1_judged_2 0 rfl rfl)
theorem dX1_judged_51 : decode cX1_judged 51 = .ok (.checkcast 259, 3) := dk_192 1 3 (dk_at dksX1_judged_2 3 rfl rfl)
theorem dX1_judged_54 : decode cX1_judged 54 = .ok (.astore 5, 2) := dk_58 5 (dk_at dksX1_judged_2 6 rfl rfl)
theorem dX1_judged_56 : decode cX1_judged 56 = .ok (.iload_n 3, 1) := dk_29 (dk_at dksX1_judged_2 8 rfl rfl)
theorem dX1_judged_57 : decode cX1_judged 57 = .ok (.ifCond .ge 41, 3) := dk_156 0 41 (dk_at dksX1_judged_2 9 rfl rfl)
theorem dX1_judged_60 : decode cX1_judged 60 = .ok (.aload 5, 2) := dk_25 5 (dk_at dksX1_judged_2 12 rfl rfl)
theorem dX1_judged_62 : decode cX1_judged 62 = .ok (.instanceof 261, 3) := dk_193 1 5 (dk_at dksX1_judged_2 14 rfl rfl)
theorem dX1_judged_65 : decode cX1_judged 65 = .ok (.ifCond .eq 33, 3) := dk_153 0 33 (dk_at dksX1_judged_2 17 rfl rfl)
theorem dX1_judged_68 : decode cX1_judged 68 = .ok (.aload_n 0, 1) := dk_42 (dk_at dksX1_judged_2 20 rfl rfl)
theorem dX1_judged_69 : decode cX1_judged 69 = .ok (.aload_n 0, 1) := dk_42 (dk_at dksX1_judged_2 21 rfl rfl)
theorem dX1_judged_70 : decode cX1_judged 70 = .ok (.getfield 50, 3) := dk_180 0 50 (dk_at dksX1_judged_3 0 rfl rfl)
theorem dX1_judged_73 : decode cX1_judged 73 = .ok (.aload_n 0, 1) := dk_42 (dk_at dksX1_judged_3 3 rfl rfl)
theorem dX1_judged_74 : decode cX1_judged 74 = .ok (.getfield 50, 3) := dk_180 0 50 (dk_at dksX1_judged_3 4 rfl rfl)
theorem dX1_judged_77 : decode cX1_judged 77 = .ok (.getfield 155, 3) := dk_180 0 155 (dk_at dksX1_judged_3 7 rfl rfl)
theorem dX1_judged_80 : decode cX1_judged 80 = .ok (.aload 5, 2) := dk_25 5 (dk_at dksX1_judged_3 10 rfl rfl)
theorem dX1_judged_82 : decode cX1_judged 82 = .ok (.checkcast 261, 3) := dk_192 1 5 (dk_at dksX1_judged_3 12 rfl rfl)
theorem dX1_judged_85 : decode cX1_judged 85 = .ok (.getfield 263, 3) := dk_180 1 7 (dk_at dksX1_judged_3 15 rfl rfl)
theorem dX1_judged_88 : decode cX1_judged 88 = .ok (.iaload, 1) := dk_46 (dk_at dksX1_judged_3 18 rfl rfl)
theorem dX1_judged_89 : decode cX1_judged 89 = .ok (.invokevirtual 158, 3) := dk_182 0 158 (dk_at dksX1_judged_3 19 rfl rfl)
theorem dX1_judged_92 : decode cX1_judged 92 = .ok (.ifCond .ne 6, 3) := dk_154 0 6 (dk_at dksX1_judged_4 0 rfl rfl)
theorem dX1_judged_95 : decode cX1_judged 95 = .ok (.iload 4, 2) := dk_21 4 (dk_at dksX1_judged_4 3 rfl rfl)
theorem dX1_judged_97 : decode cX1_judged 97 = .ok (.istore_n 3, 1) := dk_62 (dk_at dksX1_judged_4 5 rfl rfl)
theorem dX1_judged_98 : decode cX1_judged 98 = .ok (.aload 5, 2) := dk_25 5 (dk_at dksX1_judged_4 6 rfl rfl)
theorem dX1_judged_100 : decode cX1_judged 100 = .ok (.aload_n 0, 1) := dk_42 (dk_at dksX1_judged_4 8 rfl rfl)
theorem dX1_judged_101 : decode cX1_judged 101 = .ok (.aload_n 0, 1) := dk_42 (dk_at dksX1_judged_4 9 rfl rfl)
theorem dX1_judged_102 : decode cX1_judged 102 = .ok (.getfield 50, 3) := dk_180 0 50 (dk_at dksX1_judged_4 10 rfl rfl)
theorem dX1_judged_105 : decode cX1_judged 105 = .ok (.invokevirtual 266, 3) := dk_182 1 10 (dk_at dksX1_judged_4 13 rfl rfl)
theorem dX1_judged_108 : decode cX1_judged 108 = .ok (.ifCond .ne 10, 3) := dk_154 0 10 (dk_at dksX1_judged_4 16 rfl rfl)
theorem dX1_judged_111 : decode cX1_judged 111 = .ok (.iload_n 2, 1) := dk_28 (dk_at dksX1_judged_4 19 rfl rfl)
theorem dX1_judged_112 : decode cX1_judged 112 = .ok (.ifCond .ge 6, 3) := dk_156 0 6 (dk_at dksX1_judged_4 20 rfl rfl)
theorem dX1_judged_115 : decode cX1_judged 115 = .ok (.iload 4, 2) := dk_21 4 (dk_at dksX1_judged_5 0 rfl rfl)
theorem dX1_judged_117 : decode cX1_judged 117 = .ok (.istore_n 2, 1) := dk_61 (dk_at dksX1_judged_5 2 rfl rfl)
theorem dX1_judged_118 : decode cX1_judged 118 = .ok (.iinc 4 1, 3) := dk_132 4 1 (dk_at dksX1_judged_5 3 rfl rfl)
theorem dX1_judged_121 : decode cX1_judged 121 = .ok (.goto (-91), 3) := dk_167 255 165 (dk_at dksX1_judged_5 6 rfl rfl)
theorem dX1_judged_124 : decode cX1_judged 124 = .ok (.iload_n 1, 1) := dk_27 (dk_at dksX1_judged_5 9 rfl rfl)
theorem dX1_judged_125 : decode cX1_judged 125 = .ok (.ifCond .ne 7, 3) := dk_154 0 7 (dk_at dksX1_judged_5 10 rfl rfl)
theorem dX1_judged_128 : decode cX1_judged 128 = .ok (.iload_n 2, 1) := dk_28 (dk_at dksX1_judged_5 13 rfl rfl)
theorem dX1_judged_129 : decode cX1_judged 129 = .ok (.goto 22, 3) := dk_167 0 22 (dk_at dksX1_judged_5 14 rfl rfl)
theorem dX1_judged_132 : decode cX1_judged 132 = .ok (.iload_n 1, 1) := dk_27 (dk_at dksX1_judged_5 17 rfl rfl)
theorem dX1_judged_133 : decode cX1_judged 133 = .ok (.iconst 1, 1) := dk_4 (dk_at dksX1_judged_5 18 rfl rfl)
theorem dX1_judged_134 : decode cX1_judged 134 = .ok (.if_icmp .ne 7, 3) := dk_160 0 7 (dk_at dksX1_judged_5 19 rfl rfl)
theorem dX1_judged_137 : decode cX1_judged 137 = .ok (.iload_n 3, 1) := dk_29 (dk_at dksX1_judged_5 22 rfl rfl)
theorem dX1_judged_138 : decode cX1_judged 138 = .ok (.goto 13, 3) := dk_167 0 13 (dk_at dksX1_judged_6 0 rfl rfl)
theorem dX1_judged_141 : decode cX1_judged 141 = .ok (.aload_n 0, 1) := dk_42 (dk_at dksX1_judged_6 3 rfl rfl)
theorem dX1_judged_142 : decode cX1_judged 142 = .ok (.aload_n 0, 1) := dk_42 (dk_at dksX1_judged_6 4 rfl rfl)
theorem dX1_judged_143 : decode cX1_judged 143 = .ok (.getfield 50, 3) := dk_180 0 50 (dk_at dksX1_judged_6 5 rfl rfl)
theorem dX1_judged_146 : decode cX1_judged 146 = .ok (.bipush 6, 2) := dk_16 6 (dk_at dksX1_judged_6 8 rfl rfl)
theorem dX1_judged_148 : decode cX1_judged 148 = .ok (.invokevirtual 270, 3) := dk_182 1 14 (dk_at dksX1_judged_6 10 rfl rfl)
theorem dX1_judged_151 : decode cX1_judged 151 = .ok (.ireturn, 1) := dk_172 (dk_at dksX1_judged_6 13 rfl rfl)
abbrev cX1_harmOf : ByteArray := prog_1_method_40_code
def yX1_harmOf : MethodName := ⟨RX1, "harmOf", "(LGlassStreet$State;I)I"⟩
def dkwX1_harmOf_1 : List UInt8 := [128, 62, 132, 4, 1, 167, 255, 232, 42, 29, 182, 1, 25, 172]
abbrev dktX1_harmOf_1 : List UInt8 := dkwX1_harmOf_1 ++ []
def dkwX1_harmOf_0 : List UInt8 := [3, 62, 3, 54, 4, 21, 4, 42, 182, 0, 121, 162, 0, 21, 29, 42, 43, 21, 4, 2, 28, 182, 1, 21]
abbrev dktX1_harmOf_0 : List UInt8 := dkwX1_harmOf_0 ++ dktX1_harmOf_1
theorem dksX1_harmOf_0 : cX1_harmOf.data.toList.drop 0 = dktX1_harmOf_0 := by decide +kernel
theorem dksX1_harmOf_1 : cX1_harmOf.data.toList.drop 24 = dktX1_harmOf_1 := dk_seg dksX1_harmOf_0 24 rfl rfl
theorem dX1_harmOf_0 : decode cX1_harmOf 0 = .ok (.iconst 0, 1) := dk_3 (dk_at dksX1_harmOf_0 0 rfl rfl)
theorem dX1_harmOf_1 : decode cX1_harmOf 1 = .ok (.istore_n 3, 1) := dk_62 (dk_at dksX1_harmOf_0 1 rfl rfl)
theorem dX1_harmOf_2 : decode cX1_harmOf 2 = .ok (.iconst 0, 1) := dk_3 (dk_at dksX1_harmOf_0 2 rfl rfl)
theorem dX1_harmOf_3 : decode cX1_harmOf 3 = .ok (.istore 4, 2) := dk_54 4 (dk_at dksX1_harmOf_0 3 rfl rfl)
theorem dX1_harmOf_5 : decode cX1_harmOf 5 = .ok (.iload 4, 2) := dk_21 4 (dk_at dksX1_harmOf_0 5 rfl rfl)
theorem dX1_harmOf_7 : decode cX1_harmOf 7 = .ok (.aload_n 0, 1) := dk_42 (dk_at dksX1_harmOf_0 7 rfl rfl)
theorem dX1_harmOf_8 : decode cX1_harmOf 8 = .ok (.invokevirtual 121, 3) := dk_182 0 121 (dk_at dksX1_harmOf_0 8 rfl rfl)
theorem dX1_harmOf_11 : decode cX1_harmOf 11 = .ok (.if_icmp .ge 21, 3) := dk_162 0 21 (dk_at dksX1_harmOf_0 11 rfl rfl)
theorem dX1_harmOf_14 : decode cX1_harmOf 14 = .ok (.iload_n 3, 1) := dk_29 (dk_at dksX1_harmOf_0 14 rfl rfl)
theorem dX1_harmOf_15 : decode cX1_harmOf 15 = .ok (.aload_n 0, 1) := dk_42 (dk_at dksX1_harmOf_0 15 rfl rfl)
theorem dX1_harmOf_16 : decode cX1_harmOf 16 = .ok (.aload_n 1, 1) := dk_43 (dk_at dksX1_harmOf_0 16 rfl rfl)
theorem dX1_harmOf_17 : decode cX1_harmOf 17 = .ok (.iload 4, 2) := dk_21 4 (dk_at dksX1_harmOf_0 17 rfl rfl)
theorem dX1_harmOf_19 : decode cX1_harmOf 19 = .ok (.iconst (-1), 1) := dk_2 (dk_at dksX1_harmOf_0 19 rfl rfl)
theorem dX1_harmOf_20 : decode cX1_harmOf 20 = .ok (.iload_n 2, 1) := dk_28 (dk_at dksX1_harmOf_0 20 rfl rfl)
theorem dX1_harmOf_21 : decode cX1_harmOf 21 = .ok (.invokevirtual 277, 3) := dk_182 1 21 (dk_at dksX1_harmOf_0 21 rfl rfl)
theorem dX1_harmOf_24 : decode cX1_harmOf 24 = .ok (.ior, 1) := dk_128 (dk_at dksX1_harmOf_1 0 rfl rfl)
theorem dX1_harmOf_25 : decode cX1_harmOf 25 = .ok (.istore_n 3, 1) := dk_62 (dk_at dksX1_harmOf_1 1 rfl rfl)
theorem dX1_harmOf_26 : decode cX1_harmOf 26 = .ok (.iinc 4 1, 3) := dk_132 4 1 (dk_at dksX1_harmOf_1 2 rfl rfl)
theorem dX1_harmOf_29 : decode cX1_harmOf 29 = .ok (.goto (-24), 3) := dk_167 255 232 (dk_at dksX1_harmOf_1 5 rfl rfl)
theorem dX1_harmOf_32 : decode cX1_harmOf 32 = .ok (.aload_n 0, 1) := dk_42 (dk_at dksX1_harmOf_1 8 rfl rfl)
theorem dX1_harmOf_33 : decode cX1_harmOf 33 = .ok (.iload_n 3, 1) := dk_29 (dk_at dksX1_harmOf_1 9 rfl rfl)
theorem dX1_harmOf_34 : decode cX1_harmOf 34 = .ok (.invokevirtual 281, 3) := dk_182 1 25 (dk_at dksX1_harmOf_1 10 rfl rfl)
theorem dX1_harmOf_37 : decode cX1_harmOf 37 = .ok (.ireturn, 1) := dk_172 (dk_at dksX1_harmOf_1 13 rfl rfl)
abbrev cX1_showsOf : ByteArray := prog_1_method_38_code
def yX1_showsOf : MethodName := ⟨RX1, "showsOf", "(LGlassStreet$State;III)I"⟩
def dkwX1_showsOf_4 : List UInt8 := [21, 5, 172]
abbrev dktX1_showsOf_4 : List UInt8 := dkwX1_showsOf_4 ++ []
def dkwX1_showsOf_3 : List UInt8 := [160, 0, 18, 21, 5, 4, 25, 6, 180, 0, 187, 21, 7, 46, 120, 128, 54, 5, 132, 7, 1, 167, 255, 212]
abbrev dktX1_showsOf_3 : List UInt8 := dkwX1_showsOf_3 ++ dktX1_showsOf_4
def dkwX1_showsOf_2 : List UInt8 := [21, 7, 25, 6, 180, 0, 174, 162, 0, 40, 29, 155, 0, 15, 25, 6, 180, 0, 225, 21, 7, 46, 29]
abbrev dktX1_showsOf_2 : List UInt8 := dkwX1_showsOf_2 ++ dktX1_showsOf_3
def dkwX1_showsOf_1 : List UInt8 := [43, 28, 182, 0, 222, 154, 0, 5, 3, 172, 3, 25, 6, 180, 0, 174, 21, 4, 100, 184, 1, 17, 54, 7]
abbrev dktX1_showsOf_1 : List UInt8 := dkwX1_showsOf_1 ++ dktX1_showsOf_2
def dkwX1_showsOf_0 : List UInt8 := [3, 54, 5, 43, 180, 0, 161, 28, 50, 58, 6, 43, 28, 182, 0, 219, 153, 0, 16, 29, 155, 0, 14, 42]
abbrev dktX1_showsOf_0 : List UInt8 := dkwX1_showsOf_0 ++ dktX1_showsOf_1
theorem dksX1_showsOf_0 : cX1_showsOf.data.toList.drop 0 = dktX1_showsOf_0 := by decide +kernel
theorem dksX1_showsOf_1 : cX1_showsOf.data.toList.drop 24 = dktX1_showsOf_1 := dk_seg dksX1_showsOf_0 24 rfl rfl
theorem dksX1_showsOf_2 : cX1_showsOf.data.toList.drop 48 = dktX1_showsOf_2 := dk_seg dksX1_showsOf_1 24 rfl rfl
theorem dksX1_showsOf_3 : cX1_showsOf.data.toList.drop 71 = dktX1_showsOf_3 := dk_seg dksX1_showsOf_2 23 rfl rfl
theorem dksX1_showsOf_4 : cX1_showsOf.data.toList.drop 95 = dktX1_showsOf_4 := dk_seg dksX1_showsOf_3 24 rfl rfl
theorem dX1_showsOf_0 : decode cX1_showsOf 0 = .ok (.iconst 0, 1) := dk_3 (dk_at dksX1_showsOf_0 0 rfl rfl)
theorem dX1_showsOf_1 : decode cX1_showsOf 1 = .ok (.istore 5, 2) := dk_54 5 (dk_at dksX1_showsOf_0 1 rfl rfl)
theorem dX1_showsOf_3 : decode cX1_showsOf 3 = .ok (.aload_n 1, 1) := dk_43 (dk_at dksX1_showsOf_0 3 rfl rfl)
theorem dX1_showsOf_4 : decode cX1_showsOf 4 = .ok (.getfield 161, 3) := dk_180 0 161 (dk_at dksX1_showsOf_0 4 rfl rfl)
theorem dX1_showsOf_7 : decode cX1_showsOf 7 = .ok (.iload_n 2, 1) := dk_28 (dk_at dksX1_showsOf_0 7 rfl rfl)
theorem dX1_showsOf_8 : decode cX1_showsOf 8 = .ok (.aaload, 1) := dk_50 (dk_at dksX1_showsOf_0 8 rfl rfl)
theorem dX1_showsOf_9 : decode cX1_showsOf 9 = .ok (.astore 6, 2) := dk_58 6 (dk_at dksX1_showsOf_0 9 rfl rfl)
theorem dX1_showsOf_11 : decode cX1_showsOf 11 = .ok (.aload_n 1, 1) := dk_43 (dk_at dksX1_showsOf_0 11 rfl rfl)
theorem dX1_showsOf_12 : decode cX1_showsOf 12 = .ok (.iload_n 2, 1) := dk_28 (dk_at dksX1_showsOf_0 12 rfl rfl)
theorem dX1_showsOf_13 : decode cX1_showsOf 13 = .ok (.invokevirtual 219, 3) := dk_182 0 219 (dk_at dksX1_showsOf_0 13 rfl rfl)
theorem dX1_showsOf_16 : decode cX1_showsOf 16 = .ok (.ifCond .eq 16, 3) := dk_153 0 16 (dk_at dksX1_showsOf_0 16 rfl rfl)
theorem dX1_showsOf_19 : decode cX1_showsOf 19 = .ok (.iload_n 3, 1) := dk_29 (dk_at dksX1_showsOf_0 19 rfl rfl)
theorem dX1_showsOf_20 : decode cX1_showsOf 20 = .ok (.ifCond .lt 14, 3) := dk_155 0 14 (dk_at dksX1_showsOf_0 20 rfl rfl)
theorem dX1_showsOf_23 : decode cX1_showsOf 23 = .ok (.aload_n 0, 1) := dk_42 (dk_at dksX1_showsOf_0 23 rfl rfl)
theorem dX1_showsOf_24 : decode cX1_showsOf 24 = .ok (.aload_n 1, 1) := dk_43 (dk_at dksX1_showsOf_1 0 rfl rfl)
theorem dX1_showsOf_25 : decode cX1_showsOf 25 = .ok (.iload_n 2, 1) := dk_28 (dk_at dksX1_showsOf_1 1 rfl rfl)
theorem dX1_showsOf_26 : decode cX1_showsOf 26 = .ok (.invokevirtual 222, 3) := dk_182 0 222 (dk_at dksX1_showsOf_1 2 rfl rfl)
theorem dX1_showsOf_29 : decode cX1_showsOf 29 = .ok (.ifCond .ne 5, 3) := dk_154 0 5 (dk_at dksX1_showsOf_1 5 rfl rfl)
theorem dX1_showsOf_32 : decode cX1_showsOf 32 = .ok (.iconst 0, 1) := dk_3 (dk_at dksX1_showsOf_1 8 rfl rfl)
theorem dX1_showsOf_33 : decode cX1_showsOf 33 = .ok (.ireturn, 1) := dk_172 (dk_at dksX1_showsOf_1 9 rfl rfl)
theorem dX1_showsOf_34 : decode cX1_showsOf 34 = .ok (.iconst 0, 1) := dk_3 (dk_at dksX1_showsOf_1 10 rfl rfl)
theorem dX1_showsOf_35 : decode cX1_showsOf 35 = .ok (.aload 6, 2) := dk_25 6 (dk_at dksX1_showsOf_1 11 rfl rfl)
theorem dX1_showsOf_37 : decode cX1_showsOf 37 = .ok (.getfield 174, 3) := dk_180 0 174 (dk_at dksX1_showsOf_1 13 rfl rfl)
theorem dX1_showsOf_40 : decode cX1_showsOf 40 = .ok (.iload 4, 2) := dk_21 4 (dk_at dksX1_showsOf_1 16 rfl rfl)
theorem dX1_showsOf_42 : decode cX1_showsOf 42 = .ok (.isub, 1) := dk_100 (dk_at dksX1_showsOf_1 18 rfl rfl)
theorem dX1_showsOf_43 : decode cX1_showsOf 43 = .ok (.invokestatic 273, 3) := dk_184 1 17 (dk_at dksX1_showsOf_1 19 rfl rfl)
theorem dX1_showsOf_46 : decode cX1_showsOf 46 = .ok (.istore 7, 2) := dk_54 7 (dk_at dksX1_showsOf_1 22 rfl rfl)
theorem dX1_showsOf_48 : decode cX1_showsOf 48 = .ok (.iload 7, 2) := dk_21 7 (dk_at dksX1_showsOf_2 0 rfl rfl)
theorem dX1_showsOf_50 : decode cX1_showsOf 50 = .ok (.aload 6, 2) := dk_25 6 (dk_at dksX1_showsOf_2 2 rfl rfl)
theorem dX1_showsOf_52 : decode cX1_showsOf 52 = .ok (.getfield 174, 3) := dk_180 0 174 (dk_at dksX1_showsOf_2 4 rfl rfl)
theorem dX1_showsOf_55 : decode cX1_showsOf 55 = .ok (.if_icmp .ge 40, 3) := dk_162 0 40 (dk_at dksX1_showsOf_2 7 rfl rfl)
theorem dX1_showsOf_58 : decode cX1_showsOf 58 = .ok (.iload_n 3, 1) := dk_29 (dk_at dksX1_showsOf_2 10 rfl rfl)
theorem dX1_showsOf_59 : decode cX1_showsOf 59 = .ok (.ifCond .lt 15, 3) := dk_155 0 15 (dk_at dksX1_showsOf_2 11 rfl rfl)
theorem dX1_showsOf_62 : decode cX1_showsOf 62 = .ok (.aload 6, 2) := dk_25 6 (dk_at dksX1_showsOf_2 14 rfl rfl)
theorem dX1_showsOf_64 : decode cX1_showsOf 64 = .ok (.getfield 225, 3) := dk_180 0 225 (dk_at dksX1_showsOf_2 16 rfl rfl)
theorem dX1_showsOf_67 : decode cX1_showsOf 67 = .ok (.iload 7, 2) := dk_21 7 (dk_at dksX1_showsOf_2 19 rfl rfl)
theorem dX1_showsOf_69 : decode cX1_showsOf 69 = .ok (.iaload, 1) := dk_46 (dk_at dksX1_showsOf_2 21 rfl rfl)
theorem dX1_showsOf_70 : decode cX1_showsOf 70 = .ok (.iload_n 3, 1) := dk_29 (dk_at dksX1_showsOf_2 22 rfl rfl)
theorem dX1_showsOf_71 : decode cX1_showsOf 71 = .ok (.if_icmp .ne 18, 3) := dk_160 0 18 (dk_at dksX1_showsOf_3 0 rfl rfl)
theorem dX1_showsOf_74 : decode cX1_showsOf 74 = .ok (.iload 5, 2) := dk_21 5 (dk_at dksX1_showsOf_3 3 rfl rfl)
theorem dX1_showsOf_76 : decode cX1_showsOf 76 = .ok (.iconst 1, 1) := dk_4 (dk_at dksX1_showsOf_3 5 rfl rfl)
theorem dX1_showsOf_77 : decode cX1_showsOf 77 = .ok (.aload 6, 2) := dk_25 6 (dk_at dksX1_showsOf_3 6 rfl rfl)
theorem dX1_showsOf_79 : decode cX1_showsOf 79 = .ok (.getfield 187, 3) := dk_180 0 187 (dk_at dksX1_showsOf_3 8 rfl rfl)
theorem dX1_showsOf_82 : decode cX1_showsOf 82 = .ok (.iload 7, 2) := dk_21 7 (dk_at dksX1_showsOf_3 11 rfl rfl)
theorem dX1_showsOf_84 : decode cX1_showsOf 84 = .ok (.iaload, 1) := dk_46 (dk_at dksX1_showsOf_3 13 rfl rfl)
theorem dX1_showsOf_85 : decode cX1_showsOf 85 = .ok (.ishl, 1) := dk_120 (dk_at dksX1_showsOf_3 14 rfl rfl)
theorem dX1_showsOf_86 : decode cX1_showsOf 86 = .ok (.ior, 1) := dk_128 (dk_at dksX1_showsOf_3 15 rfl rfl)
theorem dX1_showsOf_87 : decode cX1_showsOf 87 = .ok (.istore 5, 2) := dk_54 5 (dk_at dksX1_showsOf_3 16 rfl rfl)
theorem dX1_showsOf_89 : decode cX1_showsOf 89 = .ok (.iinc 7 1, 3) := dk_132 7 1 (dk_at dksX1_showsOf_3 18 rfl rfl)
theorem dX1_showsOf_92 : decode cX1_showsOf 92 = .ok (.goto (-44), 3) := dk_167 255 212 (dk_at dksX1_showsOf_3 21 rfl rfl)
theorem dX1_showsOf_95 : decode cX1_showsOf 95 = .ok (.iload 5, 2) := dk_21 5 (dk_at dksX1_showsOf_4 0 rfl rfl)
theorem dX1_showsOf_97 : decode cX1_showsOf 97 = .ok (.ireturn, 1) := dk_172 (dk_at dksX1_showsOf_4 2 rfl rfl)
abbrev cX1_harmBy : ByteArray := prog_1_method_39_code
def yX1_harmBy : MethodName := ⟨RX1, "harmBy", "(I)I"⟩
def dkwX1_harmBy_1 : List UInt8 := [180, 0, 30, 180, 0, 184, 29, 46, 96, 61, 132, 3, 1, 167, 255, 225, 28, 172]
abbrev dktX1_harmBy_1 : List UInt8 := dkwX1_harmBy_1 ++ []
def dkwX1_harmBy_0 : List UInt8 := [3, 61, 3, 62, 29, 42, 182, 0, 129, 162, 0, 29, 27, 29, 184, 0, 9, 153, 0, 15, 28, 42]
abbrev dktX1_harmBy_0 : List UInt8 := dkwX1_harmBy_0 ++ dktX1_harmBy_1
theorem dksX1_harmBy_0 : cX1_harmBy.data.toList.drop 0 = dktX1_harmBy_0 := by decide +kernel
theorem dksX1_harmBy_1 : cX1_harmBy.data.toList.drop 22 = dktX1_harmBy_1 := dk_seg dksX1_harmBy_0 22 rfl rfl
theorem dX1_harmBy_0 : decode cX1_harmBy 0 = .ok (.iconst 0, 1) := dk_3 (dk_at dksX1_harmBy_0 0 rfl rfl)
theorem dX1_harmBy_1 : decode cX1_harmBy 1 = .ok (.istore_n 2, 1) := dk_61 (dk_at dksX1_harmBy_0 1 rfl rfl)
theorem dX1_harmBy_2 : decode cX1_harmBy 2 = .ok (.iconst 0, 1) := dk_3 (dk_at dksX1_harmBy_0 2 rfl rfl)
theorem dX1_harmBy_3 : decode cX1_harmBy 3 = .ok (.istore_n 3, 1) := dk_62 (dk_at dksX1_harmBy_0 3 rfl rfl)
theorem dX1_harmBy_4 : decode cX1_harmBy 4 = .ok (.iload_n 3, 1) := dk_29 (dk_at dksX1_harmBy_0 4 rfl rfl)
theorem dX1_harmBy_5 : decode cX1_harmBy 5 = .ok (.aload_n 0, 1) := dk_42 (dk_at dksX1_harmBy_0 5 rfl rfl)
theorem dX1_harmBy_6 : decode cX1_harmBy 6 = .ok (.invokevirtual 129, 3) := dk_182 0 129 (dk_at dksX1_harmBy_0 6 rfl rfl)
theorem dX1_harmBy_9 : decode cX1_harmBy 9 = .ok (.if_icmp .ge 29, 3) := dk_162 0 29 (dk_at dksX1_harmBy_0 9 rfl rfl)
theorem dX1_harmBy_12 : decode cX1_harmBy 12 = .ok (.iload_n 1, 1) := dk_27 (dk_at dksX1_harmBy_0 12 rfl rfl)
theorem dX1_harmBy_13 : decode cX1_harmBy 13 = .ok (.iload_n 3, 1) := dk_29 (dk_at dksX1_harmBy_0 13 rfl rfl)
theorem dX1_harmBy_14 : decode cX1_harmBy 14 = .ok (.invokestatic 9, 3) := dk_184 0 9 (dk_at dksX1_harmBy_0 14 rfl rfl)
theorem dX1_harmBy_17 : decode cX1_harmBy 17 = .ok (.ifCond .eq 15, 3) := dk_153 0 15 (dk_at dksX1_harmBy_0 17 rfl rfl)
theorem dX1_harmBy_20 : decode cX1_harmBy 20 = .ok (.iload_n 2, 1) := dk_28 (dk_at dksX1_harmBy_0 20 rfl rfl)
theorem dX1_harmBy_21 : decode cX1_harmBy 21 = .ok (.aload_n 0, 1) := dk_42 (dk_at dksX1_harmBy_0 21 rfl rfl)
theorem dX1_harmBy_22 : decode cX1_harmBy 22 = .ok (.getfield 30, 3) := dk_180 0 30 (dk_at dksX1_harmBy_1 0 rfl rfl)
theorem dX1_harmBy_25 : decode cX1_harmBy 25 = .ok (.getfield 184, 3) := dk_180 0 184 (dk_at dksX1_harmBy_1 3 rfl rfl)
theorem dX1_harmBy_28 : decode cX1_harmBy 28 = .ok (.iload_n 3, 1) := dk_29 (dk_at dksX1_harmBy_1 6 rfl rfl)
theorem dX1_harmBy_29 : decode cX1_harmBy 29 = .ok (.iaload, 1) := dk_46 (dk_at dksX1_harmBy_1 7 rfl rfl)
theorem dX1_harmBy_30 : decode cX1_harmBy 30 = .ok (.iadd, 1) := dk_96 (dk_at dksX1_harmBy_1 8 rfl rfl)
theorem dX1_harmBy_31 : decode cX1_harmBy 31 = .ok (.istore_n 2, 1) := dk_61 (dk_at dksX1_harmBy_1 9 rfl rfl)
theorem dX1_harmBy_32 : decode cX1_harmBy 32 = .ok (.iinc 3 1, 3) := dk_132 3 1 (dk_at dksX1_harmBy_1 10 rfl rfl)
theorem dX1_harmBy_35 : decode cX1_harmBy 35 = .ok (.goto (-31), 3) := dk_167 255 225 (dk_at dksX1_harmBy_1 13 rfl rfl)
theorem dX1_harmBy_38 : decode cX1_harmBy 38 = .ok (.iload_n 2, 1) := dk_28 (dk_at dksX1_harmBy_1 16 rfl rfl)
theorem dX1_harmBy_39 : decode cX1_harmBy 39 = .ok (.ireturn, 1) := dk_172 (dk_at dksX1_harmBy_1 17 rfl rfl)
abbrev cX1_shame : ByteArray := prog_1_method_42_code
def yX1_shame : MethodName := ⟨RX1, "shame", "(I)I"⟩
def dkwX1_shame_0 : List UInt8 := [42, 27, 182, 0, 231, 153, 0, 15, 42, 42, 180, 0, 46, 27, 182, 1, 28, 167, 0, 4, 2, 172]
abbrev dktX1_shame_0 : List UInt8 := dkwX1_shame_0 ++ []
theorem dksX1_shame_0 : cX1_shame.data.toList.drop 0 = dktX1_shame_0 := by decide +kernel
theorem dX1_shame_0 : decode cX1_shame 0 = .ok (.aload_n 0, 1) := dk_42 (dk_at dksX1_shame_0 0 rfl rfl)
theorem dX1_shame_1 : decode cX1_shame 1 = .ok (.iload_n 1, 1) := dk_27 (dk_at dksX1_shame_0 1 rfl rfl)
theorem dX1_shame_2 : decode cX1_shame 2 = .ok (.invokevirtual 231, 3) := dk_182 0 231 (dk_at dksX1_shame_0 2 rfl rfl)
theorem dX1_shame_5 : decode cX1_shame 5 = .ok (.ifCond .eq 15, 3) := dk_153 0 15 (dk_at dksX1_shame_0 5 rfl rfl)
theorem dX1_shame_8 : decode cX1_shame 8 = .ok (.aload_n 0, 1) := dk_42 (dk_at dksX1_shame_0 8 rfl rfl)
theorem dX1_shame_9 : decode cX1_shame 9 = .ok (.aload_n 0, 1) := dk_42 (dk_at dksX1_shame_0 9 rfl rfl)
theorem dX1_shame_10 : decode cX1_shame 10 = .ok (.getfield 46, 3) := dk_180 0 46 (dk_at dksX1_shame_0 10 rfl rfl)
theorem dX1_shame_13 : decode cX1_shame 13 = .ok (.iload_n 1, 1) := dk_27 (dk_at dksX1_shame_0 13 rfl rfl)
theorem dX1_shame_14 : decode cX1_shame 14 = .ok (.invokevirtual 284, 3) := dk_182 1 28 (dk_at dksX1_shame_0 14 rfl rfl)
theorem dX1_shame_17 : decode cX1_shame 17 = .ok (.goto 4, 3) := dk_167 0 4 (dk_at dksX1_shame_0 17 rfl rfl)
theorem dX1_shame_20 : decode cX1_shame 20 = .ok (.iconst (-1), 1) := dk_2 (dk_at dksX1_shame_0 20 rfl rfl)
theorem dX1_shame_21 : decode cX1_shame 21 = .ok (.ireturn, 1) := dk_172 (dk_at dksX1_shame_0 21 rfl rfl)
abbrev cX1_shameOf : ByteArray := prog_1_method_41_code
def yX1_shameOf : MethodName := ⟨RX1, "shameOf", "(LGlassStreet$State;I)I"⟩
def dkwX1_shameOf_1 : List UInt8 := [182, 1, 21, 128, 62, 132, 4, 1, 167, 255, 231, 42, 29, 182, 1, 25, 172]
abbrev dktX1_shameOf_1 : List UInt8 := dkwX1_shameOf_1 ++ []
def dkwX1_shameOf_0 : List UInt8 := [3, 62, 3, 54, 4, 21, 4, 42, 182, 0, 121, 162, 0, 22, 29, 42, 43, 21, 4, 28, 16, 6]
abbrev dktX1_shameOf_0 : List UInt8 := dkwX1_shameOf_0 ++ dktX1_shameOf_1
theorem dksX1_shameOf_0 : cX1_shameOf.data.toList.drop 0 = dktX1_shameOf_0 := by decide +kernel
theorem dksX1_shameOf_1 : cX1_shameOf.data.toList.drop 22 = dktX1_shameOf_1 := dk_seg dksX1_shameOf_0 22 rfl rfl
theorem dX1_shameOf_0 : decode cX1_shameOf 0 = .ok (.iconst 0, 1) := dk_3 (dk_at dksX1_shameOf_0 0 rfl rfl)
theorem dX1_shameOf_1 : decode cX1_shameOf 1 = .ok (.istore_n 3, 1) := dk_62 (dk_at dksX1_shameOf_0 1 rfl rfl)
theorem dX1_shameOf_2 : decode cX1_shameOf 2 = .ok (.iconst 0, 1) := dk_3 (dk_at dksX1_shameOf_0 2 rfl rfl)
theorem dX1_shameOf_3 : decode cX1_shameOf 3 = .ok (.istore 4, 2) := dk_54 4 (dk_at dksX1_shameOf_0 3 rfl rfl)
theorem dX1_shameOf_5 : decode cX1_shameOf 5 = .ok (.iload 4, 2) := dk_21 4 (dk_at dksX1_shameOf_0 5 rfl rfl)
theorem dX1_shameOf_7 : decode cX1_shameOf 7 = .ok (.aload_n 0, 1) := dk_42 (dk_at dksX1_shameOf_0 7 rfl rfl)
theorem dX1_shameOf_8 : decode cX1_shameOf 8 = .ok (.invokevirtual 121, 3) := dk_182 0 121 (dk_at dksX1_shameOf_0 8 rfl rfl)
theorem dX1_shameOf_11 : decode cX1_shameOf 11 = .ok (.if_icmp .ge 22, 3) := dk_162 0 22 (dk_at dksX1_shameOf_0 11 rfl rfl)
theorem dX1_shameOf_14 : decode cX1_shameOf 14 = .ok (.iload_n 3, 1) := dk_29 (dk_at dksX1_shameOf_0 14 rfl rfl)
theorem dX1_shameOf_15 : decode cX1_shameOf 15 = .ok (.aload_n 0, 1) := dk_42 (dk_at dksX1_shameOf_0 15 rfl rfl)
theorem dX1_shameOf_16 : decode cX1_shameOf 16 = .ok (.aload_n 1, 1) := dk_43 (dk_at dksX1_shameOf_0 16 rfl rfl)
theorem dX1_shameOf_17 : decode cX1_shameOf 17 = .ok (.iload 4, 2) := dk_21 4 (dk_at dksX1_shameOf_0 17 rfl rfl)
theorem dX1_shameOf_19 : decode cX1_shameOf 19 = .ok (.iload_n 2, 1) := dk_28 (dk_at dksX1_shameOf_0 19 rfl rfl)
theorem dX1_shameOf_20 : decode cX1_shameOf 20 = .ok (.bipush 6, 2) := dk_16 6 (dk_at dksX1_shameOf_0 20 rfl rfl)
theorem dX1_shameOf_22 : decode cX1_shameOf 22 = .ok (.invokevirtual 277, 3) := dk_182 1 21 (dk_at dksX1_shameOf_1 0 rfl rfl)
theorem dX1_shameOf_25 : decode cX1_shameOf 25 = .ok (.ior, 1) := dk_128 (dk_at dksX1_shameOf_1 3 rfl rfl)
theorem dX1_shameOf_26 : decode cX1_shameOf 26 = .ok (.istore_n 3, 1) := dk_62 (dk_at dksX1_shameOf_1 4 rfl rfl)
theorem dX1_shameOf_27 : decode cX1_shameOf 27 = .ok (.iinc 4 1, 3) := dk_132 4 1 (dk_at dksX1_shameOf_1 5 rfl rfl)
theorem dX1_shameOf_30 : decode cX1_shameOf 30 = .ok (.goto (-25), 3) := dk_167 255 231 (dk_at dksX1_shameOf_1 8 rfl rfl)
theorem dX1_shameOf_33 : decode cX1_shameOf 33 = .ok (.aload_n 0, 1) := dk_42 (dk_at dksX1_shameOf_1 11 rfl rfl)
theorem dX1_shameOf_34 : decode cX1_shameOf 34 = .ok (.iload_n 3, 1) := dk_29 (dk_at dksX1_shameOf_1 12 rfl rfl)
theorem dX1_shameOf_35 : decode cX1_shameOf 35 = .ok (.invokevirtual 281, 3) := dk_182 1 25 (dk_at dksX1_shameOf_1 13 rfl rfl)
theorem dX1_shameOf_38 : decode cX1_shameOf 38 = .ok (.ireturn, 1) := dk_172 (dk_at dksX1_shameOf_1 16 rfl rfl)
abbrev cX1_harm : ByteArray := prog_1_method_43_code
def yX1_harm : MethodName := ⟨RX1, "harm", "()I"⟩
def dkwX1_harm_0 : List UInt8 := [42, 42, 180, 0, 46, 16, 6, 182, 1, 14, 172]
abbrev dktX1_harm_0 : List UInt8 := dkwX1_harm_0 ++ []
theorem dksX1_harm_0 : cX1_harm.data.toList.drop 0 = dktX1_harm_0 := by decide +kernel
theorem dX1_harm_0 : decode cX1_harm 0 = .ok (.aload_n 0, 1) := dk_42 (dk_at dksX1_harm_0 0 rfl rfl)
theorem dX1_harm_1 : decode cX1_harm 1 = .ok (.aload_n 0, 1) := dk_42 (dk_at dksX1_harm_0 1 rfl rfl)
theorem dX1_harm_2 : decode cX1_harm 2 = .ok (.getfield 46, 3) := dk_180 0 46 (dk_at dksX1_harm_0 2 rfl rfl)
theorem dX1_harm_5 : decode cX1_harm 5 = .ok (.bipush 6, 2) := dk_16 6 (dk_at dksX1_harm_0 5 rfl rfl)
theorem dX1_harm_7 : decode cX1_harm 7 = .ok (.invokevirtual 270, 3) := dk_182 1 14 (dk_at dksX1_harm_0 7 rfl rfl)
theorem dX1_harm_10 : decode cX1_harm 10 = .ok (.ireturn, 1) := dk_172 (dk_at dksX1_harm_0 10 rfl rfl)
abbrev cX1_memory : ByteArray := prog_1_method_44_code
def yX1_memory : MethodName := ⟨RX1, "memory", "(I)I"⟩
def dkwX1_memory_0 : List UInt8 := [27, 4, 16, 6, 184, 0, 123, 153, 0, 15, 42, 42, 180, 0, 46, 27, 182, 1, 14, 167, 0, 4, 2, 172]
abbrev dktX1_memory_0 : List UInt8 := dkwX1_memory_0 ++ []
theorem dksX1_memory_0 : cX1_memory.data.toList.drop 0 = dktX1_memory_0 := by decide +kernel
theorem dX1_memory_0 : decode cX1_memory 0 = .ok (.iload_n 1, 1) := dk_27 (dk_at dksX1_memory_0 0 rfl rfl)
theorem dX1_memory_1 : decode cX1_memory 1 = .ok (.iconst 1, 1) := dk_4 (dk_at dksX1_memory_0 1 rfl rfl)
theorem dX1_memory_2 : decode cX1_memory 2 = .ok (.bipush 6, 2) := dk_16 6 (dk_at dksX1_memory_0 2 rfl rfl)
theorem dX1_memory_4 : decode cX1_memory 4 = .ok (.invokestatic 123, 3) := dk_184 0 123 (dk_at dksX1_memory_0 4 rfl rfl)
theorem dX1_memory_7 : decode cX1_memory 7 = .ok (.ifCond .eq 15, 3) := dk_153 0 15 (dk_at dksX1_memory_0 7 rfl rfl)
theorem dX1_memory_10 : decode cX1_memory 10 = .ok (.aload_n 0, 1) := dk_42 (dk_at dksX1_memory_0 10 rfl rfl)
theorem dX1_memory_11 : decode cX1_memory 11 = .ok (.aload_n 0, 1) := dk_42 (dk_at dksX1_memory_0 11 rfl rfl)
theorem dX1_memory_12 : decode cX1_memory 12 = .ok (.getfield 46, 3) := dk_180 0 46 (dk_at dksX1_memory_0 12 rfl rfl)
theorem dX1_memory_15 : decode cX1_memory 15 = .ok (.iload_n 1, 1) := dk_27 (dk_at dksX1_memory_0 15 rfl rfl)
theorem dX1_memory_16 : decode cX1_memory 16 = .ok (.invokevirtual 270, 3) := dk_182 1 14 (dk_at dksX1_memory_0 16 rfl rfl)
theorem dX1_memory_19 : decode cX1_memory 19 = .ok (.goto 4, 3) := dk_167 0 4 (dk_at dksX1_memory_0 19 rfl rfl)
theorem dX1_memory_22 : decode cX1_memory 22 = .ok (.iconst (-1), 1) := dk_2 (dk_at dksX1_memory_0 22 rfl rfl)
theorem dX1_memory_23 : decode cX1_memory 23 = .ok (.ireturn, 1) := dk_172 (dk_at dksX1_memory_0 23 rfl rfl)
abbrev cX1_hide : ByteArray := prog_1_method_45_code
def yX1_hide : MethodName := ⟨RX1, "hide", "(II)I"⟩
def dkwX1_hide_4 : List UInt8 := [167, 0, 13, 28, 154, 0, 8, 21, 4, 167, 0, 4, 29, 172]
abbrev dktX1_hide_4 : List UInt8 := dkwX1_hide_4 ++ []
def dkwX1_hide_3 : List UInt8 := [161, 0, 6, 167, 0, 10, 21, 5, 62, 21, 6, 54, 4, 132, 5, 1, 167, 255, 199, 29, 156, 0, 7, 2]
abbrev dktX1_hide_3 : List UInt8 := dkwX1_hide_3 ++ dktX1_hide_4
def dkwX1_hide_2 : List UInt8 := [184, 0, 238, 54, 6, 42, 42, 180, 0, 46, 21, 5, 182, 0, 158, 154, 0, 20, 21, 6, 21, 4]
abbrev dktX1_hide_2 : List UInt8 := dkwX1_hide_2 ++ dktX1_hide_3
def dkwX1_hide_1 : List UInt8 := [54, 4, 3, 54, 5, 21, 5, 16, 10, 162, 0, 56, 21, 5, 42, 180, 0, 46, 180, 0, 155, 27, 46, 100]
abbrev dktX1_hide_1 : List UInt8 := dkwX1_hide_1 ++ dktX1_hide_2
def dkwX1_hide_0 : List UInt8 := [42, 27, 182, 0, 231, 153, 0, 12, 28, 3, 4, 184, 0, 123, 154, 0, 5, 2, 172, 2, 62, 16, 10]
abbrev dktX1_hide_0 : List UInt8 := dkwX1_hide_0 ++ dktX1_hide_1
theorem dksX1_hide_0 : cX1_hide.data.toList.drop 0 = dktX1_hide_0 := by decide +kernel
theorem dksX1_hide_1 : cX1_hide.data.toList.drop 23 = dktX1_hide_1 := dk_seg dksX1_hide_0 23 rfl rfl
theorem dksX1_hide_2 : cX1_hide.data.toList.drop 47 = dktX1_hide_2 := dk_seg dksX1_hide_1 24 rfl rfl
theorem dksX1_hide_3 : cX1_hide.data.toList.drop 69 = dktX1_hide_3 := dk_seg dksX1_hide_2 22 rfl rfl
theorem dksX1_hide_4 : cX1_hide.data.toList.drop 93 = dktX1_hide_4 := dk_seg dksX1_hide_3 24 rfl rfl
theorem dX1_hide_0 : decode cX1_hide 0 = .ok (.aload_n 0, 1) := dk_42 (dk_at dksX1_hide_0 0 rfl rfl)
theorem dX1_hide_1 : decode cX1_hide 1 = .ok (.iload_n 1, 1) := dk_27 (dk_at dksX1_hide_0 1 rfl rfl)
theorem dX1_hide_2 : decode cX1_hide 2 = .ok (.invokevirtual 231, 3) := dk_182 0 231 (dk_at dksX1_hide_0 2 rfl rfl)
theorem dX1_hide_5 : decode cX1_hide 5 = .ok (.ifCond .eq 12, 3) := dk_153 0 12 (dk_at dksX1_hide_0 5 rfl rfl)
theorem dX1_hide_8 : decode cX1_hide 8 = .ok (.iload_n 2, 1) := dk_28 (dk_at dksX1_hide_0 8 rfl rfl)
theorem dX1_hide_9 : decode cX1_hide 9 = .ok (.iconst 0, 1) := dk_3 (dk_at dksX1_hide_0 9 rfl rfl)
theorem dX1_hide_10 : decode cX1_hide 10 = .ok (.iconst 1, 1) := dk_4 (dk_at dksX1_hide_0 10 rfl rfl)
theorem dX1_hide_11 : decode cX1_hide 11 = .ok (.invokestatic 123, 3) := dk_184 0 123 (dk_at dksX1_hide_0 11 rfl rfl)
theorem dX1_hide_14 : decode cX1_hide 14 = .ok (.ifCond .ne 5, 3) := dk_154 0 5 (dk_at dksX1_hide_0 14 rfl rfl)
theorem dX1_hide_17 : decode cX1_hide 17 = .ok (.iconst (-1), 1) := dk_2 (dk_at dksX1_hide_0 17 rfl rfl)
theorem dX1_hide_18 : decode cX1_hide 18 = .ok (.ireturn, 1) := dk_172 (dk_at dksX1_hide_0 18 rfl rfl)
theorem dX1_hide_19 : decode cX1_hide 19 = .ok (.iconst (-1), 1) := dk_2 (dk_at dksX1_hide_0 19 rfl rfl)
theorem dX1_hide_20 : decode cX1_hide 20 = .ok (.istore_n 3, 1) := dk_62 (dk_at dksX1_hide_0 20 rfl rfl)
theorem dX1_hide_21 : decode cX1_hide 21 = .ok (.bipush 10, 2) := dk_16 10 (dk_at dksX1_hide_0 21 rfl rfl)
theorem dX1_hide_23 : decode cX1_hide 23 = .ok (.istore 4, 2) := dk_54 4 (dk_at dksX1_hide_1 0 rfl rfl)
theorem dX1_hide_25 : decode cX1_hide 25 = .ok (.iconst 0, 1) := dk_3 (dk_at dksX1_hide_1 2 rfl rfl)
theorem dX1_hide_26 : decode cX1_hide 26 = .ok (.istore 5, 2) := dk_54 5 (dk_at dksX1_hide_1 3 rfl rfl)
theorem dX1_hide_28 : decode cX1_hide 28 = .ok (.iload 5, 2) := dk_21 5 (dk_at dksX1_hide_1 5 rfl rfl)
theorem dX1_hide_30 : decode cX1_hide 30 = .ok (.bipush 10, 2) := dk_16 10 (dk_at dksX1_hide_1 7 rfl rfl)
theorem dX1_hide_32 : decode cX1_hide 32 = .ok (.if_icmp .ge 56, 3) := dk_162 0 56 (dk_at dksX1_hide_1 9 rfl rfl)
theorem dX1_hide_35 : decode cX1_hide 35 = .ok (.iload 5, 2) := dk_21 5 (dk_at dksX1_hide_1 12 rfl rfl)
theorem dX1_hide_37 : decode cX1_hide 37 = .ok (.aload_n 0, 1) := dk_42 (dk_at dksX1_hide_1 14 rfl rfl)
theorem dX1_hide_38 : decode cX1_hide 38 = .ok (.getfield 46, 3) := dk_180 0 46 (dk_at dksX1_hide_1 15 rfl rfl)
theorem dX1_hide_41 : decode cX1_hide 41 = .ok (.getfield 155, 3) := dk_180 0 155 (dk_at dksX1_hide_1 18 rfl rfl)
theorem dX1_hide_44 : decode cX1_hide 44 = .ok (.iload_n 1, 1) := dk_27 (dk_at dksX1_hide_1 21 rfl rfl)
theorem dX1_hide_45 : decode cX1_hide 45 = .ok (.iaload, 1) := dk_46 (dk_at dksX1_hide_1 22 rfl rfl)
theorem dX1_hide_46 : decode cX1_hide 46 = .ok (.isub, 1) := dk_100 (dk_at dksX1_hide_1 23 rfl rfl)
theorem dX1_hide_47 : decode cX1_hide 47 = .ok (.invokestatic 238, 3) := dk_184 0 238 (dk_at dksX1_hide_2 0 rfl rfl)
theorem dX1_hide_50 : decode cX1_hide 50 = .ok (.istore 6, 2) := dk_54 6 (dk_at dksX1_hide_2 3 rfl rfl)
theorem dX1_hide_52 : decode cX1_hide 52 = .ok (.aload_n 0, 1) := dk_42 (dk_at dksX1_hide_2 5 rfl rfl)
theorem dX1_hide_53 : decode cX1_hide 53 = .ok (.aload_n 0, 1) := dk_42 (dk_at dksX1_hide_2 6 rfl rfl)
theorem dX1_hide_54 : decode cX1_hide 54 = .ok (.getfield 46, 3) := dk_180 0 46 (dk_at dksX1_hide_2 7 rfl rfl)
theorem dX1_hide_57 : decode cX1_hide 57 = .ok (.iload 5, 2) := dk_21 5 (dk_at dksX1_hide_2 10 rfl rfl)
theorem dX1_hide_59 : decode cX1_hide 59 = .ok (.invokevirtual 158, 3) := dk_182 0 158 (dk_at dksX1_hide_2 12 rfl rfl)
theorem dX1_hide_62 : decode cX1_hide 62 = .ok (.ifCond .ne 20, 3) := dk_154 0 20 (dk_at dksX1_hide_2 15 rfl rfl)
theorem dX1_hide_65 : decode cX1_hide 65 = .ok (.iload 6, 2) := dk_21 6 (dk_at dksX1_hide_2 18 rfl rfl)
theorem dX1_hide_67 : decode cX1_hide 67 = .ok (.iload 4, 2) := dk_21 4 (dk_at dksX1_hide_2 20 rfl rfl)
theorem dX1_hide_69 : decode cX1_hide 69 = .ok (.if_icmp .lt 6, 3) := dk_161 0 6 (dk_at dksX1_hide_3 0 rfl rfl)
theorem dX1_hide_72 : decode cX1_hide 72 = .ok (.goto 10, 3) := dk_167 0 10 (dk_at dksX1_hide_3 3 rfl rfl)
theorem dX1_hide_75 : decode cX1_hide 75 = .ok (.iload 5, 2) := dk_21 5 (dk_at dksX1_hide_3 6 rfl rfl)
theorem dX1_hide_77 : decode cX1_hide 77 = .ok (.istore_n 3, 1) := dk_62 (dk_at dksX1_hide_3 8 rfl rfl)
theorem dX1_hide_78 : decode cX1_hide 78 = .ok (.iload 6, 2) := dk_21 6 (dk_at dksX1_hide_3 9 rfl rfl)
theorem dX1_hide_80 : decode cX1_hide 80 = .ok (.istore 4, 2) := dk_54 4 (dk_at dksX1_hide_3 11 rfl rfl)
theorem dX1_hide_82 : decode cX1_hide 82 = .ok (.iinc 5 1, 3) := dk_132 5 1 (dk_at dksX1_hide_3 13 rfl rfl)
theorem dX1_hide_85 : decode cX1_hide 85 = .ok (.goto (-57), 3) := dk_167 255 199 (dk_at dksX1_hide_3 16 rfl rfl)
theorem dX1_hide_88 : decode cX1_hide 88 = .ok (.iload_n 3, 1) := dk_29 (dk_at dksX1_hide_3 19 rfl rfl)
theorem dX1_hide_89 : decode cX1_hide 89 = .ok (.ifCond .ge 7, 3) := dk_156 0 7 (dk_at dksX1_hide_3 20 rfl rfl)
theorem dX1_hide_92 : decode cX1_hide 92 = .ok (.iconst (-1), 1) := dk_2 (dk_at dksX1_hide_3 23 rfl rfl)
theorem dX1_hide_93 : decode cX1_hide 93 = .ok (.goto 13, 3) := dk_167 0 13 (dk_at dksX1_hide_4 0 rfl rfl)
theorem dX1_hide_96 : decode cX1_hide 96 = .ok (.iload_n 2, 1) := dk_28 (dk_at dksX1_hide_4 3 rfl rfl)
theorem dX1_hide_97 : decode cX1_hide 97 = .ok (.ifCond .ne 8, 3) := dk_154 0 8 (dk_at dksX1_hide_4 4 rfl rfl)
theorem dX1_hide_100 : decode cX1_hide 100 = .ok (.iload 4, 2) := dk_21 4 (dk_at dksX1_hide_4 7 rfl rfl)
theorem dX1_hide_102 : decode cX1_hide 102 = .ok (.goto 4, 3) := dk_167 0 4 (dk_at dksX1_hide_4 9 rfl rfl)
theorem dX1_hide_105 : decode cX1_hide 105 = .ok (.iload_n 3, 1) := dk_29 (dk_at dksX1_hide_4 12 rfl rfl)
theorem dX1_hide_106 : decode cX1_hide 106 = .ok (.ireturn, 1) := dk_172 (dk_at dksX1_hide_4 13 rfl rfl)
abbrev cX1_proof : ByteArray := prog_1_method_46_code
def yX1_proof : MethodName := ⟨RX1, "proof", "(II)I"⟩
def dkwX1_proof_5 : List UInt8 := [132, 4, 1, 167, 255, 165, 29, 172]
abbrev dktX1_proof_5 : List UInt8 := dkwX1_proof_5 ++ []
def dkwX1_proof_4 : List UInt8 := [130, 126, 154, 0, 22, 29, 155, 0, 15, 21, 4, 184, 1, 31, 29, 184, 1, 31, 162, 0, 6, 21, 4, 62]
abbrev dktX1_proof_4 : List UInt8 := dkwX1_proof_4 ++ dktX1_proof_5
def dkwX1_proof_3 : List UInt8 := [180, 0, 46, 21, 6, 27, 16, 6, 182, 1, 21, 128, 54, 5, 132, 6, 1, 167, 255, 216, 28, 21, 5, 2]
abbrev dktX1_proof_3 : List UInt8 := dkwX1_proof_3 ++ dktX1_proof_4
def dkwX1_proof_2 : List UInt8 := [21, 6, 42, 182, 0, 121, 162, 0, 37, 21, 4, 21, 6, 184, 0, 9, 153, 0, 21, 21, 5, 42, 42]
abbrev dktX1_proof_2 : List UInt8 := dkwX1_proof_2 ++ dktX1_proof_3
def dkwX1_proof_1 : List UInt8 := [2, 172, 2, 62, 3, 54, 4, 21, 4, 4, 42, 182, 0, 121, 120, 162, 0, 86, 3, 54, 5, 3, 54, 6]
abbrev dktX1_proof_1 : List UInt8 := dkwX1_proof_1 ++ dktX1_proof_2
def dkwX1_proof_0 : List UInt8 := [42, 27, 182, 0, 231, 153, 0, 19, 28, 3, 4, 42, 182, 0, 129, 120, 4, 100, 184, 0, 123, 154, 0, 5]
abbrev dktX1_proof_0 : List UInt8 := dkwX1_proof_0 ++ dktX1_proof_1
theorem dksX1_proof_0 : cX1_proof.data.toList.drop 0 = dktX1_proof_0 := by decide +kernel
theorem dksX1_proof_1 : cX1_proof.data.toList.drop 24 = dktX1_proof_1 := dk_seg dksX1_proof_0 24 rfl rfl
theorem dksX1_proof_2 : cX1_proof.data.toList.drop 48 = dktX1_proof_2 := dk_seg dksX1_proof_1 24 rfl rfl
theorem dksX1_proof_3 : cX1_proof.data.toList.drop 71 = dktX1_proof_3 := dk_seg dksX1_proof_2 23 rfl rfl
theorem dksX1_proof_4 : cX1_proof.data.toList.drop 95 = dktX1_proof_4 := dk_seg dksX1_proof_3 24 rfl rfl
theorem dksX1_proof_5 : cX1_proof.data.toList.drop 119 = dktX1_proof_5 := dk_seg dksX1_proof_4 24 rfl rfl
theorem dX1_proof_0 : decode cX1_proof 0 = .ok (.aload_n 0, 1) := dk_42 (dk_at dksX1_proof_0 0 rfl rfl)
theorem dX1_proof_1 : decode cX1_proof 1 = .ok (.iload_n 1, 1) := dk_27 (dk_at dksX1_proof_0 1 rfl rfl)
theorem dX1_proof_2 : decode cX1_proof 2 = .ok (.invokevirtual 231, 3) := dk_182 0 231 (dk_at dksX1_proof_0 2 rfl rfl)
theorem dX1_proof_5 : decode cX1_proof 5 = .ok (.ifCond .eq 19, 3) := dk_153 0 19 (dk_at dksX1_proof_0 5 rfl rfl)
theorem dX1_proof_8 : decode cX1_proof 8 = .ok (.iload_n 2, 1) := dk_28 (dk_at dksX1_proof_0 8 rfl rfl)
theorem dX1_proof_9 : decode cX1_proof 9 = .ok (.iconst 0, 1) := dk_3 (dk_at dksX1_proof_0 9 rfl rfl)
theorem dX1_proof_10 : decode cX1_proof 10 = .ok (.iconst 1, 1) := dk_4 (dk_at dksX1_proof_0 10 rfl rfl)
theorem dX1_proof_11 : decode cX1_proof 11 = .ok (.aload_n 0, 1) := dk_42 (dk_at dksX1_proof_0 11 rfl rfl)
theorem dX1_proof_12 : decode cX1_proof 12 = .ok (.invokevirtual 129, 3) := dk_182 0 129 (dk_at dksX1_proof_0 12 rfl rfl)
theorem dX1_proof_15 : decode cX1_proof 15 = .ok (.ishl, 1) := dk_120 (dk_at dksX1_proof_0 15 rfl rfl)
theorem dX1_proof_16 : decode cX1_proof 16 = .ok (.iconst 1, 1) := dk_4 (dk_at dksX1_proof_0 16 rfl rfl)
theorem dX1_proof_17 : decode cX1_proof 17 = .ok (.isub, 1) := dk_100 (dk_at dksX1_proof_0 17 rfl rfl)
theorem dX1_proof_18 : decode cX1_proof 18 = .ok (.invokestatic 123, 3) := dk_184 0 123 (dk_at dksX1_proof_0 18 rfl rfl)
theorem dX1_proof_21 : decode cX1_proof 21 = .ok (.ifCond .ne 5, 3) := dk_154 0 5 (dk_at dksX1_proof_0 21 rfl rfl)
theorem dX1_proof_24 : decode cX1_proof 24 = .ok (.iconst (-1), 1) := dk_2 (dk_at dksX1_proof_1 0 rfl rfl)
theorem dX1_proof_25 : decode cX1_proof 25 = .ok (.ireturn, 1) := dk_172 (dk_at dksX1_proof_1 1 rfl rfl)
theorem dX1_proof_26 : decode cX1_proof 26 = .ok (.iconst (-1), 1) := dk_2 (dk_at dksX1_proof_1 2 rfl rfl)
theorem dX1_proof_27 : decode cX1_proof 27 = .ok (.istore_n 3, 1) := dk_62 (dk_at dksX1_proof_1 3 rfl rfl)
theorem dX1_proof_28 : decode cX1_proof 28 = .ok (.iconst 0, 1) := dk_3 (dk_at dksX1_proof_1 4 rfl rfl)
theorem dX1_proof_29 : decode cX1_proof 29 = .ok (.istore 4, 2) := dk_54 4 (dk_at dksX1_proof_1 5 rfl rfl)
theorem dX1_proof_31 : decode cX1_proof 31 = .ok (.iload 4, 2) := dk_21 4 (dk_at dksX1_proof_1 7 rfl rfl)
theorem dX1_proof_33 : decode cX1_proof 33 = .ok (.iconst 1, 1) := dk_4 (dk_at dksX1_proof_1 9 rfl rfl)
theorem dX1_proof_34 : decode cX1_proof 34 = .ok (.aload_n 0, 1) := dk_42 (dk_at dksX1_proof_1 10 rfl rfl)
theorem dX1_proof_35 : decode cX1_proof 35 = .ok (.invokevirtual 121, 3) := dk_182 0 121 (dk_at dksX1_proof_1 11 rfl rfl)
theorem dX1_proof_38 : decode cX1_proof 38 = .ok (.ishl, 1) := dk_120 (dk_at dksX1_proof_1 14 rfl rfl)
theorem dX1_proof_39 : decode cX1_proof 39 = .ok (.if_icmp .ge 86, 3) := dk_162 0 86 (dk_at dksX1_proof_1 15 rfl rfl)
theorem dX1_proof_42 : decode cX1_proof 42 = .ok (.iconst 0, 1) := dk_3 (dk_at dksX1_proof_1 18 rfl rfl)
theorem dX1_proof_43 : decode cX1_proof 43 = .ok (.istore 5, 2) := dk_54 5 (dk_at dksX1_proof_1 19 rfl rfl)
theorem dX1_proof_45 : decode cX1_proof 45 = .ok (.iconst 0, 1) := dk_3 (dk_at dksX1_proof_1 21 rfl rfl)
theorem dX1_proof_46 : decode cX1_proof 46 = .ok (.istore 6, 2) := dk_54 6 (dk_at dksX1_proof_1 22 rfl rfl)
theorem dX1_proof_48 : decode cX1_proof 48 = .ok (.iload 6, 2) := dk_21 6 (dk_at dksX1_proof_2 0 rfl rfl)
theorem dX1_proof_50 : decode cX1_proof 50 = .ok (.aload_n 0, 1) := dk_42 (dk_at dksX1_proof_2 2 rfl rfl)
theorem dX1_proof_51 : decode cX1_proof 51 = .ok (.invokevirtual 121, 3) := dk_182 0 121 (dk_at dksX1_proof_2 3 rfl rfl)
theorem dX1_proof_54 : decode cX1_proof 54 = .ok (.if_icmp .ge 37, 3) := dk_162 0 37 (dk_at dksX1_proof_2 6 rfl rfl)
theorem dX1_proof_57 : decode cX1_proof 57 = .ok (.iload 4, 2) := dk_21 4 (dk_at dksX1_proof_2 9 rfl rfl)
theorem dX1_proof_59 : decode cX1_proof 59 = .ok (.iload 6, 2) := dk_21 6 (dk_at dksX1_proof_2 11 rfl rfl)
theorem dX1_proof_61 : decode cX1_proof 61 = .ok (.invokestatic 9, 3) := dk_184 0 9 (dk_at dksX1_proof_2 13 rfl rfl)
theorem dX1_proof_64 : decode cX1_proof 64 = .ok (.ifCond .eq 21, 3) := dk_153 0 21 (dk_at dksX1_proof_2 16 rfl rfl)
theorem dX1_proof_67 : decode cX1_proof 67 = .ok (.iload 5, 2) := dk_21 5 (dk_at dksX1_proof_2 19 rfl rfl)
theorem dX1_proof_69 : decode cX1_proof 69 = .ok (.aload_n 0, 1) := dk_42 (dk_at dksX1_proof_2 21 rfl rfl)
theorem dX1_proof_70 : decode cX1_proof 70 = .ok (.aload_n 0, 1) := dk_42 (dk_at dksX1_proof_2 22 rfl rfl)
theorem dX1_proof_71 : decode cX1_proof 71 = .ok (.getfield 46, 3) := dk_180 0 46 (dk_at dksX1_proof_3 0 rfl rfl)
theorem dX1_proof_74 : decode cX1_proof 74 = .ok (.iload 6, 2) := dk_21 6 (dk_at dksX1_proof_3 3 rfl rfl)
theorem dX1_proof_76 : decode cX1_proof 76 = .ok (.iload_n 1, 1) := dk_27 (dk_at dksX1_proof_3 5 rfl rfl)
theorem dX1_proof_77 : decode cX1_proof 77 = .ok (.bipush 6, 2) := dk_16 6 (dk_at dksX1_proof_3 6 rfl rfl)
theorem dX1_proof_79 : decode cX1_proof 79 = .ok (.invokevirtual 277, 3) := dk_182 1 21 (dk_at dksX1_proof_3 8 rfl rfl)
theorem dX1_proof_82 : decode cX1_proof 82 = .ok (.ior, 1) := dk_128 (dk_at dksX1_proof_3 11 rfl rfl)
theorem dX1_proof_83 : decode cX1_proof 83 = .ok (.istore 5, 2) := dk_54 5 (dk_at dksX1_proof_3 12 rfl rfl)
theorem dX1_proof_85 : decode cX1_proof 85 = .ok (.iinc 6 1, 3) := dk_132 6 1 (dk_at dksX1_proof_3 14 rfl rfl)
theorem dX1_proof_88 : decode cX1_proof 88 = .ok (.goto (-40), 3) := dk_167 255 216 (dk_at dksX1_proof_3 17 rfl rfl)
theorem dX1_proof_91 : decode cX1_proof 91 = .ok (.iload_n 2, 1) := dk_28 (dk_at dksX1_proof_3 20 rfl rfl)
theorem dX1_proof_92 : decode cX1_proof 92 = .ok (.iload 5, 2) := dk_21 5 (dk_at dksX1_proof_3 21 rfl rfl)
theorem dX1_proof_94 : decode cX1_proof 94 = .ok (.iconst (-1), 1) := dk_2 (dk_at dksX1_proof_3 23 rfl rfl)
theorem dX1_proof_95 : decode cX1_proof 95 = .ok (.ixor, 1) := dk_130 (dk_at dksX1_proof_4 0 rfl rfl)
theorem dX1_proof_96 : decode cX1_proof 96 = .ok (.iand, 1) := dk_126 (dk_at dksX1_proof_4 1 rfl rfl)
theorem dX1_proof_97 : decode cX1_proof 97 = .ok (.ifCond .ne 22, 3) := dk_154 0 22 (dk_at dksX1_proof_4 2 rfl rfl)
theorem dX1_proof_100 : decode cX1_proof 100 = .ok (.iload_n 3, 1) := dk_29 (dk_at dksX1_proof_4 5 rfl rfl)
theorem dX1_proof_101 : decode cX1_proof 101 = .ok (.ifCond .lt 15, 3) := dk_155 0 15 (dk_at dksX1_proof_4 6 rfl rfl)
theorem dX1_proof_104 : decode cX1_proof 104 = .ok (.iload 4, 2) := dk_21 4 (dk_at dksX1_proof_4 9 rfl rfl)
theorem dX1_proof_106 : decode cX1_proof 106 = .ok (.invokestatic 287, 3) := dk_184 1 31 (dk_at dksX1_proof_4 11 rfl rfl)
theorem dX1_proof_109 : decode cX1_proof 109 = .ok (.iload_n 3, 1) := dk_29 (dk_at dksX1_proof_4 14 rfl rfl)
theorem dX1_proof_110 : decode cX1_proof 110 = .ok (.invokestatic 287, 3) := dk_184 1 31 (dk_at dksX1_proof_4 15 rfl rfl)
theorem dX1_proof_113 : decode cX1_proof 113 = .ok (.if_icmp .ge 6, 3) := dk_162 0 6 (dk_at dksX1_proof_4 18 rfl rfl)
theorem dX1_proof_116 : decode cX1_proof 116 = .ok (.iload 4, 2) := dk_21 4 (dk_at dksX1_proof_4 21 rfl rfl)
theorem dX1_proof_118 : decode cX1_proof 118 = .ok (.istore_n 3, 1) := dk_62 (dk_at dksX1_proof_4 23 rfl rfl)
theorem dX1_proof_119 : decode cX1_proof 119 = .ok (.iinc 4 1, 3) := dk_132 4 1 (dk_at dksX1_proof_5 0 rfl rfl)
theorem dX1_proof_122 : decode cX1_proof 122 = .ok (.goto (-91), 3) := dk_167 255 165 (dk_at dksX1_proof_5 3 rfl rfl)
theorem dX1_proof_125 : decode cX1_proof 125 = .ok (.iload_n 3, 1) := dk_29 (dk_at dksX1_proof_5 6 rfl rfl)
theorem dX1_proof_126 : decode cX1_proof 126 = .ok (.ireturn, 1) := dk_172 (dk_at dksX1_proof_5 7 rfl rfl)
abbrev cX1_washes : ByteArray := prog_1_method_47_code
def yX1_washes : MethodName := ⟨RX1, "washes", "(II)I"⟩
def dkwX1_washes_4 : List UInt8 := [21, 6, 100, 96, 62, 132, 4, 1, 167, 255, 178, 29, 172]
abbrev dktX1_washes_4 : List UInt8 := dkwX1_washes_4 ++ []
def dkwX1_washes_3 : List UInt8 := [132, 6, 1, 167, 255, 231, 42, 180, 0, 46, 21, 4, 182, 0, 131, 153, 0, 14, 29, 25, 5, 180, 0, 174]
abbrev dktX1_washes_3 : List UInt8 := dkwX1_washes_3 ++ dktX1_washes_4
def dkwX1_washes_2 : List UInt8 := [21, 6, 25, 5, 180, 0, 174, 162, 0, 21, 25, 5, 21, 6, 27, 28, 182, 1, 36, 154, 0, 9]
abbrev dktX1_washes_2 : List UInt8 := dkwX1_washes_2 ++ dktX1_washes_3
def dkwX1_washes_1 : List UInt8 := [21, 4, 42, 182, 0, 121, 162, 0, 75, 42, 180, 0, 46, 180, 0, 161, 21, 4, 50, 58, 5, 3, 54, 6]
abbrev dktX1_washes_1 : List UInt8 := dkwX1_washes_1 ++ dktX1_washes_2
def dkwX1_washes_0 : List UInt8 := [42, 27, 182, 0, 231, 153, 0, 11, 42, 28, 182, 0, 245, 154, 0, 5, 2, 172, 3, 62, 3, 54, 4]
abbrev dktX1_washes_0 : List UInt8 := dkwX1_washes_0 ++ dktX1_washes_1
theorem dksX1_washes_0 : cX1_washes.data.toList.drop 0 = dktX1_washes_0 := by decide +kernel
theorem dksX1_washes_1 : cX1_washes.data.toList.drop 23 = dktX1_washes_1 := dk_seg dksX1_washes_0 23 rfl rfl
theorem dksX1_washes_2 : cX1_washes.data.toList.drop 47 = dktX1_washes_2 := dk_seg dksX1_washes_1 24 rfl rfl
theorem dksX1_washes_3 : cX1_washes.data.toList.drop 69 = dktX1_washes_3 := dk_seg dksX1_washes_2 22 rfl rfl
theorem dksX1_washes_4 : cX1_washes.data.toList.drop 93 = dktX1_washes_4 := dk_seg dksX1_washes_3 24 rfl rfl
theorem dX1_washes_0 : decode cX1_washes 0 = .ok (.aload_n 0, 1) := dk_42 (dk_at dksX1_washes_0 0 rfl rfl)
theorem dX1_washes_1 : decode cX1_washes 1 = .ok (.iload_n 1, 1) := dk_27 (dk_at dksX1_washes_0 1 rfl rfl)
theorem dX1_washes_2 : decode cX1_washes 2 = .ok (.invokevirtual 231, 3) := dk_182 0 231 (dk_at dksX1_washes_0 2 rfl rfl)
theorem dX1_washes_5 : decode cX1_washes 5 = .ok (.ifCond .eq 11, 3) := dk_153 0 11 (dk_at dksX1_washes_0 5 rfl rfl)
theorem dX1_washes_8 : decode cX1_washes 8 = .ok (.aload_n 0, 1) := dk_42 (dk_at dksX1_washes_0 8 rfl rfl)
theorem dX1_washes_9 : decode cX1_washes 9 = .ok (.iload_n 2, 1) := dk_28 (dk_at dksX1_washes_0 9 rfl rfl)
theorem dX1_washes_10 : decode cX1_washes 10 = .ok (.invokevirtual 245, 3) := dk_182 0 245 (dk_at dksX1_washes_0 10 rfl rfl)
theorem dX1_washes_13 : decode cX1_washes 13 = .ok (.ifCond .ne 5, 3) := dk_154 0 5 (dk_at dksX1_washes_0 13 rfl rfl)
theorem dX1_washes_16 : decode cX1_washes 16 = .ok (.iconst (-1), 1) := dk_2 (dk_at dksX1_washes_0 16 rfl rfl)
theorem dX1_washes_17 : decode cX1_washes 17 = .ok (.ireturn, 1) := dk_172 (dk_at dksX1_washes_0 17 rfl rfl)
theorem dX1_washes_18 : decode cX1_washes 18 = .ok (.iconst 0, 1) := dk_3 (dk_at dksX1_washes_0 18 rfl rfl)
theorem dX1_washes_19 : decode cX1_washes 19 = .ok (.istore_n 3, 1) := dk_62 (dk_at dksX1_washes_0 19 rfl rfl)
theorem dX1_washes_20 : decode cX1_washes 20 = .ok (.iconst 0, 1) := dk_3 (dk_at dksX1_washes_0 20 rfl rfl)
theorem dX1_washes_21 : decode cX1_washes 21 = .ok (.istore 4, 2) := dk_54 4 (dk_at dksX1_washes_0 21 rfl rfl)
theorem dX1_washes_23 : decode cX1_washes 23 = .ok (.iload 4, 2) := dk_21 4 (dk_at dksX1_washes_1 0 rfl rfl)
theorem dX1_washes_25 : decode cX1_washes 25 = .ok (.aload_n 0, 1) := dk_42 (dk_at dksX1_washes_1 2 rfl rfl)
theorem dX1_washes_26 : decode cX1_washes 26 = .ok (.invokevirtual 121, 3) := dk_182 0 121 (dk_at dksX1_washes_1 3 rfl rfl)
theorem dX1_washes_29 : decode cX1_washes 29 = .ok (.if_icmp .ge 75, 3) := dk_162 0 75 (dk_at dksX1_washes_1 6 rfl rfl)
theorem dX1_washes_32 : decode cX1_washes 32 = .ok (.aload_n 0, 1) := dk_42 (dk_at dksX1_washes_1 9 rfl rfl)
theorem dX1_washes_33 : decode cX1_washes 33 = .ok (.getfield 46, 3) := dk_180 0 46 (dk_at dksX1_washes_1 10 rfl rfl)
theorem dX1_washes_36 : decode cX1_washes 36 = .ok (.getfield 161, 3) := dk_180 0 161 (dk_at dksX1_washes_1 13 rfl rfl)
theorem dX1_washes_39 : decode cX1_washes 39 = .ok (.iload 4, 2) := dk_21 4 (dk_at dksX1_washes_1 16 rfl rfl)
theorem dX1_washes_41 : decode cX1_washes 41 = .ok (.aaload, 1) := dk_50 (dk_at dksX1_washes_1 18 rfl rfl)
theorem dX1_washes_42 : decode cX1_washes 42 = .ok (.astore 5, 2) := dk_58 5 (dk_at dksX1_washes_1 19 rfl rfl)
theorem dX1_washes_44 : decode cX1_washes 44 = .ok (.iconst 0, 1) := dk_3 (dk_at dksX1_washes_1 21 rfl rfl)
theorem dX1_washes_45 : decode cX1_washes 45 = .ok (.istore 6, 2) := dk_54 6 (dk_at dksX1_washes_1 22 rfl rfl)
theorem dX1_washes_47 : decode cX1_washes 47 = .ok (.iload 6, 2) := dk_21 6 (dk_at dksX1_washes_2 0 rfl rfl)
theorem dX1_washes_49 : decode cX1_washes 49 = .ok (.aload 5, 2) := dk_25 5 (dk_at dksX1_washes_2 2 rfl rfl)
theorem dX1_washes_51 : decode cX1_washes 51 = .ok (.getfield 174, 3) := dk_180 0 174 (dk_at dksX1_washes_2 4 rfl rfl)
theorem dX1_washes_54 : decode cX1_washes 54 = .ok (.if_icmp .ge 21, 3) := dk_162 0 21 (dk_at dksX1_washes_2 7 rfl rfl)
theorem dX1_washes_57 : decode cX1_washes 57 = .ok (.aload 5, 2) := dk_25 5 (dk_at dksX1_washes_2 10 rfl rfl)
theorem dX1_washes_59 : decode cX1_washes 59 = .ok (.iload 6, 2) := dk_21 6 (dk_at dksX1_washes_2 12 rfl rfl)
theorem dX1_washes_61 : decode cX1_washes 61 = .ok (.iload_n 1, 1) := dk_27 (dk_at dksX1_washes_2 14 rfl rfl)
theorem dX1_washes_62 : decode cX1_washes 62 = .ok (.iload_n 2, 1) := dk_28 (dk_at dksX1_washes_2 15 rfl rfl)
theorem dX1_washes_63 : decode cX1_washes 63 = .ok (.invokevirtual 292, 3) := dk_182 1 36 (dk_at dksX1_washes_2 16 rfl rfl)
theorem dX1_washes_66 : decode cX1_washes 66 = .ok (.ifCond .ne 9, 3) := dk_154 0 9 (dk_at dksX1_washes_2 19 rfl rfl)
theorem dX1_washes_69 : decode cX1_washes 69 = .ok (.iinc 6 1, 3) := dk_132 6 1 (dk_at dksX1_washes_3 0 rfl rfl)
theorem dX1_washes_72 : decode cX1_washes 72 = .ok (.goto (-25), 3) := dk_167 255 231 (dk_at dksX1_washes_3 3 rfl rfl)
theorem dX1_washes_75 : decode cX1_washes 75 = .ok (.aload_n 0, 1) := dk_42 (dk_at dksX1_washes_3 6 rfl rfl)
theorem dX1_washes_76 : decode cX1_washes 76 = .ok (.getfield 46, 3) := dk_180 0 46 (dk_at dksX1_washes_3 7 rfl rfl)
theorem dX1_washes_79 : decode cX1_washes 79 = .ok (.iload 4, 2) := dk_21 4 (dk_at dksX1_washes_3 10 rfl rfl)
theorem dX1_washes_81 : decode cX1_washes 81 = .ok (.invokevirtual 131, 3) := dk_182 0 131 (dk_at dksX1_washes_3 12 rfl rfl)
theorem dX1_washes_84 : decode cX1_washes 84 = .ok (.ifCond .eq 14, 3) := dk_153 0 14 (dk_at dksX1_washes_3 15 rfl rfl)
theorem dX1_washes_87 : decode cX1_washes 87 = .ok (.iload_n 3, 1) := dk_29 (dk_at dksX1_washes_3 18 rfl rfl)
theorem dX1_washes_88 : decode cX1_washes 88 = .ok (.aload 5, 2) := dk_25 5 (dk_at dksX1_washes_3 19 rfl rfl)
theorem dX1_washes_90 : decode cX1_washes 90 = .ok (.getfield 174, 3) := dk_180 0 174 (dk_at dksX1_washes_3 21 rfl rfl)
theorem dX1_washes_93 : decode cX1_washes 93 = .ok (.iload 6, 2) := dk_21 6 (dk_at dksX1_washes_4 0 rfl rfl)
theorem dX1_washes_95 : decode cX1_washes 95 = .ok (.isub, 1) := dk_100 (dk_at dksX1_washes_4 2 rfl rfl)
theorem dX1_washes_96 : decode cX1_washes 96 = .ok (.iadd, 1) := dk_96 (dk_at dksX1_washes_4 3 rfl rfl)
theorem dX1_washes_97 : decode cX1_washes 97 = .ok (.istore_n 3, 1) := dk_62 (dk_at dksX1_washes_4 4 rfl rfl)
theorem dX1_washes_98 : decode cX1_washes 98 = .ok (.iinc 4 1, 3) := dk_132 4 1 (dk_at dksX1_washes_4 5 rfl rfl)
theorem dX1_washes_101 : decode cX1_washes 101 = .ok (.goto (-78), 3) := dk_167 255 178 (dk_at dksX1_washes_4 8 rfl rfl)
theorem dX1_washes_104 : decode cX1_washes 104 = .ok (.iload_n 3, 1) := dk_29 (dk_at dksX1_washes_4 11 rfl rfl)
theorem dX1_washes_105 : decode cX1_washes 105 = .ok (.ireturn, 1) := dk_172 (dk_at dksX1_washes_4 12 rfl rfl)
abbrev cX1_dark : ByteArray := prog_1_method_48_code
def yX1_dark : MethodName := ⟨RX1, "dark", "(I)I"⟩
def dkwX1_dark_3 : List UInt8 := [160, 0, 12, 21, 4, 28, 162, 0, 6, 21, 4, 61, 132, 3, 1, 167, 255, 187, 28, 172]
abbrev dktX1_dark_3 : List UInt8 := dkwX1_dark_3 ++ []
def dkwX1_dark_2 : List UInt8 := [184, 1, 31, 54, 5, 28, 155, 0, 27, 21, 5, 28, 184, 1, 31, 161, 0, 18, 21, 5, 28, 184, 1, 31]
abbrev dktX1_dark_2 : List UInt8 := dkwX1_dark_2 ++ dktX1_dark_3
def dkwX1_dark_1 : List UInt8 := [29, 184, 0, 9, 154, 0, 6, 167, 0, 52, 42, 42, 180, 0, 46, 29, 182, 0, 158, 54, 4, 21, 4]
abbrev dktX1_dark_1 : List UInt8 := dkwX1_dark_1 ++ dktX1_dark_2
def dkwX1_dark_0 : List UInt8 := [27, 4, 17, 3, 255, 184, 0, 123, 154, 0, 5, 2, 172, 2, 61, 3, 62, 29, 16, 10, 162, 0, 69, 27]
abbrev dktX1_dark_0 : List UInt8 := dkwX1_dark_0 ++ dktX1_dark_1
theorem dksX1_dark_0 : cX1_dark.data.toList.drop 0 = dktX1_dark_0 := by decide +kernel
theorem dksX1_dark_1 : cX1_dark.data.toList.drop 24 = dktX1_dark_1 := dk_seg dksX1_dark_0 24 rfl rfl
theorem dksX1_dark_2 : cX1_dark.data.toList.drop 47 = dktX1_dark_2 := dk_seg dksX1_dark_1 23 rfl rfl
theorem dksX1_dark_3 : cX1_dark.data.toList.drop 71 = dktX1_dark_3 := dk_seg dksX1_dark_2 24 rfl rfl
theorem dX1_dark_0 : decode cX1_dark 0 = .ok (.iload_n 1, 1) := dk_27 (dk_at dksX1_dark_0 0 rfl rfl)
theorem dX1_dark_1 : decode cX1_dark 1 = .ok (.iconst 1, 1) := dk_4 (dk_at dksX1_dark_0 1 rfl rfl)
theorem dX1_dark_2 : decode cX1_dark 2 = .ok (.sipush 1023, 3) := dk_17 3 255 (dk_at dksX1_dark_0 2 rfl rfl)
theorem dX1_dark_5 : decode cX1_dark 5 = .ok (.invokestatic 123, 3) := dk_184 0 123 (dk_at dksX1_dark_0 5 rfl rfl)
theorem dX1_dark_8 : decode cX1_dark 8 = .ok (.ifCond .ne 5, 3) := dk_154 0 5 (dk_at dksX1_dark_0 8 rfl rfl)
theorem dX1_dark_11 : decode cX1_dark 11 = .ok (.iconst (-1), 1) := dk_2 (dk_at dksX1_dark_0 11 rfl rfl)
theorem dX1_dark_12 : decode cX1_dark 12 = .ok (.ireturn, 1) := dk_172 (dk_at dksX1_dark_0 12 rfl rfl)
theorem dX1_dark_13 : decode cX1_dark 13 = .ok (.iconst (-1), 1) := dk_2 (dk_at dksX1_dark_0 13 rfl rfl)
theorem dX1_dark_14 : decode cX1_dark 14 = .ok (.istore_n 2, 1) := dk_61 (dk_at dksX1_dark_0 14 rfl rfl)
theorem dX1_dark_15 : decode cX1_dark 15 = .ok (.iconst 0, 1) := dk_3 (dk_at dksX1_dark_0 15 rfl rfl)
theorem dX1_dark_16 : decode cX1_dark 16 = .ok (.istore_n 3, 1) := dk_62 (dk_at dksX1_dark_0 16 rfl rfl)
theorem dX1_dark_17 : decode cX1_dark 17 = .ok (.iload_n 3, 1) := dk_29 (dk_at dksX1_dark_0 17 rfl rfl)
theorem dX1_dark_18 : decode cX1_dark 18 = .ok (.bipush 10, 2) := dk_16 10 (dk_at dksX1_dark_0 18 rfl rfl)
theorem dX1_dark_20 : decode cX1_dark 20 = .ok (.if_icmp .ge 69, 3) := dk_162 0 69 (dk_at dksX1_dark_0 20 rfl rfl)
theorem dX1_dark_23 : decode cX1_dark 23 = .ok (.iload_n 1, 1) := dk_27 (dk_at dksX1_dark_0 23 rfl rfl)
theorem dX1_dark_24 : decode cX1_dark 24 = .ok (.iload_n 3, 1) := dk_29 (dk_at dksX1_dark_1 0 rfl rfl)
theorem dX1_dark_25 : decode cX1_dark 25 = .ok (.invokestatic 9, 3) := dk_184 0 9 (dk_at dksX1_dark_1 1 rfl rfl)
theorem dX1_dark_28 : decode cX1_dark 28 = .ok (.ifCond .ne 6, 3) := dk_154 0 6 (dk_at dksX1_dark_1 4 rfl rfl)
theorem dX1_dark_31 : decode cX1_dark 31 = .ok (.goto 52, 3) := dk_167 0 52 (dk_at dksX1_dark_1 7 rfl rfl)
theorem dX1_dark_34 : decode cX1_dark 34 = .ok (.aload_n 0, 1) := dk_42 (dk_at dksX1_dark_1 10 rfl rfl)
theorem dX1_dark_35 : decode cX1_dark 35 = .ok (.aload_n 0, 1) := dk_42 (dk_at dksX1_dark_1 11 rfl rfl)
theorem dX1_dark_36 : decode cX1_dark 36 = .ok (.getfield 46, 3) := dk_180 0 46 (dk_at dksX1_dark_1 12 rfl rfl)
theorem dX1_dark_39 : decode cX1_dark 39 = .ok (.iload_n 3, 1) := dk_29 (dk_at dksX1_dark_1 15 rfl rfl)
theorem dX1_dark_40 : decode cX1_dark 40 = .ok (.invokevirtual 158, 3) := dk_182 0 158 (dk_at dksX1_dark_1 16 rfl rfl)
theorem dX1_dark_43 : decode cX1_dark 43 = .ok (.istore 4, 2) := dk_54 4 (dk_at dksX1_dark_1 19 rfl rfl)
theorem dX1_dark_45 : decode cX1_dark 45 = .ok (.iload 4, 2) := dk_21 4 (dk_at dksX1_dark_1 21 rfl rfl)
theorem dX1_dark_47 : decode cX1_dark 47 = .ok (.invokestatic 287, 3) := dk_184 1 31 (dk_at dksX1_dark_2 0 rfl rfl)
theorem dX1_dark_50 : decode cX1_dark 50 = .ok (.istore 5, 2) := dk_54 5 (dk_at dksX1_dark_2 3 rfl rfl)
theorem dX1_dark_52 : decode cX1_dark 52 = .ok (.iload_n 2, 1) := dk_28 (dk_at dksX1_dark_2 5 rfl rfl)
theorem dX1_dark_53 : decode cX1_dark 53 = .ok (.ifCond .lt 27, 3) := dk_155 0 27 (dk_at dksX1_dark_2 6 rfl rfl)
theorem dX1_dark_56 : decode cX1_dark 56 = .ok (.iload 5, 2) := dk_21 5 (dk_at dksX1_dark_2 9 rfl rfl)
theorem dX1_dark_58 : decode cX1_dark 58 = .ok (.iload_n 2, 1) := dk_28 (dk_at dksX1_dark_2 11 rfl rfl)
theorem dX1_dark_59 : decode cX1_dark 59 = .ok (.invokestatic 287, 3) := dk_184 1 31 (dk_at dksX1_dark_2 12 rfl rfl)
theorem dX1_dark_62 : decode cX1_dark 62 = .ok (.if_icmp .lt 18, 3) := dk_161 0 18 (dk_at dksX1_dark_2 15 rfl rfl)
theorem dX1_dark_65 : decode cX1_dark 65 = .ok (.iload 5, 2) := dk_21 5 (dk_at dksX1_dark_2 18 rfl rfl)
theorem dX1_dark_67 : decode cX1_dark 67 = .ok (.iload_n 2, 1) := dk_28 (dk_at dksX1_dark_2 20 rfl rfl)
theorem dX1_dark_68 : decode cX1_dark 68 = .ok (.invokestatic 287, 3) := dk_184 1 31 (dk_at dksX1_dark_2 21 rfl rfl)
theorem dX1_dark_71 : decode cX1_dark 71 = .ok (.if_icmp .ne 12, 3) := dk_160 0 12 (dk_at dksX1_dark_3 0 rfl rfl)
theorem dX1_dark_74 : decode cX1_dark 74 = .ok (.iload 4, 2) := dk_21 4 (dk_at dksX1_dark_3 3 rfl rfl)
theorem dX1_dark_76 : decode cX1_dark 76 = .ok (.iload_n 2, 1) := dk_28 (dk_at dksX1_dark_3 5 rfl rfl)
theorem dX1_dark_77 : decode cX1_dark 77 = .ok (.if_icmp .ge 6, 3) := dk_162 0 6 (dk_at dksX1_dark_3 6 rfl rfl)
theorem dX1_dark_80 : decode cX1_dark 80 = .ok (.iload 4, 2) := dk_21 4 (dk_at dksX1_dark_3 9 rfl rfl)
theorem dX1_dark_82 : decode cX1_dark 82 = .ok (.istore_n 2, 1) := dk_61 (dk_at dksX1_dark_3 11 rfl rfl)
theorem dX1_dark_83 : decode cX1_dark 83 = .ok (.iinc 3 1, 3) := dk_132 3 1 (dk_at dksX1_dark_3 12 rfl rfl)
theorem dX1_dark_86 : decode cX1_dark 86 = .ok (.goto (-69), 3) := dk_167 255 187 (dk_at dksX1_dark_3 15 rfl rfl)
theorem dX1_dark_89 : decode cX1_dark 89 = .ok (.iload_n 2, 1) := dk_28 (dk_at dksX1_dark_3 18 rfl rfl)
theorem dX1_dark_90 : decode cX1_dark 90 = .ok (.ireturn, 1) := dk_172 (dk_at dksX1_dark_3 19 rfl rfl)
abbrev cX1_say : ByteArray := prog_1_method_50_code
def yX1_say : MethodName := ⟨RX1, "say", "(IZ)Z"⟩
def dkwX1_say_1 : List UInt8 := [79, 4, 172]
abbrev dktX1_say_1 : List UInt8 := dkwX1_say_1 ++ []
def dkwX1_say_0 : List UInt8 := [42, 27, 182, 0, 206, 154, 0, 5, 3, 172, 42, 180, 0, 61, 27, 28, 153, 0, 7, 4, 167, 0, 4, 3]
abbrev dktX1_say_0 : List UInt8 := dkwX1_say_0 ++ dktX1_say_1
theorem dksX1_say_0 : cX1_say.data.toList.drop 0 = dktX1_say_0 := by decide +kernel
theorem dksX1_say_1 : cX1_say.data.toList.drop 24 = dktX1_say_1 := dk_seg dksX1_say_0 24 rfl rfl
theorem dX1_say_0 : decode cX1_say 0 = .ok (.aload_n 0, 1) := dk_42 (dk_at dksX1_say_0 0 rfl rfl)
theorem dX1_say_1 : decode cX1_say 1 = .ok (.iload_n 1, 1) := dk_27 (dk_at dksX1_say_0 1 rfl rfl)
theorem dX1_say_2 : decode cX1_say 2 = .ok (.invokevirtual 206, 3) := dk_182 0 206 (dk_at dksX1_say_0 2 rfl rfl)
theorem dX1_say_5 : decode cX1_say 5 = .ok (.ifCond .ne 5, 3) := dk_154 0 5 (dk_at dksX1_say_0 5 rfl rfl)
theorem dX1_say_8 : decode cX1_say 8 = .ok (.iconst 0, 1) := dk_3 (dk_at dksX1_say_0 8 rfl rfl)
theorem dX1_say_9 : decode cX1_say 9 = .ok (.ireturn, 1) := dk_172 (dk_at dksX1_say_0 9 rfl rfl)
theorem dX1_say_10 : decode cX1_say 10 = .ok (.aload_n 0, 1) := dk_42 (dk_at dksX1_say_0 10 rfl rfl)
theorem dX1_say_11 : decode cX1_say 11 = .ok (.getfield 61, 3) := dk_180 0 61 (dk_at dksX1_say_0 11 rfl rfl)
theorem dX1_say_14 : decode cX1_say 14 = .ok (.iload_n 1, 1) := dk_27 (dk_at dksX1_say_0 14 rfl rfl)
theorem dX1_say_15 : decode cX1_say 15 = .ok (.iload_n 2, 1) := dk_28 (dk_at dksX1_say_0 15 rfl rfl)
theorem dX1_say_16 : decode cX1_say 16 = .ok (.ifCond .eq 7, 3) := dk_153 0 7 (dk_at dksX1_say_0 16 rfl rfl)
theorem dX1_say_19 : decode cX1_say 19 = .ok (.iconst 1, 1) := dk_4 (dk_at dksX1_say_0 19 rfl rfl)
theorem dX1_say_20 : decode cX1_say 20 = .ok (.goto 4, 3) := dk_167 0 4 (dk_at dksX1_say_0 20 rfl rfl)
theorem dX1_say_23 : decode cX1_say 23 = .ok (.iconst 0, 1) := dk_3 (dk_at dksX1_say_0 23 rfl rfl)
theorem dX1_say_24 : decode cX1_say 24 = .ok (.iastore, 1) := dk_79 (dk_at dksX1_say_1 0 rfl rfl)
theorem dX1_say_25 : decode cX1_say 25 = .ok (.iconst 1, 1) := dk_4 (dk_at dksX1_say_1 1 rfl rfl)
theorem dX1_say_26 : decode cX1_say 26 = .ok (.ireturn, 1) := dk_172 (dk_at dksX1_say_1 2 rfl rfl)
abbrev cX1_where : ByteArray := prog_1_method_51_code
def yX1_where : MethodName := ⟨RX1, "where", "()I"⟩
def dkwX1_where_4 : List UInt8 := [60, 132, 2, 1, 167, 255, 164, 27, 172]
abbrev dktX1_where_4 : List UInt8 := dkwX1_where_4 ++ []
def dkwX1_where_3 : List UInt8 := [160, 0, 7, 4, 167, 0, 4, 3, 62, 132, 4, 1, 167, 255, 191, 29, 153, 0, 9, 27, 4, 28, 120, 128]
abbrev dktX1_where_3 : List UInt8 := dkwX1_where_3 ++ dktX1_where_4
def dkwX1_where_2 : List UInt8 := [160, 0, 7, 4, 167, 0, 4, 3, 42, 42, 180, 0, 46, 21, 4, 182, 0, 152, 28, 184, 0, 9]
abbrev dktX1_where_2 : List UInt8 := dkwX1_where_2 ++ dktX1_where_3
def dkwX1_where_1 : List UInt8 := [29, 153, 0, 58, 42, 180, 0, 61, 21, 4, 46, 155, 0, 36, 42, 180, 0, 61, 21, 4, 46, 4]
abbrev dktX1_where_1 : List UInt8 := dkwX1_where_1 ++ dktX1_where_2
def dkwX1_where_0 : List UInt8 := [3, 60, 3, 61, 28, 16, 10, 162, 0, 92, 4, 62, 3, 54, 4, 21, 4, 42, 182, 0, 121, 162, 0, 62]
abbrev dktX1_where_0 : List UInt8 := dkwX1_where_0 ++ dktX1_where_1
theorem dksX1_where_0 : cX1_where.data.toList.drop 0 = dktX1_where_0 := by decide +kernel
theorem dksX1_where_1 : cX1_where.data.toList.drop 24 = dktX1_where_1 := dk_seg dksX1_where_0 24 rfl rfl
theorem dksX1_where_2 : cX1_where.data.toList.drop 46 = dktX1_where_2 := dk_seg dksX1_where_1 22 rfl rfl
theorem dksX1_where_3 : cX1_where.data.toList.drop 68 = dktX1_where_3 := dk_seg dksX1_where_2 22 rfl rfl
theorem dksX1_where_4 : cX1_where.data.toList.drop 92 = dktX1_where_4 := dk_seg dksX1_where_3 24 rfl rfl
theorem dX1_where_0 : decode cX1_where 0 = .ok (.iconst 0, 1) := dk_3 (dk_at dksX1_where_0 0 rfl rfl)
theorem dX1_where_1 : decode cX1_where 1 = .ok (.istore_n 1, 1) := dk_60 (dk_at dksX1_where_0 1 rfl rfl)
theorem dX1_where_2 : decode cX1_where 2 = .ok (.iconst 0, 1) := dk_3 (dk_at dksX1_where_0 2 rfl rfl)
theorem dX1_where_3 : decode cX1_where 3 = .ok (.istore_n 2, 1) := dk_61 (dk_at dksX1_where_0 3 rfl rfl)
theorem dX1_where_4 : decode cX1_where 4 = .ok (.iload_n 2, 1) := dk_28 (dk_at dksX1_where_0 4 rfl rfl)
theorem dX1_where_5 : decode cX1_where 5 = .ok (.bipush 10, 2) := dk_16 10 (dk_at dksX1_where_0 5 rfl rfl)
theorem dX1_where_7 : decode cX1_where 7 = .ok (.if_icmp .ge 92, 3) := dk_162 0 92 (dk_at dksX1_where_0 7 rfl rfl)
theorem dX1_where_10 : decode cX1_where 10 = .ok (.iconst 1, 1) := dk_4 (dk_at dksX1_where_0 10 rfl rfl)
theorem dX1_where_11 : decode cX1_where 11 = .ok (.istore_n 3, 1) := dk_62 (dk_at dksX1_where_0 11 rfl rfl)
theorem dX1_where_12 : decode cX1_where 12 = .ok (.iconst 0, 1) := dk_3 (dk_at dksX1_where_0 12 rfl rfl)
theorem dX1_where_13 : decode cX1_where 13 = .ok (.istore 4, 2) := dk_54 4 (dk_at dksX1_where_0 13 rfl rfl)
theorem dX1_where_15 : decode cX1_where 15 = .ok (.iload 4, 2) := dk_21 4 (dk_at dksX1_where_0 15 rfl rfl)
theorem dX1_where_17 : decode cX1_where 17 = .ok (.aload_n 0, 1) := dk_42 (dk_at dksX1_where_0 17 rfl rfl)
theorem dX1_where_18 : decode cX1_where 18 = .ok (.invokevirtual 121, 3) := dk_182 0 121 (dk_at dksX1_where_0 18 rfl rfl)
theorem dX1_where_21 : decode cX1_where 21 = .ok (.if_icmp .ge 62, 3) := dk_162 0 62 (dk_at dksX1_where_0 21 rfl rfl)
theorem dX1_where_24 : decode cX1_where 24 = .ok (.iload_n 3, 1) := dk_29 (dk_at dksX1_where_1 0 rfl rfl)
theorem dX1_where_25 : decode cX1_where 25 = .ok (.ifCond .eq 58, 3) := dk_153 0 58 (dk_at dksX1_where_1 1 rfl rfl)
theorem dX1_where_28 : decode cX1_where 28 = .ok (.aload_n 0, 1) := dk_42 (dk_at dksX1_where_1 4 rfl rfl)
theorem dX1_where_29 : decode cX1_where 29 = .ok (.getfield 61, 3) := dk_180 0 61 (dk_at dksX1_where_1 5 rfl rfl)
theorem dX1_where_32 : decode cX1_where 32 = .ok (.iload 4, 2) := dk_21 4 (dk_at dksX1_where_1 8 rfl rfl)
theorem dX1_where_34 : decode cX1_where 34 = .ok (.iaload, 1) := dk_46 (dk_at dksX1_where_1 10 rfl rfl)
theorem dX1_where_35 : decode cX1_where 35 = .ok (.ifCond .lt 36, 3) := dk_155 0 36 (dk_at dksX1_where_1 11 rfl rfl)
theorem dX1_where_38 : decode cX1_where 38 = .ok (.aload_n 0, 1) := dk_42 (dk_at dksX1_where_1 14 rfl rfl)
theorem dX1_where_39 : decode cX1_where 39 = .ok (.getfield 61, 3) := dk_180 0 61 (dk_at dksX1_where_1 15 rfl rfl)
theorem dX1_where_42 : decode cX1_where 42 = .ok (.iload 4, 2) := dk_21 4 (dk_at dksX1_where_1 18 rfl rfl)
theorem dX1_where_44 : decode cX1_where 44 = .ok (.iaload, 1) := dk_46 (dk_at dksX1_where_1 20 rfl rfl)
theorem dX1_where_45 : decode cX1_where 45 = .ok (.iconst 1, 1) := dk_4 (dk_at dksX1_where_1 21 rfl rfl)
theorem dX1_where_46 : decode cX1_where 46 = .ok (.if_icmp .ne 7, 3) := dk_160 0 7 (dk_at dksX1_where_2 0 rfl rfl)
theorem dX1_where_49 : decode cX1_where 49 = .ok (.iconst 1, 1) := dk_4 (dk_at dksX1_where_2 3 rfl rfl)
theorem dX1_where_50 : decode cX1_where 50 = .ok (.goto 4, 3) := dk_167 0 4 (dk_at dksX1_where_2 4 rfl rfl)
theorem dX1_where_53 : decode cX1_where 53 = .ok (.iconst 0, 1) := dk_3 (dk_at dksX1_where_2 7 rfl rfl)
theorem dX1_where_54 : decode cX1_where 54 = .ok (.aload_n 0, 1) := dk_42 (dk_at dksX1_where_2 8 rfl rfl)
theorem dX1_where_55 : decode cX1_where 55 = .ok (.aload_n 0, 1) := dk_42 (dk_at dksX1_where_2 9 rfl rfl)
theorem dX1_where_56 : decode cX1_where 56 = .ok (.getfield 46, 3) := dk_180 0 46 (dk_at dksX1_where_2 10 rfl rfl)
theorem dX1_where_59 : decode cX1_where 59 = .ok (.iload 4, 2) := dk_21 4 (dk_at dksX1_where_2 13 rfl rfl)
theorem dX1_where_61 : decode cX1_where 61 = .ok (.invokevirtual 152, 3) := dk_182 0 152 (dk_at dksX1_where_2 15 rfl rfl)
theorem dX1_where_64 : decode cX1_where 64 = .ok (.iload_n 2, 1) := dk_28 (dk_at dksX1_where_2 18 rfl rfl)
theorem dX1_where_65 : decode cX1_where 65 = .ok (.invokestatic 9, 3) := dk_184 0 9 (dk_at dksX1_where_2 19 rfl rfl)
theorem dX1_where_68 : decode cX1_where 68 = .ok (.if_icmp .ne 7, 3) := dk_160 0 7 (dk_at dksX1_where_3 0 rfl rfl)
theorem dX1_where_71 : decode cX1_where 71 = .ok (.iconst 1, 1) := dk_4 (dk_at dksX1_where_3 3 rfl rfl)
theorem dX1_where_72 : decode cX1_where 72 = .ok (.goto 4, 3) := dk_167 0 4 (dk_at dksX1_where_3 4 rfl rfl)
theorem dX1_where_75 : decode cX1_where 75 = .ok (.iconst 0, 1) := dk_3 (dk_at dksX1_where_3 7 rfl rfl)
theorem dX1_where_76 : decode cX1_where 76 = .ok (.istore_n 3, 1) := dk_62 (dk_at dksX1_where_3 8 rfl rfl)
theorem dX1_where_77 : decode cX1_where 77 = .ok (.iinc 4 1, 3) := dk_132 4 1 (dk_at dksX1_where_3 9 rfl rfl)
theorem dX1_where_80 : decode cX1_where 80 = .ok (.goto (-65), 3) := dk_167 255 191 (dk_at dksX1_where_3 12 rfl rfl)
theorem dX1_where_83 : decode cX1_where 83 = .ok (.iload_n 3, 1) := dk_29 (dk_at dksX1_where_3 15 rfl rfl)
theorem dX1_where_84 : decode cX1_where 84 = .ok (.ifCond .eq 9, 3) := dk_153 0 9 (dk_at dksX1_where_3 16 rfl rfl)
theorem dX1_where_87 : decode cX1_where 87 = .ok (.iload_n 1, 1) := dk_27 (dk_at dksX1_where_3 19 rfl rfl)
theorem dX1_where_88 : decode cX1_where 88 = .ok (.iconst 1, 1) := dk_4 (dk_at dksX1_where_3 20 rfl rfl)
theorem dX1_where_89 : decode cX1_where 89 = .ok (.iload_n 2, 1) := dk_28 (dk_at dksX1_where_3 21 rfl rfl)
theorem dX1_where_90 : decode cX1_where 90 = .ok (.ishl, 1) := dk_120 (dk_at dksX1_where_3 22 rfl rfl)
theorem dX1_where_91 : decode cX1_where 91 = .ok (.ior, 1) := dk_128 (dk_at dksX1_where_3 23 rfl rfl)
theorem dX1_where_92 : decode cX1_where 92 = .ok (.istore_n 1, 1) := dk_60 (dk_at dksX1_where_4 0 rfl rfl)
theorem dX1_where_93 : decode cX1_where 93 = .ok (.iinc 2 1, 3) := dk_132 2 1 (dk_at dksX1_where_4 1 rfl rfl)
theorem dX1_where_96 : decode cX1_where 96 = .ok (.goto (-92), 3) := dk_167 255 164 (dk_at dksX1_where_4 4 rfl rfl)
theorem dX1_where_99 : decode cX1_where 99 = .ok (.iload_n 1, 1) := dk_27 (dk_at dksX1_where_4 7 rfl rfl)
theorem dX1_where_100 : decode cX1_where 100 = .ok (.ireturn, 1) := dk_172 (dk_at dksX1_where_4 8 rfl rfl)
abbrev cX1_ask : ByteArray := prog_1_method_52_code
def yX1_ask : MethodName := ⟨RX1, "ask", "()I"⟩
def dkwX1_ask_3 : List UInt8 := [167, 0, 9, 21, 5, 61, 21, 4, 62, 132, 4, 1, 167, 255, 188, 29, 172]
abbrev dktX1_ask_3 : List UInt8 := dkwX1_ask_3 ++ []
def dkwX1_ask_2 : List UInt8 := [21, 5, 100, 184, 1, 17, 54, 5, 42, 180, 0, 61, 21, 4, 46, 156, 0, 18, 21, 5, 28, 161, 0, 6]
abbrev dktX1_ask_2 : List UInt8 := dkwX1_ask_2 ++ dktX1_ask_3
def dkwX1_ask_1 : List UInt8 := [27, 42, 42, 180, 0, 46, 21, 4, 182, 0, 152, 126, 184, 1, 31, 54, 5, 21, 5, 27, 184, 1, 31]
abbrev dktX1_ask_1 : List UInt8 := dkwX1_ask_1 ++ dktX1_ask_2
def dkwX1_ask_0 : List UInt8 := [42, 182, 1, 39, 60, 27, 184, 1, 31, 61, 2, 62, 3, 54, 4, 21, 4, 42, 182, 0, 121, 162, 0, 65]
abbrev dktX1_ask_0 : List UInt8 := dkwX1_ask_0 ++ dktX1_ask_1
theorem dksX1_ask_0 : cX1_ask.data.toList.drop 0 = dktX1_ask_0 := by decide +kernel
theorem dksX1_ask_1 : cX1_ask.data.toList.drop 24 = dktX1_ask_1 := dk_seg dksX1_ask_0 24 rfl rfl
theorem dksX1_ask_2 : cX1_ask.data.toList.drop 47 = dktX1_ask_2 := dk_seg dksX1_ask_1 23 rfl rfl
theorem dksX1_ask_3 : cX1_ask.data.toList.drop 71 = dktX1_ask_3 := dk_seg dksX1_ask_2 24 rfl rfl
theorem dX1_ask_0 : decode cX1_ask 0 = .ok (.aload_n 0, 1) := dk_42 (dk_at dksX1_ask_0 0 rfl rfl)
theorem dX1_ask_1 : decode cX1_ask 1 = .ok (.invokevirtual 295, 3) := dk_182 1 39 (dk_at dksX1_ask_0 1 rfl rfl)
theorem dX1_ask_4 : decode cX1_ask 4 = .ok (.istore_n 1, 1) := dk_60 (dk_at dksX1_ask_0 4 rfl rfl)
theorem dX1_ask_5 : decode cX1_ask 5 = .ok (.iload_n 1, 1) := dk_27 (dk_at dksX1_ask_0 5 rfl rfl)
theorem dX1_ask_6 : decode cX1_ask 6 = .ok (.invokestatic 287, 3) := dk_184 1 31 (dk_at dksX1_ask_0 6 rfl rfl)
theorem dX1_ask_9 : decode cX1_ask 9 = .ok (.istore_n 2, 1) := dk_61 (dk_at dksX1_ask_0 9 rfl rfl)
theorem dX1_ask_10 : decode cX1_ask 10 = .ok (.iconst (-1), 1) := dk_2 (dk_at dksX1_ask_0 10 rfl rfl)
theorem dX1_ask_11 : decode cX1_ask 11 = .ok (.istore_n 3, 1) := dk_62 (dk_at dksX1_ask_0 11 rfl rfl)
theorem dX1_ask_12 : decode cX1_ask 12 = .ok (.iconst 0, 1) := dk_3 (dk_at dksX1_ask_0 12 rfl rfl)
theorem dX1_ask_13 : decode cX1_ask 13 = .ok (.istore 4, 2) := dk_54 4 (dk_at dksX1_ask_0 13 rfl rfl)
theorem dX1_ask_15 : decode cX1_ask 15 = .ok (.iload 4, 2) := dk_21 4 (dk_at dksX1_ask_0 15 rfl rfl)
theorem dX1_ask_17 : decode cX1_ask 17 = .ok (.aload_n 0, 1) := dk_42 (dk_at dksX1_ask_0 17 rfl rfl)
theorem dX1_ask_18 : decode cX1_ask 18 = .ok (.invokevirtual 121, 3) := dk_182 0 121 (dk_at dksX1_ask_0 18 rfl rfl)
theorem dX1_ask_21 : decode cX1_ask 21 = .ok (.if_icmp .ge 65, 3) := dk_162 0 65 (dk_at dksX1_ask_0 21 rfl rfl)
theorem dX1_ask_24 : decode cX1_ask 24 = .ok (.iload_n 1, 1) := dk_27 (dk_at dksX1_ask_1 0 rfl rfl)
theorem dX1_ask_25 : decode cX1_ask 25 = .ok (.aload_n 0, 1) := dk_42 (dk_at dksX1_ask_1 1 rfl rfl)
theorem dX1_ask_26 : decode cX1_ask 26 = .ok (.aload_n 0, 1) := dk_42 (dk_at dksX1_ask_1 2 rfl rfl)
theorem dX1_ask_27 : decode cX1_ask 27 = .ok (.getfield 46, 3) := dk_180 0 46 (dk_at dksX1_ask_1 3 rfl rfl)
theorem dX1_ask_30 : decode cX1_ask 30 = .ok (.iload 4, 2) := dk_21 4 (dk_at dksX1_ask_1 6 rfl rfl)
theorem dX1_ask_32 : decode cX1_ask 32 = .ok (.invokevirtual 152, 3) := dk_182 0 152 (dk_at dksX1_ask_1 8 rfl rfl)
theorem dX1_ask_35 : decode cX1_ask 35 = .ok (.iand, 1) := dk_126 (dk_at dksX1_ask_1 11 rfl rfl)
theorem dX1_ask_36 : decode cX1_ask 36 = .ok (.invokestatic 287, 3) := dk_184 1 31 (dk_at dksX1_ask_1 12 rfl rfl)
theorem dX1_ask_39 : decode cX1_ask 39 = .ok (.istore 5, 2) := dk_54 5 (dk_at dksX1_ask_1 15 rfl rfl)
theorem dX1_ask_41 : decode cX1_ask 41 = .ok (.iload 5, 2) := dk_21 5 (dk_at dksX1_ask_1 17 rfl rfl)
theorem dX1_ask_43 : decode cX1_ask 43 = .ok (.iload_n 1, 1) := dk_27 (dk_at dksX1_ask_1 19 rfl rfl)
theorem dX1_ask_44 : decode cX1_ask 44 = .ok (.invokestatic 287, 3) := dk_184 1 31 (dk_at dksX1_ask_1 20 rfl rfl)
theorem dX1_ask_47 : decode cX1_ask 47 = .ok (.iload 5, 2) := dk_21 5 (dk_at dksX1_ask_2 0 rfl rfl)
theorem dX1_ask_49 : decode cX1_ask 49 = .ok (.isub, 1) := dk_100 (dk_at dksX1_ask_2 2 rfl rfl)
theorem dX1_ask_50 : decode cX1_ask 50 = .ok (.invokestatic 273, 3) := dk_184 1 17 (dk_at dksX1_ask_2 3 rfl rfl)
theorem dX1_ask_53 : decode cX1_ask 53 = .ok (.istore 5, 2) := dk_54 5 (dk_at dksX1_ask_2 6 rfl rfl)
theorem dX1_ask_55 : decode cX1_ask 55 = .ok (.aload_n 0, 1) := dk_42 (dk_at dksX1_ask_2 8 rfl rfl)
theorem dX1_ask_56 : decode cX1_ask 56 = .ok (.getfield 61, 3) := dk_180 0 61 (dk_at dksX1_ask_2 9 rfl rfl)
theorem dX1_ask_59 : decode cX1_ask 59 = .ok (.iload 4, 2) := dk_21 4 (dk_at dksX1_ask_2 12 rfl rfl)
theorem dX1_ask_61 : decode cX1_ask 61 = .ok (.iaload, 1) := dk_46 (dk_at dksX1_ask_2 14 rfl rfl)
theorem dX1_ask_62 : decode cX1_ask 62 = .ok (.ifCond .ge 18, 3) := dk_156 0 18 (dk_at dksX1_ask_2 15 rfl rfl)
theorem dX1_ask_65 : decode cX1_ask 65 = .ok (.iload 5, 2) := dk_21 5 (dk_at dksX1_ask_2 18 rfl rfl)
theorem dX1_ask_67 : decode cX1_ask 67 = .ok (.iload_n 2, 1) := dk_28 (dk_at dksX1_ask_2 20 rfl rfl)
theorem dX1_ask_68 : decode cX1_ask 68 = .ok (.if_icmp .lt 6, 3) := dk_161 0 6 (dk_at dksX1_ask_2 21 rfl rfl)
theorem dX1_ask_71 : decode cX1_ask 71 = .ok (.goto 9, 3) := dk_167 0 9 (dk_at dksX1_ask_3 0 rfl rfl)
theorem dX1_ask_74 : decode cX1_ask 74 = .ok (.iload 5, 2) := dk_21 5 (dk_at dksX1_ask_3 3 rfl rfl)
theorem dX1_ask_76 : decode cX1_ask 76 = .ok (.istore_n 2, 1) := dk_61 (dk_at dksX1_ask_3 5 rfl rfl)
theorem dX1_ask_77 : decode cX1_ask 77 = .ok (.iload 4, 2) := dk_21 4 (dk_at dksX1_ask_3 6 rfl rfl)
theorem dX1_ask_79 : decode cX1_ask 79 = .ok (.istore_n 3, 1) := dk_62 (dk_at dksX1_ask_3 8 rfl rfl)
theorem dX1_ask_80 : decode cX1_ask 80 = .ok (.iinc 4 1, 3) := dk_132 4 1 (dk_at dksX1_ask_3 9 rfl rfl)
theorem dX1_ask_83 : decode cX1_ask 83 = .ok (.goto (-68), 3) := dk_167 255 188 (dk_at dksX1_ask_3 12 rfl rfl)
theorem dX1_ask_86 : decode cX1_ask 86 = .ok (.iload_n 3, 1) := dk_29 (dk_at dksX1_ask_3 15 rfl rfl)
theorem dX1_ask_87 : decode cX1_ask 87 = .ok (.ireturn, 1) := dk_172 (dk_at dksX1_ask_3 16 rfl rfl)
abbrev cX1_glass : ByteArray := prog_1_method_53_code
def yX1_glass : MethodName := ⟨RX1, "glass", "(I)I"⟩
def dkwX1_glass_4 : List UInt8 := [167, 255, 181, 28, 172]
abbrev dktX1_glass_4 : List UInt8 := dkwX1_glass_4 ++ []
def dkwX1_glass_3 : List UInt8 := [132, 6, 1, 167, 255, 217, 21, 5, 29, 163, 0, 6, 167, 0, 9, 21, 4, 61, 21, 5, 62, 132, 4, 1]
abbrev dktX1_glass_3 : List UInt8 := dkwX1_glass_3 ++ dktX1_glass_4
def dkwX1_glass_2 : List UInt8 := [180, 0, 155, 21, 6, 46, 21, 4, 21, 4, 27, 96, 4, 100, 184, 0, 123, 153, 0, 6, 132, 5, 1]
abbrev dktX1_glass_2 : List UInt8 := dkwX1_glass_2 ++ dktX1_glass_3
def dkwX1_glass_1 : List UInt8 := [16, 10, 163, 0, 72, 3, 54, 5, 3, 54, 6, 21, 6, 42, 182, 0, 127, 162, 0, 36, 42, 180, 0, 46]
abbrev dktX1_glass_1 : List UInt8 := dkwX1_glass_1 ++ dktX1_glass_2
def dkwX1_glass_0 : List UInt8 := [27, 4, 16, 10, 184, 0, 123, 154, 0, 5, 2, 172, 3, 61, 2, 62, 3, 54, 4, 21, 4, 27, 96]
abbrev dktX1_glass_0 : List UInt8 := dkwX1_glass_0 ++ dktX1_glass_1
theorem dksX1_glass_0 : cX1_glass.data.toList.drop 0 = dktX1_glass_0 := by decide +kernel
theorem dksX1_glass_1 : cX1_glass.data.toList.drop 23 = dktX1_glass_1 := dk_seg dksX1_glass_0 23 rfl rfl
theorem dksX1_glass_2 : cX1_glass.data.toList.drop 47 = dktX1_glass_2 := dk_seg dksX1_glass_1 24 rfl rfl
theorem dksX1_glass_3 : cX1_glass.data.toList.drop 70 = dktX1_glass_3 := dk_seg dksX1_glass_2 23 rfl rfl
theorem dksX1_glass_4 : cX1_glass.data.toList.drop 94 = dktX1_glass_4 := dk_seg dksX1_glass_3 24 rfl rfl
theorem dX1_glass_0 : decode cX1_glass 0 = .ok (.iload_n 1, 1) := dk_27 (dk_at dksX1_glass_0 0 rfl rfl)
theorem dX1_glass_1 : decode cX1_glass 1 = .ok (.iconst 1, 1) := dk_4 (dk_at dksX1_glass_0 1 rfl rfl)
theorem dX1_glass_2 : decode cX1_glass 2 = .ok (.bipush 10, 2) := dk_16 10 (dk_at dksX1_glass_0 2 rfl rfl)
theorem dX1_glass_4 : decode cX1_glass 4 = .ok (.invokestatic 123, 3) := dk_184 0 123 (dk_at dksX1_glass_0 4 rfl rfl)
theorem dX1_glass_7 : decode cX1_glass 7 = .ok (.ifCond .ne 5, 3) := dk_154 0 5 (dk_at dksX1_glass_0 7 rfl rfl)
theorem dX1_glass_10 : decode cX1_glass 10 = .ok (.iconst (-1), 1) := dk_2 (dk_at dksX1_glass_0 10 rfl rfl)
theorem dX1_glass_11 : decode cX1_glass 11 = .ok (.ireturn, 1) := dk_172 (dk_at dksX1_glass_0 11 rfl rfl)
theorem dX1_glass_12 : decode cX1_glass 12 = .ok (.iconst 0, 1) := dk_3 (dk_at dksX1_glass_0 12 rfl rfl)
theorem dX1_glass_13 : decode cX1_glass 13 = .ok (.istore_n 2, 1) := dk_61 (dk_at dksX1_glass_0 13 rfl rfl)
theorem dX1_glass_14 : decode cX1_glass 14 = .ok (.iconst (-1), 1) := dk_2 (dk_at dksX1_glass_0 14 rfl rfl)
theorem dX1_glass_15 : decode cX1_glass 15 = .ok (.istore_n 3, 1) := dk_62 (dk_at dksX1_glass_0 15 rfl rfl)
theorem dX1_glass_16 : decode cX1_glass 16 = .ok (.iconst 0, 1) := dk_3 (dk_at dksX1_glass_0 16 rfl rfl)
theorem dX1_glass_17 : decode cX1_glass 17 = .ok (.istore 4, 2) := dk_54 4 (dk_at dksX1_glass_0 17 rfl rfl)
theorem dX1_glass_19 : decode cX1_glass 19 = .ok (.iload 4, 2) := dk_21 4 (dk_at dksX1_glass_0 19 rfl rfl)
theorem dX1_glass_21 : decode cX1_glass 21 = .ok (.iload_n 1, 1) := dk_27 (dk_at dksX1_glass_0 21 rfl rfl)
theorem dX1_glass_22 : decode cX1_glass 22 = .ok (.iadd, 1) := dk_96 (dk_at dksX1_glass_0 22 rfl rfl)
theorem dX1_glass_23 : decode cX1_glass 23 = .ok (.bipush 10, 2) := dk_16 10 (dk_at dksX1_glass_1 0 rfl rfl)
theorem dX1_glass_25 : decode cX1_glass 25 = .ok (.if_icmp .gt 72, 3) := dk_163 0 72 (dk_at dksX1_glass_1 2 rfl rfl)
theorem dX1_glass_28 : decode cX1_glass 28 = .ok (.iconst 0, 1) := dk_3 (dk_at dksX1_glass_1 5 rfl rfl)
theorem dX1_glass_29 : decode cX1_glass 29 = .ok (.istore 5, 2) := dk_54 5 (dk_at dksX1_glass_1 6 rfl rfl)
theorem dX1_glass_31 : decode cX1_glass 31 = .ok (.iconst 0, 1) := dk_3 (dk_at dksX1_glass_1 8 rfl rfl)
theorem dX1_glass_32 : decode cX1_glass 32 = .ok (.istore 6, 2) := dk_54 6 (dk_at dksX1_glass_1 9 rfl rfl)
theorem dX1_glass_34 : decode cX1_glass 34 = .ok (.iload 6, 2) := dk_21 6 (dk_at dksX1_glass_1 11 rfl rfl)
theorem dX1_glass_36 : decode cX1_glass 36 = .ok (.aload_n 0, 1) := dk_42 (dk_at dksX1_glass_1 13 rfl rfl)
theorem dX1_glass_37 : decode cX1_glass 37 = .ok (.invokevirtual 127, 3) := dk_182 0 127 (dk_at dksX1_glass_1 14 rfl rfl)
theorem dX1_glass_40 : decode cX1_glass 40 = .ok (.if_icmp .ge 36, 3) := dk_162 0 36 (dk_at dksX1_glass_1 17 rfl rfl)
theorem dX1_glass_43 : decode cX1_glass 43 = .ok (.aload_n 0, 1) := dk_42 (dk_at dksX1_glass_1 20 rfl rfl)
theorem dX1_glass_44 : decode cX1_glass 44 = .ok (.getfield 46, 3) := dk_180 0 46 (dk_at dksX1_glass_1 21 rfl rfl)
theorem dX1_glass_47 : decode cX1_glass 47 = .ok (.getfield 155, 3) := dk_180 0 155 (dk_at dksX1_glass_2 0 rfl rfl)
theorem dX1_glass_50 : decode cX1_glass 50 = .ok (.iload 6, 2) := dk_21 6 (dk_at dksX1_glass_2 3 rfl rfl)
theorem dX1_glass_52 : decode cX1_glass 52 = .ok (.iaload, 1) := dk_46 (dk_at dksX1_glass_2 5 rfl rfl)
theorem dX1_glass_53 : decode cX1_glass 53 = .ok (.iload 4, 2) := dk_21 4 (dk_at dksX1_glass_2 6 rfl rfl)
theorem dX1_glass_55 : decode cX1_glass 55 = .ok (.iload 4, 2) := dk_21 4 (dk_at dksX1_glass_2 8 rfl rfl)
theorem dX1_glass_57 : decode cX1_glass 57 = .ok (.iload_n 1, 1) := dk_27 (dk_at dksX1_glass_2 10 rfl rfl)
theorem dX1_glass_58 : decode cX1_glass 58 = .ok (.iadd, 1) := dk_96 (dk_at dksX1_glass_2 11 rfl rfl)
theorem dX1_glass_59 : decode cX1_glass 59 = .ok (.iconst 1, 1) := dk_4 (dk_at dksX1_glass_2 12 rfl rfl)
theorem dX1_glass_60 : decode cX1_glass 60 = .ok (.isub, 1) := dk_100 (dk_at dksX1_glass_2 13 rfl rfl)
theorem dX1_glass_61 : decode cX1_glass 61 = .ok (.invokestatic 123, 3) := dk_184 0 123 (dk_at dksX1_glass_2 14 rfl rfl)
theorem dX1_glass_64 : decode cX1_glass 64 = .ok (.ifCond .eq 6, 3) := dk_153 0 6 (dk_at dksX1_glass_2 17 rfl rfl)
theorem dX1_glass_67 : decode cX1_glass 67 = .ok (.iinc 5 1, 3) := dk_132 5 1 (dk_at dksX1_glass_2 20 rfl rfl)
theorem dX1_glass_70 : decode cX1_glass 70 = .ok (.iinc 6 1, 3) := dk_132 6 1 (dk_at dksX1_glass_3 0 rfl rfl)
theorem dX1_glass_73 : decode cX1_glass 73 = .ok (.goto (-39), 3) := dk_167 255 217 (dk_at dksX1_glass_3 3 rfl rfl)
theorem dX1_glass_76 : decode cX1_glass 76 = .ok (.iload 5, 2) := dk_21 5 (dk_at dksX1_glass_3 6 rfl rfl)
theorem dX1_glass_78 : decode cX1_glass 78 = .ok (.iload_n 3, 1) := dk_29 (dk_at dksX1_glass_3 8 rfl rfl)
theorem dX1_glass_79 : decode cX1_glass 79 = .ok (.if_icmp .gt 6, 3) := dk_163 0 6 (dk_at dksX1_glass_3 9 rfl rfl)
theorem dX1_glass_82 : decode cX1_glass 82 = .ok (.goto 9, 3) := dk_167 0 9 (dk_at dksX1_glass_3 12 rfl rfl)
theorem dX1_glass_85 : decode cX1_glass 85 = .ok (.iload 4, 2) := dk_21 4 (dk_at dksX1_glass_3 15 rfl rfl)
theorem dX1_glass_87 : decode cX1_glass 87 = .ok (.istore_n 2, 1) := dk_61 (dk_at dksX1_glass_3 17 rfl rfl)
theorem dX1_glass_88 : decode cX1_glass 88 = .ok (.iload 5, 2) := dk_21 5 (dk_at dksX1_glass_3 18 rfl rfl)
theorem dX1_glass_90 : decode cX1_glass 90 = .ok (.istore_n 3, 1) := dk_62 (dk_at dksX1_glass_3 20 rfl rfl)
theorem dX1_glass_91 : decode cX1_glass 91 = .ok (.iinc 4 1, 3) := dk_132 4 1 (dk_at dksX1_glass_3 21 rfl rfl)
theorem dX1_glass_94 : decode cX1_glass 94 = .ok (.goto (-75), 3) := dk_167 255 181 (dk_at dksX1_glass_4 0 rfl rfl)
theorem dX1_glass_97 : decode cX1_glass 97 = .ok (.iload_n 2, 1) := dk_28 (dk_at dksX1_glass_4 3 rfl rfl)
theorem dX1_glass_98 : decode cX1_glass 98 = .ok (.ireturn, 1) := dk_172 (dk_at dksX1_glass_4 4 rfl rfl)
abbrev cX1_seen : ByteArray := prog_1_method_54_code
def yX1_seen : MethodName := ⟨RX1, "seen", "(I)I"⟩
def dkwX1_seen_1 : List UInt8 := [182, 0, 158, 167, 0, 4, 2, 172]
abbrev dktX1_seen_1 : List UInt8 := dkwX1_seen_1 ++ []
def dkwX1_seen_0 : List UInt8 := [42, 27, 182, 0, 231, 153, 0, 23, 42, 42, 180, 0, 46, 42, 180, 0, 46, 180, 0, 155, 27, 46]
abbrev dktX1_seen_0 : List UInt8 := dkwX1_seen_0 ++ dktX1_seen_1
theorem dksX1_seen_0 : cX1_seen.data.toList.drop 0 = dktX1_seen_0 := by decide +kernel
theorem dksX1_seen_1 : cX1_seen.data.toList.drop 22 = dktX1_seen_1 := dk_seg dksX1_seen_0 22 rfl rfl
theorem dX1_seen_0 : decode cX1_seen 0 = .ok (.aload_n 0, 1) := dk_42 (dk_at dksX1_seen_0 0 rfl rfl)
theorem dX1_seen_1 : decode cX1_seen 1 = .ok (.iload_n 1, 1) := dk_27 (dk_at dksX1_seen_0 1 rfl rfl)
theorem dX1_seen_2 : decode cX1_seen 2 = .ok (.invokevirtual 231, 3) := dk_182 0 231 (dk_at dksX1_seen_0 2 rfl rfl)
theorem dX1_seen_5 : decode cX1_seen 5 = .ok (.ifCond .eq 23, 3) := dk_153 0 23 (dk_at dksX1_seen_0 5 rfl rfl)
theorem dX1_seen_8 : decode cX1_seen 8 = .ok (.aload_n 0, 1) := dk_42 (dk_at dksX1_seen_0 8 rfl rfl)
theorem dX1_seen_9 : decode cX1_seen 9 = .ok (.aload_n 0, 1) := dk_42 (dk_at dksX1_seen_0 9 rfl rfl)
theorem dX1_seen_10 : decode cX1_seen 10 = .ok (.getfield 46, 3) := dk_180 0 46 (dk_at dksX1_seen_0 10 rfl rfl)
theorem dX1_seen_13 : decode cX1_seen 13 = .ok (.aload_n 0, 1) := dk_42 (dk_at dksX1_seen_0 13 rfl rfl)
theorem dX1_seen_14 : decode cX1_seen 14 = .ok (.getfield 46, 3) := dk_180 0 46 (dk_at dksX1_seen_0 14 rfl rfl)
theorem dX1_seen_17 : decode cX1_seen 17 = .ok (.getfield 155, 3) := dk_180 0 155 (dk_at dksX1_seen_0 17 rfl rfl)
theorem dX1_seen_20 : decode cX1_seen 20 = .ok (.iload_n 1, 1) := dk_27 (dk_at dksX1_seen_0 20 rfl rfl)
theorem dX1_seen_21 : decode cX1_seen 21 = .ok (.iaload, 1) := dk_46 (dk_at dksX1_seen_0 21 rfl rfl)
theorem dX1_seen_22 : decode cX1_seen 22 = .ok (.invokevirtual 158, 3) := dk_182 0 158 (dk_at dksX1_seen_1 0 rfl rfl)
theorem dX1_seen_25 : decode cX1_seen 25 = .ok (.goto 4, 3) := dk_167 0 4 (dk_at dksX1_seen_1 3 rfl rfl)
theorem dX1_seen_28 : decode cX1_seen 28 = .ok (.iconst (-1), 1) := dk_2 (dk_at dksX1_seen_1 6 rfl rfl)
theorem dX1_seen_29 : decode cX1_seen 29 = .ok (.ireturn, 1) := dk_172 (dk_at dksX1_seen_1 7 rfl rfl)
abbrev cX1_eyes : ByteArray := prog_1_method_55_code
def yX1_eyes : MethodName := ⟨RX1, "eyes", "()I"⟩
def dkwX1_eyes_1 : List UInt8 := [180, 0, 46, 27, 182, 0, 158, 184, 1, 31, 164, 0, 5, 28, 60, 132, 2, 1, 167, 255, 218, 27, 172]
abbrev dktX1_eyes_1 : List UInt8 := dkwX1_eyes_1 ++ []
def dkwX1_eyes_0 : List UInt8 := [3, 60, 4, 61, 28, 16, 10, 162, 0, 38, 42, 42, 180, 0, 46, 28, 182, 0, 158, 184, 1, 31, 42, 42]
abbrev dktX1_eyes_0 : List UInt8 := dkwX1_eyes_0 ++ dktX1_eyes_1
theorem dksX1_eyes_0 : cX1_eyes.data.toList.drop 0 = dktX1_eyes_0 := by decide +kernel
theorem dksX1_eyes_1 : cX1_eyes.data.toList.drop 24 = dktX1_eyes_1 := dk_seg dksX1_eyes_0 24 rfl rfl
theorem dX1_eyes_0 : decode cX1_eyes 0 = .ok (.iconst 0, 1) := dk_3 (dk_at dksX1_eyes_0 0 rfl rfl)
theorem dX1_eyes_1 : decode cX1_eyes 1 = .ok (.istore_n 1, 1) := dk_60 (dk_at dksX1_eyes_0 1 rfl rfl)
theorem dX1_eyes_2 : decode cX1_eyes 2 = .ok (.iconst 1, 1) := dk_4 (dk_at dksX1_eyes_0 2 rfl rfl)
theorem dX1_eyes_3 : decode cX1_eyes 3 = .ok (.istore_n 2, 1) := dk_61 (dk_at dksX1_eyes_0 3 rfl rfl)
theorem dX1_eyes_4 : decode cX1_eyes 4 = .ok (.iload_n 2, 1) := dk_28 (dk_at dksX1_eyes_0 4 rfl rfl)
theorem dX1_eyes_5 : decode cX1_eyes 5 = .ok (.bipush 10, 2) := dk_16 10 (dk_at dksX1_eyes_0 5 rfl rfl)
theorem dX1_eyes_7 : decode cX1_eyes 7 = .ok (.if_icmp .ge 38, 3) := dk_162 0 38 (dk_at dksX1_eyes_0 7 rfl rfl)
theorem dX1_eyes_10 : decode cX1_eyes 10 = .ok (.aload_n 0, 1) := dk_42 (dk_at dksX1_eyes_0 10 rfl rfl)
theorem dX1_eyes_11 : decode cX1_eyes 11 = .ok (.aload_n 0, 1) := dk_42 (dk_at dksX1_eyes_0 11 rfl rfl)
theorem dX1_eyes_12 : decode cX1_eyes 12 = .ok (.getfield 46, 3) := dk_180 0 46 (dk_at dksX1_eyes_0 12 rfl rfl)
theorem dX1_eyes_15 : decode cX1_eyes 15 = .ok (.iload_n 2, 1) := dk_28 (dk_at dksX1_eyes_0 15 rfl rfl)
theorem dX1_eyes_16 : decode cX1_eyes 16 = .ok (.invokevirtual 158, 3) := dk_182 0 158 (dk_at dksX1_eyes_0 16 rfl rfl)
theorem dX1_eyes_19 : decode cX1_eyes 19 = .ok (.invokestatic 287, 3) := dk_184 1 31 (dk_at dksX1_eyes_0 19 rfl rfl)
theorem dX1_eyes_22 : decode cX1_eyes 22 = .ok (.aload_n 0, 1) := dk_42 (dk_at dksX1_eyes_0 22 rfl rfl)
theorem dX1_eyes_23 : decode cX1_eyes 23 = .ok (.aload_n 0, 1) := dk_42 (dk_at dksX1_eyes_0 23 rfl rfl)
theorem dX1_eyes_24 : decode cX1_eyes 24 = .ok (.getfield 46, 3) := dk_180 0 46 (dk_at dksX1_eyes_1 0 rfl rfl)
theorem dX1_eyes_27 : decode cX1_eyes 27 = .ok (.iload_n 1, 1) := dk_27 (dk_at dksX1_eyes_1 3 rfl rfl)
theorem dX1_eyes_28 : decode cX1_eyes 28 = .ok (.invokevirtual 158, 3) := dk_182 0 158 (dk_at dksX1_eyes_1 4 rfl rfl)
theorem dX1_eyes_31 : decode cX1_eyes 31 = .ok (.invokestatic 287, 3) := dk_184 1 31 (dk_at dksX1_eyes_1 7 rfl rfl)
theorem dX1_eyes_34 : decode cX1_eyes 34 = .ok (.if_icmp .le 5, 3) := dk_164 0 5 (dk_at dksX1_eyes_1 10 rfl rfl)
theorem dX1_eyes_37 : decode cX1_eyes 37 = .ok (.iload_n 2, 1) := dk_28 (dk_at dksX1_eyes_1 13 rfl rfl)
theorem dX1_eyes_38 : decode cX1_eyes 38 = .ok (.istore_n 1, 1) := dk_60 (dk_at dksX1_eyes_1 14 rfl rfl)
theorem dX1_eyes_39 : decode cX1_eyes 39 = .ok (.iinc 2 1, 3) := dk_132 2 1 (dk_at dksX1_eyes_1 15 rfl rfl)
theorem dX1_eyes_42 : decode cX1_eyes 42 = .ok (.goto (-38), 3) := dk_167 255 218 (dk_at dksX1_eyes_1 18 rfl rfl)
theorem dX1_eyes_45 : decode cX1_eyes 45 = .ok (.iload_n 1, 1) := dk_27 (dk_at dksX1_eyes_1 21 rfl rfl)
theorem dX1_eyes_46 : decode cX1_eyes 46 = .ok (.ireturn, 1) := dk_172 (dk_at dksX1_eyes_1 22 rfl rfl)
abbrev cX1_blind : ByteArray := prog_1_method_56_code
def yX1_blind : MethodName := ⟨RX1, "blind", "()I"⟩
def dkwX1_blind_1 : List UInt8 := [28, 120, 128, 60, 132, 2, 1, 167, 255, 229, 27, 172]
abbrev dktX1_blind_1 : List UInt8 := dkwX1_blind_1 ++ []
def dkwX1_blind_0 : List UInt8 := [3, 60, 3, 61, 28, 16, 10, 162, 0, 27, 42, 42, 180, 0, 46, 28, 182, 0, 158, 154, 0, 9, 27, 4]
abbrev dktX1_blind_0 : List UInt8 := dkwX1_blind_0 ++ dktX1_blind_1
theorem dksX1_blind_0 : cX1_blind.data.toList.drop 0 = dktX1_blind_0 := by decide +kernel
theorem dksX1_blind_1 : cX1_blind.data.toList.drop 24 = dktX1_blind_1 := dk_seg dksX1_blind_0 24 rfl rfl
theorem dX1_blind_0 : decode cX1_blind 0 = .ok (.iconst 0, 1) := dk_3 (dk_at dksX1_blind_0 0 rfl rfl)
theorem dX1_blind_1 : decode cX1_blind 1 = .ok (.istore_n 1, 1) := dk_60 (dk_at dksX1_blind_0 1 rfl rfl)
theorem dX1_blind_2 : decode cX1_blind 2 = .ok (.iconst 0, 1) := dk_3 (dk_at dksX1_blind_0 2 rfl rfl)
theorem dX1_blind_3 : decode cX1_blind 3 = .ok (.istore_n 2, 1) := dk_61 (dk_at dksX1_blind_0 3 rfl rfl)
theorem dX1_blind_4 : decode cX1_blind 4 = .ok (.iload_n 2, 1) := dk_28 (dk_at dksX1_blind_0 4 rfl rfl)
theorem dX1_blind_5 : decode cX1_blind 5 = .ok (.bipush 10, 2) := dk_16 10 (dk_at dksX1_blind_0 5 rfl rfl)
theorem dX1_blind_7 : decode cX1_blind 7 = .ok (.if_icmp .ge 27, 3) := dk_162 0 27 (dk_at dksX1_blind_0 7 rfl rfl)
theorem dX1_blind_10 : decode cX1_blind 10 = .ok (.aload_n 0, 1) := dk_42 (dk_at dksX1_blind_0 10 rfl rfl)
theorem dX1_blind_11 : decode cX1_blind 11 = .ok (.aload_n 0, 1) := dk_42 (dk_at dksX1_blind_0 11 rfl rfl)
theorem dX1_blind_12 : decode cX1_blind 12 = .ok (.getfield 46, 3) := dk_180 0 46 (dk_at dksX1_blind_0 12 rfl rfl)
theorem dX1_blind_15 : decode cX1_blind 15 = .ok (.iload_n 2, 1) := dk_28 (dk_at dksX1_blind_0 15 rfl rfl)
theorem dX1_blind_16 : decode cX1_blind 16 = .ok (.invokevirtual 158, 3) := dk_182 0 158 (dk_at dksX1_blind_0 16 rfl rfl)
theorem dX1_blind_19 : decode cX1_blind 19 = .ok (.ifCond .ne 9, 3) := dk_154 0 9 (dk_at dksX1_blind_0 19 rfl rfl)
theorem dX1_blind_22 : decode cX1_blind 22 = .ok (.iload_n 1, 1) := dk_27 (dk_at dksX1_blind_0 22 rfl rfl)
theorem dX1_blind_23 : decode cX1_blind 23 = .ok (.iconst 1, 1) := dk_4 (dk_at dksX1_blind_0 23 rfl rfl)
theorem dX1_blind_24 : decode cX1_blind 24 = .ok (.iload_n 2, 1) := dk_28 (dk_at dksX1_blind_1 0 rfl rfl)
theorem dX1_blind_25 : decode cX1_blind 25 = .ok (.ishl, 1) := dk_120 (dk_at dksX1_blind_1 1 rfl rfl)
theorem dX1_blind_26 : decode cX1_blind 26 = .ok (.ior, 1) := dk_128 (dk_at dksX1_blind_1 2 rfl rfl)
theorem dX1_blind_27 : decode cX1_blind 27 = .ok (.istore_n 1, 1) := dk_60 (dk_at dksX1_blind_1 3 rfl rfl)
theorem dX1_blind_28 : decode cX1_blind 28 = .ok (.iinc 2 1, 3) := dk_132 2 1 (dk_at dksX1_blind_1 4 rfl rfl)
theorem dX1_blind_31 : decode cX1_blind 31 = .ok (.goto (-27), 3) := dk_167 255 229 (dk_at dksX1_blind_1 7 rfl rfl)
theorem dX1_blind_34 : decode cX1_blind 34 = .ok (.iload_n 1, 1) := dk_27 (dk_at dksX1_blind_1 10 rfl rfl)
theorem dX1_blind_35 : decode cX1_blind 35 = .ok (.ireturn, 1) := dk_172 (dk_at dksX1_blind_1 11 rfl rfl)
abbrev cX1_young : ByteArray := prog_1_method_58_code
def yX1_young : MethodName := ⟨RX1, "young", "(I)I"⟩
def dkwX1_young_2 : List UInt8 := [132, 2, 1, 132, 5, 1, 167, 255, 228, 132, 3, 1, 167, 255, 200, 28, 172]
abbrev dktX1_young_2 : List UInt8 := dkwX1_young_2 ++ []
def dkwX1_young_1 : List UInt8 := [54, 5, 21, 5, 25, 4, 180, 0, 174, 162, 0, 24, 25, 4, 180, 0, 181, 21, 5, 46, 27, 163, 0, 6]
abbrev dktX1_young_1 : List UInt8 := dkwX1_young_1 ++ dktX1_young_2
def dkwX1_young_0 : List UInt8 := [3, 61, 3, 62, 29, 42, 182, 0, 121, 162, 0, 54, 42, 180, 0, 46, 180, 0, 161, 29, 50, 58, 4, 3]
abbrev dktX1_young_0 : List UInt8 := dkwX1_young_0 ++ dktX1_young_1
theorem dksX1_young_0 : cX1_young.data.toList.drop 0 = dktX1_young_0 := by decide +kernel
theorem dksX1_young_1 : cX1_young.data.toList.drop 24 = dktX1_young_1 := dk_seg dksX1_young_0 24 rfl rfl
theorem dksX1_young_2 : cX1_young.data.toList.drop 48 = dktX1_young_2 := dk_seg dksX1_young_1 24 rfl rfl
theorem dX1_young_0 : decode cX1_young 0 = .ok (.iconst 0, 1) := dk_3 (dk_at dksX1_young_0 0 rfl rfl)
theorem dX1_young_1 : decode cX1_young 1 = .ok (.istore_n 2, 1) := dk_61 (dk_at dksX1_young_0 1 rfl rfl)
theorem dX1_young_2 : decode cX1_young 2 = .ok (.iconst 0, 1) := dk_3 (dk_at dksX1_young_0 2 rfl rfl)
theorem dX1_young_3 : decode cX1_young 3 = .ok (.istore_n 3, 1) := dk_62 (dk_at dksX1_young_0 3 rfl rfl)
theorem dX1_young_4 : decode cX1_young 4 = .ok (.iload_n 3, 1) := dk_29 (dk_at dksX1_young_0 4 rfl rfl)
theorem dX1_young_5 : decode cX1_young 5 = .ok (.aload_n 0, 1) := dk_42 (dk_at dksX1_young_0 5 rfl rfl)
theorem dX1_young_6 : decode cX1_young 6 = .ok (.invokevirtual 121, 3) := dk_182 0 121 (dk_at dksX1_young_0 6 rfl rfl)
theorem dX1_young_9 : decode cX1_young 9 = .ok (.if_icmp .ge 54, 3) := dk_162 0 54 (dk_at dksX1_young_0 9 rfl rfl)
theorem dX1_young_12 : decode cX1_young 12 = .ok (.aload_n 0, 1) := dk_42 (dk_at dksX1_young_0 12 rfl rfl)
theorem dX1_young_13 : decode cX1_young 13 = .ok (.getfield 46, 3) := dk_180 0 46 (dk_at dksX1_young_0 13 rfl rfl)
theorem dX1_young_16 : decode cX1_young 16 = .ok (.getfield 161, 3) := dk_180 0 161 (dk_at dksX1_young_0 16 rfl rfl)
theorem dX1_young_19 : decode cX1_young 19 = .ok (.iload_n 3, 1) := dk_29 (dk_at dksX1_young_0 19 rfl rfl)
theorem dX1_young_20 : decode cX1_young 20 = .ok (.aaload, 1) := dk_50 (dk_at dksX1_young_0 20 rfl rfl)
theorem dX1_young_21 : decode cX1_young 21 = .ok (.astore 4, 2) := dk_58 4 (dk_at dksX1_young_0 21 rfl rfl)
theorem dX1_young_23 : decode cX1_young 23 = .ok (.iconst 0, 1) := dk_3 (dk_at dksX1_young_0 23 rfl rfl)
theorem dX1_young_24 : decode cX1_young 24 = .ok (.istore 5, 2) := dk_54 5 (dk_at dksX1_young_1 0 rfl rfl)
theorem dX1_young_26 : decode cX1_young 26 = .ok (.iload 5, 2) := dk_21 5 (dk_at dksX1_young_1 2 rfl rfl)
theorem dX1_young_28 : decode cX1_young 28 = .ok (.aload 4, 2) := dk_25 4 (dk_at dksX1_young_1 4 rfl rfl)
theorem dX1_young_30 : decode cX1_young 30 = .ok (.getfield 174, 3) := dk_180 0 174 (dk_at dksX1_young_1 6 rfl rfl)
theorem dX1_young_33 : decode cX1_young 33 = .ok (.if_icmp .ge 24, 3) := dk_162 0 24 (dk_at dksX1_young_1 9 rfl rfl)
theorem dX1_young_36 : decode cX1_young 36 = .ok (.aload 4, 2) := dk_25 4 (dk_at dksX1_young_1 12 rfl rfl)
theorem dX1_young_38 : decode cX1_young 38 = .ok (.getfield 181, 3) := dk_180 0 181 (dk_at dksX1_young_1 14 rfl rfl)
theorem dX1_young_41 : decode cX1_young 41 = .ok (.iload 5, 2) := dk_21 5 (dk_at dksX1_young_1 17 rfl rfl)
theorem dX1_young_43 : decode cX1_young 43 = .ok (.iaload, 1) := dk_46 (dk_at dksX1_young_1 19 rfl rfl)
theorem dX1_young_44 : decode cX1_young 44 = .ok (.iload_n 1, 1) := dk_27 (dk_at dksX1_young_1 20 rfl rfl)
theorem dX1_young_45 : decode cX1_young 45 = .ok (.if_icmp .gt 6, 3) := dk_163 0 6 (dk_at dksX1_young_1 21 rfl rfl)
theorem dX1_young_48 : decode cX1_young 48 = .ok (.iinc 2 1, 3) := dk_132 2 1 (dk_at dksX1_young_2 0 rfl rfl)
theorem dX1_young_51 : decode cX1_young 51 = .ok (.iinc 5 1, 3) := dk_132 5 1 (dk_at dksX1_young_2 3 rfl rfl)
theorem dX1_young_54 : decode cX1_young 54 = .ok (.goto (-28), 3) := dk_167 255 228 (dk_at dksX1_young_2 6 rfl rfl)
theorem dX1_young_57 : decode cX1_young 57 = .ok (.iinc 3 1, 3) := dk_132 3 1 (dk_at dksX1_young_2 9 rfl rfl)
theorem dX1_young_60 : decode cX1_young 60 = .ok (.goto (-56), 3) := dk_167 255 200 (dk_at dksX1_young_2 12 rfl rfl)
theorem dX1_young_63 : decode cX1_young 63 = .ok (.iload_n 2, 1) := dk_28 (dk_at dksX1_young_2 15 rfl rfl)
theorem dX1_young_64 : decode cX1_young 64 = .ok (.ireturn, 1) := dk_172 (dk_at dksX1_young_2 16 rfl rfl)
abbrev cX1_trail : ByteArray := prog_1_method_59_code
def yX1_trail : MethodName := ⟨RX1, "trail", "(I)I"⟩
def dkwX1_trail_3 : List UInt8 := [128, 61, 132, 4, 1, 167, 255, 205, 132, 3, 1, 167, 255, 188, 28, 172]
abbrev dktX1_trail_3 : List UInt8 := dkwX1_trail_3 ++ []
def dkwX1_trail_2 : List UInt8 := [182, 1, 42, 153, 0, 23, 28, 4, 42, 180, 0, 46, 180, 0, 161, 29, 50, 180, 0, 228, 21, 4, 46, 120]
abbrev dktX1_trail_2 : List UInt8 := dkwX1_trail_2 ++ dktX1_trail_3
def dkwX1_trail_1 : List UInt8 := [54, 4, 21, 4, 42, 180, 0, 46, 180, 0, 161, 29, 50, 180, 0, 174, 162, 0, 40, 42, 29, 21, 4, 27]
abbrev dktX1_trail_1 : List UInt8 := dkwX1_trail_1 ++ dktX1_trail_2
def dkwX1_trail_0 : List UInt8 := [42, 27, 182, 0, 231, 154, 0, 5, 2, 172, 3, 61, 3, 62, 29, 42, 182, 0, 121, 162, 0, 66, 3]
abbrev dktX1_trail_0 : List UInt8 := dkwX1_trail_0 ++ dktX1_trail_1
theorem dksX1_trail_0 : cX1_trail.data.toList.drop 0 = dktX1_trail_0 := by decide +kernel
theorem dksX1_trail_1 : cX1_trail.data.toList.drop 23 = dktX1_trail_1 := dk_seg dksX1_trail_0 23 rfl rfl
theorem dksX1_trail_2 : cX1_trail.data.toList.drop 47 = dktX1_trail_2 := dk_seg dksX1_trail_1 24 rfl rfl
theorem dksX1_trail_3 : cX1_trail.data.toList.drop 71 = dktX1_trail_3 := dk_seg dksX1_trail_2 24 rfl rfl
theorem dX1_trail_0 : decode cX1_trail 0 = .ok (.aload_n 0, 1) := dk_42 (dk_at dksX1_trail_0 0 rfl rfl)
theorem dX1_trail_1 : decode cX1_trail 1 = .ok (.iload_n 1, 1) := dk_27 (dk_at dksX1_trail_0 1 rfl rfl)
theorem dX1_trail_2 : decode cX1_trail 2 = .ok (.invokevirtual 231, 3) := dk_182 0 231 (dk_at dksX1_trail_0 2 rfl rfl)
theorem dX1_trail_5 : decode cX1_trail 5 = .ok (.ifCond .ne 5, 3) := dk_154 0 5 (dk_at dksX1_trail_0 5 rfl rfl)
theorem dX1_trail_8 : decode cX1_trail 8 = .ok (.iconst (-1), 1) := dk_2 (dk_at dksX1_trail_0 8 rfl rfl)
theorem dX1_trail_9 : decode cX1_trail 9 = .ok (.ireturn, 1) := dk_172 (dk_at dksX1_trail_0 9 rfl rfl)
theorem dX1_trail_10 : decode cX1_trail 10 = .ok (.iconst 0, 1) := dk_3 (dk_at dksX1_trail_0 10 rfl rfl)
theorem dX1_trail_11 : decode cX1_trail 11 = .ok (.istore_n 2, 1) := dk_61 (dk_at dksX1_trail_0 11 rfl rfl)
theorem dX1_trail_12 : decode cX1_trail 12 = .ok (.iconst 0, 1) := dk_3 (dk_at dksX1_trail_0 12 rfl rfl)
theorem dX1_trail_13 : decode cX1_trail 13 = .ok (.istore_n 3, 1) := dk_62 (dk_at dksX1_trail_0 13 rfl rfl)
theorem dX1_trail_14 : decode cX1_trail 14 = .ok (.iload_n 3, 1) := dk_29 (dk_at dksX1_trail_0 14 rfl rfl)
theorem dX1_trail_15 : decode cX1_trail 15 = .ok (.aload_n 0, 1) := dk_42 (dk_at dksX1_trail_0 15 rfl rfl)
theorem dX1_trail_16 : decode cX1_trail 16 = .ok (.invokevirtual 121, 3) := dk_182 0 121 (dk_at dksX1_trail_0 16 rfl rfl)
theorem dX1_trail_19 : decode cX1_trail 19 = .ok (.if_icmp .ge 66, 3) := dk_162 0 66 (dk_at dksX1_trail_0 19 rfl rfl)
theorem dX1_trail_22 : decode cX1_trail 22 = .ok (.iconst 0, 1) := dk_3 (dk_at dksX1_trail_0 22 rfl rfl)
theorem dX1_trail_23 : decode cX1_trail 23 = .ok (.istore 4, 2) := dk_54 4 (dk_at dksX1_trail_1 0 rfl rfl)
theorem dX1_trail_25 : decode cX1_trail 25 = .ok (.iload 4, 2) := dk_21 4 (dk_at dksX1_trail_1 2 rfl rfl)
theorem dX1_trail_27 : decode cX1_trail 27 = .ok (.aload_n 0, 1) := dk_42 (dk_at dksX1_trail_1 4 rfl rfl)
theorem dX1_trail_28 : decode cX1_trail 28 = .ok (.getfield 46, 3) := dk_180 0 46 (dk_at dksX1_trail_1 5 rfl rfl)
theorem dX1_trail_31 : decode cX1_trail 31 = .ok (.getfield 161, 3) := dk_180 0 161 (dk_at dksX1_trail_1 8 rfl rfl)
theorem dX1_trail_34 : decode cX1_trail 34 = .ok (.iload_n 3, 1) := dk_29 (dk_at dksX1_trail_1 11 rfl rfl)
theorem dX1_trail_35 : decode cX1_trail 35 = .ok (.aaload, 1) := dk_50 (dk_at dksX1_trail_1 12 rfl rfl)
theorem dX1_trail_36 : decode cX1_trail 36 = .ok (.getfield 174, 3) := dk_180 0 174 (dk_at dksX1_trail_1 13 rfl rfl)
theorem dX1_trail_39 : decode cX1_trail 39 = .ok (.if_icmp .ge 40, 3) := dk_162 0 40 (dk_at dksX1_trail_1 16 rfl rfl)
theorem dX1_trail_42 : decode cX1_trail 42 = .ok (.aload_n 0, 1) := dk_42 (dk_at dksX1_trail_1 19 rfl rfl)
theorem dX1_trail_43 : decode cX1_trail 43 = .ok (.iload_n 3, 1) := dk_29 (dk_at dksX1_trail_1 20 rfl rfl)
theorem dX1_trail_44 : decode cX1_trail 44 = .ok (.iload 4, 2) := dk_21 4 (dk_at dksX1_trail_1 21 rfl rfl)
theorem dX1_trail_46 : decode cX1_trail 46 = .ok (.iload_n 1, 1) := dk_27 (dk_at dksX1_trail_1 23 rfl rfl)
theorem dX1_trail_47 : decode cX1_trail 47 = .ok (.invokevirtual 298, 3) := dk_182 1 42 (dk_at dksX1_trail_2 0 rfl rfl)
theorem dX1_trail_50 : decode cX1_trail 50 = .ok (.ifCond .eq 23, 3) := dk_153 0 23 (dk_at dksX1_trail_2 3 rfl rfl)
theorem dX1_trail_53 : decode cX1_trail 53 = .ok (.iload_n 2, 1) := dk_28 (dk_at dksX1_trail_2 6 rfl rfl)
theorem dX1_trail_54 : decode cX1_trail 54 = .ok (.iconst 1, 1) := dk_4 (dk_at dksX1_trail_2 7 rfl rfl)
theorem dX1_trail_55 : decode cX1_trail 55 = .ok (.aload_n 0, 1) := dk_42 (dk_at dksX1_trail_2 8 rfl rfl)
theorem dX1_trail_56 : decode cX1_trail 56 = .ok (.getfield 46, 3) := dk_180 0 46 (dk_at dksX1_trail_2 9 rfl rfl)
theorem dX1_trail_59 : decode cX1_trail 59 = .ok (.getfield 161, 3) := dk_180 0 161 (dk_at dksX1_trail_2 12 rfl rfl)
theorem dX1_trail_62 : decode cX1_trail 62 = .ok (.iload_n 3, 1) := dk_29 (dk_at dksX1_trail_2 15 rfl rfl)
theorem dX1_trail_63 : decode cX1_trail 63 = .ok (.aaload, 1) := dk_50 (dk_at dksX1_trail_2 16 rfl rfl)
theorem dX1_trail_64 : decode cX1_trail 64 = .ok (.getfield 228, 3) := dk_180 0 228 (dk_at dksX1_trail_2 17 rfl rfl)
theorem dX1_trail_67 : decode cX1_trail 67 = .ok (.iload 4, 2) := dk_21 4 (dk_at dksX1_trail_2 20 rfl rfl)
theorem dX1_trail_69 : decode cX1_trail 69 = .ok (.iaload, 1) := dk_46 (dk_at dksX1_trail_2 22 rfl rfl)
theorem dX1_trail_70 : decode cX1_trail 70 = .ok (.ishl, 1) := dk_120 (dk_at dksX1_trail_2 23 rfl rfl)
theorem dX1_trail_71 : decode cX1_trail 71 = .ok (.ior, 1) := dk_128 (dk_at dksX1_trail_3 0 rfl rfl)
theorem dX1_trail_72 : decode cX1_trail 72 = .ok (.istore_n 2, 1) := dk_61 (dk_at dksX1_trail_3 1 rfl rfl)
theorem dX1_trail_73 : decode cX1_trail 73 = .ok (.iinc 4 1, 3) := dk_132 4 1 (dk_at dksX1_trail_3 2 rfl rfl)
theorem dX1_trail_76 : decode cX1_trail 76 = .ok (.goto (-51), 3) := dk_167 255 205 (dk_at dksX1_trail_3 5 rfl rfl)
theorem dX1_trail_79 : decode cX1_trail 79 = .ok (.iinc 3 1, 3) := dk_132 3 1 (dk_at dksX1_trail_3 8 rfl rfl)
theorem dX1_trail_82 : decode cX1_trail 82 = .ok (.goto (-68), 3) := dk_167 255 188 (dk_at dksX1_trail_3 11 rfl rfl)
theorem dX1_trail_85 : decode cX1_trail 85 = .ok (.iload_n 2, 1) := dk_28 (dk_at dksX1_trail_3 14 rfl rfl)
theorem dX1_trail_86 : decode cX1_trail 86 = .ok (.ireturn, 1) := dk_172 (dk_at dksX1_trail_3 15 rfl rfl)
abbrev cX1_isShownOf : ByteArray := prog_1_method_57_code
def yX1_isShownOf : MethodName := ⟨RX1, "isShownOf", "(III)Z"⟩
def dkwX1_isShownOf_1 : List UInt8 := [180, 0, 46, 180, 0, 161, 27, 50, 180, 0, 225, 28, 46, 29, 160, 0, 7, 4, 167, 0, 4, 3, 172]
abbrev dktX1_isShownOf_1 : List UInt8 := dkwX1_isShownOf_1 ++ []
def dkwX1_isShownOf_0 : List UInt8 := [42, 180, 0, 46, 27, 182, 0, 219, 153, 0, 37, 42, 42, 180, 0, 46, 27, 182, 0, 222, 153, 0, 25, 42]
abbrev dktX1_isShownOf_0 : List UInt8 := dkwX1_isShownOf_0 ++ dktX1_isShownOf_1
theorem dksX1_isShownOf_0 : cX1_isShownOf.data.toList.drop 0 = dktX1_isShownOf_0 := by decide +kernel
theorem dksX1_isShownOf_1 : cX1_isShownOf.data.toList.drop 24 = dktX1_isShownOf_1 := dk_seg dksX1_isShownOf_0 24 rfl rfl
theorem dX1_isShownOf_0 : decode cX1_isShownOf 0 = .ok (.aload_n 0, 1) := dk_42 (dk_at dksX1_isShownOf_0 0 rfl rfl)
theorem dX1_isShownOf_1 : decode cX1_isShownOf 1 = .ok (.getfield 46, 3) := dk_180 0 46 (dk_at dksX1_isShownOf_0 1 rfl rfl)
theorem dX1_isShownOf_4 : decode cX1_isShownOf 4 = .ok (.iload_n 1, 1) := dk_27 (dk_at dksX1_isShownOf_0 4 rfl rfl)
theorem dX1_isShownOf_5 : decode cX1_isShownOf 5 = .ok (.invokevirtual 219, 3) := dk_182 0 219 (dk_at dksX1_isShownOf_0 5 rfl rfl)
theorem dX1_isShownOf_8 : decode cX1_isShownOf 8 = .ok (.ifCond .eq 37, 3) := dk_153 0 37 (dk_at dksX1_isShownOf_0 8 rfl rfl)
theorem dX1_isShownOf_11 : decode cX1_isShownOf 11 = .ok (.aload_n 0, 1) := dk_42 (dk_at dksX1_isShownOf_0 11 rfl rfl)
theorem dX1_isShownOf_12 : decode cX1_isShownOf 12 = .ok (.aload_n 0, 1) := dk_42 (dk_at dksX1_isShownOf_0 12 rfl rfl)
theorem dX1_isShownOf_13 : decode cX1_isShownOf 13 = .ok (.getfield 46, 3) := dk_180 0 46 (dk_at dksX1_isShownOf_0 13 rfl rfl)
theorem dX1_isShownOf_16 : decode cX1_isShownOf 16 = .ok (.iload_n 1, 1) := dk_27 (dk_at dksX1_isShownOf_0 16 rfl rfl)
theorem dX1_isShownOf_17 : decode cX1_isShownOf 17 = .ok (.invokevirtual 222, 3) := dk_182 0 222 (dk_at dksX1_isShownOf_0 17 rfl rfl)
theorem dX1_isShownOf_20 : decode cX1_isShownOf 20 = .ok (.ifCond .eq 25, 3) := dk_153 0 25 (dk_at dksX1_isShownOf_0 20 rfl rfl)
theorem dX1_isShownOf_23 : decode cX1_isShownOf 23 = .ok (.aload_n 0, 1) := dk_42 (dk_at dksX1_isShownOf_0 23 rfl rfl)
theorem dX1_isShownOf_24 : decode cX1_isShownOf 24 = .ok (.getfield 46, 3) := dk_180 0 46 (dk_at dksX1_isShownOf_1 0 rfl rfl)
theorem dX1_isShownOf_27 : decode cX1_isShownOf 27 = .ok (.getfield 161, 3) := dk_180 0 161 (dk_at dksX1_isShownOf_1 3 rfl rfl)
theorem dX1_isShownOf_30 : decode cX1_isShownOf 30 = .ok (.iload_n 1, 1) := dk_27 (dk_at dksX1_isShownOf_1 6 rfl rfl)
theorem dX1_isShownOf_31 : decode cX1_isShownOf 31 = .ok (.aaload, 1) := dk_50 (dk_at dksX1_isShownOf_1 7 rfl rfl)
theorem dX1_isShownOf_32 : decode cX1_isShownOf 32 = .ok (.getfield 225, 3) := dk_180 0 225 (dk_at dksX1_isShownOf_1 8 rfl rfl)
theorem dX1_isShownOf_35 : decode cX1_isShownOf 35 = .ok (.iload_n 2, 1) := dk_28 (dk_at dksX1_isShownOf_1 11 rfl rfl)
theorem dX1_isShownOf_36 : decode cX1_isShownOf 36 = .ok (.iaload, 1) := dk_46 (dk_at dksX1_isShownOf_1 12 rfl rfl)
theorem dX1_isShownOf_37 : decode cX1_isShownOf 37 = .ok (.iload_n 3, 1) := dk_29 (dk_at dksX1_isShownOf_1 13 rfl rfl)
theorem dX1_isShownOf_38 : decode cX1_isShownOf 38 = .ok (.if_icmp .ne 7, 3) := dk_160 0 7 (dk_at dksX1_isShownOf_1 14 rfl rfl)
theorem dX1_isShownOf_41 : decode cX1_isShownOf 41 = .ok (.iconst 1, 1) := dk_4 (dk_at dksX1_isShownOf_1 17 rfl rfl)
theorem dX1_isShownOf_42 : decode cX1_isShownOf 42 = .ok (.goto 4, 3) := dk_167 0 4 (dk_at dksX1_isShownOf_1 18 rfl rfl)
theorem dX1_isShownOf_45 : decode cX1_isShownOf 45 = .ok (.iconst 0, 1) := dk_3 (dk_at dksX1_isShownOf_1 21 rfl rfl)
theorem dX1_isShownOf_46 : decode cX1_isShownOf 46 = .ok (.ireturn, 1) := dk_172 (dk_at dksX1_isShownOf_1 22 rfl rfl)
abbrev cX1_last : ByteArray := prog_1_method_60_code
def yX1_last : MethodName := ⟨RX1, "last", "(I)I"⟩
def dkwX1_last_4 : List UInt8 := [21, 6, 46, 62, 132, 6, 255, 167, 255, 199, 132, 4, 1, 167, 255, 155, 28, 172]
abbrev dktX1_last_4 : List UInt8 := dkwX1_last_4 ++ []
def dkwX1_last_3 : List UInt8 := [21, 6, 46, 29, 161, 0, 6, 167, 0, 21, 25, 5, 180, 0, 228, 21, 6, 46, 61, 25, 5, 180, 0, 181]
abbrev dktX1_last_3 : List UInt8 := dkwX1_last_3 ++ dktX1_last_4
def dkwX1_last_2 : List UInt8 := [155, 0, 58, 42, 21, 4, 21, 6, 27, 182, 1, 42, 153, 0, 40, 28, 155, 0, 18, 25, 5, 180, 0, 181]
abbrev dktX1_last_2 : List UInt8 := dkwX1_last_2 ++ dktX1_last_3
def dkwX1_last_1 : List UInt8 := [42, 180, 0, 46, 180, 0, 161, 21, 4, 50, 58, 5, 25, 5, 180, 0, 174, 4, 100, 54, 6, 21, 6]
abbrev dktX1_last_1 : List UInt8 := dkwX1_last_1 ++ dktX1_last_2
def dkwX1_last_0 : List UInt8 := [2, 61, 3, 62, 3, 54, 4, 21, 4, 42, 182, 0, 121, 162, 0, 98, 42, 27, 182, 0, 231, 153, 0, 90]
abbrev dktX1_last_0 : List UInt8 := dkwX1_last_0 ++ dktX1_last_1
theorem dksX1_last_0 : cX1_last.data.toList.drop 0 = dktX1_last_0 := by decide +kernel
theorem dksX1_last_1 : cX1_last.data.toList.drop 24 = dktX1_last_1 := dk_seg dksX1_last_0 24 rfl rfl
theorem dksX1_last_2 : cX1_last.data.toList.drop 47 = dktX1_last_2 := dk_seg dksX1_last_1 23 rfl rfl
theorem dksX1_last_3 : cX1_last.data.toList.drop 71 = dktX1_last_3 := dk_seg dksX1_last_2 24 rfl rfl
theorem dksX1_last_4 : cX1_last.data.toList.drop 95 = dktX1_last_4 := dk_seg dksX1_last_3 24 rfl rfl
theorem dX1_last_0 : decode cX1_last 0 = .ok (.iconst (-1), 1) := dk_2 (dk_at dksX1_last_0 0 rfl rfl)
theorem dX1_last_1 : decode cX1_last 1 = .ok (.istore_n 2, 1) := dk_61 (dk_at dksX1_last_0 1 rfl rfl)
theorem dX1_last_2 : decode cX1_last 2 = .ok (.iconst 0, 1) := dk_3 (dk_at dksX1_last_0 2 rfl rfl)
theorem dX1_last_3 : decode cX1_last 3 = .ok (.istore_n 3, 1) := dk_62 (dk_at dksX1_last_0 3 rfl rfl)
theorem dX1_last_4 : decode cX1_last 4 = .ok (.iconst 0, 1) := dk_3 (dk_at dksX1_last_0 4 rfl rfl)
theorem dX1_last_5 : decode cX1_last 5 = .ok (.istore 4, 2) := dk_54 4 (dk_at dksX1_last_0 5 rfl rfl)
theorem dX1_last_7 : decode cX1_last 7 = .ok (.iload 4, 2) := dk_21 4 (dk_at dksX1_last_0 7 rfl rfl)
theorem dX1_last_9 : decode cX1_last 9 = .ok (.aload_n 0, 1) := dk_42 (dk_at dksX1_last_0 9 rfl rfl)
theorem dX1_last_10 : decode cX1_last 10 = .ok (.invokevirtual 121, 3) := dk_182 0 121 (dk_at dksX1_last_0 10 rfl rfl)
theorem dX1_last_13 : decode cX1_last 13 = .ok (.if_icmp .ge 98, 3) := dk_162 0 98 (dk_at dksX1_last_0 13 rfl rfl)
theorem dX1_last_16 : decode cX1_last 16 = .ok (.aload_n 0, 1) := dk_42 (dk_at dksX1_last_0 16 rfl rfl)
theorem dX1_last_17 : decode cX1_last 17 = .ok (.iload_n 1, 1) := dk_27 (dk_at dksX1_last_0 17 rfl rfl)
theorem dX1_last_18 : decode cX1_last 18 = .ok (.invokevirtual 231, 3) := dk_182 0 231 (dk_at dksX1_last_0 18 rfl rfl)
theorem dX1_last_21 : decode cX1_last 21 = .ok (.ifCond .eq 90, 3) := dk_153 0 90 (dk_at dksX1_last_0 21 rfl rfl)
theorem dX1_last_24 : decode cX1_last 24 = .ok (.aload_n 0, 1) := dk_42 (dk_at dksX1_last_1 0 rfl rfl)
theorem dX1_last_25 : decode cX1_last 25 = .ok (.getfield 46, 3) := dk_180 0 46 (dk_at dksX1_last_1 1 rfl rfl)
theorem dX1_last_28 : decode cX1_last 28 = .ok (.getfield 161, 3) := dk_180 0 161 (dk_at dksX1_last_1 4 rfl rfl)
theorem dX1_last_31 : decode cX1_last 31 = .ok (.iload 4, 2) := dk_21 4 (dk_at dksX1_last_1 7 rfl rfl)
theorem dX1_last_33 : decode cX1_last 33 = .ok (.aaload, 1) := dk_50 (dk_at dksX1_last_1 9 rfl rfl)
theorem dX1_last_34 : decode cX1_last 34 = .ok (.astore 5, 2) := dk_58 5 (dk_at dksX1_last_1 10 rfl rfl)
theorem dX1_last_36 : decode cX1_last 36 = .ok (.aload 5, 2) := dk_25 5 (dk_at dksX1_last_1 12 rfl rfl)
theorem dX1_last_38 : decode cX1_last 38 = .ok (.getfield 174, 3) := dk_180 0 174 (dk_at dksX1_last_1 14 rfl rfl)
theorem dX1_last_41 : decode cX1_last 41 = .ok (.iconst 1, 1) := dk_4 (dk_at dksX1_last_1 17 rfl rfl)
theorem dX1_last_42 : decode cX1_last 42 = .ok (.isub, 1) := dk_100 (dk_at dksX1_last_1 18 rfl rfl)
theorem dX1_last_43 : decode cX1_last 43 = .ok (.istore 6, 2) := dk_54 6 (dk_at dksX1_last_1 19 rfl rfl)
theorem dX1_last_45 : decode cX1_last 45 = .ok (.iload 6, 2) := dk_21 6 (dk_at dksX1_last_1 21 rfl rfl)
theorem dX1_last_47 : decode cX1_last 47 = .ok (.ifCond .lt 58, 3) := dk_155 0 58 (dk_at dksX1_last_2 0 rfl rfl)
theorem dX1_last_50 : decode cX1_last 50 = .ok (.aload_n 0, 1) := dk_42 (dk_at dksX1_last_2 3 rfl rfl)
theorem dX1_last_51 : decode cX1_last 51 = .ok (.iload 4, 2) := dk_21 4 (dk_at dksX1_last_2 4 rfl rfl)
theorem dX1_last_53 : decode cX1_last 53 = .ok (.iload 6, 2) := dk_21 6 (dk_at dksX1_last_2 6 rfl rfl)
theorem dX1_last_55 : decode cX1_last 55 = .ok (.iload_n 1, 1) := dk_27 (dk_at dksX1_last_2 8 rfl rfl)
theorem dX1_last_56 : decode cX1_last 56 = .ok (.invokevirtual 298, 3) := dk_182 1 42 (dk_at dksX1_last_2 9 rfl rfl)
theorem dX1_last_59 : decode cX1_last 59 = .ok (.ifCond .eq 40, 3) := dk_153 0 40 (dk_at dksX1_last_2 12 rfl rfl)
theorem dX1_last_62 : decode cX1_last 62 = .ok (.iload_n 2, 1) := dk_28 (dk_at dksX1_last_2 15 rfl rfl)
theorem dX1_last_63 : decode cX1_last 63 = .ok (.ifCond .lt 18, 3) := dk_155 0 18 (dk_at dksX1_last_2 16 rfl rfl)
theorem dX1_last_66 : decode cX1_last 66 = .ok (.aload 5, 2) := dk_25 5 (dk_at dksX1_last_2 19 rfl rfl)
theorem dX1_last_68 : decode cX1_last 68 = .ok (.getfield 181, 3) := dk_180 0 181 (dk_at dksX1_last_2 21 rfl rfl)
theorem dX1_last_71 : decode cX1_last 71 = .ok (.iload 6, 2) := dk_21 6 (dk_at dksX1_last_3 0 rfl rfl)
theorem dX1_last_73 : decode cX1_last 73 = .ok (.iaload, 1) := dk_46 (dk_at dksX1_last_3 2 rfl rfl)
theorem dX1_last_74 : decode cX1_last 74 = .ok (.iload_n 3, 1) := dk_29 (dk_at dksX1_last_3 3 rfl rfl)
theorem dX1_last_75 : decode cX1_last 75 = .ok (.if_icmp .lt 6, 3) := dk_161 0 6 (dk_at dksX1_last_3 4 rfl rfl)
theorem dX1_last_78 : decode cX1_last 78 = .ok (.goto 21, 3) := dk_167 0 21 (dk_at dksX1_last_3 7 rfl rfl)
theorem dX1_last_81 : decode cX1_last 81 = .ok (.aload 5, 2) := dk_25 5 (dk_at dksX1_last_3 10 rfl rfl)
theorem dX1_last_83 : decode cX1_last 83 = .ok (.getfield 228, 3) := dk_180 0 228 (dk_at dksX1_last_3 12 rfl rfl)
theorem dX1_last_86 : decode cX1_last 86 = .ok (.iload 6, 2) := dk_21 6 (dk_at dksX1_last_3 15 rfl rfl)
theorem dX1_last_88 : decode cX1_last 88 = .ok (.iaload, 1) := dk_46 (dk_at dksX1_last_3 17 rfl rfl)
theorem dX1_last_89 : decode cX1_last 89 = .ok (.istore_n 2, 1) := dk_61 (dk_at dksX1_last_3 18 rfl rfl)
theorem dX1_last_90 : decode cX1_last 90 = .ok (.aload 5, 2) := dk_25 5 (dk_at dksX1_last_3 19 rfl rfl)
theorem dX1_last_92 : decode cX1_last 92 = .ok (.getfield 181, 3) := dk_180 0 181 (dk_at dksX1_last_3 21 rfl rfl)
theorem dX1_last_95 : decode cX1_last 95 = .ok (.iload 6, 2) := dk_21 6 (dk_at dksX1_last_4 0 rfl rfl)
theorem dX1_last_97 : decode cX1_last 97 = .ok (.iaload, 1) := dk_46 (dk_at dksX1_last_4 2 rfl rfl)
theorem dX1_last_98 : decode cX1_last 98 = .ok (.istore_n 3, 1) := dk_62 (dk_at dksX1_last_4 3 rfl rfl)
theorem dX1_last_99 : decode cX1_last 99 = .ok (.iinc 6 (-1), 3) := dk_132 6 255 (dk_at dksX1_last_4 4 rfl rfl)
theorem dX1_last_102 : decode cX1_last 102 = .ok (.goto (-57), 3) := dk_167 255 199 (dk_at dksX1_last_4 7 rfl rfl)
theorem dX1_last_105 : decode cX1_last 105 = .ok (.iinc 4 1, 3) := dk_132 4 1 (dk_at dksX1_last_4 10 rfl rfl)
theorem dX1_last_108 : decode cX1_last 108 = .ok (.goto (-101), 3) := dk_167 255 155 (dk_at dksX1_last_4 13 rfl rfl)
theorem dX1_last_111 : decode cX1_last 111 = .ok (.iload_n 2, 1) := dk_28 (dk_at dksX1_last_4 16 rfl rfl)
theorem dX1_last_112 : decode cX1_last 112 = .ok (.ireturn, 1) := dk_172 (dk_at dksX1_last_4 17 rfl rfl)
abbrev cX1_worst : ByteArray := prog_1_method_61_code
def yX1_worst : MethodName := ⟨RX1, "worst", "()I"⟩
def dkwX1_worst_1 : List UInt8 := [54, 4, 21, 4, 28, 163, 0, 6, 167, 0, 8, 29, 60, 21, 4, 61, 132, 3, 1, 167, 255, 220, 27, 172]
abbrev dktX1_worst_1 : List UInt8 := dkwX1_worst_1 ++ []
def dkwX1_worst_0 : List UInt8 := [2, 60, 3, 61, 3, 62, 29, 42, 182, 0, 127, 162, 0, 34, 42, 42, 180, 0, 46, 29, 182, 1, 28]
abbrev dktX1_worst_0 : List UInt8 := dkwX1_worst_0 ++ dktX1_worst_1
theorem dksX1_worst_0 : cX1_worst.data.toList.drop 0 = dktX1_worst_0 := by decide +kernel
theorem dksX1_worst_1 : cX1_worst.data.toList.drop 23 = dktX1_worst_1 := dk_seg dksX1_worst_0 23 rfl rfl
theorem dX1_worst_0 : decode cX1_worst 0 = .ok (.iconst (-1), 1) := dk_2 (dk_at dksX1_worst_0 0 rfl rfl)
theorem dX1_worst_1 : decode cX1_worst 1 = .ok (.istore_n 1, 1) := dk_60 (dk_at dksX1_worst_0 1 rfl rfl)
theorem dX1_worst_2 : decode cX1_worst 2 = .ok (.iconst 0, 1) := dk_3 (dk_at dksX1_worst_0 2 rfl rfl)
theorem dX1_worst_3 : decode cX1_worst 3 = .ok (.istore_n 2, 1) := dk_61 (dk_at dksX1_worst_0 3 rfl rfl)
theorem dX1_worst_4 : decode cX1_worst 4 = .ok (.iconst 0, 1) := dk_3 (dk_at dksX1_worst_0 4 rfl rfl)
theorem dX1_worst_5 : decode cX1_worst 5 = .ok (.istore_n 3, 1) := dk_62 (dk_at dksX1_worst_0 5 rfl rfl)
theorem dX1_worst_6 : decode cX1_worst 6 = .ok (.iload_n 3, 1) := dk_29 (dk_at dksX1_worst_0 6 rfl rfl)
theorem dX1_worst_7 : decode cX1_worst 7 = .ok (.aload_n 0, 1) := dk_42 (dk_at dksX1_worst_0 7 rfl rfl)
theorem dX1_worst_8 : decode cX1_worst 8 = .ok (.invokevirtual 127, 3) := dk_182 0 127 (dk_at dksX1_worst_0 8 rfl rfl)
theorem dX1_worst_11 : decode cX1_worst 11 = .ok (.if_icmp .ge 34, 3) := dk_162 0 34 (dk_at dksX1_worst_0 11 rfl rfl)
theorem dX1_worst_14 : decode cX1_worst 14 = .ok (.aload_n 0, 1) := dk_42 (dk_at dksX1_worst_0 14 rfl rfl)
theorem dX1_worst_15 : decode cX1_worst 15 = .ok (.aload_n 0, 1) := dk_42 (dk_at dksX1_worst_0 15 rfl rfl)
theorem dX1_worst_16 : decode cX1_worst 16 = .ok (.getfield 46, 3) := dk_180 0 46 (dk_at dksX1_worst_0 16 rfl rfl)
theorem dX1_worst_19 : decode cX1_worst 19 = .ok (.iload_n 3, 1) := dk_29 (dk_at dksX1_worst_0 19 rfl rfl)
theorem dX1_worst_20 : decode cX1_worst 20 = .ok (.invokevirtual 284, 3) := dk_182 1 28 (dk_at dksX1_worst_0 20 rfl rfl)
theorem dX1_worst_23 : decode cX1_worst 23 = .ok (.istore 4, 2) := dk_54 4 (dk_at dksX1_worst_1 0 rfl rfl)
theorem dX1_worst_25 : decode cX1_worst 25 = .ok (.iload 4, 2) := dk_21 4 (dk_at dksX1_worst_1 2 rfl rfl)
theorem dX1_worst_27 : decode cX1_worst 27 = .ok (.iload_n 2, 1) := dk_28 (dk_at dksX1_worst_1 4 rfl rfl)
theorem dX1_worst_28 : decode cX1_worst 28 = .ok (.if_icmp .gt 6, 3) := dk_163 0 6 (dk_at dksX1_worst_1 5 rfl rfl)
theorem dX1_worst_31 : decode cX1_worst 31 = .ok (.goto 8, 3) := dk_167 0 8 (dk_at dksX1_worst_1 8 rfl rfl)
theorem dX1_worst_34 : decode cX1_worst 34 = .ok (.iload_n 3, 1) := dk_29 (dk_at dksX1_worst_1 11 rfl rfl)
theorem dX1_worst_35 : decode cX1_worst 35 = .ok (.istore_n 1, 1) := dk_60 (dk_at dksX1_worst_1 12 rfl rfl)
theorem dX1_worst_36 : decode cX1_worst 36 = .ok (.iload 4, 2) := dk_21 4 (dk_at dksX1_worst_1 13 rfl rfl)
theorem dX1_worst_38 : decode cX1_worst 38 = .ok (.istore_n 2, 1) := dk_61 (dk_at dksX1_worst_1 15 rfl rfl)
theorem dX1_worst_39 : decode cX1_worst 39 = .ok (.iinc 3 1, 3) := dk_132 3 1 (dk_at dksX1_worst_1 16 rfl rfl)
theorem dX1_worst_42 : decode cX1_worst 42 = .ok (.goto (-36), 3) := dk_167 255 220 (dk_at dksX1_worst_1 19 rfl rfl)
theorem dX1_worst_45 : decode cX1_worst 45 = .ok (.iload_n 1, 1) := dk_27 (dk_at dksX1_worst_1 22 rfl rfl)
theorem dX1_worst_46 : decode cX1_worst 46 = .ok (.ireturn, 1) := dk_172 (dk_at dksX1_worst_1 23 rfl rfl)
abbrev cX1_oldest : ByteArray := prog_1_method_62_code
def yX1_oldest : MethodName := ⟨RX1, "oldest", "()I"⟩
def dkwX1_oldest_3 : List UInt8 := [132, 3, 1, 167, 255, 189, 27, 172]
abbrev dktX1_oldest_3 : List UInt8 := dkwX1_oldest_3 ++ []
def dkwX1_oldest_2 : List UInt8 := [163, 0, 6, 167, 0, 14, 29, 60, 25, 4, 180, 0, 181, 21, 5, 46, 61, 132, 5, 1, 167, 255, 217]
abbrev dktX1_oldest_2 : List UInt8 := dkwX1_oldest_2 ++ dktX1_oldest_3
def dkwX1_oldest_1 : List UInt8 := [58, 4, 3, 54, 5, 21, 5, 25, 4, 180, 0, 174, 162, 0, 35, 25, 4, 180, 0, 181, 21, 5, 46, 28]
abbrev dktX1_oldest_1 : List UInt8 := dkwX1_oldest_1 ++ dktX1_oldest_2
def dkwX1_oldest_0 : List UInt8 := [2, 60, 2, 61, 3, 62, 29, 42, 182, 0, 121, 162, 0, 65, 42, 180, 0, 46, 180, 0, 161, 29, 50]
abbrev dktX1_oldest_0 : List UInt8 := dkwX1_oldest_0 ++ dktX1_oldest_1
theorem dksX1_oldest_0 : cX1_oldest.data.toList.drop 0 = dktX1_oldest_0 := by decide +kernel
theorem dksX1_oldest_1 : cX1_oldest.data.toList.drop 23 = dktX1_oldest_1 := dk_seg dksX1_oldest_0 23 rfl rfl
theorem dksX1_oldest_2 : cX1_oldest.data.toList.drop 47 = dktX1_oldest_2 := dk_seg dksX1_oldest_1 24 rfl rfl
theorem dksX1_oldest_3 : cX1_oldest.data.toList.drop 70 = dktX1_oldest_3 := dk_seg dksX1_oldest_2 23 rfl rfl
theorem dX1_oldest_0 : decode cX1_oldest 0 = .ok (.iconst (-1), 1) := dk_2 (dk_at dksX1_oldest_0 0 rfl rfl)
theorem dX1_oldest_1 : decode cX1_oldest 1 = .ok (.istore_n 1, 1) := dk_60 (dk_at dksX1_oldest_0 1 rfl rfl)
theorem dX1_oldest_2 : decode cX1_oldest 2 = .ok (.iconst (-1), 1) := dk_2 (dk_at dksX1_oldest_0 2 rfl rfl)
theorem dX1_oldest_3 : decode cX1_oldest 3 = .ok (.istore_n 2, 1) := dk_61 (dk_at dksX1_oldest_0 3 rfl rfl)
theorem dX1_oldest_4 : decode cX1_oldest 4 = .ok (.iconst 0, 1) := dk_3 (dk_at dksX1_oldest_0 4 rfl rfl)
theorem dX1_oldest_5 : decode cX1_oldest 5 = .ok (.istore_n 3, 1) := dk_62 (dk_at dksX1_oldest_0 5 rfl rfl)
theorem dX1_oldest_6 : decode cX1_oldest 6 = .ok (.iload_n 3, 1) := dk_29 (dk_at dksX1_oldest_0 6 rfl rfl)
theorem dX1_oldest_7 : decode cX1_oldest 7 = .ok (.aload_n 0, 1) := dk_42 (dk_at dksX1_oldest_0 7 rfl rfl)
theorem dX1_oldest_8 : decode cX1_oldest 8 = .ok (.invokevirtual 121, 3) := dk_182 0 121 (dk_at dksX1_oldest_0 8 rfl rfl)
theorem dX1_oldest_11 : decode cX1_oldest 11 = .ok (.if_icmp .ge 65, 3) := dk_162 0 65 (dk_at dksX1_oldest_0 11 rfl rfl)
theorem dX1_oldest_14 : decode cX1_oldest 14 = .ok (.aload_n 0, 1) := dk_42 (dk_at dksX1_oldest_0 14 rfl rfl)
theorem dX1_oldest_15 : decode cX1_oldest 15 = .ok (.getfield 46, 3) := dk_180 0 46 (dk_at dksX1_oldest_0 15 rfl rfl)
theorem dX1_oldest_18 : decode cX1_oldest 18 = .ok (.getfield 161, 3) := dk_180 0 161 (dk_at dksX1_oldest_0 18 rfl rfl)
theorem dX1_oldest_21 : decode cX1_oldest 21 = .ok (.iload_n 3, 1) := dk_29 (dk_at dksX1_oldest_0 21 rfl rfl)
theorem dX1_oldest_22 : decode cX1_oldest 22 = .ok (.aaload, 1) := dk_50 (dk_at dksX1_oldest_0 22 rfl rfl)
theorem dX1_oldest_23 : decode cX1_oldest 23 = .ok (.astore 4, 2) := dk_58 4 (dk_at dksX1_oldest_1 0 rfl rfl)
theorem dX1_oldest_25 : decode cX1_oldest 25 = .ok (.iconst 0, 1) := dk_3 (dk_at dksX1_oldest_1 2 rfl rfl)
theorem dX1_oldest_26 : decode cX1_oldest 26 = .ok (.istore 5, 2) := dk_54 5 (dk_at dksX1_oldest_1 3 rfl rfl)
theorem dX1_oldest_28 : decode cX1_oldest 28 = .ok (.iload 5, 2) := dk_21 5 (dk_at dksX1_oldest_1 5 rfl rfl)
theorem dX1_oldest_30 : decode cX1_oldest 30 = .ok (.aload 4, 2) := dk_25 4 (dk_at dksX1_oldest_1 7 rfl rfl)
theorem dX1_oldest_32 : decode cX1_oldest 32 = .ok (.getfield 174, 3) := dk_180 0 174 (dk_at dksX1_oldest_1 9 rfl rfl)
theorem dX1_oldest_35 : decode cX1_oldest 35 = .ok (.if_icmp .ge 35, 3) := dk_162 0 35 (dk_at dksX1_oldest_1 12 rfl rfl)
theorem dX1_oldest_38 : decode cX1_oldest 38 = .ok (.aload 4, 2) := dk_25 4 (dk_at dksX1_oldest_1 15 rfl rfl)
theorem dX1_oldest_40 : decode cX1_oldest 40 = .ok (.getfield 181, 3) := dk_180 0 181 (dk_at dksX1_oldest_1 17 rfl rfl)
theorem dX1_oldest_43 : decode cX1_oldest 43 = .ok (.iload 5, 2) := dk_21 5 (dk_at dksX1_oldest_1 20 rfl rfl)
theorem dX1_oldest_45 : decode cX1_oldest 45 = .ok (.iaload, 1) := dk_46 (dk_at dksX1_oldest_1 22 rfl rfl)
theorem dX1_oldest_46 : decode cX1_oldest 46 = .ok (.iload_n 2, 1) := dk_28 (dk_at dksX1_oldest_1 23 rfl rfl)
theorem dX1_oldest_47 : decode cX1_oldest 47 = .ok (.if_icmp .gt 6, 3) := dk_163 0 6 (dk_at dksX1_oldest_2 0 rfl rfl)
theorem dX1_oldest_50 : decode cX1_oldest 50 = .ok (.goto 14, 3) := dk_167 0 14 (dk_at dksX1_oldest_2 3 rfl rfl)
theorem dX1_oldest_53 : decode cX1_oldest 53 = .ok (.iload_n 3, 1) := dk_29 (dk_at dksX1_oldest_2 6 rfl rfl)
theorem dX1_oldest_54 : decode cX1_oldest 54 = .ok (.istore_n 1, 1) := dk_60 (dk_at dksX1_oldest_2 7 rfl rfl)
theorem dX1_oldest_55 : decode cX1_oldest 55 = .ok (.aload 4, 2) := dk_25 4 (dk_at dksX1_oldest_2 8 rfl rfl)
theorem dX1_oldest_57 : decode cX1_oldest 57 = .ok (.getfield 181, 3) := dk_180 0 181 (dk_at dksX1_oldest_2 10 rfl rfl)
theorem dX1_oldest_60 : decode cX1_oldest 60 = .ok (.iload 5, 2) := dk_21 5 (dk_at dksX1_oldest_2 13 rfl rfl)
theorem dX1_oldest_62 : decode cX1_oldest 62 = .ok (.iaload, 1) := dk_46 (dk_at dksX1_oldest_2 15 rfl rfl)
theorem dX1_oldest_63 : decode cX1_oldest 63 = .ok (.istore_n 2, 1) := dk_61 (dk_at dksX1_oldest_2 16 rfl rfl)
theorem dX1_oldest_64 : decode cX1_oldest 64 = .ok (.iinc 5 1, 3) := dk_132 5 1 (dk_at dksX1_oldest_2 17 rfl rfl)
theorem dX1_oldest_67 : decode cX1_oldest 67 = .ok (.goto (-39), 3) := dk_167 255 217 (dk_at dksX1_oldest_2 20 rfl rfl)
theorem dX1_oldest_70 : decode cX1_oldest 70 = .ok (.iinc 3 1, 3) := dk_132 3 1 (dk_at dksX1_oldest_3 0 rfl rfl)
theorem dX1_oldest_73 : decode cX1_oldest 73 = .ok (.goto (-67), 3) := dk_167 255 189 (dk_at dksX1_oldest_3 3 rfl rfl)
theorem dX1_oldest_76 : decode cX1_oldest 76 = .ok (.iload_n 1, 1) := dk_27 (dk_at dksX1_oldest_3 6 rfl rfl)
theorem dX1_oldest_77 : decode cX1_oldest 77 = .ok (.ireturn, 1) := dk_172 (dk_at dksX1_oldest_3 7 rfl rfl)
abbrev cX1_cloak : ByteArray := prog_1_method_63_code
def yX1_cloak : MethodName := ⟨RX1, "cloak", "(II)I"⟩
def dkwX1_cloak_7 : List UInt8 := [167, 255, 175, 21, 4, 172]
abbrev dktX1_cloak_7 : List UInt8 := dkwX1_cloak_7 ++ []
def dkwX1_cloak_6 : List UInt8 := [181, 0, 135, 42, 42, 180, 0, 50, 27, 182, 1, 28, 28, 163, 0, 7, 21, 5, 54, 4, 132, 5, 1]
abbrev dktX1_cloak_6 : List UInt8 := dkwX1_cloak_6 ++ dktX1_cloak_7
def dkwX1_cloak_5 : List UInt8 := [42, 180, 0, 50, 42, 180, 0, 46, 182, 0, 234, 42, 180, 0, 50, 89, 180, 0, 135, 21, 5, 128]
abbrev dktX1_cloak_5 : List UInt8 := dkwX1_cloak_5 ++ dktX1_cloak_6
def dkwX1_cloak_4 : List UInt8 := [154, 0, 66, 21, 4, 155, 0, 19, 21, 5, 184, 1, 31, 21, 4, 184, 1, 31, 161, 0, 6, 167, 0, 45]
abbrev dktX1_cloak_4 : List UInt8 := dkwX1_cloak_4 ++ dktX1_cloak_5
def dkwX1_cloak_3 : List UInt8 := [62, 132, 5, 1, 167, 255, 210, 3, 54, 5, 21, 5, 29, 163, 0, 81, 21, 5, 29, 2, 130, 126]
abbrev dktX1_cloak_3 : List UInt8 := dkwX1_cloak_3 ++ dktX1_cloak_4
def dkwX1_cloak_2 : List UInt8 := [153, 0, 25, 42, 180, 0, 46, 180, 0, 135, 21, 5, 184, 0, 9, 154, 0, 10, 29, 4, 21, 5, 120, 128]
abbrev dktX1_cloak_2 : List UInt8 := dkwX1_cloak_2 ++ dktX1_cloak_3
def dkwX1_cloak_1 : List UInt8 := [54, 4, 3, 54, 5, 21, 5, 42, 182, 0, 121, 162, 0, 43, 42, 180, 0, 46, 21, 5, 182, 0, 131]
abbrev dktX1_cloak_1 : List UInt8 := dkwX1_cloak_1 ++ dktX1_cloak_2
def dkwX1_cloak_0 : List UInt8 := [42, 27, 182, 0, 231, 153, 0, 14, 28, 3, 17, 1, 239, 184, 0, 123, 154, 0, 5, 2, 172, 3, 62, 2]
abbrev dktX1_cloak_0 : List UInt8 := dkwX1_cloak_0 ++ dktX1_cloak_1
theorem dksX1_cloak_0 : cX1_cloak.data.toList.drop 0 = dktX1_cloak_0 := by decide +kernel
theorem dksX1_cloak_1 : cX1_cloak.data.toList.drop 24 = dktX1_cloak_1 := dk_seg dksX1_cloak_0 24 rfl rfl
theorem dksX1_cloak_2 : cX1_cloak.data.toList.drop 47 = dktX1_cloak_2 := dk_seg dksX1_cloak_1 23 rfl rfl
theorem dksX1_cloak_3 : cX1_cloak.data.toList.drop 71 = dktX1_cloak_3 := dk_seg dksX1_cloak_2 24 rfl rfl
theorem dksX1_cloak_4 : cX1_cloak.data.toList.drop 93 = dktX1_cloak_4 := dk_seg dksX1_cloak_3 22 rfl rfl
theorem dksX1_cloak_5 : cX1_cloak.data.toList.drop 117 = dktX1_cloak_5 := dk_seg dksX1_cloak_4 24 rfl rfl
theorem dksX1_cloak_6 : cX1_cloak.data.toList.drop 139 = dktX1_cloak_6 := dk_seg dksX1_cloak_5 22 rfl rfl
theorem dksX1_cloak_7 : cX1_cloak.data.toList.drop 162 = dktX1_cloak_7 := dk_seg dksX1_cloak_6 23 rfl rfl
theorem dX1_cloak_0 : decode cX1_cloak 0 = .ok (.aload_n 0, 1) := dk_42 (dk_at dksX1_cloak_0 0 rfl rfl)
theorem dX1_cloak_1 : decode cX1_cloak 1 = .ok (.iload_n 1, 1) := dk_27 (dk_at dksX1_cloak_0 1 rfl rfl)
theorem dX1_cloak_2 : decode cX1_cloak 2 = .ok (.invokevirtual 231, 3) := dk_182 0 231 (dk_at dksX1_cloak_0 2 rfl rfl)
theorem dX1_cloak_5 : decode cX1_cloak 5 = .ok (.ifCond .eq 14, 3) := dk_153 0 14 (dk_at dksX1_cloak_0 5 rfl rfl)
theorem dX1_cloak_8 : decode cX1_cloak 8 = .ok (.iload_n 2, 1) := dk_28 (dk_at dksX1_cloak_0 8 rfl rfl)
theorem dX1_cloak_9 : decode cX1_cloak 9 = .ok (.iconst 0, 1) := dk_3 (dk_at dksX1_cloak_0 9 rfl rfl)
theorem dX1_cloak_10 : decode cX1_cloak 10 = .ok (.sipush 495, 3) := dk_17 1 239 (dk_at dksX1_cloak_0 10 rfl rfl)
theorem dX1_cloak_13 : decode cX1_cloak 13 = .ok (.invokestatic 123, 3) := dk_184 0 123 (dk_at dksX1_cloak_0 13 rfl rfl)
theorem dX1_cloak_16 : decode cX1_cloak 16 = .ok (.ifCond .ne 5, 3) := dk_154 0 5 (dk_at dksX1_cloak_0 16 rfl rfl)
theorem dX1_cloak_19 : decode cX1_cloak 19 = .ok (.iconst (-1), 1) := dk_2 (dk_at dksX1_cloak_0 19 rfl rfl)
theorem dX1_cloak_20 : decode cX1_cloak 20 = .ok (.ireturn, 1) := dk_172 (dk_at dksX1_cloak_0 20 rfl rfl)
theorem dX1_cloak_21 : decode cX1_cloak 21 = .ok (.iconst 0, 1) := dk_3 (dk_at dksX1_cloak_0 21 rfl rfl)
theorem dX1_cloak_22 : decode cX1_cloak 22 = .ok (.istore_n 3, 1) := dk_62 (dk_at dksX1_cloak_0 22 rfl rfl)
theorem dX1_cloak_23 : decode cX1_cloak 23 = .ok (.iconst (-1), 1) := dk_2 (dk_at dksX1_cloak_0 23 rfl rfl)
theorem dX1_cloak_24 : decode cX1_cloak 24 = .ok (.istore 4, 2) := dk_54 4 (dk_at dksX1_cloak_1 0 rfl rfl)
theorem dX1_cloak_26 : decode cX1_cloak 26 = .ok (.iconst 0, 1) := dk_3 (dk_at dksX1_cloak_1 2 rfl rfl)
theorem dX1_cloak_27 : decode cX1_cloak 27 = .ok (.istore 5, 2) := dk_54 5 (dk_at dksX1_cloak_1 3 rfl rfl)
theorem dX1_cloak_29 : decode cX1_cloak 29 = .ok (.iload 5, 2) := dk_21 5 (dk_at dksX1_cloak_1 5 rfl rfl)
theorem dX1_cloak_31 : decode cX1_cloak 31 = .ok (.aload_n 0, 1) := dk_42 (dk_at dksX1_cloak_1 7 rfl rfl)
theorem dX1_cloak_32 : decode cX1_cloak 32 = .ok (.invokevirtual 121, 3) := dk_182 0 121 (dk_at dksX1_cloak_1 8 rfl rfl)
theorem dX1_cloak_35 : decode cX1_cloak 35 = .ok (.if_icmp .ge 43, 3) := dk_162 0 43 (dk_at dksX1_cloak_1 11 rfl rfl)
theorem dX1_cloak_38 : decode cX1_cloak 38 = .ok (.aload_n 0, 1) := dk_42 (dk_at dksX1_cloak_1 14 rfl rfl)
theorem dX1_cloak_39 : decode cX1_cloak 39 = .ok (.getfield 46, 3) := dk_180 0 46 (dk_at dksX1_cloak_1 15 rfl rfl)
theorem dX1_cloak_42 : decode cX1_cloak 42 = .ok (.iload 5, 2) := dk_21 5 (dk_at dksX1_cloak_1 18 rfl rfl)
theorem dX1_cloak_44 : decode cX1_cloak 44 = .ok (.invokevirtual 131, 3) := dk_182 0 131 (dk_at dksX1_cloak_1 20 rfl rfl)
theorem dX1_cloak_47 : decode cX1_cloak 47 = .ok (.ifCond .eq 25, 3) := dk_153 0 25 (dk_at dksX1_cloak_2 0 rfl rfl)
theorem dX1_cloak_50 : decode cX1_cloak 50 = .ok (.aload_n 0, 1) := dk_42 (dk_at dksX1_cloak_2 3 rfl rfl)
theorem dX1_cloak_51 : decode cX1_cloak 51 = .ok (.getfield 46, 3) := dk_180 0 46 (dk_at dksX1_cloak_2 4 rfl rfl)
theorem dX1_cloak_54 : decode cX1_cloak 54 = .ok (.getfield 135, 3) := dk_180 0 135 (dk_at dksX1_cloak_2 7 rfl rfl)
theorem dX1_cloak_57 : decode cX1_cloak 57 = .ok (.iload 5, 2) := dk_21 5 (dk_at dksX1_cloak_2 10 rfl rfl)
theorem dX1_cloak_59 : decode cX1_cloak 59 = .ok (.invokestatic 9, 3) := dk_184 0 9 (dk_at dksX1_cloak_2 12 rfl rfl)
theorem dX1_cloak_62 : decode cX1_cloak 62 = .ok (.ifCond .ne 10, 3) := dk_154 0 10 (dk_at dksX1_cloak_2 15 rfl rfl)
theorem dX1_cloak_65 : decode cX1_cloak 65 = .ok (.iload_n 3, 1) := dk_29 (dk_at dksX1_cloak_2 18 rfl rfl)
theorem dX1_cloak_66 : decode cX1_cloak 66 = .ok (.iconst 1, 1) := dk_4 (dk_at dksX1_cloak_2 19 rfl rfl)
theorem dX1_cloak_67 : decode cX1_cloak 67 = .ok (.iload 5, 2) := dk_21 5 (dk_at dksX1_cloak_2 20 rfl rfl)
theorem dX1_cloak_69 : decode cX1_cloak 69 = .ok (.ishl, 1) := dk_120 (dk_at dksX1_cloak_2 22 rfl rfl)
theorem dX1_cloak_70 : decode cX1_cloak 70 = .ok (.ior, 1) := dk_128 (dk_at dksX1_cloak_2 23 rfl rfl)
theorem dX1_cloak_71 : decode cX1_cloak 71 = .ok (.istore_n 3, 1) := dk_62 (dk_at dksX1_cloak_3 0 rfl rfl)
theorem dX1_cloak_72 : decode cX1_cloak 72 = .ok (.iinc 5 1, 3) := dk_132 5 1 (dk_at dksX1_cloak_3 1 rfl rfl)
theorem dX1_cloak_75 : decode cX1_cloak 75 = .ok (.goto (-46), 3) := dk_167 255 210 (dk_at dksX1_cloak_3 4 rfl rfl)
theorem dX1_cloak_78 : decode cX1_cloak 78 = .ok (.iconst 0, 1) := dk_3 (dk_at dksX1_cloak_3 7 rfl rfl)
theorem dX1_cloak_79 : decode cX1_cloak 79 = .ok (.istore 5, 2) := dk_54 5 (dk_at dksX1_cloak_3 8 rfl rfl)
theorem dX1_cloak_81 : decode cX1_cloak 81 = .ok (.iload 5, 2) := dk_21 5 (dk_at dksX1_cloak_3 10 rfl rfl)
theorem dX1_cloak_83 : decode cX1_cloak 83 = .ok (.iload_n 3, 1) := dk_29 (dk_at dksX1_cloak_3 12 rfl rfl)
theorem dX1_cloak_84 : decode cX1_cloak 84 = .ok (.if_icmp .gt 81, 3) := dk_163 0 81 (dk_at dksX1_cloak_3 13 rfl rfl)
theorem dX1_cloak_87 : decode cX1_cloak 87 = .ok (.iload 5, 2) := dk_21 5 (dk_at dksX1_cloak_3 16 rfl rfl)
theorem dX1_cloak_89 : decode cX1_cloak 89 = .ok (.iload_n 3, 1) := dk_29 (dk_at dksX1_cloak_3 18 rfl rfl)
theorem dX1_cloak_90 : decode cX1_cloak 90 = .ok (.iconst (-1), 1) := dk_2 (dk_at dksX1_cloak_3 19 rfl rfl)
theorem dX1_cloak_91 : decode cX1_cloak 91 = .ok (.ixor, 1) := dk_130 (dk_at dksX1_cloak_3 20 rfl rfl)
theorem dX1_cloak_92 : decode cX1_cloak 92 = .ok (.iand, 1) := dk_126 (dk_at dksX1_cloak_3 21 rfl rfl)
theorem dX1_cloak_93 : decode cX1_cloak 93 = .ok (.ifCond .ne 66, 3) := dk_154 0 66 (dk_at dksX1_cloak_4 0 rfl rfl)
theorem dX1_cloak_96 : decode cX1_cloak 96 = .ok (.iload 4, 2) := dk_21 4 (dk_at dksX1_cloak_4 3 rfl rfl)
theorem dX1_cloak_98 : decode cX1_cloak 98 = .ok (.ifCond .lt 19, 3) := dk_155 0 19 (dk_at dksX1_cloak_4 5 rfl rfl)
theorem dX1_cloak_101 : decode cX1_cloak 101 = .ok (.iload 5, 2) := dk_21 5 (dk_at dksX1_cloak_4 8 rfl rfl)
theorem dX1_cloak_103 : decode cX1_cloak 103 = .ok (.invokestatic 287, 3) := dk_184 1 31 (dk_at dksX1_cloak_4 10 rfl rfl)
theorem dX1_cloak_106 : decode cX1_cloak 106 = .ok (.iload 4, 2) := dk_21 4 (dk_at dksX1_cloak_4 13 rfl rfl)
theorem dX1_cloak_108 : decode cX1_cloak 108 = .ok (.invokestatic 287, 3) := dk_184 1 31 (dk_at dksX1_cloak_4 15 rfl rfl)
theorem dX1_cloak_111 : decode cX1_cloak 111 = .ok (.if_icmp .lt 6, 3) := dk_161 0 6 (dk_at dksX1_cloak_4 18 rfl rfl)
theorem dX1_cloak_114 : decode cX1_cloak 114 = .ok (.goto 45, 3) := dk_167 0 45 (dk_at dksX1_cloak_4 21 rfl rfl)
theorem dX1_cloak_117 : decode cX1_cloak 117 = .ok (.aload_n 0, 1) := dk_42 (dk_at dksX1_cloak_5 0 rfl rfl)
theorem dX1_cloak_118 : decode cX1_cloak 118 = .ok (.getfield 50, 3) := dk_180 0 50 (dk_at dksX1_cloak_5 1 rfl rfl)
theorem dX1_cloak_121 : decode cX1_cloak 121 = .ok (.aload_n 0, 1) := dk_42 (dk_at dksX1_cloak_5 4 rfl rfl)
theorem dX1_cloak_122 : decode cX1_cloak 122 = .ok (.getfield 46, 3) := dk_180 0 46 (dk_at dksX1_cloak_5 5 rfl rfl)
theorem dX1_cloak_125 : decode cX1_cloak 125 = .ok (.invokevirtual 234, 3) := dk_182 0 234 (dk_at dksX1_cloak_5 8 rfl rfl)
theorem dX1_cloak_128 : decode cX1_cloak 128 = .ok (.aload_n 0, 1) := dk_42 (dk_at dksX1_cloak_5 11 rfl rfl)
theorem dX1_cloak_129 : decode cX1_cloak 129 = .ok (.getfield 50, 3) := dk_180 0 50 (dk_at dksX1_cloak_5 12 rfl rfl)
theorem dX1_cloak_132 : decode cX1_cloak 132 = .ok (.dup, 1) := dk_89 (dk_at dksX1_cloak_5 15 rfl rfl)
theorem dX1_cloak_133 : decode cX1_cloak 133 = .ok (.getfield 135, 3) := dk_180 0 135 (dk_at dksX1_cloak_5 16 rfl rfl)
theorem dX1_cloak_136 : decode cX1_cloak 136 = .ok (.iload 5, 2) := dk_21 5 (dk_at dksX1_cloak_5 19 rfl rfl)
theorem dX1_cloak_138 : decode cX1_cloak 138 = .ok (.ior, 1) := dk_128 (dk_at dksX1_cloak_5 21 rfl rfl)
theorem dX1_cloak_139 : decode cX1_cloak 139 = .ok (.putfield 135, 3) := dk_181 0 135 (dk_at dksX1_cloak_6 0 rfl rfl)
theorem dX1_cloak_142 : decode cX1_cloak 142 = .ok (.aload_n 0, 1) := dk_42 (dk_at dksX1_cloak_6 3 rfl rfl)
theorem dX1_cloak_143 : decode cX1_cloak 143 = .ok (.aload_n 0, 1) := dk_42 (dk_at dksX1_cloak_6 4 rfl rfl)
theorem dX1_cloak_144 : decode cX1_cloak 144 = .ok (.getfield 50, 3) := dk_180 0 50 (dk_at dksX1_cloak_6 5 rfl rfl)
theorem dX1_cloak_147 : decode cX1_cloak 147 = .ok (.iload_n 1, 1) := dk_27 (dk_at dksX1_cloak_6 8 rfl rfl)
theorem dX1_cloak_148 : decode cX1_cloak 148 = .ok (.invokevirtual 284, 3) := dk_182 1 28 (dk_at dksX1_cloak_6 9 rfl rfl)
theorem dX1_cloak_151 : decode cX1_cloak 151 = .ok (.iload_n 2, 1) := dk_28 (dk_at dksX1_cloak_6 12 rfl rfl)
theorem dX1_cloak_152 : decode cX1_cloak 152 = .ok (.if_icmp .gt 7, 3) := dk_163 0 7 (dk_at dksX1_cloak_6 13 rfl rfl)
theorem dX1_cloak_155 : decode cX1_cloak 155 = .ok (.iload 5, 2) := dk_21 5 (dk_at dksX1_cloak_6 16 rfl rfl)
theorem dX1_cloak_157 : decode cX1_cloak 157 = .ok (.istore 4, 2) := dk_54 4 (dk_at dksX1_cloak_6 18 rfl rfl)
theorem dX1_cloak_159 : decode cX1_cloak 159 = .ok (.iinc 5 1, 3) := dk_132 5 1 (dk_at dksX1_cloak_6 20 rfl rfl)
theorem dX1_cloak_162 : decode cX1_cloak 162 = .ok (.goto (-81), 3) := dk_167 255 175 (dk_at dksX1_cloak_7 0 rfl rfl)
theorem dX1_cloak_165 : decode cX1_cloak 165 = .ok (.iload 4, 2) := dk_21 4 (dk_at dksX1_cloak_7 3 rfl rfl)
theorem dX1_cloak_167 : decode cX1_cloak 167 = .ok (.ireturn, 1) := dk_172 (dk_at dksX1_cloak_7 5 rfl rfl)
abbrev cX1_twin : ByteArray := prog_1_method_64_code
def yX1_twin : MethodName := ⟨RX1, "twin", "(II)I"⟩
def dkwX1_twin_6 : List UInt8 := [167, 255, 166, 21, 5, 172]
abbrev dktX1_twin_6 : List UInt8 := dkwX1_twin_6 ++ []
def dkwX1_twin_5 : List UInt8 := [167, 255, 203, 21, 7, 25, 4, 45, 21, 6, 182, 1, 45, 162, 0, 6, 132, 5, 1, 132, 6, 1]
abbrev dktX1_twin_5 : List UInt8 := dkwX1_twin_5 ++ dktX1_twin_6
def dkwX1_twin_4 : List UInt8 := [180, 0, 228, 21, 8, 46, 45, 180, 0, 228, 21, 6, 46, 160, 0, 6, 132, 7, 1, 132, 8, 1]
abbrev dktX1_twin_4 : List UInt8 := dkwX1_twin_4 ++ dktX1_twin_5
def dkwX1_twin_3 : List UInt8 := [45, 21, 8, 45, 180, 0, 225, 21, 6, 46, 45, 180, 0, 187, 21, 6, 46, 182, 1, 36, 153, 0, 23, 45]
abbrev dktX1_twin_3 : List UInt8 := dkwX1_twin_3 ++ dktX1_twin_4
def dkwX1_twin_2 : List UInt8 := [54, 6, 21, 6, 45, 180, 0, 174, 162, 0, 87, 3, 54, 7, 3, 54, 8, 21, 8, 21, 6, 162, 0, 52]
abbrev dktX1_twin_2 : List UInt8 := dkwX1_twin_2 ++ dktX1_twin_3
def dkwX1_twin_1 : List UInt8 := [180, 0, 46, 180, 0, 161, 27, 50, 78, 42, 180, 0, 46, 180, 0, 161, 28, 50, 58, 4, 3, 54, 5, 3]
abbrev dktX1_twin_1 : List UInt8 := dkwX1_twin_1 ++ dktX1_twin_2
def dkwX1_twin_0 : List UInt8 := [42, 27, 182, 0, 206, 153, 0, 16, 42, 28, 182, 0, 206, 153, 0, 8, 27, 28, 160, 0, 5, 2, 172, 42]
abbrev dktX1_twin_0 : List UInt8 := dkwX1_twin_0 ++ dktX1_twin_1
theorem dksX1_twin_0 : cX1_twin.data.toList.drop 0 = dktX1_twin_0 := by decide +kernel
theorem dksX1_twin_1 : cX1_twin.data.toList.drop 24 = dktX1_twin_1 := dk_seg dksX1_twin_0 24 rfl rfl
theorem dksX1_twin_2 : cX1_twin.data.toList.drop 48 = dktX1_twin_2 := dk_seg dksX1_twin_1 24 rfl rfl
theorem dksX1_twin_3 : cX1_twin.data.toList.drop 72 = dktX1_twin_3 := dk_seg dksX1_twin_2 24 rfl rfl
theorem dksX1_twin_4 : cX1_twin.data.toList.drop 96 = dktX1_twin_4 := dk_seg dksX1_twin_3 24 rfl rfl
theorem dksX1_twin_5 : cX1_twin.data.toList.drop 118 = dktX1_twin_5 := dk_seg dksX1_twin_4 22 rfl rfl
theorem dksX1_twin_6 : cX1_twin.data.toList.drop 140 = dktX1_twin_6 := dk_seg dksX1_twin_5 22 rfl rfl
theorem dX1_twin_0 : decode cX1_twin 0 = .ok (.aload_n 0, 1) := dk_42 (dk_at dksX1_twin_0 0 rfl rfl)
theorem dX1_twin_1 : decode cX1_twin 1 = .ok (.iload_n 1, 1) := dk_27 (dk_at dksX1_twin_0 1 rfl rfl)
theorem dX1_twin_2 : decode cX1_twin 2 = .ok (.invokevirtual 206, 3) := dk_182 0 206 (dk_at dksX1_twin_0 2 rfl rfl)
theorem dX1_twin_5 : decode cX1_twin 5 = .ok (.ifCond .eq 16, 3) := dk_153 0 16 (dk_at dksX1_twin_0 5 rfl rfl)
theorem dX1_twin_8 : decode cX1_twin 8 = .ok (.aload_n 0, 1) := dk_42 (dk_at dksX1_twin_0 8 rfl rfl)
theorem dX1_twin_9 : decode cX1_twin 9 = .ok (.iload_n 2, 1) := dk_28 (dk_at dksX1_twin_0 9 rfl rfl)
theorem dX1_twin_10 : decode cX1_twin 10 = .ok (.invokevirtual 206, 3) := dk_182 0 206 (dk_at dksX1_twin_0 10 rfl rfl)
theorem dX1_twin_13 : decode cX1_twin 13 = .ok (.ifCond .eq 8, 3) := dk_153 0 8 (dk_at dksX1_twin_0 13 rfl rfl)
theorem dX1_twin_16 : decode cX1_twin 16 = .ok (.iload_n 1, 1) := dk_27 (dk_at dksX1_twin_0 16 rfl rfl)
theorem dX1_twin_17 : decode cX1_twin 17 = .ok (.iload_n 2, 1) := dk_28 (dk_at dksX1_twin_0 17 rfl rfl)
theorem dX1_twin_18 : decode cX1_twin 18 = .ok (.if_icmp .ne 5, 3) := dk_160 0 5 (dk_at dksX1_twin_0 18 rfl rfl)
theorem dX1_twin_21 : decode cX1_twin 21 = .ok (.iconst (-1), 1) := dk_2 (dk_at dksX1_twin_0 21 rfl rfl)
theorem dX1_twin_22 : decode cX1_twin 22 = .ok (.ireturn, 1) := dk_172 (dk_at dksX1_twin_0 22 rfl rfl)
theorem dX1_twin_23 : decode cX1_twin 23 = .ok (.aload_n 0, 1) := dk_42 (dk_at dksX1_twin_0 23 rfl rfl)
theorem dX1_twin_24 : decode cX1_twin 24 = .ok (.getfield 46, 3) := dk_180 0 46 (dk_at dksX1_twin_1 0 rfl rfl)
theorem dX1_twin_27 : decode cX1_twin 27 = .ok (.getfield 161, 3) := dk_180 0 161 (dk_at dksX1_twin_1 3 rfl rfl)
theorem dX1_twin_30 : decode cX1_twin 30 = .ok (.iload_n 1, 1) := dk_27 (dk_at dksX1_twin_1 6 rfl rfl)
theorem dX1_twin_31 : decode cX1_twin 31 = .ok (.aaload, 1) := dk_50 (dk_at dksX1_twin_1 7 rfl rfl)
theorem dX1_twin_32 : decode cX1_twin 32 = .ok (.astore_n 3, 1) := dk_78 (dk_at dksX1_twin_1 8 rfl rfl)
theorem dX1_twin_33 : decode cX1_twin 33 = .ok (.aload_n 0, 1) := dk_42 (dk_at dksX1_twin_1 9 rfl rfl)
theorem dX1_twin_34 : decode cX1_twin 34 = .ok (.getfield 46, 3) := dk_180 0 46 (dk_at dksX1_twin_1 10 rfl rfl)
theorem dX1_twin_37 : decode cX1_twin 37 = .ok (.getfield 161, 3) := dk_180 0 161 (dk_at dksX1_twin_1 13 rfl rfl)
theorem dX1_twin_40 : decode cX1_twin 40 = .ok (.iload_n 2, 1) := dk_28 (dk_at dksX1_twin_1 16 rfl rfl)
theorem dX1_twin_41 : decode cX1_twin 41 = .ok (.aaload, 1) := dk_50 (dk_at dksX1_twin_1 17 rfl rfl)
theorem dX1_twin_42 : decode cX1_twin 42 = .ok (.astore 4, 2) := dk_58 4 (dk_at dksX1_twin_1 18 rfl rfl)
theorem dX1_twin_44 : decode cX1_twin 44 = .ok (.iconst 0, 1) := dk_3 (dk_at dksX1_twin_1 20 rfl rfl)
theorem dX1_twin_45 : decode cX1_twin 45 = .ok (.istore 5, 2) := dk_54 5 (dk_at dksX1_twin_1 21 rfl rfl)
theorem dX1_twin_47 : decode cX1_twin 47 = .ok (.iconst 0, 1) := dk_3 (dk_at dksX1_twin_1 23 rfl rfl)
theorem dX1_twin_48 : decode cX1_twin 48 = .ok (.istore 6, 2) := dk_54 6 (dk_at dksX1_twin_2 0 rfl rfl)
theorem dX1_twin_50 : decode cX1_twin 50 = .ok (.iload 6, 2) := dk_21 6 (dk_at dksX1_twin_2 2 rfl rfl)
theorem dX1_twin_52 : decode cX1_twin 52 = .ok (.aload_n 3, 1) := dk_45 (dk_at dksX1_twin_2 4 rfl rfl)
theorem dX1_twin_53 : decode cX1_twin 53 = .ok (.getfield 174, 3) := dk_180 0 174 (dk_at dksX1_twin_2 5 rfl rfl)
theorem dX1_twin_56 : decode cX1_twin 56 = .ok (.if_icmp .ge 87, 3) := dk_162 0 87 (dk_at dksX1_twin_2 8 rfl rfl)
theorem dX1_twin_59 : decode cX1_twin 59 = .ok (.iconst 0, 1) := dk_3 (dk_at dksX1_twin_2 11 rfl rfl)
theorem dX1_twin_60 : decode cX1_twin 60 = .ok (.istore 7, 2) := dk_54 7 (dk_at dksX1_twin_2 12 rfl rfl)
theorem dX1_twin_62 : decode cX1_twin 62 = .ok (.iconst 0, 1) := dk_3 (dk_at dksX1_twin_2 14 rfl rfl)
theorem dX1_twin_63 : decode cX1_twin 63 = .ok (.istore 8, 2) := dk_54 8 (dk_at dksX1_twin_2 15 rfl rfl)
theorem dX1_twin_65 : decode cX1_twin 65 = .ok (.iload 8, 2) := dk_21 8 (dk_at dksX1_twin_2 17 rfl rfl)
theorem dX1_twin_67 : decode cX1_twin 67 = .ok (.iload 6, 2) := dk_21 6 (dk_at dksX1_twin_2 19 rfl rfl)
theorem dX1_twin_69 : decode cX1_twin 69 = .ok (.if_icmp .ge 52, 3) := dk_162 0 52 (dk_at dksX1_twin_2 21 rfl rfl)
theorem dX1_twin_72 : decode cX1_twin 72 = .ok (.aload_n 3, 1) := dk_45 (dk_at dksX1_twin_3 0 rfl rfl)
theorem dX1_twin_73 : decode cX1_twin 73 = .ok (.iload 8, 2) := dk_21 8 (dk_at dksX1_twin_3 1 rfl rfl)
theorem dX1_twin_75 : decode cX1_twin 75 = .ok (.aload_n 3, 1) := dk_45 (dk_at dksX1_twin_3 3 rfl rfl)
theorem dX1_twin_76 : decode cX1_twin 76 = .ok (.getfield 225, 3) := dk_180 0 225 (dk_at dksX1_twin_3 4 rfl rfl)
theorem dX1_twin_79 : decode cX1_twin 79 = .ok (.iload 6, 2) := dk_21 6 (dk_at dksX1_twin_3 7 rfl rfl)
theorem dX1_twin_81 : decode cX1_twin 81 = .ok (.iaload, 1) := dk_46 (dk_at dksX1_twin_3 9 rfl rfl)
theorem dX1_twin_82 : decode cX1_twin 82 = .ok (.aload_n 3, 1) := dk_45 (dk_at dksX1_twin_3 10 rfl rfl)
theorem dX1_twin_83 : decode cX1_twin 83 = .ok (.getfield 187, 3) := dk_180 0 187 (dk_at dksX1_twin_3 11 rfl rfl)
theorem dX1_twin_86 : decode cX1_twin 86 = .ok (.iload 6, 2) := dk_21 6 (dk_at dksX1_twin_3 14 rfl rfl)
theorem dX1_twin_88 : decode cX1_twin 88 = .ok (.iaload, 1) := dk_46 (dk_at dksX1_twin_3 16 rfl rfl)
theorem dX1_twin_89 : decode cX1_twin 89 = .ok (.invokevirtual 292, 3) := dk_182 1 36 (dk_at dksX1_twin_3 17 rfl rfl)
theorem dX1_twin_92 : decode cX1_twin 92 = .ok (.ifCond .eq 23, 3) := dk_153 0 23 (dk_at dksX1_twin_3 20 rfl rfl)
theorem dX1_twin_95 : decode cX1_twin 95 = .ok (.aload_n 3, 1) := dk_45 (dk_at dksX1_twin_3 23 rfl rfl)
theorem dX1_twin_96 : decode cX1_twin 96 = .ok (.getfield 228, 3) := dk_180 0 228 (dk_at dksX1_twin_4 0 rfl rfl)
theorem dX1_twin_99 : decode cX1_twin 99 = .ok (.iload 8, 2) := dk_21 8 (dk_at dksX1_twin_4 3 rfl rfl)
theorem dX1_twin_101 : decode cX1_twin 101 = .ok (.iaload, 1) := dk_46 (dk_at dksX1_twin_4 5 rfl rfl)
theorem dX1_twin_102 : decode cX1_twin 102 = .ok (.aload_n 3, 1) := dk_45 (dk_at dksX1_twin_4 6 rfl rfl)
theorem dX1_twin_103 : decode cX1_twin 103 = .ok (.getfield 228, 3) := dk_180 0 228 (dk_at dksX1_twin_4 7 rfl rfl)
theorem dX1_twin_106 : decode cX1_twin 106 = .ok (.iload 6, 2) := dk_21 6 (dk_at dksX1_twin_4 10 rfl rfl)
theorem dX1_twin_108 : decode cX1_twin 108 = .ok (.iaload, 1) := dk_46 (dk_at dksX1_twin_4 12 rfl rfl)
theorem dX1_twin_109 : decode cX1_twin 109 = .ok (.if_icmp .ne 6, 3) := dk_160 0 6 (dk_at dksX1_twin_4 13 rfl rfl)
theorem dX1_twin_112 : decode cX1_twin 112 = .ok (.iinc 7 1, 3) := dk_132 7 1 (dk_at dksX1_twin_4 16 rfl rfl)
theorem dX1_twin_115 : decode cX1_twin 115 = .ok (.iinc 8 1, 3) := dk_132 8 1 (dk_at dksX1_twin_4 19 rfl rfl)
theorem dX1_twin_118 : decode cX1_twin 118 = .ok (.goto (-53), 3) := dk_167 255 203 (dk_at dksX1_twin_5 0 rfl rfl)
theorem dX1_twin_121 : decode cX1_twin 121 = .ok (.iload 7, 2) := dk_21 7 (dk_at dksX1_twin_5 3 rfl rfl)
theorem dX1_twin_123 : decode cX1_twin 123 = .ok (.aload 4, 2) := dk_25 4 (dk_at dksX1_twin_5 5 rfl rfl)
theorem dX1_twin_125 : decode cX1_twin 125 = .ok (.aload_n 3, 1) := dk_45 (dk_at dksX1_twin_5 7 rfl rfl)
theorem dX1_twin_126 : decode cX1_twin 126 = .ok (.iload 6, 2) := dk_21 6 (dk_at dksX1_twin_5 8 rfl rfl)
theorem dX1_twin_128 : decode cX1_twin 128 = .ok (.invokevirtual 301, 3) := dk_182 1 45 (dk_at dksX1_twin_5 10 rfl rfl)
theorem dX1_twin_131 : decode cX1_twin 131 = .ok (.if_icmp .ge 6, 3) := dk_162 0 6 (dk_at dksX1_twin_5 13 rfl rfl)
theorem dX1_twin_134 : decode cX1_twin 134 = .ok (.iinc 5 1, 3) := dk_132 5 1 (dk_at dksX1_twin_5 16 rfl rfl)
theorem dX1_twin_137 : decode cX1_twin 137 = .ok (.iinc 6 1, 3) := dk_132 6 1 (dk_at dksX1_twin_5 19 rfl rfl)
theorem dX1_twin_140 : decode cX1_twin 140 = .ok (.goto (-90), 3) := dk_167 255 166 (dk_at dksX1_twin_6 0 rfl rfl)
theorem dX1_twin_143 : decode cX1_twin 143 = .ok (.iload 5, 2) := dk_21 5 (dk_at dksX1_twin_6 3 rfl rfl)
theorem dX1_twin_145 : decode cX1_twin 145 = .ok (.ireturn, 1) := dk_172 (dk_at dksX1_twin_6 5 rfl rfl)
abbrev cX1_run : ByteArray := prog_1_method_65_code
def yX1_run : MethodName := ⟨RX1, "run", "(I)I"⟩
def dkwX1_run_2 : List UInt8 := [180, 0, 50, 182, 0, 255, 87, 132, 2, 1, 167, 255, 221, 2, 172]
abbrev dktX1_run_2 : List UInt8 := dkwX1_run_2 ++ []
def dkwX1_run_1 : List UInt8 := [16, 99, 163, 0, 35, 42, 180, 0, 50, 180, 0, 161, 27, 50, 180, 0, 174, 154, 0, 5, 28, 172, 42, 42]
abbrev dktX1_run_1 : List UInt8 := dkwX1_run_1 ++ dktX1_run_2
def dkwX1_run_0 : List UInt8 := [42, 27, 182, 0, 206, 154, 0, 5, 2, 172, 42, 180, 0, 50, 42, 180, 0, 46, 182, 0, 234, 3, 61, 28]
abbrev dktX1_run_0 : List UInt8 := dkwX1_run_0 ++ dktX1_run_1
theorem dksX1_run_0 : cX1_run.data.toList.drop 0 = dktX1_run_0 := by decide +kernel
theorem dksX1_run_1 : cX1_run.data.toList.drop 24 = dktX1_run_1 := dk_seg dksX1_run_0 24 rfl rfl
theorem dksX1_run_2 : cX1_run.data.toList.drop 48 = dktX1_run_2 := dk_seg dksX1_run_1 24 rfl rfl
theorem dX1_run_0 : decode cX1_run 0 = .ok (.aload_n 0, 1) := dk_42 (dk_at dksX1_run_0 0 rfl rfl)
theorem dX1_run_1 : decode cX1_run 1 = .ok (.iload_n 1, 1) := dk_27 (dk_at dksX1_run_0 1 rfl rfl)
theorem dX1_run_2 : decode cX1_run 2 = .ok (.invokevirtual 206, 3) := dk_182 0 206 (dk_at dksX1_run_0 2 rfl rfl)
theorem dX1_run_5 : decode cX1_run 5 = .ok (.ifCond .ne 5, 3) := dk_154 0 5 (dk_at dksX1_run_0 5 rfl rfl)
theorem dX1_run_8 : decode cX1_run 8 = .ok (.iconst (-1), 1) := dk_2 (dk_at dksX1_run_0 8 rfl rfl)
theorem dX1_run_9 : decode cX1_run 9 = .ok (.ireturn, 1) := dk_172 (dk_at dksX1_run_0 9 rfl rfl)
theorem dX1_run_10 : decode cX1_run 10 = .ok (.aload_n 0, 1) := dk_42 (dk_at dksX1_run_0 10 rfl rfl)
theorem dX1_run_11 : decode cX1_run 11 = .ok (.getfield 50, 3) := dk_180 0 50 (dk_at dksX1_run_0 11 rfl rfl)
theorem dX1_run_14 : decode cX1_run 14 = .ok (.aload_n 0, 1) := dk_42 (dk_at dksX1_run_0 14 rfl rfl)
theorem dX1_run_15 : decode cX1_run 15 = .ok (.getfield 46, 3) := dk_180 0 46 (dk_at dksX1_run_0 15 rfl rfl)
theorem dX1_run_18 : decode cX1_run 18 = .ok (.invokevirtual 234, 3) := dk_182 0 234 (dk_at dksX1_run_0 18 rfl rfl)
theorem dX1_run_21 : decode cX1_run 21 = .ok (.iconst 0, 1) := dk_3 (dk_at dksX1_run_0 21 rfl rfl)
theorem dX1_run_22 : decode cX1_run 22 = .ok (.istore_n 2, 1) := dk_61 (dk_at dksX1_run_0 22 rfl rfl)
theorem dX1_run_23 : decode cX1_run 23 = .ok (.iload_n 2, 1) := dk_28 (dk_at dksX1_run_0 23 rfl rfl)
theorem dX1_run_24 : decode cX1_run 24 = .ok (.bipush 99, 2) := dk_16 99 (dk_at dksX1_run_1 0 rfl rfl)
theorem dX1_run_26 : decode cX1_run 26 = .ok (.if_icmp .gt 35, 3) := dk_163 0 35 (dk_at dksX1_run_1 2 rfl rfl)
theorem dX1_run_29 : decode cX1_run 29 = .ok (.aload_n 0, 1) := dk_42 (dk_at dksX1_run_1 5 rfl rfl)
theorem dX1_run_30 : decode cX1_run 30 = .ok (.getfield 50, 3) := dk_180 0 50 (dk_at dksX1_run_1 6 rfl rfl)
theorem dX1_run_33 : decode cX1_run 33 = .ok (.getfield 161, 3) := dk_180 0 161 (dk_at dksX1_run_1 9 rfl rfl)
theorem dX1_run_36 : decode cX1_run 36 = .ok (.iload_n 1, 1) := dk_27 (dk_at dksX1_run_1 12 rfl rfl)
theorem dX1_run_37 : decode cX1_run 37 = .ok (.aaload, 1) := dk_50 (dk_at dksX1_run_1 13 rfl rfl)
theorem dX1_run_38 : decode cX1_run 38 = .ok (.getfield 174, 3) := dk_180 0 174 (dk_at dksX1_run_1 14 rfl rfl)
theorem dX1_run_41 : decode cX1_run 41 = .ok (.ifCond .ne 5, 3) := dk_154 0 5 (dk_at dksX1_run_1 17 rfl rfl)
theorem dX1_run_44 : decode cX1_run 44 = .ok (.iload_n 2, 1) := dk_28 (dk_at dksX1_run_1 20 rfl rfl)
theorem dX1_run_45 : decode cX1_run 45 = .ok (.ireturn, 1) := dk_172 (dk_at dksX1_run_1 21 rfl rfl)
theorem dX1_run_46 : decode cX1_run 46 = .ok (.aload_n 0, 1) := dk_42 (dk_at dksX1_run_1 22 rfl rfl)
theorem dX1_run_47 : decode cX1_run 47 = .ok (.aload_n 0, 1) := dk_42 (dk_at dksX1_run_1 23 rfl rfl)
theorem dX1_run_48 : decode cX1_run 48 = .ok (.getfield 50, 3) := dk_180 0 50 (dk_at dksX1_run_2 0 rfl rfl)
theorem dX1_run_51 : decode cX1_run 51 = .ok (.invokevirtual 255, 3) := dk_182 0 255 (dk_at dksX1_run_2 3 rfl rfl)
theorem dX1_run_54 : decode cX1_run 54 = .ok (.pop, 1) := dk_87 (dk_at dksX1_run_2 6 rfl rfl)
theorem dX1_run_55 : decode cX1_run 55 = .ok (.iinc 2 1, 3) := dk_132 2 1 (dk_at dksX1_run_2 7 rfl rfl)
theorem dX1_run_58 : decode cX1_run 58 = .ok (.goto (-35), 3) := dk_167 255 221 (dk_at dksX1_run_2 10 rfl rfl)
theorem dX1_run_61 : decode cX1_run 61 = .ok (.iconst (-1), 1) := dk_2 (dk_at dksX1_run_2 13 rfl rfl)
theorem dX1_run_62 : decode cX1_run 62 = .ok (.ireturn, 1) := dk_172 (dk_at dksX1_run_2 14 rfl rfl)
abbrev cX1_years : ByteArray := prog_1_method_70_code
def yX1_years : MethodName := ⟨RX1, "years", "(III)I"⟩
def dkwX1_years_8 : List UInt8 := [180, 1, 78, 167, 0, 13, 42, 42, 180, 0, 50, 16, 6, 182, 1, 14, 172]
abbrev dktX1_years_8 : List UInt8 := dkwX1_years_8 ++ []
def dkwX1_years_7 : List UInt8 := [132, 4, 1, 167, 255, 152, 29, 154, 0, 10, 42, 180, 1, 75, 167, 0, 25, 29, 4, 160, 0, 10, 42]
abbrev dktX1_years_7 : List UInt8 := dkwX1_years_7 ++ dktX1_years_8
def dkwX1_years_6 : List UInt8 := [180, 0, 161, 21, 5, 50, 89, 180, 0, 174, 4, 100, 181, 0, 174, 42, 42, 180, 0, 50, 182, 0, 255, 87]
abbrev dktX1_years_6 : List UInt8 := dkwX1_years_6 ++ dktX1_years_7
def dkwX1_years_5 : List UInt8 := [182, 1, 69, 54, 5, 42, 42, 180, 0, 50, 21, 5, 182, 0, 252, 153, 0, 22, 42, 180, 0, 50]
abbrev dktX1_years_5 : List UInt8 := dkwX1_years_5 ++ dktX1_years_6
def dkwX1_years_4 : List UInt8 := [167, 255, 234, 42, 182, 0, 121, 158, 0, 54, 42, 16, 9, 182, 1, 69, 154, 0, 45, 42, 42, 182, 0, 121]
abbrev dktX1_years_4 : List UInt8 := dkwX1_years_4 ++ dktX1_years_5
def dkwX1_years_3 : List UInt8 := [21, 5, 42, 182, 0, 127, 162, 0, 19, 42, 42, 180, 0, 50, 21, 5, 182, 1, 81, 132, 5, 1]
abbrev dktX1_years_3 : List UInt8 := dkwX1_years_3 ++ dktX1_years_4
def dkwX1_years_2 : List UInt8 := [42, 180, 0, 50, 42, 180, 0, 46, 182, 0, 234, 3, 54, 4, 21, 4, 28, 162, 0, 104, 3, 54, 5]
abbrev dktX1_years_2 : List UInt8 := dkwX1_years_2 ++ dktX1_years_3
def dkwX1_years_1 : List UInt8 := [184, 0, 123, 154, 0, 5, 2, 172, 42, 27, 133, 181, 1, 57, 42, 3, 181, 1, 75, 42, 3, 181, 1, 78]
abbrev dktX1_years_1 : List UInt8 := dkwX1_years_1 ++ dktX1_years_2
def dkwX1_years_0 : List UInt8 := [27, 3, 17, 39, 15, 184, 0, 123, 153, 0, 22, 28, 4, 16, 99, 184, 0, 123, 153, 0, 12, 29, 3, 5]
abbrev dktX1_years_0 : List UInt8 := dkwX1_years_0 ++ dktX1_years_1
theorem dksX1_years_0 : cX1_years.data.toList.drop 0 = dktX1_years_0 := by decide +kernel
theorem dksX1_years_1 : cX1_years.data.toList.drop 24 = dktX1_years_1 := dk_seg dksX1_years_0 24 rfl rfl
theorem dksX1_years_2 : cX1_years.data.toList.drop 48 = dktX1_years_2 := dk_seg dksX1_years_1 24 rfl rfl
theorem dksX1_years_3 : cX1_years.data.toList.drop 71 = dktX1_years_3 := dk_seg dksX1_years_2 23 rfl rfl
theorem dksX1_years_4 : cX1_years.data.toList.drop 93 = dktX1_years_4 := dk_seg dksX1_years_3 22 rfl rfl
theorem dksX1_years_5 : cX1_years.data.toList.drop 117 = dktX1_years_5 := dk_seg dksX1_years_4 24 rfl rfl
theorem dksX1_years_6 : cX1_years.data.toList.drop 139 = dktX1_years_6 := dk_seg dksX1_years_5 22 rfl rfl
theorem dksX1_years_7 : cX1_years.data.toList.drop 163 = dktX1_years_7 := dk_seg dksX1_years_6 24 rfl rfl
theorem dksX1_years_8 : cX1_years.data.toList.drop 186 = dktX1_years_8 := dk_seg dksX1_years_7 23 rfl rfl
theorem dX1_years_0 : decode cX1_years 0 = .ok (.iload_n 1, 1) := dk_27 (dk_at dksX1_years_0 0 rfl rfl)
theorem dX1_years_1 : decode cX1_years 1 = .ok (.iconst 0, 1) := dk_3 (dk_at dksX1_years_0 1 rfl rfl)
theorem dX1_years_2 : decode cX1_years 2 = .ok (.sipush 9999, 3) := dk_17 39 15 (dk_at dksX1_years_0 2 rfl rfl)
theorem dX1_years_5 : decode cX1_years 5 = .ok (.invokestatic 123, 3) := dk_184 0 123 (dk_at dksX1_years_0 5 rfl rfl)
theorem dX1_years_8 : decode cX1_years 8 = .ok (.ifCond .eq 22, 3) := dk_153 0 22 (dk_at dksX1_years_0 8 rfl rfl)
theorem dX1_years_11 : decode cX1_years 11 = .ok (.iload_n 2, 1) := dk_28 (dk_at dksX1_years_0 11 rfl rfl)
theorem dX1_years_12 : decode cX1_years 12 = .ok (.iconst 1, 1) := dk_4 (dk_at dksX1_years_0 12 rfl rfl)
theorem dX1_years_13 : decode cX1_years 13 = .ok (.bipush 99, 2) := dk_16 99 (dk_at dksX1_years_0 13 rfl rfl)
theorem dX1_years_15 : decode cX1_years 15 = .ok (.invokestatic 123, 3) := dk_184 0 123 (dk_at dksX1_years_0 15 rfl rfl)
theorem dX1_years_18 : decode cX1_years 18 = .ok (.ifCond .eq 12, 3) := dk_153 0 12 (dk_at dksX1_years_0 18 rfl rfl)
theorem dX1_years_21 : decode cX1_years 21 = .ok (.iload_n 3, 1) := dk_29 (dk_at dksX1_years_0 21 rfl rfl)
theorem dX1_years_22 : decode cX1_years 22 = .ok (.iconst 0, 1) := dk_3 (dk_at dksX1_years_0 22 rfl rfl)
theorem dX1_years_23 : decode cX1_years 23 = .ok (.iconst 2, 1) := dk_5 (dk_at dksX1_years_0 23 rfl rfl)
theorem dX1_years_24 : decode cX1_years 24 = .ok (.invokestatic 123, 3) := dk_184 0 123 (dk_at dksX1_years_1 0 rfl rfl)
theorem dX1_years_27 : decode cX1_years 27 = .ok (.ifCond .ne 5, 3) := dk_154 0 5 (dk_at dksX1_years_1 3 rfl rfl)
theorem dX1_years_30 : decode cX1_years 30 = .ok (.iconst (-1), 1) := dk_2 (dk_at dksX1_years_1 6 rfl rfl)
theorem dX1_years_31 : decode cX1_years 31 = .ok (.ireturn, 1) := dk_172 (dk_at dksX1_years_1 7 rfl rfl)
theorem dX1_years_32 : decode cX1_years 32 = .ok (.aload_n 0, 1) := dk_42 (dk_at dksX1_years_1 8 rfl rfl)
theorem dX1_years_33 : decode cX1_years 33 = .ok (.iload_n 1, 1) := dk_27 (dk_at dksX1_years_1 9 rfl rfl)
theorem dX1_years_34 : decode cX1_years 34 = .ok (.i2l, 1) := dk_133 (dk_at dksX1_years_1 10 rfl rfl)
theorem dX1_years_35 : decode cX1_years 35 = .ok (.putfield 313, 3) := dk_181 1 57 (dk_at dksX1_years_1 11 rfl rfl)
theorem dX1_years_38 : decode cX1_years 38 = .ok (.aload_n 0, 1) := dk_42 (dk_at dksX1_years_1 14 rfl rfl)
theorem dX1_years_39 : decode cX1_years 39 = .ok (.iconst 0, 1) := dk_3 (dk_at dksX1_years_1 15 rfl rfl)
theorem dX1_years_40 : decode cX1_years 40 = .ok (.putfield 331, 3) := dk_181 1 75 (dk_at dksX1_years_1 16 rfl rfl)
theorem dX1_years_43 : decode cX1_years 43 = .ok (.aload_n 0, 1) := dk_42 (dk_at dksX1_years_1 19 rfl rfl)
theorem dX1_years_44 : decode cX1_years 44 = .ok (.iconst 0, 1) := dk_3 (dk_at dksX1_years_1 20 rfl rfl)
theorem dX1_years_45 : decode cX1_years 45 = .ok (.putfield 334, 3) := dk_181 1 78 (dk_at dksX1_years_1 21 rfl rfl)
theorem dX1_years_48 : decode cX1_years 48 = .ok (.aload_n 0, 1) := dk_42 (dk_at dksX1_years_2 0 rfl rfl)
theorem dX1_years_49 : decode cX1_years 49 = .ok (.getfield 50, 3) := dk_180 0 50 (dk_at dksX1_years_2 1 rfl rfl)
theorem dX1_years_52 : decode cX1_years 52 = .ok (.aload_n 0, 1) := dk_42 (dk_at dksX1_years_2 4 rfl rfl)
theorem dX1_years_53 : decode cX1_years 53 = .ok (.getfield 46, 3) := dk_180 0 46 (dk_at dksX1_years_2 5 rfl rfl)
theorem dX1_years_56 : decode cX1_years 56 = .ok (.invokevirtual 234, 3) := dk_182 0 234 (dk_at dksX1_years_2 8 rfl rfl)
theorem dX1_years_59 : decode cX1_years 59 = .ok (.iconst 0, 1) := dk_3 (dk_at dksX1_years_2 11 rfl rfl)
theorem dX1_years_60 : decode cX1_years 60 = .ok (.istore 4, 2) := dk_54 4 (dk_at dksX1_years_2 12 rfl rfl)
theorem dX1_years_62 : decode cX1_years 62 = .ok (.iload 4, 2) := dk_21 4 (dk_at dksX1_years_2 14 rfl rfl)
theorem dX1_years_64 : decode cX1_years 64 = .ok (.iload_n 2, 1) := dk_28 (dk_at dksX1_years_2 16 rfl rfl)
theorem dX1_years_65 : decode cX1_years 65 = .ok (.if_icmp .ge 104, 3) := dk_162 0 104 (dk_at dksX1_years_2 17 rfl rfl)
theorem dX1_years_68 : decode cX1_years 68 = .ok (.iconst 0, 1) := dk_3 (dk_at dksX1_years_2 20 rfl rfl)
theorem dX1_years_69 : decode cX1_years 69 = .ok (.istore 5, 2) := dk_54 5 (dk_at dksX1_years_2 21 rfl rfl)
theorem dX1_years_71 : decode cX1_years 71 = .ok (.iload 5, 2) := dk_21 5 (dk_at dksX1_years_3 0 rfl rfl)
theorem dX1_years_73 : decode cX1_years 73 = .ok (.aload_n 0, 1) := dk_42 (dk_at dksX1_years_3 2 rfl rfl)
theorem dX1_years_74 : decode cX1_years 74 = .ok (.invokevirtual 127, 3) := dk_182 0 127 (dk_at dksX1_years_3 3 rfl rfl)
theorem dX1_years_77 : decode cX1_years 77 = .ok (.if_icmp .ge 19, 3) := dk_162 0 19 (dk_at dksX1_years_3 6 rfl rfl)
theorem dX1_years_80 : decode cX1_years 80 = .ok (.aload_n 0, 1) := dk_42 (dk_at dksX1_years_3 9 rfl rfl)
theorem dX1_years_81 : decode cX1_years 81 = .ok (.aload_n 0, 1) := dk_42 (dk_at dksX1_years_3 10 rfl rfl)
theorem dX1_years_82 : decode cX1_years 82 = .ok (.getfield 50, 3) := dk_180 0 50 (dk_at dksX1_years_3 11 rfl rfl)
theorem dX1_years_85 : decode cX1_years 85 = .ok (.iload 5, 2) := dk_21 5 (dk_at dksX1_years_3 14 rfl rfl)
theorem dX1_years_87 : decode cX1_years 87 = .ok (.invokevirtual 337, 3) := dk_182 1 81 (dk_at dksX1_years_3 16 rfl rfl)
theorem dX1_years_90 : decode cX1_years 90 = .ok (.iinc 5 1, 3) := dk_132 5 1 (dk_at dksX1_years_3 19 rfl rfl)
theorem dX1_years_93 : decode cX1_years 93 = .ok (.goto (-22), 3) := dk_167 255 234 (dk_at dksX1_years_4 0 rfl rfl)
theorem dX1_years_96 : decode cX1_years 96 = .ok (.aload_n 0, 1) := dk_42 (dk_at dksX1_years_4 3 rfl rfl)
theorem dX1_years_97 : decode cX1_years 97 = .ok (.invokevirtual 121, 3) := dk_182 0 121 (dk_at dksX1_years_4 4 rfl rfl)
theorem dX1_years_100 : decode cX1_years 100 = .ok (.ifCond .le 54, 3) := dk_158 0 54 (dk_at dksX1_years_4 7 rfl rfl)
theorem dX1_years_103 : decode cX1_years 103 = .ok (.aload_n 0, 1) := dk_42 (dk_at dksX1_years_4 10 rfl rfl)
theorem dX1_years_104 : decode cX1_years 104 = .ok (.bipush 9, 2) := dk_16 9 (dk_at dksX1_years_4 11 rfl rfl)
theorem dX1_years_106 : decode cX1_years 106 = .ok (.invokevirtual 325, 3) := dk_182 1 69 (dk_at dksX1_years_4 13 rfl rfl)
theorem dX1_years_109 : decode cX1_years 109 = .ok (.ifCond .ne 45, 3) := dk_154 0 45 (dk_at dksX1_years_4 16 rfl rfl)
theorem dX1_years_112 : decode cX1_years 112 = .ok (.aload_n 0, 1) := dk_42 (dk_at dksX1_years_4 19 rfl rfl)
theorem dX1_years_113 : decode cX1_years 113 = .ok (.aload_n 0, 1) := dk_42 (dk_at dksX1_years_4 20 rfl rfl)
theorem dX1_years_114 : decode cX1_years 114 = .ok (.invokevirtual 121, 3) := dk_182 0 121 (dk_at dksX1_years_4 21 rfl rfl)
theorem dX1_years_117 : decode cX1_years 117 = .ok (.invokevirtual 325, 3) := dk_182 1 69 (dk_at dksX1_years_5 0 rfl rfl)
theorem dX1_years_120 : decode cX1_years 120 = .ok (.istore 5, 2) := dk_54 5 (dk_at dksX1_years_5 3 rfl rfl)
theorem dX1_years_122 : decode cX1_years 122 = .ok (.aload_n 0, 1) := dk_42 (dk_at dksX1_years_5 5 rfl rfl)
theorem dX1_years_123 : decode cX1_years 123 = .ok (.aload_n 0, 1) := dk_42 (dk_at dksX1_years_5 6 rfl rfl)
theorem dX1_years_124 : decode cX1_years 124 = .ok (.getfield 50, 3) := dk_180 0 50 (dk_at dksX1_years_5 7 rfl rfl)
theorem dX1_years_127 : decode cX1_years 127 = .ok (.iload 5, 2) := dk_21 5 (dk_at dksX1_years_5 10 rfl rfl)
theorem dX1_years_129 : decode cX1_years 129 = .ok (.invokevirtual 252, 3) := dk_182 0 252 (dk_at dksX1_years_5 12 rfl rfl)
theorem dX1_years_132 : decode cX1_years 132 = .ok (.ifCond .eq 22, 3) := dk_153 0 22 (dk_at dksX1_years_5 15 rfl rfl)
theorem dX1_years_135 : decode cX1_years 135 = .ok (.aload_n 0, 1) := dk_42 (dk_at dksX1_years_5 18 rfl rfl)
theorem dX1_years_136 : decode cX1_years 136 = .ok (.getfield 50, 3) := dk_180 0 50 (dk_at dksX1_years_5 19 rfl rfl)
theorem dX1_years_139 : decode cX1_years 139 = .ok (.getfield 161, 3) := dk_180 0 161 (dk_at dksX1_years_6 0 rfl rfl)
theorem dX1_years_142 : decode cX1_years 142 = .ok (.iload 5, 2) := dk_21 5 (dk_at dksX1_years_6 3 rfl rfl)
theorem dX1_years_144 : decode cX1_years 144 = .ok (.aaload, 1) := dk_50 (dk_at dksX1_years_6 5 rfl rfl)
theorem dX1_years_145 : decode cX1_years 145 = .ok (.dup, 1) := dk_89 (dk_at dksX1_years_6 6 rfl rfl)
theorem dX1_years_146 : decode cX1_years 146 = .ok (.getfield 174, 3) := dk_180 0 174 (dk_at dksX1_years_6 7 rfl rfl)
theorem dX1_years_149 : decode cX1_years 149 = .ok (.iconst 1, 1) := dk_4 (dk_at dksX1_years_6 10 rfl rfl)
theorem dX1_years_150 : decode cX1_years 150 = .ok (.isub, 1) := dk_100 (dk_at dksX1_years_6 11 rfl rfl)
theorem dX1_years_151 : decode cX1_years 151 = .ok (.putfield 174, 3) := dk_181 0 174 (dk_at dksX1_years_6 12 rfl rfl)
theorem dX1_years_154 : decode cX1_years 154 = .ok (.aload_n 0, 1) := dk_42 (dk_at dksX1_years_6 15 rfl rfl)
theorem dX1_years_155 : decode cX1_years 155 = .ok (.aload_n 0, 1) := dk_42 (dk_at dksX1_years_6 16 rfl rfl)
theorem dX1_years_156 : decode cX1_years 156 = .ok (.getfield 50, 3) := dk_180 0 50 (dk_at dksX1_years_6 17 rfl rfl)
theorem dX1_years_159 : decode cX1_years 159 = .ok (.invokevirtual 255, 3) := dk_182 0 255 (dk_at dksX1_years_6 20 rfl rfl)
theorem dX1_years_162 : decode cX1_years 162 = .ok (.pop, 1) := dk_87 (dk_at dksX1_years_6 23 rfl rfl)
theorem dX1_years_163 : decode cX1_years 163 = .ok (.iinc 4 1, 3) := dk_132 4 1 (dk_at dksX1_years_7 0 rfl rfl)
theorem dX1_years_166 : decode cX1_years 166 = .ok (.goto (-104), 3) := dk_167 255 152 (dk_at dksX1_years_7 3 rfl rfl)
theorem dX1_years_169 : decode cX1_years 169 = .ok (.iload_n 3, 1) := dk_29 (dk_at dksX1_years_7 6 rfl rfl)
theorem dX1_years_170 : decode cX1_years 170 = .ok (.ifCond .ne 10, 3) := dk_154 0 10 (dk_at dksX1_years_7 7 rfl rfl)
theorem dX1_years_173 : decode cX1_years 173 = .ok (.aload_n 0, 1) := dk_42 (dk_at dksX1_years_7 10 rfl rfl)
theorem dX1_years_174 : decode cX1_years 174 = .ok (.getfield 331, 3) := dk_180 1 75 (dk_at dksX1_years_7 11 rfl rfl)
theorem dX1_years_177 : decode cX1_years 177 = .ok (.goto 25, 3) := dk_167 0 25 (dk_at dksX1_years_7 14 rfl rfl)
theorem dX1_years_180 : decode cX1_years 180 = .ok (.iload_n 3, 1) := dk_29 (dk_at dksX1_years_7 17 rfl rfl)
theorem dX1_years_181 : decode cX1_years 181 = .ok (.iconst 1, 1) := dk_4 (dk_at dksX1_years_7 18 rfl rfl)
theorem dX1_years_182 : decode cX1_years 182 = .ok (.if_icmp .ne 10, 3) := dk_160 0 10 (dk_at dksX1_years_7 19 rfl rfl)
theorem dX1_years_185 : decode cX1_years 185 = .ok (.aload_n 0, 1) := dk_42 (dk_at dksX1_years_7 22 rfl rfl)
theorem dX1_years_186 : decode cX1_years 186 = .ok (.getfield 334, 3) := dk_180 1 78 (dk_at dksX1_years_8 0 rfl rfl)
theorem dX1_years_189 : decode cX1_years 189 = .ok (.goto 13, 3) := dk_167 0 13 (dk_at dksX1_years_8 3 rfl rfl)
theorem dX1_years_192 : decode cX1_years 192 = .ok (.aload_n 0, 1) := dk_42 (dk_at dksX1_years_8 6 rfl rfl)
theorem dX1_years_193 : decode cX1_years 193 = .ok (.aload_n 0, 1) := dk_42 (dk_at dksX1_years_8 7 rfl rfl)
theorem dX1_years_194 : decode cX1_years 194 = .ok (.getfield 50, 3) := dk_180 0 50 (dk_at dksX1_years_8 8 rfl rfl)
theorem dX1_years_197 : decode cX1_years 197 = .ok (.bipush 6, 2) := dk_16 6 (dk_at dksX1_years_8 11 rfl rfl)
theorem dX1_years_199 : decode cX1_years 199 = .ok (.invokevirtual 270, 3) := dk_182 1 14 (dk_at dksX1_years_8 13 rfl rfl)
theorem dX1_years_202 : decode cX1_years 202 = .ok (.ireturn, 1) := dk_172 (dk_at dksX1_years_8 16 rfl rfl)
abbrev cX1_lives : ByteArray := prog_1_method_69_code
def yX1_lives : MethodName := ⟨RX1, "lives", "(LGlassStreet$State;I)V"⟩
def dkwX1_lives_4 : List UInt8 := [180, 1, 78, 4, 96, 181, 1, 78, 177]
abbrev dktX1_lives_4 : List UInt8 := dkwX1_lives_4 ++ []
def dkwX1_lives_3 : List UInt8 := [181, 1, 75, 42, 43, 28, 42, 42, 182, 0, 129, 182, 1, 69, 182, 0, 248, 154, 0, 13, 42, 89]
abbrev dktX1_lives_3 : List UInt8 := dkwX1_lives_3 ++ dktX1_lives_4
def dkwX1_lives_2 : List UInt8 := [46, 4, 96, 184, 1, 72, 79, 167, 0, 47, 42, 182, 0, 129, 158, 0, 40, 42, 89, 180, 1, 75, 4, 96]
abbrev dktX1_lives_2 : List UInt8 := dkwX1_lives_2 ++ dktX1_lives_3
def dkwX1_lives_1 : List UInt8 := [184, 1, 17, 79, 167, 0, 74, 29, 4, 160, 0, 25, 43, 180, 0, 155, 28, 16, 9, 43, 180, 0, 155, 28]
abbrev dktX1_lives_1 : List UInt8 := dkwX1_lives_1 ++ dktX1_lives_2
def dkwX1_lives_0 : List UInt8 := [42, 6, 182, 1, 69, 62, 29, 154, 0, 24, 43, 180, 0, 155, 28, 3, 43, 180, 0, 155, 28, 46, 4, 100]
abbrev dktX1_lives_0 : List UInt8 := dkwX1_lives_0 ++ dktX1_lives_1
theorem dksX1_lives_0 : cX1_lives.data.toList.drop 0 = dktX1_lives_0 := by decide +kernel
theorem dksX1_lives_1 : cX1_lives.data.toList.drop 24 = dktX1_lives_1 := dk_seg dksX1_lives_0 24 rfl rfl
theorem dksX1_lives_2 : cX1_lives.data.toList.drop 48 = dktX1_lives_2 := dk_seg dksX1_lives_1 24 rfl rfl
theorem dksX1_lives_3 : cX1_lives.data.toList.drop 72 = dktX1_lives_3 := dk_seg dksX1_lives_2 24 rfl rfl
theorem dksX1_lives_4 : cX1_lives.data.toList.drop 94 = dktX1_lives_4 := dk_seg dksX1_lives_3 22 rfl rfl
theorem dX1_lives_0 : decode cX1_lives 0 = .ok (.aload_n 0, 1) := dk_42 (dk_at dksX1_lives_0 0 rfl rfl)
theorem dX1_lives_1 : decode cX1_lives 1 = .ok (.iconst 3, 1) := dk_6 (dk_at dksX1_lives_0 1 rfl rfl)
theorem dX1_lives_2 : decode cX1_lives 2 = .ok (.invokevirtual 325, 3) := dk_182 1 69 (dk_at dksX1_lives_0 2 rfl rfl)
theorem dX1_lives_5 : decode cX1_lives 5 = .ok (.istore_n 3, 1) := dk_62 (dk_at dksX1_lives_0 5 rfl rfl)
theorem dX1_lives_6 : decode cX1_lives 6 = .ok (.iload_n 3, 1) := dk_29 (dk_at dksX1_lives_0 6 rfl rfl)
theorem dX1_lives_7 : decode cX1_lives 7 = .ok (.ifCond .ne 24, 3) := dk_154 0 24 (dk_at dksX1_lives_0 7 rfl rfl)
theorem dX1_lives_10 : decode cX1_lives 10 = .ok (.aload_n 1, 1) := dk_43 (dk_at dksX1_lives_0 10 rfl rfl)
theorem dX1_lives_11 : decode cX1_lives 11 = .ok (.getfield 155, 3) := dk_180 0 155 (dk_at dksX1_lives_0 11 rfl rfl)
theorem dX1_lives_14 : decode cX1_lives 14 = .ok (.iload_n 2, 1) := dk_28 (dk_at dksX1_lives_0 14 rfl rfl)
theorem dX1_lives_15 : decode cX1_lives 15 = .ok (.iconst 0, 1) := dk_3 (dk_at dksX1_lives_0 15 rfl rfl)
theorem dX1_lives_16 : decode cX1_lives 16 = .ok (.aload_n 1, 1) := dk_43 (dk_at dksX1_lives_0 16 rfl rfl)
theorem dX1_lives_17 : decode cX1_lives 17 = .ok (.getfield 155, 3) := dk_180 0 155 (dk_at dksX1_lives_0 17 rfl rfl)
theorem dX1_lives_20 : decode cX1_lives 20 = .ok (.iload_n 2, 1) := dk_28 (dk_at dksX1_lives_0 20 rfl rfl)
theorem dX1_lives_21 : decode cX1_lives 21 = .ok (.iaload, 1) := dk_46 (dk_at dksX1_lives_0 21 rfl rfl)
theorem dX1_lives_22 : decode cX1_lives 22 = .ok (.iconst 1, 1) := dk_4 (dk_at dksX1_lives_0 22 rfl rfl)
theorem dX1_lives_23 : decode cX1_lives 23 = .ok (.isub, 1) := dk_100 (dk_at dksX1_lives_0 23 rfl rfl)
theorem dX1_lives_24 : decode cX1_lives 24 = .ok (.invokestatic 273, 3) := dk_184 1 17 (dk_at dksX1_lives_1 0 rfl rfl)
theorem dX1_lives_27 : decode cX1_lives 27 = .ok (.iastore, 1) := dk_79 (dk_at dksX1_lives_1 3 rfl rfl)
theorem dX1_lives_28 : decode cX1_lives 28 = .ok (.goto 74, 3) := dk_167 0 74 (dk_at dksX1_lives_1 4 rfl rfl)
theorem dX1_lives_31 : decode cX1_lives 31 = .ok (.iload_n 3, 1) := dk_29 (dk_at dksX1_lives_1 7 rfl rfl)
theorem dX1_lives_32 : decode cX1_lives 32 = .ok (.iconst 1, 1) := dk_4 (dk_at dksX1_lives_1 8 rfl rfl)
theorem dX1_lives_33 : decode cX1_lives 33 = .ok (.if_icmp .ne 25, 3) := dk_160 0 25 (dk_at dksX1_lives_1 9 rfl rfl)
theorem dX1_lives_36 : decode cX1_lives 36 = .ok (.aload_n 1, 1) := dk_43 (dk_at dksX1_lives_1 12 rfl rfl)
theorem dX1_lives_37 : decode cX1_lives 37 = .ok (.getfield 155, 3) := dk_180 0 155 (dk_at dksX1_lives_1 13 rfl rfl)
theorem dX1_lives_40 : decode cX1_lives 40 = .ok (.iload_n 2, 1) := dk_28 (dk_at dksX1_lives_1 16 rfl rfl)
theorem dX1_lives_41 : decode cX1_lives 41 = .ok (.bipush 9, 2) := dk_16 9 (dk_at dksX1_lives_1 17 rfl rfl)
theorem dX1_lives_43 : decode cX1_lives 43 = .ok (.aload_n 1, 1) := dk_43 (dk_at dksX1_lives_1 19 rfl rfl)
theorem dX1_lives_44 : decode cX1_lives 44 = .ok (.getfield 155, 3) := dk_180 0 155 (dk_at dksX1_lives_1 20 rfl rfl)
theorem dX1_lives_47 : decode cX1_lives 47 = .ok (.iload_n 2, 1) := dk_28 (dk_at dksX1_lives_1 23 rfl rfl)
theorem dX1_lives_48 : decode cX1_lives 48 = .ok (.iaload, 1) := dk_46 (dk_at dksX1_lives_2 0 rfl rfl)
theorem dX1_lives_49 : decode cX1_lives 49 = .ok (.iconst 1, 1) := dk_4 (dk_at dksX1_lives_2 1 rfl rfl)
theorem dX1_lives_50 : decode cX1_lives 50 = .ok (.iadd, 1) := dk_96 (dk_at dksX1_lives_2 2 rfl rfl)
theorem dX1_lives_51 : decode cX1_lives 51 = .ok (.invokestatic 328, 3) := dk_184 1 72 (dk_at dksX1_lives_2 3 rfl rfl)
theorem dX1_lives_54 : decode cX1_lives 54 = .ok (.iastore, 1) := dk_79 (dk_at dksX1_lives_2 6 rfl rfl)
theorem dX1_lives_55 : decode cX1_lives 55 = .ok (.goto 47, 3) := dk_167 0 47 (dk_at dksX1_lives_2 7 rfl rfl)
theorem dX1_lives_58 : decode cX1_lives 58 = .ok (.aload_n 0, 1) := dk_42 (dk_at dksX1_lives_2 10 rfl rfl)
theorem dX1_lives_59 : decode cX1_lives 59 = .ok (.invokevirtual 129, 3) := dk_182 0 129 (dk_at dksX1_lives_2 11 rfl rfl)
theorem dX1_lives_62 : decode cX1_lives 62 = .ok (.ifCond .le 40, 3) := dk_158 0 40 (dk_at dksX1_lives_2 14 rfl rfl)
theorem dX1_lives_65 : decode cX1_lives 65 = .ok (.aload_n 0, 1) := dk_42 (dk_at dksX1_lives_2 17 rfl rfl)
theorem dX1_lives_66 : decode cX1_lives 66 = .ok (.dup, 1) := dk_89 (dk_at dksX1_lives_2 18 rfl rfl)
theorem dX1_lives_67 : decode cX1_lives 67 = .ok (.getfield 331, 3) := dk_180 1 75 (dk_at dksX1_lives_2 19 rfl rfl)
theorem dX1_lives_70 : decode cX1_lives 70 = .ok (.iconst 1, 1) := dk_4 (dk_at dksX1_lives_2 22 rfl rfl)
theorem dX1_lives_71 : decode cX1_lives 71 = .ok (.iadd, 1) := dk_96 (dk_at dksX1_lives_2 23 rfl rfl)
theorem dX1_lives_72 : decode cX1_lives 72 = .ok (.putfield 331, 3) := dk_181 1 75 (dk_at dksX1_lives_3 0 rfl rfl)
theorem dX1_lives_75 : decode cX1_lives 75 = .ok (.aload_n 0, 1) := dk_42 (dk_at dksX1_lives_3 3 rfl rfl)
theorem dX1_lives_76 : decode cX1_lives 76 = .ok (.aload_n 1, 1) := dk_43 (dk_at dksX1_lives_3 4 rfl rfl)
theorem dX1_lives_77 : decode cX1_lives 77 = .ok (.iload_n 2, 1) := dk_28 (dk_at dksX1_lives_3 5 rfl rfl)
theorem dX1_lives_78 : decode cX1_lives 78 = .ok (.aload_n 0, 1) := dk_42 (dk_at dksX1_lives_3 6 rfl rfl)
theorem dX1_lives_79 : decode cX1_lives 79 = .ok (.aload_n 0, 1) := dk_42 (dk_at dksX1_lives_3 7 rfl rfl)
theorem dX1_lives_80 : decode cX1_lives 80 = .ok (.invokevirtual 129, 3) := dk_182 0 129 (dk_at dksX1_lives_3 8 rfl rfl)
theorem dX1_lives_83 : decode cX1_lives 83 = .ok (.invokevirtual 325, 3) := dk_182 1 69 (dk_at dksX1_lives_3 11 rfl rfl)
theorem dX1_lives_86 : decode cX1_lives 86 = .ok (.invokevirtual 248, 3) := dk_182 0 248 (dk_at dksX1_lives_3 14 rfl rfl)
theorem dX1_lives_89 : decode cX1_lives 89 = .ok (.ifCond .ne 13, 3) := dk_154 0 13 (dk_at dksX1_lives_3 17 rfl rfl)
theorem dX1_lives_92 : decode cX1_lives 92 = .ok (.aload_n 0, 1) := dk_42 (dk_at dksX1_lives_3 20 rfl rfl)
theorem dX1_lives_93 : decode cX1_lives 93 = .ok (.dup, 1) := dk_89 (dk_at dksX1_lives_3 21 rfl rfl)
theorem dX1_lives_94 : decode cX1_lives 94 = .ok (.getfield 334, 3) := dk_180 1 78 (dk_at dksX1_lives_4 0 rfl rfl)
theorem dX1_lives_97 : decode cX1_lives 97 = .ok (.iconst 1, 1) := dk_4 (dk_at dksX1_lives_4 3 rfl rfl)
theorem dX1_lives_98 : decode cX1_lives 98 = .ok (.iadd, 1) := dk_96 (dk_at dksX1_lives_4 4 rfl rfl)
theorem dX1_lives_99 : decode cX1_lives 99 = .ok (.putfield 334, 3) := dk_181 1 78 (dk_at dksX1_lives_4 5 rfl rfl)
theorem dX1_lives_102 : decode cX1_lives 102 = .ok (.return_, 1) := dk_177 (dk_at dksX1_lives_4 8 rfl rfl)
abbrev cX1_draws : ByteArray := prog_1_method_68_code
def yX1_draws : MethodName := ⟨RX1, "draws", "(I)I"⟩
def dkwX1_draws_1 : List UInt8 := [20, 1, 67, 109, 27, 133, 113, 136, 172]
abbrev dktX1_draws_1 : List UInt8 := dkwX1_draws_1 ++ []
def dkwX1_draws_0 : List UInt8 := [42, 42, 180, 1, 57, 20, 1, 61, 105, 20, 1, 63, 97, 20, 1, 65, 113, 181, 1, 57, 42, 180, 1, 57]
abbrev dktX1_draws_0 : List UInt8 := dkwX1_draws_0 ++ dktX1_draws_1
theorem dksX1_draws_0 : cX1_draws.data.toList.drop 0 = dktX1_draws_0 := by decide +kernel
theorem dksX1_draws_1 : cX1_draws.data.toList.drop 24 = dktX1_draws_1 := dk_seg dksX1_draws_0 24 rfl rfl
theorem dX1_draws_0 : decode cX1_draws 0 = .ok (.aload_n 0, 1) := dk_42 (dk_at dksX1_draws_0 0 rfl rfl)
theorem dX1_draws_1 : decode cX1_draws 1 = .ok (.aload_n 0, 1) := dk_42 (dk_at dksX1_draws_0 1 rfl rfl)
theorem dX1_draws_2 : decode cX1_draws 2 = .ok (.getfield 313, 3) := dk_180 1 57 (dk_at dksX1_draws_0 2 rfl rfl)
theorem dX1_draws_5 : decode cX1_draws 5 = .ok (.ldc2_w 317, 3) := dk_20 1 61 (dk_at dksX1_draws_0 5 rfl rfl)
theorem dX1_draws_8 : decode cX1_draws 8 = .ok (.lmul, 1) := dk_105 (dk_at dksX1_draws_0 8 rfl rfl)
theorem dX1_draws_9 : decode cX1_draws 9 = .ok (.ldc2_w 319, 3) := dk_20 1 63 (dk_at dksX1_draws_0 9 rfl rfl)
theorem dX1_draws_12 : decode cX1_draws 12 = .ok (.ladd, 1) := dk_97 (dk_at dksX1_draws_0 12 rfl rfl)
theorem dX1_draws_13 : decode cX1_draws 13 = .ok (.ldc2_w 321, 3) := dk_20 1 65 (dk_at dksX1_draws_0 13 rfl rfl)
theorem dX1_draws_16 : decode cX1_draws 16 = .ok (.lrem, 1) := dk_113 (dk_at dksX1_draws_0 16 rfl rfl)
theorem dX1_draws_17 : decode cX1_draws 17 = .ok (.putfield 313, 3) := dk_181 1 57 (dk_at dksX1_draws_0 17 rfl rfl)
theorem dX1_draws_20 : decode cX1_draws 20 = .ok (.aload_n 0, 1) := dk_42 (dk_at dksX1_draws_0 20 rfl rfl)
theorem dX1_draws_21 : decode cX1_draws 21 = .ok (.getfield 313, 3) := dk_180 1 57 (dk_at dksX1_draws_0 21 rfl rfl)
theorem dX1_draws_24 : decode cX1_draws 24 = .ok (.ldc2_w 323, 3) := dk_20 1 67 (dk_at dksX1_draws_1 0 rfl rfl)
theorem dX1_draws_27 : decode cX1_draws 27 = .ok (.ldiv, 1) := dk_109 (dk_at dksX1_draws_1 3 rfl rfl)
theorem dX1_draws_28 : decode cX1_draws 28 = .ok (.iload_n 1, 1) := dk_27 (dk_at dksX1_draws_1 4 rfl rfl)
theorem dX1_draws_29 : decode cX1_draws 29 = .ok (.i2l, 1) := dk_133 (dk_at dksX1_draws_1 5 rfl rfl)
theorem dX1_draws_30 : decode cX1_draws 30 = .ok (.lrem, 1) := dk_113 (dk_at dksX1_draws_1 6 rfl rfl)
theorem dX1_draws_31 : decode cX1_draws 31 = .ok (.l2i, 1) := dk_136 (dk_at dksX1_draws_1 7 rfl rfl)
theorem dX1_draws_32 : decode cX1_draws 32 = .ok (.ireturn, 1) := dk_172 (dk_at dksX1_draws_1 8 rfl rfl)
abbrev cX1_notch : ByteArray := prog_1_method_71_code
def yX1_notch : MethodName := ⟨RX1, "notch", "(IZ)Z"⟩
def dkwX1_notch_4 : List UInt8 := [180, 0, 46, 182, 0, 234, 42, 180, 0, 61, 45, 180, 1, 87, 184, 1, 88, 4, 172]
abbrev dktX1_notch_4 : List UInt8 := dkwX1_notch_4 ++ []
def dkwX1_notch_3 : List UInt8 := [180, 1, 87, 42, 180, 0, 61, 184, 1, 88, 42, 3, 181, 0, 95, 167, 0, 25, 45, 180, 1, 86, 42]
abbrev dktX1_notch_3 : List UInt8 := dkwX1_notch_3 ++ dktX1_notch_4
def dkwX1_notch_2 : List UInt8 := [180, 0, 66, 27, 50, 78, 28, 153, 0, 33, 42, 180, 0, 46, 45, 180, 1, 86, 182, 0, 234, 45]
abbrev dktX1_notch_2 : List UInt8 := dkwX1_notch_2 ++ dktX1_notch_3
def dkwX1_notch_1 : List UInt8 := [42, 180, 0, 66, 27, 50, 199, 0, 16, 42, 180, 0, 66, 27, 187, 0, 64, 89, 183, 1, 85, 83, 42]
abbrev dktX1_notch_1 : List UInt8 := dkwX1_notch_1 ++ dktX1_notch_2
def dkwX1_notch_0 : List UInt8 := [27, 3, 6, 184, 0, 123, 153, 0, 16, 28, 153, 0, 14, 42, 180, 0, 66, 27, 50, 199, 0, 5, 3, 172]
abbrev dktX1_notch_0 : List UInt8 := dkwX1_notch_0 ++ dktX1_notch_1
theorem dksX1_notch_0 : cX1_notch.data.toList.drop 0 = dktX1_notch_0 := by decide +kernel
theorem dksX1_notch_1 : cX1_notch.data.toList.drop 24 = dktX1_notch_1 := dk_seg dksX1_notch_0 24 rfl rfl
theorem dksX1_notch_2 : cX1_notch.data.toList.drop 47 = dktX1_notch_2 := dk_seg dksX1_notch_1 23 rfl rfl
theorem dksX1_notch_3 : cX1_notch.data.toList.drop 69 = dktX1_notch_3 := dk_seg dksX1_notch_2 22 rfl rfl
theorem dksX1_notch_4 : cX1_notch.data.toList.drop 92 = dktX1_notch_4 := dk_seg dksX1_notch_3 23 rfl rfl
theorem dX1_notch_0 : decode cX1_notch 0 = .ok (.iload_n 1, 1) := dk_27 (dk_at dksX1_notch_0 0 rfl rfl)
theorem dX1_notch_1 : decode cX1_notch 1 = .ok (.iconst 0, 1) := dk_3 (dk_at dksX1_notch_0 1 rfl rfl)
theorem dX1_notch_2 : decode cX1_notch 2 = .ok (.iconst 3, 1) := dk_6 (dk_at dksX1_notch_0 2 rfl rfl)
theorem dX1_notch_3 : decode cX1_notch 3 = .ok (.invokestatic 123, 3) := dk_184 0 123 (dk_at dksX1_notch_0 3 rfl rfl)
theorem dX1_notch_6 : decode cX1_notch 6 = .ok (.ifCond .eq 16, 3) := dk_153 0 16 (dk_at dksX1_notch_0 6 rfl rfl)
theorem dX1_notch_9 : decode cX1_notch 9 = .ok (.iload_n 2, 1) := dk_28 (dk_at dksX1_notch_0 9 rfl rfl)
theorem dX1_notch_10 : decode cX1_notch 10 = .ok (.ifCond .eq 14, 3) := dk_153 0 14 (dk_at dksX1_notch_0 10 rfl rfl)
theorem dX1_notch_13 : decode cX1_notch 13 = .ok (.aload_n 0, 1) := dk_42 (dk_at dksX1_notch_0 13 rfl rfl)
theorem dX1_notch_14 : decode cX1_notch 14 = .ok (.getfield 66, 3) := dk_180 0 66 (dk_at dksX1_notch_0 14 rfl rfl)
theorem dX1_notch_17 : decode cX1_notch 17 = .ok (.iload_n 1, 1) := dk_27 (dk_at dksX1_notch_0 17 rfl rfl)
theorem dX1_notch_18 : decode cX1_notch 18 = .ok (.aaload, 1) := dk_50 (dk_at dksX1_notch_0 18 rfl rfl)
theorem dX1_notch_19 : decode cX1_notch 19 = .ok (.ifnonnull 5, 3) := dk_199 0 5 (dk_at dksX1_notch_0 19 rfl rfl)
theorem dX1_notch_22 : decode cX1_notch 22 = .ok (.iconst 0, 1) := dk_3 (dk_at dksX1_notch_0 22 rfl rfl)
theorem dX1_notch_23 : decode cX1_notch 23 = .ok (.ireturn, 1) := dk_172 (dk_at dksX1_notch_0 23 rfl rfl)
theorem dX1_notch_24 : decode cX1_notch 24 = .ok (.aload_n 0, 1) := dk_42 (dk_at dksX1_notch_1 0 rfl rfl)
theorem dX1_notch_25 : decode cX1_notch 25 = .ok (.getfield 66, 3) := dk_180 0 66 (dk_at dksX1_notch_1 1 rfl rfl)
theorem dX1_notch_28 : decode cX1_notch 28 = .ok (.iload_n 1, 1) := dk_27 (dk_at dksX1_notch_1 4 rfl rfl)
theorem dX1_notch_29 : decode cX1_notch 29 = .ok (.aaload, 1) := dk_50 (dk_at dksX1_notch_1 5 rfl rfl)
theorem dX1_notch_30 : decode cX1_notch 30 = .ok (.ifnonnull 16, 3) := dk_199 0 16 (dk_at dksX1_notch_1 6 rfl rfl)
theorem dX1_notch_33 : decode cX1_notch 33 = .ok (.aload_n 0, 1) := dk_42 (dk_at dksX1_notch_1 9 rfl rfl)
theorem dX1_notch_34 : decode cX1_notch 34 = .ok (.getfield 66, 3) := dk_180 0 66 (dk_at dksX1_notch_1 10 rfl rfl)
theorem dX1_notch_37 : decode cX1_notch 37 = .ok (.iload_n 1, 1) := dk_27 (dk_at dksX1_notch_1 13 rfl rfl)
theorem dX1_notch_38 : decode cX1_notch 38 = .ok (.new 64, 3) := dk_187 0 64 (dk_at dksX1_notch_1 14 rfl rfl)
theorem dX1_notch_41 : decode cX1_notch 41 = .ok (.dup, 1) := dk_89 (dk_at dksX1_notch_1 17 rfl rfl)
theorem dX1_notch_42 : decode cX1_notch 42 = .ok (.invokespecial 341, 3) := dk_183 1 85 (dk_at dksX1_notch_1 18 rfl rfl)
theorem dX1_notch_45 : decode cX1_notch 45 = .ok (.aastore, 1) := dk_83 (dk_at dksX1_notch_1 21 rfl rfl)
theorem dX1_notch_46 : decode cX1_notch 46 = .ok (.aload_n 0, 1) := dk_42 (dk_at dksX1_notch_1 22 rfl rfl)
theorem dX1_notch_47 : decode cX1_notch 47 = .ok (.getfield 66, 3) := dk_180 0 66 (dk_at dksX1_notch_2 0 rfl rfl)
theorem dX1_notch_50 : decode cX1_notch 50 = .ok (.iload_n 1, 1) := dk_27 (dk_at dksX1_notch_2 3 rfl rfl)
theorem dX1_notch_51 : decode cX1_notch 51 = .ok (.aaload, 1) := dk_50 (dk_at dksX1_notch_2 4 rfl rfl)
theorem dX1_notch_52 : decode cX1_notch 52 = .ok (.astore_n 3, 1) := dk_78 (dk_at dksX1_notch_2 5 rfl rfl)
theorem dX1_notch_53 : decode cX1_notch 53 = .ok (.iload_n 2, 1) := dk_28 (dk_at dksX1_notch_2 6 rfl rfl)
theorem dX1_notch_54 : decode cX1_notch 54 = .ok (.ifCond .eq 33, 3) := dk_153 0 33 (dk_at dksX1_notch_2 7 rfl rfl)
theorem dX1_notch_57 : decode cX1_notch 57 = .ok (.aload_n 0, 1) := dk_42 (dk_at dksX1_notch_2 10 rfl rfl)
theorem dX1_notch_58 : decode cX1_notch 58 = .ok (.getfield 46, 3) := dk_180 0 46 (dk_at dksX1_notch_2 11 rfl rfl)
theorem dX1_notch_61 : decode cX1_notch 61 = .ok (.aload_n 3, 1) := dk_45 (dk_at dksX1_notch_2 14 rfl rfl)
theorem dX1_notch_62 : decode cX1_notch 62 = .ok (.getfield 342, 3) := dk_180 1 86 (dk_at dksX1_notch_2 15 rfl rfl)
theorem dX1_notch_65 : decode cX1_notch 65 = .ok (.invokevirtual 234, 3) := dk_182 0 234 (dk_at dksX1_notch_2 18 rfl rfl)
theorem dX1_notch_68 : decode cX1_notch 68 = .ok (.aload_n 3, 1) := dk_45 (dk_at dksX1_notch_2 21 rfl rfl)
theorem dX1_notch_69 : decode cX1_notch 69 = .ok (.getfield 343, 3) := dk_180 1 87 (dk_at dksX1_notch_3 0 rfl rfl)
theorem dX1_notch_72 : decode cX1_notch 72 = .ok (.aload_n 0, 1) := dk_42 (dk_at dksX1_notch_3 3 rfl rfl)
theorem dX1_notch_73 : decode cX1_notch 73 = .ok (.getfield 61, 3) := dk_180 0 61 (dk_at dksX1_notch_3 4 rfl rfl)
theorem dX1_notch_76 : decode cX1_notch 76 = .ok (.invokestatic 344, 3) := dk_184 1 88 (dk_at dksX1_notch_3 7 rfl rfl)
theorem dX1_notch_79 : decode cX1_notch 79 = .ok (.aload_n 0, 1) := dk_42 (dk_at dksX1_notch_3 10 rfl rfl)
theorem dX1_notch_80 : decode cX1_notch 80 = .ok (.iconst 0, 1) := dk_3 (dk_at dksX1_notch_3 11 rfl rfl)
theorem dX1_notch_81 : decode cX1_notch 81 = .ok (.putfield 95, 3) := dk_181 0 95 (dk_at dksX1_notch_3 12 rfl rfl)
theorem dX1_notch_84 : decode cX1_notch 84 = .ok (.goto 25, 3) := dk_167 0 25 (dk_at dksX1_notch_3 15 rfl rfl)
theorem dX1_notch_87 : decode cX1_notch 87 = .ok (.aload_n 3, 1) := dk_45 (dk_at dksX1_notch_3 18 rfl rfl)
theorem dX1_notch_88 : decode cX1_notch 88 = .ok (.getfield 342, 3) := dk_180 1 86 (dk_at dksX1_notch_3 19 rfl rfl)
theorem dX1_notch_91 : decode cX1_notch 91 = .ok (.aload_n 0, 1) := dk_42 (dk_at dksX1_notch_3 22 rfl rfl)
theorem dX1_notch_92 : decode cX1_notch 92 = .ok (.getfield 46, 3) := dk_180 0 46 (dk_at dksX1_notch_4 0 rfl rfl)
theorem dX1_notch_95 : decode cX1_notch 95 = .ok (.invokevirtual 234, 3) := dk_182 0 234 (dk_at dksX1_notch_4 3 rfl rfl)
theorem dX1_notch_98 : decode cX1_notch 98 = .ok (.aload_n 0, 1) := dk_42 (dk_at dksX1_notch_4 6 rfl rfl)
theorem dX1_notch_99 : decode cX1_notch 99 = .ok (.getfield 61, 3) := dk_180 0 61 (dk_at dksX1_notch_4 7 rfl rfl)
theorem dX1_notch_102 : decode cX1_notch 102 = .ok (.aload_n 3, 1) := dk_45 (dk_at dksX1_notch_4 10 rfl rfl)
theorem dX1_notch_103 : decode cX1_notch 103 = .ok (.getfield 343, 3) := dk_180 1 87 (dk_at dksX1_notch_4 11 rfl rfl)
theorem dX1_notch_106 : decode cX1_notch 106 = .ok (.invokestatic 344, 3) := dk_184 1 88 (dk_at dksX1_notch_4 14 rfl rfl)
theorem dX1_notch_109 : decode cX1_notch 109 = .ok (.iconst 1, 1) := dk_4 (dk_at dksX1_notch_4 17 rfl rfl)
theorem dX1_notch_110 : decode cX1_notch 110 = .ok (.ireturn, 1) := dk_172 (dk_at dksX1_notch_4 18 rfl rfl)
abbrev cX1_count : ByteArray := prog_1_method_74_code
def yX1_count : MethodName := ⟨RX1, "count", "(I)I"⟩
def dkwX1_count_5 : List UInt8 := [172, 42, 180, 0, 95, 172, 42, 180, 0, 73, 172, 2, 172]
abbrev dktX1_count_5 : List UInt8 := dkwX1_count_5 ++ []
def dkwX1_count_4 : List UInt8 := [180, 0, 135, 172, 42, 180, 0, 46, 180, 0, 212, 172, 42, 180, 0, 39, 182, 0, 105, 172, 42, 182, 1, 95]
abbrev dktX1_count_4 : List UInt8 := dkwX1_count_4 ++ dktX1_count_5
def dkwX1_count_3 : List UInt8 := [180, 0, 30, 42, 180, 0, 46, 180, 0, 142, 182, 0, 145, 172, 42, 182, 1, 92, 172, 42, 180, 0, 46]
abbrev dktX1_count_3 : List UInt8 := dkwX1_count_3 ++ dktX1_count_4
def dkwX1_count_2 : List UInt8 := [42, 182, 0, 121, 172, 42, 182, 0, 127, 172, 42, 182, 0, 129, 172, 42, 180, 0, 46, 180, 0, 142, 172, 42]
abbrev dktX1_count_2 : List UInt8 := dkwX1_count_2 ++ dktX1_count_3
def dkwX1_count_1 : List UInt8 := [170, 0, 0, 0, 0, 0, 145, 0, 0, 0, 0, 0, 0, 0, 11, 0, 0, 0, 63, 0, 0, 0, 68, 0, 0, 0, 73, 0, 0, 0, 78, 0, 0, 0, 86, 0, 0, 0, 101, 0, 0, 0, 106, 0, 0, 0, 114, 0, 0, 0, 122, 0, 0, 0, 130, 0, 0, 0, 135, 0, 0, 0, 140]
abbrev dktX1_count_1 : List UInt8 := dkwX1_count_1 ++ dktX1_count_2
def dkwX1_count_0 : List UInt8 := [27]
abbrev dktX1_count_0 : List UInt8 := dkwX1_count_0 ++ dktX1_count_1
theorem dksX1_count_0 : cX1_count.data.toList.drop 0 = dktX1_count_0 := by decide +kernel
theorem dksX1_count_1 : cX1_count.data.toList.drop 1 = dktX1_count_1 := dk_seg dksX1_count_0 1 rfl rfl
theorem dksX1_count_2 : cX1_count.data.toList.drop 64 = dktX1_count_2 := dk_seg dksX1_count_1 63 rfl rfl
theorem dksX1_count_3 : cX1_count.data.toList.drop 88 = dktX1_count_3 := dk_seg dksX1_count_2 24 rfl rfl
theorem dksX1_count_4 : cX1_count.data.toList.drop 111 = dktX1_count_4 := dk_seg dksX1_count_3 23 rfl rfl
theorem dksX1_count_5 : cX1_count.data.toList.drop 135 = dktX1_count_5 := dk_seg dksX1_count_4 24 rfl rfl
theorem dX1_count_0 : decode cX1_count 0 = .ok (.iload_n 1, 1) := dk_27 (dk_at dksX1_count_0 0 rfl rfl)
theorem dX1_count_1 : decode cX1_count 1 = .ok (.tableswitch 145 0 11 #[63, 68, 73, 78, 86, 101, 106, 114, 122, 130, 135, 140], 63) := by decide +kernel
theorem dX1_count_64 : decode cX1_count 64 = .ok (.aload_n 0, 1) := dk_42 (dk_at dksX1_count_2 0 rfl rfl)
theorem dX1_count_65 : decode cX1_count 65 = .ok (.invokevirtual 121, 3) := dk_182 0 121 (dk_at dksX1_count_2 1 rfl rfl)
theorem dX1_count_68 : decode cX1_count 68 = .ok (.ireturn, 1) := dk_172 (dk_at dksX1_count_2 4 rfl rfl)
theorem dX1_count_69 : decode cX1_count 69 = .ok (.aload_n 0, 1) := dk_42 (dk_at dksX1_count_2 5 rfl rfl)
theorem dX1_count_70 : decode cX1_count 70 = .ok (.invokevirtual 127, 3) := dk_182 0 127 (dk_at dksX1_count_2 6 rfl rfl)
theorem dX1_count_73 : decode cX1_count 73 = .ok (.ireturn, 1) := dk_172 (dk_at dksX1_count_2 9 rfl rfl)
theorem dX1_count_74 : decode cX1_count 74 = .ok (.aload_n 0, 1) := dk_42 (dk_at dksX1_count_2 10 rfl rfl)
theorem dX1_count_75 : decode cX1_count 75 = .ok (.invokevirtual 129, 3) := dk_182 0 129 (dk_at dksX1_count_2 11 rfl rfl)
theorem dX1_count_78 : decode cX1_count 78 = .ok (.ireturn, 1) := dk_172 (dk_at dksX1_count_2 14 rfl rfl)
theorem dX1_count_79 : decode cX1_count 79 = .ok (.aload_n 0, 1) := dk_42 (dk_at dksX1_count_2 15 rfl rfl)
theorem dX1_count_80 : decode cX1_count 80 = .ok (.getfield 46, 3) := dk_180 0 46 (dk_at dksX1_count_2 16 rfl rfl)
theorem dX1_count_83 : decode cX1_count 83 = .ok (.getfield 142, 3) := dk_180 0 142 (dk_at dksX1_count_2 19 rfl rfl)
theorem dX1_count_86 : decode cX1_count 86 = .ok (.ireturn, 1) := dk_172 (dk_at dksX1_count_2 22 rfl rfl)
theorem dX1_count_87 : decode cX1_count 87 = .ok (.aload_n 0, 1) := dk_42 (dk_at dksX1_count_2 23 rfl rfl)
theorem dX1_count_88 : decode cX1_count 88 = .ok (.getfield 30, 3) := dk_180 0 30 (dk_at dksX1_count_3 0 rfl rfl)
theorem dX1_count_91 : decode cX1_count 91 = .ok (.aload_n 0, 1) := dk_42 (dk_at dksX1_count_3 3 rfl rfl)
theorem dX1_count_92 : decode cX1_count 92 = .ok (.getfield 46, 3) := dk_180 0 46 (dk_at dksX1_count_3 4 rfl rfl)
theorem dX1_count_95 : decode cX1_count 95 = .ok (.getfield 142, 3) := dk_180 0 142 (dk_at dksX1_count_3 7 rfl rfl)
theorem dX1_count_98 : decode cX1_count 98 = .ok (.invokevirtual 145, 3) := dk_182 0 145 (dk_at dksX1_count_3 10 rfl rfl)
theorem dX1_count_101 : decode cX1_count 101 = .ok (.ireturn, 1) := dk_172 (dk_at dksX1_count_3 13 rfl rfl)
theorem dX1_count_102 : decode cX1_count 102 = .ok (.aload_n 0, 1) := dk_42 (dk_at dksX1_count_3 14 rfl rfl)
theorem dX1_count_103 : decode cX1_count 103 = .ok (.invokevirtual 348, 3) := dk_182 1 92 (dk_at dksX1_count_3 15 rfl rfl)
theorem dX1_count_106 : decode cX1_count 106 = .ok (.ireturn, 1) := dk_172 (dk_at dksX1_count_3 18 rfl rfl)
theorem dX1_count_107 : decode cX1_count 107 = .ok (.aload_n 0, 1) := dk_42 (dk_at dksX1_count_3 19 rfl rfl)
theorem dX1_count_108 : decode cX1_count 108 = .ok (.getfield 46, 3) := dk_180 0 46 (dk_at dksX1_count_3 20 rfl rfl)
theorem dX1_count_111 : decode cX1_count 111 = .ok (.getfield 135, 3) := dk_180 0 135 (dk_at dksX1_count_4 0 rfl rfl)
theorem dX1_count_114 : decode cX1_count 114 = .ok (.ireturn, 1) := dk_172 (dk_at dksX1_count_4 3 rfl rfl)
theorem dX1_count_115 : decode cX1_count 115 = .ok (.aload_n 0, 1) := dk_42 (dk_at dksX1_count_4 4 rfl rfl)
theorem dX1_count_116 : decode cX1_count 116 = .ok (.getfield 46, 3) := dk_180 0 46 (dk_at dksX1_count_4 5 rfl rfl)
theorem dX1_count_119 : decode cX1_count 119 = .ok (.getfield 212, 3) := dk_180 0 212 (dk_at dksX1_count_4 8 rfl rfl)
theorem dX1_count_122 : decode cX1_count 122 = .ok (.ireturn, 1) := dk_172 (dk_at dksX1_count_4 11 rfl rfl)
theorem dX1_count_123 : decode cX1_count 123 = .ok (.aload_n 0, 1) := dk_42 (dk_at dksX1_count_4 12 rfl rfl)
theorem dX1_count_124 : decode cX1_count 124 = .ok (.getfield 39, 3) := dk_180 0 39 (dk_at dksX1_count_4 13 rfl rfl)
theorem dX1_count_127 : decode cX1_count 127 = .ok (.invokevirtual 105, 3) := dk_182 0 105 (dk_at dksX1_count_4 16 rfl rfl)
theorem dX1_count_130 : decode cX1_count 130 = .ok (.ireturn, 1) := dk_172 (dk_at dksX1_count_4 19 rfl rfl)
theorem dX1_count_131 : decode cX1_count 131 = .ok (.aload_n 0, 1) := dk_42 (dk_at dksX1_count_4 20 rfl rfl)
theorem dX1_count_132 : decode cX1_count 132 = .ok (.invokevirtual 351, 3) := dk_182 1 95 (dk_at dksX1_count_4 21 rfl rfl)
theorem dX1_count_135 : decode cX1_count 135 = .ok (.ireturn, 1) := dk_172 (dk_at dksX1_count_5 0 rfl rfl)
theorem dX1_count_136 : decode cX1_count 136 = .ok (.aload_n 0, 1) := dk_42 (dk_at dksX1_count_5 1 rfl rfl)
theorem dX1_count_137 : decode cX1_count 137 = .ok (.getfield 95, 3) := dk_180 0 95 (dk_at dksX1_count_5 2 rfl rfl)
theorem dX1_count_140 : decode cX1_count 140 = .ok (.ireturn, 1) := dk_172 (dk_at dksX1_count_5 5 rfl rfl)
theorem dX1_count_141 : decode cX1_count 141 = .ok (.aload_n 0, 1) := dk_42 (dk_at dksX1_count_5 6 rfl rfl)
theorem dX1_count_142 : decode cX1_count 142 = .ok (.getfield 73, 3) := dk_180 0 73 (dk_at dksX1_count_5 7 rfl rfl)
theorem dX1_count_145 : decode cX1_count 145 = .ok (.ireturn, 1) := dk_172 (dk_at dksX1_count_5 10 rfl rfl)
theorem dX1_count_146 : decode cX1_count 146 = .ok (.iconst (-1), 1) := dk_2 (dk_at dksX1_count_5 11 rfl rfl)
theorem dX1_count_147 : decode cX1_count 147 = .ok (.ireturn, 1) := dk_172 (dk_at dksX1_count_5 12 rfl rfl)
abbrev cX1_allMarks : ByteArray := prog_1_method_72_code
def yX1_allMarks : MethodName := ⟨RX1, "allMarks", "()I"⟩
def dkwX1_allMarks_1 : List UInt8 := [180, 0, 174, 96, 60, 132, 2, 1, 167, 255, 230, 27, 172]
abbrev dktX1_allMarks_1 : List UInt8 := dkwX1_allMarks_1 ++ []
def dkwX1_allMarks_0 : List UInt8 := [3, 60, 3, 61, 28, 42, 182, 0, 121, 162, 0, 24, 27, 42, 180, 0, 46, 180, 0, 161, 28, 50]
abbrev dktX1_allMarks_0 : List UInt8 := dkwX1_allMarks_0 ++ dktX1_allMarks_1
theorem dksX1_allMarks_0 : cX1_allMarks.data.toList.drop 0 = dktX1_allMarks_0 := by decide +kernel
theorem dksX1_allMarks_1 : cX1_allMarks.data.toList.drop 22 = dktX1_allMarks_1 := dk_seg dksX1_allMarks_0 22 rfl rfl
theorem dX1_allMarks_0 : decode cX1_allMarks 0 = .ok (.iconst 0, 1) := dk_3 (dk_at dksX1_allMarks_0 0 rfl rfl)
theorem dX1_allMarks_1 : decode cX1_allMarks 1 = .ok (.istore_n 1, 1) := dk_60 (dk_at dksX1_allMarks_0 1 rfl rfl)
theorem dX1_allMarks_2 : decode cX1_allMarks 2 = .ok (.iconst 0, 1) := dk_3 (dk_at dksX1_allMarks_0 2 rfl rfl)
theorem dX1_allMarks_3 : decode cX1_allMarks 3 = .ok (.istore_n 2, 1) := dk_61 (dk_at dksX1_allMarks_0 3 rfl rfl)
theorem dX1_allMarks_4 : decode cX1_allMarks 4 = .ok (.iload_n 2, 1) := dk_28 (dk_at dksX1_allMarks_0 4 rfl rfl)
theorem dX1_allMarks_5 : decode cX1_allMarks 5 = .ok (.aload_n 0, 1) := dk_42 (dk_at dksX1_allMarks_0 5 rfl rfl)
theorem dX1_allMarks_6 : decode cX1_allMarks 6 = .ok (.invokevirtual 121, 3) := dk_182 0 121 (dk_at dksX1_allMarks_0 6 rfl rfl)
theorem dX1_allMarks_9 : decode cX1_allMarks 9 = .ok (.if_icmp .ge 24, 3) := dk_162 0 24 (dk_at dksX1_allMarks_0 9 rfl rfl)
theorem dX1_allMarks_12 : decode cX1_allMarks 12 = .ok (.iload_n 1, 1) := dk_27 (dk_at dksX1_allMarks_0 12 rfl rfl)
theorem dX1_allMarks_13 : decode cX1_allMarks 13 = .ok (.aload_n 0, 1) := dk_42 (dk_at dksX1_allMarks_0 13 rfl rfl)
theorem dX1_allMarks_14 : decode cX1_allMarks 14 = .ok (.getfield 46, 3) := dk_180 0 46 (dk_at dksX1_allMarks_0 14 rfl rfl)
theorem dX1_allMarks_17 : decode cX1_allMarks 17 = .ok (.getfield 161, 3) := dk_180 0 161 (dk_at dksX1_allMarks_0 17 rfl rfl)
theorem dX1_allMarks_20 : decode cX1_allMarks 20 = .ok (.iload_n 2, 1) := dk_28 (dk_at dksX1_allMarks_0 20 rfl rfl)
theorem dX1_allMarks_21 : decode cX1_allMarks 21 = .ok (.aaload, 1) := dk_50 (dk_at dksX1_allMarks_0 21 rfl rfl)
theorem dX1_allMarks_22 : decode cX1_allMarks 22 = .ok (.getfield 174, 3) := dk_180 0 174 (dk_at dksX1_allMarks_1 0 rfl rfl)
theorem dX1_allMarks_25 : decode cX1_allMarks 25 = .ok (.iadd, 1) := dk_96 (dk_at dksX1_allMarks_1 3 rfl rfl)
theorem dX1_allMarks_26 : decode cX1_allMarks 26 = .ok (.istore_n 1, 1) := dk_60 (dk_at dksX1_allMarks_1 4 rfl rfl)
theorem dX1_allMarks_27 : decode cX1_allMarks 27 = .ok (.iinc 2 1, 3) := dk_132 2 1 (dk_at dksX1_allMarks_1 5 rfl rfl)
theorem dX1_allMarks_30 : decode cX1_allMarks 30 = .ok (.goto (-26), 3) := dk_167 255 230 (dk_at dksX1_allMarks_1 8 rfl rfl)
theorem dX1_allMarks_33 : decode cX1_allMarks 33 = .ok (.iload_n 1, 1) := dk_27 (dk_at dksX1_allMarks_1 11 rfl rfl)
theorem dX1_allMarks_34 : decode cX1_allMarks 34 = .ok (.ireturn, 1) := dk_172 (dk_at dksX1_allMarks_1 12 rfl rfl)
abbrev cX1_saidMany : ByteArray := prog_1_method_73_code
def yX1_saidMany : MethodName := ⟨RX1, "saidMany", "()I"⟩
def dkwX1_saidMany_1 : List UInt8 := [132, 2, 1, 167, 255, 233, 27, 172]
abbrev dktX1_saidMany_1 : List UInt8 := dkwX1_saidMany_1 ++ []
def dkwX1_saidMany_0 : List UInt8 := [3, 60, 3, 61, 28, 42, 182, 0, 121, 162, 0, 21, 42, 180, 0, 61, 28, 46, 155, 0, 6, 132, 1, 1]
abbrev dktX1_saidMany_0 : List UInt8 := dkwX1_saidMany_0 ++ dktX1_saidMany_1
theorem dksX1_saidMany_0 : cX1_saidMany.data.toList.drop 0 = dktX1_saidMany_0 := by decide +kernel
theorem dksX1_saidMany_1 : cX1_saidMany.data.toList.drop 24 = dktX1_saidMany_1 := dk_seg dksX1_saidMany_0 24 rfl rfl
theorem dX1_saidMany_0 : decode cX1_saidMany 0 = .ok (.iconst 0, 1) := dk_3 (dk_at dksX1_saidMany_0 0 rfl rfl)
theorem dX1_saidMany_1 : decode cX1_saidMany 1 = .ok (.istore_n 1, 1) := dk_60 (dk_at dksX1_saidMany_0 1 rfl rfl)
theorem dX1_saidMany_2 : decode cX1_saidMany 2 = .ok (.iconst 0, 1) := dk_3 (dk_at dksX1_saidMany_0 2 rfl rfl)
theorem dX1_saidMany_3 : decode cX1_saidMany 3 = .ok (.istore_n 2, 1) := dk_61 (dk_at dksX1_saidMany_0 3 rfl rfl)
theorem dX1_saidMany_4 : decode cX1_saidMany 4 = .ok (.iload_n 2, 1) := dk_28 (dk_at dksX1_saidMany_0 4 rfl rfl)
theorem dX1_saidMany_5 : decode cX1_saidMany 5 = .ok (.aload_n 0, 1) := dk_42 (dk_at dksX1_saidMany_0 5 rfl rfl)
theorem dX1_saidMany_6 : decode cX1_saidMany 6 = .ok (.invokevirtual 121, 3) := dk_182 0 121 (dk_at dksX1_saidMany_0 6 rfl rfl)
theorem dX1_saidMany_9 : decode cX1_saidMany 9 = .ok (.if_icmp .ge 21, 3) := dk_162 0 21 (dk_at dksX1_saidMany_0 9 rfl rfl)
theorem dX1_saidMany_12 : decode cX1_saidMany 12 = .ok (.aload_n 0, 1) := dk_42 (dk_at dksX1_saidMany_0 12 rfl rfl)
theorem dX1_saidMany_13 : decode cX1_saidMany 13 = .ok (.getfield 61, 3) := dk_180 0 61 (dk_at dksX1_saidMany_0 13 rfl rfl)
theorem dX1_saidMany_16 : decode cX1_saidMany 16 = .ok (.iload_n 2, 1) := dk_28 (dk_at dksX1_saidMany_0 16 rfl rfl)
theorem dX1_saidMany_17 : decode cX1_saidMany 17 = .ok (.iaload, 1) := dk_46 (dk_at dksX1_saidMany_0 17 rfl rfl)
theorem dX1_saidMany_18 : decode cX1_saidMany 18 = .ok (.ifCond .lt 6, 3) := dk_155 0 6 (dk_at dksX1_saidMany_0 18 rfl rfl)
theorem dX1_saidMany_21 : decode cX1_saidMany 21 = .ok (.iinc 1 1, 3) := dk_132 1 1 (dk_at dksX1_saidMany_0 21 rfl rfl)
theorem dX1_saidMany_24 : decode cX1_saidMany 24 = .ok (.iinc 2 1, 3) := dk_132 2 1 (dk_at dksX1_saidMany_1 0 rfl rfl)
theorem dX1_saidMany_27 : decode cX1_saidMany 27 = .ok (.goto (-23), 3) := dk_167 255 233 (dk_at dksX1_saidMany_1 3 rfl rfl)
theorem dX1_saidMany_30 : decode cX1_saidMany 30 = .ok (.iload_n 1, 1) := dk_27 (dk_at dksX1_saidMany_1 6 rfl rfl)
theorem dX1_saidMany_31 : decode cX1_saidMany 31 = .ok (.ireturn, 1) := dk_172 (dk_at dksX1_saidMany_1 7 rfl rfl)
abbrev cX1_rests : ByteArray := prog_1_method_67_code
def yX1_rests : MethodName := ⟨RX1, "rests", "(IIII)I"⟩
def dkwX1_rests_6 : List UInt8 := [2, 160, 0, 7, 4, 167, 0, 4, 3, 184, 1, 49, 21, 5, 172]
abbrev dktX1_rests_6 : List UInt8 := dkwX1_rests_6 ++ []
def dkwX1_rests_5 : List UInt8 := [167, 0, 16, 21, 5, 21, 4, 160, 0, 6, 21, 6, 172, 132, 5, 1, 132, 6, 1, 167, 255, 169, 21, 4]
abbrev dktX1_rests_5 : List UInt8 := dkwX1_rests_5 ++ dktX1_rests_6
def dkwX1_rests_4 : List UInt8 := [4, 21, 8, 100, 21, 7, 184, 1, 53, 27, 28, 29, 21, 8, 21, 7, 184, 1, 53, 164, 0, 6]
abbrev dktX1_rests_4 : List UInt8 := dkwX1_rests_4 ++ dktX1_rests_5
def dkwX1_rests_3 : List UInt8 := [21, 7, 100, 21, 8, 184, 1, 53, 27, 28, 29, 21, 7, 21, 8, 184, 1, 53, 163, 0, 44, 27, 28, 29]
abbrev dktX1_rests_3 : List UInt8 := dkwX1_rests_3 ++ dktX1_rests_4
def dkwX1_rests_2 : List UInt8 := [54, 6, 21, 6, 7, 162, 0, 87, 21, 6, 5, 108, 54, 7, 21, 6, 5, 112, 54, 8, 27, 28, 29, 4]
abbrev dktX1_rests_2 : List UInt8 := dkwX1_rests_2 ++ dktX1_rests_3
def dkwX1_rests_1 : List UInt8 := [184, 0, 123, 153, 0, 13, 21, 4, 2, 161, 0, 7, 4, 167, 0, 4, 3, 184, 1, 49, 3, 54, 5, 3]
abbrev dktX1_rests_1 : List UInt8 := dkwX1_rests_1 ++ dktX1_rests_2
def dkwX1_rests_0 : List UInt8 := [27, 3, 16, 9, 184, 0, 123, 153, 0, 33, 28, 3, 16, 9, 184, 0, 123, 153, 0, 23, 29, 3, 16, 9]
abbrev dktX1_rests_0 : List UInt8 := dkwX1_rests_0 ++ dktX1_rests_1
theorem dksX1_rests_0 : cX1_rests.data.toList.drop 0 = dktX1_rests_0 := by decide +kernel
theorem dksX1_rests_1 : cX1_rests.data.toList.drop 24 = dktX1_rests_1 := dk_seg dksX1_rests_0 24 rfl rfl
theorem dksX1_rests_2 : cX1_rests.data.toList.drop 48 = dktX1_rests_2 := dk_seg dksX1_rests_1 24 rfl rfl
theorem dksX1_rests_3 : cX1_rests.data.toList.drop 72 = dktX1_rests_3 := dk_seg dksX1_rests_2 24 rfl rfl
theorem dksX1_rests_4 : cX1_rests.data.toList.drop 96 = dktX1_rests_4 := dk_seg dksX1_rests_3 24 rfl rfl
theorem dksX1_rests_5 : cX1_rests.data.toList.drop 118 = dktX1_rests_5 := dk_seg dksX1_rests_4 22 rfl rfl
theorem dksX1_rests_6 : cX1_rests.data.toList.drop 142 = dktX1_rests_6 := dk_seg dksX1_rests_5 24 rfl rfl
theorem dX1_rests_0 : decode cX1_rests 0 = .ok (.iload_n 1, 1) := dk_27 (dk_at dksX1_rests_0 0 rfl rfl)
theorem dX1_rests_1 : decode cX1_rests 1 = .ok (.iconst 0, 1) := dk_3 (dk_at dksX1_rests_0 1 rfl rfl)
theorem dX1_rests_2 : decode cX1_rests 2 = .ok (.bipush 9, 2) := dk_16 9 (dk_at dksX1_rests_0 2 rfl rfl)
theorem dX1_rests_4 : decode cX1_rests 4 = .ok (.invokestatic 123, 3) := dk_184 0 123 (dk_at dksX1_rests_0 4 rfl rfl)
theorem dX1_rests_7 : decode cX1_rests 7 = .ok (.ifCond .eq 33, 3) := dk_153 0 33 (dk_at dksX1_rests_0 7 rfl rfl)
theorem dX1_rests_10 : decode cX1_rests 10 = .ok (.iload_n 2, 1) := dk_28 (dk_at dksX1_rests_0 10 rfl rfl)
theorem dX1_rests_11 : decode cX1_rests 11 = .ok (.iconst 0, 1) := dk_3 (dk_at dksX1_rests_0 11 rfl rfl)
theorem dX1_rests_12 : decode cX1_rests 12 = .ok (.bipush 9, 2) := dk_16 9 (dk_at dksX1_rests_0 12 rfl rfl)
theorem dX1_rests_14 : decode cX1_rests 14 = .ok (.invokestatic 123, 3) := dk_184 0 123 (dk_at dksX1_rests_0 14 rfl rfl)
theorem dX1_rests_17 : decode cX1_rests 17 = .ok (.ifCond .eq 23, 3) := dk_153 0 23 (dk_at dksX1_rests_0 17 rfl rfl)
theorem dX1_rests_20 : decode cX1_rests 20 = .ok (.iload_n 3, 1) := dk_29 (dk_at dksX1_rests_0 20 rfl rfl)
theorem dX1_rests_21 : decode cX1_rests 21 = .ok (.iconst 0, 1) := dk_3 (dk_at dksX1_rests_0 21 rfl rfl)
theorem dX1_rests_22 : decode cX1_rests 22 = .ok (.bipush 9, 2) := dk_16 9 (dk_at dksX1_rests_0 22 rfl rfl)
theorem dX1_rests_24 : decode cX1_rests 24 = .ok (.invokestatic 123, 3) := dk_184 0 123 (dk_at dksX1_rests_1 0 rfl rfl)
theorem dX1_rests_27 : decode cX1_rests 27 = .ok (.ifCond .eq 13, 3) := dk_153 0 13 (dk_at dksX1_rests_1 3 rfl rfl)
theorem dX1_rests_30 : decode cX1_rests 30 = .ok (.iload 4, 2) := dk_21 4 (dk_at dksX1_rests_1 6 rfl rfl)
theorem dX1_rests_32 : decode cX1_rests 32 = .ok (.iconst (-1), 1) := dk_2 (dk_at dksX1_rests_1 8 rfl rfl)
theorem dX1_rests_33 : decode cX1_rests 33 = .ok (.if_icmp .lt 7, 3) := dk_161 0 7 (dk_at dksX1_rests_1 9 rfl rfl)
theorem dX1_rests_36 : decode cX1_rests 36 = .ok (.iconst 1, 1) := dk_4 (dk_at dksX1_rests_1 12 rfl rfl)
theorem dX1_rests_37 : decode cX1_rests 37 = .ok (.goto 4, 3) := dk_167 0 4 (dk_at dksX1_rests_1 13 rfl rfl)
theorem dX1_rests_40 : decode cX1_rests 40 = .ok (.iconst 0, 1) := dk_3 (dk_at dksX1_rests_1 16 rfl rfl)
theorem dX1_rests_41 : decode cX1_rests 41 = .ok (.invokestatic 305, 3) := dk_184 1 49 (dk_at dksX1_rests_1 17 rfl rfl)
theorem dX1_rests_44 : decode cX1_rests 44 = .ok (.iconst 0, 1) := dk_3 (dk_at dksX1_rests_1 20 rfl rfl)
theorem dX1_rests_45 : decode cX1_rests 45 = .ok (.istore 5, 2) := dk_54 5 (dk_at dksX1_rests_1 21 rfl rfl)
theorem dX1_rests_47 : decode cX1_rests 47 = .ok (.iconst 0, 1) := dk_3 (dk_at dksX1_rests_1 23 rfl rfl)
theorem dX1_rests_48 : decode cX1_rests 48 = .ok (.istore 6, 2) := dk_54 6 (dk_at dksX1_rests_2 0 rfl rfl)
theorem dX1_rests_50 : decode cX1_rests 50 = .ok (.iload 6, 2) := dk_21 6 (dk_at dksX1_rests_2 2 rfl rfl)
theorem dX1_rests_52 : decode cX1_rests 52 = .ok (.iconst 4, 1) := dk_7 (dk_at dksX1_rests_2 4 rfl rfl)
theorem dX1_rests_53 : decode cX1_rests 53 = .ok (.if_icmp .ge 87, 3) := dk_162 0 87 (dk_at dksX1_rests_2 5 rfl rfl)
theorem dX1_rests_56 : decode cX1_rests 56 = .ok (.iload 6, 2) := dk_21 6 (dk_at dksX1_rests_2 8 rfl rfl)
theorem dX1_rests_58 : decode cX1_rests 58 = .ok (.iconst 2, 1) := dk_5 (dk_at dksX1_rests_2 10 rfl rfl)
theorem dX1_rests_59 : decode cX1_rests 59 = .ok (.idiv, 1) := dk_108 (dk_at dksX1_rests_2 11 rfl rfl)
theorem dX1_rests_60 : decode cX1_rests 60 = .ok (.istore 7, 2) := dk_54 7 (dk_at dksX1_rests_2 12 rfl rfl)
theorem dX1_rests_62 : decode cX1_rests 62 = .ok (.iload 6, 2) := dk_21 6 (dk_at dksX1_rests_2 14 rfl rfl)
theorem dX1_rests_64 : decode cX1_rests 64 = .ok (.iconst 2, 1) := dk_5 (dk_at dksX1_rests_2 16 rfl rfl)
theorem dX1_rests_65 : decode cX1_rests 65 = .ok (.irem, 1) := dk_112 (dk_at dksX1_rests_2 17 rfl rfl)
theorem dX1_rests_66 : decode cX1_rests 66 = .ok (.istore 8, 2) := dk_54 8 (dk_at dksX1_rests_2 18 rfl rfl)
theorem dX1_rests_68 : decode cX1_rests 68 = .ok (.iload_n 1, 1) := dk_27 (dk_at dksX1_rests_2 20 rfl rfl)
theorem dX1_rests_69 : decode cX1_rests 69 = .ok (.iload_n 2, 1) := dk_28 (dk_at dksX1_rests_2 21 rfl rfl)
theorem dX1_rests_70 : decode cX1_rests 70 = .ok (.iload_n 3, 1) := dk_29 (dk_at dksX1_rests_2 22 rfl rfl)
theorem dX1_rests_71 : decode cX1_rests 71 = .ok (.iconst 1, 1) := dk_4 (dk_at dksX1_rests_2 23 rfl rfl)
theorem dX1_rests_72 : decode cX1_rests 72 = .ok (.iload 7, 2) := dk_21 7 (dk_at dksX1_rests_3 0 rfl rfl)
theorem dX1_rests_74 : decode cX1_rests 74 = .ok (.isub, 1) := dk_100 (dk_at dksX1_rests_3 2 rfl rfl)
theorem dX1_rests_75 : decode cX1_rests 75 = .ok (.iload 8, 2) := dk_21 8 (dk_at dksX1_rests_3 3 rfl rfl)
theorem dX1_rests_77 : decode cX1_rests 77 = .ok (.invokestatic 309, 3) := dk_184 1 53 (dk_at dksX1_rests_3 5 rfl rfl)
theorem dX1_rests_80 : decode cX1_rests 80 = .ok (.iload_n 1, 1) := dk_27 (dk_at dksX1_rests_3 8 rfl rfl)
theorem dX1_rests_81 : decode cX1_rests 81 = .ok (.iload_n 2, 1) := dk_28 (dk_at dksX1_rests_3 9 rfl rfl)
theorem dX1_rests_82 : decode cX1_rests 82 = .ok (.iload_n 3, 1) := dk_29 (dk_at dksX1_rests_3 10 rfl rfl)
theorem dX1_rests_83 : decode cX1_rests 83 = .ok (.iload 7, 2) := dk_21 7 (dk_at dksX1_rests_3 11 rfl rfl)
theorem dX1_rests_85 : decode cX1_rests 85 = .ok (.iload 8, 2) := dk_21 8 (dk_at dksX1_rests_3 13 rfl rfl)
theorem dX1_rests_87 : decode cX1_rests 87 = .ok (.invokestatic 309, 3) := dk_184 1 53 (dk_at dksX1_rests_3 15 rfl rfl)
theorem dX1_rests_90 : decode cX1_rests 90 = .ok (.if_icmp .gt 44, 3) := dk_163 0 44 (dk_at dksX1_rests_3 18 rfl rfl)
theorem dX1_rests_93 : decode cX1_rests 93 = .ok (.iload_n 1, 1) := dk_27 (dk_at dksX1_rests_3 21 rfl rfl)
theorem dX1_rests_94 : decode cX1_rests 94 = .ok (.iload_n 2, 1) := dk_28 (dk_at dksX1_rests_3 22 rfl rfl)
theorem dX1_rests_95 : decode cX1_rests 95 = .ok (.iload_n 3, 1) := dk_29 (dk_at dksX1_rests_3 23 rfl rfl)
theorem dX1_rests_96 : decode cX1_rests 96 = .ok (.iconst 1, 1) := dk_4 (dk_at dksX1_rests_4 0 rfl rfl)
theorem dX1_rests_97 : decode cX1_rests 97 = .ok (.iload 8, 2) := dk_21 8 (dk_at dksX1_rests_4 1 rfl rfl)
theorem dX1_rests_99 : decode cX1_rests 99 = .ok (.isub, 1) := dk_100 (dk_at dksX1_rests_4 3 rfl rfl)
theorem dX1_rests_100 : decode cX1_rests 100 = .ok (.iload 7, 2) := dk_21 7 (dk_at dksX1_rests_4 4 rfl rfl)
theorem dX1_rests_102 : decode cX1_rests 102 = .ok (.invokestatic 309, 3) := dk_184 1 53 (dk_at dksX1_rests_4 6 rfl rfl)
theorem dX1_rests_105 : decode cX1_rests 105 = .ok (.iload_n 1, 1) := dk_27 (dk_at dksX1_rests_4 9 rfl rfl)
theorem dX1_rests_106 : decode cX1_rests 106 = .ok (.iload_n 2, 1) := dk_28 (dk_at dksX1_rests_4 10 rfl rfl)
theorem dX1_rests_107 : decode cX1_rests 107 = .ok (.iload_n 3, 1) := dk_29 (dk_at dksX1_rests_4 11 rfl rfl)
theorem dX1_rests_108 : decode cX1_rests 108 = .ok (.iload 8, 2) := dk_21 8 (dk_at dksX1_rests_4 12 rfl rfl)
theorem dX1_rests_110 : decode cX1_rests 110 = .ok (.iload 7, 2) := dk_21 7 (dk_at dksX1_rests_4 14 rfl rfl)
theorem dX1_rests_112 : decode cX1_rests 112 = .ok (.invokestatic 309, 3) := dk_184 1 53 (dk_at dksX1_rests_4 16 rfl rfl)
theorem dX1_rests_115 : decode cX1_rests 115 = .ok (.if_icmp .le 6, 3) := dk_164 0 6 (dk_at dksX1_rests_4 19 rfl rfl)
theorem dX1_rests_118 : decode cX1_rests 118 = .ok (.goto 16, 3) := dk_167 0 16 (dk_at dksX1_rests_5 0 rfl rfl)
theorem dX1_rests_121 : decode cX1_rests 121 = .ok (.iload 5, 2) := dk_21 5 (dk_at dksX1_rests_5 3 rfl rfl)
theorem dX1_rests_123 : decode cX1_rests 123 = .ok (.iload 4, 2) := dk_21 4 (dk_at dksX1_rests_5 5 rfl rfl)
theorem dX1_rests_125 : decode cX1_rests 125 = .ok (.if_icmp .ne 6, 3) := dk_160 0 6 (dk_at dksX1_rests_5 7 rfl rfl)
theorem dX1_rests_128 : decode cX1_rests 128 = .ok (.iload 6, 2) := dk_21 6 (dk_at dksX1_rests_5 10 rfl rfl)
theorem dX1_rests_130 : decode cX1_rests 130 = .ok (.ireturn, 1) := dk_172 (dk_at dksX1_rests_5 12 rfl rfl)
theorem dX1_rests_131 : decode cX1_rests 131 = .ok (.iinc 5 1, 3) := dk_132 5 1 (dk_at dksX1_rests_5 13 rfl rfl)
theorem dX1_rests_134 : decode cX1_rests 134 = .ok (.iinc 6 1, 3) := dk_132 6 1 (dk_at dksX1_rests_5 16 rfl rfl)
theorem dX1_rests_137 : decode cX1_rests 137 = .ok (.goto (-87), 3) := dk_167 255 169 (dk_at dksX1_rests_5 19 rfl rfl)
theorem dX1_rests_140 : decode cX1_rests 140 = .ok (.iload 4, 2) := dk_21 4 (dk_at dksX1_rests_5 22 rfl rfl)
theorem dX1_rests_142 : decode cX1_rests 142 = .ok (.iconst (-1), 1) := dk_2 (dk_at dksX1_rests_6 0 rfl rfl)
theorem dX1_rests_143 : decode cX1_rests 143 = .ok (.if_icmp .ne 7, 3) := dk_160 0 7 (dk_at dksX1_rests_6 1 rfl rfl)
theorem dX1_rests_146 : decode cX1_rests 146 = .ok (.iconst 1, 1) := dk_4 (dk_at dksX1_rests_6 4 rfl rfl)
theorem dX1_rests_147 : decode cX1_rests 147 = .ok (.goto 4, 3) := dk_167 0 4 (dk_at dksX1_rests_6 5 rfl rfl)
theorem dX1_rests_150 : decode cX1_rests 150 = .ok (.iconst 0, 1) := dk_3 (dk_at dksX1_rests_6 8 rfl rfl)
theorem dX1_rests_151 : decode cX1_rests 151 = .ok (.invokestatic 305, 3) := dk_184 1 49 (dk_at dksX1_rests_6 9 rfl rfl)
theorem dX1_rests_154 : decode cX1_rests 154 = .ok (.iload 5, 2) := dk_21 5 (dk_at dksX1_rests_6 12 rfl rfl)
theorem dX1_rests_156 : decode cX1_rests 156 = .ok (.ireturn, 1) := dk_172 (dk_at dksX1_rests_6 14 rfl rfl)
abbrev cX1_need : ByteArray := prog_1_method_3_code
def yX1_need : MethodName := ⟨RX1, "need", "(Z)V"⟩
def dkwX1_need_0 : List UInt8 := [26, 154, 0, 11, 187, 0, 1, 89, 183, 0, 3, 191, 177]
abbrev dktX1_need_0 : List UInt8 := dkwX1_need_0 ++ []
theorem dksX1_need_0 : cX1_need.data.toList.drop 0 = dktX1_need_0 := by decide +kernel
theorem dX1_need_0 : decode cX1_need 0 = .ok (.iload_n 0, 1) := dk_26 (dk_at dksX1_need_0 0 rfl rfl)
theorem dX1_need_1 : decode cX1_need 1 = .ok (.ifCond .ne 11, 3) := dk_154 0 11 (dk_at dksX1_need_0 1 rfl rfl)
theorem dX1_need_4 : decode cX1_need 4 = .ok (.new 1, 3) := dk_187 0 1 (dk_at dksX1_need_0 4 rfl rfl)
theorem dX1_need_7 : decode cX1_need 7 = .ok (.dup, 1) := dk_89 (dk_at dksX1_need_0 7 rfl rfl)
theorem dX1_need_8 : decode cX1_need 8 = .ok (.invokespecial 3, 3) := dk_183 0 3 (dk_at dksX1_need_0 8 rfl rfl)
theorem dX1_need_11 : decode cX1_need 11 = .ok (.athrow, 1) := dk_191 (dk_at dksX1_need_0 11 rfl rfl)
theorem dX1_need_12 : decode cX1_need 12 = .ok (.return_, 1) := dk_177 (dk_at dksX1_need_0 12 rfl rfl)
abbrev cX1_gets : ByteArray := prog_1_method_66_code
def yX1_gets : MethodName := ⟨RX1, "gets", "(IIIII)I"⟩
def dkwX1_gets_1 : List UInt8 := [160, 0, 7, 28, 167, 0, 4, 27, 172]
abbrev dktX1_gets_1 : List UInt8 := dkwX1_gets_1 ++ []
def dkwX1_gets_0 : List UInt8 := [29, 4, 160, 0, 17, 21, 4, 4, 160, 0, 7, 26, 167, 0, 18, 3, 167, 0, 14, 21, 4, 4]
abbrev dktX1_gets_0 : List UInt8 := dkwX1_gets_0 ++ dktX1_gets_1
theorem dksX1_gets_0 : cX1_gets.data.toList.drop 0 = dktX1_gets_0 := by decide +kernel
theorem dksX1_gets_1 : cX1_gets.data.toList.drop 22 = dktX1_gets_1 := dk_seg dksX1_gets_0 22 rfl rfl
theorem dX1_gets_0 : decode cX1_gets 0 = .ok (.iload_n 3, 1) := dk_29 (dk_at dksX1_gets_0 0 rfl rfl)
theorem dX1_gets_1 : decode cX1_gets 1 = .ok (.iconst 1, 1) := dk_4 (dk_at dksX1_gets_0 1 rfl rfl)
theorem dX1_gets_2 : decode cX1_gets 2 = .ok (.if_icmp .ne 17, 3) := dk_160 0 17 (dk_at dksX1_gets_0 2 rfl rfl)
theorem dX1_gets_5 : decode cX1_gets 5 = .ok (.iload 4, 2) := dk_21 4 (dk_at dksX1_gets_0 5 rfl rfl)
theorem dX1_gets_7 : decode cX1_gets 7 = .ok (.iconst 1, 1) := dk_4 (dk_at dksX1_gets_0 7 rfl rfl)
theorem dX1_gets_8 : decode cX1_gets 8 = .ok (.if_icmp .ne 7, 3) := dk_160 0 7 (dk_at dksX1_gets_0 8 rfl rfl)
theorem dX1_gets_11 : decode cX1_gets 11 = .ok (.iload_n 0, 1) := dk_26 (dk_at dksX1_gets_0 11 rfl rfl)
theorem dX1_gets_12 : decode cX1_gets 12 = .ok (.goto 18, 3) := dk_167 0 18 (dk_at dksX1_gets_0 12 rfl rfl)
theorem dX1_gets_15 : decode cX1_gets 15 = .ok (.iconst 0, 1) := dk_3 (dk_at dksX1_gets_0 15 rfl rfl)
theorem dX1_gets_16 : decode cX1_gets 16 = .ok (.goto 14, 3) := dk_167 0 14 (dk_at dksX1_gets_0 16 rfl rfl)
theorem dX1_gets_19 : decode cX1_gets 19 = .ok (.iload 4, 2) := dk_21 4 (dk_at dksX1_gets_0 19 rfl rfl)
theorem dX1_gets_21 : decode cX1_gets 21 = .ok (.iconst 1, 1) := dk_4 (dk_at dksX1_gets_0 21 rfl rfl)
theorem dX1_gets_22 : decode cX1_gets 22 = .ok (.if_icmp .ne 7, 3) := dk_160 0 7 (dk_at dksX1_gets_1 0 rfl rfl)
theorem dX1_gets_25 : decode cX1_gets 25 = .ok (.iload_n 2, 1) := dk_28 (dk_at dksX1_gets_1 3 rfl rfl)
theorem dX1_gets_26 : decode cX1_gets 26 = .ok (.goto 4, 3) := dk_167 0 4 (dk_at dksX1_gets_1 4 rfl rfl)
theorem dX1_gets_29 : decode cX1_gets 29 = .ok (.iload_n 1, 1) := dk_27 (dk_at dksX1_gets_1 7 rfl rfl)
theorem dX1_gets_30 : decode cX1_gets 30 = .ok (.ireturn, 1) := dk_172 (dk_at dksX1_gets_1 8 rfl rfl)
theorem q121 : (Jvm.Cond.initialized "GlassStreet") ∈ lw_all := lw_g (lw_at lw_m1 1 rfl) rfl
theorem q165 : (Jvm.Cond.instantiable "GlassStreet" (15 : Nat)) ∈ lw_all := lw_g (lw_at lw_m1 45 rfl) rfl
theorem q167 : (Jvm.Cond.instanceMethod ({ cls := "GlassStreet", name := "<init>", desc := "()V" } : Jvm.MethodName)) ∈ lw_all := lw_g (lw_at lw_m1 47 rfl) rfl
theorem q168 : (Jvm.Cond.code ({ cls := "GlassStreet", name := "<init>", desc := "()V" } : Jvm.MethodName) prog_1_method_6_code (1 : Nat) (Option.none : Option Jvm.ClassFile.FieldType)) ∈ lw_all := lw_g (lw_at lw_m1 48 rfl) rfl
theorem q169 : (Jvm.Cond.methodLink "GlassStreet" (13 : Nat) ({ cls := "java/lang/Object", name := "<init>", desc := "()V" } : Jvm.MethodName)) ∈ lw_all := lw_g (lw_at lw_m1 49 rfl) rfl
theorem q172 : (Jvm.Cond.classLink "GlassStreet" (20 : Nat) "GlassStreet$Reader") ∈ lw_all := lw_g (lw_at lw_m1 52 rfl) rfl
theorem q174 : (Jvm.Cond.methodLinkNest "GlassStreet" (22 : Nat) ({ cls := "GlassStreet$Reader", name := "<init>", desc := "()V" } : Jvm.MethodName) "GlassStreet") ∈ lw_tbl := lw_at lw_m1 54 rfl
theorem q204 : (Jvm.Cond.classLink "GlassStreet" (27 : Nat) "GlassStreet$Houses") ∈ lw_all := lw_g (lw_at lw_m1 84 rfl) rfl
theorem q206 : (Jvm.Cond.methodLinkNest "GlassStreet" (29 : Nat) ({ cls := "GlassStreet$Houses", name := "<init>", desc := "()V" } : Jvm.MethodName) "GlassStreet") ∈ lw_tbl := lw_at lw_m1 86 rfl
theorem q239 : (Jvm.Cond.fieldLinkNest "GlassStreet" (102 : Nat) "GlassStreet$Houses" "panes" "Ljava/util/ArrayList;" "GlassStreet") ∈ lw_tbl := lw_at lw_m1 119 rfl
theorem q242 : (Jvm.Cond.fieldLinkNest "GlassStreet" (115 : Nat) "GlassStreet$Houses" "people" "Ljava/util/ArrayList;" "GlassStreet") ∈ lw_tbl := lw_at lw_m1 122 rfl
theorem q245 : (Jvm.Cond.fieldLinkNest "GlassStreet" (118 : Nat) "GlassStreet$Houses" "deeds" "Ljava/util/ArrayList;" "GlassStreet") ∈ lw_tbl := lw_at lw_m1 125 rfl
theorem q251 : (Jvm.Cond.fieldLinkNest "GlassStreet" (184 : Nat) "GlassStreet$Houses" "harm" "[I" "GlassStreet") ∈ lw_tbl := lw_at lw_m1 131 rfl
theorem q258 : (Jvm.Cond.fieldLinkNest "GlassStreet" (177 : Nat) "GlassStreet$Houses" "fades" "LGlassStreet$Expression;" "GlassStreet") ∈ lw_tbl := lw_at lw_m1 138 rfl
theorem q277 : (Jvm.Cond.classLink "GlassStreet" (34 : Nat) "java/util/ArrayList") ∈ lw_all := lw_g (lw_at lw_m1 157 rfl) rfl
theorem q278 : (Jvm.Cond.methodLink "GlassStreet" (36 : Nat) ({ cls := "java/util/ArrayList", name := "<init>", desc := "(I)V" } : Jvm.MethodName)) ∈ lw_all := lw_g (lw_at lw_m1 158 rfl) rfl
theorem q279 : (Jvm.Cond.classLink "GlassStreet" (43 : Nat) "GlassStreet$State") ∈ lw_all := lw_g (lw_at lw_m1 159 rfl) rfl
theorem q281 : (Jvm.Cond.methodLink "GlassStreet" (45 : Nat) ({ cls := "GlassStreet$State", name := "<init>", desc := "()V" } : Jvm.MethodName)) ∈ lw_all := lw_g (lw_at lw_m1 161 rfl) rfl
theorem q293 : (Jvm.Cond.fieldLinkNest "GlassStreet" (225 : Nat) "GlassStreet$Marks" "who" "[I" "GlassStreet") ∈ lw_tbl := lw_at lw_m1 173 rfl
theorem q295 : (Jvm.Cond.fieldLinkNest "GlassStreet" (187 : Nat) "GlassStreet$Marks" "deed" "[I" "GlassStreet") ∈ lw_tbl := lw_at lw_m1 175 rfl
theorem q297 : (Jvm.Cond.fieldLinkNest "GlassStreet" (228 : Nat) "GlassStreet$Marks" "cell" "[I" "GlassStreet") ∈ lw_tbl := lw_at lw_m1 177 rfl
theorem q299 : (Jvm.Cond.fieldLinkNest "GlassStreet" (181 : Nat) "GlassStreet$Marks" "age" "[I" "GlassStreet") ∈ lw_tbl := lw_at lw_m1 179 rfl
theorem q303 : (Jvm.Cond.fieldLinkNest "GlassStreet" (174 : Nat) "GlassStreet$Marks" "many" "I" "GlassStreet") ∈ lw_tbl := lw_at lw_m1 183 rfl
theorem q317 : (Jvm.Cond.fieldLinkNest "GlassStreet" (155 : Nat) "GlassStreet$State" "at" "[I" "GlassStreet") ∈ lw_tbl := lw_at lw_m1 197 rfl
theorem q320 : (Jvm.Cond.fieldLinkNest "GlassStreet" (161 : Nat) "GlassStreet$State" "marks" "[LGlassStreet$Marks;" "GlassStreet") ∈ lw_tbl := lw_at lw_m1 200 rfl
theorem q322 : (Jvm.Cond.fieldLinkNest "GlassStreet" (142 : Nat) "GlassStreet$State" "hour" "I" "GlassStreet") ∈ lw_tbl := lw_at lw_m1 202 rfl
theorem q325 : (Jvm.Cond.fieldLinkNest "GlassStreet" (135 : Nat) "GlassStreet$State" "drawn" "I" "GlassStreet") ∈ lw_tbl := lw_at lw_m1 205 rfl
theorem q328 : (Jvm.Cond.fieldLinkNest "GlassStreet" (212 : Nat) "GlassStreet$State" "gone" "I" "GlassStreet") ∈ lw_tbl := lw_at lw_m1 208 rfl
theorem q341 : (Jvm.Cond.classLink "GlassStreet" (64 : Nat) "GlassStreet$Notch") ∈ lw_all := lw_g (lw_at lw_m1 221 rfl) rfl
theorem q343 : (Jvm.Cond.methodLink "GlassStreet" (70 : Nat) ({ cls := "GlassStreet", name := "forgets", desc := "()V" } : Jvm.MethodName)) ∈ lw_all := lw_g (lw_at lw_m1 223 rfl) rfl
theorem q344 : (Jvm.Cond.privateMethod ({ cls := "GlassStreet", name := "forgets", desc := "()V" } : Jvm.MethodName)) ∈ lw_tbl := lw_at lw_m1 224 rfl
theorem q345 : (Jvm.Cond.instanceMethod ({ cls := "GlassStreet", name := "forgets", desc := "()V" } : Jvm.MethodName)) ∈ lw_all := lw_g (lw_at lw_m1 225 rfl) rfl
theorem q346 : (Jvm.Cond.code ({ cls := "GlassStreet", name := "forgets", desc := "()V" } : Jvm.MethodName) prog_1_method_49_code (2 : Nat) (Option.none : Option Jvm.ClassFile.FieldType)) ∈ lw_all := lw_g (lw_at lw_m1 226 rfl) rfl
theorem q347 : (Jvm.Cond.fieldLink "GlassStreet" (16 : Nat) "GlassStreet" "tape" "[B") ∈ lw_all := lw_g (lw_at lw_m1 227 rfl) rfl
theorem q348 : (Jvm.Cond.fieldLink "GlassStreet" (23 : Nat) "GlassStreet" "reader" "LGlassStreet$Reader;") ∈ lw_all := lw_g (lw_at lw_m1 228 rfl) rfl
theorem q349 : (Jvm.Cond.fieldLink "GlassStreet" (30 : Nat) "GlassStreet" "houses" "LGlassStreet$Houses;") ∈ lw_all := lw_g (lw_at lw_m1 229 rfl) rfl
theorem q350 : (Jvm.Cond.fieldLink "GlassStreet" (39 : Nat) "GlassStreet" "lines" "Ljava/util/ArrayList;") ∈ lw_all := lw_g (lw_at lw_m1 230 rfl) rfl
theorem q351 : (Jvm.Cond.fieldLink "GlassStreet" (46 : Nat) "GlassStreet" "state" "LGlassStreet$State;") ∈ lw_all := lw_g (lw_at lw_m1 231 rfl) rfl
theorem q352 : (Jvm.Cond.fieldLink "GlassStreet" (50 : Nat) "GlassStreet" "trial" "LGlassStreet$State;") ∈ lw_all := lw_g (lw_at lw_m1 232 rfl) rfl
theorem q353 : (Jvm.Cond.fieldLink "GlassStreet" (53 : Nat) "GlassStreet" "facts" "[I") ∈ lw_all := lw_g (lw_at lw_m1 233 rfl) rfl
theorem q354 : (Jvm.Cond.fieldLink "GlassStreet" (73 : Nat) "GlassStreet" "taped" "I") ∈ lw_all := lw_g (lw_at lw_m1 234 rfl) rfl
theorem q355 : (Jvm.Cond.fieldLink "GlassStreet" (57 : Nat) "GlassStreet" "undone" "[LGlassStreet$State;") ∈ lw_all := lw_g (lw_at lw_m1 235 rfl) rfl
theorem q356 : (Jvm.Cond.fieldLink "GlassStreet" (95 : Nat) "GlassStreet" "undos" "I") ∈ lw_all := lw_g (lw_at lw_m1 236 rfl) rfl
theorem q357 : (Jvm.Cond.fieldLink "GlassStreet" (61 : Nat) "GlassStreet" "said" "[I") ∈ lw_all := lw_g (lw_at lw_m1 237 rfl) rfl
theorem q358 : (Jvm.Cond.fieldLink "GlassStreet" (313 : Nat) "GlassStreet" "g" "J") ∈ lw_all := lw_g (lw_at lw_m1 238 rfl) rfl
theorem q359 : (Jvm.Cond.fieldLink "GlassStreet" (331 : Nat) "GlassStreet" "did" "I") ∈ lw_all := lw_g (lw_at lw_m1 239 rfl) rfl
theorem q360 : (Jvm.Cond.fieldLink "GlassStreet" (334 : Nat) "GlassStreet" "unseen" "I") ∈ lw_all := lw_g (lw_at lw_m2 0 rfl) rfl
theorem q361 : (Jvm.Cond.fieldLink "GlassStreet" (66 : Nat) "GlassStreet" "notches" "[LGlassStreet$Notch;") ∈ lw_all := lw_g (lw_at lw_m2 1 rfl) rfl
theorem q362 : (Jvm.Cond.laysFinal "GlassStreet" "GlassStreet" "tape" "[B") ∈ lw_all := lw_g (lw_at lw_m2 2 rfl) rfl
theorem q363 : (Jvm.Cond.soleField "GlassStreet" "tape") ∈ lw_all := lw_g (lw_at lw_m2 3 rfl) rfl
theorem q364 : (Jvm.Cond.laysFinal "GlassStreet" "GlassStreet" "reader" "LGlassStreet$Reader;") ∈ lw_all := lw_g (lw_at lw_m2 4 rfl) rfl
theorem q365 : (Jvm.Cond.soleField "GlassStreet" "reader") ∈ lw_all := lw_g (lw_at lw_m2 5 rfl) rfl
theorem q366 : (Jvm.Cond.lays "GlassStreet" "GlassStreet" "houses" "LGlassStreet$Houses;") ∈ lw_all := lw_g (lw_at lw_m2 6 rfl) rfl
theorem q367 : (Jvm.Cond.soleField "GlassStreet" "houses") ∈ lw_all := lw_g (lw_at lw_m2 7 rfl) rfl
theorem q368 : (Jvm.Cond.lays "GlassStreet" "GlassStreet" "lines" "Ljava/util/ArrayList;") ∈ lw_all := lw_g (lw_at lw_m2 8 rfl) rfl
theorem q369 : (Jvm.Cond.soleField "GlassStreet" "lines") ∈ lw_all := lw_g (lw_at lw_m2 9 rfl) rfl
theorem q370 : (Jvm.Cond.laysFinal "GlassStreet" "GlassStreet" "state" "LGlassStreet$State;") ∈ lw_all := lw_g (lw_at lw_m2 10 rfl) rfl
theorem q371 : (Jvm.Cond.soleField "GlassStreet" "state") ∈ lw_all := lw_g (lw_at lw_m2 11 rfl) rfl
theorem q372 : (Jvm.Cond.laysFinal "GlassStreet" "GlassStreet" "trial" "LGlassStreet$State;") ∈ lw_all := lw_g (lw_at lw_m2 12 rfl) rfl
theorem q373 : (Jvm.Cond.soleField "GlassStreet" "trial") ∈ lw_all := lw_g (lw_at lw_m2 13 rfl) rfl
theorem q374 : (Jvm.Cond.laysFinal "GlassStreet" "GlassStreet" "facts" "[I") ∈ lw_all := lw_g (lw_at lw_m2 14 rfl) rfl
theorem q375 : (Jvm.Cond.soleField "GlassStreet" "facts") ∈ lw_all := lw_g (lw_at lw_m2 15 rfl) rfl
theorem q376 : (Jvm.Cond.lays "GlassStreet" "GlassStreet" "taped" "I") ∈ lw_all := lw_g (lw_at lw_m2 16 rfl) rfl
theorem q377 : (Jvm.Cond.soleField "GlassStreet" "taped") ∈ lw_all := lw_g (lw_at lw_m2 17 rfl) rfl
theorem q378 : (Jvm.Cond.laysFinal "GlassStreet" "GlassStreet" "undone" "[LGlassStreet$State;") ∈ lw_all := lw_g (lw_at lw_m2 18 rfl) rfl
theorem q379 : (Jvm.Cond.soleField "GlassStreet" "undone") ∈ lw_all := lw_g (lw_at lw_m2 19 rfl) rfl
theorem q380 : (Jvm.Cond.lays "GlassStreet" "GlassStreet" "undos" "I") ∈ lw_all := lw_g (lw_at lw_m2 20 rfl) rfl
theorem q381 : (Jvm.Cond.soleField "GlassStreet" "undos") ∈ lw_all := lw_g (lw_at lw_m2 21 rfl) rfl
theorem q382 : (Jvm.Cond.laysFinal "GlassStreet" "GlassStreet" "said" "[I") ∈ lw_all := lw_g (lw_at lw_m2 22 rfl) rfl
theorem q383 : (Jvm.Cond.soleField "GlassStreet" "said") ∈ lw_all := lw_g (lw_at lw_m2 23 rfl) rfl
theorem q384 : (Jvm.Cond.lays "GlassStreet" "GlassStreet" "g" "J") ∈ lw_all := lw_g (lw_at lw_m2 24 rfl) rfl
theorem q385 : (Jvm.Cond.soleField "GlassStreet" "g") ∈ lw_all := lw_g (lw_at lw_m2 25 rfl) rfl
theorem q386 : (Jvm.Cond.lays "GlassStreet" "GlassStreet" "did" "I") ∈ lw_all := lw_g (lw_at lw_m2 26 rfl) rfl
theorem q387 : (Jvm.Cond.soleField "GlassStreet" "did") ∈ lw_all := lw_g (lw_at lw_m2 27 rfl) rfl
theorem q388 : (Jvm.Cond.lays "GlassStreet" "GlassStreet" "unseen" "I") ∈ lw_all := lw_g (lw_at lw_m2 28 rfl) rfl
theorem q389 : (Jvm.Cond.soleField "GlassStreet" "unseen") ∈ lw_all := lw_g (lw_at lw_m2 29 rfl) rfl
theorem q390 : (Jvm.Cond.laysFinal "GlassStreet" "GlassStreet" "notches" "[LGlassStreet$Notch;") ∈ lw_all := lw_g (lw_at lw_m2 30 rfl) rfl
theorem q391 : (Jvm.Cond.soleField "GlassStreet" "notches") ∈ lw_all := lw_g (lw_at lw_m2 31 rfl) rfl
theorem q392 : (Jvm.Cond.superclass "GlassStreet" "java/lang/Object") ∈ lw_all := lw_g (lw_at lw_m2 32 rfl) rfl
theorem q394 : (Jvm.Cond.instanceMethod ({ cls := "GlassStreet", name := "feed", desc := "(JJJ)I" } : Jvm.MethodName)) ∈ lw_all := lw_g (lw_at lw_m2 34 rfl) rfl
theorem q395 : (Jvm.Cond.selects "GlassStreet" ({ cls := "GlassStreet", name := "feed", desc := "(JJJ)I" } : Jvm.MethodName) ({ cls := "GlassStreet", name := "feed", desc := "(JJJ)I" } : Jvm.MethodName)) ∈ lw_all := lw_g (lw_at lw_m2 35 rfl) rfl
theorem q396 : (Jvm.Cond.code ({ cls := "GlassStreet", name := "feed", desc := "(JJJ)I" } : Jvm.MethodName) prog_1_method_7_code (9 : Nat) (Option.some Jvm.ClassFile.FieldType.int)) ∈ lw_all := lw_g (lw_at lw_m2 36 rfl) rfl
theorem q398 : (Jvm.Cond.instanceMethod ({ cls := "GlassStreet", name := "street", desc := "()I" } : Jvm.MethodName)) ∈ lw_all := lw_g (lw_at lw_m2 38 rfl) rfl
theorem q399 : (Jvm.Cond.selects "GlassStreet" ({ cls := "GlassStreet", name := "street", desc := "()I" } : Jvm.MethodName) ({ cls := "GlassStreet", name := "street", desc := "()I" } : Jvm.MethodName)) ∈ lw_all := lw_g (lw_at lw_m2 39 rfl) rfl
theorem q400 : (Jvm.Cond.codeWith ({ cls := "GlassStreet", name := "street", desc := "()I" } : Jvm.MethodName) prog_1_method_9_code (2 : Nat) (Option.some Jvm.ClassFile.FieldType.int) [((4 : Nat), (15 : Nat), (18 : Nat), (87 : Nat))]) ∈ lw_all := lw_g (lw_at lw_m2 40 rfl) rfl
theorem q401 : (Jvm.Cond.classLink "GlassStreet" (87 : Nat) "GlassStreet$Wrong") ∈ lw_all := lw_g (lw_at lw_m2 41 rfl) rfl
theorem q402 : (Jvm.Cond.methodLink "GlassStreet" (81 : Nat) ({ cls := "GlassStreet", name := "reads", desc := "()V" } : Jvm.MethodName)) ∈ lw_all := lw_g (lw_at lw_m2 42 rfl) rfl
theorem q403 : (Jvm.Cond.privateMethod ({ cls := "GlassStreet", name := "reads", desc := "()V" } : Jvm.MethodName)) ∈ lw_tbl := lw_at lw_m2 43 rfl
theorem q404 : (Jvm.Cond.instanceMethod ({ cls := "GlassStreet", name := "reads", desc := "()V" } : Jvm.MethodName)) ∈ lw_all := lw_g (lw_at lw_m2 44 rfl) rfl
theorem q405 : (Jvm.Cond.code ({ cls := "GlassStreet", name := "reads", desc := "()V" } : Jvm.MethodName) prog_1_method_8_code (1 : Nat) (Option.none : Option Jvm.ClassFile.FieldType)) ∈ lw_all := lw_g (lw_at lw_m2 45 rfl) rfl
theorem q406 : (Jvm.Cond.methodLink "GlassStreet" (77 : Nat) ({ cls := "GlassStreet$Reader", name := "begin", desc := "([BI)V" } : Jvm.MethodName)) ∈ lw_all := lw_g (lw_at lw_m2 46 rfl) rfl
theorem q511 : (Jvm.Cond.methodLink "GlassStreet" (84 : Nat) ({ cls := "GlassStreet$Reader", name := "houses", desc := "()LGlassStreet$Houses;" } : Jvm.MethodName)) ∈ lw_all := lw_g (lw_at lw_m2 151 rfl) rfl
theorem q601 : (Jvm.Cond.fieldLinkNest "GlassStreet" (89 : Nat) "GlassStreet$Wrong" "fault" "I" "GlassStreet") ∈ lw_tbl := lw_at lw_m3 1 rfl
theorem q855 : (Jvm.Cond.fieldLink "GlassStreet" (165 : Nat) "GlassStreet$Pane" "keeps" "I") ∈ lw_all := lw_g (lw_at lw_m4 15 rfl) rfl
theorem q919 : (Jvm.Cond.static ({ cls := "GlassStreet", name := "in", desc := "(III)Z" } : Jvm.MethodName)) ∈ lw_all := lw_g (lw_at lw_m4 79 rfl) rfl
theorem q920 : (Jvm.Cond.code ({ cls := "GlassStreet", name := "in", desc := "(III)Z" } : Jvm.MethodName) prog_1_method_1_code (3 : Nat) (Option.some Jvm.ClassFile.FieldType.boolean)) ∈ lw_all := lw_g (lw_at lw_m4 80 rfl) rfl
theorem q922 : (Jvm.Cond.static ({ cls := "GlassStreet", name := "isIn", desc := "(II)Z" } : Jvm.MethodName)) ∈ lw_all := lw_g (lw_at lw_m4 82 rfl) rfl
theorem q923 : (Jvm.Cond.code ({ cls := "GlassStreet", name := "isIn", desc := "(II)Z" } : Jvm.MethodName) prog_1_method_2_code (2 : Nat) (Option.some Jvm.ClassFile.FieldType.boolean)) ∈ lw_all := lw_g (lw_at lw_m4 83 rfl) rfl
theorem q953 : (Jvm.Cond.selects "GlassStreet" ({ cls := "java/lang/Object", name := "getClass", desc := "()Ljava/lang/Class;" } : Jvm.MethodName) ({ cls := "java/lang/Object", name := "getClass", desc := "()Ljava/lang/Class;" } : Jvm.MethodName)) ∈ lw_all := lw_g (lw_at lw_m4 113 rfl) rfl
theorem q1063 : (Jvm.Cond.methodLink "GlassStreet" (92 : Nat) ({ cls := "GlassStreet$State", name := "begin", desc := "(LGlassStreet$Houses;)V" } : Jvm.MethodName)) ∈ lw_all := lw_g (lw_at lw_m4 223 rfl) rfl
theorem q1068 : (Jvm.Cond.static ({ cls := "GlassStreet", name := "copies", desc := "([I[I)V" } : Jvm.MethodName)) ∈ lw_all := lw_g (lw_at lw_m4 228 rfl) rfl
theorem q1069 : (Jvm.Cond.code ({ cls := "GlassStreet", name := "copies", desc := "([I[I)V" } : Jvm.MethodName) prog_1_method_4_code (3 : Nat) (Option.none : Option Jvm.ClassFile.FieldType)) ∈ lw_all := lw_g (lw_at lw_m4 229 rfl) rfl
theorem q1071 : (Jvm.Cond.instanceMethod ({ cls := "GlassStreet", name := "day", desc := "()I" } : Jvm.MethodName)) ∈ lw_all := lw_g (lw_at lw_m4 231 rfl) rfl
theorem q1072 : (Jvm.Cond.selects "GlassStreet" ({ cls := "GlassStreet", name := "day", desc := "()I" } : Jvm.MethodName) ({ cls := "GlassStreet", name := "day", desc := "()I" } : Jvm.MethodName)) ∈ lw_all := lw_g (lw_at lw_m4 232 rfl) rfl
theorem q1073 : (Jvm.Cond.codeWith ({ cls := "GlassStreet", name := "day", desc := "()I" } : Jvm.MethodName) prog_1_method_10_code (2 : Nat) (Option.some Jvm.ClassFile.FieldType.int) [((4 : Nat), (19 : Nat), (22 : Nat), (87 : Nat))]) ∈ lw_all := lw_g (lw_at lw_m4 233 rfl) rfl
theorem q1074 : (Jvm.Cond.methodLink "GlassStreet" (98 : Nat) ({ cls := "GlassStreet$Reader", name := "day", desc := "(LGlassStreet$Houses;)Ljava/util/ArrayList;" } : Jvm.MethodName)) ∈ lw_all := lw_g (lw_at lw_m4 234 rfl) rfl
theorem q1119 : (Jvm.Cond.fieldLinkNest "GlassStreet" (263 : Nat) "GlassStreet$Did" "person" "I" "GlassStreet") ∈ lw_tbl := lw_at lw_m5 39 rfl
theorem q1150 : (Jvm.Cond.instanceMethod ({ cls := "GlassStreet", name := "pane", desc := "(II)I" } : Jvm.MethodName)) ∈ lw_all := lw_g (lw_at lw_m5 70 rfl) rfl
theorem q1151 : (Jvm.Cond.selects "GlassStreet" ({ cls := "GlassStreet", name := "pane", desc := "(II)I" } : Jvm.MethodName) ({ cls := "GlassStreet", name := "pane", desc := "(II)I" } : Jvm.MethodName)) ∈ lw_all := lw_g (lw_at lw_m5 71 rfl) rfl
theorem q1152 : (Jvm.Cond.code ({ cls := "GlassStreet", name := "pane", desc := "(II)I" } : Jvm.MethodName) prog_1_method_25_code (3 : Nat) (Option.some Jvm.ClassFile.FieldType.int)) ∈ lw_all := lw_g (lw_at lw_m5 72 rfl) rfl
theorem q1153 : (Jvm.Cond.methodLink "GlassStreet" (206 : Nat) ({ cls := "GlassStreet", name := "isPane", desc := "(I)Z" } : Jvm.MethodName)) ∈ lw_all := lw_g (lw_at lw_m5 73 rfl) rfl
theorem q1154 : (Jvm.Cond.privateMethod ({ cls := "GlassStreet", name := "isPane", desc := "(I)Z" } : Jvm.MethodName)) ∈ lw_tbl := lw_at lw_m5 74 rfl
theorem q1155 : (Jvm.Cond.instanceMethod ({ cls := "GlassStreet", name := "isPane", desc := "(I)Z" } : Jvm.MethodName)) ∈ lw_all := lw_g (lw_at lw_m5 75 rfl) rfl
theorem q1156 : (Jvm.Cond.code ({ cls := "GlassStreet", name := "isPane", desc := "(I)Z" } : Jvm.MethodName) prog_1_method_15_code (2 : Nat) (Option.some Jvm.ClassFile.FieldType.boolean)) ∈ lw_all := lw_g (lw_at lw_m5 76 rfl) rfl
theorem q1157 : (Jvm.Cond.methodLink "GlassStreet" (121 : Nat) ({ cls := "GlassStreet", name := "panes", desc := "()I" } : Jvm.MethodName)) ∈ lw_all := lw_g (lw_at lw_m5 77 rfl) rfl
theorem q1158 : (Jvm.Cond.privateMethod ({ cls := "GlassStreet", name := "panes", desc := "()I" } : Jvm.MethodName)) ∈ lw_tbl := lw_at lw_m5 78 rfl
theorem q1159 : (Jvm.Cond.instanceMethod ({ cls := "GlassStreet", name := "panes", desc := "()I" } : Jvm.MethodName)) ∈ lw_all := lw_g (lw_at lw_m5 79 rfl) rfl
theorem q1160 : (Jvm.Cond.code ({ cls := "GlassStreet", name := "panes", desc := "()I" } : Jvm.MethodName) prog_1_method_11_code (1 : Nat) (Option.some Jvm.ClassFile.FieldType.int)) ∈ lw_all := lw_g (lw_at lw_m5 80 rfl) rfl
theorem q1161 : (Jvm.Cond.methodLink "GlassStreet" (105 : Nat) ({ cls := "java/util/ArrayList", name := "size", desc := "()I" } : Jvm.MethodName)) ∈ lw_all := lw_g (lw_at lw_m5 81 rfl) rfl
theorem q1162 : (Jvm.Cond.methodLink "GlassStreet" (123 : Nat) ({ cls := "GlassStreet", name := "in", desc := "(III)Z" } : Jvm.MethodName)) ∈ lw_all := lw_g (lw_at lw_m5 82 rfl) rfl
theorem q1163 : (Jvm.Cond.methodLink "GlassStreet" (138 : Nat) ({ cls := "GlassStreet", name := "pane", desc := "(I)LGlassStreet$Pane;" } : Jvm.MethodName)) ∈ lw_all := lw_g (lw_at lw_m5 83 rfl) rfl
theorem q1164 : (Jvm.Cond.privateMethod ({ cls := "GlassStreet", name := "pane", desc := "(I)LGlassStreet$Pane;" } : Jvm.MethodName)) ∈ lw_tbl := lw_at lw_m5 84 rfl
theorem q1165 : (Jvm.Cond.instanceMethod ({ cls := "GlassStreet", name := "pane", desc := "(I)LGlassStreet$Pane;" } : Jvm.MethodName)) ∈ lw_all := lw_g (lw_at lw_m5 85 rfl) rfl
theorem q1166 : (Jvm.Cond.code ({ cls := "GlassStreet", name := "pane", desc := "(I)LGlassStreet$Pane;" } : Jvm.MethodName) prog_1_method_12_code (2 : Nat) (Option.some (Jvm.ClassFile.FieldType.object "GlassStreet$Pane"))) ∈ lw_all := lw_g (lw_at lw_m5 86 rfl) rfl
theorem q1167 : (Jvm.Cond.methodLink "GlassStreet" (109 : Nat) ({ cls := "java/util/ArrayList", name := "get", desc := "(I)Ljava/lang/Object;" } : Jvm.MethodName)) ∈ lw_all := lw_g (lw_at lw_m5 87 rfl) rfl
theorem q1168 : (Jvm.Cond.classLink "GlassStreet" (113 : Nat) "GlassStreet$Pane") ∈ lw_all := lw_g (lw_at lw_m5 88 rfl) rfl
theorem q1169 : (Jvm.Cond.methodLink "GlassStreet" (209 : Nat) ({ cls := "GlassStreet$Pane", name := "kind", desc := "()I" } : Jvm.MethodName)) ∈ lw_all := lw_g (lw_at lw_m5 89 rfl) rfl
theorem q1183 : (Jvm.Cond.methodLink "GlassStreet" (9 : Nat) ({ cls := "GlassStreet", name := "isIn", desc := "(II)Z" } : Jvm.MethodName)) ∈ lw_all := lw_g (lw_at lw_m5 103 rfl) rfl
theorem q1184 : (Jvm.Cond.methodLink "GlassStreet" (152 : Nat) ({ cls := "GlassStreet", name := "sees", desc := "(LGlassStreet$State;I)I" } : Jvm.MethodName)) ∈ lw_all := lw_g (lw_at lw_m5 104 rfl) rfl
theorem q1185 : (Jvm.Cond.privateMethod ({ cls := "GlassStreet", name := "sees", desc := "(LGlassStreet$State;I)I" } : Jvm.MethodName)) ∈ lw_tbl := lw_at lw_m5 105 rfl
theorem q1186 : (Jvm.Cond.instanceMethod ({ cls := "GlassStreet", name := "sees", desc := "(LGlassStreet$State;I)I" } : Jvm.MethodName)) ∈ lw_all := lw_g (lw_at lw_m5 106 rfl) rfl
theorem q1187 : (Jvm.Cond.code ({ cls := "GlassStreet", name := "sees", desc := "(LGlassStreet$State;I)I" } : Jvm.MethodName) prog_1_method_18_code (3 : Nat) (Option.some Jvm.ClassFile.FieldType.int)) ∈ lw_all := lw_g (lw_at lw_m5 107 rfl) rfl
theorem q1188 : (Jvm.Cond.methodLink "GlassStreet" (131 : Nat) ({ cls := "GlassStreet$State", name := "isWhole", desc := "(I)Z" } : Jvm.MethodName)) ∈ lw_all := lw_g (lw_at lw_m5 108 rfl) rfl
theorem q1193 : (Jvm.Cond.methodLink "GlassStreet" (145 : Nat) ({ cls := "GlassStreet$Houses", name := "light", desc := "(I)I" } : Jvm.MethodName)) ∈ lw_all := lw_g (lw_at lw_m5 113 rfl) rfl
theorem q1197 : (Jvm.Cond.methodLink "GlassStreet" (149 : Nat) ({ cls := "GlassStreet$Pane", name := "sees", desc := "(I)I" } : Jvm.MethodName)) ∈ lw_all := lw_g (lw_at lw_m5 117 rfl) rfl
theorem q1206 : (Jvm.Cond.static ({ cls := "GlassStreet", name := "turned", desc := "(I)I" } : Jvm.MethodName)) ∈ lw_all := lw_g (lw_at lw_m5 126 rfl) rfl
theorem q1207 : (Jvm.Cond.code ({ cls := "GlassStreet", name := "turned", desc := "(I)I" } : Jvm.MethodName) prog_1_method_5_code (3 : Nat) (Option.some Jvm.ClassFile.FieldType.int)) ∈ lw_all := lw_g (lw_at lw_m5 127 rfl) rfl
theorem q1213 : (Jvm.Cond.instanceMethod ({ cls := "GlassStreet", name := "shown", desc := "(III)I" } : Jvm.MethodName)) ∈ lw_all := lw_g (lw_at lw_m5 133 rfl) rfl
theorem q1214 : (Jvm.Cond.selects "GlassStreet" ({ cls := "GlassStreet", name := "shown", desc := "(III)I" } : Jvm.MethodName) ({ cls := "GlassStreet", name := "shown", desc := "(III)I" } : Jvm.MethodName)) ∈ lw_all := lw_g (lw_at lw_m5 134 rfl) rfl
theorem q1215 : (Jvm.Cond.code ({ cls := "GlassStreet", name := "shown", desc := "(III)I" } : Jvm.MethodName) prog_1_method_27_code (5 : Nat) (Option.some Jvm.ClassFile.FieldType.int)) ∈ lw_all := lw_g (lw_at lw_m5 135 rfl) rfl
theorem q1216 : (Jvm.Cond.methodLink "GlassStreet" (219 : Nat) ({ cls := "GlassStreet$State", name := "shows", desc := "(I)Z" } : Jvm.MethodName)) ∈ lw_all := lw_g (lw_at lw_m5 136 rfl) rfl
theorem q1220 : (Jvm.Cond.methodLink "GlassStreet" (222 : Nat) ({ cls := "GlassStreet", name := "tellsWho", desc := "(LGlassStreet$State;I)Z" } : Jvm.MethodName)) ∈ lw_all := lw_g (lw_at lw_m5 140 rfl) rfl
theorem q1221 : (Jvm.Cond.privateMethod ({ cls := "GlassStreet", name := "tellsWho", desc := "(LGlassStreet$State;I)Z" } : Jvm.MethodName)) ∈ lw_tbl := lw_at lw_m5 141 rfl
theorem q1222 : (Jvm.Cond.instanceMethod ({ cls := "GlassStreet", name := "tellsWho", desc := "(LGlassStreet$State;I)Z" } : Jvm.MethodName)) ∈ lw_all := lw_g (lw_at lw_m5 142 rfl) rfl
theorem q1223 : (Jvm.Cond.code ({ cls := "GlassStreet", name := "tellsWho", desc := "(LGlassStreet$State;I)Z" } : Jvm.MethodName) prog_1_method_26_code (3 : Nat) (Option.some Jvm.ClassFile.FieldType.boolean)) ∈ lw_all := lw_g (lw_at lw_m5 143 rfl) rfl
theorem q1224 : (Jvm.Cond.methodLink "GlassStreet" (215 : Nat) ({ cls := "GlassStreet$Pane", name := "tellsWho", desc := "()Z" } : Jvm.MethodName)) ∈ lw_all := lw_g (lw_at lw_m5 144 rfl) rfl
theorem q1235 : (Jvm.Cond.instanceMethod ({ cls := "GlassStreet", name := "person", desc := "(I)I" } : Jvm.MethodName)) ∈ lw_all := lw_g (lw_at lw_m5 155 rfl) rfl
theorem q1236 : (Jvm.Cond.selects "GlassStreet" ({ cls := "GlassStreet", name := "person", desc := "(I)I" } : Jvm.MethodName) ({ cls := "GlassStreet", name := "person", desc := "(I)I" } : Jvm.MethodName)) ∈ lw_all := lw_g (lw_at lw_m5 156 rfl) rfl
theorem q1237 : (Jvm.Cond.code ({ cls := "GlassStreet", name := "person", desc := "(I)I" } : Jvm.MethodName) prog_1_method_28_code (2 : Nat) (Option.some Jvm.ClassFile.FieldType.int)) ∈ lw_all := lw_g (lw_at lw_m5 157 rfl) rfl
theorem q1238 : (Jvm.Cond.methodLink "GlassStreet" (231 : Nat) ({ cls := "GlassStreet", name := "isPerson", desc := "(I)Z" } : Jvm.MethodName)) ∈ lw_all := lw_g (lw_at lw_m5 158 rfl) rfl
theorem q1239 : (Jvm.Cond.privateMethod ({ cls := "GlassStreet", name := "isPerson", desc := "(I)Z" } : Jvm.MethodName)) ∈ lw_tbl := lw_at lw_m5 159 rfl
theorem q1240 : (Jvm.Cond.instanceMethod ({ cls := "GlassStreet", name := "isPerson", desc := "(I)Z" } : Jvm.MethodName)) ∈ lw_all := lw_g (lw_at lw_m5 160 rfl) rfl
theorem q1241 : (Jvm.Cond.code ({ cls := "GlassStreet", name := "isPerson", desc := "(I)Z" } : Jvm.MethodName) prog_1_method_16_code (2 : Nat) (Option.some Jvm.ClassFile.FieldType.boolean)) ∈ lw_all := lw_g (lw_at lw_m5 161 rfl) rfl
theorem q1242 : (Jvm.Cond.methodLink "GlassStreet" (127 : Nat) ({ cls := "GlassStreet", name := "people", desc := "()I" } : Jvm.MethodName)) ∈ lw_all := lw_g (lw_at lw_m5 162 rfl) rfl
theorem q1243 : (Jvm.Cond.privateMethod ({ cls := "GlassStreet", name := "people", desc := "()I" } : Jvm.MethodName)) ∈ lw_tbl := lw_at lw_m5 163 rfl
theorem q1244 : (Jvm.Cond.instanceMethod ({ cls := "GlassStreet", name := "people", desc := "()I" } : Jvm.MethodName)) ∈ lw_all := lw_g (lw_at lw_m5 164 rfl) rfl
theorem q1245 : (Jvm.Cond.code ({ cls := "GlassStreet", name := "people", desc := "()I" } : Jvm.MethodName) prog_1_method_13_code (1 : Nat) (Option.some Jvm.ClassFile.FieldType.int)) ∈ lw_all := lw_g (lw_at lw_m5 165 rfl) rfl
theorem q1247 : (Jvm.Cond.instanceMethod ({ cls := "GlassStreet", name := "walk", desc := "(II)Z" } : Jvm.MethodName)) ∈ lw_all := lw_g (lw_at lw_m5 167 rfl) rfl
theorem q1248 : (Jvm.Cond.selects "GlassStreet" ({ cls := "GlassStreet", name := "walk", desc := "(II)Z" } : Jvm.MethodName) ({ cls := "GlassStreet", name := "walk", desc := "(II)Z" } : Jvm.MethodName)) ∈ lw_all := lw_g (lw_at lw_m5 168 rfl) rfl
theorem q1249 : (Jvm.Cond.code ({ cls := "GlassStreet", name := "walk", desc := "(II)Z" } : Jvm.MethodName) prog_1_method_30_code (3 : Nat) (Option.some Jvm.ClassFile.FieldType.boolean)) ∈ lw_all := lw_g (lw_at lw_m5 169 rfl) rfl
theorem q1250 : (Jvm.Cond.methodLink "GlassStreet" (238 : Nat) ({ cls := "java/lang/Math", name := "abs", desc := "(I)I" } : Jvm.MethodName)) ∈ lw_all := lw_g (lw_at lw_m5 170 rfl) rfl
theorem q1253 : (Jvm.Cond.methodLink "GlassStreet" (243 : Nat) ({ cls := "GlassStreet", name := "keeps", desc := "()V" } : Jvm.MethodName)) ∈ lw_all := lw_g (lw_at lw_m5 173 rfl) rfl
theorem q1254 : (Jvm.Cond.privateMethod ({ cls := "GlassStreet", name := "keeps", desc := "()V" } : Jvm.MethodName)) ∈ lw_tbl := lw_at lw_m5 174 rfl
theorem q1255 : (Jvm.Cond.instanceMethod ({ cls := "GlassStreet", name := "keeps", desc := "()V" } : Jvm.MethodName)) ∈ lw_all := lw_g (lw_at lw_m5 175 rfl) rfl
theorem q1256 : (Jvm.Cond.code ({ cls := "GlassStreet", name := "keeps", desc := "()V" } : Jvm.MethodName) prog_1_method_29_code (3 : Nat) (Option.none : Option Jvm.ClassFile.FieldType)) ∈ lw_all := lw_g (lw_at lw_m5 176 rfl) rfl
theorem q1257 : (Jvm.Cond.methodLink "GlassStreet" (234 : Nat) ({ cls := "GlassStreet$State", name := "be", desc := "(LGlassStreet$State;)V" } : Jvm.MethodName)) ∈ lw_all := lw_g (lw_at lw_m5 177 rfl) rfl
theorem q1267 : (Jvm.Cond.instanceMethod ({ cls := "GlassStreet", name := "does", desc := "(II)I" } : Jvm.MethodName)) ∈ lw_all := lw_g (lw_at lw_m5 187 rfl) rfl
theorem q1268 : (Jvm.Cond.selects "GlassStreet" ({ cls := "GlassStreet", name := "does", desc := "(II)I" } : Jvm.MethodName) ({ cls := "GlassStreet", name := "does", desc := "(II)I" } : Jvm.MethodName)) ∈ lw_all := lw_g (lw_at lw_m5 188 rfl) rfl
theorem q1269 : (Jvm.Cond.code ({ cls := "GlassStreet", name := "does", desc := "(II)I" } : Jvm.MethodName) prog_1_method_31_code (3 : Nat) (Option.some Jvm.ClassFile.FieldType.int)) ∈ lw_all := lw_g (lw_at lw_m5 189 rfl) rfl
theorem q1270 : (Jvm.Cond.methodLink "GlassStreet" (245 : Nat) ({ cls := "GlassStreet", name := "isDeed", desc := "(I)Z" } : Jvm.MethodName)) ∈ lw_all := lw_g (lw_at lw_m5 190 rfl) rfl
theorem q1271 : (Jvm.Cond.privateMethod ({ cls := "GlassStreet", name := "isDeed", desc := "(I)Z" } : Jvm.MethodName)) ∈ lw_tbl := lw_at lw_m5 191 rfl
theorem q1272 : (Jvm.Cond.instanceMethod ({ cls := "GlassStreet", name := "isDeed", desc := "(I)Z" } : Jvm.MethodName)) ∈ lw_all := lw_g (lw_at lw_m5 192 rfl) rfl
theorem q1273 : (Jvm.Cond.code ({ cls := "GlassStreet", name := "isDeed", desc := "(I)Z" } : Jvm.MethodName) prog_1_method_17_code (2 : Nat) (Option.some Jvm.ClassFile.FieldType.boolean)) ∈ lw_all := lw_g (lw_at lw_m5 193 rfl) rfl
theorem q1274 : (Jvm.Cond.methodLink "GlassStreet" (129 : Nat) ({ cls := "GlassStreet", name := "deeds", desc := "()I" } : Jvm.MethodName)) ∈ lw_all := lw_g (lw_at lw_m5 194 rfl) rfl
theorem q1275 : (Jvm.Cond.privateMethod ({ cls := "GlassStreet", name := "deeds", desc := "()I" } : Jvm.MethodName)) ∈ lw_tbl := lw_at lw_m5 195 rfl
theorem q1276 : (Jvm.Cond.instanceMethod ({ cls := "GlassStreet", name := "deeds", desc := "()I" } : Jvm.MethodName)) ∈ lw_all := lw_g (lw_at lw_m5 196 rfl) rfl
theorem q1277 : (Jvm.Cond.code ({ cls := "GlassStreet", name := "deeds", desc := "()I" } : Jvm.MethodName) prog_1_method_14_code (1 : Nat) (Option.some Jvm.ClassFile.FieldType.int)) ∈ lw_all := lw_g (lw_at lw_m5 197 rfl) rfl
theorem q1278 : (Jvm.Cond.methodLink "GlassStreet" (248 : Nat) ({ cls := "GlassStreet", name := "done", desc := "(LGlassStreet$State;II)I" } : Jvm.MethodName)) ∈ lw_all := lw_g (lw_at lw_m5 198 rfl) rfl
theorem q1279 : (Jvm.Cond.privateMethod ({ cls := "GlassStreet", name := "done", desc := "(LGlassStreet$State;II)I" } : Jvm.MethodName)) ∈ lw_tbl := lw_at lw_m5 199 rfl
theorem q1280 : (Jvm.Cond.instanceMethod ({ cls := "GlassStreet", name := "done", desc := "(LGlassStreet$State;II)I" } : Jvm.MethodName)) ∈ lw_all := lw_g (lw_at lw_m5 200 rfl) rfl
theorem q1281 : (Jvm.Cond.code ({ cls := "GlassStreet", name := "done", desc := "(LGlassStreet$State;II)I" } : Jvm.MethodName) prog_1_method_20_code (6 : Nat) (Option.some Jvm.ClassFile.FieldType.int)) ∈ lw_all := lw_g (lw_at lw_m5 201 rfl) rfl
theorem q1282 : (Jvm.Cond.methodLink "GlassStreet" (158 : Nat) ({ cls := "GlassStreet", name := "seeing", desc := "(LGlassStreet$State;I)I" } : Jvm.MethodName)) ∈ lw_all := lw_g (lw_at lw_m5 202 rfl) rfl
theorem q1283 : (Jvm.Cond.privateMethod ({ cls := "GlassStreet", name := "seeing", desc := "(LGlassStreet$State;I)I" } : Jvm.MethodName)) ∈ lw_tbl := lw_at lw_m5 203 rfl
theorem q1284 : (Jvm.Cond.instanceMethod ({ cls := "GlassStreet", name := "seeing", desc := "(LGlassStreet$State;I)I" } : Jvm.MethodName)) ∈ lw_all := lw_g (lw_at lw_m5 204 rfl) rfl
theorem q1285 : (Jvm.Cond.code ({ cls := "GlassStreet", name := "seeing", desc := "(LGlassStreet$State;I)I" } : Jvm.MethodName) prog_1_method_19_code (5 : Nat) (Option.some Jvm.ClassFile.FieldType.int)) ∈ lw_all := lw_g (lw_at lw_m5 205 rfl) rfl
theorem q1286 : (Jvm.Cond.methodLink "GlassStreet" (168 : Nat) ({ cls := "GlassStreet$Marks", name := "comes", desc := "(IIII)V" } : Jvm.MethodName)) ∈ lw_all := lw_g (lw_at lw_m5 206 rfl) rfl
theorem q1295 : (Jvm.Cond.instanceMethod ({ cls := "GlassStreet", name := "wash", desc := "(I)I" } : Jvm.MethodName)) ∈ lw_all := lw_g (lw_at lw_m5 215 rfl) rfl
theorem q1296 : (Jvm.Cond.selects "GlassStreet" ({ cls := "GlassStreet", name := "wash", desc := "(I)I" } : Jvm.MethodName) ({ cls := "GlassStreet", name := "wash", desc := "(I)I" } : Jvm.MethodName)) ∈ lw_all := lw_g (lw_at lw_m5 216 rfl) rfl
theorem q1297 : (Jvm.Cond.code ({ cls := "GlassStreet", name := "wash", desc := "(I)I" } : Jvm.MethodName) prog_1_method_32_code (2 : Nat) (Option.some Jvm.ClassFile.FieldType.int)) ∈ lw_all := lw_g (lw_at lw_m5 217 rfl) rfl
theorem q1298 : (Jvm.Cond.methodLink "GlassStreet" (252 : Nat) ({ cls := "GlassStreet", name := "canWash", desc := "(LGlassStreet$State;I)Z" } : Jvm.MethodName)) ∈ lw_all := lw_g (lw_at lw_m5 218 rfl) rfl
theorem q1299 : (Jvm.Cond.privateMethod ({ cls := "GlassStreet", name := "canWash", desc := "(LGlassStreet$State;I)Z" } : Jvm.MethodName)) ∈ lw_tbl := lw_at lw_m5 219 rfl
theorem q1300 : (Jvm.Cond.instanceMethod ({ cls := "GlassStreet", name := "canWash", desc := "(LGlassStreet$State;I)Z" } : Jvm.MethodName)) ∈ lw_all := lw_g (lw_at lw_m5 220 rfl) rfl
theorem q1301 : (Jvm.Cond.code ({ cls := "GlassStreet", name := "canWash", desc := "(LGlassStreet$State;I)Z" } : Jvm.MethodName) prog_1_method_21_code (3 : Nat) (Option.some Jvm.ClassFile.FieldType.boolean)) ∈ lw_all := lw_g (lw_at lw_m5 221 rfl) rfl
theorem q1303 : (Jvm.Cond.instanceMethod ({ cls := "GlassStreet", name := "curtain", desc := "(I)Z" } : Jvm.MethodName)) ∈ lw_all := lw_g (lw_at lw_m5 223 rfl) rfl
theorem q1304 : (Jvm.Cond.selects "GlassStreet" ({ cls := "GlassStreet", name := "curtain", desc := "(I)Z" } : Jvm.MethodName) ({ cls := "GlassStreet", name := "curtain", desc := "(I)Z" } : Jvm.MethodName)) ∈ lw_all := lw_g (lw_at lw_m5 224 rfl) rfl
theorem q1305 : (Jvm.Cond.code ({ cls := "GlassStreet", name := "curtain", desc := "(I)Z" } : Jvm.MethodName) prog_1_method_33_code (2 : Nat) (Option.some Jvm.ClassFile.FieldType.boolean)) ∈ lw_all := lw_g (lw_at lw_m5 225 rfl) rfl
theorem q1307 : (Jvm.Cond.instanceMethod ({ cls := "GlassStreet", name := "stone", desc := "(I)Z" } : Jvm.MethodName)) ∈ lw_all := lw_g (lw_at lw_m5 227 rfl) rfl
theorem q1308 : (Jvm.Cond.selects "GlassStreet" ({ cls := "GlassStreet", name := "stone", desc := "(I)Z" } : Jvm.MethodName) ({ cls := "GlassStreet", name := "stone", desc := "(I)Z" } : Jvm.MethodName)) ∈ lw_all := lw_g (lw_at lw_m5 228 rfl) rfl
theorem q1309 : (Jvm.Cond.code ({ cls := "GlassStreet", name := "stone", desc := "(I)Z" } : Jvm.MethodName) prog_1_method_34_code (2 : Nat) (Option.some Jvm.ClassFile.FieldType.boolean)) ∈ lw_all := lw_g (lw_at lw_m5 229 rfl) rfl
theorem q1311 : (Jvm.Cond.instanceMethod ({ cls := "GlassStreet", name := "hour", desc := "()I" } : Jvm.MethodName)) ∈ lw_all := lw_g (lw_at lw_m5 231 rfl) rfl
theorem q1312 : (Jvm.Cond.selects "GlassStreet" ({ cls := "GlassStreet", name := "hour", desc := "()I" } : Jvm.MethodName) ({ cls := "GlassStreet", name := "hour", desc := "()I" } : Jvm.MethodName)) ∈ lw_all := lw_g (lw_at lw_m5 232 rfl) rfl
theorem q1313 : (Jvm.Cond.code ({ cls := "GlassStreet", name := "hour", desc := "()I" } : Jvm.MethodName) prog_1_method_35_code (1 : Nat) (Option.some Jvm.ClassFile.FieldType.int)) ∈ lw_all := lw_g (lw_at lw_m5 233 rfl) rfl
theorem q1314 : (Jvm.Cond.methodLink "GlassStreet" (255 : Nat) ({ cls := "GlassStreet", name := "passes", desc := "(LGlassStreet$State;)I" } : Jvm.MethodName)) ∈ lw_all := lw_g (lw_at lw_m5 234 rfl) rfl
theorem q1315 : (Jvm.Cond.privateMethod ({ cls := "GlassStreet", name := "passes", desc := "(LGlassStreet$State;)I" } : Jvm.MethodName)) ∈ lw_tbl := lw_at lw_m5 235 rfl
theorem q1316 : (Jvm.Cond.instanceMethod ({ cls := "GlassStreet", name := "passes", desc := "(LGlassStreet$State;)I" } : Jvm.MethodName)) ∈ lw_all := lw_g (lw_at lw_m5 236 rfl) rfl
theorem q1317 : (Jvm.Cond.code ({ cls := "GlassStreet", name := "passes", desc := "(LGlassStreet$State;)I" } : Jvm.MethodName) prog_1_method_24_code (4 : Nat) (Option.some Jvm.ClassFile.FieldType.int)) ∈ lw_all := lw_g (lw_at lw_m5 237 rfl) rfl
theorem q1318 : (Jvm.Cond.methodLink "GlassStreet" (202 : Nat) ({ cls := "GlassStreet", name := "fadesOf", desc := "(LGlassStreet$State;LGlassStreet$Marks;)I" } : Jvm.MethodName)) ∈ lw_all := lw_g (lw_at lw_m5 238 rfl) rfl
theorem q1319 : (Jvm.Cond.privateMethod ({ cls := "GlassStreet", name := "fadesOf", desc := "(LGlassStreet$State;LGlassStreet$Marks;)I" } : Jvm.MethodName)) ∈ lw_tbl := lw_at lw_m5 239 rfl
theorem q1320 : (Jvm.Cond.instanceMethod ({ cls := "GlassStreet", name := "fadesOf", desc := "(LGlassStreet$State;LGlassStreet$Marks;)I" } : Jvm.MethodName)) ∈ lw_all := lw_g (lw_at lw_m6 0 rfl) rfl
theorem q1321 : (Jvm.Cond.code ({ cls := "GlassStreet", name := "fadesOf", desc := "(LGlassStreet$State;LGlassStreet$Marks;)I" } : Jvm.MethodName) prog_1_method_23_code (6 : Nat) (Option.some Jvm.ClassFile.FieldType.int)) ∈ lw_all := lw_g (lw_at lw_m6 1 rfl) rfl
theorem q1322 : (Jvm.Cond.methodLink "GlassStreet" (196 : Nat) ({ cls := "GlassStreet", name := "fades", desc := "(LGlassStreet$State;LGlassStreet$Marks;I)Z" } : Jvm.MethodName)) ∈ lw_all := lw_g (lw_at lw_m6 2 rfl) rfl
theorem q1323 : (Jvm.Cond.privateMethod ({ cls := "GlassStreet", name := "fades", desc := "(LGlassStreet$State;LGlassStreet$Marks;I)Z" } : Jvm.MethodName)) ∈ lw_tbl := lw_at lw_m6 3 rfl
theorem q1324 : (Jvm.Cond.instanceMethod ({ cls := "GlassStreet", name := "fades", desc := "(LGlassStreet$State;LGlassStreet$Marks;I)Z" } : Jvm.MethodName)) ∈ lw_all := lw_g (lw_at lw_m6 4 rfl) rfl
theorem q1325 : (Jvm.Cond.code ({ cls := "GlassStreet", name := "fades", desc := "(LGlassStreet$State;LGlassStreet$Marks;I)Z" } : Jvm.MethodName) prog_1_method_22_code (4 : Nat) (Option.some Jvm.ClassFile.FieldType.boolean)) ∈ lw_all := lw_g (lw_at lw_m6 5 rfl) rfl
theorem q1326 : (Jvm.Cond.methodLink "GlassStreet" (190 : Nat) ({ cls := "GlassStreet$Expression", name := "worked", desc := "([I)I" } : Jvm.MethodName)) ∈ lw_all := lw_g (lw_at lw_m6 6 rfl) rfl
theorem q1343 : (Jvm.Cond.methodLink "GlassStreet" (199 : Nat) ({ cls := "GlassStreet$Marks", name := "goes", desc := "(I)V" } : Jvm.MethodName)) ∈ lw_all := lw_g (lw_at lw_m6 23 rfl) rfl
theorem q1345 : (Jvm.Cond.instanceMethod ({ cls := "GlassStreet", name := "undo", desc := "()Z" } : Jvm.MethodName)) ∈ lw_all := lw_g (lw_at lw_m6 25 rfl) rfl
theorem q1346 : (Jvm.Cond.selects "GlassStreet" ({ cls := "GlassStreet", name := "undo", desc := "()Z" } : Jvm.MethodName) ({ cls := "GlassStreet", name := "undo", desc := "()Z" } : Jvm.MethodName)) ∈ lw_all := lw_g (lw_at lw_m6 26 rfl) rfl
theorem q1347 : (Jvm.Cond.code ({ cls := "GlassStreet", name := "undo", desc := "()Z" } : Jvm.MethodName) prog_1_method_36_code (1 : Nat) (Option.some Jvm.ClassFile.FieldType.boolean)) ∈ lw_all := lw_g (lw_at lw_m6 27 rfl) rfl
theorem q1349 : (Jvm.Cond.instanceMethod ({ cls := "GlassStreet", name := "judged", desc := "(I)I" } : Jvm.MethodName)) ∈ lw_all := lw_g (lw_at lw_m6 29 rfl) rfl
theorem q1350 : (Jvm.Cond.selects "GlassStreet" ({ cls := "GlassStreet", name := "judged", desc := "(I)I" } : Jvm.MethodName) ({ cls := "GlassStreet", name := "judged", desc := "(I)I" } : Jvm.MethodName)) ∈ lw_all := lw_g (lw_at lw_m6 30 rfl) rfl
theorem q1351 : (Jvm.Cond.code ({ cls := "GlassStreet", name := "judged", desc := "(I)I" } : Jvm.MethodName) prog_1_method_37_code (6 : Nat) (Option.some Jvm.ClassFile.FieldType.int)) ∈ lw_all := lw_g (lw_at lw_m6 31 rfl) rfl
theorem q1352 : (Jvm.Cond.classLink "GlassStreet" (259 : Nat) "GlassStreet$Line") ∈ lw_all := lw_g (lw_at lw_m6 32 rfl) rfl
theorem q1353 : (Jvm.Cond.classLink "GlassStreet" (261 : Nat) "GlassStreet$Did") ∈ lw_all := lw_g (lw_at lw_m6 33 rfl) rfl
theorem q1354 : (Jvm.Cond.methodLink "GlassStreet" (266 : Nat) ({ cls := "GlassStreet$Line", name := "isDone", desc := "(LGlassStreet;LGlassStreet$State;)Z" } : Jvm.MethodName)) ∈ lw_all := lw_g (lw_at lw_m6 34 rfl) rfl
theorem q1377 : (Jvm.Cond.methodLink "GlassStreet" (270 : Nat) ({ cls := "GlassStreet", name := "harmOf", desc := "(LGlassStreet$State;I)I" } : Jvm.MethodName)) ∈ lw_all := lw_g (lw_at lw_m6 57 rfl) rfl
theorem q1378 : (Jvm.Cond.privateMethod ({ cls := "GlassStreet", name := "harmOf", desc := "(LGlassStreet$State;I)I" } : Jvm.MethodName)) ∈ lw_tbl := lw_at lw_m6 58 rfl
theorem q1379 : (Jvm.Cond.instanceMethod ({ cls := "GlassStreet", name := "harmOf", desc := "(LGlassStreet$State;I)I" } : Jvm.MethodName)) ∈ lw_all := lw_g (lw_at lw_m6 59 rfl) rfl
theorem q1380 : (Jvm.Cond.code ({ cls := "GlassStreet", name := "harmOf", desc := "(LGlassStreet$State;I)I" } : Jvm.MethodName) prog_1_method_40_code (5 : Nat) (Option.some Jvm.ClassFile.FieldType.int)) ∈ lw_all := lw_g (lw_at lw_m6 60 rfl) rfl
theorem q1381 : (Jvm.Cond.methodLink "GlassStreet" (277 : Nat) ({ cls := "GlassStreet", name := "showsOf", desc := "(LGlassStreet$State;III)I" } : Jvm.MethodName)) ∈ lw_all := lw_g (lw_at lw_m6 61 rfl) rfl
theorem q1382 : (Jvm.Cond.privateMethod ({ cls := "GlassStreet", name := "showsOf", desc := "(LGlassStreet$State;III)I" } : Jvm.MethodName)) ∈ lw_tbl := lw_at lw_m6 62 rfl
theorem q1383 : (Jvm.Cond.instanceMethod ({ cls := "GlassStreet", name := "showsOf", desc := "(LGlassStreet$State;III)I" } : Jvm.MethodName)) ∈ lw_all := lw_g (lw_at lw_m6 63 rfl) rfl
theorem q1384 : (Jvm.Cond.code ({ cls := "GlassStreet", name := "showsOf", desc := "(LGlassStreet$State;III)I" } : Jvm.MethodName) prog_1_method_38_code (8 : Nat) (Option.some Jvm.ClassFile.FieldType.int)) ∈ lw_all := lw_g (lw_at lw_m6 64 rfl) rfl
theorem q1385 : (Jvm.Cond.methodLink "GlassStreet" (273 : Nat) ({ cls := "java/lang/Math", name := "max", desc := "(II)I" } : Jvm.MethodName)) ∈ lw_all := lw_g (lw_at lw_m6 65 rfl) rfl
theorem q1386 : (Jvm.Cond.methodLink "GlassStreet" (281 : Nat) ({ cls := "GlassStreet", name := "harmBy", desc := "(I)I" } : Jvm.MethodName)) ∈ lw_all := lw_g (lw_at lw_m6 66 rfl) rfl
theorem q1387 : (Jvm.Cond.privateMethod ({ cls := "GlassStreet", name := "harmBy", desc := "(I)I" } : Jvm.MethodName)) ∈ lw_tbl := lw_at lw_m6 67 rfl
theorem q1388 : (Jvm.Cond.instanceMethod ({ cls := "GlassStreet", name := "harmBy", desc := "(I)I" } : Jvm.MethodName)) ∈ lw_all := lw_g (lw_at lw_m6 68 rfl) rfl
theorem q1389 : (Jvm.Cond.code ({ cls := "GlassStreet", name := "harmBy", desc := "(I)I" } : Jvm.MethodName) prog_1_method_39_code (4 : Nat) (Option.some Jvm.ClassFile.FieldType.int)) ∈ lw_all := lw_g (lw_at lw_m6 69 rfl) rfl
theorem q1391 : (Jvm.Cond.instanceMethod ({ cls := "GlassStreet", name := "shame", desc := "(I)I" } : Jvm.MethodName)) ∈ lw_all := lw_g (lw_at lw_m6 71 rfl) rfl
theorem q1392 : (Jvm.Cond.selects "GlassStreet" ({ cls := "GlassStreet", name := "shame", desc := "(I)I" } : Jvm.MethodName) ({ cls := "GlassStreet", name := "shame", desc := "(I)I" } : Jvm.MethodName)) ∈ lw_all := lw_g (lw_at lw_m6 72 rfl) rfl
theorem q1393 : (Jvm.Cond.code ({ cls := "GlassStreet", name := "shame", desc := "(I)I" } : Jvm.MethodName) prog_1_method_42_code (2 : Nat) (Option.some Jvm.ClassFile.FieldType.int)) ∈ lw_all := lw_g (lw_at lw_m6 73 rfl) rfl
theorem q1394 : (Jvm.Cond.methodLink "GlassStreet" (284 : Nat) ({ cls := "GlassStreet", name := "shameOf", desc := "(LGlassStreet$State;I)I" } : Jvm.MethodName)) ∈ lw_all := lw_g (lw_at lw_m6 74 rfl) rfl
theorem q1395 : (Jvm.Cond.privateMethod ({ cls := "GlassStreet", name := "shameOf", desc := "(LGlassStreet$State;I)I" } : Jvm.MethodName)) ∈ lw_tbl := lw_at lw_m6 75 rfl
theorem q1396 : (Jvm.Cond.instanceMethod ({ cls := "GlassStreet", name := "shameOf", desc := "(LGlassStreet$State;I)I" } : Jvm.MethodName)) ∈ lw_all := lw_g (lw_at lw_m6 76 rfl) rfl
theorem q1397 : (Jvm.Cond.code ({ cls := "GlassStreet", name := "shameOf", desc := "(LGlassStreet$State;I)I" } : Jvm.MethodName) prog_1_method_41_code (5 : Nat) (Option.some Jvm.ClassFile.FieldType.int)) ∈ lw_all := lw_g (lw_at lw_m6 77 rfl) rfl
theorem q1399 : (Jvm.Cond.instanceMethod ({ cls := "GlassStreet", name := "harm", desc := "()I" } : Jvm.MethodName)) ∈ lw_all := lw_g (lw_at lw_m6 79 rfl) rfl
theorem q1400 : (Jvm.Cond.selects "GlassStreet" ({ cls := "GlassStreet", name := "harm", desc := "()I" } : Jvm.MethodName) ({ cls := "GlassStreet", name := "harm", desc := "()I" } : Jvm.MethodName)) ∈ lw_all := lw_g (lw_at lw_m6 80 rfl) rfl
theorem q1401 : (Jvm.Cond.code ({ cls := "GlassStreet", name := "harm", desc := "()I" } : Jvm.MethodName) prog_1_method_43_code (1 : Nat) (Option.some Jvm.ClassFile.FieldType.int)) ∈ lw_all := lw_g (lw_at lw_m6 81 rfl) rfl
theorem q1403 : (Jvm.Cond.instanceMethod ({ cls := "GlassStreet", name := "memory", desc := "(I)I" } : Jvm.MethodName)) ∈ lw_all := lw_g (lw_at lw_m6 83 rfl) rfl
theorem q1404 : (Jvm.Cond.selects "GlassStreet" ({ cls := "GlassStreet", name := "memory", desc := "(I)I" } : Jvm.MethodName) ({ cls := "GlassStreet", name := "memory", desc := "(I)I" } : Jvm.MethodName)) ∈ lw_all := lw_g (lw_at lw_m6 84 rfl) rfl
theorem q1405 : (Jvm.Cond.code ({ cls := "GlassStreet", name := "memory", desc := "(I)I" } : Jvm.MethodName) prog_1_method_44_code (2 : Nat) (Option.some Jvm.ClassFile.FieldType.int)) ∈ lw_all := lw_g (lw_at lw_m6 85 rfl) rfl
theorem q1407 : (Jvm.Cond.instanceMethod ({ cls := "GlassStreet", name := "hide", desc := "(II)I" } : Jvm.MethodName)) ∈ lw_all := lw_g (lw_at lw_m6 87 rfl) rfl
theorem q1408 : (Jvm.Cond.selects "GlassStreet" ({ cls := "GlassStreet", name := "hide", desc := "(II)I" } : Jvm.MethodName) ({ cls := "GlassStreet", name := "hide", desc := "(II)I" } : Jvm.MethodName)) ∈ lw_all := lw_g (lw_at lw_m6 88 rfl) rfl
theorem q1409 : (Jvm.Cond.code ({ cls := "GlassStreet", name := "hide", desc := "(II)I" } : Jvm.MethodName) prog_1_method_45_code (7 : Nat) (Option.some Jvm.ClassFile.FieldType.int)) ∈ lw_all := lw_g (lw_at lw_m6 89 rfl) rfl
theorem q1411 : (Jvm.Cond.instanceMethod ({ cls := "GlassStreet", name := "proof", desc := "(II)I" } : Jvm.MethodName)) ∈ lw_all := lw_g (lw_at lw_m6 91 rfl) rfl
theorem q1412 : (Jvm.Cond.selects "GlassStreet" ({ cls := "GlassStreet", name := "proof", desc := "(II)I" } : Jvm.MethodName) ({ cls := "GlassStreet", name := "proof", desc := "(II)I" } : Jvm.MethodName)) ∈ lw_all := lw_g (lw_at lw_m6 92 rfl) rfl
theorem q1413 : (Jvm.Cond.code ({ cls := "GlassStreet", name := "proof", desc := "(II)I" } : Jvm.MethodName) prog_1_method_46_code (7 : Nat) (Option.some Jvm.ClassFile.FieldType.int)) ∈ lw_all := lw_g (lw_at lw_m6 93 rfl) rfl
theorem q1414 : (Jvm.Cond.methodLink "GlassStreet" (287 : Nat) ({ cls := "java/lang/Integer", name := "bitCount", desc := "(I)I" } : Jvm.MethodName)) ∈ lw_all := lw_g (lw_at lw_m6 94 rfl) rfl
theorem q1421 : (Jvm.Cond.instanceMethod ({ cls := "GlassStreet", name := "washes", desc := "(II)I" } : Jvm.MethodName)) ∈ lw_all := lw_g (lw_at lw_m6 101 rfl) rfl
theorem q1422 : (Jvm.Cond.selects "GlassStreet" ({ cls := "GlassStreet", name := "washes", desc := "(II)I" } : Jvm.MethodName) ({ cls := "GlassStreet", name := "washes", desc := "(II)I" } : Jvm.MethodName)) ∈ lw_all := lw_g (lw_at lw_m6 102 rfl) rfl
theorem q1423 : (Jvm.Cond.code ({ cls := "GlassStreet", name := "washes", desc := "(II)I" } : Jvm.MethodName) prog_1_method_47_code (7 : Nat) (Option.some Jvm.ClassFile.FieldType.int)) ∈ lw_all := lw_g (lw_at lw_m6 103 rfl) rfl
theorem q1424 : (Jvm.Cond.methodLink "GlassStreet" (292 : Nat) ({ cls := "GlassStreet$Marks", name := "isOf", desc := "(III)Z" } : Jvm.MethodName)) ∈ lw_all := lw_g (lw_at lw_m6 104 rfl) rfl
theorem q1429 : (Jvm.Cond.instanceMethod ({ cls := "GlassStreet", name := "dark", desc := "(I)I" } : Jvm.MethodName)) ∈ lw_all := lw_g (lw_at lw_m6 109 rfl) rfl
theorem q1430 : (Jvm.Cond.selects "GlassStreet" ({ cls := "GlassStreet", name := "dark", desc := "(I)I" } : Jvm.MethodName) ({ cls := "GlassStreet", name := "dark", desc := "(I)I" } : Jvm.MethodName)) ∈ lw_all := lw_g (lw_at lw_m6 110 rfl) rfl
theorem q1431 : (Jvm.Cond.code ({ cls := "GlassStreet", name := "dark", desc := "(I)I" } : Jvm.MethodName) prog_1_method_48_code (6 : Nat) (Option.some Jvm.ClassFile.FieldType.int)) ∈ lw_all := lw_g (lw_at lw_m6 111 rfl) rfl
theorem q1433 : (Jvm.Cond.instanceMethod ({ cls := "GlassStreet", name := "say", desc := "(IZ)Z" } : Jvm.MethodName)) ∈ lw_all := lw_g (lw_at lw_m6 113 rfl) rfl
theorem q1434 : (Jvm.Cond.selects "GlassStreet" ({ cls := "GlassStreet", name := "say", desc := "(IZ)Z" } : Jvm.MethodName) ({ cls := "GlassStreet", name := "say", desc := "(IZ)Z" } : Jvm.MethodName)) ∈ lw_all := lw_g (lw_at lw_m6 114 rfl) rfl
theorem q1435 : (Jvm.Cond.code ({ cls := "GlassStreet", name := "say", desc := "(IZ)Z" } : Jvm.MethodName) prog_1_method_50_code (3 : Nat) (Option.some Jvm.ClassFile.FieldType.boolean)) ∈ lw_all := lw_g (lw_at lw_m6 115 rfl) rfl
theorem q1437 : (Jvm.Cond.instanceMethod ({ cls := "GlassStreet", name := "where", desc := "()I" } : Jvm.MethodName)) ∈ lw_all := lw_g (lw_at lw_m6 117 rfl) rfl
theorem q1438 : (Jvm.Cond.selects "GlassStreet" ({ cls := "GlassStreet", name := "where", desc := "()I" } : Jvm.MethodName) ({ cls := "GlassStreet", name := "where", desc := "()I" } : Jvm.MethodName)) ∈ lw_all := lw_g (lw_at lw_m6 118 rfl) rfl
theorem q1439 : (Jvm.Cond.code ({ cls := "GlassStreet", name := "where", desc := "()I" } : Jvm.MethodName) prog_1_method_51_code (5 : Nat) (Option.some Jvm.ClassFile.FieldType.int)) ∈ lw_all := lw_g (lw_at lw_m6 119 rfl) rfl
theorem q1441 : (Jvm.Cond.instanceMethod ({ cls := "GlassStreet", name := "ask", desc := "()I" } : Jvm.MethodName)) ∈ lw_all := lw_g (lw_at lw_m6 121 rfl) rfl
theorem q1442 : (Jvm.Cond.selects "GlassStreet" ({ cls := "GlassStreet", name := "ask", desc := "()I" } : Jvm.MethodName) ({ cls := "GlassStreet", name := "ask", desc := "()I" } : Jvm.MethodName)) ∈ lw_all := lw_g (lw_at lw_m6 122 rfl) rfl
theorem q1443 : (Jvm.Cond.code ({ cls := "GlassStreet", name := "ask", desc := "()I" } : Jvm.MethodName) prog_1_method_52_code (6 : Nat) (Option.some Jvm.ClassFile.FieldType.int)) ∈ lw_all := lw_g (lw_at lw_m6 123 rfl) rfl
theorem q1444 : (Jvm.Cond.methodLink "GlassStreet" (295 : Nat) ({ cls := "GlassStreet", name := "where", desc := "()I" } : Jvm.MethodName)) ∈ lw_all := lw_g (lw_at lw_m6 124 rfl) rfl
theorem q1446 : (Jvm.Cond.instanceMethod ({ cls := "GlassStreet", name := "glass", desc := "(I)I" } : Jvm.MethodName)) ∈ lw_all := lw_g (lw_at lw_m6 126 rfl) rfl
theorem q1447 : (Jvm.Cond.selects "GlassStreet" ({ cls := "GlassStreet", name := "glass", desc := "(I)I" } : Jvm.MethodName) ({ cls := "GlassStreet", name := "glass", desc := "(I)I" } : Jvm.MethodName)) ∈ lw_all := lw_g (lw_at lw_m6 127 rfl) rfl
theorem q1448 : (Jvm.Cond.code ({ cls := "GlassStreet", name := "glass", desc := "(I)I" } : Jvm.MethodName) prog_1_method_53_code (7 : Nat) (Option.some Jvm.ClassFile.FieldType.int)) ∈ lw_all := lw_g (lw_at lw_m6 128 rfl) rfl
theorem q1450 : (Jvm.Cond.instanceMethod ({ cls := "GlassStreet", name := "seen", desc := "(I)I" } : Jvm.MethodName)) ∈ lw_all := lw_g (lw_at lw_m6 130 rfl) rfl
theorem q1451 : (Jvm.Cond.selects "GlassStreet" ({ cls := "GlassStreet", name := "seen", desc := "(I)I" } : Jvm.MethodName) ({ cls := "GlassStreet", name := "seen", desc := "(I)I" } : Jvm.MethodName)) ∈ lw_all := lw_g (lw_at lw_m6 131 rfl) rfl
theorem q1452 : (Jvm.Cond.code ({ cls := "GlassStreet", name := "seen", desc := "(I)I" } : Jvm.MethodName) prog_1_method_54_code (2 : Nat) (Option.some Jvm.ClassFile.FieldType.int)) ∈ lw_all := lw_g (lw_at lw_m6 132 rfl) rfl
theorem q1454 : (Jvm.Cond.instanceMethod ({ cls := "GlassStreet", name := "eyes", desc := "()I" } : Jvm.MethodName)) ∈ lw_all := lw_g (lw_at lw_m6 134 rfl) rfl
theorem q1455 : (Jvm.Cond.selects "GlassStreet" ({ cls := "GlassStreet", name := "eyes", desc := "()I" } : Jvm.MethodName) ({ cls := "GlassStreet", name := "eyes", desc := "()I" } : Jvm.MethodName)) ∈ lw_all := lw_g (lw_at lw_m6 135 rfl) rfl
theorem q1456 : (Jvm.Cond.code ({ cls := "GlassStreet", name := "eyes", desc := "()I" } : Jvm.MethodName) prog_1_method_55_code (3 : Nat) (Option.some Jvm.ClassFile.FieldType.int)) ∈ lw_all := lw_g (lw_at lw_m6 136 rfl) rfl
theorem q1458 : (Jvm.Cond.instanceMethod ({ cls := "GlassStreet", name := "blind", desc := "()I" } : Jvm.MethodName)) ∈ lw_all := lw_g (lw_at lw_m6 138 rfl) rfl
theorem q1459 : (Jvm.Cond.selects "GlassStreet" ({ cls := "GlassStreet", name := "blind", desc := "()I" } : Jvm.MethodName) ({ cls := "GlassStreet", name := "blind", desc := "()I" } : Jvm.MethodName)) ∈ lw_all := lw_g (lw_at lw_m6 139 rfl) rfl
theorem q1460 : (Jvm.Cond.code ({ cls := "GlassStreet", name := "blind", desc := "()I" } : Jvm.MethodName) prog_1_method_56_code (3 : Nat) (Option.some Jvm.ClassFile.FieldType.int)) ∈ lw_all := lw_g (lw_at lw_m6 140 rfl) rfl
theorem q1462 : (Jvm.Cond.instanceMethod ({ cls := "GlassStreet", name := "young", desc := "(I)I" } : Jvm.MethodName)) ∈ lw_all := lw_g (lw_at lw_m6 142 rfl) rfl
theorem q1463 : (Jvm.Cond.selects "GlassStreet" ({ cls := "GlassStreet", name := "young", desc := "(I)I" } : Jvm.MethodName) ({ cls := "GlassStreet", name := "young", desc := "(I)I" } : Jvm.MethodName)) ∈ lw_all := lw_g (lw_at lw_m6 143 rfl) rfl
theorem q1464 : (Jvm.Cond.code ({ cls := "GlassStreet", name := "young", desc := "(I)I" } : Jvm.MethodName) prog_1_method_58_code (6 : Nat) (Option.some Jvm.ClassFile.FieldType.int)) ∈ lw_all := lw_g (lw_at lw_m6 144 rfl) rfl
theorem q1466 : (Jvm.Cond.instanceMethod ({ cls := "GlassStreet", name := "trail", desc := "(I)I" } : Jvm.MethodName)) ∈ lw_all := lw_g (lw_at lw_m6 146 rfl) rfl
theorem q1467 : (Jvm.Cond.selects "GlassStreet" ({ cls := "GlassStreet", name := "trail", desc := "(I)I" } : Jvm.MethodName) ({ cls := "GlassStreet", name := "trail", desc := "(I)I" } : Jvm.MethodName)) ∈ lw_all := lw_g (lw_at lw_m6 147 rfl) rfl
theorem q1468 : (Jvm.Cond.code ({ cls := "GlassStreet", name := "trail", desc := "(I)I" } : Jvm.MethodName) prog_1_method_59_code (5 : Nat) (Option.some Jvm.ClassFile.FieldType.int)) ∈ lw_all := lw_g (lw_at lw_m6 148 rfl) rfl
theorem q1469 : (Jvm.Cond.methodLink "GlassStreet" (298 : Nat) ({ cls := "GlassStreet", name := "isShownOf", desc := "(III)Z" } : Jvm.MethodName)) ∈ lw_all := lw_g (lw_at lw_m6 149 rfl) rfl
theorem q1470 : (Jvm.Cond.privateMethod ({ cls := "GlassStreet", name := "isShownOf", desc := "(III)Z" } : Jvm.MethodName)) ∈ lw_tbl := lw_at lw_m6 150 rfl
theorem q1471 : (Jvm.Cond.instanceMethod ({ cls := "GlassStreet", name := "isShownOf", desc := "(III)Z" } : Jvm.MethodName)) ∈ lw_all := lw_g (lw_at lw_m6 151 rfl) rfl
theorem q1472 : (Jvm.Cond.code ({ cls := "GlassStreet", name := "isShownOf", desc := "(III)Z" } : Jvm.MethodName) prog_1_method_57_code (4 : Nat) (Option.some Jvm.ClassFile.FieldType.boolean)) ∈ lw_all := lw_g (lw_at lw_m6 152 rfl) rfl
theorem q1474 : (Jvm.Cond.instanceMethod ({ cls := "GlassStreet", name := "last", desc := "(I)I" } : Jvm.MethodName)) ∈ lw_all := lw_g (lw_at lw_m6 154 rfl) rfl
theorem q1475 : (Jvm.Cond.selects "GlassStreet" ({ cls := "GlassStreet", name := "last", desc := "(I)I" } : Jvm.MethodName) ({ cls := "GlassStreet", name := "last", desc := "(I)I" } : Jvm.MethodName)) ∈ lw_all := lw_g (lw_at lw_m6 155 rfl) rfl
theorem q1476 : (Jvm.Cond.code ({ cls := "GlassStreet", name := "last", desc := "(I)I" } : Jvm.MethodName) prog_1_method_60_code (7 : Nat) (Option.some Jvm.ClassFile.FieldType.int)) ∈ lw_all := lw_g (lw_at lw_m6 156 rfl) rfl
theorem q1478 : (Jvm.Cond.instanceMethod ({ cls := "GlassStreet", name := "worst", desc := "()I" } : Jvm.MethodName)) ∈ lw_all := lw_g (lw_at lw_m6 158 rfl) rfl
theorem q1479 : (Jvm.Cond.selects "GlassStreet" ({ cls := "GlassStreet", name := "worst", desc := "()I" } : Jvm.MethodName) ({ cls := "GlassStreet", name := "worst", desc := "()I" } : Jvm.MethodName)) ∈ lw_all := lw_g (lw_at lw_m6 159 rfl) rfl
theorem q1480 : (Jvm.Cond.code ({ cls := "GlassStreet", name := "worst", desc := "()I" } : Jvm.MethodName) prog_1_method_61_code (5 : Nat) (Option.some Jvm.ClassFile.FieldType.int)) ∈ lw_all := lw_g (lw_at lw_m6 160 rfl) rfl
theorem q1482 : (Jvm.Cond.instanceMethod ({ cls := "GlassStreet", name := "oldest", desc := "()I" } : Jvm.MethodName)) ∈ lw_all := lw_g (lw_at lw_m6 162 rfl) rfl
theorem q1483 : (Jvm.Cond.selects "GlassStreet" ({ cls := "GlassStreet", name := "oldest", desc := "()I" } : Jvm.MethodName) ({ cls := "GlassStreet", name := "oldest", desc := "()I" } : Jvm.MethodName)) ∈ lw_all := lw_g (lw_at lw_m6 163 rfl) rfl
theorem q1484 : (Jvm.Cond.code ({ cls := "GlassStreet", name := "oldest", desc := "()I" } : Jvm.MethodName) prog_1_method_62_code (6 : Nat) (Option.some Jvm.ClassFile.FieldType.int)) ∈ lw_all := lw_g (lw_at lw_m6 164 rfl) rfl
theorem q1486 : (Jvm.Cond.instanceMethod ({ cls := "GlassStreet", name := "cloak", desc := "(II)I" } : Jvm.MethodName)) ∈ lw_all := lw_g (lw_at lw_m6 166 rfl) rfl
theorem q1487 : (Jvm.Cond.selects "GlassStreet" ({ cls := "GlassStreet", name := "cloak", desc := "(II)I" } : Jvm.MethodName) ({ cls := "GlassStreet", name := "cloak", desc := "(II)I" } : Jvm.MethodName)) ∈ lw_all := lw_g (lw_at lw_m6 167 rfl) rfl
theorem q1488 : (Jvm.Cond.code ({ cls := "GlassStreet", name := "cloak", desc := "(II)I" } : Jvm.MethodName) prog_1_method_63_code (6 : Nat) (Option.some Jvm.ClassFile.FieldType.int)) ∈ lw_all := lw_g (lw_at lw_m6 168 rfl) rfl
theorem q1490 : (Jvm.Cond.instanceMethod ({ cls := "GlassStreet", name := "twin", desc := "(II)I" } : Jvm.MethodName)) ∈ lw_all := lw_g (lw_at lw_m6 170 rfl) rfl
theorem q1491 : (Jvm.Cond.selects "GlassStreet" ({ cls := "GlassStreet", name := "twin", desc := "(II)I" } : Jvm.MethodName) ({ cls := "GlassStreet", name := "twin", desc := "(II)I" } : Jvm.MethodName)) ∈ lw_all := lw_g (lw_at lw_m6 171 rfl) rfl
theorem q1492 : (Jvm.Cond.code ({ cls := "GlassStreet", name := "twin", desc := "(II)I" } : Jvm.MethodName) prog_1_method_64_code (9 : Nat) (Option.some Jvm.ClassFile.FieldType.int)) ∈ lw_all := lw_g (lw_at lw_m6 172 rfl) rfl
theorem q1493 : (Jvm.Cond.methodLink "GlassStreet" (301 : Nat) ({ cls := "GlassStreet$Marks", name := "alike", desc := "(LGlassStreet$Marks;I)I" } : Jvm.MethodName)) ∈ lw_all := lw_g (lw_at lw_m6 173 rfl) rfl
theorem q1499 : (Jvm.Cond.instanceMethod ({ cls := "GlassStreet", name := "run", desc := "(I)I" } : Jvm.MethodName)) ∈ lw_all := lw_g (lw_at lw_m6 179 rfl) rfl
theorem q1500 : (Jvm.Cond.selects "GlassStreet" ({ cls := "GlassStreet", name := "run", desc := "(I)I" } : Jvm.MethodName) ({ cls := "GlassStreet", name := "run", desc := "(I)I" } : Jvm.MethodName)) ∈ lw_all := lw_g (lw_at lw_m6 180 rfl) rfl
theorem q1501 : (Jvm.Cond.code ({ cls := "GlassStreet", name := "run", desc := "(I)I" } : Jvm.MethodName) prog_1_method_65_code (3 : Nat) (Option.some Jvm.ClassFile.FieldType.int)) ∈ lw_all := lw_g (lw_at lw_m6 181 rfl) rfl
theorem q1503 : (Jvm.Cond.instanceMethod ({ cls := "GlassStreet", name := "years", desc := "(III)I" } : Jvm.MethodName)) ∈ lw_all := lw_g (lw_at lw_m6 183 rfl) rfl
theorem q1504 : (Jvm.Cond.selects "GlassStreet" ({ cls := "GlassStreet", name := "years", desc := "(III)I" } : Jvm.MethodName) ({ cls := "GlassStreet", name := "years", desc := "(III)I" } : Jvm.MethodName)) ∈ lw_all := lw_g (lw_at lw_m6 184 rfl) rfl
theorem q1505 : (Jvm.Cond.code ({ cls := "GlassStreet", name := "years", desc := "(III)I" } : Jvm.MethodName) prog_1_method_70_code (6 : Nat) (Option.some Jvm.ClassFile.FieldType.int)) ∈ lw_all := lw_g (lw_at lw_m6 185 rfl) rfl
theorem q1506 : (Jvm.Cond.methodLink "GlassStreet" (337 : Nat) ({ cls := "GlassStreet", name := "lives", desc := "(LGlassStreet$State;I)V" } : Jvm.MethodName)) ∈ lw_all := lw_g (lw_at lw_m6 186 rfl) rfl
theorem q1507 : (Jvm.Cond.privateMethod ({ cls := "GlassStreet", name := "lives", desc := "(LGlassStreet$State;I)V" } : Jvm.MethodName)) ∈ lw_tbl := lw_at lw_m6 187 rfl
theorem q1508 : (Jvm.Cond.instanceMethod ({ cls := "GlassStreet", name := "lives", desc := "(LGlassStreet$State;I)V" } : Jvm.MethodName)) ∈ lw_all := lw_g (lw_at lw_m6 188 rfl) rfl
theorem q1509 : (Jvm.Cond.code ({ cls := "GlassStreet", name := "lives", desc := "(LGlassStreet$State;I)V" } : Jvm.MethodName) prog_1_method_69_code (4 : Nat) (Option.none : Option Jvm.ClassFile.FieldType)) ∈ lw_all := lw_g (lw_at lw_m6 189 rfl) rfl
theorem q1510 : (Jvm.Cond.methodLink "GlassStreet" (325 : Nat) ({ cls := "GlassStreet", name := "draws", desc := "(I)I" } : Jvm.MethodName)) ∈ lw_all := lw_g (lw_at lw_m6 190 rfl) rfl
theorem q1511 : (Jvm.Cond.privateMethod ({ cls := "GlassStreet", name := "draws", desc := "(I)I" } : Jvm.MethodName)) ∈ lw_tbl := lw_at lw_m6 191 rfl
theorem q1512 : (Jvm.Cond.instanceMethod ({ cls := "GlassStreet", name := "draws", desc := "(I)I" } : Jvm.MethodName)) ∈ lw_all := lw_g (lw_at lw_m6 192 rfl) rfl
theorem q1513 : (Jvm.Cond.code ({ cls := "GlassStreet", name := "draws", desc := "(I)I" } : Jvm.MethodName) prog_1_method_68_code (2 : Nat) (Option.some Jvm.ClassFile.FieldType.int)) ∈ lw_all := lw_g (lw_at lw_m6 193 rfl) rfl
theorem q1514 : (Jvm.Cond.constantLong "GlassStreet" (317 : Nat) (1103515245 : Int64)) ∈ lw_all := lw_g (lw_at lw_m6 194 rfl) rfl
theorem q1515 : (Jvm.Cond.constantLong "GlassStreet" (319 : Nat) (12345 : Int64)) ∈ lw_all := lw_g (lw_at lw_m6 195 rfl) rfl
theorem q1516 : (Jvm.Cond.constantLong "GlassStreet" (321 : Nat) (2147483648 : Int64)) ∈ lw_all := lw_g (lw_at lw_m6 196 rfl) rfl
theorem q1517 : (Jvm.Cond.constantLong "GlassStreet" (323 : Nat) (65536 : Int64)) ∈ lw_all := lw_g (lw_at lw_m6 197 rfl) rfl
theorem q1518 : (Jvm.Cond.methodLink "GlassStreet" (328 : Nat) ({ cls := "java/lang/Math", name := "min", desc := "(II)I" } : Jvm.MethodName)) ∈ lw_all := lw_g (lw_at lw_m6 198 rfl) rfl
theorem q1520 : (Jvm.Cond.instanceMethod ({ cls := "GlassStreet", name := "notch", desc := "(IZ)Z" } : Jvm.MethodName)) ∈ lw_all := lw_g (lw_at lw_m6 200 rfl) rfl
theorem q1521 : (Jvm.Cond.selects "GlassStreet" ({ cls := "GlassStreet", name := "notch", desc := "(IZ)Z" } : Jvm.MethodName) ({ cls := "GlassStreet", name := "notch", desc := "(IZ)Z" } : Jvm.MethodName)) ∈ lw_all := lw_g (lw_at lw_m6 201 rfl) rfl
theorem q1522 : (Jvm.Cond.code ({ cls := "GlassStreet", name := "notch", desc := "(IZ)Z" } : Jvm.MethodName) prog_1_method_71_code (4 : Nat) (Option.some Jvm.ClassFile.FieldType.boolean)) ∈ lw_all := lw_g (lw_at lw_m6 202 rfl) rfl
theorem q1524 : (Jvm.Cond.methodLinkNest "GlassStreet" (341 : Nat) ({ cls := "GlassStreet$Notch", name := "<init>", desc := "()V" } : Jvm.MethodName) "GlassStreet") ∈ lw_tbl := lw_at lw_m6 204 rfl
theorem q1531 : (Jvm.Cond.fieldLinkNest "GlassStreet" (342 : Nat) "GlassStreet$Notch" "state" "LGlassStreet$State;" "GlassStreet") ∈ lw_tbl := lw_at lw_m6 211 rfl
theorem q1533 : (Jvm.Cond.fieldLinkNest "GlassStreet" (343 : Nat) "GlassStreet$Notch" "said" "[I" "GlassStreet") ∈ lw_tbl := lw_at lw_m6 213 rfl
theorem q1539 : (Jvm.Cond.methodLink "GlassStreet" (344 : Nat) ({ cls := "GlassStreet", name := "copies", desc := "([I[I)V" } : Jvm.MethodName)) ∈ lw_all := lw_g (lw_at lw_m6 219 rfl) rfl
theorem q1541 : (Jvm.Cond.instanceMethod ({ cls := "GlassStreet", name := "count", desc := "(I)I" } : Jvm.MethodName)) ∈ lw_all := lw_g (lw_at lw_m6 221 rfl) rfl
theorem q1542 : (Jvm.Cond.selects "GlassStreet" ({ cls := "GlassStreet", name := "count", desc := "(I)I" } : Jvm.MethodName) ({ cls := "GlassStreet", name := "count", desc := "(I)I" } : Jvm.MethodName)) ∈ lw_all := lw_g (lw_at lw_m6 222 rfl) rfl
theorem q1543 : (Jvm.Cond.code ({ cls := "GlassStreet", name := "count", desc := "(I)I" } : Jvm.MethodName) prog_1_method_74_code (2 : Nat) (Option.some Jvm.ClassFile.FieldType.int)) ∈ lw_all := lw_g (lw_at lw_m6 223 rfl) rfl
theorem q1544 : (Jvm.Cond.methodLink "GlassStreet" (348 : Nat) ({ cls := "GlassStreet", name := "allMarks", desc := "()I" } : Jvm.MethodName)) ∈ lw_all := lw_g (lw_at lw_m6 224 rfl) rfl
theorem q1545 : (Jvm.Cond.privateMethod ({ cls := "GlassStreet", name := "allMarks", desc := "()I" } : Jvm.MethodName)) ∈ lw_tbl := lw_at lw_m6 225 rfl
theorem q1546 : (Jvm.Cond.instanceMethod ({ cls := "GlassStreet", name := "allMarks", desc := "()I" } : Jvm.MethodName)) ∈ lw_all := lw_g (lw_at lw_m6 226 rfl) rfl
theorem q1547 : (Jvm.Cond.code ({ cls := "GlassStreet", name := "allMarks", desc := "()I" } : Jvm.MethodName) prog_1_method_72_code (3 : Nat) (Option.some Jvm.ClassFile.FieldType.int)) ∈ lw_all := lw_g (lw_at lw_m6 227 rfl) rfl
theorem q1548 : (Jvm.Cond.methodLink "GlassStreet" (351 : Nat) ({ cls := "GlassStreet", name := "saidMany", desc := "()I" } : Jvm.MethodName)) ∈ lw_all := lw_g (lw_at lw_m6 228 rfl) rfl
theorem q1549 : (Jvm.Cond.privateMethod ({ cls := "GlassStreet", name := "saidMany", desc := "()I" } : Jvm.MethodName)) ∈ lw_tbl := lw_at lw_m6 229 rfl
theorem q1550 : (Jvm.Cond.instanceMethod ({ cls := "GlassStreet", name := "saidMany", desc := "()I" } : Jvm.MethodName)) ∈ lw_all := lw_g (lw_at lw_m6 230 rfl) rfl
theorem q1551 : (Jvm.Cond.code ({ cls := "GlassStreet", name := "saidMany", desc := "()I" } : Jvm.MethodName) prog_1_method_73_code (3 : Nat) (Option.some Jvm.ClassFile.FieldType.int)) ∈ lw_all := lw_g (lw_at lw_m6 231 rfl) rfl
theorem q1557 : (Jvm.Cond.instanceMethod ({ cls := "GlassStreet", name := "rests", desc := "(IIII)I" } : Jvm.MethodName)) ∈ lw_all := lw_g (lw_at lw_m6 237 rfl) rfl
theorem q1558 : (Jvm.Cond.selects "GlassStreet" ({ cls := "GlassStreet", name := "rests", desc := "(IIII)I" } : Jvm.MethodName) ({ cls := "GlassStreet", name := "rests", desc := "(IIII)I" } : Jvm.MethodName)) ∈ lw_all := lw_g (lw_at lw_m6 238 rfl) rfl
theorem q1559 : (Jvm.Cond.code ({ cls := "GlassStreet", name := "rests", desc := "(IIII)I" } : Jvm.MethodName) prog_1_method_67_code (9 : Nat) (Option.some Jvm.ClassFile.FieldType.int)) ∈ lw_all := lw_g (lw_at lw_m6 239 rfl) rfl
theorem q1560 : (Jvm.Cond.methodLink "GlassStreet" (305 : Nat) ({ cls := "GlassStreet", name := "need", desc := "(Z)V" } : Jvm.MethodName)) ∈ lw_all := lw_g (lw_at lw_m7 0 rfl) rfl
theorem q1561 : (Jvm.Cond.static ({ cls := "GlassStreet", name := "need", desc := "(Z)V" } : Jvm.MethodName)) ∈ lw_all := lw_g (lw_at lw_m7 1 rfl) rfl
theorem q1562 : (Jvm.Cond.code ({ cls := "GlassStreet", name := "need", desc := "(Z)V" } : Jvm.MethodName) prog_1_method_3_code (1 : Nat) (Option.none : Option Jvm.ClassFile.FieldType)) ∈ lw_all := lw_g (lw_at lw_m7 2 rfl) rfl
theorem q1563 : (Jvm.Cond.classLink "GlassStreet" (1 : Nat) "java/util/NoSuchElementException") ∈ lw_all := lw_g (lw_at lw_m7 3 rfl) rfl
theorem q1572 : (Jvm.Cond.methodLink "GlassStreet" (3 : Nat) ({ cls := "java/util/NoSuchElementException", name := "<init>", desc := "()V" } : Jvm.MethodName)) ∈ lw_all := lw_g (lw_at lw_m7 12 rfl) rfl
theorem q1584 : (Jvm.Cond.methodLink "GlassStreet" (309 : Nat) ({ cls := "GlassStreet", name := "gets", desc := "(IIIII)I" } : Jvm.MethodName)) ∈ lw_all := lw_g (lw_at lw_m7 24 rfl) rfl
theorem q1585 : (Jvm.Cond.static ({ cls := "GlassStreet", name := "gets", desc := "(IIIII)I" } : Jvm.MethodName)) ∈ lw_all := lw_g (lw_at lw_m7 25 rfl) rfl
theorem q1586 : (Jvm.Cond.code ({ cls := "GlassStreet", name := "gets", desc := "(IIIII)I" } : Jvm.MethodName) prog_1_method_66_code (5 : Nat) (Option.some Jvm.ClassFile.FieldType.int)) ∈ lw_all := lw_g (lw_at lw_m7 26 rfl) rfl
theorem q2200 : (Jvm.Cond.castable "GlassStreet" "java/lang/Object") ∈ lw_tbl := lw_at lw_m9 160 rfl
theorem in_X1 : ∀ w ∈ wsX10, w ∈ lw_all := lw_in wsX10 [362, 364, 366, 368, 370, 372, 374, 376, 378, 380, 382, 384, 386, 388, 390] (by decide +kernel) (by decide +kernel)
