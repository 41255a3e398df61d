/-! LinkTimesLaw -/
set_option maxRecDepth 100000
def RX0 : String := "LinkTimesLaw"
abbrev cX0_still : ByteArray := method_3_code
def yX0_still : MethodName := ⟨RX0, "still", "(LLinkTimes;I[J)I"⟩
def dkwX0_still_0 : List UInt8 := [44, 3, 42, 27, 182, 0, 7, 133, 80, 167, 0, 6, 78, 4, 172, 3, 172]
abbrev dktX0_still_0 : List UInt8 := dkwX0_still_0 ++ []
theorem dksX0_still_0 : cX0_still.data.toList.drop 0 = dktX0_still_0 := by decide +kernel
theorem dX0_still_0 : decode cX0_still 0 = .ok (.aload_n 2, 1) := dk_44 (dk_at dksX0_still_0 0 rfl rfl)
theorem dX0_still_1 : decode cX0_still 1 = .ok (.iconst 0, 1) := dk_3 (dk_at dksX0_still_0 1 rfl rfl)
theorem dX0_still_2 : decode cX0_still 2 = .ok (.aload_n 0, 1) := dk_42 (dk_at dksX0_still_0 2 rfl rfl)
theorem dX0_still_3 : decode cX0_still 3 = .ok (.iload_n 1, 1) := dk_27 (dk_at dksX0_still_0 3 rfl rfl)
theorem dX0_still_4 : decode cX0_still 4 = .ok (.invokevirtual 7, 3) := dk_182 0 7 (dk_at dksX0_still_0 4 rfl rfl)
theorem dX0_still_7 : decode cX0_still 7 = .ok (.i2l, 1) := dk_133 (dk_at dksX0_still_0 7 rfl rfl)
theorem dX0_still_8 : decode cX0_still 8 = .ok (.lastore, 1) := dk_80 (dk_at dksX0_still_0 8 rfl rfl)
theorem dX0_still_9 : decode cX0_still 9 = .ok (.goto 6, 3) := dk_167 0 6 (dk_at dksX0_still_0 9 rfl rfl)
theorem dX0_still_12 : decode cX0_still 12 = .ok (.astore_n 3, 1) := dk_78 (dk_at dksX0_still_0 12 rfl rfl)
theorem dX0_still_13 : decode cX0_still 13 = .ok (.iconst 1, 1) := dk_4 (dk_at dksX0_still_0 13 rfl rfl)
theorem dX0_still_14 : decode cX0_still 14 = .ok (.ireturn, 1) := dk_172 (dk_at dksX0_still_0 14 rfl rfl)
theorem dX0_still_15 : decode cX0_still 15 = .ok (.iconst 0, 1) := dk_3 (dk_at dksX0_still_0 15 rfl rfl)
theorem dX0_still_16 : decode cX0_still 16 = .ok (.ireturn, 1) := dk_172 (dk_at dksX0_still_0 16 rfl rfl)
theorem q127 : (Jvm.Cond.initialized "LinkTimesLaw") ∈ lw_all := lw_g (lw_at lw_m1 0 rfl) rfl
theorem q171 : (Jvm.Cond.classLink "LinkTimesLaw" (8 : Nat) "LinkTimes") ∈ lw_all := lw_g (lw_at lw_m1 44 rfl) rfl
theorem q173 : (Jvm.Cond.methodLink "LinkTimesLaw" (15 : Nat) ({ cls := "LinkTimes", name := "<init>", desc := "()V" } : Jvm.MethodName)) ∈ lw_all := lw_g (lw_at lw_m1 46 rfl) rfl
theorem q362 : (Jvm.Cond.methodLink "LinkTimesLaw" (19 : Nat) ({ cls := "LinkTimes", name := "feed", desc := "(IIIII)I" } : Jvm.MethodName)) ∈ lw_all := lw_g (lw_at lw_m1 235 rfl) rfl
theorem q370 : (Jvm.Cond.methodLink "LinkTimesLaw" (24 : Nat) ({ cls := "LinkTimes", name := "desk", desc := "(I)I" } : Jvm.MethodName)) ∈ lw_all := lw_g (lw_at lw_m2 3 rfl) rfl
theorem q1215 : (Jvm.Cond.methodLink "LinkTimesLaw" (28 : Nat) ({ cls := "LinkTimes", name := "fault", desc := "()I" } : Jvm.MethodName)) ∈ lw_all := lw_g (lw_at lw_m5 128 rfl) rfl
theorem q1219 : (Jvm.Cond.methodLink "LinkTimesLaw" (33 : Nat) ({ cls := "LinkTimes", name := "where", desc := "()I" } : Jvm.MethodName)) ∈ lw_all := lw_g (lw_at lw_m5 132 rfl) rfl
theorem q1223 : (Jvm.Cond.methodLink "LinkTimesLaw" (37 : Nat) ({ cls := "LinkTimes", name := "about", desc := "(I)I" } : Jvm.MethodName)) ∈ lw_all := lw_g (lw_at lw_m5 136 rfl) rfl
theorem q1238 : (Jvm.Cond.methodLink "LinkTimesLaw" (41 : Nat) ({ cls := "LinkTimes", name := "spot", desc := "(II)I" } : Jvm.MethodName)) ∈ lw_all := lw_g (lw_at lw_m5 151 rfl) rfl
theorem q1251 : (Jvm.Cond.methodLink "LinkTimesLaw" (46 : Nat) ({ cls := "LinkTimes", name := "departure", desc := "(II)I" } : Jvm.MethodName)) ∈ lw_all := lw_g (lw_at lw_m5 164 rfl) rfl
theorem q1265 : (Jvm.Cond.methodLink "LinkTimesLaw" (50 : Nat) ({ cls := "LinkTimes", name := "ordered", desc := "(I)I" } : Jvm.MethodName)) ∈ lw_all := lw_g (lw_at lw_m5 178 rfl) rfl
theorem q1330 : (Jvm.Cond.methodLink "LinkTimesLaw" (54 : Nat) ({ cls := "LinkTimes", name := "arrives", desc := "(III)I" } : Jvm.MethodName)) ∈ lw_all := lw_g (lw_at lw_m6 3 rfl) rfl
theorem q1376 : (Jvm.Cond.methodLink "LinkTimesLaw" (59 : Nat) ({ cls := "LinkTimes", name := "changes", desc := "(III)I" } : Jvm.MethodName)) ∈ lw_all := lw_g (lw_at lw_m6 49 rfl) rfl
theorem q1405 : (Jvm.Cond.methodLink "LinkTimesLaw" (63 : Nat) ({ cls := "LinkTimes", name := "leaves", desc := "(III)I" } : Jvm.MethodName)) ∈ lw_all := lw_g (lw_at lw_m6 78 rfl) rfl
theorem q1409 : (Jvm.Cond.methodLink "LinkTimesLaw" (67 : Nat) ({ cls := "LinkTimes", name := "rides", desc := "(III)I" } : Jvm.MethodName)) ∈ lw_all := lw_g (lw_at lw_m6 82 rfl) rfl
theorem q1413 : (Jvm.Cond.methodLink "LinkTimesLaw" (71 : Nat) ({ cls := "LinkTimes", name := "ride", desc := "(IIII)I" } : Jvm.MethodName)) ∈ lw_all := lw_g (lw_at lw_m6 86 rfl) rfl
theorem q1417 : (Jvm.Cond.methodLink "LinkTimesLaw" (76 : Nat) ({ cls := "LinkTimes", name := "stands", desc := "(III)I" } : Jvm.MethodName)) ∈ lw_all := lw_g (lw_at lw_m6 90 rfl) rfl
theorem q1421 : (Jvm.Cond.methodLink "LinkTimesLaw" (80 : Nat) ({ cls := "LinkTimes", name := "trades", desc := "(III)I" } : Jvm.MethodName)) ∈ lw_all := lw_g (lw_at lw_m6 94 rfl) rfl
theorem q1431 : (Jvm.Cond.methodLink "LinkTimesLaw" (84 : Nat) ({ cls := "LinkTimes", name := "trade", desc := "(IIIII)I" } : Jvm.MethodName)) ∈ lw_all := lw_g (lw_at lw_m6 104 rfl) rfl
theorem q1436 : (Jvm.Cond.methodLink "LinkTimesLaw" (88 : Nat) ({ cls := "LinkTimes", name := "within", desc := "(IIII)I" } : Jvm.MethodName)) ∈ lw_all := lw_g (lw_at lw_m6 109 rfl) rfl
theorem q1440 : (Jvm.Cond.methodLink "LinkTimesLaw" (92 : Nat) ({ cls := "LinkTimes", name := "latest", desc := "(III)I" } : Jvm.MethodName)) ∈ lw_all := lw_g (lw_at lw_m6 113 rfl) rfl
theorem q1453 : (Jvm.Cond.methodLink "LinkTimesLaw" (96 : Nat) ({ cls := "LinkTimes", name := "reach", desc := "(III)I" } : Jvm.MethodName)) ∈ lw_all := lw_g (lw_at lw_m6 126 rfl) rfl
theorem q1457 : (Jvm.Cond.methodLink "LinkTimesLaw" (100 : Nat) ({ cls := "LinkTimes", name := "farthest", desc := "(II)I" } : Jvm.MethodName)) ∈ lw_all := lw_g (lw_at lw_m6 130 rfl) rfl
theorem q1461 : (Jvm.Cond.methodLink "LinkTimesLaw" (104 : Nat) ({ cls := "LinkTimes", name := "meets", desc := "(III)I" } : Jvm.MethodName)) ∈ lw_all := lw_g (lw_at lw_m6 134 rfl) rfl
theorem q1466 : (Jvm.Cond.methodLink "LinkTimesLaw" (108 : Nat) ({ cls := "LinkTimes", name := "round", desc := "(IIII)I" } : Jvm.MethodName)) ∈ lw_all := lw_g (lw_at lw_m6 139 rfl) rfl
theorem q1470 : (Jvm.Cond.methodLink "LinkTimesLaw" (112 : Nat) ({ cls := "LinkTimes", name := "steps", desc := "(II)I" } : Jvm.MethodName)) ∈ lw_all := lw_g (lw_at lw_m6 143 rfl) rfl
theorem q1483 : (Jvm.Cond.methodLink "LinkTimesLaw" (116 : Nat) ({ cls := "LinkTimes", name := "step", desc := "(IIII)I" } : Jvm.MethodName)) ∈ lw_all := lw_g (lw_at lw_m6 156 rfl) rfl
theorem q1493 : (Jvm.Cond.methodLink "LinkTimesLaw" (120 : Nat) ({ cls := "LinkTimes", name := "quickest", desc := "(II)I" } : Jvm.MethodName)) ∈ lw_all := lw_g (lw_at lw_m6 166 rfl) rfl
theorem q1497 : (Jvm.Cond.methodLink "LinkTimesLaw" (124 : Nat) ({ cls := "LinkTimes", name := "spent", desc := "(IIII)I" } : Jvm.MethodName)) ∈ lw_all := lw_g (lw_at lw_m6 170 rfl) rfl
theorem q1501 : (Jvm.Cond.methodLink "LinkTimesLaw" (128 : Nat) ({ cls := "LinkTimes", name := "others", desc := "(III)I" } : Jvm.MethodName)) ∈ lw_all := lw_g (lw_at lw_m6 174 rfl) rfl
theorem q1517 : (Jvm.Cond.methodLink "LinkTimesLaw" (132 : Nat) ({ cls := "LinkTimes", name := "other", desc := "(IIII)I" } : Jvm.MethodName)) ∈ lw_all := lw_g (lw_at lw_m6 190 rfl) rfl
theorem q1521 : (Jvm.Cond.methodLink "LinkTimesLaw" (136 : Nat) ({ cls := "LinkTimes", name := "pairs", desc := "(I)I" } : Jvm.MethodName)) ∈ lw_all := lw_g (lw_at lw_m6 194 rfl) rfl
theorem q1538 : (Jvm.Cond.methodLink "LinkTimesLaw" (140 : Nat) ({ cls := "LinkTimes", name := "hub", desc := "(I)I" } : Jvm.MethodName)) ∈ lw_all := lw_g (lw_at lw_m6 211 rfl) rfl
theorem q1542 : (Jvm.Cond.methodLink "LinkTimesLaw" (144 : Nat) ({ cls := "LinkTimes", name := "slowest", desc := "(I)I" } : Jvm.MethodName)) ∈ lw_all := lw_g (lw_at lw_m6 215 rfl) rfl
theorem q1546 : (Jvm.Cond.methodLink "LinkTimesLaw" (148 : Nat) ({ cls := "LinkTimes", name := "needs", desc := "(IIII)I" } : Jvm.MethodName)) ∈ lw_all := lw_g (lw_at lw_m6 219 rfl) rfl
theorem q1558 : (Jvm.Cond.methodLink "LinkTimesLaw" (152 : Nat) ({ cls := "LinkTimes", name := "vital", desc := "(III)I" } : Jvm.MethodName)) ∈ lw_all := lw_g (lw_at lw_m6 231 rfl) rfl
theorem q1562 : (Jvm.Cond.methodLink "LinkTimesLaw" (156 : Nat) ({ cls := "LinkTimes", name := "slack", desc := "(IIII)I" } : Jvm.MethodName)) ∈ lw_all := lw_g (lw_at lw_m6 235 rfl) rfl
theorem q1566 : (Jvm.Cond.methodLink "LinkTimesLaw" (160 : Nat) ({ cls := "LinkTimes", name := "why", desc := "(IIII)I" } : Jvm.MethodName)) ∈ lw_all := lw_g (lw_at lw_m6 239 rfl) rfl
theorem q1602 : (Jvm.Cond.methodLink "LinkTimesLaw" (164 : Nat) ({ cls := "LinkTimes", name := "cancel", desc := "(I)I" } : Jvm.MethodName)) ∈ lw_all := lw_g (lw_at lw_m7 35 rfl) rfl
theorem q1705 : (Jvm.Cond.methodLink "LinkTimesLaw" (168 : Nat) ({ cls := "LinkTimes", name := "run", desc := "(I)I" } : Jvm.MethodName)) ∈ lw_all := lw_g (lw_at lw_m7 138 rfl) rfl
theorem q1709 : (Jvm.Cond.methodLink "LinkTimesLaw" (172 : Nat) ({ cls := "LinkTimes", name := "delay", desc := "(II)I" } : Jvm.MethodName)) ∈ lw_all := lw_g (lw_at lw_m7 142 rfl) rfl
theorem q1717 : (Jvm.Cond.methodLink "LinkTimesLaw" (176 : Nat) ({ cls := "LinkTimes", name := "change", desc := "(II)I" } : Jvm.MethodName)) ∈ lw_all := lw_g (lw_at lw_m7 150 rfl) rfl
theorem q1721 : (Jvm.Cond.methodLink "LinkTimesLaw" (180 : Nat) ({ cls := "LinkTimes", name := "hold", desc := "(II)I" } : Jvm.MethodName)) ∈ lw_all := lw_g (lw_at lw_m7 154 rfl) rfl
theorem q1725 : (Jvm.Cond.methodLink "LinkTimesLaw" (184 : Nat) ({ cls := "LinkTimes", name := "extra", desc := "(IIIII)I" } : Jvm.MethodName)) ∈ lw_all := lw_g (lw_at lw_m7 158 rfl) rfl
theorem q1731 : (Jvm.Cond.methodLink "LinkTimesLaw" (188 : Nat) ({ cls := "LinkTimes", name := "undo", desc := "()Z" } : Jvm.MethodName)) ∈ lw_all := lw_g (lw_at lw_m7 164 rfl) rfl
theorem q1771 : (Jvm.Cond.methodLink "LinkTimesLaw" (202 : Nat) ({ cls := "LinkTimes", name := "size", desc := "(I)I" } : Jvm.MethodName)) ∈ lw_all := lw_g (lw_at lw_m7 204 rfl) rfl
theorem q1779 : (Jvm.Cond.methodLink "LinkTimesLaw" (206 : Nat) ({ cls := "LinkTimes", name := "trouble", desc := "()I" } : Jvm.MethodName)) ∈ lw_all := lw_g (lw_at lw_m7 212 rfl) rfl
theorem q1783 : (Jvm.Cond.methodLink "LinkTimesLaw" (193 : Nat) ({ cls := "LinkTimesLaw", name := "still", desc := "(LLinkTimes;I[J)I" } : Jvm.MethodName)) ∈ lw_all := lw_g (lw_at lw_m7 216 rfl) rfl
theorem q1784 : (Jvm.Cond.static ({ cls := "LinkTimesLaw", name := "still", desc := "(LLinkTimes;I[J)I" } : Jvm.MethodName)) ∈ lw_all := lw_g (lw_at lw_m7 217 rfl) rfl
theorem q1785 : (Jvm.Cond.codeWith ({ cls := "LinkTimesLaw", name := "still", desc := "(LLinkTimes;I[J)I" } : Jvm.MethodName) method_3_code (4 : Nat) (Option.some Jvm.ClassFile.FieldType.int) [((0 : Nat), (9 : Nat), (12 : Nat), (13 : Nat))]) ∈ lw_all := lw_g (lw_at lw_m7 218 rfl) rfl
theorem q1786 : (Jvm.Cond.classLink "LinkTimesLaw" (13 : Nat) "java/util/NoSuchElementException") ∈ lw_all := lw_g (lw_at lw_m7 219 rfl) rfl
theorem q1787 : (Jvm.Cond.methodLink "LinkTimesLaw" (7 : Nat) ({ cls := "LinkTimes", name := "still", desc := "(I)I" } : Jvm.MethodName)) ∈ lw_all := lw_g (lw_at lw_m7 220 rfl) rfl
theorem q1793 : (Jvm.Cond.classLink "LinkTimesLaw" (16 : Nat) "LinkTimesModel") ∈ lw_all := lw_g (lw_at lw_m7 226 rfl) rfl
theorem q1795 : (Jvm.Cond.methodLink "LinkTimesLaw" (18 : Nat) ({ cls := "LinkTimesModel", name := "<init>", desc := "()V" } : Jvm.MethodName)) ∈ lw_all := lw_g (lw_at lw_m7 228 rfl) rfl
theorem q1927 : (Jvm.Cond.methodLink "LinkTimesLaw" (199 : Nat) ({ cls := "LinkTimesModel", name := "thrown", desc := "()I" } : Jvm.MethodName)) ∈ lw_all := lw_g (lw_at lw_m8 120 rfl) rfl
theorem q1931 : (Jvm.Cond.methodLink "LinkTimesLaw" (23 : Nat) ({ cls := "LinkTimesModel", name := "feed", desc := "(IIIII)I" } : Jvm.MethodName)) ∈ lw_all := lw_g (lw_at lw_m8 124 rfl) rfl
theorem q1939 : (Jvm.Cond.methodLink "LinkTimesLaw" (27 : Nat) ({ cls := "LinkTimesModel", name := "desk", desc := "(I)I" } : Jvm.MethodName)) ∈ lw_all := lw_g (lw_at lw_m8 132 rfl) rfl
theorem q2057 : (Jvm.Cond.methodLink "LinkTimesLaw" (32 : Nat) ({ cls := "LinkTimesModel", name := "fault", desc := "()I" } : Jvm.MethodName)) ∈ lw_all := lw_g (lw_at lw_m9 10 rfl) rfl
theorem q2061 : (Jvm.Cond.methodLink "LinkTimesLaw" (36 : Nat) ({ cls := "LinkTimesModel", name := "where", desc := "()I" } : Jvm.MethodName)) ∈ lw_all := lw_g (lw_at lw_m9 14 rfl) rfl
theorem q2065 : (Jvm.Cond.methodLink "LinkTimesLaw" (40 : Nat) ({ cls := "LinkTimesModel", name := "about", desc := "(I)I" } : Jvm.MethodName)) ∈ lw_all := lw_g (lw_at lw_m9 18 rfl) rfl
theorem q2080 : (Jvm.Cond.methodLink "LinkTimesLaw" (45 : Nat) ({ cls := "LinkTimesModel", name := "spot", desc := "(II)I" } : Jvm.MethodName)) ∈ lw_all := lw_g (lw_at lw_m9 33 rfl) rfl
theorem q2092 : (Jvm.Cond.methodLink "LinkTimesLaw" (49 : Nat) ({ cls := "LinkTimesModel", name := "departure", desc := "(II)I" } : Jvm.MethodName)) ∈ lw_all := lw_g (lw_at lw_m9 45 rfl) rfl
theorem q2108 : (Jvm.Cond.methodLink "LinkTimesLaw" (53 : Nat) ({ cls := "LinkTimesModel", name := "ordered", desc := "(I)I" } : Jvm.MethodName)) ∈ lw_all := lw_g (lw_at lw_m9 61 rfl) rfl
theorem q2112 : (Jvm.Cond.methodLink "LinkTimesLaw" (58 : Nat) ({ cls := "LinkTimesModel", name := "arrives", desc := "(III)I" } : Jvm.MethodName)) ∈ lw_all := lw_g (lw_at lw_m9 65 rfl) rfl
theorem q2159 : (Jvm.Cond.methodLink "LinkTimesLaw" (62 : Nat) ({ cls := "LinkTimesModel", name := "changes", desc := "(III)I" } : Jvm.MethodName)) ∈ lw_all := lw_g (lw_at lw_m9 112 rfl) rfl
theorem q2167 : (Jvm.Cond.methodLink "LinkTimesLaw" (66 : Nat) ({ cls := "LinkTimesModel", name := "leaves", desc := "(III)I" } : Jvm.MethodName)) ∈ lw_all := lw_g (lw_at lw_m9 120 rfl) rfl
theorem q2171 : (Jvm.Cond.methodLink "LinkTimesLaw" (70 : Nat) ({ cls := "LinkTimesModel", name := "rides", desc := "(III)I" } : Jvm.MethodName)) ∈ lw_all := lw_g (lw_at lw_m9 124 rfl) rfl
theorem q2175 : (Jvm.Cond.methodLink "LinkTimesLaw" (75 : Nat) ({ cls := "LinkTimesModel", name := "ride", desc := "(IIII)I" } : Jvm.MethodName)) ∈ lw_all := lw_g (lw_at lw_m9 128 rfl) rfl
theorem q2179 : (Jvm.Cond.methodLink "LinkTimesLaw" (91 : Nat) ({ cls := "LinkTimesModel", name := "within", desc := "(IIII)I" } : Jvm.MethodName)) ∈ lw_all := lw_g (lw_at lw_m9 132 rfl) rfl
theorem q2195 : (Jvm.Cond.methodLink "LinkTimesLaw" (83 : Nat) ({ cls := "LinkTimesModel", name := "trades", desc := "(III)I" } : Jvm.MethodName)) ∈ lw_all := lw_g (lw_at lw_m9 148 rfl) rfl
theorem q2203 : (Jvm.Cond.methodLink "LinkTimesLaw" (87 : Nat) ({ cls := "LinkTimesModel", name := "trade", desc := "(IIIII)I" } : Jvm.MethodName)) ∈ lw_all := lw_g (lw_at lw_m9 156 rfl) rfl
theorem q2211 : (Jvm.Cond.methodLink "LinkTimesLaw" (79 : Nat) ({ cls := "LinkTimesModel", name := "stands", desc := "(III)I" } : Jvm.MethodName)) ∈ lw_all := lw_g (lw_at lw_m9 164 rfl) rfl
theorem q2215 : (Jvm.Cond.methodLink "LinkTimesLaw" (95 : Nat) ({ cls := "LinkTimesModel", name := "latest", desc := "(III)I" } : Jvm.MethodName)) ∈ lw_all := lw_g (lw_at lw_m9 168 rfl) rfl
theorem q2219 : (Jvm.Cond.methodLink "LinkTimesLaw" (99 : Nat) ({ cls := "LinkTimesModel", name := "reach", desc := "(III)I" } : Jvm.MethodName)) ∈ lw_all := lw_g (lw_at lw_m9 172 rfl) rfl
theorem q2223 : (Jvm.Cond.methodLink "LinkTimesLaw" (103 : Nat) ({ cls := "LinkTimesModel", name := "farthest", desc := "(II)I" } : Jvm.MethodName)) ∈ lw_all := lw_g (lw_at lw_m9 176 rfl) rfl
theorem q2227 : (Jvm.Cond.methodLink "LinkTimesLaw" (107 : Nat) ({ cls := "LinkTimesModel", name := "meets", desc := "(III)I" } : Jvm.MethodName)) ∈ lw_all := lw_g (lw_at lw_m9 180 rfl) rfl
theorem q2231 : (Jvm.Cond.methodLink "LinkTimesLaw" (111 : Nat) ({ cls := "LinkTimesModel", name := "round", desc := "(IIII)I" } : Jvm.MethodName)) ∈ lw_all := lw_g (lw_at lw_m9 184 rfl) rfl
theorem q2235 : (Jvm.Cond.methodLink "LinkTimesLaw" (131 : Nat) ({ cls := "LinkTimesModel", name := "others", desc := "(III)I" } : Jvm.MethodName)) ∈ lw_all := lw_g (lw_at lw_m9 188 rfl) rfl
theorem q2255 : (Jvm.Cond.methodLink "LinkTimesLaw" (135 : Nat) ({ cls := "LinkTimesModel", name := "other", desc := "(IIII)I" } : Jvm.MethodName)) ∈ lw_all := lw_g (lw_at lw_m9 208 rfl) rfl
theorem q2259 : (Jvm.Cond.methodLink "LinkTimesLaw" (139 : Nat) ({ cls := "LinkTimesModel", name := "pairs", desc := "(I)I" } : Jvm.MethodName)) ∈ lw_all := lw_g (lw_at lw_m9 212 rfl) rfl
theorem q2271 : (Jvm.Cond.methodLink "LinkTimesLaw" (143 : Nat) ({ cls := "LinkTimesModel", name := "hub", desc := "(I)I" } : Jvm.MethodName)) ∈ lw_all := lw_g (lw_at lw_m9 224 rfl) rfl
theorem q2275 : (Jvm.Cond.methodLink "LinkTimesLaw" (147 : Nat) ({ cls := "LinkTimesModel", name := "slowest", desc := "(I)I" } : Jvm.MethodName)) ∈ lw_all := lw_g (lw_at lw_m9 228 rfl) rfl
theorem q2279 : (Jvm.Cond.methodLink "LinkTimesLaw" (115 : Nat) ({ cls := "LinkTimesModel", name := "steps", desc := "(II)I" } : Jvm.MethodName)) ∈ lw_all := lw_g (lw_at lw_m9 232 rfl) rfl
theorem q2291 : (Jvm.Cond.methodLink "LinkTimesLaw" (119 : Nat) ({ cls := "LinkTimesModel", name := "step", desc := "(IIII)I" } : Jvm.MethodName)) ∈ lw_all := lw_g (lw_at lw_m10 4 rfl) rfl
theorem q2295 : (Jvm.Cond.methodLink "LinkTimesLaw" (123 : Nat) ({ cls := "LinkTimesModel", name := "quickest", desc := "(II)I" } : Jvm.MethodName)) ∈ lw_all := lw_g (lw_at lw_m10 8 rfl) rfl
theorem q2299 : (Jvm.Cond.methodLink "LinkTimesLaw" (127 : Nat) ({ cls := "LinkTimesModel", name := "spent", desc := "(IIII)I" } : Jvm.MethodName)) ∈ lw_all := lw_g (lw_at lw_m10 12 rfl) rfl
theorem q2303 : (Jvm.Cond.methodLink "LinkTimesLaw" (151 : Nat) ({ cls := "LinkTimesModel", name := "needs", desc := "(IIII)I" } : Jvm.MethodName)) ∈ lw_all := lw_g (lw_at lw_m10 16 rfl) rfl
theorem q2311 : (Jvm.Cond.methodLink "LinkTimesLaw" (155 : Nat) ({ cls := "LinkTimesModel", name := "vital", desc := "(III)I" } : Jvm.MethodName)) ∈ lw_all := lw_g (lw_at lw_m10 24 rfl) rfl
theorem q2315 : (Jvm.Cond.methodLink "LinkTimesLaw" (159 : Nat) ({ cls := "LinkTimesModel", name := "slack", desc := "(IIII)I" } : Jvm.MethodName)) ∈ lw_all := lw_g (lw_at lw_m10 28 rfl) rfl
theorem q2319 : (Jvm.Cond.methodLink "LinkTimesLaw" (163 : Nat) ({ cls := "LinkTimesModel", name := "why", desc := "(IIII)I" } : Jvm.MethodName)) ∈ lw_all := lw_g (lw_at lw_m10 32 rfl) rfl
theorem q2327 : (Jvm.Cond.methodLink "LinkTimesLaw" (167 : Nat) ({ cls := "LinkTimesModel", name := "cancel", desc := "(I)I" } : Jvm.MethodName)) ∈ lw_all := lw_g (lw_at lw_m10 40 rfl) rfl
theorem q2339 : (Jvm.Cond.methodLink "LinkTimesLaw" (171 : Nat) ({ cls := "LinkTimesModel", name := "run", desc := "(I)I" } : Jvm.MethodName)) ∈ lw_all := lw_g (lw_at lw_m10 52 rfl) rfl
theorem q2343 : (Jvm.Cond.methodLink "LinkTimesLaw" (175 : Nat) ({ cls := "LinkTimesModel", name := "delay", desc := "(II)I" } : Jvm.MethodName)) ∈ lw_all := lw_g (lw_at lw_m10 56 rfl) rfl
theorem q2347 : (Jvm.Cond.methodLink "LinkTimesLaw" (179 : Nat) ({ cls := "LinkTimesModel", name := "change", desc := "(II)I" } : Jvm.MethodName)) ∈ lw_all := lw_g (lw_at lw_m10 60 rfl) rfl
theorem q2351 : (Jvm.Cond.methodLink "LinkTimesLaw" (183 : Nat) ({ cls := "LinkTimesModel", name := "hold", desc := "(II)I" } : Jvm.MethodName)) ∈ lw_all := lw_g (lw_at lw_m10 64 rfl) rfl
theorem q2355 : (Jvm.Cond.methodLink "LinkTimesLaw" (187 : Nat) ({ cls := "LinkTimesModel", name := "extra", desc := "(IIIII)I" } : Jvm.MethodName)) ∈ lw_all := lw_g (lw_at lw_m10 68 rfl) rfl
theorem q2359 : (Jvm.Cond.methodLink "LinkTimesLaw" (192 : Nat) ({ cls := "LinkTimesModel", name := "undo", desc := "()Z" } : Jvm.MethodName)) ∈ lw_all := lw_g (lw_at lw_m10 72 rfl) rfl
theorem q2363 : (Jvm.Cond.methodLink "LinkTimesLaw" (198 : Nat) ({ cls := "LinkTimesModel", name := "still", desc := "(I)I" } : Jvm.MethodName)) ∈ lw_all := lw_g (lw_at lw_m10 76 rfl) rfl
theorem q2367 : (Jvm.Cond.methodLink "LinkTimesLaw" (205 : Nat) ({ cls := "LinkTimesModel", name := "size", desc := "(I)I" } : Jvm.MethodName)) ∈ lw_all := lw_g (lw_at lw_m10 80 rfl) rfl
theorem q2375 : (Jvm.Cond.methodLink "LinkTimesLaw" (209 : Nat) ({ cls := "LinkTimesModel", name := "trouble", desc := "()I" } : Jvm.MethodName)) ∈ lw_all := lw_g (lw_at lw_m10 88 rfl) rfl

/-! LinkTimes$ByLeaves -/
set_option maxRecDepth 100000
abbrev cX2_init : ByteArray := prog_4_method_1_code
def yX2_init : MethodName := ⟨RX2, "<init>", "()V"⟩
theorem dX2_init_0 : decode cX2_init 0 = .ok (.aload_n 0, 1) := by decide +kernel
theorem dX2_init_1 : decode cX2_init 1 = .ok (.invokespecial 1, 3) := by decide +kernel
theorem dX2_init_4 : decode cX2_init 4 = .ok (.return_, 1) := by decide +kernel
abbrev cX2_compare : ByteArray := prog_4_method_3_code
def yX2_compare : MethodName := ⟨RX2, "compare", "(Ljava/lang/Object;Ljava/lang/Object;)I"⟩
def dkwX2_compare_0 : List UInt8 := [42, 43, 192, 0, 8, 44, 192, 0, 8, 182, 0, 17, 172]
abbrev dktX2_compare_0 : List UInt8 := dkwX2_compare_0 ++ []
theorem dksX2_compare_0 : cX2_compare.data.toList.drop 0 = dktX2_compare_0 := by decide +kernel
theorem dX2_compare_0 : decode cX2_compare 0 = .ok (.aload_n 0, 1) := dk_42 (dk_at dksX2_compare_0 0 rfl rfl)
theorem dX2_compare_1 : decode cX2_compare 1 = .ok (.aload_n 1, 1) := dk_43 (dk_at dksX2_compare_0 1 rfl rfl)
theorem dX2_compare_2 : decode cX2_compare 2 = .ok (.checkcast 8, 3) := dk_192 0 8 (dk_at dksX2_compare_0 2 rfl rfl)
theorem dX2_compare_5 : decode cX2_compare 5 = .ok (.aload_n 2, 1) := dk_44 (dk_at dksX2_compare_0 5 rfl rfl)
theorem dX2_compare_6 : decode cX2_compare 6 = .ok (.checkcast 8, 3) := dk_192 0 8 (dk_at dksX2_compare_0 6 rfl rfl)
theorem dX2_compare_9 : decode cX2_compare 9 = .ok (.invokevirtual 17, 3) := dk_182 0 17 (dk_at dksX2_compare_0 9 rfl rfl)
theorem dX2_compare_12 : decode cX2_compare 12 = .ok (.ireturn, 1) := dk_172 (dk_at dksX2_compare_0 12 rfl rfl)
abbrev cX2_compare_2 : ByteArray := prog_4_method_2_code
def yX2_compare_2 : MethodName := ⟨RX2, "compare", "(LLinkTimes$Departure;LLinkTimes$Departure;)I"⟩
def dkwX2_compare_2_1 : List UInt8 := [180, 0, 13, 44, 180, 0, 13, 100, 172]
abbrev dktX2_compare_2_1 : List UInt8 := dkwX2_compare_2_1 ++ []
def dkwX2_compare_2_0 : List UInt8 := [43, 182, 0, 7, 44, 182, 0, 7, 159, 0, 15, 43, 182, 0, 7, 44, 182, 0, 7, 100, 167, 0, 12, 43]
abbrev dktX2_compare_2_0 : List UInt8 := dkwX2_compare_2_0 ++ dktX2_compare_2_1
theorem dksX2_compare_2_0 : cX2_compare_2.data.toList.drop 0 = dktX2_compare_2_0 := by decide +kernel
theorem dksX2_compare_2_1 : cX2_compare_2.data.toList.drop 24 = dktX2_compare_2_1 := dk_seg dksX2_compare_2_0 24 rfl rfl
theorem dX2_compare_2_0 : decode cX2_compare_2 0 = .ok (.aload_n 1, 1) := dk_43 (dk_at dksX2_compare_2_0 0 rfl rfl)
theorem dX2_compare_2_1 : decode cX2_compare_2 1 = .ok (.invokevirtual 7, 3) := dk_182 0 7 (dk_at dksX2_compare_2_0 1 rfl rfl)
theorem dX2_compare_2_4 : decode cX2_compare_2 4 = .ok (.aload_n 2, 1) := dk_44 (dk_at dksX2_compare_2_0 4 rfl rfl)
theorem dX2_compare_2_5 : decode cX2_compare_2 5 = .ok (.invokevirtual 7, 3) := dk_182 0 7 (dk_at dksX2_compare_2_0 5 rfl rfl)
theorem dX2_compare_2_8 : decode cX2_compare_2 8 = .ok (.if_icmp .eq 15, 3) := dk_159 0 15 (dk_at dksX2_compare_2_0 8 rfl rfl)
theorem dX2_compare_2_11 : decode cX2_compare_2 11 = .ok (.aload_n 1, 1) := dk_43 (dk_at dksX2_compare_2_0 11 rfl rfl)
theorem dX2_compare_2_12 : decode cX2_compare_2 12 = .ok (.invokevirtual 7, 3) := dk_182 0 7 (dk_at dksX2_compare_2_0 12 rfl rfl)
theorem dX2_compare_2_15 : decode cX2_compare_2 15 = .ok (.aload_n 2, 1) := dk_44 (dk_at dksX2_compare_2_0 15 rfl rfl)
theorem dX2_compare_2_16 : decode cX2_compare_2 16 = .ok (.invokevirtual 7, 3) := dk_182 0 7 (dk_at dksX2_compare_2_0 16 rfl rfl)
theorem dX2_compare_2_19 : decode cX2_compare_2 19 = .ok (.isub, 1) := dk_100 (dk_at dksX2_compare_2_0 19 rfl rfl)
theorem dX2_compare_2_20 : decode cX2_compare_2 20 = .ok (.goto 12, 3) := dk_167 0 12 (dk_at dksX2_compare_2_0 20 rfl rfl)
theorem dX2_compare_2_23 : decode cX2_compare_2 23 = .ok (.aload_n 1, 1) := dk_43 (dk_at dksX2_compare_2_0 23 rfl rfl)
theorem dX2_compare_2_24 : decode cX2_compare_2 24 = .ok (.getfield 13, 3) := dk_180 0 13 (dk_at dksX2_compare_2_1 0 rfl rfl)
theorem dX2_compare_2_27 : decode cX2_compare_2 27 = .ok (.aload_n 2, 1) := dk_44 (dk_at dksX2_compare_2_1 3 rfl rfl)
theorem dX2_compare_2_28 : decode cX2_compare_2 28 = .ok (.getfield 13, 3) := dk_180 0 13 (dk_at dksX2_compare_2_1 4 rfl rfl)
theorem dX2_compare_2_31 : decode cX2_compare_2 31 = .ok (.isub, 1) := dk_100 (dk_at dksX2_compare_2_1 7 rfl rfl)
theorem dX2_compare_2_32 : decode cX2_compare_2 32 = .ok (.ireturn, 1) := dk_172 (dk_at dksX2_compare_2_1 8 rfl rfl)
theorem q132 : (Jvm.Cond.initialized "LinkTimes$ByLeaves") ∈ lw_all := lw_g (lw_at lw_m1 5 rfl) rfl
theorem q182 : (Jvm.Cond.instantiable "LinkTimes$ByLeaves" (0 : Nat)) ∈ lw_all := lw_g (lw_at lw_m1 55 rfl) rfl
theorem q184 : (Jvm.Cond.instanceMethod ({ cls := "LinkTimes$ByLeaves", name := "<init>", desc := "()V" } : Jvm.MethodName)) ∈ lw_all := lw_g (lw_at lw_m1 57 rfl) rfl
theorem q185 : (Jvm.Cond.code ({ cls := "LinkTimes$ByLeaves", name := "<init>", desc := "()V" } : Jvm.MethodName) prog_4_method_1_code (1 : Nat) (Option.none : Option Jvm.ClassFile.FieldType)) ∈ lw_all := lw_g (lw_at lw_m1 58 rfl) rfl
theorem q186 : (Jvm.Cond.methodLink "LinkTimes$ByLeaves" (1 : Nat) ({ cls := "java/lang/Object", name := "<init>", desc := "()V" } : Jvm.MethodName)) ∈ lw_all := lw_g (lw_at lw_m1 59 rfl) rfl
theorem q187 : (Jvm.Cond.superclass "LinkTimes$ByLeaves" "java/lang/Object") ∈ lw_all := lw_g (lw_at lw_m1 60 rfl) rfl
theorem q774 : (Jvm.Cond.selects "LinkTimes$ByLeaves" ({ cls := "java/lang/Object", name := "getClass", desc := "()Ljava/lang/Class;" } : Jvm.MethodName) ({ cls := "java/lang/Object", name := "getClass", desc := "()Ljava/lang/Class;" } : Jvm.MethodName)) ∈ lw_all := lw_g (lw_at lw_m3 167 rfl) rfl
theorem q849 : (Jvm.Cond.fieldLinkNest "LinkTimes$ByLeaves" (13 : Nat) "LinkTimes$Departure" "number" "I" "LinkTimes") ∈ lw_tbl := lw_at lw_m4 2 rfl
theorem q1133 : (Jvm.Cond.castable "LinkTimes$ByLeaves" "java/util/Comparator") ∈ lw_tbl := lw_at lw_m5 46 rfl
theorem q1134 : (Jvm.Cond.selects "LinkTimes$ByLeaves" ({ cls := "java/util/Comparator", name := "compare", desc := "(Ljava/lang/Object;Ljava/lang/Object;)I" } : Jvm.MethodName) ({ cls := "LinkTimes$ByLeaves", name := "compare", desc := "(Ljava/lang/Object;Ljava/lang/Object;)I" } : Jvm.MethodName)) ∈ lw_all := lw_g (lw_at lw_m5 47 rfl) rfl
theorem q1135 : (Jvm.Cond.unhidden "LinkTimes$ByLeaves" "compare" "(Ljava/lang/Object;Ljava/lang/Object;)I") ∈ lw_tbl := lw_at lw_m5 48 rfl
theorem q1136 : (Jvm.Cond.instanceMethod ({ cls := "LinkTimes$ByLeaves", name := "compare", desc := "(Ljava/lang/Object;Ljava/lang/Object;)I" } : Jvm.MethodName)) ∈ lw_all := lw_g (lw_at lw_m5 49 rfl) rfl
theorem q1137 : (Jvm.Cond.publicMethod ({ cls := "LinkTimes$ByLeaves", name := "compare", desc := "(Ljava/lang/Object;Ljava/lang/Object;)I" } : Jvm.MethodName)) ∈ lw_tbl := lw_at lw_m5 50 rfl
theorem q1138 : (Jvm.Cond.code ({ cls := "LinkTimes$ByLeaves", name := "compare", desc := "(Ljava/lang/Object;Ljava/lang/Object;)I" } : Jvm.MethodName) prog_4_method_3_code (3 : Nat) (Option.some Jvm.ClassFile.FieldType.int)) ∈ lw_all := lw_g (lw_at lw_m5 51 rfl) rfl
theorem q1139 : (Jvm.Cond.classLink "LinkTimes$ByLeaves" (8 : Nat) "LinkTimes$Departure") ∈ lw_all := lw_g (lw_at lw_m5 52 rfl) rfl
theorem q1140 : (Jvm.Cond.methodLink "LinkTimes$ByLeaves" (17 : Nat) ({ cls := "LinkTimes$ByLeaves", name := "compare", desc := "(LLinkTimes$Departure;LLinkTimes$Departure;)I" } : Jvm.MethodName)) ∈ lw_all := lw_g (lw_at lw_m5 53 rfl) rfl
theorem q1141 : (Jvm.Cond.instanceMethod ({ cls := "LinkTimes$ByLeaves", name := "compare", desc := "(LLinkTimes$Departure;LLinkTimes$Departure;)I" } : Jvm.MethodName)) ∈ lw_all := lw_g (lw_at lw_m5 54 rfl) rfl
theorem q1142 : (Jvm.Cond.selects "LinkTimes$ByLeaves" ({ cls := "LinkTimes$ByLeaves", name := "compare", desc := "(LLinkTimes$Departure;LLinkTimes$Departure;)I" } : Jvm.MethodName) ({ cls := "LinkTimes$ByLeaves", name := "compare", desc := "(LLinkTimes$Departure;LLinkTimes$Departure;)I" } : Jvm.MethodName)) ∈ lw_all := lw_g (lw_at lw_m5 55 rfl) rfl
theorem q1143 : (Jvm.Cond.code ({ cls := "LinkTimes$ByLeaves", name := "compare", desc := "(LLinkTimes$Departure;LLinkTimes$Departure;)I" } : Jvm.MethodName) prog_4_method_2_code (3 : Nat) (Option.some Jvm.ClassFile.FieldType.int)) ∈ lw_all := lw_g (lw_at lw_m5 56 rfl) rfl
theorem q1144 : (Jvm.Cond.methodLink "LinkTimes$ByLeaves" (7 : Nat) ({ cls := "LinkTimes$Departure", name := "leaves", desc := "()I" } : Jvm.MethodName)) ∈ lw_all := lw_g (lw_at lw_m5 57 rfl) rfl
theorem q2391 : (Jvm.Cond.castable "LinkTimes$ByLeaves" "java/lang/Object") ∈ lw_tbl := lw_at lw_m10 104 rfl

/-! LinkTimes$Desk -/
set_option maxRecDepth 100000
abbrev cX6_init : ByteArray := prog_6_method_1_code
def yX6_init : MethodName := ⟨RX6, "<init>", "()V"⟩
def dkwX6_init_1 : List UInt8 := [181, 0, 18, 42, 187, 0, 9, 89, 183, 0, 11, 181, 0, 21, 177]
abbrev dktX6_init_1 : List UInt8 := dkwX6_init_1 ++ []
def dkwX6_init_0 : List UInt8 := [42, 183, 0, 3, 42, 187, 0, 9, 89, 183, 0, 11, 181, 0, 12, 42, 187, 0, 9, 89, 183, 0, 11]
abbrev dktX6_init_0 : List UInt8 := dkwX6_init_0 ++ dktX6_init_1
theorem dksX6_init_0 : cX6_init.data.toList.drop 0 = dktX6_init_0 := by decide +kernel
theorem dksX6_init_1 : cX6_init.data.toList.drop 23 = dktX6_init_1 := dk_seg dksX6_init_0 23 rfl rfl
theorem dX6_init_0 : decode cX6_init 0 = .ok (.aload_n 0, 1) := dk_42 (dk_at dksX6_init_0 0 rfl rfl)
theorem dX6_init_1 : decode cX6_init 1 = .ok (.invokespecial 3, 3) := dk_183 0 3 (dk_at dksX6_init_0 1 rfl rfl)
theorem dX6_init_4 : decode cX6_init 4 = .ok (.aload_n 0, 1) := dk_42 (dk_at dksX6_init_0 4 rfl rfl)
theorem dX6_init_5 : decode cX6_init 5 = .ok (.new 9, 3) := dk_187 0 9 (dk_at dksX6_init_0 5 rfl rfl)
theorem dX6_init_8 : decode cX6_init 8 = .ok (.dup, 1) := dk_89 (dk_at dksX6_init_0 8 rfl rfl)
theorem dX6_init_9 : decode cX6_init 9 = .ok (.invokespecial 11, 3) := dk_183 0 11 (dk_at dksX6_init_0 9 rfl rfl)
theorem dX6_init_12 : decode cX6_init 12 = .ok (.putfield 12, 3) := dk_181 0 12 (dk_at dksX6_init_0 12 rfl rfl)
theorem dX6_init_15 : decode cX6_init 15 = .ok (.aload_n 0, 1) := dk_42 (dk_at dksX6_init_0 15 rfl rfl)
theorem dX6_init_16 : decode cX6_init 16 = .ok (.new 9, 3) := dk_187 0 9 (dk_at dksX6_init_0 16 rfl rfl)
theorem dX6_init_19 : decode cX6_init 19 = .ok (.dup, 1) := dk_89 (dk_at dksX6_init_0 19 rfl rfl)
theorem dX6_init_20 : decode cX6_init 20 = .ok (.invokespecial 11, 3) := dk_183 0 11 (dk_at dksX6_init_0 20 rfl rfl)
theorem dX6_init_23 : decode cX6_init 23 = .ok (.putfield 18, 3) := dk_181 0 18 (dk_at dksX6_init_1 0 rfl rfl)
theorem dX6_init_26 : decode cX6_init 26 = .ok (.aload_n 0, 1) := dk_42 (dk_at dksX6_init_1 3 rfl rfl)
theorem dX6_init_27 : decode cX6_init 27 = .ok (.new 9, 3) := dk_187 0 9 (dk_at dksX6_init_1 4 rfl rfl)
theorem dX6_init_30 : decode cX6_init 30 = .ok (.dup, 1) := dk_89 (dk_at dksX6_init_1 7 rfl rfl)
theorem dX6_init_31 : decode cX6_init 31 = .ok (.invokespecial 11, 3) := dk_183 0 11 (dk_at dksX6_init_1 8 rfl rfl)
theorem dX6_init_34 : decode cX6_init 34 = .ok (.putfield 21, 3) := dk_181 0 21 (dk_at dksX6_init_1 11 rfl rfl)
theorem dX6_init_37 : decode cX6_init 37 = .ok (.return_, 1) := dk_177 (dk_at dksX6_init_1 14 rfl rfl)
abbrev cX6_findSpot : ByteArray := prog_6_method_2_code
def yX6_findSpot : MethodName := ⟨RX6, "findSpot", "(J)I"⟩
def dkwX6_findSpot_1 : List UInt8 := [180, 0, 34, 31, 148, 154, 0, 5, 29, 172, 132, 3, 1, 167, 255, 221, 2, 172]
abbrev dktX6_findSpot_1 : List UInt8 := dkwX6_findSpot_1 ++ []
def dkwX6_findSpot_0 : List UInt8 := [3, 62, 29, 42, 180, 0, 12, 182, 0, 24, 162, 0, 30, 42, 180, 0, 12, 29, 182, 0, 28, 192, 0, 32]
abbrev dktX6_findSpot_0 : List UInt8 := dkwX6_findSpot_0 ++ dktX6_findSpot_1
theorem dksX6_findSpot_0 : cX6_findSpot.data.toList.drop 0 = dktX6_findSpot_0 := by decide +kernel
theorem dksX6_findSpot_1 : cX6_findSpot.data.toList.drop 24 = dktX6_findSpot_1 := dk_seg dksX6_findSpot_0 24 rfl rfl
theorem dX6_findSpot_0 : decode cX6_findSpot 0 = .ok (.iconst 0, 1) := dk_3 (dk_at dksX6_findSpot_0 0 rfl rfl)
theorem dX6_findSpot_1 : decode cX6_findSpot 1 = .ok (.istore_n 3, 1) := dk_62 (dk_at dksX6_findSpot_0 1 rfl rfl)
theorem dX6_findSpot_2 : decode cX6_findSpot 2 = .ok (.iload_n 3, 1) := dk_29 (dk_at dksX6_findSpot_0 2 rfl rfl)
theorem dX6_findSpot_3 : decode cX6_findSpot 3 = .ok (.aload_n 0, 1) := dk_42 (dk_at dksX6_findSpot_0 3 rfl rfl)
theorem dX6_findSpot_4 : decode cX6_findSpot 4 = .ok (.getfield 12, 3) := dk_180 0 12 (dk_at dksX6_findSpot_0 4 rfl rfl)
theorem dX6_findSpot_7 : decode cX6_findSpot 7 = .ok (.invokevirtual 24, 3) := dk_182 0 24 (dk_at dksX6_findSpot_0 7 rfl rfl)
theorem dX6_findSpot_10 : decode cX6_findSpot 10 = .ok (.if_icmp .ge 30, 3) := dk_162 0 30 (dk_at dksX6_findSpot_0 10 rfl rfl)
theorem dX6_findSpot_13 : decode cX6_findSpot 13 = .ok (.aload_n 0, 1) := dk_42 (dk_at dksX6_findSpot_0 13 rfl rfl)
theorem dX6_findSpot_14 : decode cX6_findSpot 14 = .ok (.getfield 12, 3) := dk_180 0 12 (dk_at dksX6_findSpot_0 14 rfl rfl)
theorem dX6_findSpot_17 : decode cX6_findSpot 17 = .ok (.iload_n 3, 1) := dk_29 (dk_at dksX6_findSpot_0 17 rfl rfl)
theorem dX6_findSpot_18 : decode cX6_findSpot 18 = .ok (.invokevirtual 28, 3) := dk_182 0 28 (dk_at dksX6_findSpot_0 18 rfl rfl)
theorem dX6_findSpot_21 : decode cX6_findSpot 21 = .ok (.checkcast 32, 3) := dk_192 0 32 (dk_at dksX6_findSpot_0 21 rfl rfl)
theorem dX6_findSpot_24 : decode cX6_findSpot 24 = .ok (.getfield 34, 3) := dk_180 0 34 (dk_at dksX6_findSpot_1 0 rfl rfl)
theorem dX6_findSpot_27 : decode cX6_findSpot 27 = .ok (.lload_n 1, 1) := dk_31 (dk_at dksX6_findSpot_1 3 rfl rfl)
theorem dX6_findSpot_28 : decode cX6_findSpot 28 = .ok (.lcmp, 1) := dk_148 (dk_at dksX6_findSpot_1 4 rfl rfl)
theorem dX6_findSpot_29 : decode cX6_findSpot 29 = .ok (.ifCond .ne 5, 3) := dk_154 0 5 (dk_at dksX6_findSpot_1 5 rfl rfl)
theorem dX6_findSpot_32 : decode cX6_findSpot 32 = .ok (.iload_n 3, 1) := dk_29 (dk_at dksX6_findSpot_1 8 rfl rfl)
theorem dX6_findSpot_33 : decode cX6_findSpot 33 = .ok (.ireturn, 1) := dk_172 (dk_at dksX6_findSpot_1 9 rfl rfl)
theorem dX6_findSpot_34 : decode cX6_findSpot 34 = .ok (.iinc 3 1, 3) := dk_132 3 1 (dk_at dksX6_findSpot_1 10 rfl rfl)
theorem dX6_findSpot_37 : decode cX6_findSpot 37 = .ok (.goto (-35), 3) := dk_167 255 221 (dk_at dksX6_findSpot_1 13 rfl rfl)
theorem dX6_findSpot_40 : decode cX6_findSpot 40 = .ok (.iconst (-1), 1) := dk_2 (dk_at dksX6_findSpot_1 16 rfl rfl)
theorem dX6_findSpot_41 : decode cX6_findSpot 41 = .ok (.ireturn, 1) := dk_172 (dk_at dksX6_findSpot_1 17 rfl rfl)
abbrev cX6_findLine : ByteArray := prog_6_method_3_code
def yX6_findLine : MethodName := ⟨RX6, "findLine", "(J)I"⟩
def dkwX6_findLine_1 : List UInt8 := [182, 0, 40, 31, 148, 154, 0, 5, 29, 172, 132, 3, 1, 167, 255, 221, 2, 172]
abbrev dktX6_findLine_1 : List UInt8 := dkwX6_findLine_1 ++ []
def dkwX6_findLine_0 : List UInt8 := [3, 62, 29, 42, 180, 0, 18, 182, 0, 24, 162, 0, 30, 42, 180, 0, 18, 29, 182, 0, 28, 192, 0, 38]
abbrev dktX6_findLine_0 : List UInt8 := dkwX6_findLine_0 ++ dktX6_findLine_1
theorem dksX6_findLine_0 : cX6_findLine.data.toList.drop 0 = dktX6_findLine_0 := by decide +kernel
theorem dksX6_findLine_1 : cX6_findLine.data.toList.drop 24 = dktX6_findLine_1 := dk_seg dksX6_findLine_0 24 rfl rfl
theorem dX6_findLine_0 : decode cX6_findLine 0 = .ok (.iconst 0, 1) := dk_3 (dk_at dksX6_findLine_0 0 rfl rfl)
theorem dX6_findLine_1 : decode cX6_findLine 1 = .ok (.istore_n 3, 1) := dk_62 (dk_at dksX6_findLine_0 1 rfl rfl)
theorem dX6_findLine_2 : decode cX6_findLine 2 = .ok (.iload_n 3, 1) := dk_29 (dk_at dksX6_findLine_0 2 rfl rfl)
theorem dX6_findLine_3 : decode cX6_findLine 3 = .ok (.aload_n 0, 1) := dk_42 (dk_at dksX6_findLine_0 3 rfl rfl)
theorem dX6_findLine_4 : decode cX6_findLine 4 = .ok (.getfield 18, 3) := dk_180 0 18 (dk_at dksX6_findLine_0 4 rfl rfl)
theorem dX6_findLine_7 : decode cX6_findLine 7 = .ok (.invokevirtual 24, 3) := dk_182 0 24 (dk_at dksX6_findLine_0 7 rfl rfl)
theorem dX6_findLine_10 : decode cX6_findLine 10 = .ok (.if_icmp .ge 30, 3) := dk_162 0 30 (dk_at dksX6_findLine_0 10 rfl rfl)
theorem dX6_findLine_13 : decode cX6_findLine 13 = .ok (.aload_n 0, 1) := dk_42 (dk_at dksX6_findLine_0 13 rfl rfl)
theorem dX6_findLine_14 : decode cX6_findLine 14 = .ok (.getfield 18, 3) := dk_180 0 18 (dk_at dksX6_findLine_0 14 rfl rfl)
theorem dX6_findLine_17 : decode cX6_findLine 17 = .ok (.iload_n 3, 1) := dk_29 (dk_at dksX6_findLine_0 17 rfl rfl)
theorem dX6_findLine_18 : decode cX6_findLine 18 = .ok (.invokevirtual 28, 3) := dk_182 0 28 (dk_at dksX6_findLine_0 18 rfl rfl)
theorem dX6_findLine_21 : decode cX6_findLine 21 = .ok (.checkcast 38, 3) := dk_192 0 38 (dk_at dksX6_findLine_0 21 rfl rfl)
theorem dX6_findLine_24 : decode cX6_findLine 24 = .ok (.invokevirtual 40, 3) := dk_182 0 40 (dk_at dksX6_findLine_1 0 rfl rfl)
theorem dX6_findLine_27 : decode cX6_findLine 27 = .ok (.lload_n 1, 1) := dk_31 (dk_at dksX6_findLine_1 3 rfl rfl)
theorem dX6_findLine_28 : decode cX6_findLine 28 = .ok (.lcmp, 1) := dk_148 (dk_at dksX6_findLine_1 4 rfl rfl)
theorem dX6_findLine_29 : decode cX6_findLine 29 = .ok (.ifCond .ne 5, 3) := dk_154 0 5 (dk_at dksX6_findLine_1 5 rfl rfl)
theorem dX6_findLine_32 : decode cX6_findLine 32 = .ok (.iload_n 3, 1) := dk_29 (dk_at dksX6_findLine_1 8 rfl rfl)
theorem dX6_findLine_33 : decode cX6_findLine 33 = .ok (.ireturn, 1) := dk_172 (dk_at dksX6_findLine_1 9 rfl rfl)
theorem dX6_findLine_34 : decode cX6_findLine 34 = .ok (.iinc 3 1, 3) := dk_132 3 1 (dk_at dksX6_findLine_1 10 rfl rfl)
theorem dX6_findLine_37 : decode cX6_findLine 37 = .ok (.goto (-35), 3) := dk_167 255 221 (dk_at dksX6_findLine_1 13 rfl rfl)
theorem dX6_findLine_40 : decode cX6_findLine 40 = .ok (.iconst (-1), 1) := dk_2 (dk_at dksX6_findLine_1 16 rfl rfl)
theorem dX6_findLine_41 : decode cX6_findLine 41 = .ok (.ireturn, 1) := dk_172 (dk_at dksX6_findLine_1 17 rfl rfl)
theorem q139 : (Jvm.Cond.initialized "LinkTimes$Desk") ∈ lw_all := lw_g (lw_at lw_m1 12 rfl) rfl
theorem q389 : (Jvm.Cond.instantiable "LinkTimes$Desk" (5 : Nat)) ∈ lw_all := lw_g (lw_at lw_m2 22 rfl) rfl
theorem q391 : (Jvm.Cond.instanceMethod ({ cls := "LinkTimes$Desk", name := "<init>", desc := "()V" } : Jvm.MethodName)) ∈ lw_all := lw_g (lw_at lw_m2 24 rfl) rfl
theorem q392 : (Jvm.Cond.code ({ cls := "LinkTimes$Desk", name := "<init>", desc := "()V" } : Jvm.MethodName) prog_6_method_1_code (1 : Nat) (Option.none : Option Jvm.ClassFile.FieldType)) ∈ lw_all := lw_g (lw_at lw_m2 25 rfl) rfl
theorem q393 : (Jvm.Cond.methodLink "LinkTimes$Desk" (3 : Nat) ({ cls := "java/lang/Object", name := "<init>", desc := "()V" } : Jvm.MethodName)) ∈ lw_all := lw_g (lw_at lw_m2 26 rfl) rfl
theorem q394 : (Jvm.Cond.classLink "LinkTimes$Desk" (9 : Nat) "java/util/ArrayList") ∈ lw_all := lw_g (lw_at lw_m2 27 rfl) rfl
theorem q396 : (Jvm.Cond.methodLink "LinkTimes$Desk" (11 : Nat) ({ cls := "java/util/ArrayList", name := "<init>", desc := "()V" } : Jvm.MethodName)) ∈ lw_all := lw_g (lw_at lw_m2 29 rfl) rfl
theorem q421 : (Jvm.Cond.fieldLink "LinkTimes$Desk" (12 : Nat) "LinkTimes$Desk" "spots" "Ljava/util/ArrayList;") ∈ lw_all := lw_g (lw_at lw_m2 54 rfl) rfl
theorem q425 : (Jvm.Cond.fieldLink "LinkTimes$Desk" (18 : Nat) "LinkTimes$Desk" "lines" "Ljava/util/ArrayList;") ∈ lw_all := lw_g (lw_at lw_m2 58 rfl) rfl
theorem q428 : (Jvm.Cond.fieldLink "LinkTimes$Desk" (21 : Nat) "LinkTimes$Desk" "departures" "Ljava/util/ArrayList;") ∈ lw_all := lw_g (lw_at lw_m2 61 rfl) rfl
theorem q432 : (Jvm.Cond.lays "LinkTimes$Desk" "LinkTimes$Desk" "span" "I") ∈ lw_all := lw_g (lw_at lw_m2 65 rfl) rfl
theorem q433 : (Jvm.Cond.soleField "LinkTimes$Desk" "span") ∈ lw_all := lw_g (lw_at lw_m2 66 rfl) rfl
theorem q434 : (Jvm.Cond.lays "LinkTimes$Desk" "LinkTimes$Desk" "links" "I") ∈ lw_all := lw_g (lw_at lw_m2 67 rfl) rfl
theorem q435 : (Jvm.Cond.soleField "LinkTimes$Desk" "links") ∈ lw_all := lw_g (lw_at lw_m2 68 rfl) rfl
theorem q436 : (Jvm.Cond.laysFinal "LinkTimes$Desk" "LinkTimes$Desk" "spots" "Ljava/util/ArrayList;") ∈ lw_all := lw_g (lw_at lw_m2 69 rfl) rfl
theorem q437 : (Jvm.Cond.soleField "LinkTimes$Desk" "spots") ∈ lw_all := lw_g (lw_at lw_m2 70 rfl) rfl
theorem q438 : (Jvm.Cond.laysFinal "LinkTimes$Desk" "LinkTimes$Desk" "lines" "Ljava/util/ArrayList;") ∈ lw_all := lw_g (lw_at lw_m2 71 rfl) rfl
theorem q439 : (Jvm.Cond.soleField "LinkTimes$Desk" "lines") ∈ lw_all := lw_g (lw_at lw_m2 72 rfl) rfl
theorem q440 : (Jvm.Cond.laysFinal "LinkTimes$Desk" "LinkTimes$Desk" "departures" "Ljava/util/ArrayList;") ∈ lw_all := lw_g (lw_at lw_m2 73 rfl) rfl
theorem q441 : (Jvm.Cond.soleField "LinkTimes$Desk" "departures") ∈ lw_all := lw_g (lw_at lw_m2 74 rfl) rfl
theorem q442 : (Jvm.Cond.superclass "LinkTimes$Desk" "java/lang/Object") ∈ lw_all := lw_g (lw_at lw_m2 75 rfl) rfl
theorem q690 : (Jvm.Cond.instanceMethod ({ cls := "LinkTimes$Desk", name := "findSpot", desc := "(J)I" } : Jvm.MethodName)) ∈ lw_all := lw_g (lw_at lw_m3 83 rfl) rfl
theorem q691 : (Jvm.Cond.selects "LinkTimes$Desk" ({ cls := "LinkTimes$Desk", name := "findSpot", desc := "(J)I" } : Jvm.MethodName) ({ cls := "LinkTimes$Desk", name := "findSpot", desc := "(J)I" } : Jvm.MethodName)) ∈ lw_all := lw_g (lw_at lw_m3 84 rfl) rfl
theorem q692 : (Jvm.Cond.code ({ cls := "LinkTimes$Desk", name := "findSpot", desc := "(J)I" } : Jvm.MethodName) prog_6_method_2_code (4 : Nat) (Option.some Jvm.ClassFile.FieldType.int)) ∈ lw_all := lw_g (lw_at lw_m3 85 rfl) rfl
theorem q693 : (Jvm.Cond.methodLink "LinkTimes$Desk" (24 : Nat) ({ cls := "java/util/ArrayList", name := "size", desc := "()I" } : Jvm.MethodName)) ∈ lw_all := lw_g (lw_at lw_m3 86 rfl) rfl
theorem q694 : (Jvm.Cond.methodLink "LinkTimes$Desk" (28 : Nat) ({ cls := "java/util/ArrayList", name := "get", desc := "(I)Ljava/lang/Object;" } : Jvm.MethodName)) ∈ lw_all := lw_g (lw_at lw_m3 87 rfl) rfl
theorem q706 : (Jvm.Cond.classLink "LinkTimes$Desk" (32 : Nat) "LinkTimes$Spot") ∈ lw_all := lw_g (lw_at lw_m3 99 rfl) rfl
theorem q708 : (Jvm.Cond.instanceMethod ({ cls := "LinkTimes$Desk", name := "findLine", desc := "(J)I" } : Jvm.MethodName)) ∈ lw_all := lw_g (lw_at lw_m3 101 rfl) rfl
theorem q709 : (Jvm.Cond.selects "LinkTimes$Desk" ({ cls := "LinkTimes$Desk", name := "findLine", desc := "(J)I" } : Jvm.MethodName) ({ cls := "LinkTimes$Desk", name := "findLine", desc := "(J)I" } : Jvm.MethodName)) ∈ lw_all := lw_g (lw_at lw_m3 102 rfl) rfl
theorem q710 : (Jvm.Cond.code ({ cls := "LinkTimes$Desk", name := "findLine", desc := "(J)I" } : Jvm.MethodName) prog_6_method_3_code (4 : Nat) (Option.some Jvm.ClassFile.FieldType.int)) ∈ lw_all := lw_g (lw_at lw_m3 103 rfl) rfl
theorem q711 : (Jvm.Cond.classLink "LinkTimes$Desk" (38 : Nat) "java/lang/Long") ∈ lw_all := lw_g (lw_at lw_m3 104 rfl) rfl
theorem q712 : (Jvm.Cond.methodLink "LinkTimes$Desk" (40 : Nat) ({ cls := "java/lang/Long", name := "longValue", desc := "()J" } : Jvm.MethodName)) ∈ lw_all := lw_g (lw_at lw_m3 105 rfl) rfl
theorem q725 : (Jvm.Cond.fieldLinkNest "LinkTimes$Desk" (34 : Nat) "LinkTimes$Spot" "name" "J" "LinkTimes") ∈ lw_tbl := lw_at lw_m3 118 rfl
theorem q776 : (Jvm.Cond.selects "LinkTimes$Desk" ({ cls := "java/lang/Object", name := "getClass", desc := "()Ljava/lang/Class;" } : Jvm.MethodName) ({ cls := "java/lang/Object", name := "getClass", desc := "()Ljava/lang/Class;" } : Jvm.MethodName)) ∈ lw_all := lw_g (lw_at lw_m3 169 rfl) rfl
theorem q2397 : (Jvm.Cond.castable "LinkTimes$Desk" "java/lang/Object") ∈ lw_tbl := lw_at lw_m10 110 rfl

/-! LinkTimes$Trouble -/
set_option maxRecDepth 100000
def RX7 : String := "LinkTimes$Trouble"
abbrev cX7_init : ByteArray := prog_13_method_1_code
def yX7_init : MethodName := ⟨RX7, "<init>", "(II)V"⟩
def dkwX7_init_0 : List UInt8 := [42, 1, 1, 4, 3, 183, 0, 1, 42, 27, 181, 0, 7, 42, 28, 181, 0, 13, 177]
abbrev dktX7_init_0 : List UInt8 := dkwX7_init_0 ++ []
theorem dksX7_init_0 : cX7_init.data.toList.drop 0 = dktX7_init_0 := by decide +kernel
theorem dX7_init_0 : decode cX7_init 0 = .ok (.aload_n 0, 1) := dk_42 (dk_at dksX7_init_0 0 rfl rfl)
theorem dX7_init_1 : decode cX7_init 1 = .ok (.aconst_null, 1) := dk_1 (dk_at dksX7_init_0 1 rfl rfl)
theorem dX7_init_2 : decode cX7_init 2 = .ok (.aconst_null, 1) := dk_1 (dk_at dksX7_init_0 2 rfl rfl)
theorem dX7_init_3 : decode cX7_init 3 = .ok (.iconst 1, 1) := dk_4 (dk_at dksX7_init_0 3 rfl rfl)
theorem dX7_init_4 : decode cX7_init 4 = .ok (.iconst 0, 1) := dk_3 (dk_at dksX7_init_0 4 rfl rfl)
theorem dX7_init_5 : decode cX7_init 5 = .ok (.invokespecial 1, 3) := dk_183 0 1 (dk_at dksX7_init_0 5 rfl rfl)
theorem dX7_init_8 : decode cX7_init 8 = .ok (.aload_n 0, 1) := dk_42 (dk_at dksX7_init_0 8 rfl rfl)
theorem dX7_init_9 : decode cX7_init 9 = .ok (.iload_n 1, 1) := dk_27 (dk_at dksX7_init_0 9 rfl rfl)
theorem dX7_init_10 : decode cX7_init 10 = .ok (.putfield 7, 3) := dk_181 0 7 (dk_at dksX7_init_0 10 rfl rfl)
theorem dX7_init_13 : decode cX7_init 13 = .ok (.aload_n 0, 1) := dk_42 (dk_at dksX7_init_0 13 rfl rfl)
theorem dX7_init_14 : decode cX7_init 14 = .ok (.iload_n 2, 1) := dk_28 (dk_at dksX7_init_0 14 rfl rfl)
theorem dX7_init_15 : decode cX7_init 15 = .ok (.putfield 13, 3) := dk_181 0 13 (dk_at dksX7_init_0 15 rfl rfl)
theorem dX7_init_18 : decode cX7_init 18 = .ok (.return_, 1) := dk_177 (dk_at dksX7_init_0 18 rfl rfl)
theorem q148 : (Jvm.Cond.initialized "LinkTimes$Trouble") ∈ lw_all := lw_g (lw_at lw_m1 21 rfl) rfl
theorem q608 : (Jvm.Cond.instanceMethod ({ cls := "LinkTimes$Trouble", name := "<init>", desc := "(II)V" } : Jvm.MethodName)) ∈ lw_all := lw_g (lw_at lw_m3 1 rfl) rfl
theorem q609 : (Jvm.Cond.code ({ cls := "LinkTimes$Trouble", name := "<init>", desc := "(II)V" } : Jvm.MethodName) prog_13_method_1_code (3 : Nat) (Option.none : Option Jvm.ClassFile.FieldType)) ∈ lw_all := lw_g (lw_at lw_m3 2 rfl) rfl
theorem q610 : (Jvm.Cond.methodLink "LinkTimes$Trouble" (1 : Nat) ({ cls := "java/lang/Exception", name := "<init>", desc := "(Ljava/lang/String;Ljava/lang/Throwable;ZZ)V" } : Jvm.MethodName)) ∈ lw_all := lw_g (lw_at lw_m3 3 rfl) rfl
theorem q616 : (Jvm.Cond.fieldLink "LinkTimes$Trouble" (7 : Nat) "LinkTimes$Trouble" "kind" "I") ∈ lw_all := lw_g (lw_at lw_m3 9 rfl) rfl
theorem q618 : (Jvm.Cond.fieldLink "LinkTimes$Trouble" (13 : Nat) "LinkTimes$Trouble" "place" "I") ∈ lw_all := lw_g (lw_at lw_m3 11 rfl) rfl
theorem q626 : (Jvm.Cond.soleField "LinkTimes$Trouble" "kind") ∈ lw_all := lw_g (lw_at lw_m3 19 rfl) rfl
theorem q628 : (Jvm.Cond.soleField "LinkTimes$Trouble" "place") ∈ lw_all := lw_g (lw_at lw_m3 21 rfl) rfl

/-! LinkTimes$Flaw -/
set_option maxRecDepth 100000
abbrev cX8_init : ByteArray := prog_7_method_1_code
def yX8_init : MethodName := ⟨RX8, "<init>", "(II)V"⟩
def dkwX8_init_0 : List UInt8 := [42, 27, 28, 183, 0, 1, 177]
abbrev dktX8_init_0 : List UInt8 := dkwX8_init_0 ++ []
theorem dksX8_init_0 : cX8_init.data.toList.drop 0 = dktX8_init_0 := by decide +kernel
theorem dX8_init_0 : decode cX8_init 0 = .ok (.aload_n 0, 1) := dk_42 (dk_at dksX8_init_0 0 rfl rfl)
theorem dX8_init_1 : decode cX8_init 1 = .ok (.iload_n 1, 1) := dk_27 (dk_at dksX8_init_0 1 rfl rfl)
theorem dX8_init_2 : decode cX8_init 2 = .ok (.iload_n 2, 1) := dk_28 (dk_at dksX8_init_0 2 rfl rfl)
theorem dX8_init_3 : decode cX8_init 3 = .ok (.invokespecial 1, 3) := dk_183 0 1 (dk_at dksX8_init_0 3 rfl rfl)
theorem dX8_init_6 : decode cX8_init 6 = .ok (.return_, 1) := dk_177 (dk_at dksX8_init_0 6 rfl rfl)
theorem q149 : (Jvm.Cond.initialized "LinkTimes$Flaw") ∈ lw_all := lw_g (lw_at lw_m1 22 rfl) rfl
theorem q564 : (Jvm.Cond.instantiable "LinkTimes$Flaw" (8 : Nat)) ∈ lw_all := lw_g (lw_at lw_m2 197 rfl) rfl
theorem q565 : (Jvm.Cond.castable "LinkTimes$Flaw" "LinkTimes$Flaw") ∈ lw_tbl := lw_at lw_m2 198 rfl
theorem q570 : (Jvm.Cond.selects "LinkTimes$Flaw" ({ cls := "java/lang/Throwable", name := "fillInStackTrace", desc := "(I)Ljava/lang/Throwable;" } : Jvm.MethodName) ({ cls := "java/lang/Throwable", name := "fillInStackTrace", desc := "(I)Ljava/lang/Throwable;" } : Jvm.MethodName)) ∈ lw_all := lw_g (lw_at lw_m2 203 rfl) rfl
theorem q571 : (Jvm.Cond.selects "LinkTimes$Flaw" ({ cls := "java/lang/Throwable", name := "fillInStackTrace", desc := "()Ljava/lang/Throwable;" } : Jvm.MethodName) ({ cls := "java/lang/Throwable", name := "fillInStackTrace", desc := "()Ljava/lang/Throwable;" } : Jvm.MethodName)) ∈ lw_all := lw_g (lw_at lw_m2 204 rfl) rfl
theorem q572 : (Jvm.Cond.lays "LinkTimes$Flaw" "java/lang/Throwable" "cause" "Ljava/lang/Throwable;") ∈ lw_all := lw_g (lw_at lw_m2 205 rfl) rfl
theorem q574 : (Jvm.Cond.lays "LinkTimes$Flaw" "java/lang/Throwable" "stackTrace" "[Ljava/lang/StackTraceElement;") ∈ lw_all := lw_g (lw_at lw_m2 207 rfl) rfl
theorem q576 : (Jvm.Cond.lays "LinkTimes$Flaw" "java/lang/Throwable" "suppressedExceptions" "Ljava/util/List;") ∈ lw_all := lw_g (lw_at lw_m2 209 rfl) rfl
theorem q578 : (Jvm.Cond.lays "LinkTimes$Flaw" "java/lang/Throwable" "detailMessage" "Ljava/lang/String;") ∈ lw_all := lw_g (lw_at lw_m2 211 rfl) rfl
theorem q580 : (Jvm.Cond.lays "LinkTimes$Flaw" "java/lang/Throwable" "backtrace" "Ljava/lang/Object;") ∈ lw_all := lw_g (lw_at lw_m2 213 rfl) rfl
theorem q605 : (Jvm.Cond.instanceMethod ({ cls := "LinkTimes$Flaw", name := "<init>", desc := "(II)V" } : Jvm.MethodName)) ∈ lw_all := lw_g (lw_at lw_m2 238 rfl) rfl
theorem q606 : (Jvm.Cond.code ({ cls := "LinkTimes$Flaw", name := "<init>", desc := "(II)V" } : Jvm.MethodName) prog_7_method_1_code (3 : Nat) (Option.none : Option Jvm.ClassFile.FieldType)) ∈ lw_all := lw_g (lw_at lw_m2 239 rfl) rfl
theorem q607 : (Jvm.Cond.methodLink "LinkTimes$Flaw" (1 : Nat) ({ cls := "LinkTimes$Trouble", name := "<init>", desc := "(II)V" } : Jvm.MethodName)) ∈ lw_all := lw_g (lw_at lw_m3 0 rfl) rfl
theorem q625 : (Jvm.Cond.laysFinal "LinkTimes$Flaw" "LinkTimes$Trouble" "kind" "I") ∈ lw_all := lw_g (lw_at lw_m3 18 rfl) rfl
theorem q627 : (Jvm.Cond.laysFinal "LinkTimes$Flaw" "LinkTimes$Trouble" "place" "I") ∈ lw_all := lw_g (lw_at lw_m3 20 rfl) rfl
theorem q633 : (Jvm.Cond.lays "LinkTimes$Flaw" "java/lang/Throwable" "depth" "I") ∈ lw_all := lw_g (lw_at lw_m3 26 rfl) rfl
theorem q636 : (Jvm.Cond.superclass "LinkTimes$Flaw" "LinkTimes$Trouble") ∈ lw_all := lw_g (lw_at lw_m3 29 rfl) rfl
theorem q777 : (Jvm.Cond.selects "LinkTimes$Flaw" ({ cls := "java/lang/Object", name := "getClass", desc := "()Ljava/lang/Class;" } : Jvm.MethodName) ({ cls := "java/lang/Object", name := "getClass", desc := "()Ljava/lang/Class;" } : Jvm.MethodName)) ∈ lw_all := lw_g (lw_at lw_m3 170 rfl) rfl
theorem q2382 : (Jvm.Cond.selects "LinkTimes$Flaw" ({ cls := "java/lang/Throwable", name := "getCause", desc := "()Ljava/lang/Throwable;" } : Jvm.MethodName) ({ cls := "java/lang/Throwable", name := "getCause", desc := "()Ljava/lang/Throwable;" } : Jvm.MethodName)) ∈ lw_all := lw_g (lw_at lw_m10 95 rfl) rfl
theorem q2386 : (Jvm.Cond.castable "LinkTimes$Flaw" "LinkTimes$Trouble") ∈ lw_tbl := lw_at lw_m10 99 rfl
theorem q2399 : (Jvm.Cond.castable "LinkTimes$Flaw" "java/lang/Object") ∈ lw_tbl := lw_at lw_m10 112 rfl

/-! LinkTimes$Full -/
set_option maxRecDepth 100000
abbrev cX9_init : ByteArray := prog_8_method_1_code
def yX9_init : MethodName := ⟨RX9, "<init>", "(I)V"⟩
def dkwX9_init_0 : List UInt8 := [42, 8, 27, 183, 0, 1, 177]
abbrev dktX9_init_0 : List UInt8 := dkwX9_init_0 ++ []
theorem dksX9_init_0 : cX9_init.data.toList.drop 0 = dktX9_init_0 := by decide +kernel
theorem dX9_init_0 : decode cX9_init 0 = .ok (.aload_n 0, 1) := dk_42 (dk_at dksX9_init_0 0 rfl rfl)
theorem dX9_init_1 : decode cX9_init 1 = .ok (.iconst 5, 1) := dk_8 (dk_at dksX9_init_0 1 rfl rfl)
theorem dX9_init_2 : decode cX9_init 2 = .ok (.iload_n 1, 1) := dk_27 (dk_at dksX9_init_0 2 rfl rfl)
theorem dX9_init_3 : decode cX9_init 3 = .ok (.invokespecial 1, 3) := dk_183 0 1 (dk_at dksX9_init_0 3 rfl rfl)
theorem dX9_init_6 : decode cX9_init 6 = .ok (.return_, 1) := dk_177 (dk_at dksX9_init_0 6 rfl rfl)
theorem q150 : (Jvm.Cond.initialized "LinkTimes$Full") ∈ lw_all := lw_g (lw_at lw_m1 23 rfl) rfl
theorem q595 : (Jvm.Cond.selects "LinkTimes$Full" ({ cls := "java/lang/Throwable", name := "fillInStackTrace", desc := "()Ljava/lang/Throwable;" } : Jvm.MethodName) ({ cls := "java/lang/Throwable", name := "fillInStackTrace", desc := "()Ljava/lang/Throwable;" } : Jvm.MethodName)) ∈ lw_all := lw_g (lw_at lw_m2 228 rfl) rfl
theorem q663 : (Jvm.Cond.instantiable "LinkTimes$Full" (8 : Nat)) ∈ lw_all := lw_g (lw_at lw_m3 56 rfl) rfl
theorem q664 : (Jvm.Cond.castable "LinkTimes$Full" "LinkTimes$Full") ∈ lw_tbl := lw_at lw_m3 57 rfl
theorem q665 : (Jvm.Cond.selects "LinkTimes$Full" ({ cls := "java/lang/Throwable", name := "fillInStackTrace", desc := "(I)Ljava/lang/Throwable;" } : Jvm.MethodName) ({ cls := "java/lang/Throwable", name := "fillInStackTrace", desc := "(I)Ljava/lang/Throwable;" } : Jvm.MethodName)) ∈ lw_all := lw_g (lw_at lw_m3 58 rfl) rfl
theorem q666 : (Jvm.Cond.lays "LinkTimes$Full" "java/lang/Throwable" "cause" "Ljava/lang/Throwable;") ∈ lw_all := lw_g (lw_at lw_m3 59 rfl) rfl
theorem q667 : (Jvm.Cond.lays "LinkTimes$Full" "java/lang/Throwable" "stackTrace" "[Ljava/lang/StackTraceElement;") ∈ lw_all := lw_g (lw_at lw_m3 60 rfl) rfl
theorem q668 : (Jvm.Cond.lays "LinkTimes$Full" "java/lang/Throwable" "suppressedExceptions" "Ljava/util/List;") ∈ lw_all := lw_g (lw_at lw_m3 61 rfl) rfl
theorem q669 : (Jvm.Cond.lays "LinkTimes$Full" "java/lang/Throwable" "detailMessage" "Ljava/lang/String;") ∈ lw_all := lw_g (lw_at lw_m3 62 rfl) rfl
theorem q670 : (Jvm.Cond.lays "LinkTimes$Full" "java/lang/Throwable" "backtrace" "Ljava/lang/Object;") ∈ lw_all := lw_g (lw_at lw_m3 63 rfl) rfl
theorem q672 : (Jvm.Cond.instanceMethod ({ cls := "LinkTimes$Full", name := "<init>", desc := "(I)V" } : Jvm.MethodName)) ∈ lw_all := lw_g (lw_at lw_m3 65 rfl) rfl
theorem q673 : (Jvm.Cond.code ({ cls := "LinkTimes$Full", name := "<init>", desc := "(I)V" } : Jvm.MethodName) prog_8_method_1_code (2 : Nat) (Option.none : Option Jvm.ClassFile.FieldType)) ∈ lw_all := lw_g (lw_at lw_m3 66 rfl) rfl
theorem q674 : (Jvm.Cond.methodLink "LinkTimes$Full" (1 : Nat) ({ cls := "LinkTimes$Trouble", name := "<init>", desc := "(II)V" } : Jvm.MethodName)) ∈ lw_all := lw_g (lw_at lw_m3 67 rfl) rfl
theorem q675 : (Jvm.Cond.laysFinal "LinkTimes$Full" "LinkTimes$Trouble" "kind" "I") ∈ lw_all := lw_g (lw_at lw_m3 68 rfl) rfl
theorem q676 : (Jvm.Cond.laysFinal "LinkTimes$Full" "LinkTimes$Trouble" "place" "I") ∈ lw_all := lw_g (lw_at lw_m3 69 rfl) rfl
theorem q677 : (Jvm.Cond.lays "LinkTimes$Full" "java/lang/Throwable" "depth" "I") ∈ lw_all := lw_g (lw_at lw_m3 70 rfl) rfl
theorem q678 : (Jvm.Cond.superclass "LinkTimes$Full" "LinkTimes$Trouble") ∈ lw_all := lw_g (lw_at lw_m3 71 rfl) rfl
theorem q778 : (Jvm.Cond.selects "LinkTimes$Full" ({ cls := "java/lang/Object", name := "getClass", desc := "()Ljava/lang/Class;" } : Jvm.MethodName) ({ cls := "java/lang/Object", name := "getClass", desc := "()Ljava/lang/Class;" } : Jvm.MethodName)) ∈ lw_all := lw_g (lw_at lw_m3 171 rfl) rfl
theorem q2383 : (Jvm.Cond.selects "LinkTimes$Full" ({ cls := "java/lang/Throwable", name := "getCause", desc := "()Ljava/lang/Throwable;" } : Jvm.MethodName) ({ cls := "java/lang/Throwable", name := "getCause", desc := "()Ljava/lang/Throwable;" } : Jvm.MethodName)) ∈ lw_all := lw_g (lw_at lw_m10 96 rfl) rfl
theorem q2387 : (Jvm.Cond.castable "LinkTimes$Full" "LinkTimes$Trouble") ∈ lw_tbl := lw_at lw_m10 100 rfl
theorem q2400 : (Jvm.Cond.castable "LinkTimes$Full" "java/lang/Object") ∈ lw_tbl := lw_at lw_m10 113 rfl

/-! LinkTimes$Spot -/
set_option maxRecDepth 100000
abbrev cX10_init : ByteArray := prog_12_method_1_code
def yX10_init : MethodName := ⟨RX10, "<init>", "(JII)V"⟩
def dkwX10_init_0 : List UInt8 := [42, 183, 0, 1, 42, 31, 181, 0, 7, 42, 29, 181, 0, 13, 42, 21, 4, 181, 0, 17, 177]
abbrev dktX10_init_0 : List UInt8 := dkwX10_init_0 ++ []
theorem dksX10_init_0 : cX10_init.data.toList.drop 0 = dktX10_init_0 := by decide +kernel
theorem dX10_init_0 : decode cX10_init 0 = .ok (.aload_n 0, 1) := dk_42 (dk_at dksX10_init_0 0 rfl rfl)
theorem dX10_init_1 : decode cX10_init 1 = .ok (.invokespecial 1, 3) := dk_183 0 1 (dk_at dksX10_init_0 1 rfl rfl)
theorem dX10_init_4 : decode cX10_init 4 = .ok (.aload_n 0, 1) := dk_42 (dk_at dksX10_init_0 4 rfl rfl)
theorem dX10_init_5 : decode cX10_init 5 = .ok (.lload_n 1, 1) := dk_31 (dk_at dksX10_init_0 5 rfl rfl)
theorem dX10_init_6 : decode cX10_init 6 = .ok (.putfield 7, 3) := dk_181 0 7 (dk_at dksX10_init_0 6 rfl rfl)
theorem dX10_init_9 : decode cX10_init 9 = .ok (.aload_n 0, 1) := dk_42 (dk_at dksX10_init_0 9 rfl rfl)
theorem dX10_init_10 : decode cX10_init 10 = .ok (.iload_n 3, 1) := dk_29 (dk_at dksX10_init_0 10 rfl rfl)
theorem dX10_init_11 : decode cX10_init 11 = .ok (.putfield 13, 3) := dk_181 0 13 (dk_at dksX10_init_0 11 rfl rfl)
theorem dX10_init_14 : decode cX10_init 14 = .ok (.aload_n 0, 1) := dk_42 (dk_at dksX10_init_0 14 rfl rfl)
theorem dX10_init_15 : decode cX10_init 15 = .ok (.iload 4, 2) := dk_21 4 (dk_at dksX10_init_0 15 rfl rfl)
theorem dX10_init_17 : decode cX10_init 17 = .ok (.putfield 17, 3) := dk_181 0 17 (dk_at dksX10_init_0 17 rfl rfl)
theorem dX10_init_20 : decode cX10_init 20 = .ok (.return_, 1) := dk_177 (dk_at dksX10_init_0 20 rfl rfl)
theorem q152 : (Jvm.Cond.initialized "LinkTimes$Spot") ∈ lw_all := lw_g (lw_at lw_m1 25 rfl) rfl
theorem q718 : (Jvm.Cond.instantiable "LinkTimes$Spot" (3 : Nat)) ∈ lw_all := lw_g (lw_at lw_m3 111 rfl) rfl
theorem q721 : (Jvm.Cond.instanceMethod ({ cls := "LinkTimes$Spot", name := "<init>", desc := "(JII)V" } : Jvm.MethodName)) ∈ lw_all := lw_g (lw_at lw_m3 114 rfl) rfl
theorem q722 : (Jvm.Cond.code ({ cls := "LinkTimes$Spot", name := "<init>", desc := "(JII)V" } : Jvm.MethodName) prog_12_method_1_code (5 : Nat) (Option.none : Option Jvm.ClassFile.FieldType)) ∈ lw_all := lw_g (lw_at lw_m3 115 rfl) rfl
theorem q723 : (Jvm.Cond.methodLink "LinkTimes$Spot" (1 : Nat) ({ cls := "java/lang/Object", name := "<init>", desc := "()V" } : Jvm.MethodName)) ∈ lw_all := lw_g (lw_at lw_m3 116 rfl) rfl
theorem q724 : (Jvm.Cond.fieldLink "LinkTimes$Spot" (7 : Nat) "LinkTimes$Spot" "name" "J") ∈ lw_all := lw_g (lw_at lw_m3 117 rfl) rfl
theorem q726 : (Jvm.Cond.fieldLink "LinkTimes$Spot" (13 : Nat) "LinkTimes$Spot" "change" "I") ∈ lw_all := lw_g (lw_at lw_m3 119 rfl) rfl
theorem q729 : (Jvm.Cond.fieldLink "LinkTimes$Spot" (17 : Nat) "LinkTimes$Spot" "wait" "I") ∈ lw_all := lw_g (lw_at lw_m3 122 rfl) rfl
theorem q732 : (Jvm.Cond.laysFinal "LinkTimes$Spot" "LinkTimes$Spot" "name" "J") ∈ lw_all := lw_g (lw_at lw_m3 125 rfl) rfl
theorem q733 : (Jvm.Cond.soleField "LinkTimes$Spot" "name") ∈ lw_all := lw_g (lw_at lw_m3 126 rfl) rfl
theorem q734 : (Jvm.Cond.lays "LinkTimes$Spot" "LinkTimes$Spot" "change" "I") ∈ lw_all := lw_g (lw_at lw_m3 127 rfl) rfl
theorem q735 : (Jvm.Cond.soleField "LinkTimes$Spot" "change") ∈ lw_all := lw_g (lw_at lw_m3 128 rfl) rfl
theorem q736 : (Jvm.Cond.lays "LinkTimes$Spot" "LinkTimes$Spot" "wait" "I") ∈ lw_all := lw_g (lw_at lw_m3 129 rfl) rfl
theorem q737 : (Jvm.Cond.soleField "LinkTimes$Spot" "wait") ∈ lw_all := lw_g (lw_at lw_m3 130 rfl) rfl
theorem q738 : (Jvm.Cond.superclass "LinkTimes$Spot" "java/lang/Object") ∈ lw_all := lw_g (lw_at lw_m3 131 rfl) rfl
theorem q782 : (Jvm.Cond.selects "LinkTimes$Spot" ({ cls := "java/lang/Object", name := "getClass", desc := "()Ljava/lang/Class;" } : Jvm.MethodName) ({ cls := "java/lang/Object", name := "getClass", desc := "()Ljava/lang/Class;" } : Jvm.MethodName)) ∈ lw_all := lw_g (lw_at lw_m3 175 rfl) rfl
theorem q2401 : (Jvm.Cond.castable "LinkTimes$Spot" "java/lang/Object") ∈ lw_tbl := lw_at lw_m10 114 rfl

/-! LinkTimes$Departure -/
set_option maxRecDepth 100000
abbrev cX11_init : ByteArray := prog_5_method_1_code
def yX11_init : MethodName := ⟨RX11, "<init>", "(IIIIIII)V"⟩
def dkwX11_init_2 : List UInt8 := [177]
abbrev dktX11_init_2 : List UInt8 := dkwX11_init_2 ++ []
def dkwX11_init_1 : List UInt8 := [42, 21, 4, 181, 0, 23, 42, 21, 5, 181, 0, 26, 42, 21, 6, 181, 0, 29, 42, 21, 7, 181, 0, 32]
abbrev dktX11_init_1 : List UInt8 := dkwX11_init_1 ++ dktX11_init_2
def dkwX11_init_0 : List UInt8 := [42, 183, 0, 1, 42, 4, 181, 0, 7, 42, 27, 181, 0, 13, 42, 28, 181, 0, 17, 42, 29, 181, 0, 20]
abbrev dktX11_init_0 : List UInt8 := dkwX11_init_0 ++ dktX11_init_1
theorem dksX11_init_0 : cX11_init.data.toList.drop 0 = dktX11_init_0 := by decide +kernel
theorem dksX11_init_1 : cX11_init.data.toList.drop 24 = dktX11_init_1 := dk_seg dksX11_init_0 24 rfl rfl
theorem dksX11_init_2 : cX11_init.data.toList.drop 48 = dktX11_init_2 := dk_seg dksX11_init_1 24 rfl rfl
theorem dX11_init_0 : decode cX11_init 0 = .ok (.aload_n 0, 1) := dk_42 (dk_at dksX11_init_0 0 rfl rfl)
theorem dX11_init_1 : decode cX11_init 1 = .ok (.invokespecial 1, 3) := dk_183 0 1 (dk_at dksX11_init_0 1 rfl rfl)
theorem dX11_init_4 : decode cX11_init 4 = .ok (.aload_n 0, 1) := dk_42 (dk_at dksX11_init_0 4 rfl rfl)
theorem dX11_init_5 : decode cX11_init 5 = .ok (.iconst 1, 1) := dk_4 (dk_at dksX11_init_0 5 rfl rfl)
theorem dX11_init_6 : decode cX11_init 6 = .ok (.putfield 7, 3) := dk_181 0 7 (dk_at dksX11_init_0 6 rfl rfl)
theorem dX11_init_9 : decode cX11_init 9 = .ok (.aload_n 0, 1) := dk_42 (dk_at dksX11_init_0 9 rfl rfl)
theorem dX11_init_10 : decode cX11_init 10 = .ok (.iload_n 1, 1) := dk_27 (dk_at dksX11_init_0 10 rfl rfl)
theorem dX11_init_11 : decode cX11_init 11 = .ok (.putfield 13, 3) := dk_181 0 13 (dk_at dksX11_init_0 11 rfl rfl)
theorem dX11_init_14 : decode cX11_init 14 = .ok (.aload_n 0, 1) := dk_42 (dk_at dksX11_init_0 14 rfl rfl)
theorem dX11_init_15 : decode cX11_init 15 = .ok (.iload_n 2, 1) := dk_28 (dk_at dksX11_init_0 15 rfl rfl)
theorem dX11_init_16 : decode cX11_init 16 = .ok (.putfield 17, 3) := dk_181 0 17 (dk_at dksX11_init_0 16 rfl rfl)
theorem dX11_init_19 : decode cX11_init 19 = .ok (.aload_n 0, 1) := dk_42 (dk_at dksX11_init_0 19 rfl rfl)
theorem dX11_init_20 : decode cX11_init 20 = .ok (.iload_n 3, 1) := dk_29 (dk_at dksX11_init_0 20 rfl rfl)
theorem dX11_init_21 : decode cX11_init 21 = .ok (.putfield 20, 3) := dk_181 0 20 (dk_at dksX11_init_0 21 rfl rfl)
theorem dX11_init_24 : decode cX11_init 24 = .ok (.aload_n 0, 1) := dk_42 (dk_at dksX11_init_1 0 rfl rfl)
theorem dX11_init_25 : decode cX11_init 25 = .ok (.iload 4, 2) := dk_21 4 (dk_at dksX11_init_1 1 rfl rfl)
theorem dX11_init_27 : decode cX11_init 27 = .ok (.putfield 23, 3) := dk_181 0 23 (dk_at dksX11_init_1 3 rfl rfl)
theorem dX11_init_30 : decode cX11_init 30 = .ok (.aload_n 0, 1) := dk_42 (dk_at dksX11_init_1 6 rfl rfl)
theorem dX11_init_31 : decode cX11_init 31 = .ok (.iload 5, 2) := dk_21 5 (dk_at dksX11_init_1 7 rfl rfl)
theorem dX11_init_33 : decode cX11_init 33 = .ok (.putfield 26, 3) := dk_181 0 26 (dk_at dksX11_init_1 9 rfl rfl)
theorem dX11_init_36 : decode cX11_init 36 = .ok (.aload_n 0, 1) := dk_42 (dk_at dksX11_init_1 12 rfl rfl)
theorem dX11_init_37 : decode cX11_init 37 = .ok (.iload 6, 2) := dk_21 6 (dk_at dksX11_init_1 13 rfl rfl)
theorem dX11_init_39 : decode cX11_init 39 = .ok (.putfield 29, 3) := dk_181 0 29 (dk_at dksX11_init_1 15 rfl rfl)
theorem dX11_init_42 : decode cX11_init 42 = .ok (.aload_n 0, 1) := dk_42 (dk_at dksX11_init_1 18 rfl rfl)
theorem dX11_init_43 : decode cX11_init 43 = .ok (.iload 7, 2) := dk_21 7 (dk_at dksX11_init_1 19 rfl rfl)
theorem dX11_init_45 : decode cX11_init 45 = .ok (.putfield 32, 3) := dk_181 0 32 (dk_at dksX11_init_1 21 rfl rfl)
theorem dX11_init_48 : decode cX11_init 48 = .ok (.return_, 1) := dk_177 (dk_at dksX11_init_2 0 rfl rfl)
abbrev cX11_leaves : ByteArray := prog_5_method_2_code
def yX11_leaves : MethodName := ⟨RX11, "leaves", "()I"⟩
def dkwX11_leaves_0 : List UInt8 := [42, 180, 0, 29, 42, 180, 0, 35, 96, 172]
abbrev dktX11_leaves_0 : List UInt8 := dkwX11_leaves_0 ++ []
theorem dksX11_leaves_0 : cX11_leaves.data.toList.drop 0 = dktX11_leaves_0 := by decide +kernel
theorem dX11_leaves_0 : decode cX11_leaves 0 = .ok (.aload_n 0, 1) := dk_42 (dk_at dksX11_leaves_0 0 rfl rfl)
theorem dX11_leaves_1 : decode cX11_leaves 1 = .ok (.getfield 29, 3) := dk_180 0 29 (dk_at dksX11_leaves_0 1 rfl rfl)
theorem dX11_leaves_4 : decode cX11_leaves 4 = .ok (.aload_n 0, 1) := dk_42 (dk_at dksX11_leaves_0 4 rfl rfl)
theorem dX11_leaves_5 : decode cX11_leaves 5 = .ok (.getfield 35, 3) := dk_180 0 35 (dk_at dksX11_leaves_0 5 rfl rfl)
theorem dX11_leaves_8 : decode cX11_leaves 8 = .ok (.iadd, 1) := dk_96 (dk_at dksX11_leaves_0 8 rfl rfl)
theorem dX11_leaves_9 : decode cX11_leaves 9 = .ok (.ireturn, 1) := dk_172 (dk_at dksX11_leaves_0 9 rfl rfl)
abbrev cX11_arrives : ByteArray := prog_5_method_3_code
def yX11_arrives : MethodName := ⟨RX11, "arrives", "()I"⟩
def dkwX11_arrives_0 : List UInt8 := [42, 182, 0, 38, 42, 180, 0, 32, 96, 172]
abbrev dktX11_arrives_0 : List UInt8 := dkwX11_arrives_0 ++ []
theorem dksX11_arrives_0 : cX11_arrives.data.toList.drop 0 = dktX11_arrives_0 := by decide +kernel
theorem dX11_arrives_0 : decode cX11_arrives 0 = .ok (.aload_n 0, 1) := dk_42 (dk_at dksX11_arrives_0 0 rfl rfl)
theorem dX11_arrives_1 : decode cX11_arrives 1 = .ok (.invokevirtual 38, 3) := dk_182 0 38 (dk_at dksX11_arrives_0 1 rfl rfl)
theorem dX11_arrives_4 : decode cX11_arrives 4 = .ok (.aload_n 0, 1) := dk_42 (dk_at dksX11_arrives_0 4 rfl rfl)
theorem dX11_arrives_5 : decode cX11_arrives 5 = .ok (.getfield 32, 3) := dk_180 0 32 (dk_at dksX11_arrives_0 5 rfl rfl)
theorem dX11_arrives_8 : decode cX11_arrives 8 = .ok (.iadd, 1) := dk_96 (dk_at dksX11_arrives_0 8 rfl rfl)
theorem dX11_arrives_9 : decode cX11_arrives 9 = .ok (.ireturn, 1) := dk_172 (dk_at dksX11_arrives_0 9 rfl rfl)
theorem q160 : (Jvm.Cond.initialized "LinkTimes$Departure") ∈ lw_all := lw_g (lw_at lw_m1 33 rfl) rfl
theorem q775 : (Jvm.Cond.selects "LinkTimes$Departure" ({ cls := "java/lang/Object", name := "getClass", desc := "()Ljava/lang/Class;" } : Jvm.MethodName) ({ cls := "java/lang/Object", name := "getClass", desc := "()Ljava/lang/Class;" } : Jvm.MethodName)) ∈ lw_all := lw_g (lw_at lw_m3 168 rfl) rfl
theorem q843 : (Jvm.Cond.instantiable "LinkTimes$Departure" (9 : Nat)) ∈ lw_all := lw_g (lw_at lw_m3 236 rfl) rfl
theorem q845 : (Jvm.Cond.instanceMethod ({ cls := "LinkTimes$Departure", name := "<init>", desc := "(IIIIIII)V" } : Jvm.MethodName)) ∈ lw_all := lw_g (lw_at lw_m3 238 rfl) rfl
theorem q846 : (Jvm.Cond.code ({ cls := "LinkTimes$Departure", name := "<init>", desc := "(IIIIIII)V" } : Jvm.MethodName) prog_5_method_1_code (8 : Nat) (Option.none : Option Jvm.ClassFile.FieldType)) ∈ lw_all := lw_g (lw_at lw_m3 239 rfl) rfl
theorem q847 : (Jvm.Cond.methodLink "LinkTimes$Departure" (1 : Nat) ({ cls := "java/lang/Object", name := "<init>", desc := "()V" } : Jvm.MethodName)) ∈ lw_all := lw_g (lw_at lw_m4 0 rfl) rfl
theorem q848 : (Jvm.Cond.fieldLink "LinkTimes$Departure" (13 : Nat) "LinkTimes$Departure" "number" "I") ∈ lw_all := lw_g (lw_at lw_m4 1 rfl) rfl
theorem q852 : (Jvm.Cond.fieldLink "LinkTimes$Departure" (17 : Nat) "LinkTimes$Departure" "link" "I") ∈ lw_all := lw_g (lw_at lw_m4 5 rfl) rfl
theorem q854 : (Jvm.Cond.fieldLink "LinkTimes$Departure" (20 : Nat) "LinkTimes$Departure" "line" "I") ∈ lw_all := lw_g (lw_at lw_m4 7 rfl) rfl
theorem q857 : (Jvm.Cond.fieldLink "LinkTimes$Departure" (23 : Nat) "LinkTimes$Departure" "from" "I") ∈ lw_all := lw_g (lw_at lw_m4 10 rfl) rfl
theorem q860 : (Jvm.Cond.fieldLink "LinkTimes$Departure" (26 : Nat) "LinkTimes$Departure" "to" "I") ∈ lw_all := lw_g (lw_at lw_m4 13 rfl) rfl
theorem q863 : (Jvm.Cond.fieldLink "LinkTimes$Departure" (29 : Nat) "LinkTimes$Departure" "told" "I") ∈ lw_all := lw_g (lw_at lw_m4 16 rfl) rfl
theorem q865 : (Jvm.Cond.fieldLink "LinkTimes$Departure" (32 : Nat) "LinkTimes$Departure" "takes" "I") ∈ lw_all := lw_g (lw_at lw_m4 18 rfl) rfl
theorem q867 : (Jvm.Cond.fieldLink "LinkTimes$Departure" (35 : Nat) "LinkTimes$Departure" "delay" "I") ∈ lw_all := lw_g (lw_at lw_m4 20 rfl) rfl
theorem q869 : (Jvm.Cond.fieldLink "LinkTimes$Departure" (7 : Nat) "LinkTimes$Departure" "runs" "Z") ∈ lw_all := lw_g (lw_at lw_m4 22 rfl) rfl
theorem q872 : (Jvm.Cond.laysFinal "LinkTimes$Departure" "LinkTimes$Departure" "number" "I") ∈ lw_all := lw_g (lw_at lw_m4 25 rfl) rfl
theorem q873 : (Jvm.Cond.soleField "LinkTimes$Departure" "number") ∈ lw_all := lw_g (lw_at lw_m4 26 rfl) rfl
theorem q874 : (Jvm.Cond.laysFinal "LinkTimes$Departure" "LinkTimes$Departure" "link" "I") ∈ lw_all := lw_g (lw_at lw_m4 27 rfl) rfl
theorem q875 : (Jvm.Cond.soleField "LinkTimes$Departure" "link") ∈ lw_all := lw_g (lw_at lw_m4 28 rfl) rfl
theorem q876 : (Jvm.Cond.laysFinal "LinkTimes$Departure" "LinkTimes$Departure" "line" "I") ∈ lw_all := lw_g (lw_at lw_m4 29 rfl) rfl
theorem q877 : (Jvm.Cond.soleField "LinkTimes$Departure" "line") ∈ lw_all := lw_g (lw_at lw_m4 30 rfl) rfl
theorem q878 : (Jvm.Cond.laysFinal "LinkTimes$Departure" "LinkTimes$Departure" "from" "I") ∈ lw_all := lw_g (lw_at lw_m4 31 rfl) rfl
theorem q879 : (Jvm.Cond.soleField "LinkTimes$Departure" "from") ∈ lw_all := lw_g (lw_at lw_m4 32 rfl) rfl
theorem q880 : (Jvm.Cond.laysFinal "LinkTimes$Departure" "LinkTimes$Departure" "to" "I") ∈ lw_all := lw_g (lw_at lw_m4 33 rfl) rfl
theorem q881 : (Jvm.Cond.soleField "LinkTimes$Departure" "to") ∈ lw_all := lw_g (lw_at lw_m4 34 rfl) rfl
theorem q882 : (Jvm.Cond.laysFinal "LinkTimes$Departure" "LinkTimes$Departure" "told" "I") ∈ lw_all := lw_g (lw_at lw_m4 35 rfl) rfl
theorem q883 : (Jvm.Cond.soleField "LinkTimes$Departure" "told") ∈ lw_all := lw_g (lw_at lw_m4 36 rfl) rfl
theorem q884 : (Jvm.Cond.laysFinal "LinkTimes$Departure" "LinkTimes$Departure" "takes" "I") ∈ lw_all := lw_g (lw_at lw_m4 37 rfl) rfl
theorem q885 : (Jvm.Cond.soleField "LinkTimes$Departure" "takes") ∈ lw_all := lw_g (lw_at lw_m4 38 rfl) rfl
theorem q886 : (Jvm.Cond.lays "LinkTimes$Departure" "LinkTimes$Departure" "delay" "I") ∈ lw_all := lw_g (lw_at lw_m4 39 rfl) rfl
theorem q887 : (Jvm.Cond.soleField "LinkTimes$Departure" "delay") ∈ lw_all := lw_g (lw_at lw_m4 40 rfl) rfl
theorem q888 : (Jvm.Cond.lays "LinkTimes$Departure" "LinkTimes$Departure" "runs" "Z") ∈ lw_all := lw_g (lw_at lw_m4 41 rfl) rfl
theorem q889 : (Jvm.Cond.soleField "LinkTimes$Departure" "runs") ∈ lw_all := lw_g (lw_at lw_m4 42 rfl) rfl
theorem q890 : (Jvm.Cond.superclass "LinkTimes$Departure" "java/lang/Object") ∈ lw_all := lw_g (lw_at lw_m4 43 rfl) rfl
theorem q1145 : (Jvm.Cond.instanceMethod ({ cls := "LinkTimes$Departure", name := "leaves", desc := "()I" } : Jvm.MethodName)) ∈ lw_all := lw_g (lw_at lw_m5 58 rfl) rfl
theorem q1146 : (Jvm.Cond.selects "LinkTimes$Departure" ({ cls := "LinkTimes$Departure", name := "leaves", desc := "()I" } : Jvm.MethodName) ({ cls := "LinkTimes$Departure", name := "leaves", desc := "()I" } : Jvm.MethodName)) ∈ lw_all := lw_g (lw_at lw_m5 59 rfl) rfl
theorem q1147 : (Jvm.Cond.code ({ cls := "LinkTimes$Departure", name := "leaves", desc := "()I" } : Jvm.MethodName) prog_5_method_2_code (1 : Nat) (Option.some Jvm.ClassFile.FieldType.int)) ∈ lw_all := lw_g (lw_at lw_m5 60 rfl) rfl
theorem q1261 : (Jvm.Cond.instanceMethod ({ cls := "LinkTimes$Departure", name := "arrives", desc := "()I" } : Jvm.MethodName)) ∈ lw_all := lw_g (lw_at lw_m5 174 rfl) rfl
theorem q1262 : (Jvm.Cond.selects "LinkTimes$Departure" ({ cls := "LinkTimes$Departure", name := "arrives", desc := "()I" } : Jvm.MethodName) ({ cls := "LinkTimes$Departure", name := "arrives", desc := "()I" } : Jvm.MethodName)) ∈ lw_all := lw_g (lw_at lw_m5 175 rfl) rfl
theorem q1263 : (Jvm.Cond.code ({ cls := "LinkTimes$Departure", name := "arrives", desc := "()I" } : Jvm.MethodName) prog_5_method_3_code (1 : Nat) (Option.some Jvm.ClassFile.FieldType.int)) ∈ lw_all := lw_g (lw_at lw_m5 176 rfl) rfl
theorem q1264 : (Jvm.Cond.methodLink "LinkTimes$Departure" (38 : Nat) ({ cls := "LinkTimes$Departure", name := "leaves", desc := "()I" } : Jvm.MethodName)) ∈ lw_all := lw_g (lw_at lw_m5 177 rfl) rfl
theorem q2388 : (Jvm.Cond.castable "LinkTimes$Departure" "java/lang/Object") ∈ lw_tbl := lw_at lw_m10 101 rfl

/-! LinkTimes$BadLine -/
set_option maxRecDepth 100000
abbrev cX12_init : ByteArray := prog_3_method_1_code
def yX12_init : MethodName := ⟨RX12, "<init>", "(LLinkTimes$Trouble;)V"⟩
def dkwX12_init_0 : List UInt8 := [42, 1, 43, 4, 3, 183, 0, 1, 177]
abbrev dktX12_init_0 : List UInt8 := dkwX12_init_0 ++ []
theorem dksX12_init_0 : cX12_init.data.toList.drop 0 = dktX12_init_0 := by decide +kernel
theorem dX12_init_0 : decode cX12_init 0 = .ok (.aload_n 0, 1) := dk_42 (dk_at dksX12_init_0 0 rfl rfl)
theorem dX12_init_1 : decode cX12_init 1 = .ok (.aconst_null, 1) := dk_1 (dk_at dksX12_init_0 1 rfl rfl)
theorem dX12_init_2 : decode cX12_init 2 = .ok (.aload_n 1, 1) := dk_43 (dk_at dksX12_init_0 2 rfl rfl)
theorem dX12_init_3 : decode cX12_init 3 = .ok (.iconst 1, 1) := dk_4 (dk_at dksX12_init_0 3 rfl rfl)
theorem dX12_init_4 : decode cX12_init 4 = .ok (.iconst 0, 1) := dk_3 (dk_at dksX12_init_0 4 rfl rfl)
theorem dX12_init_5 : decode cX12_init 5 = .ok (.invokespecial 1, 3) := dk_183 0 1 (dk_at dksX12_init_0 5 rfl rfl)
theorem dX12_init_8 : decode cX12_init 8 = .ok (.return_, 1) := dk_177 (dk_at dksX12_init_0 8 rfl rfl)
theorem q161 : (Jvm.Cond.initialized "LinkTimes$BadLine") ∈ lw_all := lw_g (lw_at lw_m1 34 rfl) rfl
theorem q594 : (Jvm.Cond.selects "LinkTimes$BadLine" ({ cls := "java/lang/Throwable", name := "fillInStackTrace", desc := "()Ljava/lang/Throwable;" } : Jvm.MethodName) ({ cls := "java/lang/Throwable", name := "fillInStackTrace", desc := "()Ljava/lang/Throwable;" } : Jvm.MethodName)) ∈ lw_all := lw_g (lw_at lw_m2 227 rfl) rfl
theorem q773 : (Jvm.Cond.selects "LinkTimes$BadLine" ({ cls := "java/lang/Object", name := "getClass", desc := "()Ljava/lang/Class;" } : Jvm.MethodName) ({ cls := "java/lang/Object", name := "getClass", desc := "()Ljava/lang/Class;" } : Jvm.MethodName)) ∈ lw_all := lw_g (lw_at lw_m3 166 rfl) rfl
theorem q892 : (Jvm.Cond.instantiable "LinkTimes$BadLine" (6 : Nat)) ∈ lw_all := lw_g (lw_at lw_m4 45 rfl) rfl
theorem q893 : (Jvm.Cond.castable "LinkTimes$BadLine" "LinkTimes$BadLine") ∈ lw_tbl := lw_at lw_m4 46 rfl
theorem q894 : (Jvm.Cond.selects "LinkTimes$BadLine" ({ cls := "java/lang/Throwable", name := "fillInStackTrace", desc := "(I)Ljava/lang/Throwable;" } : Jvm.MethodName) ({ cls := "java/lang/Throwable", name := "fillInStackTrace", desc := "(I)Ljava/lang/Throwable;" } : Jvm.MethodName)) ∈ lw_all := lw_g (lw_at lw_m4 47 rfl) rfl
theorem q895 : (Jvm.Cond.lays "LinkTimes$BadLine" "java/lang/Throwable" "cause" "Ljava/lang/Throwable;") ∈ lw_all := lw_g (lw_at lw_m4 48 rfl) rfl
theorem q896 : (Jvm.Cond.lays "LinkTimes$BadLine" "java/lang/Throwable" "stackTrace" "[Ljava/lang/StackTraceElement;") ∈ lw_all := lw_g (lw_at lw_m4 49 rfl) rfl
theorem q897 : (Jvm.Cond.lays "LinkTimes$BadLine" "java/lang/Throwable" "suppressedExceptions" "Ljava/util/List;") ∈ lw_all := lw_g (lw_at lw_m4 50 rfl) rfl
theorem q898 : (Jvm.Cond.lays "LinkTimes$BadLine" "java/lang/Throwable" "detailMessage" "Ljava/lang/String;") ∈ lw_all := lw_g (lw_at lw_m4 51 rfl) rfl
theorem q899 : (Jvm.Cond.lays "LinkTimes$BadLine" "java/lang/Throwable" "backtrace" "Ljava/lang/Object;") ∈ lw_all := lw_g (lw_at lw_m4 52 rfl) rfl
theorem q901 : (Jvm.Cond.instanceMethod ({ cls := "LinkTimes$BadLine", name := "<init>", desc := "(LLinkTimes$Trouble;)V" } : Jvm.MethodName)) ∈ lw_all := lw_g (lw_at lw_m4 54 rfl) rfl
theorem q902 : (Jvm.Cond.code ({ cls := "LinkTimes$BadLine", name := "<init>", desc := "(LLinkTimes$Trouble;)V" } : Jvm.MethodName) prog_3_method_1_code (2 : Nat) (Option.none : Option Jvm.ClassFile.FieldType)) ∈ lw_all := lw_g (lw_at lw_m4 55 rfl) rfl
theorem q903 : (Jvm.Cond.methodLink "LinkTimes$BadLine" (1 : Nat) ({ cls := "java/lang/Exception", name := "<init>", desc := "(Ljava/lang/String;Ljava/lang/Throwable;ZZ)V" } : Jvm.MethodName)) ∈ lw_all := lw_g (lw_at lw_m4 56 rfl) rfl
theorem q904 : (Jvm.Cond.lays "LinkTimes$BadLine" "java/lang/Throwable" "depth" "I") ∈ lw_all := lw_g (lw_at lw_m4 57 rfl) rfl
theorem q905 : (Jvm.Cond.superclass "LinkTimes$BadLine" "java/lang/Exception") ∈ lw_all := lw_g (lw_at lw_m4 58 rfl) rfl
theorem q911 : (Jvm.Cond.sameMethod "LinkTimes$BadLine" "java/lang/Throwable" "getCause" "()Ljava/lang/Throwable;") ∈ lw_all := lw_g (lw_at lw_m4 64 rfl) rfl
theorem q913 : (Jvm.Cond.selects "LinkTimes$BadLine" ({ cls := "LinkTimes$BadLine", name := "getCause", desc := "()Ljava/lang/Throwable;" } : Jvm.MethodName) ({ cls := "java/lang/Throwable", name := "getCause", desc := "()Ljava/lang/Throwable;" } : Jvm.MethodName)) ∈ lw_all := lw_g (lw_at lw_m4 66 rfl) rfl
theorem q2381 : (Jvm.Cond.selects "LinkTimes$BadLine" ({ cls := "java/lang/Throwable", name := "getCause", desc := "()Ljava/lang/Throwable;" } : Jvm.MethodName) ({ cls := "java/lang/Throwable", name := "getCause", desc := "()Ljava/lang/Throwable;" } : Jvm.MethodName)) ∈ lw_all := lw_g (lw_at lw_m10 94 rfl) rfl
theorem q2403 : (Jvm.Cond.castable "LinkTimes$BadLine" "java/lang/Object") ∈ lw_tbl := lw_at lw_m10 116 rfl

/-! LinkTimes$NoWay -/
set_option maxRecDepth 100000
abbrev cX13_init : ByteArray := prog_9_method_1_code
def yX13_init : MethodName := ⟨RX13, "<init>", "(ILLinkTimes$NoWay;)V"⟩
def dkwX13_init_0 : List UInt8 := [42, 1, 44, 4, 3, 183, 0, 1, 42, 27, 181, 0, 7, 177]
abbrev dktX13_init_0 : List UInt8 := dkwX13_init_0 ++ []
theorem dksX13_init_0 : cX13_init.data.toList.drop 0 = dktX13_init_0 := by decide +kernel
theorem dX13_init_0 : decode cX13_init 0 = .ok (.aload_n 0, 1) := dk_42 (dk_at dksX13_init_0 0 rfl rfl)
theorem dX13_init_1 : decode cX13_init 1 = .ok (.aconst_null, 1) := dk_1 (dk_at dksX13_init_0 1 rfl rfl)
theorem dX13_init_2 : decode cX13_init 2 = .ok (.aload_n 2, 1) := dk_44 (dk_at dksX13_init_0 2 rfl rfl)
theorem dX13_init_3 : decode cX13_init 3 = .ok (.iconst 1, 1) := dk_4 (dk_at dksX13_init_0 3 rfl rfl)
theorem dX13_init_4 : decode cX13_init 4 = .ok (.iconst 0, 1) := dk_3 (dk_at dksX13_init_0 4 rfl rfl)
theorem dX13_init_5 : decode cX13_init 5 = .ok (.invokespecial 1, 3) := dk_183 0 1 (dk_at dksX13_init_0 5 rfl rfl)
theorem dX13_init_8 : decode cX13_init 8 = .ok (.aload_n 0, 1) := dk_42 (dk_at dksX13_init_0 8 rfl rfl)
theorem dX13_init_9 : decode cX13_init 9 = .ok (.iload_n 1, 1) := dk_27 (dk_at dksX13_init_0 9 rfl rfl)
theorem dX13_init_10 : decode cX13_init 10 = .ok (.putfield 7, 3) := dk_181 0 7 (dk_at dksX13_init_0 10 rfl rfl)
theorem dX13_init_13 : decode cX13_init 13 = .ok (.return_, 1) := dk_177 (dk_at dksX13_init_0 13 rfl rfl)
theorem q168 : (Jvm.Cond.initialized "LinkTimes$NoWay") ∈ lw_all := lw_g (lw_at lw_m1 41 rfl) rfl
theorem q596 : (Jvm.Cond.selects "LinkTimes$NoWay" ({ cls := "java/lang/Throwable", name := "fillInStackTrace", desc := "()Ljava/lang/Throwable;" } : Jvm.MethodName) ({ cls := "java/lang/Throwable", name := "fillInStackTrace", desc := "()Ljava/lang/Throwable;" } : Jvm.MethodName)) ∈ lw_all := lw_g (lw_at lw_m2 229 rfl) rfl
theorem q779 : (Jvm.Cond.selects "LinkTimes$NoWay" ({ cls := "java/lang/Object", name := "getClass", desc := "()Ljava/lang/Class;" } : Jvm.MethodName) ({ cls := "java/lang/Object", name := "getClass", desc := "()Ljava/lang/Class;" } : Jvm.MethodName)) ∈ lw_all := lw_g (lw_at lw_m3 172 rfl) rfl
theorem q1583 : (Jvm.Cond.instantiable "LinkTimes$NoWay" (7 : Nat)) ∈ lw_all := lw_g (lw_at lw_m7 16 rfl) rfl
theorem q1584 : (Jvm.Cond.castable "LinkTimes$NoWay" "LinkTimes$NoWay") ∈ lw_tbl := lw_at lw_m7 17 rfl
theorem q1585 : (Jvm.Cond.selects "LinkTimes$NoWay" ({ cls := "java/lang/Throwable", name := "fillInStackTrace", desc := "(I)Ljava/lang/Throwable;" } : Jvm.MethodName) ({ cls := "java/lang/Throwable", name := "fillInStackTrace", desc := "(I)Ljava/lang/Throwable;" } : Jvm.MethodName)) ∈ lw_all := lw_g (lw_at lw_m7 18 rfl) rfl
theorem q1586 : (Jvm.Cond.lays "LinkTimes$NoWay" "java/lang/Throwable" "cause" "Ljava/lang/Throwable;") ∈ lw_all := lw_g (lw_at lw_m7 19 rfl) rfl
theorem q1587 : (Jvm.Cond.lays "LinkTimes$NoWay" "java/lang/Throwable" "stackTrace" "[Ljava/lang/StackTraceElement;") ∈ lw_all := lw_g (lw_at lw_m7 20 rfl) rfl
theorem q1588 : (Jvm.Cond.lays "LinkTimes$NoWay" "java/lang/Throwable" "suppressedExceptions" "Ljava/util/List;") ∈ lw_all := lw_g (lw_at lw_m7 21 rfl) rfl
theorem q1589 : (Jvm.Cond.lays "LinkTimes$NoWay" "java/lang/Throwable" "detailMessage" "Ljava/lang/String;") ∈ lw_all := lw_g (lw_at lw_m7 22 rfl) rfl
theorem q1590 : (Jvm.Cond.lays "LinkTimes$NoWay" "java/lang/Throwable" "backtrace" "Ljava/lang/Object;") ∈ lw_all := lw_g (lw_at lw_m7 23 rfl) rfl
theorem q1592 : (Jvm.Cond.instanceMethod ({ cls := "LinkTimes$NoWay", name := "<init>", desc := "(ILLinkTimes$NoWay;)V" } : Jvm.MethodName)) ∈ lw_all := lw_g (lw_at lw_m7 25 rfl) rfl
theorem q1593 : (Jvm.Cond.code ({ cls := "LinkTimes$NoWay", name := "<init>", desc := "(ILLinkTimes$NoWay;)V" } : Jvm.MethodName) prog_9_method_1_code (3 : Nat) (Option.none : Option Jvm.ClassFile.FieldType)) ∈ lw_all := lw_g (lw_at lw_m7 26 rfl) rfl
theorem q1594 : (Jvm.Cond.methodLink "LinkTimes$NoWay" (1 : Nat) ({ cls := "java/lang/Exception", name := "<init>", desc := "(Ljava/lang/String;Ljava/lang/Throwable;ZZ)V" } : Jvm.MethodName)) ∈ lw_all := lw_g (lw_at lw_m7 27 rfl) rfl
theorem q1595 : (Jvm.Cond.fieldLink "LinkTimes$NoWay" (7 : Nat) "LinkTimes$NoWay" "reason" "I") ∈ lw_all := lw_g (lw_at lw_m7 28 rfl) rfl
theorem q1597 : (Jvm.Cond.laysFinal "LinkTimes$NoWay" "LinkTimes$NoWay" "reason" "I") ∈ lw_all := lw_g (lw_at lw_m7 30 rfl) rfl
theorem q1598 : (Jvm.Cond.soleField "LinkTimes$NoWay" "reason") ∈ lw_all := lw_g (lw_at lw_m7 31 rfl) rfl
theorem q1599 : (Jvm.Cond.lays "LinkTimes$NoWay" "java/lang/Throwable" "depth" "I") ∈ lw_all := lw_g (lw_at lw_m7 32 rfl) rfl
theorem q1600 : (Jvm.Cond.superclass "LinkTimes$NoWay" "java/lang/Exception") ∈ lw_all := lw_g (lw_at lw_m7 33 rfl) rfl
theorem q2384 : (Jvm.Cond.selects "LinkTimes$NoWay" ({ cls := "java/lang/Throwable", name := "getCause", desc := "()Ljava/lang/Throwable;" } : Jvm.MethodName) ({ cls := "java/lang/Throwable", name := "getCause", desc := "()Ljava/lang/Throwable;" } : Jvm.MethodName)) ∈ lw_all := lw_g (lw_at lw_m10 97 rfl) rfl
theorem q2407 : (Jvm.Cond.castable "LinkTimes$NoWay" "java/lang/Object") ∈ lw_tbl := lw_at lw_m10 120 rfl

/-! LinkTimes$Act -/
set_option maxRecDepth 100000
abbrev cX14_init : ByteArray := prog_2_method_1_code
def yX14_init : MethodName := ⟨RX14, "<init>", "(III)V"⟩
def dkwX14_init_0 : List UInt8 := [42, 183, 0, 1, 42, 27, 181, 0, 7, 42, 28, 181, 0, 13, 42, 29, 181, 0, 16, 177]
abbrev dktX14_init_0 : List UInt8 := dkwX14_init_0 ++ []
theorem dksX14_init_0 : cX14_init.data.toList.drop 0 = dktX14_init_0 := by decide +kernel
theorem dX14_init_0 : decode cX14_init 0 = .ok (.aload_n 0, 1) := dk_42 (dk_at dksX14_init_0 0 rfl rfl)
theorem dX14_init_1 : decode cX14_init 1 = .ok (.invokespecial 1, 3) := dk_183 0 1 (dk_at dksX14_init_0 1 rfl rfl)
theorem dX14_init_4 : decode cX14_init 4 = .ok (.aload_n 0, 1) := dk_42 (dk_at dksX14_init_0 4 rfl rfl)
theorem dX14_init_5 : decode cX14_init 5 = .ok (.iload_n 1, 1) := dk_27 (dk_at dksX14_init_0 5 rfl rfl)
theorem dX14_init_6 : decode cX14_init 6 = .ok (.putfield 7, 3) := dk_181 0 7 (dk_at dksX14_init_0 6 rfl rfl)
theorem dX14_init_9 : decode cX14_init 9 = .ok (.aload_n 0, 1) := dk_42 (dk_at dksX14_init_0 9 rfl rfl)
theorem dX14_init_10 : decode cX14_init 10 = .ok (.iload_n 2, 1) := dk_28 (dk_at dksX14_init_0 10 rfl rfl)
theorem dX14_init_11 : decode cX14_init 11 = .ok (.putfield 13, 3) := dk_181 0 13 (dk_at dksX14_init_0 11 rfl rfl)
theorem dX14_init_14 : decode cX14_init 14 = .ok (.aload_n 0, 1) := dk_42 (dk_at dksX14_init_0 14 rfl rfl)
theorem dX14_init_15 : decode cX14_init 15 = .ok (.iload_n 3, 1) := dk_29 (dk_at dksX14_init_0 15 rfl rfl)
theorem dX14_init_16 : decode cX14_init 16 = .ok (.putfield 16, 3) := dk_181 0 16 (dk_at dksX14_init_0 16 rfl rfl)
theorem dX14_init_19 : decode cX14_init 19 = .ok (.return_, 1) := dk_177 (dk_at dksX14_init_0 19 rfl rfl)
abbrev cX14_what : ByteArray := prog_2_method_5_code
def yX14_what : MethodName := ⟨RX14, "what", "()I"⟩
theorem dX14_what_0 : decode cX14_what 0 = .ok (.aload_n 0, 1) := by decide +kernel
theorem dX14_what_1 : decode cX14_what 1 = .ok (.getfield 7, 3) := by decide +kernel
theorem dX14_what_4 : decode cX14_what 4 = .ok (.ireturn, 1) := by decide +kernel
abbrev cX14_which : ByteArray := prog_2_method_6_code
def yX14_which : MethodName := ⟨RX14, "which", "()I"⟩
theorem dX14_which_0 : decode cX14_which 0 = .ok (.aload_n 0, 1) := by decide +kernel
theorem dX14_which_1 : decode cX14_which 1 = .ok (.getfield 13, 3) := by decide +kernel
theorem dX14_which_4 : decode cX14_which 4 = .ok (.ireturn, 1) := by decide +kernel
abbrev cX14_had : ByteArray := prog_2_method_7_code
def yX14_had : MethodName := ⟨RX14, "had", "()I"⟩
theorem dX14_had_0 : decode cX14_had 0 = .ok (.aload_n 0, 1) := by decide +kernel
theorem dX14_had_1 : decode cX14_had 1 = .ok (.getfield 16, 3) := by decide +kernel
theorem dX14_had_4 : decode cX14_had 4 = .ok (.ireturn, 1) := by decide +kernel
theorem q170 : (Jvm.Cond.initialized "LinkTimes$Act") ∈ lw_all := lw_g (lw_at lw_m1 43 rfl) rfl
theorem q772 : (Jvm.Cond.selects "LinkTimes$Act" ({ cls := "java/lang/Object", name := "getClass", desc := "()Ljava/lang/Class;" } : Jvm.MethodName) ({ cls := "java/lang/Object", name := "getClass", desc := "()Ljava/lang/Class;" } : Jvm.MethodName)) ∈ lw_all := lw_g (lw_at lw_m3 165 rfl) rfl
theorem q1638 : (Jvm.Cond.instantiable "LinkTimes$Act" (3 : Nat)) ∈ lw_all := lw_g (lw_at lw_m7 71 rfl) rfl
theorem q1640 : (Jvm.Cond.instanceMethod ({ cls := "LinkTimes$Act", name := "<init>", desc := "(III)V" } : Jvm.MethodName)) ∈ lw_all := lw_g (lw_at lw_m7 73 rfl) rfl
theorem q1641 : (Jvm.Cond.code ({ cls := "LinkTimes$Act", name := "<init>", desc := "(III)V" } : Jvm.MethodName) prog_2_method_1_code (4 : Nat) (Option.none : Option Jvm.ClassFile.FieldType)) ∈ lw_all := lw_g (lw_at lw_m7 74 rfl) rfl
theorem q1642 : (Jvm.Cond.methodLink "LinkTimes$Act" (1 : Nat) ({ cls := "java/lang/Record", name := "<init>", desc := "()V" } : Jvm.MethodName)) ∈ lw_all := lw_g (lw_at lw_m7 75 rfl) rfl
theorem q1646 : (Jvm.Cond.fieldLink "LinkTimes$Act" (7 : Nat) "LinkTimes$Act" "what" "I") ∈ lw_all := lw_g (lw_at lw_m7 79 rfl) rfl
theorem q1647 : (Jvm.Cond.fieldLink "LinkTimes$Act" (13 : Nat) "LinkTimes$Act" "which" "I") ∈ lw_all := lw_g (lw_at lw_m7 80 rfl) rfl
theorem q1648 : (Jvm.Cond.fieldLink "LinkTimes$Act" (16 : Nat) "LinkTimes$Act" "had" "I") ∈ lw_all := lw_g (lw_at lw_m7 81 rfl) rfl
theorem q1649 : (Jvm.Cond.laysFinal "LinkTimes$Act" "LinkTimes$Act" "what" "I") ∈ lw_all := lw_g (lw_at lw_m7 82 rfl) rfl
theorem q1650 : (Jvm.Cond.soleField "LinkTimes$Act" "what") ∈ lw_all := lw_g (lw_at lw_m7 83 rfl) rfl
theorem q1651 : (Jvm.Cond.laysFinal "LinkTimes$Act" "LinkTimes$Act" "which" "I") ∈ lw_all := lw_g (lw_at lw_m7 84 rfl) rfl
theorem q1652 : (Jvm.Cond.soleField "LinkTimes$Act" "which") ∈ lw_all := lw_g (lw_at lw_m7 85 rfl) rfl
theorem q1653 : (Jvm.Cond.laysFinal "LinkTimes$Act" "LinkTimes$Act" "had" "I") ∈ lw_all := lw_g (lw_at lw_m7 86 rfl) rfl
theorem q1654 : (Jvm.Cond.soleField "LinkTimes$Act" "had") ∈ lw_all := lw_g (lw_at lw_m7 87 rfl) rfl
theorem q1655 : (Jvm.Cond.superclass "LinkTimes$Act" "java/lang/Record") ∈ lw_all := lw_g (lw_at lw_m7 88 rfl) rfl
theorem q1751 : (Jvm.Cond.instanceMethod ({ cls := "LinkTimes$Act", name := "what", desc := "()I" } : Jvm.MethodName)) ∈ lw_all := lw_g (lw_at lw_m7 184 rfl) rfl
theorem q1752 : (Jvm.Cond.selects "LinkTimes$Act" ({ cls := "LinkTimes$Act", name := "what", desc := "()I" } : Jvm.MethodName) ({ cls := "LinkTimes$Act", name := "what", desc := "()I" } : Jvm.MethodName)) ∈ lw_all := lw_g (lw_at lw_m7 185 rfl) rfl
theorem q1753 : (Jvm.Cond.code ({ cls := "LinkTimes$Act", name := "what", desc := "()I" } : Jvm.MethodName) prog_2_method_5_code (1 : Nat) (Option.some Jvm.ClassFile.FieldType.int)) ∈ lw_all := lw_g (lw_at lw_m7 186 rfl) rfl
theorem q1755 : (Jvm.Cond.instanceMethod ({ cls := "LinkTimes$Act", name := "which", desc := "()I" } : Jvm.MethodName)) ∈ lw_all := lw_g (lw_at lw_m7 188 rfl) rfl
theorem q1756 : (Jvm.Cond.selects "LinkTimes$Act" ({ cls := "LinkTimes$Act", name := "which", desc := "()I" } : Jvm.MethodName) ({ cls := "LinkTimes$Act", name := "which", desc := "()I" } : Jvm.MethodName)) ∈ lw_all := lw_g (lw_at lw_m7 189 rfl) rfl
theorem q1757 : (Jvm.Cond.code ({ cls := "LinkTimes$Act", name := "which", desc := "()I" } : Jvm.MethodName) prog_2_method_6_code (1 : Nat) (Option.some Jvm.ClassFile.FieldType.int)) ∈ lw_all := lw_g (lw_at lw_m7 190 rfl) rfl
theorem q1759 : (Jvm.Cond.instanceMethod ({ cls := "LinkTimes$Act", name := "had", desc := "()I" } : Jvm.MethodName)) ∈ lw_all := lw_g (lw_at lw_m7 192 rfl) rfl
theorem q1760 : (Jvm.Cond.selects "LinkTimes$Act" ({ cls := "LinkTimes$Act", name := "had", desc := "()I" } : Jvm.MethodName) ({ cls := "LinkTimes$Act", name := "had", desc := "()I" } : Jvm.MethodName)) ∈ lw_all := lw_g (lw_at lw_m7 193 rfl) rfl
theorem q1761 : (Jvm.Cond.code ({ cls := "LinkTimes$Act", name := "had", desc := "()I" } : Jvm.MethodName) prog_2_method_7_code (1 : Nat) (Option.some Jvm.ClassFile.FieldType.int)) ∈ lw_all := lw_g (lw_at lw_m7 194 rfl) rfl
theorem q2408 : (Jvm.Cond.castable "LinkTimes$Act" "java/lang/Object") ∈ lw_tbl := lw_at lw_m10 121 rfl

