set_option maxRecDepth 100000
/-! ClockZonesLaw -/
def RX0 : String := "ClockZonesLaw"
abbrev cX0_place : ByteArray := method_3_code
def yX0_place : MethodName := ⟨RX0, "place", "(LClockZones;II[J)I"⟩
abbrev cX0_edge : ByteArray := method_4_code
def yX0_edge : MethodName := ⟨RX0, "edge", "(LClockZones;II[J)I"⟩
theorem q116 : (Jvm.Cond.initialized "ClockZonesLaw") ∈ lw_all := lw_g (lw_at lw_m1 0 rfl) rfl
theorem q158 : (Jvm.Cond.methodLink "ClockZonesLaw" (24 : Nat) ({ cls := "ClockZones", name := "feed", desc := "(IIIII)I" } : Jvm.MethodName)) ∈ lw_all := lw_g (lw_at lw_m1 42 rfl) rfl
theorem q163 : (Jvm.Cond.classLink "ClockZonesLaw" (8 : Nat) "ClockZones") ∈ lw_all := lw_g (lw_at lw_m1 47 rfl) rfl
theorem q165 : (Jvm.Cond.methodLink "ClockZonesLaw" (20 : Nat) ({ cls := "ClockZones", name := "<init>", desc := "()V" } : Jvm.MethodName)) ∈ lw_all := lw_g (lw_at lw_m1 49 rfl) rfl
theorem q332 : (Jvm.Cond.methodLink "ClockZonesLaw" (29 : Nat) ({ cls := "ClockZones", name := "text", desc := "(I)I" } : Jvm.MethodName)) ∈ lw_all := lw_g (lw_at lw_m1 216 rfl) rfl
theorem q1294 : (Jvm.Cond.methodLink "ClockZonesLaw" (34 : Nat) ({ cls := "ClockZones", name := "fault", desc := "(I)I" } : Jvm.MethodName)) ∈ lw_all := lw_g (lw_at lw_m5 218 rfl) rfl
theorem q1298 : (Jvm.Cond.methodLink "ClockZonesLaw" (51 : Nat) ({ cls := "ClockZones", name := "when", desc := "(III)I" } : Jvm.MethodName)) ∈ lw_all := lw_g (lw_at lw_m5 222 rfl) rfl
theorem q1306 : (Jvm.Cond.methodLink "ClockZonesLaw" (56 : Nat) ({ cls := "ClockZones", name := "set", desc := "(III)I" } : Jvm.MethodName)) ∈ lw_all := lw_g (lw_at lw_m5 230 rfl) rfl
theorem q1310 : (Jvm.Cond.methodLink "ClockZonesLaw" (60 : Nat) ({ cls := "ClockZones", name := "great", desc := "(I)I" } : Jvm.MethodName)) ∈ lw_all := lw_g (lw_at lw_m5 234 rfl) rfl
theorem q1318 : (Jvm.Cond.methodLink "ClockZonesLaw" (113 : Nat) ({ cls := "ClockZones", name := "undo", desc := "()I" } : Jvm.MethodName)) ∈ lw_all := lw_g (lw_at lw_m6 2 rfl) rfl
theorem q1350 : (Jvm.Cond.methodLink "ClockZonesLaw" (64 : Nat) ({ cls := "ClockZones", name := "lay", desc := "(II)Z" } : Jvm.MethodName)) ∈ lw_all := lw_g (lw_at lw_m6 34 rfl) rfl
theorem q1433 : (Jvm.Cond.methodLink "ClockZonesLaw" (69 : Nat) ({ cls := "ClockZones", name := "meet", desc := "(IIIII)I" } : Jvm.MethodName)) ∈ lw_all := lw_g (lw_at lw_m6 117 rfl) rfl
theorem q1441 : (Jvm.Cond.methodLink "ClockZonesLaw" (73 : Nat) ({ cls := "ClockZones", name := "pass", desc := "(II)I" } : Jvm.MethodName)) ∈ lw_all := lw_g (lw_at lw_m6 125 rfl) rfl
theorem q1451 : (Jvm.Cond.methodLink "ClockZonesLaw" (77 : Nat) ({ cls := "ClockZones", name := "reset", desc := "(III)I" } : Jvm.MethodName)) ∈ lw_all := lw_g (lw_at lw_m6 135 rfl) rfl
theorem q1455 : (Jvm.Cond.methodLink "ClockZonesLaw" (81 : Nat) ({ cls := "ClockZones", name := "free", desc := "(II)I" } : Jvm.MethodName)) ∈ lw_all := lw_g (lw_at lw_m6 139 rfl) rfl
theorem q1465 : (Jvm.Cond.methodLink "ClockZonesLaw" (85 : Nat) ({ cls := "ClockZones", name := "copy", desc := "(II)I" } : Jvm.MethodName)) ∈ lw_all := lw_g (lw_at lw_m6 149 rfl) rfl
theorem q1469 : (Jvm.Cond.methodLink "ClockZonesLaw" (89 : Nat) ({ cls := "ClockZones", name := "join", desc := "(II)I" } : Jvm.MethodName)) ∈ lw_all := lw_g (lw_at lw_m6 153 rfl) rfl
theorem q1480 : (Jvm.Cond.methodLink "ClockZonesLaw" (93 : Nat) ({ cls := "ClockZones", name := "both", desc := "(II)I" } : Jvm.MethodName)) ∈ lw_all := lw_g (lw_at lw_m6 164 rfl) rfl
theorem q1490 : (Jvm.Cond.methodLink "ClockZonesLaw" (97 : Nat) ({ cls := "ClockZones", name := "step", desc := "(II)I" } : Jvm.MethodName)) ∈ lw_all := lw_g (lw_at lw_m6 174 rfl) rfl
theorem q1494 : (Jvm.Cond.methodLink "ClockZonesLaw" (101 : Nat) ({ cls := "ClockZones", name := "stay", desc := "(II)I" } : Jvm.MethodName)) ∈ lw_all := lw_g (lw_at lw_m6 178 rfl) rfl
theorem q1502 : (Jvm.Cond.methodLink "ClockZonesLaw" (105 : Nat) ({ cls := "ClockZones", name := "rough", desc := "(I)I" } : Jvm.MethodName)) ∈ lw_all := lw_g (lw_at lw_m6 186 rfl) rfl
theorem q1506 : (Jvm.Cond.methodLink "ClockZonesLaw" (109 : Nat) ({ cls := "ClockZones", name := "take", desc := "(II)I" } : Jvm.MethodName)) ∈ lw_all := lw_g (lw_at lw_m6 190 rfl) rfl
theorem q1514 : (Jvm.Cond.methodLink "ClockZonesLaw" (117 : Nat) ({ cls := "ClockZones", name := "bound", desc := "(IIII)I" } : Jvm.MethodName)) ∈ lw_all := lw_g (lw_at lw_m6 198 rfl) rfl
theorem q1523 : (Jvm.Cond.methodLink "ClockZonesLaw" (122 : Nat) ({ cls := "ClockZones", name := "empty", desc := "(I)I" } : Jvm.MethodName)) ∈ lw_all := lw_g (lw_at lw_m6 207 rfl) rfl
theorem q1527 : (Jvm.Cond.methodLink "ClockZonesLaw" (126 : Nat) ({ cls := "ClockZones", name := "within", desc := "(II)I" } : Jvm.MethodName)) ∈ lw_all := lw_g (lw_at lw_m6 211 rfl) rfl
theorem q1531 : (Jvm.Cond.methodLink "ClockZonesLaw" (130 : Nat) ({ cls := "ClockZones", name := "has", desc := "(IIIII)I" } : Jvm.MethodName)) ∈ lw_all := lw_g (lw_at lw_m6 215 rfl) rfl
theorem q1541 : (Jvm.Cond.methodLink "ClockZonesLaw" (206 : Nat) ({ cls := "ClockZones", name := "width", desc := "(IIII)I" } : Jvm.MethodName)) ∈ lw_all := lw_g (lw_at lw_m6 225 rfl) rfl
theorem q1546 : (Jvm.Cond.methodLink "ClockZonesLaw" (210 : Nat) ({ cls := "ClockZones", name := "touch", desc := "(II)I" } : Jvm.MethodName)) ∈ lw_all := lw_g (lw_at lw_m6 230 rfl) rfl
theorem q1550 : (Jvm.Cond.methodLink "ClockZonesLaw" (214 : Nat) ({ cls := "ClockZones", name := "back", desc := "(II)I" } : Jvm.MethodName)) ∈ lw_all := lw_g (lw_at lw_m6 234 rfl) rfl
theorem q1558 : (Jvm.Cond.methodLink "ClockZonesLaw" (218 : Nat) ({ cls := "ClockZones", name := "longest", desc := "(III)I" } : Jvm.MethodName)) ∈ lw_all := lw_g (lw_at lw_m7 2 rfl) rfl
theorem q1573 : (Jvm.Cond.methodLink "ClockZonesLaw" (222 : Nat) ({ cls := "ClockZones", name := "soonest", desc := "(III)I" } : Jvm.MethodName)) ∈ lw_all := lw_g (lw_at lw_m7 17 rfl) rfl
theorem q1577 : (Jvm.Cond.methodLink "ClockZonesLaw" (134 : Nat) ({ cls := "ClockZones", name := "pairs", desc := "(II)I" } : Jvm.MethodName)) ∈ lw_all := lw_g (lw_at lw_m7 21 rfl) rfl
theorem q1584 : (Jvm.Cond.methodLink "ClockZonesLaw" (138 : Nat) ({ cls := "ClockZones", name := "whole", desc := "(II)I" } : Jvm.MethodName)) ∈ lw_all := lw_g (lw_at lw_m7 28 rfl) rfl
theorem q1588 : (Jvm.Cond.methodLink "ClockZonesLaw" (142 : Nat) ({ cls := "ClockZones", name := "first", desc := "(II)I" } : Jvm.MethodName)) ∈ lw_all := lw_g (lw_at lw_m7 32 rfl) rfl
theorem q1607 : (Jvm.Cond.methodLink "ClockZonesLaw" (146 : Nat) ({ cls := "ClockZones", name := "nodes", desc := "()I" } : Jvm.MethodName)) ∈ lw_all := lw_g (lw_at lw_m7 51 rfl) rfl
theorem q1611 : (Jvm.Cond.methodLink "ClockZonesLaw" (150 : Nat) ({ cls := "ClockZones", name := "node", desc := "(II)I" } : Jvm.MethodName)) ∈ lw_all := lw_g (lw_at lw_m7 55 rfl) rfl
theorem q1615 : (Jvm.Cond.methodLink "ClockZonesLaw" (154 : Nat) ({ cls := "ClockZones", name := "nodeBound", desc := "(IIII)I" } : Jvm.MethodName)) ∈ lw_all := lw_g (lw_at lw_m7 59 rfl) rfl
theorem q1619 : (Jvm.Cond.methodLink "ClockZonesLaw" (158 : Nat) ({ cls := "ClockZones", name := "way", desc := "(II)I" } : Jvm.MethodName)) ∈ lw_all := lw_g (lw_at lw_m7 63 rfl) rfl
theorem q1746 : (Jvm.Cond.methodLink "ClockZonesLaw" (162 : Nat) ({ cls := "ClockZones", name := "open", desc := "(I)I" } : Jvm.MethodName)) ∈ lw_all := lw_g (lw_at lw_m7 190 rfl) rfl
theorem q1754 : (Jvm.Cond.methodLink "ClockZonesLaw" (166 : Nat) ({ cls := "ClockZones", name := "stuck", desc := "()I" } : Jvm.MethodName)) ∈ lw_all := lw_g (lw_at lw_m7 198 rfl) rfl
theorem q1758 : (Jvm.Cond.methodLink "ClockZonesLaw" (170 : Nat) ({ cls := "ClockZones", name := "reached", desc := "()I" } : Jvm.MethodName)) ∈ lw_all := lw_g (lw_at lw_m7 202 rfl) rfl
theorem q1762 : (Jvm.Cond.methodLink "ClockZonesLaw" (238 : Nat) ({ cls := "ClockZones", name := "deepest", desc := "(I)I" } : Jvm.MethodName)) ∈ lw_all := lw_g (lw_at lw_m7 206 rfl) rfl
theorem q1766 : (Jvm.Cond.methodLink "ClockZonesLaw" (242 : Nat) ({ cls := "ClockZones", name := "tells", desc := "(II)I" } : Jvm.MethodName)) ∈ lw_all := lw_g (lw_at lw_m7 210 rfl) rfl
theorem q1773 : (Jvm.Cond.methodLink "ClockZonesLaw" (246 : Nat) ({ cls := "ClockZones", name := "single", desc := "(I)I" } : Jvm.MethodName)) ∈ lw_all := lw_g (lw_at lw_m7 217 rfl) rfl
theorem q1778 : (Jvm.Cond.methodLink "ClockZonesLaw" (226 : Nat) ({ cls := "ClockZones", name := "leads", desc := "(I)I" } : Jvm.MethodName)) ∈ lw_all := lw_g (lw_at lw_m7 222 rfl) rfl
theorem q1782 : (Jvm.Cond.methodLink "ClockZonesLaw" (230 : Nat) ({ cls := "ClockZones", name := "fastest", desc := "(II)I" } : Jvm.MethodName)) ∈ lw_all := lw_g (lw_at lw_m7 226 rfl) rfl
theorem q1864 : (Jvm.Cond.methodLink "ClockZonesLaw" (174 : Nat) ({ cls := "ClockZones", name := "add", desc := "(I)I" } : Jvm.MethodName)) ∈ lw_all := lw_g (lw_at lw_m8 68 rfl) rfl
theorem q1913 : (Jvm.Cond.methodLink "ClockZonesLaw" (178 : Nat) ({ cls := "ClockZones", name := "lead", desc := "(I)I" } : Jvm.MethodName)) ∈ lw_all := lw_g (lw_at lw_m8 117 rfl) rfl
theorem q1925 : (Jvm.Cond.methodLink "ClockZonesLaw" (182 : Nat) ({ cls := "ClockZones", name := "trace", desc := "(I)I" } : Jvm.MethodName)) ∈ lw_all := lw_g (lw_at lw_m8 129 rfl) rfl
theorem q1929 : (Jvm.Cond.methodLink "ClockZonesLaw" (186 : Nat) ({ cls := "ClockZones", name := "can", desc := "()I" } : Jvm.MethodName)) ∈ lw_all := lw_g (lw_at lw_m8 133 rfl) rfl
theorem q1937 : (Jvm.Cond.methodLink "ClockZonesLaw" (190 : Nat) ({ cls := "ClockZones", name := "window", desc := "(II)I" } : Jvm.MethodName)) ∈ lw_all := lw_g (lw_at lw_m8 141 rfl) rfl
theorem q1941 : (Jvm.Cond.methodLink "ClockZonesLaw" (194 : Nat) ({ cls := "ClockZones", name := "between", desc := "(III)I" } : Jvm.MethodName)) ∈ lw_all := lw_g (lw_at lw_m8 145 rfl) rfl
theorem q1945 : (Jvm.Cond.methodLink "ClockZonesLaw" (198 : Nat) ({ cls := "ClockZones", name := "value", desc := "(III)I" } : Jvm.MethodName)) ∈ lw_all := lw_g (lw_at lw_m8 149 rfl) rfl
theorem q1949 : (Jvm.Cond.methodLink "ClockZonesLaw" (234 : Nat) ({ cls := "ClockZones", name := "moment", desc := "(I)I" } : Jvm.MethodName)) ∈ lw_all := lw_g (lw_at lw_m8 153 rfl) rfl
theorem q1961 : (Jvm.Cond.methodLink "ClockZonesLaw" (202 : Nat) ({ cls := "ClockZones", name := "breaks", desc := "()I" } : Jvm.MethodName)) ∈ lw_all := lw_g (lw_at lw_m8 165 rfl) rfl
theorem q1965 : (Jvm.Cond.methodLink "ClockZonesLaw" (250 : Nat) ({ cls := "ClockZones", name := "count", desc := "(I)I" } : Jvm.MethodName)) ∈ lw_all := lw_g (lw_at lw_m8 169 rfl) rfl
theorem q1969 : (Jvm.Cond.methodLink "ClockZonesLaw" (38 : Nat) ({ cls := "ClockZonesLaw", name := "place", desc := "(LClockZones;II[J)I" } : Jvm.MethodName)) ∈ lw_all := lw_g (lw_at lw_m8 173 rfl) rfl
theorem q1970 : (Jvm.Cond.static ({ cls := "ClockZonesLaw", name := "place", desc := "(LClockZones;II[J)I" } : Jvm.MethodName)) ∈ lw_all := lw_g (lw_at lw_m8 174 rfl) rfl
theorem q1971 : (Jvm.Cond.codeWith ({ cls := "ClockZonesLaw", name := "place", desc := "(LClockZones;II[J)I" } : Jvm.MethodName) method_3_code (5 : Nat) (Option.some Jvm.ClassFile.FieldType.int) [((0 : Nat), (10 : Nat), (13 : Nat), (13 : Nat)), ((0 : Nat), (10 : Nat), (17 : Nat), (15 : Nat))]) ∈ lw_all := lw_g (lw_at lw_m8 175 rfl) rfl
theorem q1972 : (Jvm.Cond.classLink "ClockZonesLaw" (13 : Nat) "java/lang/IndexOutOfBoundsException") ∈ lw_all := lw_g (lw_at lw_m8 176 rfl) rfl
theorem q1973 : (Jvm.Cond.classLink "ClockZonesLaw" (15 : Nat) "java/util/NoSuchElementException") ∈ lw_all := lw_g (lw_at lw_m8 177 rfl) rfl
theorem q1974 : (Jvm.Cond.methodLink "ClockZonesLaw" (7 : Nat) ({ cls := "ClockZones", name := "place", desc := "(II)I" } : Jvm.MethodName)) ∈ lw_all := lw_g (lw_at lw_m8 178 rfl) rfl
theorem q1985 : (Jvm.Cond.methodLink "ClockZonesLaw" (48 : Nat) ({ cls := "ClockZonesLaw", name := "edge", desc := "(LClockZones;II[J)I" } : Jvm.MethodName)) ∈ lw_all := lw_g (lw_at lw_m8 189 rfl) rfl
theorem q1986 : (Jvm.Cond.static ({ cls := "ClockZonesLaw", name := "edge", desc := "(LClockZones;II[J)I" } : Jvm.MethodName)) ∈ lw_all := lw_g (lw_at lw_m8 190 rfl) rfl
theorem q1987 : (Jvm.Cond.codeWith ({ cls := "ClockZonesLaw", name := "edge", desc := "(LClockZones;II[J)I" } : Jvm.MethodName) method_4_code (5 : Nat) (Option.some Jvm.ClassFile.FieldType.int) [((0 : Nat), (10 : Nat), (13 : Nat), (13 : Nat)), ((0 : Nat), (10 : Nat), (17 : Nat), (15 : Nat))]) ∈ lw_all := lw_g (lw_at lw_m8 191 rfl) rfl
theorem q1988 : (Jvm.Cond.methodLink "ClockZonesLaw" (17 : Nat) ({ cls := "ClockZones", name := "edge", desc := "(II)I" } : Jvm.MethodName)) ∈ lw_all := lw_g (lw_at lw_m8 192 rfl) rfl
theorem q1992 : (Jvm.Cond.methodLink "ClockZonesLaw" (44 : Nat) ({ cls := "ClockZonesModel", name := "thrown", desc := "()I" } : Jvm.MethodName)) ∈ lw_all := lw_g (lw_at lw_m8 196 rfl) rfl
theorem q1996 : (Jvm.Cond.classLink "ClockZonesLaw" (21 : Nat) "ClockZonesModel") ∈ lw_all := lw_g (lw_at lw_m8 200 rfl) rfl
theorem q1998 : (Jvm.Cond.methodLink "ClockZonesLaw" (23 : Nat) ({ cls := "ClockZonesModel", name := "<init>", desc := "()V" } : Jvm.MethodName)) ∈ lw_all := lw_g (lw_at lw_m8 202 rfl) rfl
theorem q2206 : (Jvm.Cond.methodLink "ClockZonesLaw" (28 : Nat) ({ cls := "ClockZonesModel", name := "feed", desc := "(IIIII)I" } : Jvm.MethodName)) ∈ lw_all := lw_g (lw_at lw_m9 170 rfl) rfl
theorem q2214 : (Jvm.Cond.methodLink "ClockZonesLaw" (33 : Nat) ({ cls := "ClockZonesModel", name := "text", desc := "(I)I" } : Jvm.MethodName)) ∈ lw_all := lw_g (lw_at lw_m9 178 rfl) rfl
theorem q2362 : (Jvm.Cond.methodLink "ClockZonesLaw" (37 : Nat) ({ cls := "ClockZonesModel", name := "fault", desc := "(I)I" } : Jvm.MethodName)) ∈ lw_all := lw_g (lw_at lw_m10 86 rfl) rfl
theorem q2366 : (Jvm.Cond.methodLink "ClockZonesLaw" (116 : Nat) ({ cls := "ClockZonesModel", name := "undo", desc := "()I" } : Jvm.MethodName)) ∈ lw_all := lw_g (lw_at lw_m10 90 rfl) rfl
theorem q2370 : (Jvm.Cond.methodLink "ClockZonesLaw" (68 : Nat) ({ cls := "ClockZonesModel", name := "lay", desc := "(II)Z" } : Jvm.MethodName)) ∈ lw_all := lw_g (lw_at lw_m10 94 rfl) rfl
theorem q2393 : (Jvm.Cond.methodLink "ClockZonesLaw" (72 : Nat) ({ cls := "ClockZonesModel", name := "meet", desc := "(IIIII)I" } : Jvm.MethodName)) ∈ lw_all := lw_g (lw_at lw_m10 117 rfl) rfl
theorem q2405 : (Jvm.Cond.methodLink "ClockZonesLaw" (76 : Nat) ({ cls := "ClockZonesModel", name := "pass", desc := "(II)I" } : Jvm.MethodName)) ∈ lw_all := lw_g (lw_at lw_m10 129 rfl) rfl
theorem q2416 : (Jvm.Cond.methodLink "ClockZonesLaw" (80 : Nat) ({ cls := "ClockZonesModel", name := "reset", desc := "(III)I" } : Jvm.MethodName)) ∈ lw_all := lw_g (lw_at lw_m10 140 rfl) rfl
theorem q2424 : (Jvm.Cond.methodLink "ClockZonesLaw" (84 : Nat) ({ cls := "ClockZonesModel", name := "free", desc := "(II)I" } : Jvm.MethodName)) ∈ lw_all := lw_g (lw_at lw_m10 148 rfl) rfl
theorem q2432 : (Jvm.Cond.methodLink "ClockZonesLaw" (88 : Nat) ({ cls := "ClockZonesModel", name := "copy", desc := "(II)I" } : Jvm.MethodName)) ∈ lw_all := lw_g (lw_at lw_m10 156 rfl) rfl
theorem q2436 : (Jvm.Cond.methodLink "ClockZonesLaw" (92 : Nat) ({ cls := "ClockZonesModel", name := "join", desc := "(II)I" } : Jvm.MethodName)) ∈ lw_all := lw_g (lw_at lw_m10 160 rfl) rfl
theorem q2444 : (Jvm.Cond.methodLink "ClockZonesLaw" (96 : Nat) ({ cls := "ClockZonesModel", name := "both", desc := "(II)I" } : Jvm.MethodName)) ∈ lw_all := lw_g (lw_at lw_m10 168 rfl) rfl
theorem q2452 : (Jvm.Cond.methodLink "ClockZonesLaw" (213 : Nat) ({ cls := "ClockZonesModel", name := "touch", desc := "(II)I" } : Jvm.MethodName)) ∈ lw_all := lw_g (lw_at lw_m10 176 rfl) rfl
theorem q2456 : (Jvm.Cond.methodLink "ClockZonesLaw" (100 : Nat) ({ cls := "ClockZonesModel", name := "step", desc := "(II)I" } : Jvm.MethodName)) ∈ lw_all := lw_g (lw_at lw_m10 180 rfl) rfl
theorem q2464 : (Jvm.Cond.methodLink "ClockZonesLaw" (217 : Nat) ({ cls := "ClockZonesModel", name := "back", desc := "(II)I" } : Jvm.MethodName)) ∈ lw_all := lw_g (lw_at lw_m10 188 rfl) rfl
theorem q2472 : (Jvm.Cond.methodLink "ClockZonesLaw" (104 : Nat) ({ cls := "ClockZonesModel", name := "stay", desc := "(II)I" } : Jvm.MethodName)) ∈ lw_all := lw_g (lw_at lw_m10 196 rfl) rfl
theorem q2480 : (Jvm.Cond.methodLink "ClockZonesLaw" (108 : Nat) ({ cls := "ClockZonesModel", name := "rough", desc := "(I)I" } : Jvm.MethodName)) ∈ lw_all := lw_g (lw_at lw_m10 204 rfl) rfl
theorem q2484 : (Jvm.Cond.methodLink "ClockZonesLaw" (112 : Nat) ({ cls := "ClockZonesModel", name := "take", desc := "(II)I" } : Jvm.MethodName)) ∈ lw_all := lw_g (lw_at lw_m10 208 rfl) rfl
theorem q2488 : (Jvm.Cond.methodLink "ClockZonesLaw" (121 : Nat) ({ cls := "ClockZonesModel", name := "bound", desc := "(IIII)I" } : Jvm.MethodName)) ∈ lw_all := lw_g (lw_at lw_m10 212 rfl) rfl
theorem q2496 : (Jvm.Cond.methodLink "ClockZonesLaw" (209 : Nat) ({ cls := "ClockZonesModel", name := "width", desc := "(IIII)I" } : Jvm.MethodName)) ∈ lw_all := lw_g (lw_at lw_m10 220 rfl) rfl
theorem q2500 : (Jvm.Cond.methodLink "ClockZonesLaw" (125 : Nat) ({ cls := "ClockZonesModel", name := "empty", desc := "(I)I" } : Jvm.MethodName)) ∈ lw_all := lw_g (lw_at lw_m10 224 rfl) rfl
theorem q2504 : (Jvm.Cond.methodLink "ClockZonesLaw" (129 : Nat) ({ cls := "ClockZonesModel", name := "within", desc := "(II)I" } : Jvm.MethodName)) ∈ lw_all := lw_g (lw_at lw_m10 228 rfl) rfl
theorem q2508 : (Jvm.Cond.methodLink "ClockZonesLaw" (133 : Nat) ({ cls := "ClockZonesModel", name := "has", desc := "(IIIII)I" } : Jvm.MethodName)) ∈ lw_all := lw_g (lw_at lw_m10 232 rfl) rfl
theorem q2516 : (Jvm.Cond.methodLink "ClockZonesLaw" (137 : Nat) ({ cls := "ClockZonesModel", name := "pairs", desc := "(II)I" } : Jvm.MethodName)) ∈ lw_all := lw_g (lw_at lw_m11 0 rfl) rfl
theorem q2524 : (Jvm.Cond.methodLink "ClockZonesLaw" (249 : Nat) ({ cls := "ClockZonesModel", name := "single", desc := "(I)I" } : Jvm.MethodName)) ∈ lw_all := lw_g (lw_at lw_m11 8 rfl) rfl
theorem q2528 : (Jvm.Cond.methodLink "ClockZonesLaw" (141 : Nat) ({ cls := "ClockZonesModel", name := "whole", desc := "(II)I" } : Jvm.MethodName)) ∈ lw_all := lw_g (lw_at lw_m11 12 rfl) rfl
theorem q2532 : (Jvm.Cond.methodLink "ClockZonesLaw" (145 : Nat) ({ cls := "ClockZonesModel", name := "first", desc := "(II)I" } : Jvm.MethodName)) ∈ lw_all := lw_g (lw_at lw_m11 16 rfl) rfl
theorem q2540 : (Jvm.Cond.methodLink "ClockZonesLaw" (221 : Nat) ({ cls := "ClockZonesModel", name := "longest", desc := "(III)I" } : Jvm.MethodName)) ∈ lw_all := lw_g (lw_at lw_m11 24 rfl) rfl
theorem q2548 : (Jvm.Cond.methodLink "ClockZonesLaw" (225 : Nat) ({ cls := "ClockZonesModel", name := "soonest", desc := "(III)I" } : Jvm.MethodName)) ∈ lw_all := lw_g (lw_at lw_m11 32 rfl) rfl
theorem q2555 : (Jvm.Cond.methodLink "ClockZonesLaw" (149 : Nat) ({ cls := "ClockZonesModel", name := "nodes", desc := "()I" } : Jvm.MethodName)) ∈ lw_all := lw_g (lw_at lw_m11 39 rfl) rfl
theorem q2559 : (Jvm.Cond.methodLink "ClockZonesLaw" (153 : Nat) ({ cls := "ClockZonesModel", name := "node", desc := "(II)I" } : Jvm.MethodName)) ∈ lw_all := lw_g (lw_at lw_m11 43 rfl) rfl
theorem q2567 : (Jvm.Cond.methodLink "ClockZonesLaw" (157 : Nat) ({ cls := "ClockZonesModel", name := "nodeBound", desc := "(IIII)I" } : Jvm.MethodName)) ∈ lw_all := lw_g (lw_at lw_m11 51 rfl) rfl
theorem q2571 : (Jvm.Cond.methodLink "ClockZonesLaw" (161 : Nat) ({ cls := "ClockZonesModel", name := "way", desc := "(II)I" } : Jvm.MethodName)) ∈ lw_all := lw_g (lw_at lw_m11 55 rfl) rfl
theorem q2583 : (Jvm.Cond.methodLink "ClockZonesLaw" (241 : Nat) ({ cls := "ClockZonesModel", name := "deepest", desc := "(I)I" } : Jvm.MethodName)) ∈ lw_all := lw_g (lw_at lw_m11 67 rfl) rfl
theorem q2587 : (Jvm.Cond.methodLink "ClockZonesLaw" (165 : Nat) ({ cls := "ClockZonesModel", name := "open", desc := "(I)I" } : Jvm.MethodName)) ∈ lw_all := lw_g (lw_at lw_m11 71 rfl) rfl
theorem q2595 : (Jvm.Cond.methodLink "ClockZonesLaw" (169 : Nat) ({ cls := "ClockZonesModel", name := "stuck", desc := "()I" } : Jvm.MethodName)) ∈ lw_all := lw_g (lw_at lw_m11 79 rfl) rfl
theorem q2599 : (Jvm.Cond.methodLink "ClockZonesLaw" (173 : Nat) ({ cls := "ClockZonesModel", name := "reached", desc := "()I" } : Jvm.MethodName)) ∈ lw_all := lw_g (lw_at lw_m11 83 rfl) rfl
theorem q2603 : (Jvm.Cond.methodLink "ClockZonesLaw" (229 : Nat) ({ cls := "ClockZonesModel", name := "leads", desc := "(I)I" } : Jvm.MethodName)) ∈ lw_all := lw_g (lw_at lw_m11 87 rfl) rfl
theorem q2607 : (Jvm.Cond.methodLink "ClockZonesLaw" (43 : Nat) ({ cls := "ClockZonesModel", name := "place", desc := "(II)I" } : Jvm.MethodName)) ∈ lw_all := lw_g (lw_at lw_m11 91 rfl) rfl
theorem q2611 : (Jvm.Cond.methodLink "ClockZonesLaw" (50 : Nat) ({ cls := "ClockZonesModel", name := "edge", desc := "(II)I" } : Jvm.MethodName)) ∈ lw_all := lw_g (lw_at lw_m11 95 rfl) rfl
theorem q2615 : (Jvm.Cond.methodLink "ClockZonesLaw" (55 : Nat) ({ cls := "ClockZonesModel", name := "when", desc := "(III)I" } : Jvm.MethodName)) ∈ lw_all := lw_g (lw_at lw_m11 99 rfl) rfl
theorem q2619 : (Jvm.Cond.methodLink "ClockZonesLaw" (59 : Nat) ({ cls := "ClockZonesModel", name := "set", desc := "(III)I" } : Jvm.MethodName)) ∈ lw_all := lw_g (lw_at lw_m11 103 rfl) rfl
theorem q2623 : (Jvm.Cond.methodLink "ClockZonesLaw" (245 : Nat) ({ cls := "ClockZonesModel", name := "tells", desc := "(II)I" } : Jvm.MethodName)) ∈ lw_all := lw_g (lw_at lw_m11 107 rfl) rfl
theorem q2635 : (Jvm.Cond.methodLink "ClockZonesLaw" (63 : Nat) ({ cls := "ClockZonesModel", name := "great", desc := "(I)I" } : Jvm.MethodName)) ∈ lw_all := lw_g (lw_at lw_m11 119 rfl) rfl
theorem q2639 : (Jvm.Cond.methodLink "ClockZonesLaw" (177 : Nat) ({ cls := "ClockZonesModel", name := "add", desc := "(I)I" } : Jvm.MethodName)) ∈ lw_all := lw_g (lw_at lw_m11 123 rfl) rfl
theorem q2647 : (Jvm.Cond.methodLink "ClockZonesLaw" (181 : Nat) ({ cls := "ClockZonesModel", name := "lead", desc := "(I)I" } : Jvm.MethodName)) ∈ lw_all := lw_g (lw_at lw_m11 131 rfl) rfl
theorem q2651 : (Jvm.Cond.methodLink "ClockZonesLaw" (185 : Nat) ({ cls := "ClockZonesModel", name := "trace", desc := "(I)I" } : Jvm.MethodName)) ∈ lw_all := lw_g (lw_at lw_m11 135 rfl) rfl
theorem q2655 : (Jvm.Cond.methodLink "ClockZonesLaw" (189 : Nat) ({ cls := "ClockZonesModel", name := "can", desc := "()I" } : Jvm.MethodName)) ∈ lw_all := lw_g (lw_at lw_m11 139 rfl) rfl
theorem q2674 : (Jvm.Cond.methodLink "ClockZonesLaw" (193 : Nat) ({ cls := "ClockZonesModel", name := "window", desc := "(II)I" } : Jvm.MethodName)) ∈ lw_all := lw_g (lw_at lw_m11 158 rfl) rfl
theorem q2682 : (Jvm.Cond.methodLink "ClockZonesLaw" (197 : Nat) ({ cls := "ClockZonesModel", name := "between", desc := "(III)I" } : Jvm.MethodName)) ∈ lw_all := lw_g (lw_at lw_m11 166 rfl) rfl
theorem q2686 : (Jvm.Cond.methodLink "ClockZonesLaw" (201 : Nat) ({ cls := "ClockZonesModel", name := "value", desc := "(III)I" } : Jvm.MethodName)) ∈ lw_all := lw_g (lw_at lw_m11 170 rfl) rfl
theorem q2690 : (Jvm.Cond.methodLink "ClockZonesLaw" (205 : Nat) ({ cls := "ClockZonesModel", name := "breaks", desc := "()I" } : Jvm.MethodName)) ∈ lw_all := lw_g (lw_at lw_m11 174 rfl) rfl
theorem q2694 : (Jvm.Cond.methodLink "ClockZonesLaw" (233 : Nat) ({ cls := "ClockZonesModel", name := "fastest", desc := "(II)I" } : Jvm.MethodName)) ∈ lw_all := lw_g (lw_at lw_m11 178 rfl) rfl
theorem q2698 : (Jvm.Cond.methodLink "ClockZonesLaw" (237 : Nat) ({ cls := "ClockZonesModel", name := "moment", desc := "(I)I" } : Jvm.MethodName)) ∈ lw_all := lw_g (lw_at lw_m11 182 rfl) rfl
theorem q2702 : (Jvm.Cond.methodLink "ClockZonesLaw" (253 : Nat) ({ cls := "ClockZonesModel", name := "count", desc := "(I)I" } : Jvm.MethodName)) ∈ lw_all := lw_g (lw_at lw_m11 186 rfl) rfl

/-! ClockZones -/
def RX1 : String := "ClockZones"
def TX1 : u_T := fun k => match k with
  | 0 => ("ClockZones", "tape", "[B", true)
  | 1 => ("ClockZones", "taped", "I", false)
  | 2 => ("ClockZones", "faultKind", "I", false)
  | 3 => ("ClockZones", "faultPlace", "I", false)
  | 4 => ("ClockZones", "net", "LClockZones$Net;", false)
  | 5 => ("ClockZones", "great", "[I", false)
  | 6 => ("ClockZones", "nodes", "Ljava/util/ArrayList;", true)
  | 7 => ("ClockZones", "tables", "[LClockZones$Table;", false)
  | 8 => ("ClockZones", "trace", "Ljava/util/ArrayList;", false)
  | _ => ("ClockZones", "undos", "Ljava/util/ArrayDeque;", true)
def tyX1 : Nat → FieldType := fun k => match k with
  | 0 => .array .byte
  | 1 => .int
  | 2 => .int
  | 3 => .int
  | 4 => .object "ClockZones$Net"
  | 5 => .array .int
  | 6 => .object "java/util/ArrayList"
  | 7 => .array (.object "ClockZones$Table")
  | 8 => .object "java/util/ArrayList"
  | _ => .object "java/util/ArrayDeque"
abbrev wsX10 : List Cond := u_ws RX1 TX1 10
theorem nmX1 : ∀ a, a < 10 → ∀ b, b < 10 → a ≠ b → (TX1 a).2.1 ≠ (TX1 b).2.1 := by decide +kernel
theorem tyX1_ok : ∀ k, k < 10 → parseFieldDescriptor (TX1 k).2.2.1 = some (tyX1 k) := by decide +kernel
abbrev cX1_feed : ByteArray := prog_1_method_5_code
def yX1_feed : MethodName := ⟨RX1, "feed", "(IIIII)I"⟩
abbrev cX1_init : ByteArray := prog_1_method_6_code
def yX1_init : MethodName := ⟨RX1, "<init>", "()V"⟩
abbrev cX1_laid : ByteArray := prog_1_method_7_code
def yX1_laid : MethodName := ⟨RX1, "laid", "()[LClockZones$Table;"⟩
abbrev cX1_text : ByteArray := prog_1_method_8_code
def yX1_text : MethodName := ⟨RX1, "text", "(I)I"⟩
abbrev cX1_in : ByteArray := prog_1_method_4_code
def yX1_in : MethodName := ⟨RX1, "in", "(III)Z"⟩
abbrev cX1_reaches : ByteArray := prog_1_method_14_code
def yX1_reaches : MethodName := ⟨RX1, "reaches", "()V"⟩
abbrev cX1_waits : ByteArray := prog_1_method_11_code
def yX1_waits : MethodName := ⟨RX1, "waits", "(LClockZones$Table;I)V"⟩
abbrev cX1_keeps : ByteArray := prog_1_method_10_code
def yX1_keeps : MethodName := ⟨RX1, "keeps", "(LClockZones$Table;Ljava/util/ArrayList;)V"⟩
abbrev cX1_below : ByteArray := prog_1_method_2_code
def yX1_below : MethodName := ⟨RX1, "below", "(I)I"⟩
abbrev cX1_reached : ByteArray := prog_1_method_1_code
def yX1_reached : MethodName := ⟨RX1, "reached", "(I)I"⟩
abbrev cX1_sum : ByteArray := prog_1_method_3_code
def yX1_sum : MethodName := ⟨RX1, "sum", "(II)I"⟩
abbrev cX1_goesOn : ByteArray := prog_1_method_15_code
def yX1_goesOn : MethodName := ⟨RX1, "goesOn", "(I)V"⟩
abbrev cX1_steps : ByteArray := prog_1_method_12_code
def yX1_steps : MethodName := ⟨RX1, "steps", "(LClockZones$Table;LClockZones$Edge;)V"⟩
abbrev cX1_isNew : ByteArray := prog_1_method_13_code
def yX1_isNew : MethodName := ⟨RX1, "isNew", "(ILClockZones$Table;)Z"⟩
abbrev cX1_fault : ByteArray := prog_1_method_9_code
def yX1_fault : MethodName := ⟨RX1, "fault", "(I)I"⟩
abbrev cX1_when : ByteArray := prog_1_method_26_code
def yX1_when : MethodName := ⟨RX1, "when", "(III)I"⟩
abbrev cX1_isEdge : ByteArray := prog_1_method_21_code
def yX1_isEdge : MethodName := ⟨RX1, "isEdge", "(I)Z"⟩
abbrev cX1_set : ByteArray := prog_1_method_27_code
def yX1_set : MethodName := ⟨RX1, "set", "(III)I"⟩
abbrev cX1_great : ByteArray := prog_1_method_28_code
def yX1_great : MethodName := ⟨RX1, "great", "(I)I"⟩
abbrev cX1_isClock : ByteArray := prog_1_method_18_code
def yX1_isClock : MethodName := ⟨RX1, "isClock", "(I)Z"⟩
abbrev cX1_undo : ByteArray := prog_1_method_33_code
def yX1_undo : MethodName := ⟨RX1, "undo", "()I"⟩
abbrev cX1_lay : ByteArray := prog_1_method_34_code
def yX1_lay : MethodName := ⟨RX1, "lay", "(II)Z"⟩
abbrev cX1_isTable : ByteArray := prog_1_method_23_code
def yX1_isTable : MethodName := ⟨RX1, "isTable", "(I)Z"⟩
abbrev cX1_now : ByteArray := prog_1_method_31_code
def yX1_now : MethodName := ⟨RX1, "now", "(I)LClockZones$Table;"⟩
abbrev cX1_becomes : ByteArray := prog_1_method_30_code
def yX1_becomes : MethodName := ⟨RX1, "becomes", "(ILClockZones$Table;)I"⟩
abbrev cX1_keeps_2 : ByteArray := prog_1_method_29_code
def yX1_keeps_2 : MethodName := ⟨RX1, "keeps", "(LClockZones$Past;)V"⟩
abbrev cX1_meet : ByteArray := prog_1_method_35_code
def yX1_meet : MethodName := ⟨RX1, "meet", "(IIIII)I"⟩
abbrev cX1_isSide : ByteArray := prog_1_method_19_code
def yX1_isSide : MethodName := ⟨RX1, "isSide", "(I)Z"⟩
abbrev cX1_pass : ByteArray := prog_1_method_36_code
def yX1_pass : MethodName := ⟨RX1, "pass", "(II)I"⟩
abbrev cX1_reset : ByteArray := prog_1_method_37_code
def yX1_reset : MethodName := ⟨RX1, "reset", "(III)I"⟩
abbrev cX1_free : ByteArray := prog_1_method_38_code
def yX1_free : MethodName := ⟨RX1, "free", "(II)I"⟩
abbrev cX1_copy : ByteArray := prog_1_method_39_code
def yX1_copy : MethodName := ⟨RX1, "copy", "(II)I"⟩
abbrev cX1_join : ByteArray := prog_1_method_40_code
def yX1_join : MethodName := ⟨RX1, "join", "(II)I"⟩
abbrev cX1_both : ByteArray := prog_1_method_41_code
def yX1_both : MethodName := ⟨RX1, "both", "(II)I"⟩
abbrev cX1_step : ByteArray := prog_1_method_42_code
def yX1_step : MethodName := ⟨RX1, "step", "(II)I"⟩
abbrev cX1_stay : ByteArray := prog_1_method_43_code
def yX1_stay : MethodName := ⟨RX1, "stay", "(II)I"⟩
abbrev cX1_isPlace : ByteArray := prog_1_method_20_code
def yX1_isPlace : MethodName := ⟨RX1, "isPlace", "(I)Z"⟩
abbrev cX1_rough : ByteArray := prog_1_method_44_code
def yX1_rough : MethodName := ⟨RX1, "rough", "(I)I"⟩
abbrev cX1_take : ByteArray := prog_1_method_45_code
def yX1_take : MethodName := ⟨RX1, "take", "(II)I"⟩
abbrev cX1_isNode : ByteArray := prog_1_method_22_code
def yX1_isNode : MethodName := ⟨RX1, "isNode", "(I)Z"⟩
abbrev cX1_bound : ByteArray := prog_1_method_47_code
def yX1_bound : MethodName := ⟨RX1, "bound", "(IIII)I"⟩
abbrev cX1_boundOf : ByteArray := prog_1_method_46_code
def yX1_boundOf : MethodName := ⟨RX1, "boundOf", "(LClockZones$Table;III)I"⟩
abbrev cX1_empty : ByteArray := prog_1_method_48_code
def yX1_empty : MethodName := ⟨RX1, "empty", "(I)I"⟩
abbrev cX1_within : ByteArray := prog_1_method_49_code
def yX1_within : MethodName := ⟨RX1, "within", "(II)I"⟩
abbrev cX1_has : ByteArray := prog_1_method_50_code
def yX1_has : MethodName := ⟨RX1, "has", "(IIIII)I"⟩
abbrev cX1_width : ByteArray := prog_1_method_51_code
def yX1_width : MethodName := ⟨RX1, "width", "(IIII)I"⟩
abbrev cX1_touch : ByteArray := prog_1_method_52_code
def yX1_touch : MethodName := ⟨RX1, "touch", "(II)I"⟩
abbrev cX1_back : ByteArray := prog_1_method_54_code
def yX1_back : MethodName := ⟨RX1, "back", "(II)I"⟩
abbrev cX1_goesBack : ByteArray := prog_1_method_53_code
def yX1_goesBack : MethodName := ⟨RX1, "goesBack", "(LClockZones$Table;LClockZones$Edge;)V"⟩
abbrev cX1_longest : ByteArray := prog_1_method_56_code
def yX1_longest : MethodName := ⟨RX1, "longest", "(III)I"⟩
abbrev cX1_withOneMore : ByteArray := prog_1_method_55_code
def yX1_withOneMore : MethodName := ⟨RX1, "withOneMore", "(LClockZones$Table;I)LClockZones$Table;"⟩
abbrev cX1_soonest : ByteArray := prog_1_method_57_code
def yX1_soonest : MethodName := ⟨RX1, "soonest", "(III)I"⟩
abbrev cX1_pairs : ByteArray := prog_1_method_59_code
def yX1_pairs : MethodName := ⟨RX1, "pairs", "(II)I"⟩
abbrev cX1_follows : ByteArray := prog_1_method_58_code
def yX1_follows : MethodName := ⟨RX1, "follows", "(LClockZones$Table;II)Z"⟩
abbrev cX1_whole : ByteArray := prog_1_method_60_code
def yX1_whole : MethodName := ⟨RX1, "whole", "(II)I"⟩
abbrev cX1_first : ByteArray := prog_1_method_61_code
def yX1_first : MethodName := ⟨RX1, "first", "(II)I"⟩
abbrev cX1_nodes : ByteArray := prog_1_method_62_code
def yX1_nodes : MethodName := ⟨RX1, "nodes", "()I"⟩
abbrev cX1_node : ByteArray := prog_1_method_63_code
def yX1_node : MethodName := ⟨RX1, "node", "(II)I"⟩
abbrev cX1_nodeBound : ByteArray := prog_1_method_64_code
def yX1_nodeBound : MethodName := ⟨RX1, "nodeBound", "(IIII)I"⟩
abbrev cX1_way : ByteArray := prog_1_method_65_code
def yX1_way : MethodName := ⟨RX1, "way", "(II)I"⟩
abbrev cX1_wayTo : ByteArray := prog_1_method_17_code
def yX1_wayTo : MethodName := ⟨RX1, "wayTo", "(I)Ljava/util/ArrayList;"⟩
abbrev cX1_firstNode : ByteArray := prog_1_method_16_code
def yX1_firstNode : MethodName := ⟨RX1, "firstNode", "(I)I"⟩
abbrev cX1_open : ByteArray := prog_1_method_67_code
def yX1_open : MethodName := ⟨RX1, "open", "(I)I"⟩
abbrev cX1_opens : ByteArray := prog_1_method_66_code
def yX1_opens : MethodName := ⟨RX1, "opens", "(I)I"⟩
abbrev cX1_stuck : ByteArray := prog_1_method_68_code
def yX1_stuck : MethodName := ⟨RX1, "stuck", "()I"⟩
abbrev cX1_reached_2 : ByteArray := prog_1_method_69_code
def yX1_reached_2 : MethodName := ⟨RX1, "reached", "()I"⟩
abbrev cX1_deepest : ByteArray := prog_1_method_70_code
def yX1_deepest : MethodName := ⟨RX1, "deepest", "(I)I"⟩
abbrev cX1_tells : ByteArray := prog_1_method_72_code
def yX1_tells : MethodName := ⟨RX1, "tells", "(II)I"⟩
abbrev cX1_tellsOf : ByteArray := prog_1_method_71_code
def yX1_tellsOf : MethodName := ⟨RX1, "tellsOf", "(Ljava/util/ArrayList;I)Z"⟩
abbrev cX1_single : ByteArray := prog_1_method_73_code
def yX1_single : MethodName := ⟨RX1, "single", "(I)I"⟩
abbrev cX1_leads : ByteArray := prog_1_method_74_code
def yX1_leads : MethodName := ⟨RX1, "leads", "(I)I"⟩
abbrev cX1_fastest : ByteArray := prog_1_method_75_code
def yX1_fastest : MethodName := ⟨RX1, "fastest", "(II)I"⟩
abbrev cX1_add : ByteArray := prog_1_method_77_code
def yX1_add : MethodName := ⟨RX1, "add", "(I)I"⟩
abbrev cX1_endOf : ByteArray := prog_1_method_76_code
def yX1_endOf : MethodName := ⟨RX1, "endOf", "(Ljava/util/ArrayList;)I"⟩
abbrev cX1_tracesAnew : ByteArray := prog_1_method_32_code
def yX1_tracesAnew : MethodName := ⟨RX1, "tracesAnew", "(Ljava/util/ArrayList;)V"⟩
abbrev cX1_lead : ByteArray := prog_1_method_78_code
def yX1_lead : MethodName := ⟨RX1, "lead", "(I)I"⟩
abbrev cX1_trace : ByteArray := prog_1_method_79_code
def yX1_trace : MethodName := ⟨RX1, "trace", "(I)I"⟩
abbrev cX1_can : ByteArray := prog_1_method_81_code
def yX1_can : MethodName := ⟨RX1, "can", "()I"⟩
abbrev cX1_times : ByteArray := prog_1_method_80_code
def yX1_times : MethodName := ⟨RX1, "times", "()LClockZones$Times;"⟩
abbrev cX1_window : ByteArray := prog_1_method_82_code
def yX1_window : MethodName := ⟨RX1, "window", "(II)I"⟩
abbrev cX1_between : ByteArray := prog_1_method_83_code
def yX1_between : MethodName := ⟨RX1, "between", "(III)I"⟩
abbrev cX1_value : ByteArray := prog_1_method_84_code
def yX1_value : MethodName := ⟨RX1, "value", "(III)I"⟩
abbrev cX1_moment : ByteArray := prog_1_method_85_code
def yX1_moment : MethodName := ⟨RX1, "moment", "(I)I"⟩
abbrev cX1_breaks : ByteArray := prog_1_method_86_code
def yX1_breaks : MethodName := ⟨RX1, "breaks", "()I"⟩
abbrev cX1_count : ByteArray := prog_1_method_87_code
def yX1_count : MethodName := ⟨RX1, "count", "(I)I"⟩
abbrev cX1_place : ByteArray := prog_1_method_24_code
def yX1_place : MethodName := ⟨RX1, "place", "(II)I"⟩
abbrev cX1_edge : ByteArray := prog_1_method_25_code
def yX1_edge : MethodName := ⟨RX1, "edge", "(II)I"⟩
theorem q117 : (Jvm.Cond.initialized "ClockZones") ∈ lw_all := lw_g (lw_at lw_m1 1 rfl) rfl
theorem q159 : (Jvm.Cond.instanceMethod ({ cls := "ClockZones", name := "feed", desc := "(IIIII)I" } : Jvm.MethodName)) ∈ lw_all := lw_g (lw_at lw_m1 43 rfl) rfl
theorem q160 : (Jvm.Cond.selects "ClockZones" ({ cls := "ClockZones", name := "feed", desc := "(IIIII)I" } : Jvm.MethodName) ({ cls := "ClockZones", name := "feed", desc := "(IIIII)I" } : Jvm.MethodName)) ∈ lw_all := lw_g (lw_at lw_m1 44 rfl) rfl
theorem q161 : (Jvm.Cond.code ({ cls := "ClockZones", name := "feed", desc := "(IIIII)I" } : Jvm.MethodName) prog_1_method_5_code (8 : Nat) (Option.some Jvm.ClassFile.FieldType.int)) ∈ lw_all := lw_g (lw_at lw_m1 45 rfl) rfl
theorem q164 : (Jvm.Cond.instantiable "ClockZones" (10 : Nat)) ∈ lw_all := lw_g (lw_at lw_m1 48 rfl) rfl
theorem q166 : (Jvm.Cond.instanceMethod ({ cls := "ClockZones", name := "<init>", desc := "()V" } : Jvm.MethodName)) ∈ lw_all := lw_g (lw_at lw_m1 50 rfl) rfl
theorem q167 : (Jvm.Cond.code ({ cls := "ClockZones", name := "<init>", desc := "()V" } : Jvm.MethodName) prog_1_method_6_code (1 : Nat) (Option.none : Option Jvm.ClassFile.FieldType)) ∈ lw_all := lw_g (lw_at lw_m1 51 rfl) rfl
theorem q168 : (Jvm.Cond.methodLink "ClockZones" (14 : Nat) ({ cls := "java/lang/Object", name := "<init>", desc := "()V" } : Jvm.MethodName)) ∈ lw_all := lw_g (lw_at lw_m1 52 rfl) rfl
theorem q171 : (Jvm.Cond.classLink "ClockZones" (23 : Nat) "ClockZones$Net") ∈ lw_all := lw_g (lw_at lw_m1 55 rfl) rfl
theorem q173 : (Jvm.Cond.methodLinkNest "ClockZones" (25 : Nat) ({ cls := "ClockZones$Net", name := "<init>", desc := "()V" } : Jvm.MethodName) "ClockZones") ∈ lw_tbl := lw_at lw_m1 57 rfl
theorem q209 : (Jvm.Cond.fieldLinkNest "ClockZones" (254 : Nat) "ClockZones$Net" "clocks" "Ljava/util/ArrayList;" "ClockZones") ∈ lw_tbl := lw_at lw_m1 93 rfl
theorem q212 : (Jvm.Cond.fieldLinkNest "ClockZones" (261 : Nat) "ClockZones$Net" "places" "Ljava/util/ArrayList;" "ClockZones") ∈ lw_tbl := lw_at lw_m1 96 rfl
theorem q215 : (Jvm.Cond.fieldLinkNest "ClockZones" (150 : Nat) "ClockZones$Net" "stays" "Ljava/util/ArrayList;" "ClockZones") ∈ lw_tbl := lw_at lw_m1 99 rfl
theorem q220 : (Jvm.Cond.fieldLinkNest "ClockZones" (212 : Nat) "ClockZones$Net" "edges" "Ljava/util/ArrayList;" "ClockZones") ∈ lw_tbl := lw_at lw_m1 104 rfl
theorem q222 : (Jvm.Cond.fieldLinkNest "ClockZones" (194 : Nat) "ClockZones$Net" "start" "I" "ClockZones") ∈ lw_tbl := lw_at lw_m1 106 rfl
theorem q224 : (Jvm.Cond.fieldLinkNest "ClockZones" (94 : Nat) "ClockZones$Net" "lines" "I" "ClockZones") ∈ lw_tbl := lw_at lw_m1 108 rfl
theorem q239 : (Jvm.Cond.classLink "ClockZones" (34 : Nat) "java/util/ArrayList") ∈ lw_all := lw_g (lw_at lw_m1 123 rfl) rfl
theorem q240 : (Jvm.Cond.methodLink "ClockZones" (36 : Nat) ({ cls := "java/util/ArrayList", name := "<init>", desc := "()V" } : Jvm.MethodName)) ∈ lw_all := lw_g (lw_at lw_m1 124 rfl) rfl
theorem q241 : (Jvm.Cond.methodLink "ClockZones" (41 : Nat) ({ cls := "ClockZones", name := "laid", desc := "()[LClockZones$Table;" } : Jvm.MethodName)) ∈ lw_all := lw_g (lw_at lw_m1 125 rfl) rfl
theorem q242 : (Jvm.Cond.privateMethod ({ cls := "ClockZones", name := "laid", desc := "()[LClockZones$Table;" } : Jvm.MethodName)) ∈ lw_tbl := lw_at lw_m1 126 rfl
theorem q243 : (Jvm.Cond.instanceMethod ({ cls := "ClockZones", name := "laid", desc := "()[LClockZones$Table;" } : Jvm.MethodName)) ∈ lw_all := lw_g (lw_at lw_m1 127 rfl) rfl
theorem q244 : (Jvm.Cond.code ({ cls := "ClockZones", name := "laid", desc := "()[LClockZones$Table;" } : Jvm.MethodName) prog_1_method_7_code (3 : Nat) (Option.some (Jvm.ClassFile.FieldType.array (Jvm.ClassFile.FieldType.object "ClockZones$Table")))) ∈ lw_all := lw_g (lw_at lw_m1 128 rfl) rfl
theorem q245 : (Jvm.Cond.classLink "ClockZones" (59 : Nat) "ClockZones$Table") ∈ lw_all := lw_g (lw_at lw_m1 129 rfl) rfl
theorem q248 : (Jvm.Cond.methodLink "ClockZones" (61 : Nat) ({ cls := "ClockZones$Net", name := "size", desc := "()I" } : Jvm.MethodName)) ∈ lw_all := lw_g (lw_at lw_m1 132 rfl) rfl
theorem q256 : (Jvm.Cond.methodLink "ClockZones" (65 : Nat) ({ cls := "ClockZones$Table", name := "<init>", desc := "(I)V" } : Jvm.MethodName)) ∈ lw_all := lw_g (lw_at lw_m1 140 rfl) rfl
theorem q261 : (Jvm.Cond.laysStatic "ClockZones" "NULL" "I") ∈ lw_tbl := lw_at lw_m1 145 rfl
theorem q266 : (Jvm.Cond.fieldLink "ClockZones" (359 : Nat) "ClockZones$Table" "size" "I") ∈ lw_all := lw_g (lw_at lw_m1 150 rfl) rfl
theorem q271 : (Jvm.Cond.fieldLink "ClockZones" (146 : Nat) "ClockZones$Table" "isEmpty" "Z") ∈ lw_all := lw_g (lw_at lw_m1 155 rfl) rfl
theorem q272 : (Jvm.Cond.fieldLink "ClockZones" (411 : Nat) "ClockZones$Times" "isEmpty" "Z") ∈ lw_all := lw_g (lw_at lw_m1 156 rfl) rfl
theorem q280 : (Jvm.Cond.classLink "ClockZones" (52 : Nat) "java/util/ArrayDeque") ∈ lw_all := lw_g (lw_at lw_m1 164 rfl) rfl
theorem q282 : (Jvm.Cond.methodLink "ClockZones" (54 : Nat) ({ cls := "java/util/ArrayDeque", name := "<init>", desc := "()V" } : Jvm.MethodName)) ∈ lw_all := lw_g (lw_at lw_m1 166 rfl) rfl
theorem q299 : (Jvm.Cond.fieldLink "ClockZones" (10 : Nat) "ClockZones" "tape" "[B") ∈ lw_all := lw_g (lw_at lw_m1 183 rfl) rfl
theorem q301 : (Jvm.Cond.fieldLink "ClockZones" (7 : Nat) "ClockZones" "taped" "I") ∈ lw_all := lw_g (lw_at lw_m1 185 rfl) rfl
theorem q302 : (Jvm.Cond.fieldLink "ClockZones" (91 : Nat) "ClockZones" "faultKind" "I") ∈ lw_all := lw_g (lw_at lw_m1 186 rfl) rfl
theorem q303 : (Jvm.Cond.fieldLink "ClockZones" (20 : Nat) "ClockZones" "faultPlace" "I") ∈ lw_all := lw_g (lw_at lw_m1 187 rfl) rfl
theorem q305 : (Jvm.Cond.fieldLink "ClockZones" (26 : Nat) "ClockZones" "net" "LClockZones$Net;") ∈ lw_all := lw_g (lw_at lw_m1 189 rfl) rfl
theorem q306 : (Jvm.Cond.fieldLink "ClockZones" (30 : Nat) "ClockZones" "great" "[I") ∈ lw_all := lw_g (lw_at lw_m1 190 rfl) rfl
theorem q307 : (Jvm.Cond.fieldLink "ClockZones" (37 : Nat) "ClockZones" "nodes" "Ljava/util/ArrayList;") ∈ lw_all := lw_g (lw_at lw_m1 191 rfl) rfl
theorem q308 : (Jvm.Cond.fieldLink "ClockZones" (45 : Nat) "ClockZones" "tables" "[LClockZones$Table;") ∈ lw_all := lw_g (lw_at lw_m1 192 rfl) rfl
theorem q309 : (Jvm.Cond.fieldLink "ClockZones" (49 : Nat) "ClockZones" "trace" "Ljava/util/ArrayList;") ∈ lw_all := lw_g (lw_at lw_m1 193 rfl) rfl
theorem q310 : (Jvm.Cond.fieldLink "ClockZones" (55 : Nat) "ClockZones" "undos" "Ljava/util/ArrayDeque;") ∈ lw_all := lw_g (lw_at lw_m1 194 rfl) rfl
theorem q311 : (Jvm.Cond.laysFinal "ClockZones" "ClockZones" "tape" "[B") ∈ lw_all := lw_g (lw_at lw_m1 195 rfl) rfl
theorem q312 : (Jvm.Cond.soleField "ClockZones" "tape") ∈ lw_all := lw_g (lw_at lw_m1 196 rfl) rfl
theorem q313 : (Jvm.Cond.lays "ClockZones" "ClockZones" "taped" "I") ∈ lw_all := lw_g (lw_at lw_m1 197 rfl) rfl
theorem q314 : (Jvm.Cond.soleField "ClockZones" "taped") ∈ lw_all := lw_g (lw_at lw_m1 198 rfl) rfl
theorem q315 : (Jvm.Cond.lays "ClockZones" "ClockZones" "faultKind" "I") ∈ lw_all := lw_g (lw_at lw_m1 199 rfl) rfl
theorem q316 : (Jvm.Cond.soleField "ClockZones" "faultKind") ∈ lw_all := lw_g (lw_at lw_m1 200 rfl) rfl
theorem q317 : (Jvm.Cond.lays "ClockZones" "ClockZones" "faultPlace" "I") ∈ lw_all := lw_g (lw_at lw_m1 201 rfl) rfl
theorem q318 : (Jvm.Cond.soleField "ClockZones" "faultPlace") ∈ lw_all := lw_g (lw_at lw_m1 202 rfl) rfl
theorem q319 : (Jvm.Cond.lays "ClockZones" "ClockZones" "net" "LClockZones$Net;") ∈ lw_all := lw_g (lw_at lw_m1 203 rfl) rfl
theorem q320 : (Jvm.Cond.soleField "ClockZones" "net") ∈ lw_all := lw_g (lw_at lw_m1 204 rfl) rfl
theorem q321 : (Jvm.Cond.lays "ClockZones" "ClockZones" "great" "[I") ∈ lw_all := lw_g (lw_at lw_m1 205 rfl) rfl
theorem q322 : (Jvm.Cond.soleField "ClockZones" "great") ∈ lw_all := lw_g (lw_at lw_m1 206 rfl) rfl
theorem q323 : (Jvm.Cond.laysFinal "ClockZones" "ClockZones" "nodes" "Ljava/util/ArrayList;") ∈ lw_all := lw_g (lw_at lw_m1 207 rfl) rfl
theorem q324 : (Jvm.Cond.soleField "ClockZones" "nodes") ∈ lw_all := lw_g (lw_at lw_m1 208 rfl) rfl
theorem q325 : (Jvm.Cond.lays "ClockZones" "ClockZones" "tables" "[LClockZones$Table;") ∈ lw_all := lw_g (lw_at lw_m1 209 rfl) rfl
theorem q326 : (Jvm.Cond.soleField "ClockZones" "tables") ∈ lw_all := lw_g (lw_at lw_m1 210 rfl) rfl
theorem q327 : (Jvm.Cond.lays "ClockZones" "ClockZones" "trace" "Ljava/util/ArrayList;") ∈ lw_all := lw_g (lw_at lw_m1 211 rfl) rfl
theorem q328 : (Jvm.Cond.soleField "ClockZones" "trace") ∈ lw_all := lw_g (lw_at lw_m1 212 rfl) rfl
theorem q329 : (Jvm.Cond.laysFinal "ClockZones" "ClockZones" "undos" "Ljava/util/ArrayDeque;") ∈ lw_all := lw_g (lw_at lw_m1 213 rfl) rfl
theorem q330 : (Jvm.Cond.soleField "ClockZones" "undos") ∈ lw_all := lw_g (lw_at lw_m1 214 rfl) rfl
theorem q331 : (Jvm.Cond.superclass "ClockZones" "java/lang/Object") ∈ lw_all := lw_g (lw_at lw_m1 215 rfl) rfl
theorem q333 : (Jvm.Cond.instanceMethod ({ cls := "ClockZones", name := "text", desc := "(I)I" } : Jvm.MethodName)) ∈ lw_all := lw_g (lw_at lw_m1 217 rfl) rfl
theorem q334 : (Jvm.Cond.selects "ClockZones" ({ cls := "ClockZones", name := "text", desc := "(I)I" } : Jvm.MethodName) ({ cls := "ClockZones", name := "text", desc := "(I)I" } : Jvm.MethodName)) ∈ lw_all := lw_g (lw_at lw_m1 218 rfl) rfl
theorem q335 : (Jvm.Cond.codeWith ({ cls := "ClockZones", name := "text", desc := "(I)I" } : Jvm.MethodName) prog_1_method_8_code (5 : Nat) (Option.some Jvm.ClassFile.FieldType.int) [((25 : Nat), (92 : Nat), (98 : Nat), (100 : Nat)), ((99 : Nat), (103 : Nat), (106 : Nat), (100 : Nat)), ((15 : Nat), (96 : Nat), (116 : Nat), (106 : Nat)), ((98 : Nat), (116 : Nat), (116 : Nat), (106 : Nat))]) ∈ lw_all := lw_g (lw_at lw_m1 219 rfl) rfl
theorem q336 : (Jvm.Cond.classLink "ClockZones" (100 : Nat) "java/lang/Throwable") ∈ lw_all := lw_g (lw_at lw_m1 220 rfl) rfl
theorem q506 : (Jvm.Cond.classLink "ClockZones" (106 : Nat) "ClockZones$Fault") ∈ lw_all := lw_g (lw_at lw_m2 150 rfl) rfl
theorem q507 : (Jvm.Cond.methodLink "ClockZones" (68 : Nat) ({ cls := "ClockZones", name := "in", desc := "(III)Z" } : Jvm.MethodName)) ∈ lw_all := lw_g (lw_at lw_m2 151 rfl) rfl
theorem q508 : (Jvm.Cond.static ({ cls := "ClockZones", name := "in", desc := "(III)Z" } : Jvm.MethodName)) ∈ lw_all := lw_g (lw_at lw_m2 152 rfl) rfl
theorem q509 : (Jvm.Cond.code ({ cls := "ClockZones", name := "in", desc := "(III)Z" } : Jvm.MethodName) prog_1_method_4_code (3 : Nat) (Option.some Jvm.ClassFile.FieldType.boolean)) ∈ lw_all := lw_g (lw_at lw_m2 153 rfl) rfl
theorem q510 : (Jvm.Cond.classLink "ClockZones" (72 : Nat) "ClockZones$Reader") ∈ lw_all := lw_g (lw_at lw_m2 154 rfl) rfl
theorem q512 : (Jvm.Cond.methodLink "ClockZones" (74 : Nat) ({ cls := "ClockZones$Reader", name := "<init>", desc := "(LClockZones;I)V" } : Jvm.MethodName)) ∈ lw_all := lw_g (lw_at lw_m2 156 rfl) rfl
theorem q765 : (Jvm.Cond.methodLink "ClockZones" (77 : Nat) ({ cls := "ClockZones$Reader", name := "whole", desc := "()LClockZones$Net;" } : Jvm.MethodName)) ∈ lw_all := lw_g (lw_at lw_m3 169 rfl) rfl
theorem q796 : (Jvm.Cond.fieldLinkNest "ClockZones" (108 : Nat) "ClockZones$Fault" "kind" "I" "ClockZones") ∈ lw_tbl := lw_at lw_m3 200 rfl
theorem q798 : (Jvm.Cond.fieldLinkNest "ClockZones" (111 : Nat) "ClockZones$Fault" "place" "I" "ClockZones") ∈ lw_tbl := lw_at lw_m3 202 rfl
theorem q842 : (Jvm.Cond.selects "ClockZones" ({ cls := "java/lang/Object", name := "equals", desc := "(Ljava/lang/Object;)Z" } : Jvm.MethodName) ({ cls := "java/lang/Object", name := "equals", desc := "(Ljava/lang/Object;)Z" } : Jvm.MethodName)) ∈ lw_all := lw_g (lw_at lw_m4 6 rfl) rfl
theorem q894 : (Jvm.Cond.selects "ClockZones" ({ cls := "java/lang/Object", name := "getClass", desc := "()Ljava/lang/Class;" } : Jvm.MethodName) ({ cls := "java/lang/Object", name := "getClass", desc := "()Ljava/lang/Class;" } : Jvm.MethodName)) ∈ lw_all := lw_g (lw_at lw_m4 58 rfl) rfl
theorem q967 : (Jvm.Cond.fieldLinkNest "ClockZones" (130 : Nat) "ClockZones$Said" "clock" "I" "ClockZones") ∈ lw_tbl := lw_at lw_m4 131 rfl
theorem q971 : (Jvm.Cond.fieldLinkNest "ClockZones" (133 : Nat) "ClockZones$Said" "rel" "I" "ClockZones") ∈ lw_tbl := lw_at lw_m4 135 rfl
theorem q975 : (Jvm.Cond.fieldLinkNest "ClockZones" (136 : Nat) "ClockZones$Said" "n" "I" "ClockZones") ∈ lw_tbl := lw_at lw_m4 139 rfl
theorem q993 : (Jvm.Cond.fieldLinkNest "ClockZones" (215 : Nat) "ClockZones$Edge" "from" "I" "ClockZones") ∈ lw_tbl := lw_at lw_m4 157 rfl
theorem q996 : (Jvm.Cond.fieldLinkNest "ClockZones" (175 : Nat) "ClockZones$Edge" "to" "I" "ClockZones") ∈ lw_tbl := lw_at lw_m4 160 rfl
theorem q1000 : (Jvm.Cond.fieldLinkNest "ClockZones" (164 : Nat) "ClockZones$Edge" "whens" "Ljava/util/ArrayList;" "ClockZones") ∈ lw_tbl := lw_at lw_m4 164 rfl
theorem q1005 : (Jvm.Cond.fieldLinkNest "ClockZones" (169 : Nat) "ClockZones$Edge" "sets" "Ljava/util/ArrayList;" "ClockZones") ∈ lw_tbl := lw_at lw_m4 169 rfl
theorem q1089 : (Jvm.Cond.methodLinkNest "ClockZones" (81 : Nat) ({ cls := "ClockZones$Net", name := "greats", desc := "()[I" } : Jvm.MethodName) "ClockZones") ∈ lw_tbl := lw_at lw_m5 13 rfl
theorem q1105 : (Jvm.Cond.methodLink "ClockZones" (85 : Nat) ({ cls := "java/util/ArrayDeque", name := "clear", desc := "()V" } : Jvm.MethodName)) ∈ lw_all := lw_g (lw_at lw_m5 29 rfl) rfl
theorem q1112 : (Jvm.Cond.methodLink "ClockZones" (88 : Nat) ({ cls := "ClockZones", name := "reaches", desc := "()V" } : Jvm.MethodName)) ∈ lw_all := lw_g (lw_at lw_m5 36 rfl) rfl
theorem q1113 : (Jvm.Cond.privateMethod ({ cls := "ClockZones", name := "reaches", desc := "()V" } : Jvm.MethodName)) ∈ lw_tbl := lw_at lw_m5 37 rfl
theorem q1114 : (Jvm.Cond.instanceMethod ({ cls := "ClockZones", name := "reaches", desc := "()V" } : Jvm.MethodName)) ∈ lw_all := lw_g (lw_at lw_m5 38 rfl) rfl
theorem q1115 : (Jvm.Cond.code ({ cls := "ClockZones", name := "reaches", desc := "()V" } : Jvm.MethodName) prog_1_method_14_code (3 : Nat) (Option.none : Option Jvm.ClassFile.FieldType)) ∈ lw_all := lw_g (lw_at lw_m5 39 rfl) rfl
theorem q1116 : (Jvm.Cond.methodLink "ClockZones" (193 : Nat) ({ cls := "java/util/ArrayList", name := "clear", desc := "()V" } : Jvm.MethodName)) ∈ lw_all := lw_g (lw_at lw_m5 40 rfl) rfl
theorem q1120 : (Jvm.Cond.methodLink "ClockZones" (178 : Nat) ({ cls := "ClockZones", name := "waits", desc := "(LClockZones$Table;I)V" } : Jvm.MethodName)) ∈ lw_all := lw_g (lw_at lw_m5 44 rfl) rfl
theorem q1121 : (Jvm.Cond.privateMethod ({ cls := "ClockZones", name := "waits", desc := "(LClockZones$Table;I)V" } : Jvm.MethodName)) ∈ lw_tbl := lw_at lw_m5 45 rfl
theorem q1122 : (Jvm.Cond.instanceMethod ({ cls := "ClockZones", name := "waits", desc := "(LClockZones$Table;I)V" } : Jvm.MethodName)) ∈ lw_all := lw_g (lw_at lw_m5 46 rfl) rfl
theorem q1123 : (Jvm.Cond.code ({ cls := "ClockZones", name := "waits", desc := "(LClockZones$Table;I)V" } : Jvm.MethodName) prog_1_method_11_code (3 : Nat) (Option.none : Option Jvm.ClassFile.FieldType)) ∈ lw_all := lw_g (lw_at lw_m5 47 rfl) rfl
theorem q1124 : (Jvm.Cond.methodLink "ClockZones" (153 : Nat) ({ cls := "java/util/ArrayList", name := "get", desc := "(I)Ljava/lang/Object;" } : Jvm.MethodName)) ∈ lw_all := lw_g (lw_at lw_m5 48 rfl) rfl
theorem q1125 : (Jvm.Cond.methodLink "ClockZones" (157 : Nat) ({ cls := "ClockZones", name := "keeps", desc := "(LClockZones$Table;Ljava/util/ArrayList;)V" } : Jvm.MethodName)) ∈ lw_all := lw_g (lw_at lw_m5 49 rfl) rfl
theorem q1126 : (Jvm.Cond.static ({ cls := "ClockZones", name := "keeps", desc := "(LClockZones$Table;Ljava/util/ArrayList;)V" } : Jvm.MethodName)) ∈ lw_all := lw_g (lw_at lw_m5 50 rfl) rfl
theorem q1127 : (Jvm.Cond.code ({ cls := "ClockZones", name := "keeps", desc := "(LClockZones$Table;Ljava/util/ArrayList;)V" } : Jvm.MethodName) prog_1_method_10_code (4 : Nat) (Option.none : Option Jvm.ClassFile.FieldType)) ∈ lw_all := lw_g (lw_at lw_m5 51 rfl) rfl
theorem q1128 : (Jvm.Cond.methodLink "ClockZones" (114 : Nat) ({ cls := "java/util/ArrayList", name := "iterator", desc := "()Ljava/util/Iterator;" } : Jvm.MethodName)) ∈ lw_all := lw_g (lw_at lw_m5 52 rfl) rfl
theorem q1129 : (Jvm.Cond.interfaceEntry "ClockZones" (118 : Nat)) ∈ lw_tbl := lw_at lw_m5 53 rfl
theorem q1130 : (Jvm.Cond.methodLink "ClockZones" (118 : Nat) ({ cls := "java/util/Iterator", name := "hasNext", desc := "()Z" } : Jvm.MethodName)) ∈ lw_all := lw_g (lw_at lw_m5 54 rfl) rfl
theorem q1131 : (Jvm.Cond.interfaceEntry "ClockZones" (124 : Nat)) ∈ lw_tbl := lw_at lw_m5 55 rfl
theorem q1132 : (Jvm.Cond.methodLink "ClockZones" (124 : Nat) ({ cls := "java/util/Iterator", name := "next", desc := "()Ljava/lang/Object;" } : Jvm.MethodName)) ∈ lw_all := lw_g (lw_at lw_m5 56 rfl) rfl
theorem q1133 : (Jvm.Cond.classLink "ClockZones" (128 : Nat) "ClockZones$Said") ∈ lw_all := lw_g (lw_at lw_m5 57 rfl) rfl
theorem q1134 : (Jvm.Cond.methodLink "ClockZones" (139 : Nat) ({ cls := "ClockZones$Table", name := "says", desc := "(IIII)V" } : Jvm.MethodName)) ∈ lw_all := lw_g (lw_at lw_m5 58 rfl) rfl
theorem q1141 : (Jvm.Cond.static ({ cls := "ClockZones", name := "below", desc := "(I)I" } : Jvm.MethodName)) ∈ lw_all := lw_g (lw_at lw_m5 65 rfl) rfl
theorem q1142 : (Jvm.Cond.code ({ cls := "ClockZones", name := "below", desc := "(I)I" } : Jvm.MethodName) prog_1_method_2_code (1 : Nat) (Option.some Jvm.ClassFile.FieldType.int)) ∈ lw_all := lw_g (lw_at lw_m5 66 rfl) rfl
theorem q1163 : (Jvm.Cond.static ({ cls := "ClockZones", name := "reached", desc := "(I)I" } : Jvm.MethodName)) ∈ lw_all := lw_g (lw_at lw_m5 87 rfl) rfl
theorem q1164 : (Jvm.Cond.code ({ cls := "ClockZones", name := "reached", desc := "(I)I" } : Jvm.MethodName) prog_1_method_1_code (1 : Nat) (Option.some Jvm.ClassFile.FieldType.int)) ∈ lw_all := lw_g (lw_at lw_m5 88 rfl) rfl
theorem q1165 : (Jvm.Cond.methodLink "ClockZones" (143 : Nat) ({ cls := "ClockZones$Table", name := "closes", desc := "()V" } : Jvm.MethodName)) ∈ lw_all := lw_g (lw_at lw_m5 89 rfl) rfl
theorem q1172 : (Jvm.Cond.laysStatic "ClockZones" "INF" "I") ∈ lw_tbl := lw_at lw_m5 96 rfl
theorem q1174 : (Jvm.Cond.static ({ cls := "ClockZones", name := "sum", desc := "(II)I" } : Jvm.MethodName)) ∈ lw_all := lw_g (lw_at lw_m5 98 rfl) rfl
theorem q1175 : (Jvm.Cond.code ({ cls := "ClockZones", name := "sum", desc := "(II)I" } : Jvm.MethodName) prog_1_method_3_code (2 : Nat) (Option.some Jvm.ClassFile.FieldType.int)) ∈ lw_all := lw_g (lw_at lw_m5 99 rfl) rfl
theorem q1176 : (Jvm.Cond.fieldLink "ClockZones" (1 : Nat) "ClockZones" "INF" "I") ∈ lw_all := lw_g (lw_at lw_m5 100 rfl) rfl
theorem q1177 : (Jvm.Cond.methodLink "ClockZones" (161 : Nat) ({ cls := "ClockZones$Table", name := "up", desc := "()V" } : Jvm.MethodName)) ∈ lw_all := lw_g (lw_at lw_m5 101 rfl) rfl
theorem q1183 : (Jvm.Cond.methodLink "ClockZones" (197 : Nat) ({ cls := "ClockZones$Table", name := "roughens", desc := "([I)V" } : Jvm.MethodName)) ∈ lw_all := lw_g (lw_at lw_m5 107 rfl) rfl
theorem q1190 : (Jvm.Cond.classLink "ClockZones" (182 : Nat) "ClockZones$Node") ∈ lw_all := lw_g (lw_at lw_m5 114 rfl) rfl
theorem q1192 : (Jvm.Cond.methodLink "ClockZones" (201 : Nat) ({ cls := "ClockZones$Node", name := "<init>", desc := "(ILClockZones$Table;)V" } : Jvm.MethodName)) ∈ lw_all := lw_g (lw_at lw_m5 116 rfl) rfl
theorem q1200 : (Jvm.Cond.fieldLinkNest "ClockZones" (184 : Nat) "ClockZones$Node" "place" "I" "ClockZones") ∈ lw_tbl := lw_at lw_m5 124 rfl
theorem q1202 : (Jvm.Cond.fieldLinkNest "ClockZones" (239 : Nat) "ClockZones$Node" "by" "I" "ClockZones") ∈ lw_tbl := lw_at lw_m5 126 rfl
theorem q1204 : (Jvm.Cond.fieldLinkNest "ClockZones" (242 : Nat) "ClockZones$Node" "edge" "I" "ClockZones") ∈ lw_tbl := lw_at lw_m5 128 rfl
theorem q1206 : (Jvm.Cond.fieldLinkNest "ClockZones" (229 : Nat) "ClockZones$Node" "far" "I" "ClockZones") ∈ lw_tbl := lw_at lw_m5 130 rfl
theorem q1208 : (Jvm.Cond.fieldLinkNest "ClockZones" (185 : Nat) "ClockZones$Node" "table" "LClockZones$Table;" "ClockZones") ∈ lw_tbl := lw_at lw_m5 132 rfl
theorem q1220 : (Jvm.Cond.methodLink "ClockZones" (204 : Nat) ({ cls := "java/util/ArrayList", name := "add", desc := "(Ljava/lang/Object;)Z" } : Jvm.MethodName)) ∈ lw_all := lw_g (lw_at lw_m5 144 rfl) rfl
theorem q1221 : (Jvm.Cond.methodLink "ClockZones" (208 : Nat) ({ cls := "java/util/ArrayList", name := "size", desc := "()I" } : Jvm.MethodName)) ∈ lw_all := lw_g (lw_at lw_m5 145 rfl) rfl
theorem q1222 : (Jvm.Cond.methodLink "ClockZones" (209 : Nat) ({ cls := "ClockZones", name := "goesOn", desc := "(I)V" } : Jvm.MethodName)) ∈ lw_all := lw_g (lw_at lw_m5 146 rfl) rfl
theorem q1223 : (Jvm.Cond.privateMethod ({ cls := "ClockZones", name := "goesOn", desc := "(I)V" } : Jvm.MethodName)) ∈ lw_tbl := lw_at lw_m5 147 rfl
theorem q1224 : (Jvm.Cond.instanceMethod ({ cls := "ClockZones", name := "goesOn", desc := "(I)V" } : Jvm.MethodName)) ∈ lw_all := lw_g (lw_at lw_m5 148 rfl) rfl
theorem q1225 : (Jvm.Cond.code ({ cls := "ClockZones", name := "goesOn", desc := "(I)V" } : Jvm.MethodName) prog_1_method_15_code (6 : Nat) (Option.none : Option Jvm.ClassFile.FieldType)) ∈ lw_all := lw_g (lw_at lw_m5 149 rfl) rfl
theorem q1226 : (Jvm.Cond.classLink "ClockZones" (165 : Nat) "ClockZones$Edge") ∈ lw_all := lw_g (lw_at lw_m5 150 rfl) rfl
theorem q1227 : (Jvm.Cond.methodLink "ClockZones" (218 : Nat) ({ cls := "ClockZones$Table", name := "<init>", desc := "(LClockZones$Table;)V" } : Jvm.MethodName)) ∈ lw_all := lw_g (lw_at lw_m5 151 rfl) rfl
theorem q1238 : (Jvm.Cond.methodLink "ClockZones" (221 : Nat) ({ cls := "ClockZones", name := "steps", desc := "(LClockZones$Table;LClockZones$Edge;)V" } : Jvm.MethodName)) ∈ lw_all := lw_g (lw_at lw_m5 162 rfl) rfl
theorem q1239 : (Jvm.Cond.privateMethod ({ cls := "ClockZones", name := "steps", desc := "(LClockZones$Table;LClockZones$Edge;)V" } : Jvm.MethodName)) ∈ lw_tbl := lw_at lw_m5 163 rfl
theorem q1240 : (Jvm.Cond.instanceMethod ({ cls := "ClockZones", name := "steps", desc := "(LClockZones$Table;LClockZones$Edge;)V" } : Jvm.MethodName)) ∈ lw_all := lw_g (lw_at lw_m5 164 rfl) rfl
theorem q1241 : (Jvm.Cond.code ({ cls := "ClockZones", name := "steps", desc := "(LClockZones$Table;LClockZones$Edge;)V" } : Jvm.MethodName) prog_1_method_12_code (5 : Nat) (Option.none : Option Jvm.ClassFile.FieldType)) ∈ lw_all := lw_g (lw_at lw_m5 165 rfl) rfl
theorem q1242 : (Jvm.Cond.methodLink "ClockZones" (172 : Nat) ({ cls := "ClockZones$Table", name := "sets", desc := "(II)V" } : Jvm.MethodName)) ∈ lw_all := lw_g (lw_at lw_m5 166 rfl) rfl
theorem q1248 : (Jvm.Cond.methodLink "ClockZones" (225 : Nat) ({ cls := "ClockZones", name := "isNew", desc := "(ILClockZones$Table;)Z" } : Jvm.MethodName)) ∈ lw_all := lw_g (lw_at lw_m5 172 rfl) rfl
theorem q1249 : (Jvm.Cond.privateMethod ({ cls := "ClockZones", name := "isNew", desc := "(ILClockZones$Table;)Z" } : Jvm.MethodName)) ∈ lw_tbl := lw_at lw_m5 173 rfl
theorem q1250 : (Jvm.Cond.instanceMethod ({ cls := "ClockZones", name := "isNew", desc := "(ILClockZones$Table;)Z" } : Jvm.MethodName)) ∈ lw_all := lw_g (lw_at lw_m5 174 rfl) rfl
theorem q1251 : (Jvm.Cond.code ({ cls := "ClockZones", name := "isNew", desc := "(ILClockZones$Table;)Z" } : Jvm.MethodName) prog_1_method_13_code (5 : Nat) (Option.some Jvm.ClassFile.FieldType.boolean)) ∈ lw_all := lw_g (lw_at lw_m5 175 rfl) rfl
theorem q1252 : (Jvm.Cond.methodLink "ClockZones" (189 : Nat) ({ cls := "ClockZones$Table", name := "holds", desc := "(LClockZones$Table;)Z" } : Jvm.MethodName)) ∈ lw_all := lw_g (lw_at lw_m5 176 rfl) rfl
theorem q1258 : (Jvm.Cond.methodLink "ClockZones" (232 : Nat) ({ cls := "ClockZones$Node", name := "<init>", desc := "(ILClockZones$Table;III)V" } : Jvm.MethodName)) ∈ lw_all := lw_g (lw_at lw_m5 182 rfl) rfl
theorem q1259 : (Jvm.Cond.methodLink "ClockZones" (97 : Nat) ({ cls := "ClockZones$Reader", name := "close", desc := "()V" } : Jvm.MethodName)) ∈ lw_all := lw_g (lw_at lw_m5 183 rfl) rfl
theorem q1263 : (Jvm.Cond.methodLink "ClockZones" (102 : Nat) ({ cls := "java/lang/Throwable", name := "addSuppressed", desc := "(Ljava/lang/Throwable;)V" } : Jvm.MethodName)) ∈ lw_all := lw_g (lw_at lw_m5 187 rfl) rfl
theorem q1295 : (Jvm.Cond.instanceMethod ({ cls := "ClockZones", name := "fault", desc := "(I)I" } : Jvm.MethodName)) ∈ lw_all := lw_g (lw_at lw_m5 219 rfl) rfl
theorem q1296 : (Jvm.Cond.selects "ClockZones" ({ cls := "ClockZones", name := "fault", desc := "(I)I" } : Jvm.MethodName) ({ cls := "ClockZones", name := "fault", desc := "(I)I" } : Jvm.MethodName)) ∈ lw_all := lw_g (lw_at lw_m5 220 rfl) rfl
theorem q1297 : (Jvm.Cond.code ({ cls := "ClockZones", name := "fault", desc := "(I)I" } : Jvm.MethodName) prog_1_method_9_code (2 : Nat) (Option.some Jvm.ClassFile.FieldType.int)) ∈ lw_all := lw_g (lw_at lw_m5 221 rfl) rfl
theorem q1299 : (Jvm.Cond.instanceMethod ({ cls := "ClockZones", name := "when", desc := "(III)I" } : Jvm.MethodName)) ∈ lw_all := lw_g (lw_at lw_m5 223 rfl) rfl
theorem q1300 : (Jvm.Cond.selects "ClockZones" ({ cls := "ClockZones", name := "when", desc := "(III)I" } : Jvm.MethodName) ({ cls := "ClockZones", name := "when", desc := "(III)I" } : Jvm.MethodName)) ∈ lw_all := lw_g (lw_at lw_m5 224 rfl) rfl
theorem q1301 : (Jvm.Cond.code ({ cls := "ClockZones", name := "when", desc := "(III)I" } : Jvm.MethodName) prog_1_method_26_code (5 : Nat) (Option.some Jvm.ClassFile.FieldType.int)) ∈ lw_all := lw_g (lw_at lw_m5 225 rfl) rfl
theorem q1302 : (Jvm.Cond.methodLink "ClockZones" (273 : Nat) ({ cls := "ClockZones", name := "isEdge", desc := "(I)Z" } : Jvm.MethodName)) ∈ lw_all := lw_g (lw_at lw_m5 226 rfl) rfl
theorem q1303 : (Jvm.Cond.privateMethod ({ cls := "ClockZones", name := "isEdge", desc := "(I)Z" } : Jvm.MethodName)) ∈ lw_tbl := lw_at lw_m5 227 rfl
theorem q1304 : (Jvm.Cond.instanceMethod ({ cls := "ClockZones", name := "isEdge", desc := "(I)Z" } : Jvm.MethodName)) ∈ lw_all := lw_g (lw_at lw_m5 228 rfl) rfl
theorem q1305 : (Jvm.Cond.code ({ cls := "ClockZones", name := "isEdge", desc := "(I)Z" } : Jvm.MethodName) prog_1_method_21_code (2 : Nat) (Option.some Jvm.ClassFile.FieldType.boolean)) ∈ lw_all := lw_g (lw_at lw_m5 229 rfl) rfl
theorem q1307 : (Jvm.Cond.instanceMethod ({ cls := "ClockZones", name := "set", desc := "(III)I" } : Jvm.MethodName)) ∈ lw_all := lw_g (lw_at lw_m5 231 rfl) rfl
theorem q1308 : (Jvm.Cond.selects "ClockZones" ({ cls := "ClockZones", name := "set", desc := "(III)I" } : Jvm.MethodName) ({ cls := "ClockZones", name := "set", desc := "(III)I" } : Jvm.MethodName)) ∈ lw_all := lw_g (lw_at lw_m5 232 rfl) rfl
theorem q1309 : (Jvm.Cond.code ({ cls := "ClockZones", name := "set", desc := "(III)I" } : Jvm.MethodName) prog_1_method_27_code (5 : Nat) (Option.some Jvm.ClassFile.FieldType.int)) ∈ lw_all := lw_g (lw_at lw_m5 233 rfl) rfl
theorem q1311 : (Jvm.Cond.instanceMethod ({ cls := "ClockZones", name := "great", desc := "(I)I" } : Jvm.MethodName)) ∈ lw_all := lw_g (lw_at lw_m5 235 rfl) rfl
theorem q1312 : (Jvm.Cond.selects "ClockZones" ({ cls := "ClockZones", name := "great", desc := "(I)I" } : Jvm.MethodName) ({ cls := "ClockZones", name := "great", desc := "(I)I" } : Jvm.MethodName)) ∈ lw_all := lw_g (lw_at lw_m5 236 rfl) rfl
theorem q1313 : (Jvm.Cond.code ({ cls := "ClockZones", name := "great", desc := "(I)I" } : Jvm.MethodName) prog_1_method_28_code (2 : Nat) (Option.some Jvm.ClassFile.FieldType.int)) ∈ lw_all := lw_g (lw_at lw_m5 237 rfl) rfl
theorem q1314 : (Jvm.Cond.methodLink "ClockZones" (257 : Nat) ({ cls := "ClockZones", name := "isClock", desc := "(I)Z" } : Jvm.MethodName)) ∈ lw_all := lw_g (lw_at lw_m5 238 rfl) rfl
theorem q1315 : (Jvm.Cond.privateMethod ({ cls := "ClockZones", name := "isClock", desc := "(I)Z" } : Jvm.MethodName)) ∈ lw_tbl := lw_at lw_m5 239 rfl
theorem q1316 : (Jvm.Cond.instanceMethod ({ cls := "ClockZones", name := "isClock", desc := "(I)Z" } : Jvm.MethodName)) ∈ lw_all := lw_g (lw_at lw_m6 0 rfl) rfl
theorem q1317 : (Jvm.Cond.code ({ cls := "ClockZones", name := "isClock", desc := "(I)Z" } : Jvm.MethodName) prog_1_method_18_code (2 : Nat) (Option.some Jvm.ClassFile.FieldType.boolean)) ∈ lw_all := lw_g (lw_at lw_m6 1 rfl) rfl
theorem q1319 : (Jvm.Cond.instanceMethod ({ cls := "ClockZones", name := "undo", desc := "()I" } : Jvm.MethodName)) ∈ lw_all := lw_g (lw_at lw_m6 3 rfl) rfl
theorem q1320 : (Jvm.Cond.selects "ClockZones" ({ cls := "ClockZones", name := "undo", desc := "()I" } : Jvm.MethodName) ({ cls := "ClockZones", name := "undo", desc := "()I" } : Jvm.MethodName)) ∈ lw_all := lw_g (lw_at lw_m6 4 rfl) rfl
theorem q1321 : (Jvm.Cond.code ({ cls := "ClockZones", name := "undo", desc := "()I" } : Jvm.MethodName) prog_1_method_33_code (2 : Nat) (Option.some Jvm.ClassFile.FieldType.int)) ∈ lw_all := lw_g (lw_at lw_m6 5 rfl) rfl
theorem q1322 : (Jvm.Cond.methodLink "ClockZones" (295 : Nat) ({ cls := "java/util/ArrayDeque", name := "isEmpty", desc := "()Z" } : Jvm.MethodName)) ∈ lw_all := lw_g (lw_at lw_m6 6 rfl) rfl
theorem q1326 : (Jvm.Cond.methodLink "ClockZones" (297 : Nat) ({ cls := "java/util/ArrayDeque", name := "removeLast", desc := "()Ljava/lang/Object;" } : Jvm.MethodName)) ∈ lw_all := lw_g (lw_at lw_m6 10 rfl) rfl
theorem q1342 : (Jvm.Cond.classLink "ClockZones" (287 : Nat) "ClockZones$Past") ∈ lw_all := lw_g (lw_at lw_m6 26 rfl) rfl
theorem q1343 : (Jvm.Cond.methodLink "ClockZones" (276 : Nat) ({ cls := "java/util/ArrayDeque", name := "size", desc := "()I" } : Jvm.MethodName)) ∈ lw_all := lw_g (lw_at lw_m6 27 rfl) rfl
theorem q1351 : (Jvm.Cond.instanceMethod ({ cls := "ClockZones", name := "lay", desc := "(II)Z" } : Jvm.MethodName)) ∈ lw_all := lw_g (lw_at lw_m6 35 rfl) rfl
theorem q1352 : (Jvm.Cond.selects "ClockZones" ({ cls := "ClockZones", name := "lay", desc := "(II)Z" } : Jvm.MethodName) ({ cls := "ClockZones", name := "lay", desc := "(II)Z" } : Jvm.MethodName)) ∈ lw_all := lw_g (lw_at lw_m6 36 rfl) rfl
theorem q1353 : (Jvm.Cond.code ({ cls := "ClockZones", name := "lay", desc := "(II)Z" } : Jvm.MethodName) prog_1_method_34_code (4 : Nat) (Option.some Jvm.ClassFile.FieldType.boolean)) ∈ lw_all := lw_g (lw_at lw_m6 37 rfl) rfl
theorem q1354 : (Jvm.Cond.methodLink "ClockZones" (305 : Nat) ({ cls := "ClockZones", name := "isTable", desc := "(I)Z" } : Jvm.MethodName)) ∈ lw_all := lw_g (lw_at lw_m6 38 rfl) rfl
theorem q1355 : (Jvm.Cond.static ({ cls := "ClockZones", name := "isTable", desc := "(I)Z" } : Jvm.MethodName)) ∈ lw_all := lw_g (lw_at lw_m6 39 rfl) rfl
theorem q1356 : (Jvm.Cond.code ({ cls := "ClockZones", name := "isTable", desc := "(I)Z" } : Jvm.MethodName) prog_1_method_23_code (1 : Nat) (Option.some Jvm.ClassFile.FieldType.boolean)) ∈ lw_all := lw_g (lw_at lw_m6 40 rfl) rfl
theorem q1357 : (Jvm.Cond.methodLink "ClockZones" (308 : Nat) ({ cls := "ClockZones", name := "now", desc := "(I)LClockZones$Table;" } : Jvm.MethodName)) ∈ lw_all := lw_g (lw_at lw_m6 41 rfl) rfl
theorem q1358 : (Jvm.Cond.privateMethod ({ cls := "ClockZones", name := "now", desc := "(I)LClockZones$Table;" } : Jvm.MethodName)) ∈ lw_tbl := lw_at lw_m6 42 rfl
theorem q1359 : (Jvm.Cond.instanceMethod ({ cls := "ClockZones", name := "now", desc := "(I)LClockZones$Table;" } : Jvm.MethodName)) ∈ lw_all := lw_g (lw_at lw_m6 43 rfl) rfl
theorem q1360 : (Jvm.Cond.code ({ cls := "ClockZones", name := "now", desc := "(I)LClockZones$Table;" } : Jvm.MethodName) prog_1_method_31_code (2 : Nat) (Option.some (Jvm.ClassFile.FieldType.object "ClockZones$Table"))) ∈ lw_all := lw_g (lw_at lw_m6 44 rfl) rfl
theorem q1361 : (Jvm.Cond.methodLink "ClockZones" (312 : Nat) ({ cls := "ClockZones$Table", name := "nulls", desc := "()V" } : Jvm.MethodName)) ∈ lw_all := lw_g (lw_at lw_m6 45 rfl) rfl
theorem q1367 : (Jvm.Cond.methodLink "ClockZones" (315 : Nat) ({ cls := "ClockZones$Table", name := "opens", desc := "()LClockZones$Table;" } : Jvm.MethodName)) ∈ lw_all := lw_g (lw_at lw_m6 51 rfl) rfl
theorem q1373 : (Jvm.Cond.methodLink "ClockZones" (319 : Nat) ({ cls := "ClockZones", name := "becomes", desc := "(ILClockZones$Table;)I" } : Jvm.MethodName)) ∈ lw_all := lw_g (lw_at lw_m6 57 rfl) rfl
theorem q1374 : (Jvm.Cond.privateMethod ({ cls := "ClockZones", name := "becomes", desc := "(ILClockZones$Table;)I" } : Jvm.MethodName)) ∈ lw_tbl := lw_at lw_m6 58 rfl
theorem q1375 : (Jvm.Cond.instanceMethod ({ cls := "ClockZones", name := "becomes", desc := "(ILClockZones$Table;)I" } : Jvm.MethodName)) ∈ lw_all := lw_g (lw_at lw_m6 59 rfl) rfl
theorem q1376 : (Jvm.Cond.code ({ cls := "ClockZones", name := "becomes", desc := "(ILClockZones$Table;)I" } : Jvm.MethodName) prog_1_method_30_code (3 : Nat) (Option.some Jvm.ClassFile.FieldType.int)) ∈ lw_all := lw_g (lw_at lw_m6 60 rfl) rfl
theorem q1377 : (Jvm.Cond.methodLink "ClockZones" (284 : Nat) ({ cls := "ClockZones$Table", name := "isTooWide", desc := "()Z" } : Jvm.MethodName)) ∈ lw_all := lw_g (lw_at lw_m6 61 rfl) rfl
theorem q1385 : (Jvm.Cond.methodLink "ClockZones" (289 : Nat) ({ cls := "ClockZones$Past", name := "<init>", desc := "(ILClockZones$Table;Ljava/util/ArrayList;)V" } : Jvm.MethodName)) ∈ lw_all := lw_g (lw_at lw_m6 69 rfl) rfl
theorem q1390 : (Jvm.Cond.fieldLinkNest "ClockZones" (300 : Nat) "ClockZones$Past" "table" "LClockZones$Table;" "ClockZones") ∈ lw_tbl := lw_at lw_m6 74 rfl
theorem q1392 : (Jvm.Cond.fieldLinkNest "ClockZones" (301 : Nat) "ClockZones$Past" "at" "I" "ClockZones") ∈ lw_tbl := lw_at lw_m6 76 rfl
theorem q1394 : (Jvm.Cond.fieldLinkNest "ClockZones" (304 : Nat) "ClockZones$Past" "trace" "Ljava/util/ArrayList;" "ClockZones") ∈ lw_tbl := lw_at lw_m6 78 rfl
theorem q1402 : (Jvm.Cond.methodLink "ClockZones" (292 : Nat) ({ cls := "ClockZones", name := "keeps", desc := "(LClockZones$Past;)V" } : Jvm.MethodName)) ∈ lw_all := lw_g (lw_at lw_m6 86 rfl) rfl
theorem q1403 : (Jvm.Cond.privateMethod ({ cls := "ClockZones", name := "keeps", desc := "(LClockZones$Past;)V" } : Jvm.MethodName)) ∈ lw_tbl := lw_at lw_m6 87 rfl
theorem q1404 : (Jvm.Cond.instanceMethod ({ cls := "ClockZones", name := "keeps", desc := "(LClockZones$Past;)V" } : Jvm.MethodName)) ∈ lw_all := lw_g (lw_at lw_m6 88 rfl) rfl
theorem q1405 : (Jvm.Cond.code ({ cls := "ClockZones", name := "keeps", desc := "(LClockZones$Past;)V" } : Jvm.MethodName) prog_1_method_29_code (2 : Nat) (Option.none : Option Jvm.ClassFile.FieldType)) ∈ lw_all := lw_g (lw_at lw_m6 89 rfl) rfl
theorem q1406 : (Jvm.Cond.methodLink "ClockZones" (277 : Nat) ({ cls := "java/util/ArrayDeque", name := "removeFirst", desc := "()Ljava/lang/Object;" } : Jvm.MethodName)) ∈ lw_all := lw_g (lw_at lw_m6 90 rfl) rfl
theorem q1417 : (Jvm.Cond.methodLink "ClockZones" (280 : Nat) ({ cls := "java/util/ArrayDeque", name := "addLast", desc := "(Ljava/lang/Object;)V" } : Jvm.MethodName)) ∈ lw_all := lw_g (lw_at lw_m6 101 rfl) rfl
theorem q1434 : (Jvm.Cond.instanceMethod ({ cls := "ClockZones", name := "meet", desc := "(IIIII)I" } : Jvm.MethodName)) ∈ lw_all := lw_g (lw_at lw_m6 118 rfl) rfl
theorem q1435 : (Jvm.Cond.selects "ClockZones" ({ cls := "ClockZones", name := "meet", desc := "(IIIII)I" } : Jvm.MethodName) ({ cls := "ClockZones", name := "meet", desc := "(IIIII)I" } : Jvm.MethodName)) ∈ lw_all := lw_g (lw_at lw_m6 119 rfl) rfl
theorem q1436 : (Jvm.Cond.code ({ cls := "ClockZones", name := "meet", desc := "(IIIII)I" } : Jvm.MethodName) prog_1_method_35_code (7 : Nat) (Option.some Jvm.ClassFile.FieldType.int)) ∈ lw_all := lw_g (lw_at lw_m6 120 rfl) rfl
theorem q1437 : (Jvm.Cond.methodLink "ClockZones" (323 : Nat) ({ cls := "ClockZones", name := "isSide", desc := "(I)Z" } : Jvm.MethodName)) ∈ lw_all := lw_g (lw_at lw_m6 121 rfl) rfl
theorem q1438 : (Jvm.Cond.privateMethod ({ cls := "ClockZones", name := "isSide", desc := "(I)Z" } : Jvm.MethodName)) ∈ lw_tbl := lw_at lw_m6 122 rfl
theorem q1439 : (Jvm.Cond.instanceMethod ({ cls := "ClockZones", name := "isSide", desc := "(I)Z" } : Jvm.MethodName)) ∈ lw_all := lw_g (lw_at lw_m6 123 rfl) rfl
theorem q1440 : (Jvm.Cond.code ({ cls := "ClockZones", name := "isSide", desc := "(I)Z" } : Jvm.MethodName) prog_1_method_19_code (2 : Nat) (Option.some Jvm.ClassFile.FieldType.boolean)) ∈ lw_all := lw_g (lw_at lw_m6 124 rfl) rfl
theorem q1442 : (Jvm.Cond.instanceMethod ({ cls := "ClockZones", name := "pass", desc := "(II)I" } : Jvm.MethodName)) ∈ lw_all := lw_g (lw_at lw_m6 126 rfl) rfl
theorem q1443 : (Jvm.Cond.selects "ClockZones" ({ cls := "ClockZones", name := "pass", desc := "(II)I" } : Jvm.MethodName) ({ cls := "ClockZones", name := "pass", desc := "(II)I" } : Jvm.MethodName)) ∈ lw_all := lw_g (lw_at lw_m6 127 rfl) rfl
theorem q1444 : (Jvm.Cond.code ({ cls := "ClockZones", name := "pass", desc := "(II)I" } : Jvm.MethodName) prog_1_method_36_code (4 : Nat) (Option.some Jvm.ClassFile.FieldType.int)) ∈ lw_all := lw_g (lw_at lw_m6 128 rfl) rfl
theorem q1445 : (Jvm.Cond.methodLink "ClockZones" (326 : Nat) ({ cls := "ClockZones$Table", name := "down", desc := "()V" } : Jvm.MethodName)) ∈ lw_all := lw_g (lw_at lw_m6 129 rfl) rfl
theorem q1452 : (Jvm.Cond.instanceMethod ({ cls := "ClockZones", name := "reset", desc := "(III)I" } : Jvm.MethodName)) ∈ lw_all := lw_g (lw_at lw_m6 136 rfl) rfl
theorem q1453 : (Jvm.Cond.selects "ClockZones" ({ cls := "ClockZones", name := "reset", desc := "(III)I" } : Jvm.MethodName) ({ cls := "ClockZones", name := "reset", desc := "(III)I" } : Jvm.MethodName)) ∈ lw_all := lw_g (lw_at lw_m6 137 rfl) rfl
theorem q1454 : (Jvm.Cond.code ({ cls := "ClockZones", name := "reset", desc := "(III)I" } : Jvm.MethodName) prog_1_method_37_code (5 : Nat) (Option.some Jvm.ClassFile.FieldType.int)) ∈ lw_all := lw_g (lw_at lw_m6 138 rfl) rfl
theorem q1456 : (Jvm.Cond.instanceMethod ({ cls := "ClockZones", name := "free", desc := "(II)I" } : Jvm.MethodName)) ∈ lw_all := lw_g (lw_at lw_m6 140 rfl) rfl
theorem q1457 : (Jvm.Cond.selects "ClockZones" ({ cls := "ClockZones", name := "free", desc := "(II)I" } : Jvm.MethodName) ({ cls := "ClockZones", name := "free", desc := "(II)I" } : Jvm.MethodName)) ∈ lw_all := lw_g (lw_at lw_m6 141 rfl) rfl
theorem q1458 : (Jvm.Cond.code ({ cls := "ClockZones", name := "free", desc := "(II)I" } : Jvm.MethodName) prog_1_method_38_code (4 : Nat) (Option.some Jvm.ClassFile.FieldType.int)) ∈ lw_all := lw_g (lw_at lw_m6 142 rfl) rfl
theorem q1459 : (Jvm.Cond.methodLink "ClockZones" (329 : Nat) ({ cls := "ClockZones$Table", name := "frees", desc := "(I)V" } : Jvm.MethodName)) ∈ lw_all := lw_g (lw_at lw_m6 143 rfl) rfl
theorem q1466 : (Jvm.Cond.instanceMethod ({ cls := "ClockZones", name := "copy", desc := "(II)I" } : Jvm.MethodName)) ∈ lw_all := lw_g (lw_at lw_m6 150 rfl) rfl
theorem q1467 : (Jvm.Cond.selects "ClockZones" ({ cls := "ClockZones", name := "copy", desc := "(II)I" } : Jvm.MethodName) ({ cls := "ClockZones", name := "copy", desc := "(II)I" } : Jvm.MethodName)) ∈ lw_all := lw_g (lw_at lw_m6 151 rfl) rfl
theorem q1468 : (Jvm.Cond.code ({ cls := "ClockZones", name := "copy", desc := "(II)I" } : Jvm.MethodName) prog_1_method_39_code (3 : Nat) (Option.some Jvm.ClassFile.FieldType.int)) ∈ lw_all := lw_g (lw_at lw_m6 152 rfl) rfl
theorem q1470 : (Jvm.Cond.instanceMethod ({ cls := "ClockZones", name := "join", desc := "(II)I" } : Jvm.MethodName)) ∈ lw_all := lw_g (lw_at lw_m6 154 rfl) rfl
theorem q1471 : (Jvm.Cond.selects "ClockZones" ({ cls := "ClockZones", name := "join", desc := "(II)I" } : Jvm.MethodName) ({ cls := "ClockZones", name := "join", desc := "(II)I" } : Jvm.MethodName)) ∈ lw_all := lw_g (lw_at lw_m6 155 rfl) rfl
theorem q1472 : (Jvm.Cond.code ({ cls := "ClockZones", name := "join", desc := "(II)I" } : Jvm.MethodName) prog_1_method_40_code (4 : Nat) (Option.some Jvm.ClassFile.FieldType.int)) ∈ lw_all := lw_g (lw_at lw_m6 156 rfl) rfl
theorem q1473 : (Jvm.Cond.methodLink "ClockZones" (332 : Nat) ({ cls := "ClockZones$Table", name := "joins", desc := "(LClockZones$Table;)V" } : Jvm.MethodName)) ∈ lw_all := lw_g (lw_at lw_m6 157 rfl) rfl
theorem q1481 : (Jvm.Cond.instanceMethod ({ cls := "ClockZones", name := "both", desc := "(II)I" } : Jvm.MethodName)) ∈ lw_all := lw_g (lw_at lw_m6 165 rfl) rfl
theorem q1482 : (Jvm.Cond.selects "ClockZones" ({ cls := "ClockZones", name := "both", desc := "(II)I" } : Jvm.MethodName) ({ cls := "ClockZones", name := "both", desc := "(II)I" } : Jvm.MethodName)) ∈ lw_all := lw_g (lw_at lw_m6 166 rfl) rfl
theorem q1483 : (Jvm.Cond.code ({ cls := "ClockZones", name := "both", desc := "(II)I" } : Jvm.MethodName) prog_1_method_41_code (4 : Nat) (Option.some Jvm.ClassFile.FieldType.int)) ∈ lw_all := lw_g (lw_at lw_m6 167 rfl) rfl
theorem q1484 : (Jvm.Cond.methodLink "ClockZones" (335 : Nat) ({ cls := "ClockZones$Table", name := "meets", desc := "(LClockZones$Table;)V" } : Jvm.MethodName)) ∈ lw_all := lw_g (lw_at lw_m6 168 rfl) rfl
theorem q1491 : (Jvm.Cond.instanceMethod ({ cls := "ClockZones", name := "step", desc := "(II)I" } : Jvm.MethodName)) ∈ lw_all := lw_g (lw_at lw_m6 175 rfl) rfl
theorem q1492 : (Jvm.Cond.selects "ClockZones" ({ cls := "ClockZones", name := "step", desc := "(II)I" } : Jvm.MethodName) ({ cls := "ClockZones", name := "step", desc := "(II)I" } : Jvm.MethodName)) ∈ lw_all := lw_g (lw_at lw_m6 176 rfl) rfl
theorem q1493 : (Jvm.Cond.code ({ cls := "ClockZones", name := "step", desc := "(II)I" } : Jvm.MethodName) prog_1_method_42_code (4 : Nat) (Option.some Jvm.ClassFile.FieldType.int)) ∈ lw_all := lw_g (lw_at lw_m6 177 rfl) rfl
theorem q1495 : (Jvm.Cond.instanceMethod ({ cls := "ClockZones", name := "stay", desc := "(II)I" } : Jvm.MethodName)) ∈ lw_all := lw_g (lw_at lw_m6 179 rfl) rfl
theorem q1496 : (Jvm.Cond.selects "ClockZones" ({ cls := "ClockZones", name := "stay", desc := "(II)I" } : Jvm.MethodName) ({ cls := "ClockZones", name := "stay", desc := "(II)I" } : Jvm.MethodName)) ∈ lw_all := lw_g (lw_at lw_m6 180 rfl) rfl
theorem q1497 : (Jvm.Cond.code ({ cls := "ClockZones", name := "stay", desc := "(II)I" } : Jvm.MethodName) prog_1_method_43_code (4 : Nat) (Option.some Jvm.ClassFile.FieldType.int)) ∈ lw_all := lw_g (lw_at lw_m6 181 rfl) rfl
theorem q1498 : (Jvm.Cond.methodLink "ClockZones" (264 : Nat) ({ cls := "ClockZones", name := "isPlace", desc := "(I)Z" } : Jvm.MethodName)) ∈ lw_all := lw_g (lw_at lw_m6 182 rfl) rfl
theorem q1499 : (Jvm.Cond.privateMethod ({ cls := "ClockZones", name := "isPlace", desc := "(I)Z" } : Jvm.MethodName)) ∈ lw_tbl := lw_at lw_m6 183 rfl
theorem q1500 : (Jvm.Cond.instanceMethod ({ cls := "ClockZones", name := "isPlace", desc := "(I)Z" } : Jvm.MethodName)) ∈ lw_all := lw_g (lw_at lw_m6 184 rfl) rfl
theorem q1501 : (Jvm.Cond.code ({ cls := "ClockZones", name := "isPlace", desc := "(I)Z" } : Jvm.MethodName) prog_1_method_20_code (2 : Nat) (Option.some Jvm.ClassFile.FieldType.boolean)) ∈ lw_all := lw_g (lw_at lw_m6 185 rfl) rfl
theorem q1503 : (Jvm.Cond.instanceMethod ({ cls := "ClockZones", name := "rough", desc := "(I)I" } : Jvm.MethodName)) ∈ lw_all := lw_g (lw_at lw_m6 187 rfl) rfl
theorem q1504 : (Jvm.Cond.selects "ClockZones" ({ cls := "ClockZones", name := "rough", desc := "(I)I" } : Jvm.MethodName) ({ cls := "ClockZones", name := "rough", desc := "(I)I" } : Jvm.MethodName)) ∈ lw_all := lw_g (lw_at lw_m6 188 rfl) rfl
theorem q1505 : (Jvm.Cond.code ({ cls := "ClockZones", name := "rough", desc := "(I)I" } : Jvm.MethodName) prog_1_method_44_code (3 : Nat) (Option.some Jvm.ClassFile.FieldType.int)) ∈ lw_all := lw_g (lw_at lw_m6 189 rfl) rfl
theorem q1507 : (Jvm.Cond.instanceMethod ({ cls := "ClockZones", name := "take", desc := "(II)I" } : Jvm.MethodName)) ∈ lw_all := lw_g (lw_at lw_m6 191 rfl) rfl
theorem q1508 : (Jvm.Cond.selects "ClockZones" ({ cls := "ClockZones", name := "take", desc := "(II)I" } : Jvm.MethodName) ({ cls := "ClockZones", name := "take", desc := "(II)I" } : Jvm.MethodName)) ∈ lw_all := lw_g (lw_at lw_m6 192 rfl) rfl
theorem q1509 : (Jvm.Cond.code ({ cls := "ClockZones", name := "take", desc := "(II)I" } : Jvm.MethodName) prog_1_method_45_code (3 : Nat) (Option.some Jvm.ClassFile.FieldType.int)) ∈ lw_all := lw_g (lw_at lw_m6 193 rfl) rfl
theorem q1510 : (Jvm.Cond.methodLink "ClockZones" (338 : Nat) ({ cls := "ClockZones", name := "isNode", desc := "(I)Z" } : Jvm.MethodName)) ∈ lw_all := lw_g (lw_at lw_m6 194 rfl) rfl
theorem q1511 : (Jvm.Cond.privateMethod ({ cls := "ClockZones", name := "isNode", desc := "(I)Z" } : Jvm.MethodName)) ∈ lw_tbl := lw_at lw_m6 195 rfl
theorem q1512 : (Jvm.Cond.instanceMethod ({ cls := "ClockZones", name := "isNode", desc := "(I)Z" } : Jvm.MethodName)) ∈ lw_all := lw_g (lw_at lw_m6 196 rfl) rfl
theorem q1513 : (Jvm.Cond.code ({ cls := "ClockZones", name := "isNode", desc := "(I)Z" } : Jvm.MethodName) prog_1_method_22_code (2 : Nat) (Option.some Jvm.ClassFile.FieldType.boolean)) ∈ lw_all := lw_g (lw_at lw_m6 197 rfl) rfl
theorem q1515 : (Jvm.Cond.instanceMethod ({ cls := "ClockZones", name := "bound", desc := "(IIII)I" } : Jvm.MethodName)) ∈ lw_all := lw_g (lw_at lw_m6 199 rfl) rfl
theorem q1516 : (Jvm.Cond.selects "ClockZones" ({ cls := "ClockZones", name := "bound", desc := "(IIII)I" } : Jvm.MethodName) ({ cls := "ClockZones", name := "bound", desc := "(IIII)I" } : Jvm.MethodName)) ∈ lw_all := lw_g (lw_at lw_m6 200 rfl) rfl
theorem q1517 : (Jvm.Cond.code ({ cls := "ClockZones", name := "bound", desc := "(IIII)I" } : Jvm.MethodName) prog_1_method_47_code (5 : Nat) (Option.some Jvm.ClassFile.FieldType.int)) ∈ lw_all := lw_g (lw_at lw_m6 201 rfl) rfl
theorem q1518 : (Jvm.Cond.methodLink "ClockZones" (345 : Nat) ({ cls := "ClockZones", name := "boundOf", desc := "(LClockZones$Table;III)I" } : Jvm.MethodName)) ∈ lw_all := lw_g (lw_at lw_m6 202 rfl) rfl
theorem q1519 : (Jvm.Cond.privateMethod ({ cls := "ClockZones", name := "boundOf", desc := "(LClockZones$Table;III)I" } : Jvm.MethodName)) ∈ lw_tbl := lw_at lw_m6 203 rfl
theorem q1520 : (Jvm.Cond.instanceMethod ({ cls := "ClockZones", name := "boundOf", desc := "(LClockZones$Table;III)I" } : Jvm.MethodName)) ∈ lw_all := lw_g (lw_at lw_m6 204 rfl) rfl
theorem q1521 : (Jvm.Cond.code ({ cls := "ClockZones", name := "boundOf", desc := "(LClockZones$Table;III)I" } : Jvm.MethodName) prog_1_method_46_code (6 : Nat) (Option.some Jvm.ClassFile.FieldType.int)) ∈ lw_all := lw_g (lw_at lw_m6 205 rfl) rfl
theorem q1522 : (Jvm.Cond.methodLink "ClockZones" (341 : Nat) ({ cls := "ClockZones$Table", name := "of", desc := "(II)I" } : Jvm.MethodName)) ∈ lw_all := lw_g (lw_at lw_m6 206 rfl) rfl
theorem q1524 : (Jvm.Cond.instanceMethod ({ cls := "ClockZones", name := "empty", desc := "(I)I" } : Jvm.MethodName)) ∈ lw_all := lw_g (lw_at lw_m6 208 rfl) rfl
theorem q1525 : (Jvm.Cond.selects "ClockZones" ({ cls := "ClockZones", name := "empty", desc := "(I)I" } : Jvm.MethodName) ({ cls := "ClockZones", name := "empty", desc := "(I)I" } : Jvm.MethodName)) ∈ lw_all := lw_g (lw_at lw_m6 209 rfl) rfl
theorem q1526 : (Jvm.Cond.code ({ cls := "ClockZones", name := "empty", desc := "(I)I" } : Jvm.MethodName) prog_1_method_48_code (2 : Nat) (Option.some Jvm.ClassFile.FieldType.int)) ∈ lw_all := lw_g (lw_at lw_m6 210 rfl) rfl
theorem q1528 : (Jvm.Cond.instanceMethod ({ cls := "ClockZones", name := "within", desc := "(II)I" } : Jvm.MethodName)) ∈ lw_all := lw_g (lw_at lw_m6 212 rfl) rfl
theorem q1529 : (Jvm.Cond.selects "ClockZones" ({ cls := "ClockZones", name := "within", desc := "(II)I" } : Jvm.MethodName) ({ cls := "ClockZones", name := "within", desc := "(II)I" } : Jvm.MethodName)) ∈ lw_all := lw_g (lw_at lw_m6 213 rfl) rfl
theorem q1530 : (Jvm.Cond.code ({ cls := "ClockZones", name := "within", desc := "(II)I" } : Jvm.MethodName) prog_1_method_49_code (3 : Nat) (Option.some Jvm.ClassFile.FieldType.int)) ∈ lw_all := lw_g (lw_at lw_m6 214 rfl) rfl
theorem q1532 : (Jvm.Cond.instanceMethod ({ cls := "ClockZones", name := "has", desc := "(IIIII)I" } : Jvm.MethodName)) ∈ lw_all := lw_g (lw_at lw_m6 216 rfl) rfl
theorem q1533 : (Jvm.Cond.selects "ClockZones" ({ cls := "ClockZones", name := "has", desc := "(IIIII)I" } : Jvm.MethodName) ({ cls := "ClockZones", name := "has", desc := "(IIIII)I" } : Jvm.MethodName)) ∈ lw_all := lw_g (lw_at lw_m6 217 rfl) rfl
theorem q1534 : (Jvm.Cond.code ({ cls := "ClockZones", name := "has", desc := "(IIIII)I" } : Jvm.MethodName) prog_1_method_50_code (6 : Nat) (Option.some Jvm.ClassFile.FieldType.int)) ∈ lw_all := lw_g (lw_at lw_m6 218 rfl) rfl
theorem q1535 : (Jvm.Cond.methodLink "ClockZones" (349 : Nat) ({ cls := "ClockZones$Table", name := "hasAll", desc := "(I[I)Z" } : Jvm.MethodName)) ∈ lw_all := lw_g (lw_at lw_m6 219 rfl) rfl
theorem q1542 : (Jvm.Cond.instanceMethod ({ cls := "ClockZones", name := "width", desc := "(IIII)I" } : Jvm.MethodName)) ∈ lw_all := lw_g (lw_at lw_m6 226 rfl) rfl
theorem q1543 : (Jvm.Cond.selects "ClockZones" ({ cls := "ClockZones", name := "width", desc := "(IIII)I" } : Jvm.MethodName) ({ cls := "ClockZones", name := "width", desc := "(IIII)I" } : Jvm.MethodName)) ∈ lw_all := lw_g (lw_at lw_m6 227 rfl) rfl
theorem q1544 : (Jvm.Cond.code ({ cls := "ClockZones", name := "width", desc := "(IIII)I" } : Jvm.MethodName) prog_1_method_51_code (7 : Nat) (Option.some Jvm.ClassFile.FieldType.int)) ∈ lw_all := lw_g (lw_at lw_m6 228 rfl) rfl
theorem q1545 : (Jvm.Cond.methodLink "ClockZones" (353 : Nat) ({ cls := "ClockZones", name := "sum", desc := "(II)I" } : Jvm.MethodName)) ∈ lw_all := lw_g (lw_at lw_m6 229 rfl) rfl
theorem q1547 : (Jvm.Cond.instanceMethod ({ cls := "ClockZones", name := "touch", desc := "(II)I" } : Jvm.MethodName)) ∈ lw_all := lw_g (lw_at lw_m6 231 rfl) rfl
theorem q1548 : (Jvm.Cond.selects "ClockZones" ({ cls := "ClockZones", name := "touch", desc := "(II)I" } : Jvm.MethodName) ({ cls := "ClockZones", name := "touch", desc := "(II)I" } : Jvm.MethodName)) ∈ lw_all := lw_g (lw_at lw_m6 232 rfl) rfl
theorem q1549 : (Jvm.Cond.code ({ cls := "ClockZones", name := "touch", desc := "(II)I" } : Jvm.MethodName) prog_1_method_52_code (4 : Nat) (Option.some Jvm.ClassFile.FieldType.int)) ∈ lw_all := lw_g (lw_at lw_m6 233 rfl) rfl
theorem q1551 : (Jvm.Cond.instanceMethod ({ cls := "ClockZones", name := "back", desc := "(II)I" } : Jvm.MethodName)) ∈ lw_all := lw_g (lw_at lw_m6 235 rfl) rfl
theorem q1552 : (Jvm.Cond.selects "ClockZones" ({ cls := "ClockZones", name := "back", desc := "(II)I" } : Jvm.MethodName) ({ cls := "ClockZones", name := "back", desc := "(II)I" } : Jvm.MethodName)) ∈ lw_all := lw_g (lw_at lw_m6 236 rfl) rfl
theorem q1553 : (Jvm.Cond.code ({ cls := "ClockZones", name := "back", desc := "(II)I" } : Jvm.MethodName) prog_1_method_54_code (4 : Nat) (Option.some Jvm.ClassFile.FieldType.int)) ∈ lw_all := lw_g (lw_at lw_m6 237 rfl) rfl
theorem q1554 : (Jvm.Cond.methodLink "ClockZones" (356 : Nat) ({ cls := "ClockZones", name := "goesBack", desc := "(LClockZones$Table;LClockZones$Edge;)V" } : Jvm.MethodName)) ∈ lw_all := lw_g (lw_at lw_m6 238 rfl) rfl
theorem q1555 : (Jvm.Cond.privateMethod ({ cls := "ClockZones", name := "goesBack", desc := "(LClockZones$Table;LClockZones$Edge;)V" } : Jvm.MethodName)) ∈ lw_tbl := lw_at lw_m6 239 rfl
theorem q1556 : (Jvm.Cond.instanceMethod ({ cls := "ClockZones", name := "goesBack", desc := "(LClockZones$Table;LClockZones$Edge;)V" } : Jvm.MethodName)) ∈ lw_all := lw_g (lw_at lw_m7 0 rfl) rfl
theorem q1557 : (Jvm.Cond.code ({ cls := "ClockZones", name := "goesBack", desc := "(LClockZones$Table;LClockZones$Edge;)V" } : Jvm.MethodName) prog_1_method_53_code (5 : Nat) (Option.none : Option Jvm.ClassFile.FieldType)) ∈ lw_all := lw_g (lw_at lw_m7 1 rfl) rfl
theorem q1559 : (Jvm.Cond.instanceMethod ({ cls := "ClockZones", name := "longest", desc := "(III)I" } : Jvm.MethodName)) ∈ lw_all := lw_g (lw_at lw_m7 3 rfl) rfl
theorem q1560 : (Jvm.Cond.selects "ClockZones" ({ cls := "ClockZones", name := "longest", desc := "(III)I" } : Jvm.MethodName) ({ cls := "ClockZones", name := "longest", desc := "(III)I" } : Jvm.MethodName)) ∈ lw_all := lw_g (lw_at lw_m7 4 rfl) rfl
theorem q1561 : (Jvm.Cond.code ({ cls := "ClockZones", name := "longest", desc := "(III)I" } : Jvm.MethodName) prog_1_method_56_code (6 : Nat) (Option.some Jvm.ClassFile.FieldType.int)) ∈ lw_all := lw_g (lw_at lw_m7 5 rfl) rfl
theorem q1562 : (Jvm.Cond.methodLink "ClockZones" (365 : Nat) ({ cls := "ClockZones", name := "withOneMore", desc := "(LClockZones$Table;I)LClockZones$Table;" } : Jvm.MethodName)) ∈ lw_all := lw_g (lw_at lw_m7 6 rfl) rfl
theorem q1563 : (Jvm.Cond.privateMethod ({ cls := "ClockZones", name := "withOneMore", desc := "(LClockZones$Table;I)LClockZones$Table;" } : Jvm.MethodName)) ∈ lw_tbl := lw_at lw_m7 7 rfl
theorem q1564 : (Jvm.Cond.instanceMethod ({ cls := "ClockZones", name := "withOneMore", desc := "(LClockZones$Table;I)LClockZones$Table;" } : Jvm.MethodName)) ∈ lw_all := lw_g (lw_at lw_m7 8 rfl) rfl
theorem q1565 : (Jvm.Cond.code ({ cls := "ClockZones", name := "withOneMore", desc := "(LClockZones$Table;I)LClockZones$Table;" } : Jvm.MethodName) prog_1_method_55_code (7 : Nat) (Option.some (Jvm.ClassFile.FieldType.object "ClockZones$Table"))) ∈ lw_all := lw_g (lw_at lw_m7 9 rfl) rfl
theorem q1566 : (Jvm.Cond.methodLink "ClockZones" (361 : Nat) ({ cls := "ClockZones$Table", name := "lays", desc := "(III)V" } : Jvm.MethodName)) ∈ lw_all := lw_g (lw_at lw_m7 10 rfl) rfl
theorem q1567 : (Jvm.Cond.methodLink "ClockZones" (369 : Nat) ({ cls := "ClockZones$Table", name := "told", desc := "(IIII)I" } : Jvm.MethodName)) ∈ lw_all := lw_g (lw_at lw_m7 11 rfl) rfl
theorem q1574 : (Jvm.Cond.instanceMethod ({ cls := "ClockZones", name := "soonest", desc := "(III)I" } : Jvm.MethodName)) ∈ lw_all := lw_g (lw_at lw_m7 18 rfl) rfl
theorem q1575 : (Jvm.Cond.selects "ClockZones" ({ cls := "ClockZones", name := "soonest", desc := "(III)I" } : Jvm.MethodName) ({ cls := "ClockZones", name := "soonest", desc := "(III)I" } : Jvm.MethodName)) ∈ lw_all := lw_g (lw_at lw_m7 19 rfl) rfl
theorem q1576 : (Jvm.Cond.code ({ cls := "ClockZones", name := "soonest", desc := "(III)I" } : Jvm.MethodName) prog_1_method_57_code (6 : Nat) (Option.some Jvm.ClassFile.FieldType.int)) ∈ lw_all := lw_g (lw_at lw_m7 20 rfl) rfl
theorem q1578 : (Jvm.Cond.instanceMethod ({ cls := "ClockZones", name := "pairs", desc := "(II)I" } : Jvm.MethodName)) ∈ lw_all := lw_g (lw_at lw_m7 22 rfl) rfl
theorem q1579 : (Jvm.Cond.selects "ClockZones" ({ cls := "ClockZones", name := "pairs", desc := "(II)I" } : Jvm.MethodName) ({ cls := "ClockZones", name := "pairs", desc := "(II)I" } : Jvm.MethodName)) ∈ lw_all := lw_g (lw_at lw_m7 23 rfl) rfl
theorem q1580 : (Jvm.Cond.code ({ cls := "ClockZones", name := "pairs", desc := "(II)I" } : Jvm.MethodName) prog_1_method_59_code (8 : Nat) (Option.some Jvm.ClassFile.FieldType.int)) ∈ lw_all := lw_g (lw_at lw_m7 24 rfl) rfl
theorem q1581 : (Jvm.Cond.methodLink "ClockZones" (373 : Nat) ({ cls := "ClockZones", name := "follows", desc := "(LClockZones$Table;II)Z" } : Jvm.MethodName)) ∈ lw_all := lw_g (lw_at lw_m7 25 rfl) rfl
theorem q1582 : (Jvm.Cond.static ({ cls := "ClockZones", name := "follows", desc := "(LClockZones$Table;II)Z" } : Jvm.MethodName)) ∈ lw_all := lw_g (lw_at lw_m7 26 rfl) rfl
theorem q1583 : (Jvm.Cond.code ({ cls := "ClockZones", name := "follows", desc := "(LClockZones$Table;II)Z" } : Jvm.MethodName) prog_1_method_58_code (4 : Nat) (Option.some Jvm.ClassFile.FieldType.boolean)) ∈ lw_all := lw_g (lw_at lw_m7 27 rfl) rfl
theorem q1585 : (Jvm.Cond.instanceMethod ({ cls := "ClockZones", name := "whole", desc := "(II)I" } : Jvm.MethodName)) ∈ lw_all := lw_g (lw_at lw_m7 29 rfl) rfl
theorem q1586 : (Jvm.Cond.selects "ClockZones" ({ cls := "ClockZones", name := "whole", desc := "(II)I" } : Jvm.MethodName) ({ cls := "ClockZones", name := "whole", desc := "(II)I" } : Jvm.MethodName)) ∈ lw_all := lw_g (lw_at lw_m7 30 rfl) rfl
theorem q1587 : (Jvm.Cond.code ({ cls := "ClockZones", name := "whole", desc := "(II)I" } : Jvm.MethodName) prog_1_method_60_code (6 : Nat) (Option.some Jvm.ClassFile.FieldType.int)) ∈ lw_all := lw_g (lw_at lw_m7 31 rfl) rfl
theorem q1589 : (Jvm.Cond.instanceMethod ({ cls := "ClockZones", name := "first", desc := "(II)I" } : Jvm.MethodName)) ∈ lw_all := lw_g (lw_at lw_m7 33 rfl) rfl
theorem q1590 : (Jvm.Cond.selects "ClockZones" ({ cls := "ClockZones", name := "first", desc := "(II)I" } : Jvm.MethodName) ({ cls := "ClockZones", name := "first", desc := "(II)I" } : Jvm.MethodName)) ∈ lw_all := lw_g (lw_at lw_m7 34 rfl) rfl
theorem q1591 : (Jvm.Cond.code ({ cls := "ClockZones", name := "first", desc := "(II)I" } : Jvm.MethodName) prog_1_method_61_code (5 : Nat) (Option.some Jvm.ClassFile.FieldType.int)) ∈ lw_all := lw_g (lw_at lw_m7 35 rfl) rfl
theorem q1592 : (Jvm.Cond.methodLink "ClockZones" (377 : Nat) ({ cls := "ClockZones", name := "reached", desc := "(I)I" } : Jvm.MethodName)) ∈ lw_all := lw_g (lw_at lw_m7 36 rfl) rfl
theorem q1593 : (Jvm.Cond.methodLink "ClockZones" (380 : Nat) ({ cls := "ClockZones$Table", name := "least", desc := "(III)V" } : Jvm.MethodName)) ∈ lw_all := lw_g (lw_at lw_m7 37 rfl) rfl
theorem q1594 : (Jvm.Cond.methodLink "ClockZones" (383 : Nat) ({ cls := "ClockZones$Table", name := "wholes", desc := "()V" } : Jvm.MethodName)) ∈ lw_all := lw_g (lw_at lw_m7 38 rfl) rfl
theorem q1600 : (Jvm.Cond.methodLink "ClockZones" (386 : Nat) ({ cls := "ClockZones$Table", name := "leastOf", desc := "(I)I" } : Jvm.MethodName)) ∈ lw_all := lw_g (lw_at lw_m7 44 rfl) rfl
theorem q1608 : (Jvm.Cond.instanceMethod ({ cls := "ClockZones", name := "nodes", desc := "()I" } : Jvm.MethodName)) ∈ lw_all := lw_g (lw_at lw_m7 52 rfl) rfl
theorem q1609 : (Jvm.Cond.selects "ClockZones" ({ cls := "ClockZones", name := "nodes", desc := "()I" } : Jvm.MethodName) ({ cls := "ClockZones", name := "nodes", desc := "()I" } : Jvm.MethodName)) ∈ lw_all := lw_g (lw_at lw_m7 53 rfl) rfl
theorem q1610 : (Jvm.Cond.code ({ cls := "ClockZones", name := "nodes", desc := "()I" } : Jvm.MethodName) prog_1_method_62_code (1 : Nat) (Option.some Jvm.ClassFile.FieldType.int)) ∈ lw_all := lw_g (lw_at lw_m7 54 rfl) rfl
theorem q1612 : (Jvm.Cond.instanceMethod ({ cls := "ClockZones", name := "node", desc := "(II)I" } : Jvm.MethodName)) ∈ lw_all := lw_g (lw_at lw_m7 56 rfl) rfl
theorem q1613 : (Jvm.Cond.selects "ClockZones" ({ cls := "ClockZones", name := "node", desc := "(II)I" } : Jvm.MethodName) ({ cls := "ClockZones", name := "node", desc := "(II)I" } : Jvm.MethodName)) ∈ lw_all := lw_g (lw_at lw_m7 57 rfl) rfl
theorem q1614 : (Jvm.Cond.code ({ cls := "ClockZones", name := "node", desc := "(II)I" } : Jvm.MethodName) prog_1_method_63_code (4 : Nat) (Option.some Jvm.ClassFile.FieldType.int)) ∈ lw_all := lw_g (lw_at lw_m7 58 rfl) rfl
theorem q1616 : (Jvm.Cond.instanceMethod ({ cls := "ClockZones", name := "nodeBound", desc := "(IIII)I" } : Jvm.MethodName)) ∈ lw_all := lw_g (lw_at lw_m7 60 rfl) rfl
theorem q1617 : (Jvm.Cond.selects "ClockZones" ({ cls := "ClockZones", name := "nodeBound", desc := "(IIII)I" } : Jvm.MethodName) ({ cls := "ClockZones", name := "nodeBound", desc := "(IIII)I" } : Jvm.MethodName)) ∈ lw_all := lw_g (lw_at lw_m7 61 rfl) rfl
theorem q1618 : (Jvm.Cond.code ({ cls := "ClockZones", name := "nodeBound", desc := "(IIII)I" } : Jvm.MethodName) prog_1_method_64_code (5 : Nat) (Option.some Jvm.ClassFile.FieldType.int)) ∈ lw_all := lw_g (lw_at lw_m7 62 rfl) rfl
theorem q1620 : (Jvm.Cond.instanceMethod ({ cls := "ClockZones", name := "way", desc := "(II)I" } : Jvm.MethodName)) ∈ lw_all := lw_g (lw_at lw_m7 64 rfl) rfl
theorem q1621 : (Jvm.Cond.selects "ClockZones" ({ cls := "ClockZones", name := "way", desc := "(II)I" } : Jvm.MethodName) ({ cls := "ClockZones", name := "way", desc := "(II)I" } : Jvm.MethodName)) ∈ lw_all := lw_g (lw_at lw_m7 65 rfl) rfl
theorem q1622 : (Jvm.Cond.code ({ cls := "ClockZones", name := "way", desc := "(II)I" } : Jvm.MethodName) prog_1_method_65_code (4 : Nat) (Option.some Jvm.ClassFile.FieldType.int)) ∈ lw_all := lw_g (lw_at lw_m7 66 rfl) rfl
theorem q1623 : (Jvm.Cond.methodLink "ClockZones" (389 : Nat) ({ cls := "ClockZones", name := "wayTo", desc := "(I)Ljava/util/ArrayList;" } : Jvm.MethodName)) ∈ lw_all := lw_g (lw_at lw_m7 67 rfl) rfl
theorem q1624 : (Jvm.Cond.privateMethod ({ cls := "ClockZones", name := "wayTo", desc := "(I)Ljava/util/ArrayList;" } : Jvm.MethodName)) ∈ lw_tbl := lw_at lw_m7 68 rfl
theorem q1625 : (Jvm.Cond.instanceMethod ({ cls := "ClockZones", name := "wayTo", desc := "(I)Ljava/util/ArrayList;" } : Jvm.MethodName)) ∈ lw_all := lw_g (lw_at lw_m7 69 rfl) rfl
theorem q1626 : (Jvm.Cond.code ({ cls := "ClockZones", name := "wayTo", desc := "(I)Ljava/util/ArrayList;" } : Jvm.MethodName) prog_1_method_17_code (4 : Nat) (Option.some (Jvm.ClassFile.FieldType.object "java/util/ArrayList"))) ∈ lw_all := lw_g (lw_at lw_m7 70 rfl) rfl
theorem q1627 : (Jvm.Cond.methodLink "ClockZones" (235 : Nat) ({ cls := "ClockZones", name := "firstNode", desc := "(I)I" } : Jvm.MethodName)) ∈ lw_all := lw_g (lw_at lw_m7 71 rfl) rfl
theorem q1628 : (Jvm.Cond.privateMethod ({ cls := "ClockZones", name := "firstNode", desc := "(I)I" } : Jvm.MethodName)) ∈ lw_tbl := lw_at lw_m7 72 rfl
theorem q1629 : (Jvm.Cond.instanceMethod ({ cls := "ClockZones", name := "firstNode", desc := "(I)I" } : Jvm.MethodName)) ∈ lw_all := lw_g (lw_at lw_m7 73 rfl) rfl
theorem q1630 : (Jvm.Cond.code ({ cls := "ClockZones", name := "firstNode", desc := "(I)I" } : Jvm.MethodName) prog_1_method_16_code (3 : Nat) (Option.some Jvm.ClassFile.FieldType.int)) ∈ lw_all := lw_g (lw_at lw_m7 74 rfl) rfl
theorem q1631 : (Jvm.Cond.methodLink "ClockZones" (245 : Nat) ({ cls := "java/lang/Integer", name := "valueOf", desc := "(I)Ljava/lang/Integer;" } : Jvm.MethodName)) ∈ lw_all := lw_g (lw_at lw_m7 75 rfl) rfl
theorem q1650 : (Jvm.Cond.methodLink "ClockZones" (251 : Nat) ({ cls := "java/util/ArrayList", name := "add", desc := "(ILjava/lang/Object;)V" } : Jvm.MethodName)) ∈ lw_all := lw_g (lw_at lw_m7 94 rfl) rfl
theorem q1744 : (Jvm.Cond.classLink "ClockZones" (246 : Nat) "java/lang/Integer") ∈ lw_all := lw_g (lw_at lw_m7 188 rfl) rfl
theorem q1745 : (Jvm.Cond.methodLink "ClockZones" (393 : Nat) ({ cls := "java/lang/Integer", name := "intValue", desc := "()I" } : Jvm.MethodName)) ∈ lw_all := lw_g (lw_at lw_m7 189 rfl) rfl
theorem q1747 : (Jvm.Cond.instanceMethod ({ cls := "ClockZones", name := "open", desc := "(I)I" } : Jvm.MethodName)) ∈ lw_all := lw_g (lw_at lw_m7 191 rfl) rfl
theorem q1748 : (Jvm.Cond.selects "ClockZones" ({ cls := "ClockZones", name := "open", desc := "(I)I" } : Jvm.MethodName) ({ cls := "ClockZones", name := "open", desc := "(I)I" } : Jvm.MethodName)) ∈ lw_all := lw_g (lw_at lw_m7 192 rfl) rfl
theorem q1749 : (Jvm.Cond.code ({ cls := "ClockZones", name := "open", desc := "(I)I" } : Jvm.MethodName) prog_1_method_67_code (2 : Nat) (Option.some Jvm.ClassFile.FieldType.int)) ∈ lw_all := lw_g (lw_at lw_m7 193 rfl) rfl
theorem q1750 : (Jvm.Cond.methodLink "ClockZones" (396 : Nat) ({ cls := "ClockZones", name := "opens", desc := "(I)I" } : Jvm.MethodName)) ∈ lw_all := lw_g (lw_at lw_m7 194 rfl) rfl
theorem q1751 : (Jvm.Cond.privateMethod ({ cls := "ClockZones", name := "opens", desc := "(I)I" } : Jvm.MethodName)) ∈ lw_tbl := lw_at lw_m7 195 rfl
theorem q1752 : (Jvm.Cond.instanceMethod ({ cls := "ClockZones", name := "opens", desc := "(I)I" } : Jvm.MethodName)) ∈ lw_all := lw_g (lw_at lw_m7 196 rfl) rfl
theorem q1753 : (Jvm.Cond.code ({ cls := "ClockZones", name := "opens", desc := "(I)I" } : Jvm.MethodName) prog_1_method_66_code (6 : Nat) (Option.some Jvm.ClassFile.FieldType.int)) ∈ lw_all := lw_g (lw_at lw_m7 197 rfl) rfl
theorem q1755 : (Jvm.Cond.instanceMethod ({ cls := "ClockZones", name := "stuck", desc := "()I" } : Jvm.MethodName)) ∈ lw_all := lw_g (lw_at lw_m7 199 rfl) rfl
theorem q1756 : (Jvm.Cond.selects "ClockZones" ({ cls := "ClockZones", name := "stuck", desc := "()I" } : Jvm.MethodName) ({ cls := "ClockZones", name := "stuck", desc := "()I" } : Jvm.MethodName)) ∈ lw_all := lw_g (lw_at lw_m7 200 rfl) rfl
theorem q1757 : (Jvm.Cond.code ({ cls := "ClockZones", name := "stuck", desc := "()I" } : Jvm.MethodName) prog_1_method_68_code (2 : Nat) (Option.some Jvm.ClassFile.FieldType.int)) ∈ lw_all := lw_g (lw_at lw_m7 201 rfl) rfl
theorem q1759 : (Jvm.Cond.instanceMethod ({ cls := "ClockZones", name := "reached", desc := "()I" } : Jvm.MethodName)) ∈ lw_all := lw_g (lw_at lw_m7 203 rfl) rfl
theorem q1760 : (Jvm.Cond.selects "ClockZones" ({ cls := "ClockZones", name := "reached", desc := "()I" } : Jvm.MethodName) ({ cls := "ClockZones", name := "reached", desc := "()I" } : Jvm.MethodName)) ∈ lw_all := lw_g (lw_at lw_m7 204 rfl) rfl
theorem q1761 : (Jvm.Cond.code ({ cls := "ClockZones", name := "reached", desc := "()I" } : Jvm.MethodName) prog_1_method_69_code (4 : Nat) (Option.some Jvm.ClassFile.FieldType.int)) ∈ lw_all := lw_g (lw_at lw_m7 205 rfl) rfl
theorem q1763 : (Jvm.Cond.instanceMethod ({ cls := "ClockZones", name := "deepest", desc := "(I)I" } : Jvm.MethodName)) ∈ lw_all := lw_g (lw_at lw_m7 207 rfl) rfl
theorem q1764 : (Jvm.Cond.selects "ClockZones" ({ cls := "ClockZones", name := "deepest", desc := "(I)I" } : Jvm.MethodName) ({ cls := "ClockZones", name := "deepest", desc := "(I)I" } : Jvm.MethodName)) ∈ lw_all := lw_g (lw_at lw_m7 208 rfl) rfl
theorem q1765 : (Jvm.Cond.code ({ cls := "ClockZones", name := "deepest", desc := "(I)I" } : Jvm.MethodName) prog_1_method_70_code (6 : Nat) (Option.some Jvm.ClassFile.FieldType.int)) ∈ lw_all := lw_g (lw_at lw_m7 209 rfl) rfl
theorem q1767 : (Jvm.Cond.instanceMethod ({ cls := "ClockZones", name := "tells", desc := "(II)I" } : Jvm.MethodName)) ∈ lw_all := lw_g (lw_at lw_m7 211 rfl) rfl
theorem q1768 : (Jvm.Cond.selects "ClockZones" ({ cls := "ClockZones", name := "tells", desc := "(II)I" } : Jvm.MethodName) ({ cls := "ClockZones", name := "tells", desc := "(II)I" } : Jvm.MethodName)) ∈ lw_all := lw_g (lw_at lw_m7 212 rfl) rfl
theorem q1769 : (Jvm.Cond.code ({ cls := "ClockZones", name := "tells", desc := "(II)I" } : Jvm.MethodName) prog_1_method_72_code (5 : Nat) (Option.some Jvm.ClassFile.FieldType.int)) ∈ lw_all := lw_g (lw_at lw_m7 213 rfl) rfl
theorem q1770 : (Jvm.Cond.methodLink "ClockZones" (398 : Nat) ({ cls := "ClockZones", name := "tellsOf", desc := "(Ljava/util/ArrayList;I)Z" } : Jvm.MethodName)) ∈ lw_all := lw_g (lw_at lw_m7 214 rfl) rfl
theorem q1771 : (Jvm.Cond.static ({ cls := "ClockZones", name := "tellsOf", desc := "(Ljava/util/ArrayList;I)Z" } : Jvm.MethodName)) ∈ lw_all := lw_g (lw_at lw_m7 215 rfl) rfl
theorem q1772 : (Jvm.Cond.code ({ cls := "ClockZones", name := "tellsOf", desc := "(Ljava/util/ArrayList;I)Z" } : Jvm.MethodName) prog_1_method_71_code (4 : Nat) (Option.some Jvm.ClassFile.FieldType.boolean)) ∈ lw_all := lw_g (lw_at lw_m7 216 rfl) rfl
theorem q1774 : (Jvm.Cond.instanceMethod ({ cls := "ClockZones", name := "single", desc := "(I)I" } : Jvm.MethodName)) ∈ lw_all := lw_g (lw_at lw_m7 218 rfl) rfl
theorem q1775 : (Jvm.Cond.selects "ClockZones" ({ cls := "ClockZones", name := "single", desc := "(I)I" } : Jvm.MethodName) ({ cls := "ClockZones", name := "single", desc := "(I)I" } : Jvm.MethodName)) ∈ lw_all := lw_g (lw_at lw_m7 219 rfl) rfl
theorem q1776 : (Jvm.Cond.code ({ cls := "ClockZones", name := "single", desc := "(I)I" } : Jvm.MethodName) prog_1_method_73_code (4 : Nat) (Option.some Jvm.ClassFile.FieldType.int)) ∈ lw_all := lw_g (lw_at lw_m7 220 rfl) rfl
theorem q1777 : (Jvm.Cond.fieldLink "ClockZones" (402 : Nat) "ClockZones" "NULL" "I") ∈ lw_all := lw_g (lw_at lw_m7 221 rfl) rfl
theorem q1779 : (Jvm.Cond.instanceMethod ({ cls := "ClockZones", name := "leads", desc := "(I)I" } : Jvm.MethodName)) ∈ lw_all := lw_g (lw_at lw_m7 223 rfl) rfl
theorem q1780 : (Jvm.Cond.selects "ClockZones" ({ cls := "ClockZones", name := "leads", desc := "(I)I" } : Jvm.MethodName) ({ cls := "ClockZones", name := "leads", desc := "(I)I" } : Jvm.MethodName)) ∈ lw_all := lw_g (lw_at lw_m7 224 rfl) rfl
theorem q1781 : (Jvm.Cond.code ({ cls := "ClockZones", name := "leads", desc := "(I)I" } : Jvm.MethodName) prog_1_method_74_code (6 : Nat) (Option.some Jvm.ClassFile.FieldType.int)) ∈ lw_all := lw_g (lw_at lw_m7 225 rfl) rfl
theorem q1783 : (Jvm.Cond.instanceMethod ({ cls := "ClockZones", name := "fastest", desc := "(II)I" } : Jvm.MethodName)) ∈ lw_all := lw_g (lw_at lw_m7 227 rfl) rfl
theorem q1784 : (Jvm.Cond.selects "ClockZones" ({ cls := "ClockZones", name := "fastest", desc := "(II)I" } : Jvm.MethodName) ({ cls := "ClockZones", name := "fastest", desc := "(II)I" } : Jvm.MethodName)) ∈ lw_all := lw_g (lw_at lw_m7 228 rfl) rfl
theorem q1785 : (Jvm.Cond.code ({ cls := "ClockZones", name := "fastest", desc := "(II)I" } : Jvm.MethodName) prog_1_method_75_code (5 : Nat) (Option.some Jvm.ClassFile.FieldType.int)) ∈ lw_all := lw_g (lw_at lw_m7 229 rfl) rfl
theorem q1786 : (Jvm.Cond.methodLink "ClockZones" (405 : Nat) ({ cls := "java/util/ArrayList", name := "isEmpty", desc := "()Z" } : Jvm.MethodName)) ∈ lw_all := lw_g (lw_at lw_m7 230 rfl) rfl
theorem q1787 : (Jvm.Cond.classLink "ClockZones" (406 : Nat) "ClockZones$Times") ∈ lw_all := lw_g (lw_at lw_m7 231 rfl) rfl
theorem q1789 : (Jvm.Cond.methodLink "ClockZones" (408 : Nat) ({ cls := "ClockZones$Times", name := "<init>", desc := "(LClockZones;Ljava/util/ArrayList;I)V" } : Jvm.MethodName)) ∈ lw_all := lw_g (lw_at lw_m7 233 rfl) rfl
theorem q1842 : (Jvm.Cond.fieldLinkNest "ClockZones" (431 : Nat) "ClockZones$Times" "sinces" "[[I" "ClockZones") ∈ lw_tbl := lw_at lw_m8 46 rfl
theorem q1844 : (Jvm.Cond.fieldLinkNest "ClockZones" (435 : Nat) "ClockZones$Times" "froms" "[[I" "ClockZones") ∈ lw_tbl := lw_at lw_m8 48 rfl
theorem q1860 : (Jvm.Cond.methodLink "ClockZones" (412 : Nat) ({ cls := "ClockZones$Times", name := "told", desc := "(IIII)I" } : Jvm.MethodName)) ∈ lw_all := lw_g (lw_at lw_m8 64 rfl) rfl
theorem q1865 : (Jvm.Cond.instanceMethod ({ cls := "ClockZones", name := "add", desc := "(I)I" } : Jvm.MethodName)) ∈ lw_all := lw_g (lw_at lw_m8 69 rfl) rfl
theorem q1866 : (Jvm.Cond.selects "ClockZones" ({ cls := "ClockZones", name := "add", desc := "(I)I" } : Jvm.MethodName) ({ cls := "ClockZones", name := "add", desc := "(I)I" } : Jvm.MethodName)) ∈ lw_all := lw_g (lw_at lw_m8 70 rfl) rfl
theorem q1867 : (Jvm.Cond.code ({ cls := "ClockZones", name := "add", desc := "(I)I" } : Jvm.MethodName) prog_1_method_77_code (3 : Nat) (Option.some Jvm.ClassFile.FieldType.int)) ∈ lw_all := lw_g (lw_at lw_m8 71 rfl) rfl
theorem q1868 : (Jvm.Cond.methodLink "ClockZones" (413 : Nat) ({ cls := "ClockZones", name := "endOf", desc := "(Ljava/util/ArrayList;)I" } : Jvm.MethodName)) ∈ lw_all := lw_g (lw_at lw_m8 72 rfl) rfl
theorem q1869 : (Jvm.Cond.privateMethod ({ cls := "ClockZones", name := "endOf", desc := "(Ljava/util/ArrayList;)I" } : Jvm.MethodName)) ∈ lw_tbl := lw_at lw_m8 73 rfl
theorem q1870 : (Jvm.Cond.instanceMethod ({ cls := "ClockZones", name := "endOf", desc := "(Ljava/util/ArrayList;)I" } : Jvm.MethodName)) ∈ lw_all := lw_g (lw_at lw_m8 74 rfl) rfl
theorem q1871 : (Jvm.Cond.code ({ cls := "ClockZones", name := "endOf", desc := "(Ljava/util/ArrayList;)I" } : Jvm.MethodName) prog_1_method_76_code (2 : Nat) (Option.some Jvm.ClassFile.FieldType.int)) ∈ lw_all := lw_g (lw_at lw_m8 75 rfl) rfl
theorem q1872 : (Jvm.Cond.methodLink "ClockZones" (417 : Nat) ({ cls := "java/util/ArrayList", name := "<init>", desc := "(Ljava/util/Collection;)V" } : Jvm.MethodName)) ∈ lw_all := lw_g (lw_at lw_m8 76 rfl) rfl
theorem q1909 : (Jvm.Cond.methodLink "ClockZones" (420 : Nat) ({ cls := "ClockZones", name := "tracesAnew", desc := "(Ljava/util/ArrayList;)V" } : Jvm.MethodName)) ∈ lw_all := lw_g (lw_at lw_m8 113 rfl) rfl
theorem q1910 : (Jvm.Cond.privateMethod ({ cls := "ClockZones", name := "tracesAnew", desc := "(Ljava/util/ArrayList;)V" } : Jvm.MethodName)) ∈ lw_tbl := lw_at lw_m8 114 rfl
theorem q1911 : (Jvm.Cond.instanceMethod ({ cls := "ClockZones", name := "tracesAnew", desc := "(Ljava/util/ArrayList;)V" } : Jvm.MethodName)) ∈ lw_all := lw_g (lw_at lw_m8 115 rfl) rfl
theorem q1912 : (Jvm.Cond.code ({ cls := "ClockZones", name := "tracesAnew", desc := "(Ljava/util/ArrayList;)V" } : Jvm.MethodName) prog_1_method_32_code (2 : Nat) (Option.none : Option Jvm.ClassFile.FieldType)) ∈ lw_all := lw_g (lw_at lw_m8 116 rfl) rfl
theorem q1914 : (Jvm.Cond.instanceMethod ({ cls := "ClockZones", name := "lead", desc := "(I)I" } : Jvm.MethodName)) ∈ lw_all := lw_g (lw_at lw_m8 118 rfl) rfl
theorem q1915 : (Jvm.Cond.selects "ClockZones" ({ cls := "ClockZones", name := "lead", desc := "(I)I" } : Jvm.MethodName) ({ cls := "ClockZones", name := "lead", desc := "(I)I" } : Jvm.MethodName)) ∈ lw_all := lw_g (lw_at lw_m8 119 rfl) rfl
theorem q1916 : (Jvm.Cond.code ({ cls := "ClockZones", name := "lead", desc := "(I)I" } : Jvm.MethodName) prog_1_method_78_code (3 : Nat) (Option.some Jvm.ClassFile.FieldType.int)) ∈ lw_all := lw_g (lw_at lw_m8 120 rfl) rfl
theorem q1917 : (Jvm.Cond.methodLink "ClockZones" (424 : Nat) ({ cls := "java/util/ArrayList", name := "remove", desc := "(I)Ljava/lang/Object;" } : Jvm.MethodName)) ∈ lw_all := lw_g (lw_at lw_m8 121 rfl) rfl
theorem q1926 : (Jvm.Cond.instanceMethod ({ cls := "ClockZones", name := "trace", desc := "(I)I" } : Jvm.MethodName)) ∈ lw_all := lw_g (lw_at lw_m8 130 rfl) rfl
theorem q1927 : (Jvm.Cond.selects "ClockZones" ({ cls := "ClockZones", name := "trace", desc := "(I)I" } : Jvm.MethodName) ({ cls := "ClockZones", name := "trace", desc := "(I)I" } : Jvm.MethodName)) ∈ lw_all := lw_g (lw_at lw_m8 131 rfl) rfl
theorem q1928 : (Jvm.Cond.code ({ cls := "ClockZones", name := "trace", desc := "(I)I" } : Jvm.MethodName) prog_1_method_79_code (2 : Nat) (Option.some Jvm.ClassFile.FieldType.int)) ∈ lw_all := lw_g (lw_at lw_m8 132 rfl) rfl
theorem q1930 : (Jvm.Cond.instanceMethod ({ cls := "ClockZones", name := "can", desc := "()I" } : Jvm.MethodName)) ∈ lw_all := lw_g (lw_at lw_m8 134 rfl) rfl
theorem q1931 : (Jvm.Cond.selects "ClockZones" ({ cls := "ClockZones", name := "can", desc := "()I" } : Jvm.MethodName) ({ cls := "ClockZones", name := "can", desc := "()I" } : Jvm.MethodName)) ∈ lw_all := lw_g (lw_at lw_m8 135 rfl) rfl
theorem q1932 : (Jvm.Cond.code ({ cls := "ClockZones", name := "can", desc := "()I" } : Jvm.MethodName) prog_1_method_81_code (1 : Nat) (Option.some Jvm.ClassFile.FieldType.int)) ∈ lw_all := lw_g (lw_at lw_m8 136 rfl) rfl
theorem q1933 : (Jvm.Cond.methodLink "ClockZones" (427 : Nat) ({ cls := "ClockZones", name := "times", desc := "()LClockZones$Times;" } : Jvm.MethodName)) ∈ lw_all := lw_g (lw_at lw_m8 137 rfl) rfl
theorem q1934 : (Jvm.Cond.privateMethod ({ cls := "ClockZones", name := "times", desc := "()LClockZones$Times;" } : Jvm.MethodName)) ∈ lw_tbl := lw_at lw_m8 138 rfl
theorem q1935 : (Jvm.Cond.instanceMethod ({ cls := "ClockZones", name := "times", desc := "()LClockZones$Times;" } : Jvm.MethodName)) ∈ lw_all := lw_g (lw_at lw_m8 139 rfl) rfl
theorem q1936 : (Jvm.Cond.code ({ cls := "ClockZones", name := "times", desc := "()LClockZones$Times;" } : Jvm.MethodName) prog_1_method_80_code (1 : Nat) (Option.some (Jvm.ClassFile.FieldType.object "ClockZones$Times"))) ∈ lw_all := lw_g (lw_at lw_m8 140 rfl) rfl
theorem q1938 : (Jvm.Cond.instanceMethod ({ cls := "ClockZones", name := "window", desc := "(II)I" } : Jvm.MethodName)) ∈ lw_all := lw_g (lw_at lw_m8 142 rfl) rfl
theorem q1939 : (Jvm.Cond.selects "ClockZones" ({ cls := "ClockZones", name := "window", desc := "(II)I" } : Jvm.MethodName) ({ cls := "ClockZones", name := "window", desc := "(II)I" } : Jvm.MethodName)) ∈ lw_all := lw_g (lw_at lw_m8 143 rfl) rfl
theorem q1940 : (Jvm.Cond.code ({ cls := "ClockZones", name := "window", desc := "(II)I" } : Jvm.MethodName) prog_1_method_82_code (4 : Nat) (Option.some Jvm.ClassFile.FieldType.int)) ∈ lw_all := lw_g (lw_at lw_m8 144 rfl) rfl
theorem q1942 : (Jvm.Cond.instanceMethod ({ cls := "ClockZones", name := "between", desc := "(III)I" } : Jvm.MethodName)) ∈ lw_all := lw_g (lw_at lw_m8 146 rfl) rfl
theorem q1943 : (Jvm.Cond.selects "ClockZones" ({ cls := "ClockZones", name := "between", desc := "(III)I" } : Jvm.MethodName) ({ cls := "ClockZones", name := "between", desc := "(III)I" } : Jvm.MethodName)) ∈ lw_all := lw_g (lw_at lw_m8 147 rfl) rfl
theorem q1944 : (Jvm.Cond.code ({ cls := "ClockZones", name := "between", desc := "(III)I" } : Jvm.MethodName) prog_1_method_83_code (5 : Nat) (Option.some Jvm.ClassFile.FieldType.int)) ∈ lw_all := lw_g (lw_at lw_m8 148 rfl) rfl
theorem q1946 : (Jvm.Cond.instanceMethod ({ cls := "ClockZones", name := "value", desc := "(III)I" } : Jvm.MethodName)) ∈ lw_all := lw_g (lw_at lw_m8 150 rfl) rfl
theorem q1947 : (Jvm.Cond.selects "ClockZones" ({ cls := "ClockZones", name := "value", desc := "(III)I" } : Jvm.MethodName) ({ cls := "ClockZones", name := "value", desc := "(III)I" } : Jvm.MethodName)) ∈ lw_all := lw_g (lw_at lw_m8 151 rfl) rfl
theorem q1948 : (Jvm.Cond.code ({ cls := "ClockZones", name := "value", desc := "(III)I" } : Jvm.MethodName) prog_1_method_84_code (5 : Nat) (Option.some Jvm.ClassFile.FieldType.int)) ∈ lw_all := lw_g (lw_at lw_m8 152 rfl) rfl
theorem q1950 : (Jvm.Cond.instanceMethod ({ cls := "ClockZones", name := "moment", desc := "(I)I" } : Jvm.MethodName)) ∈ lw_all := lw_g (lw_at lw_m8 154 rfl) rfl
theorem q1951 : (Jvm.Cond.selects "ClockZones" ({ cls := "ClockZones", name := "moment", desc := "(I)I" } : Jvm.MethodName) ({ cls := "ClockZones", name := "moment", desc := "(I)I" } : Jvm.MethodName)) ∈ lw_all := lw_g (lw_at lw_m8 155 rfl) rfl
theorem q1952 : (Jvm.Cond.code ({ cls := "ClockZones", name := "moment", desc := "(I)I" } : Jvm.MethodName) prog_1_method_85_code (3 : Nat) (Option.some Jvm.ClassFile.FieldType.int)) ∈ lw_all := lw_g (lw_at lw_m8 156 rfl) rfl
theorem q1953 : (Jvm.Cond.methodLink "ClockZones" (438 : Nat) ({ cls := "ClockZones$Times", name := "wholes", desc := "()V" } : Jvm.MethodName)) ∈ lw_all := lw_g (lw_at lw_m8 157 rfl) rfl
theorem q1957 : (Jvm.Cond.methodLink "ClockZones" (439 : Nat) ({ cls := "ClockZones$Times", name := "leastOf", desc := "(I)I" } : Jvm.MethodName)) ∈ lw_all := lw_g (lw_at lw_m8 161 rfl) rfl
theorem q1962 : (Jvm.Cond.instanceMethod ({ cls := "ClockZones", name := "breaks", desc := "()I" } : Jvm.MethodName)) ∈ lw_all := lw_g (lw_at lw_m8 166 rfl) rfl
theorem q1963 : (Jvm.Cond.selects "ClockZones" ({ cls := "ClockZones", name := "breaks", desc := "()I" } : Jvm.MethodName) ({ cls := "ClockZones", name := "breaks", desc := "()I" } : Jvm.MethodName)) ∈ lw_all := lw_g (lw_at lw_m8 167 rfl) rfl
theorem q1964 : (Jvm.Cond.code ({ cls := "ClockZones", name := "breaks", desc := "()I" } : Jvm.MethodName) prog_1_method_86_code (2 : Nat) (Option.some Jvm.ClassFile.FieldType.int)) ∈ lw_all := lw_g (lw_at lw_m8 168 rfl) rfl
theorem q1966 : (Jvm.Cond.instanceMethod ({ cls := "ClockZones", name := "count", desc := "(I)I" } : Jvm.MethodName)) ∈ lw_all := lw_g (lw_at lw_m8 170 rfl) rfl
theorem q1967 : (Jvm.Cond.selects "ClockZones" ({ cls := "ClockZones", name := "count", desc := "(I)I" } : Jvm.MethodName) ({ cls := "ClockZones", name := "count", desc := "(I)I" } : Jvm.MethodName)) ∈ lw_all := lw_g (lw_at lw_m8 171 rfl) rfl
theorem q1968 : (Jvm.Cond.code ({ cls := "ClockZones", name := "count", desc := "(I)I" } : Jvm.MethodName) prog_1_method_87_code (2 : Nat) (Option.some Jvm.ClassFile.FieldType.int)) ∈ lw_all := lw_g (lw_at lw_m8 172 rfl) rfl
theorem q1975 : (Jvm.Cond.instanceMethod ({ cls := "ClockZones", name := "place", desc := "(II)I" } : Jvm.MethodName)) ∈ lw_all := lw_g (lw_at lw_m8 179 rfl) rfl
theorem q1976 : (Jvm.Cond.selects "ClockZones" ({ cls := "ClockZones", name := "place", desc := "(II)I" } : Jvm.MethodName) ({ cls := "ClockZones", name := "place", desc := "(II)I" } : Jvm.MethodName)) ∈ lw_all := lw_g (lw_at lw_m8 180 rfl) rfl
theorem q1977 : (Jvm.Cond.code ({ cls := "ClockZones", name := "place", desc := "(II)I" } : Jvm.MethodName) prog_1_method_24_code (6 : Nat) (Option.some Jvm.ClassFile.FieldType.int)) ∈ lw_all := lw_g (lw_at lw_m8 181 rfl) rfl
theorem q1978 : (Jvm.Cond.classLink "ClockZones" (267 : Nat) "java/lang/IndexOutOfBoundsException") ∈ lw_all := lw_g (lw_at lw_m8 182 rfl) rfl
theorem q1979 : (Jvm.Cond.methodLink "ClockZones" (269 : Nat) ({ cls := "java/lang/IndexOutOfBoundsException", name := "<init>", desc := "()V" } : Jvm.MethodName)) ∈ lw_all := lw_g (lw_at lw_m8 183 rfl) rfl
theorem q1983 : (Jvm.Cond.classLink "ClockZones" (270 : Nat) "java/util/NoSuchElementException") ∈ lw_all := lw_g (lw_at lw_m8 187 rfl) rfl
theorem q1984 : (Jvm.Cond.methodLink "ClockZones" (272 : Nat) ({ cls := "java/util/NoSuchElementException", name := "<init>", desc := "()V" } : Jvm.MethodName)) ∈ lw_all := lw_g (lw_at lw_m8 188 rfl) rfl
theorem q1989 : (Jvm.Cond.instanceMethod ({ cls := "ClockZones", name := "edge", desc := "(II)I" } : Jvm.MethodName)) ∈ lw_all := lw_g (lw_at lw_m8 193 rfl) rfl
theorem q1990 : (Jvm.Cond.selects "ClockZones" ({ cls := "ClockZones", name := "edge", desc := "(II)I" } : Jvm.MethodName) ({ cls := "ClockZones", name := "edge", desc := "(II)I" } : Jvm.MethodName)) ∈ lw_all := lw_g (lw_at lw_m8 194 rfl) rfl
theorem q1991 : (Jvm.Cond.code ({ cls := "ClockZones", name := "edge", desc := "(II)I" } : Jvm.MethodName) prog_1_method_25_code (6 : Nat) (Option.some Jvm.ClassFile.FieldType.int)) ∈ lw_all := lw_g (lw_at lw_m8 195 rfl) rfl
theorem q2730 : (Jvm.Cond.castable "ClockZones" "java/lang/Object") ∈ lw_tbl := lw_at lw_m11 214 rfl
theorem in_X1 : ∀ w ∈ wsX10, w ∈ lw_all := lw_in wsX10 [311, 313, 315, 317, 319, 321, 323, 325, 327, 329] (by decide +kernel) (by decide +kernel)

/-! ClockZones$Net -/
def RX2 : String := "ClockZones$Net"
def TX2 : u_T := fun k => match k with
  | 0 => ("ClockZones$Net", "clocks", "Ljava/util/ArrayList;", true)
  | 1 => ("ClockZones$Net", "places", "Ljava/util/ArrayList;", true)
  | 2 => ("ClockZones$Net", "stays", "Ljava/util/ArrayList;", true)
  | 3 => ("ClockZones$Net", "edges", "Ljava/util/ArrayList;", true)
  | 4 => ("ClockZones$Net", "start", "I", false)
  | _ => ("ClockZones$Net", "lines", "I", false)
def tyX2 : Nat → FieldType := fun k => match k with
  | 0 => .object "java/util/ArrayList"
  | 1 => .object "java/util/ArrayList"
  | 2 => .object "java/util/ArrayList"
  | 3 => .object "java/util/ArrayList"
  | 4 => .int
  | _ => .int
abbrev wsX20 : List Cond := u_ws RX2 TX2 6
theorem nmX2 : ∀ a, a < 6 → ∀ b, b < 6 → a ≠ b → (TX2 a).2.1 ≠ (TX2 b).2.1 := by decide +kernel
theorem tyX2_ok : ∀ k, k < 6 → parseFieldDescriptor (TX2 k).2.2.1 = some (tyX2 k) := by decide +kernel
abbrev cX2_init : ByteArray := prog_4_method_1_code
def yX2_init : MethodName := ⟨RX2, "<init>", "()V"⟩
abbrev cX2_size : ByteArray := prog_4_method_2_code
def yX2_size : MethodName := ⟨RX2, "size", "()I"⟩
abbrev cX2_greats : ByteArray := prog_4_method_3_code
def yX2_greats : MethodName := ⟨RX2, "greats", "()[I"⟩
abbrev cX2_greatest : ByteArray := prog_4_method_4_code
def yX2_greatest : MethodName := ⟨RX2, "greatest", "([ILjava/util/ArrayList;)V"⟩
theorem q118 : (Jvm.Cond.initialized "ClockZones$Net") ∈ lw_all := lw_g (lw_at lw_m1 2 rfl) rfl
theorem q172 : (Jvm.Cond.instantiable "ClockZones$Net" (6 : Nat)) ∈ lw_all := lw_g (lw_at lw_m1 56 rfl) rfl
theorem q174 : (Jvm.Cond.instanceMethod ({ cls := "ClockZones$Net", name := "<init>", desc := "()V" } : Jvm.MethodName)) ∈ lw_all := lw_g (lw_at lw_m1 58 rfl) rfl
theorem q175 : (Jvm.Cond.code ({ cls := "ClockZones$Net", name := "<init>", desc := "()V" } : Jvm.MethodName) prog_4_method_1_code (1 : Nat) (Option.none : Option Jvm.ClassFile.FieldType)) ∈ lw_all := lw_g (lw_at lw_m1 59 rfl) rfl
theorem q176 : (Jvm.Cond.methodLink "ClockZones$Net" (1 : Nat) ({ cls := "java/lang/Object", name := "<init>", desc := "()V" } : Jvm.MethodName)) ∈ lw_all := lw_g (lw_at lw_m1 60 rfl) rfl
theorem q177 : (Jvm.Cond.classLink "ClockZones$Net" (7 : Nat) "java/util/ArrayList") ∈ lw_all := lw_g (lw_at lw_m1 61 rfl) rfl
theorem q179 : (Jvm.Cond.methodLink "ClockZones$Net" (9 : Nat) ({ cls := "java/util/ArrayList", name := "<init>", desc := "()V" } : Jvm.MethodName)) ∈ lw_all := lw_g (lw_at lw_m1 63 rfl) rfl
theorem q207 : (Jvm.Cond.fieldLink "ClockZones$Net" (10 : Nat) "ClockZones$Net" "clocks" "Ljava/util/ArrayList;") ∈ lw_all := lw_g (lw_at lw_m1 91 rfl) rfl
theorem q210 : (Jvm.Cond.fieldLink "ClockZones$Net" (16 : Nat) "ClockZones$Net" "places" "Ljava/util/ArrayList;") ∈ lw_all := lw_g (lw_at lw_m1 94 rfl) rfl
theorem q213 : (Jvm.Cond.fieldLink "ClockZones$Net" (19 : Nat) "ClockZones$Net" "stays" "Ljava/util/ArrayList;") ∈ lw_all := lw_g (lw_at lw_m1 97 rfl) rfl
theorem q217 : (Jvm.Cond.fieldLink "ClockZones$Net" (22 : Nat) "ClockZones$Net" "edges" "Ljava/util/ArrayList;") ∈ lw_all := lw_g (lw_at lw_m1 101 rfl) rfl
theorem q226 : (Jvm.Cond.laysFinal "ClockZones$Net" "ClockZones$Net" "clocks" "Ljava/util/ArrayList;") ∈ lw_all := lw_g (lw_at lw_m1 110 rfl) rfl
theorem q227 : (Jvm.Cond.soleField "ClockZones$Net" "clocks") ∈ lw_all := lw_g (lw_at lw_m1 111 rfl) rfl
theorem q228 : (Jvm.Cond.laysFinal "ClockZones$Net" "ClockZones$Net" "places" "Ljava/util/ArrayList;") ∈ lw_all := lw_g (lw_at lw_m1 112 rfl) rfl
theorem q229 : (Jvm.Cond.soleField "ClockZones$Net" "places") ∈ lw_all := lw_g (lw_at lw_m1 113 rfl) rfl
theorem q230 : (Jvm.Cond.laysFinal "ClockZones$Net" "ClockZones$Net" "stays" "Ljava/util/ArrayList;") ∈ lw_all := lw_g (lw_at lw_m1 114 rfl) rfl
theorem q231 : (Jvm.Cond.soleField "ClockZones$Net" "stays") ∈ lw_all := lw_g (lw_at lw_m1 115 rfl) rfl
theorem q232 : (Jvm.Cond.laysFinal "ClockZones$Net" "ClockZones$Net" "edges" "Ljava/util/ArrayList;") ∈ lw_all := lw_g (lw_at lw_m1 116 rfl) rfl
theorem q233 : (Jvm.Cond.soleField "ClockZones$Net" "edges") ∈ lw_all := lw_g (lw_at lw_m1 117 rfl) rfl
theorem q234 : (Jvm.Cond.lays "ClockZones$Net" "ClockZones$Net" "start" "I") ∈ lw_all := lw_g (lw_at lw_m1 118 rfl) rfl
theorem q235 : (Jvm.Cond.soleField "ClockZones$Net" "start") ∈ lw_all := lw_g (lw_at lw_m1 119 rfl) rfl
theorem q236 : (Jvm.Cond.lays "ClockZones$Net" "ClockZones$Net" "lines" "I") ∈ lw_all := lw_g (lw_at lw_m1 120 rfl) rfl
theorem q237 : (Jvm.Cond.soleField "ClockZones$Net" "lines") ∈ lw_all := lw_g (lw_at lw_m1 121 rfl) rfl
theorem q238 : (Jvm.Cond.superclass "ClockZones$Net" "java/lang/Object") ∈ lw_all := lw_g (lw_at lw_m1 122 rfl) rfl
theorem q249 : (Jvm.Cond.instanceMethod ({ cls := "ClockZones$Net", name := "size", desc := "()I" } : Jvm.MethodName)) ∈ lw_all := lw_g (lw_at lw_m1 133 rfl) rfl
theorem q250 : (Jvm.Cond.selects "ClockZones$Net" ({ cls := "ClockZones$Net", name := "size", desc := "()I" } : Jvm.MethodName) ({ cls := "ClockZones$Net", name := "size", desc := "()I" } : Jvm.MethodName)) ∈ lw_all := lw_g (lw_at lw_m1 134 rfl) rfl
theorem q251 : (Jvm.Cond.code ({ cls := "ClockZones$Net", name := "size", desc := "()I" } : Jvm.MethodName) prog_4_method_2_code (1 : Nat) (Option.some Jvm.ClassFile.FieldType.int)) ∈ lw_all := lw_g (lw_at lw_m1 135 rfl) rfl
theorem q252 : (Jvm.Cond.methodLink "ClockZones$Net" (25 : Nat) ({ cls := "java/util/ArrayList", name := "size", desc := "()I" } : Jvm.MethodName)) ∈ lw_all := lw_g (lw_at lw_m1 136 rfl) rfl
theorem q845 : (Jvm.Cond.selects "ClockZones$Net" ({ cls := "java/lang/Object", name := "equals", desc := "(Ljava/lang/Object;)Z" } : Jvm.MethodName) ({ cls := "java/lang/Object", name := "equals", desc := "(Ljava/lang/Object;)Z" } : Jvm.MethodName)) ∈ lw_all := lw_g (lw_at lw_m4 9 rfl) rfl
theorem q897 : (Jvm.Cond.selects "ClockZones$Net" ({ cls := "java/lang/Object", name := "getClass", desc := "()Ljava/lang/Class;" } : Jvm.MethodName) ({ cls := "java/lang/Object", name := "getClass", desc := "()Ljava/lang/Class;" } : Jvm.MethodName)) ∈ lw_all := lw_g (lw_at lw_m4 61 rfl) rfl
theorem q966 : (Jvm.Cond.fieldLinkNest "ClockZones$Net" (58 : Nat) "ClockZones$Said" "clock" "I" "ClockZones") ∈ lw_tbl := lw_at lw_m4 130 rfl
theorem q974 : (Jvm.Cond.fieldLinkNest "ClockZones$Net" (62 : Nat) "ClockZones$Said" "n" "I" "ClockZones") ∈ lw_tbl := lw_at lw_m4 138 rfl
theorem q998 : (Jvm.Cond.fieldLinkNest "ClockZones$Net" (50 : Nat) "ClockZones$Edge" "whens" "Ljava/util/ArrayList;" "ClockZones") ∈ lw_tbl := lw_at lw_m4 162 rfl
theorem q1003 : (Jvm.Cond.fieldLinkNest "ClockZones$Net" (53 : Nat) "ClockZones$Edge" "sets" "Ljava/util/ArrayList;" "ClockZones") ∈ lw_tbl := lw_at lw_m4 167 rfl
theorem q1090 : (Jvm.Cond.privateMethod ({ cls := "ClockZones$Net", name := "greats", desc := "()[I" } : Jvm.MethodName)) ∈ lw_tbl := lw_at lw_m5 14 rfl
theorem q1091 : (Jvm.Cond.instanceMethod ({ cls := "ClockZones$Net", name := "greats", desc := "()[I" } : Jvm.MethodName)) ∈ lw_all := lw_g (lw_at lw_m5 15 rfl) rfl
theorem q1092 : (Jvm.Cond.code ({ cls := "ClockZones$Net", name := "greats", desc := "()[I" } : Jvm.MethodName) prog_4_method_3_code (4 : Nat) (Option.some (Jvm.ClassFile.FieldType.array Jvm.ClassFile.FieldType.int))) ∈ lw_all := lw_g (lw_at lw_m5 16 rfl) rfl
theorem q1093 : (Jvm.Cond.methodLink "ClockZones$Net" (29 : Nat) ({ cls := "ClockZones$Net", name := "size", desc := "()I" } : Jvm.MethodName)) ∈ lw_all := lw_g (lw_at lw_m5 17 rfl) rfl
theorem q1094 : (Jvm.Cond.methodLink "ClockZones$Net" (30 : Nat) ({ cls := "java/util/ArrayList", name := "iterator", desc := "()Ljava/util/Iterator;" } : Jvm.MethodName)) ∈ lw_all := lw_g (lw_at lw_m5 18 rfl) rfl
theorem q1095 : (Jvm.Cond.interfaceEntry "ClockZones$Net" (34 : Nat)) ∈ lw_tbl := lw_at lw_m5 19 rfl
theorem q1096 : (Jvm.Cond.methodLink "ClockZones$Net" (34 : Nat) ({ cls := "java/util/Iterator", name := "hasNext", desc := "()Z" } : Jvm.MethodName)) ∈ lw_all := lw_g (lw_at lw_m5 20 rfl) rfl
theorem q1097 : (Jvm.Cond.interfaceEntry "ClockZones$Net" (40 : Nat)) ∈ lw_tbl := lw_at lw_m5 21 rfl
theorem q1098 : (Jvm.Cond.methodLink "ClockZones$Net" (40 : Nat) ({ cls := "java/util/Iterator", name := "next", desc := "()Ljava/lang/Object;" } : Jvm.MethodName)) ∈ lw_all := lw_g (lw_at lw_m5 22 rfl) rfl
theorem q1099 : (Jvm.Cond.methodLink "ClockZones$Net" (44 : Nat) ({ cls := "ClockZones$Net", name := "greatest", desc := "([ILjava/util/ArrayList;)V" } : Jvm.MethodName)) ∈ lw_all := lw_g (lw_at lw_m5 23 rfl) rfl
theorem q1100 : (Jvm.Cond.static ({ cls := "ClockZones$Net", name := "greatest", desc := "([ILjava/util/ArrayList;)V" } : Jvm.MethodName)) ∈ lw_all := lw_g (lw_at lw_m5 24 rfl) rfl
theorem q1101 : (Jvm.Cond.code ({ cls := "ClockZones$Net", name := "greatest", desc := "([ILjava/util/ArrayList;)V" } : Jvm.MethodName) prog_4_method_4_code (4 : Nat) (Option.none : Option Jvm.ClassFile.FieldType)) ∈ lw_all := lw_g (lw_at lw_m5 25 rfl) rfl
theorem q1102 : (Jvm.Cond.classLink "ClockZones$Net" (56 : Nat) "ClockZones$Said") ∈ lw_all := lw_g (lw_at lw_m5 26 rfl) rfl
theorem q1103 : (Jvm.Cond.methodLink "ClockZones$Net" (65 : Nat) ({ cls := "java/lang/Math", name := "max", desc := "(II)I" } : Jvm.MethodName)) ∈ lw_all := lw_g (lw_at lw_m5 27 rfl) rfl
theorem q1104 : (Jvm.Cond.classLink "ClockZones$Net" (48 : Nat) "ClockZones$Edge") ∈ lw_all := lw_g (lw_at lw_m5 28 rfl) rfl
theorem q2731 : (Jvm.Cond.castable "ClockZones$Net" "java/lang/Object") ∈ lw_tbl := lw_at lw_m11 215 rfl
theorem in_X2 : ∀ w ∈ wsX20, w ∈ lw_all := lw_in wsX20 [226, 228, 230, 232, 234, 236] (by decide +kernel) (by decide +kernel)

/-! java/util/AbstractCollection -/
def RJ0 : String := "java/util/AbstractCollection"
abbrev cJ0_init : ByteArray := prog_42_method_1_code
def yJ0_init : MethodName := ⟨RJ0, "<init>", "()V"⟩
theorem q119 : (Jvm.Cond.initialized "java/util/AbstractCollection") ∈ lw_all := lw_g (lw_at lw_m1 3 rfl) rfl
theorem q186 : (Jvm.Cond.instanceMethod ({ cls := "java/util/AbstractCollection", name := "<init>", desc := "()V" } : Jvm.MethodName)) ∈ lw_all := lw_g (lw_at lw_m1 70 rfl) rfl
theorem q187 : (Jvm.Cond.code ({ cls := "java/util/AbstractCollection", name := "<init>", desc := "()V" } : Jvm.MethodName) prog_42_method_1_code (1 : Nat) (Option.none : Option Jvm.ClassFile.FieldType)) ∈ lw_all := lw_g (lw_at lw_m1 71 rfl) rfl
theorem q188 : (Jvm.Cond.methodLink "java/util/AbstractCollection" (1 : Nat) ({ cls := "java/lang/Object", name := "<init>", desc := "()V" } : Jvm.MethodName)) ∈ lw_all := lw_g (lw_at lw_m1 72 rfl) rfl

/-! java/util/AbstractList -/
def RJ1 : String := "java/util/AbstractList"
abbrev cJ1_init : ByteArray := prog_43_method_1_code
def yJ1_init : MethodName := ⟨RJ1, "<init>", "()V"⟩
theorem q120 : (Jvm.Cond.initialized "java/util/AbstractList") ∈ lw_all := lw_g (lw_at lw_m1 4 rfl) rfl
theorem q183 : (Jvm.Cond.instanceMethod ({ cls := "java/util/AbstractList", name := "<init>", desc := "()V" } : Jvm.MethodName)) ∈ lw_all := lw_g (lw_at lw_m1 67 rfl) rfl
theorem q184 : (Jvm.Cond.code ({ cls := "java/util/AbstractList", name := "<init>", desc := "()V" } : Jvm.MethodName) prog_43_method_1_code (1 : Nat) (Option.none : Option Jvm.ClassFile.FieldType)) ∈ lw_all := lw_g (lw_at lw_m1 68 rfl) rfl
theorem q185 : (Jvm.Cond.methodLink "java/util/AbstractList" (1 : Nat) ({ cls := "java/util/AbstractCollection", name := "<init>", desc := "()V" } : Jvm.MethodName)) ∈ lw_all := lw_g (lw_at lw_m1 69 rfl) rfl
theorem q195 : (Jvm.Cond.fieldLink "java/util/AbstractList" (7 : Nat) "java/util/AbstractList" "modCount" "I") ∈ lw_all := lw_g (lw_at lw_m1 79 rfl) rfl
theorem q204 : (Jvm.Cond.soleField "java/util/AbstractList" "modCount") ∈ lw_all := lw_g (lw_at lw_m1 88 rfl) rfl

/-! java/util/ArrayList -/
def RJ2 : String := "java/util/ArrayList"
def TJ2 : u_T := fun k => match k with
  | 0 => ("java/util/AbstractList", "modCount", "I", false)
  | 1 => ("java/util/ArrayList", "elementData", "[Ljava/lang/Object;", false)
  | _ => ("java/util/ArrayList", "size", "I", false)
def tyJ2 : Nat → FieldType := fun k => match k with
  | 0 => .int
  | 1 => .array (.object "java/lang/Object")
  | _ => .int
abbrev wsJ20 : List Cond := u_ws RJ2 TJ2 3
theorem nmJ2 : ∀ a, a < 3 → ∀ b, b < 3 → a ≠ b → (TJ2 a).2.1 ≠ (TJ2 b).2.1 := by decide +kernel
theorem tyJ2_ok : ∀ k, k < 3 → parseFieldDescriptor (TJ2 k).2.2.1 = some (tyJ2 k) := by decide +kernel
abbrev cJ2_init : ByteArray := prog_45_method_2_code
def yJ2_init : MethodName := ⟨RJ2, "<init>", "()V"⟩
abbrev cJ2_size : ByteArray := prog_45_method_8_code
def yJ2_size : MethodName := ⟨RJ2, "size", "()I"⟩
abbrev cJ2_contains : ByteArray := prog_45_method_10_code
def yJ2_contains : MethodName := ⟨RJ2, "contains", "(Ljava/lang/Object;)Z"⟩
abbrev cJ2_indexOf : ByteArray := prog_45_method_11_code
def yJ2_indexOf : MethodName := ⟨RJ2, "indexOf", "(Ljava/lang/Object;)I"⟩
abbrev cJ2_indexOfRange : ByteArray := prog_45_method_12_code
def yJ2_indexOfRange : MethodName := ⟨RJ2, "indexOfRange", "(Ljava/lang/Object;II)I"⟩
abbrev cJ2_add : ByteArray := prog_45_method_25_code
def yJ2_add : MethodName := ⟨RJ2, "add", "(Ljava/lang/Object;)Z"⟩
abbrev cJ2_add_2 : ByteArray := prog_45_method_24_code
def yJ2_add_2 : MethodName := ⟨RJ2, "add", "(Ljava/lang/Object;[Ljava/lang/Object;I)V"⟩
abbrev cJ2_grow : ByteArray := prog_45_method_7_code
def yJ2_grow : MethodName := ⟨RJ2, "grow", "()[Ljava/lang/Object;"⟩
abbrev cJ2_grow_2 : ByteArray := prog_45_method_6_code
def yJ2_grow_2 : MethodName := ⟨RJ2, "grow", "(I)[Ljava/lang/Object;"⟩
abbrev cJ2_get : ByteArray := prog_45_method_20_code
def yJ2_get : MethodName := ⟨RJ2, "get", "(I)Ljava/lang/Object;"⟩
abbrev cJ2_elementData : ByteArray := prog_45_method_18_code
def yJ2_elementData : MethodName := ⟨RJ2, "elementData", "(I)Ljava/lang/Object;"⟩
abbrev cJ2_iterator : ByteArray := prog_45_method_55_code
def yJ2_iterator : MethodName := ⟨RJ2, "iterator", "()Ljava/util/Iterator;"⟩
abbrev cJ2_isEmpty : ByteArray := prog_45_method_9_code
def yJ2_isEmpty : MethodName := ⟨RJ2, "isEmpty", "()Z"⟩
abbrev cJ2_clear : ByteArray := prog_45_method_40_code
def yJ2_clear : MethodName := ⟨RJ2, "clear", "()V"⟩
abbrev cJ2_init_2 : ByteArray := prog_45_method_1_code
def yJ2_init_2 : MethodName := ⟨RJ2, "<init>", "(I)V"⟩
abbrev cJ2_add_3 : ByteArray := prog_45_method_26_code
def yJ2_add_3 : MethodName := ⟨RJ2, "add", "(ILjava/lang/Object;)V"⟩
abbrev cJ2_rangeCheckForAdd : ByteArray := prog_45_method_45_code
def yJ2_rangeCheckForAdd : MethodName := ⟨RJ2, "rangeCheckForAdd", "(I)V"⟩
abbrev cJ2_outOfBoundsMsg : ByteArray := prog_45_method_46_code
def yJ2_outOfBoundsMsg : MethodName := ⟨RJ2, "outOfBoundsMsg", "(I)Ljava/lang/String;"⟩
abbrev cJ2_init_3 : ByteArray := prog_45_method_3_code
def yJ2_init_3 : MethodName := ⟨RJ2, "<init>", "(Ljava/util/Collection;)V"⟩
abbrev cJ2_toArray : ByteArray := prog_45_method_16_code
def yJ2_toArray : MethodName := ⟨RJ2, "toArray", "()[Ljava/lang/Object;"⟩
abbrev cJ2_remove : ByteArray := prog_45_method_29_code
def yJ2_remove : MethodName := ⟨RJ2, "remove", "(I)Ljava/lang/Object;"⟩
abbrev cJ2_fastRemove : ByteArray := prog_45_method_39_code
def yJ2_fastRemove : MethodName := ⟨RJ2, "fastRemove", "([Ljava/lang/Object;I)V"⟩
theorem q121 : (Jvm.Cond.initialized "java/util/ArrayList") ∈ lw_all := lw_g (lw_at lw_m1 5 rfl) rfl
theorem q178 : (Jvm.Cond.instantiable "java/util/ArrayList" (3 : Nat)) ∈ lw_all := lw_g (lw_at lw_m1 62 rfl) rfl
theorem q180 : (Jvm.Cond.instanceMethod ({ cls := "java/util/ArrayList", name := "<init>", desc := "()V" } : Jvm.MethodName)) ∈ lw_all := lw_g (lw_at lw_m1 64 rfl) rfl
theorem q181 : (Jvm.Cond.code ({ cls := "java/util/ArrayList", name := "<init>", desc := "()V" } : Jvm.MethodName) prog_45_method_2_code (1 : Nat) (Option.none : Option Jvm.ClassFile.FieldType)) ∈ lw_all := lw_g (lw_at lw_m1 65 rfl) rfl
theorem q182 : (Jvm.Cond.methodLink "java/util/ArrayList" (1 : Nat) ({ cls := "java/util/AbstractList", name := "<init>", desc := "()V" } : Jvm.MethodName)) ∈ lw_all := lw_g (lw_at lw_m1 66 rfl) rfl
theorem q189 : (Jvm.Cond.fieldLink "java/util/ArrayList" (39 : Nat) "java/util/ArrayList" "DEFAULTCAPACITY_EMPTY_ELEMENTDATA" "[Ljava/lang/Object;") ∈ lw_all := lw_g (lw_at lw_m1 73 rfl) rfl
theorem q190 : (Jvm.Cond.laysStatic "java/util/ArrayList" "DEFAULTCAPACITY_EMPTY_ELEMENTDATA" "[Ljava/lang/Object;") ∈ lw_tbl := lw_at lw_m1 74 rfl
theorem q191 : (Jvm.Cond.fieldLink "java/util/ArrayList" (9 : Nat) "java/util/ArrayList" "elementData" "[Ljava/lang/Object;") ∈ lw_all := lw_g (lw_at lw_m1 75 rfl) rfl
theorem q194 : (Jvm.Cond.fieldLink "java/util/ArrayList" (48 : Nat) "java/util/ArrayList" "size" "I") ∈ lw_all := lw_g (lw_at lw_m1 78 rfl) rfl
theorem q197 : (Jvm.Cond.sameField "java/util/ArrayList" "java/util/AbstractList" "modCount" "I") ∈ lw_all := lw_g (lw_at lw_m1 81 rfl) rfl
theorem q198 : (Jvm.Cond.fieldLink "java/util/ArrayList" (63 : Nat) "java/util/ArrayList" "modCount" "I") ∈ lw_all := lw_g (lw_at lw_m1 82 rfl) rfl
theorem q199 : (Jvm.Cond.lays "java/util/ArrayList" "java/util/ArrayList" "elementData" "[Ljava/lang/Object;") ∈ lw_all := lw_g (lw_at lw_m1 83 rfl) rfl
theorem q200 : (Jvm.Cond.soleField "java/util/ArrayList" "elementData") ∈ lw_all := lw_g (lw_at lw_m1 84 rfl) rfl
theorem q201 : (Jvm.Cond.lays "java/util/ArrayList" "java/util/ArrayList" "size" "I") ∈ lw_all := lw_g (lw_at lw_m1 85 rfl) rfl
theorem q202 : (Jvm.Cond.soleField "java/util/ArrayList" "size") ∈ lw_all := lw_g (lw_at lw_m1 86 rfl) rfl
theorem q203 : (Jvm.Cond.lays "java/util/ArrayList" "java/util/AbstractList" "modCount" "I") ∈ lw_all := lw_g (lw_at lw_m1 87 rfl) rfl
theorem q205 : (Jvm.Cond.superclass "java/util/ArrayList" "java/util/AbstractList") ∈ lw_all := lw_g (lw_at lw_m1 89 rfl) rfl
theorem q253 : (Jvm.Cond.instanceMethod ({ cls := "java/util/ArrayList", name := "size", desc := "()I" } : Jvm.MethodName)) ∈ lw_all := lw_g (lw_at lw_m1 137 rfl) rfl
theorem q254 : (Jvm.Cond.selects "java/util/ArrayList" ({ cls := "java/util/ArrayList", name := "size", desc := "()I" } : Jvm.MethodName) ({ cls := "java/util/ArrayList", name := "size", desc := "()I" } : Jvm.MethodName)) ∈ lw_all := lw_g (lw_at lw_m1 138 rfl) rfl
theorem q255 : (Jvm.Cond.code ({ cls := "java/util/ArrayList", name := "size", desc := "()I" } : Jvm.MethodName) prog_45_method_8_code (1 : Nat) (Option.some Jvm.ClassFile.FieldType.int)) ∈ lw_all := lw_g (lw_at lw_m1 139 rfl) rfl
theorem q827 : (Jvm.Cond.instanceMethod ({ cls := "java/util/ArrayList", name := "contains", desc := "(Ljava/lang/Object;)Z" } : Jvm.MethodName)) ∈ lw_all := lw_g (lw_at lw_m3 231 rfl) rfl
theorem q828 : (Jvm.Cond.selects "java/util/ArrayList" ({ cls := "java/util/ArrayList", name := "contains", desc := "(Ljava/lang/Object;)Z" } : Jvm.MethodName) ({ cls := "java/util/ArrayList", name := "contains", desc := "(Ljava/lang/Object;)Z" } : Jvm.MethodName)) ∈ lw_all := lw_g (lw_at lw_m3 232 rfl) rfl
theorem q829 : (Jvm.Cond.code ({ cls := "java/util/ArrayList", name := "contains", desc := "(Ljava/lang/Object;)Z" } : Jvm.MethodName) prog_45_method_10_code (2 : Nat) (Option.some Jvm.ClassFile.FieldType.boolean)) ∈ lw_all := lw_g (lw_at lw_m3 233 rfl) rfl
theorem q830 : (Jvm.Cond.methodLink "java/util/ArrayList" (85 : Nat) ({ cls := "java/util/ArrayList", name := "indexOf", desc := "(Ljava/lang/Object;)I" } : Jvm.MethodName)) ∈ lw_all := lw_g (lw_at lw_m3 234 rfl) rfl
theorem q831 : (Jvm.Cond.instanceMethod ({ cls := "java/util/ArrayList", name := "indexOf", desc := "(Ljava/lang/Object;)I" } : Jvm.MethodName)) ∈ lw_all := lw_g (lw_at lw_m3 235 rfl) rfl
theorem q832 : (Jvm.Cond.selects "java/util/ArrayList" ({ cls := "java/util/ArrayList", name := "indexOf", desc := "(Ljava/lang/Object;)I" } : Jvm.MethodName) ({ cls := "java/util/ArrayList", name := "indexOf", desc := "(Ljava/lang/Object;)I" } : Jvm.MethodName)) ∈ lw_all := lw_g (lw_at lw_m3 236 rfl) rfl
theorem q833 : (Jvm.Cond.code ({ cls := "java/util/ArrayList", name := "indexOf", desc := "(Ljava/lang/Object;)I" } : Jvm.MethodName) prog_45_method_11_code (2 : Nat) (Option.some Jvm.ClassFile.FieldType.int)) ∈ lw_all := lw_g (lw_at lw_m3 237 rfl) rfl
theorem q834 : (Jvm.Cond.methodLink "java/util/ArrayList" (89 : Nat) ({ cls := "java/util/ArrayList", name := "indexOfRange", desc := "(Ljava/lang/Object;II)I" } : Jvm.MethodName)) ∈ lw_all := lw_g (lw_at lw_m3 238 rfl) rfl
theorem q835 : (Jvm.Cond.instanceMethod ({ cls := "java/util/ArrayList", name := "indexOfRange", desc := "(Ljava/lang/Object;II)I" } : Jvm.MethodName)) ∈ lw_all := lw_g (lw_at lw_m3 239 rfl) rfl
theorem q836 : (Jvm.Cond.selects "java/util/ArrayList" ({ cls := "java/util/ArrayList", name := "indexOfRange", desc := "(Ljava/lang/Object;II)I" } : Jvm.MethodName) ({ cls := "java/util/ArrayList", name := "indexOfRange", desc := "(Ljava/lang/Object;II)I" } : Jvm.MethodName)) ∈ lw_all := lw_g (lw_at lw_m4 0 rfl) rfl
theorem q837 : (Jvm.Cond.code ({ cls := "java/util/ArrayList", name := "indexOfRange", desc := "(Ljava/lang/Object;II)I" } : Jvm.MethodName) prog_45_method_12_code (6 : Nat) (Option.some Jvm.ClassFile.FieldType.int)) ∈ lw_all := lw_g (lw_at lw_m4 1 rfl) rfl
theorem q839 : (Jvm.Cond.methodLink "java/util/ArrayList" (93 : Nat) ({ cls := "java/lang/Object", name := "equals", desc := "(Ljava/lang/Object;)Z" } : Jvm.MethodName)) ∈ lw_all := lw_g (lw_at lw_m4 3 rfl) rfl
theorem q872 : (Jvm.Cond.instanceMethod ({ cls := "java/util/ArrayList", name := "add", desc := "(Ljava/lang/Object;)Z" } : Jvm.MethodName)) ∈ lw_all := lw_g (lw_at lw_m4 36 rfl) rfl
theorem q873 : (Jvm.Cond.selects "java/util/ArrayList" ({ cls := "java/util/ArrayList", name := "add", desc := "(Ljava/lang/Object;)Z" } : Jvm.MethodName) ({ cls := "java/util/ArrayList", name := "add", desc := "(Ljava/lang/Object;)Z" } : Jvm.MethodName)) ∈ lw_all := lw_g (lw_at lw_m4 37 rfl) rfl
theorem q874 : (Jvm.Cond.code ({ cls := "java/util/ArrayList", name := "add", desc := "(Ljava/lang/Object;)Z" } : Jvm.MethodName) prog_45_method_25_code (2 : Nat) (Option.some Jvm.ClassFile.FieldType.boolean)) ∈ lw_all := lw_g (lw_at lw_m4 38 rfl) rfl
theorem q875 : (Jvm.Cond.methodLink "java/util/ArrayList" (131 : Nat) ({ cls := "java/util/ArrayList", name := "add", desc := "(Ljava/lang/Object;[Ljava/lang/Object;I)V" } : Jvm.MethodName)) ∈ lw_all := lw_g (lw_at lw_m4 39 rfl) rfl
theorem q876 : (Jvm.Cond.privateMethod ({ cls := "java/util/ArrayList", name := "add", desc := "(Ljava/lang/Object;[Ljava/lang/Object;I)V" } : Jvm.MethodName)) ∈ lw_tbl := lw_at lw_m4 40 rfl
theorem q877 : (Jvm.Cond.instanceMethod ({ cls := "java/util/ArrayList", name := "add", desc := "(Ljava/lang/Object;[Ljava/lang/Object;I)V" } : Jvm.MethodName)) ∈ lw_all := lw_g (lw_at lw_m4 41 rfl) rfl
theorem q878 : (Jvm.Cond.code ({ cls := "java/util/ArrayList", name := "add", desc := "(Ljava/lang/Object;[Ljava/lang/Object;I)V" } : Jvm.MethodName) prog_45_method_24_code (4 : Nat) (Option.none : Option Jvm.ClassFile.FieldType)) ∈ lw_all := lw_g (lw_at lw_m4 42 rfl) rfl
theorem q879 : (Jvm.Cond.methodLink "java/util/ArrayList" (129 : Nat) ({ cls := "java/util/ArrayList", name := "grow", desc := "()[Ljava/lang/Object;" } : Jvm.MethodName)) ∈ lw_all := lw_g (lw_at lw_m4 43 rfl) rfl
theorem q880 : (Jvm.Cond.privateMethod ({ cls := "java/util/ArrayList", name := "grow", desc := "()[Ljava/lang/Object;" } : Jvm.MethodName)) ∈ lw_tbl := lw_at lw_m4 44 rfl
theorem q881 : (Jvm.Cond.instanceMethod ({ cls := "java/util/ArrayList", name := "grow", desc := "()[Ljava/lang/Object;" } : Jvm.MethodName)) ∈ lw_all := lw_g (lw_at lw_m4 45 rfl) rfl
theorem q882 : (Jvm.Cond.code ({ cls := "java/util/ArrayList", name := "grow", desc := "()[Ljava/lang/Object;" } : Jvm.MethodName) prog_45_method_7_code (1 : Nat) (Option.some (Jvm.ClassFile.FieldType.array (Jvm.ClassFile.FieldType.object "java/lang/Object")))) ∈ lw_all := lw_g (lw_at lw_m4 46 rfl) rfl
theorem q883 : (Jvm.Cond.methodLink "java/util/ArrayList" (69 : Nat) ({ cls := "java/util/ArrayList", name := "grow", desc := "(I)[Ljava/lang/Object;" } : Jvm.MethodName)) ∈ lw_all := lw_g (lw_at lw_m4 47 rfl) rfl
theorem q884 : (Jvm.Cond.privateMethod ({ cls := "java/util/ArrayList", name := "grow", desc := "(I)[Ljava/lang/Object;" } : Jvm.MethodName)) ∈ lw_tbl := lw_at lw_m4 48 rfl
theorem q885 : (Jvm.Cond.instanceMethod ({ cls := "java/util/ArrayList", name := "grow", desc := "(I)[Ljava/lang/Object;" } : Jvm.MethodName)) ∈ lw_all := lw_g (lw_at lw_m4 49 rfl) rfl
theorem q886 : (Jvm.Cond.code ({ cls := "java/util/ArrayList", name := "grow", desc := "(I)[Ljava/lang/Object;" } : Jvm.MethodName) prog_45_method_6_code (4 : Nat) (Option.some (Jvm.ClassFile.FieldType.array (Jvm.ClassFile.FieldType.object "java/lang/Object")))) ∈ lw_all := lw_g (lw_at lw_m4 50 rfl) rfl
theorem q887 : (Jvm.Cond.methodLink "java/util/ArrayList" (73 : Nat) ({ cls := "jdk/internal/util/ArraysSupport", name := "newLength", desc := "(III)I" } : Jvm.MethodName)) ∈ lw_all := lw_g (lw_at lw_m4 51 rfl) rfl
theorem q888 : (Jvm.Cond.methodLink "java/util/ArrayList" (66 : Nat) ({ cls := "java/util/Arrays", name := "copyOf", desc := "([Ljava/lang/Object;I)[Ljava/lang/Object;" } : Jvm.MethodName)) ∈ lw_all := lw_g (lw_at lw_m4 52 rfl) rfl
theorem q916 : (Jvm.Cond.selects "java/util/ArrayList" ({ cls := "java/lang/Object", name := "getClass", desc := "()Ljava/lang/Class;" } : Jvm.MethodName) ({ cls := "java/lang/Object", name := "getClass", desc := "()Ljava/lang/Class;" } : Jvm.MethodName)) ∈ lw_all := lw_g (lw_at lw_m4 80 rfl) rfl
theorem q925 : (Jvm.Cond.methodLink "java/util/ArrayList" (79 : Nat) ({ cls := "java/lang/Math", name := "max", desc := "(II)I" } : Jvm.MethodName)) ∈ lw_all := lw_g (lw_at lw_m4 89 rfl) rfl
theorem q926 : (Jvm.Cond.classLink "java/util/ArrayList" (7 : Nat) "java/lang/Object") ∈ lw_all := lw_g (lw_at lw_m4 90 rfl) rfl
theorem q930 : (Jvm.Cond.instanceMethod ({ cls := "java/util/ArrayList", name := "get", desc := "(I)Ljava/lang/Object;" } : Jvm.MethodName)) ∈ lw_all := lw_g (lw_at lw_m4 94 rfl) rfl
theorem q931 : (Jvm.Cond.selects "java/util/ArrayList" ({ cls := "java/util/ArrayList", name := "get", desc := "(I)Ljava/lang/Object;" } : Jvm.MethodName) ({ cls := "java/util/ArrayList", name := "get", desc := "(I)Ljava/lang/Object;" } : Jvm.MethodName)) ∈ lw_all := lw_g (lw_at lw_m4 95 rfl) rfl
theorem q932 : (Jvm.Cond.code ({ cls := "java/util/ArrayList", name := "get", desc := "(I)Ljava/lang/Object;" } : Jvm.MethodName) prog_45_method_20_code (2 : Nat) (Option.some (Jvm.ClassFile.FieldType.object "java/lang/Object"))) ∈ lw_all := lw_g (lw_at lw_m4 96 rfl) rfl
theorem q933 : (Jvm.Cond.methodLink "java/util/ArrayList" (118 : Nat) ({ cls := "java/util/Objects", name := "checkIndex", desc := "(II)I" } : Jvm.MethodName)) ∈ lw_all := lw_g (lw_at lw_m4 97 rfl) rfl
theorem q937 : (Jvm.Cond.methodLink "java/util/ArrayList" (123 : Nat) ({ cls := "java/util/ArrayList", name := "elementData", desc := "(I)Ljava/lang/Object;" } : Jvm.MethodName)) ∈ lw_all := lw_g (lw_at lw_m4 101 rfl) rfl
theorem q938 : (Jvm.Cond.instanceMethod ({ cls := "java/util/ArrayList", name := "elementData", desc := "(I)Ljava/lang/Object;" } : Jvm.MethodName)) ∈ lw_all := lw_g (lw_at lw_m4 102 rfl) rfl
theorem q939 : (Jvm.Cond.selects "java/util/ArrayList" ({ cls := "java/util/ArrayList", name := "elementData", desc := "(I)Ljava/lang/Object;" } : Jvm.MethodName) ({ cls := "java/util/ArrayList", name := "elementData", desc := "(I)Ljava/lang/Object;" } : Jvm.MethodName)) ∈ lw_all := lw_g (lw_at lw_m4 103 rfl) rfl
theorem q940 : (Jvm.Cond.code ({ cls := "java/util/ArrayList", name := "elementData", desc := "(I)Ljava/lang/Object;" } : Jvm.MethodName) prog_45_method_18_code (2 : Nat) (Option.some (Jvm.ClassFile.FieldType.object "java/lang/Object"))) ∈ lw_all := lw_g (lw_at lw_m4 104 rfl) rfl
theorem q1021 : (Jvm.Cond.instanceMethod ({ cls := "java/util/ArrayList", name := "iterator", desc := "()Ljava/util/Iterator;" } : Jvm.MethodName)) ∈ lw_all := lw_g (lw_at lw_m4 185 rfl) rfl
theorem q1022 : (Jvm.Cond.selects "java/util/ArrayList" ({ cls := "java/util/ArrayList", name := "iterator", desc := "()Ljava/util/Iterator;" } : Jvm.MethodName) ({ cls := "java/util/ArrayList", name := "iterator", desc := "()Ljava/util/Iterator;" } : Jvm.MethodName)) ∈ lw_all := lw_g (lw_at lw_m4 186 rfl) rfl
theorem q1023 : (Jvm.Cond.code ({ cls := "java/util/ArrayList", name := "iterator", desc := "()Ljava/util/Iterator;" } : Jvm.MethodName) prog_45_method_55_code (1 : Nat) (Option.some (Jvm.ClassFile.FieldType.object "java/util/Iterator"))) ∈ lw_all := lw_g (lw_at lw_m4 187 rfl) rfl
theorem q1024 : (Jvm.Cond.classLink "java/util/ArrayList" (267 : Nat) "java/util/ArrayList$Itr") ∈ lw_all := lw_g (lw_at lw_m4 188 rfl) rfl
theorem q1026 : (Jvm.Cond.methodLink "java/util/ArrayList" (269 : Nat) ({ cls := "java/util/ArrayList$Itr", name := "<init>", desc := "(Ljava/util/ArrayList;)V" } : Jvm.MethodName)) ∈ lw_all := lw_g (lw_at lw_m4 190 rfl) rfl
theorem q1086 : (Jvm.Cond.instanceMethod ({ cls := "java/util/ArrayList", name := "isEmpty", desc := "()Z" } : Jvm.MethodName)) ∈ lw_all := lw_g (lw_at lw_m5 10 rfl) rfl
theorem q1087 : (Jvm.Cond.selects "java/util/ArrayList" ({ cls := "java/util/ArrayList", name := "isEmpty", desc := "()Z" } : Jvm.MethodName) ({ cls := "java/util/ArrayList", name := "isEmpty", desc := "()Z" } : Jvm.MethodName)) ∈ lw_all := lw_g (lw_at lw_m5 11 rfl) rfl
theorem q1088 : (Jvm.Cond.code ({ cls := "java/util/ArrayList", name := "isEmpty", desc := "()Z" } : Jvm.MethodName) prog_45_method_9_code (1 : Nat) (Option.some Jvm.ClassFile.FieldType.boolean)) ∈ lw_all := lw_g (lw_at lw_m5 12 rfl) rfl
theorem q1117 : (Jvm.Cond.instanceMethod ({ cls := "java/util/ArrayList", name := "clear", desc := "()V" } : Jvm.MethodName)) ∈ lw_all := lw_g (lw_at lw_m5 41 rfl) rfl
theorem q1118 : (Jvm.Cond.selects "java/util/ArrayList" ({ cls := "java/util/ArrayList", name := "clear", desc := "()V" } : Jvm.MethodName) ({ cls := "java/util/ArrayList", name := "clear", desc := "()V" } : Jvm.MethodName)) ∈ lw_all := lw_g (lw_at lw_m5 42 rfl) rfl
theorem q1119 : (Jvm.Cond.code ({ cls := "java/util/ArrayList", name := "clear", desc := "()V" } : Jvm.MethodName) prog_45_method_40_code (4 : Nat) (Option.none : Option Jvm.ClassFile.FieldType)) ∈ lw_all := lw_g (lw_at lw_m5 43 rfl) rfl
theorem q1282 : (Jvm.Cond.instanceMethod ({ cls := "java/util/ArrayList", name := "<init>", desc := "(I)V" } : Jvm.MethodName)) ∈ lw_all := lw_g (lw_at lw_m5 206 rfl) rfl
theorem q1283 : (Jvm.Cond.code ({ cls := "java/util/ArrayList", name := "<init>", desc := "(I)V" } : Jvm.MethodName) prog_45_method_1_code (2 : Nat) (Option.none : Option Jvm.ClassFile.FieldType)) ∈ lw_all := lw_g (lw_at lw_m5 207 rfl) rfl
theorem q1284 : (Jvm.Cond.fieldLink "java/util/ArrayList" (15 : Nat) "java/util/ArrayList" "EMPTY_ELEMENTDATA" "[Ljava/lang/Object;") ∈ lw_all := lw_g (lw_at lw_m5 208 rfl) rfl
theorem q1285 : (Jvm.Cond.laysStatic "java/util/ArrayList" "EMPTY_ELEMENTDATA" "[Ljava/lang/Object;") ∈ lw_tbl := lw_at lw_m5 209 rfl
theorem q1290 : (Jvm.Cond.castable "java/util/ArrayList" "java/util/List") ∈ lw_tbl := lw_at lw_m5 214 rfl
theorem q1291 : (Jvm.Cond.selects "java/util/ArrayList" ({ cls := "java/util/List", name := "add", desc := "(Ljava/lang/Object;)Z" } : Jvm.MethodName) ({ cls := "java/util/ArrayList", name := "add", desc := "(Ljava/lang/Object;)Z" } : Jvm.MethodName)) ∈ lw_all := lw_g (lw_at lw_m5 215 rfl) rfl
theorem q1292 : (Jvm.Cond.unhidden "java/util/ArrayList" "add" "(Ljava/lang/Object;)Z") ∈ lw_tbl := lw_at lw_m5 216 rfl
theorem q1293 : (Jvm.Cond.publicMethod ({ cls := "java/util/ArrayList", name := "add", desc := "(Ljava/lang/Object;)Z" } : Jvm.MethodName)) ∈ lw_tbl := lw_at lw_m5 217 rfl
theorem q1651 : (Jvm.Cond.instanceMethod ({ cls := "java/util/ArrayList", name := "add", desc := "(ILjava/lang/Object;)V" } : Jvm.MethodName)) ∈ lw_all := lw_g (lw_at lw_m7 95 rfl) rfl
theorem q1652 : (Jvm.Cond.selects "java/util/ArrayList" ({ cls := "java/util/ArrayList", name := "add", desc := "(ILjava/lang/Object;)V" } : Jvm.MethodName) ({ cls := "java/util/ArrayList", name := "add", desc := "(ILjava/lang/Object;)V" } : Jvm.MethodName)) ∈ lw_all := lw_g (lw_at lw_m7 96 rfl) rfl
theorem q1653 : (Jvm.Cond.code ({ cls := "java/util/ArrayList", name := "add", desc := "(ILjava/lang/Object;)V" } : Jvm.MethodName) prog_45_method_26_code (5 : Nat) (Option.none : Option Jvm.ClassFile.FieldType)) ∈ lw_all := lw_g (lw_at lw_m7 97 rfl) rfl
theorem q1654 : (Jvm.Cond.methodLink "java/util/ArrayList" (135 : Nat) ({ cls := "java/util/ArrayList", name := "rangeCheckForAdd", desc := "(I)V" } : Jvm.MethodName)) ∈ lw_all := lw_g (lw_at lw_m7 98 rfl) rfl
theorem q1655 : (Jvm.Cond.privateMethod ({ cls := "java/util/ArrayList", name := "rangeCheckForAdd", desc := "(I)V" } : Jvm.MethodName)) ∈ lw_tbl := lw_at lw_m7 99 rfl
theorem q1656 : (Jvm.Cond.instanceMethod ({ cls := "java/util/ArrayList", name := "rangeCheckForAdd", desc := "(I)V" } : Jvm.MethodName)) ∈ lw_all := lw_g (lw_at lw_m7 100 rfl) rfl
theorem q1657 : (Jvm.Cond.code ({ cls := "java/util/ArrayList", name := "rangeCheckForAdd", desc := "(I)V" } : Jvm.MethodName) prog_45_method_45_code (2 : Nat) (Option.none : Option Jvm.ClassFile.FieldType)) ∈ lw_all := lw_g (lw_at lw_m7 101 rfl) rfl
theorem q1658 : (Jvm.Cond.classLink "java/util/ArrayList" (187 : Nat) "java/lang/IndexOutOfBoundsException") ∈ lw_all := lw_g (lw_at lw_m7 102 rfl) rfl
theorem q1667 : (Jvm.Cond.methodLink "java/util/ArrayList" (198 : Nat) ({ cls := "java/util/ArrayList", name := "outOfBoundsMsg", desc := "(I)Ljava/lang/String;" } : Jvm.MethodName)) ∈ lw_all := lw_g (lw_at lw_m7 111 rfl) rfl
theorem q1668 : (Jvm.Cond.privateMethod ({ cls := "java/util/ArrayList", name := "outOfBoundsMsg", desc := "(I)Ljava/lang/String;" } : Jvm.MethodName)) ∈ lw_tbl := lw_at lw_m7 112 rfl
theorem q1669 : (Jvm.Cond.instanceMethod ({ cls := "java/util/ArrayList", name := "outOfBoundsMsg", desc := "(I)Ljava/lang/String;" } : Jvm.MethodName)) ∈ lw_all := lw_g (lw_at lw_m7 113 rfl) rfl
theorem q1670 : (Jvm.Cond.code ({ cls := "java/util/ArrayList", name := "outOfBoundsMsg", desc := "(I)Ljava/lang/String;" } : Jvm.MethodName) prog_45_method_46_code (2 : Nat) (Option.some (Jvm.ClassFile.FieldType.object "java/lang/String"))) ∈ lw_all := lw_g (lw_at lw_m7 114 rfl) rfl
theorem q1671 : (Jvm.Cond.classLink "java/util/ArrayList" (20 : Nat) "java/lang/StringBuilder") ∈ lw_all := lw_g (lw_at lw_m7 115 rfl) rfl
theorem q1672 : (Jvm.Cond.methodLink "java/util/ArrayList" (22 : Nat) ({ cls := "java/lang/StringBuilder", name := "<init>", desc := "()V" } : Jvm.MethodName)) ∈ lw_all := lw_g (lw_at lw_m7 116 rfl) rfl
theorem q1673 : (Jvm.Cond.stringRef "java/util/ArrayList" (201 : Nat) "Index: ") ∈ lw_tbl := lw_at lw_m7 117 rfl
theorem q1674 : (Jvm.Cond.methodLink "java/util/ArrayList" (25 : Nat) ({ cls := "java/lang/StringBuilder", name := "append", desc := "(Ljava/lang/String;)Ljava/lang/StringBuilder;" } : Jvm.MethodName)) ∈ lw_all := lw_g (lw_at lw_m7 118 rfl) rfl
theorem q1713 : (Jvm.Cond.methodLink "java/util/ArrayList" (29 : Nat) ({ cls := "java/lang/StringBuilder", name := "append", desc := "(I)Ljava/lang/StringBuilder;" } : Jvm.MethodName)) ∈ lw_all := lw_g (lw_at lw_m7 157 rfl) rfl
theorem q1738 : (Jvm.Cond.stringRef "java/util/ArrayList" (203 : Nat) ", Size: ") ∈ lw_tbl := lw_at lw_m7 182 rfl
theorem q1739 : (Jvm.Cond.methodLink "java/util/ArrayList" (32 : Nat) ({ cls := "java/lang/StringBuilder", name := "toString", desc := "()Ljava/lang/String;" } : Jvm.MethodName)) ∈ lw_all := lw_g (lw_at lw_m7 183 rfl) rfl
theorem q1740 : (Jvm.Cond.methodLink "java/util/ArrayList" (193 : Nat) ({ cls := "java/lang/IndexOutOfBoundsException", name := "<init>", desc := "(Ljava/lang/String;)V" } : Jvm.MethodName)) ∈ lw_all := lw_g (lw_at lw_m7 184 rfl) rfl
theorem q1743 : (Jvm.Cond.methodLink "java/util/ArrayList" (112 : Nat) ({ cls := "java/lang/System", name := "arraycopy", desc := "(Ljava/lang/Object;ILjava/lang/Object;II)V" } : Jvm.MethodName)) ∈ lw_all := lw_g (lw_at lw_m7 187 rfl) rfl
theorem q1873 : (Jvm.Cond.instanceMethod ({ cls := "java/util/ArrayList", name := "<init>", desc := "(Ljava/util/Collection;)V" } : Jvm.MethodName)) ∈ lw_all := lw_g (lw_at lw_m8 77 rfl) rfl
theorem q1874 : (Jvm.Cond.code ({ cls := "java/util/ArrayList", name := "<init>", desc := "(Ljava/util/Collection;)V" } : Jvm.MethodName) prog_45_method_3_code (3 : Nat) (Option.none : Option Jvm.ClassFile.FieldType)) ∈ lw_all := lw_g (lw_at lw_m8 78 rfl) rfl
theorem q1875 : (Jvm.Cond.interfaceEntry "java/util/ArrayList" (42 : Nat)) ∈ lw_tbl := lw_at lw_m8 79 rfl
theorem q1876 : (Jvm.Cond.methodLink "java/util/ArrayList" (42 : Nat) ({ cls := "java/util/Collection", name := "toArray", desc := "()[Ljava/lang/Object;" } : Jvm.MethodName)) ∈ lw_all := lw_g (lw_at lw_m8 80 rfl) rfl
theorem q1893 : (Jvm.Cond.castable "java/util/ArrayList" "java/util/Collection") ∈ lw_tbl := lw_at lw_m8 97 rfl
theorem q1894 : (Jvm.Cond.selects "java/util/ArrayList" ({ cls := "java/util/Collection", name := "toArray", desc := "()[Ljava/lang/Object;" } : Jvm.MethodName) ({ cls := "java/util/ArrayList", name := "toArray", desc := "()[Ljava/lang/Object;" } : Jvm.MethodName)) ∈ lw_all := lw_g (lw_at lw_m8 98 rfl) rfl
theorem q1895 : (Jvm.Cond.unhidden "java/util/ArrayList" "toArray" "()[Ljava/lang/Object;") ∈ lw_tbl := lw_at lw_m8 99 rfl
theorem q1896 : (Jvm.Cond.instanceMethod ({ cls := "java/util/ArrayList", name := "toArray", desc := "()[Ljava/lang/Object;" } : Jvm.MethodName)) ∈ lw_all := lw_g (lw_at lw_m8 100 rfl) rfl
theorem q1897 : (Jvm.Cond.publicMethod ({ cls := "java/util/ArrayList", name := "toArray", desc := "()[Ljava/lang/Object;" } : Jvm.MethodName)) ∈ lw_tbl := lw_at lw_m8 101 rfl
theorem q1898 : (Jvm.Cond.code ({ cls := "java/util/ArrayList", name := "toArray", desc := "()[Ljava/lang/Object;" } : Jvm.MethodName) prog_45_method_16_code (1 : Nat) (Option.some (Jvm.ClassFile.FieldType.array (Jvm.ClassFile.FieldType.object "java/lang/Object")))) ∈ lw_all := lw_g (lw_at lw_m8 102 rfl) rfl
theorem q1899 : (Jvm.Cond.interfaceEntry "java/util/ArrayList" (52 : Nat)) ∈ lw_tbl := lw_at lw_m8 103 rfl
theorem q1900 : (Jvm.Cond.methodLink "java/util/ArrayList" (52 : Nat) ({ cls := "java/util/Collection", name := "getClass", desc := "()Ljava/lang/Class;" } : Jvm.MethodName)) ∈ lw_all := lw_g (lw_at lw_m8 104 rfl) rfl
theorem q1905 : (Jvm.Cond.unhidden "java/util/ArrayList" "getClass" "()Ljava/lang/Class;") ∈ lw_tbl := lw_at lw_m8 109 rfl
theorem q1906 : (Jvm.Cond.classLink "java/util/ArrayList" (10 : Nat) "java/util/ArrayList") ∈ lw_all := lw_g (lw_at lw_m8 110 rfl) rfl
theorem q1907 : (Jvm.Cond.classLink "java/util/ArrayList" (56 : Nat) "[Ljava/lang/Object;") ∈ lw_all := lw_g (lw_at lw_m8 111 rfl) rfl
theorem q1908 : (Jvm.Cond.methodLink "java/util/ArrayList" (57 : Nat) ({ cls := "java/util/Arrays", name := "copyOf", desc := "([Ljava/lang/Object;ILjava/lang/Class;)[Ljava/lang/Object;" } : Jvm.MethodName)) ∈ lw_all := lw_g (lw_at lw_m8 112 rfl) rfl
theorem q1918 : (Jvm.Cond.instanceMethod ({ cls := "java/util/ArrayList", name := "remove", desc := "(I)Ljava/lang/Object;" } : Jvm.MethodName)) ∈ lw_all := lw_g (lw_at lw_m8 122 rfl) rfl
theorem q1919 : (Jvm.Cond.selects "java/util/ArrayList" ({ cls := "java/util/ArrayList", name := "remove", desc := "(I)Ljava/lang/Object;" } : Jvm.MethodName) ({ cls := "java/util/ArrayList", name := "remove", desc := "(I)Ljava/lang/Object;" } : Jvm.MethodName)) ∈ lw_all := lw_g (lw_at lw_m8 123 rfl) rfl
theorem q1920 : (Jvm.Cond.code ({ cls := "java/util/ArrayList", name := "remove", desc := "(I)Ljava/lang/Object;" } : Jvm.MethodName) prog_45_method_29_code (4 : Nat) (Option.some (Jvm.ClassFile.FieldType.object "java/lang/Object"))) ∈ lw_all := lw_g (lw_at lw_m8 124 rfl) rfl
theorem q1921 : (Jvm.Cond.methodLink "java/util/ArrayList" (144 : Nat) ({ cls := "java/util/ArrayList", name := "fastRemove", desc := "([Ljava/lang/Object;I)V" } : Jvm.MethodName)) ∈ lw_all := lw_g (lw_at lw_m8 125 rfl) rfl
theorem q1922 : (Jvm.Cond.privateMethod ({ cls := "java/util/ArrayList", name := "fastRemove", desc := "([Ljava/lang/Object;I)V" } : Jvm.MethodName)) ∈ lw_tbl := lw_at lw_m8 126 rfl
theorem q1923 : (Jvm.Cond.instanceMethod ({ cls := "java/util/ArrayList", name := "fastRemove", desc := "([Ljava/lang/Object;I)V" } : Jvm.MethodName)) ∈ lw_all := lw_g (lw_at lw_m8 127 rfl) rfl
theorem q1924 : (Jvm.Cond.code ({ cls := "java/util/ArrayList", name := "fastRemove", desc := "([Ljava/lang/Object;I)V" } : Jvm.MethodName) prog_45_method_39_code (4 : Nat) (Option.none : Option Jvm.ClassFile.FieldType)) ∈ lw_all := lw_g (lw_at lw_m8 128 rfl) rfl
theorem q2732 : (Jvm.Cond.castable "java/util/ArrayList" "java/lang/Object") ∈ lw_tbl := lw_at lw_m11 216 rfl
theorem in_J2 : ∀ w ∈ wsJ20, w ∈ lw_all := lw_in wsJ20 [203, 199, 201] (by decide +kernel) (by decide +kernel)

/-! ClockZones$Table -/
def RX3 : String := "ClockZones$Table"
def TX3 : u_T := fun k => match k with
  | 0 => ("ClockZones$Table", "size", "I", true)
  | 1 => ("ClockZones$Table", "row", "[I", true)
  | _ => ("ClockZones$Table", "isEmpty", "Z", false)
def tyX3 : Nat → FieldType := fun k => match k with
  | 0 => .int
  | 1 => .array .int
  | _ => .boolean
abbrev wsX30 : List Cond := u_ws RX3 TX3 3
theorem nmX3 : ∀ a, a < 3 → ∀ b, b < 3 → a ≠ b → (TX3 a).2.1 ≠ (TX3 b).2.1 := by decide +kernel
theorem tyX3_ok : ∀ k, k < 3 → parseFieldDescriptor (TX3 k).2.2.1 = some (tyX3 k) := by decide +kernel
abbrev cX3_init : ByteArray := prog_9_method_1_code
def yX3_init : MethodName := ⟨RX3, "<init>", "(I)V"⟩
abbrev cX3_says : ByteArray := prog_9_method_10_code
def yX3_says : MethodName := ⟨RX3, "says", "(IIII)V"⟩
abbrev cX3_least : ByteArray := prog_9_method_9_code
def yX3_least : MethodName := ⟨RX3, "least", "(III)V"⟩
abbrev cX3_of : ByteArray := prog_9_method_4_code
def yX3_of : MethodName := ⟨RX3, "of", "(II)I"⟩
abbrev cX3_lays : ByteArray := prog_9_method_5_code
def yX3_lays : MethodName := ⟨RX3, "lays", "(III)V"⟩
abbrev cX3_closes : ByteArray := prog_9_method_8_code
def yX3_closes : MethodName := ⟨RX3, "closes", "()V"⟩
abbrev cX3_up : ByteArray := prog_9_method_11_code
def yX3_up : MethodName := ⟨RX3, "up", "()V"⟩
abbrev cX3_roughens : ByteArray := prog_9_method_20_code
def yX3_roughens : MethodName := ⟨RX3, "roughens", "([I)V"⟩
abbrev cX3_init_2 : ByteArray := prog_9_method_2_code
def yX3_init_2 : MethodName := ⟨RX3, "<init>", "(LClockZones$Table;)V"⟩
abbrev cX3_likens : ByteArray := prog_9_method_3_code
def yX3_likens : MethodName := ⟨RX3, "likens", "(LClockZones$Table;)V"⟩
abbrev cX3_sets : ByteArray := prog_9_method_13_code
def yX3_sets : MethodName := ⟨RX3, "sets", "(II)V"⟩
abbrev cX3_holds : ByteArray := prog_9_method_18_code
def yX3_holds : MethodName := ⟨RX3, "holds", "(LClockZones$Table;)Z"⟩
abbrev cX3_nulls : ByteArray := prog_9_method_7_code
def yX3_nulls : MethodName := ⟨RX3, "nulls", "()V"⟩
abbrev cX3_opens : ByteArray := prog_9_method_6_code
def yX3_opens : MethodName := ⟨RX3, "opens", "()LClockZones$Table;"⟩
abbrev cX3_isTooWide : ByteArray := prog_9_method_17_code
def yX3_isTooWide : MethodName := ⟨RX3, "isTooWide", "()Z"⟩
abbrev cX3_down : ByteArray := prog_9_method_12_code
def yX3_down : MethodName := ⟨RX3, "down", "()V"⟩
abbrev cX3_frees : ByteArray := prog_9_method_14_code
def yX3_frees : MethodName := ⟨RX3, "frees", "(I)V"⟩
abbrev cX3_joins : ByteArray := prog_9_method_15_code
def yX3_joins : MethodName := ⟨RX3, "joins", "(LClockZones$Table;)V"⟩
abbrev cX3_meets : ByteArray := prog_9_method_16_code
def yX3_meets : MethodName := ⟨RX3, "meets", "(LClockZones$Table;)V"⟩
abbrev cX3_hasAll : ByteArray := prog_9_method_19_code
def yX3_hasAll : MethodName := ⟨RX3, "hasAll", "(I[I)Z"⟩
abbrev cX3_told : ByteArray := prog_9_method_23_code
def yX3_told : MethodName := ⟨RX3, "told", "(IIII)I"⟩
abbrev cX3_wholes : ByteArray := prog_9_method_21_code
def yX3_wholes : MethodName := ⟨RX3, "wholes", "()V"⟩
abbrev cX3_leastOf : ByteArray := prog_9_method_22_code
def yX3_leastOf : MethodName := ⟨RX3, "leastOf", "(I)I"⟩
theorem q122 : (Jvm.Cond.initialized "ClockZones$Table") ∈ lw_all := lw_g (lw_at lw_m1 6 rfl) rfl
theorem q247 : (Jvm.Cond.instantiable "ClockZones$Table" (3 : Nat)) ∈ lw_all := lw_g (lw_at lw_m1 131 rfl) rfl
theorem q257 : (Jvm.Cond.instanceMethod ({ cls := "ClockZones$Table", name := "<init>", desc := "(I)V" } : Jvm.MethodName)) ∈ lw_all := lw_g (lw_at lw_m1 141 rfl) rfl
theorem q258 : (Jvm.Cond.code ({ cls := "ClockZones$Table", name := "<init>", desc := "(I)V" } : Jvm.MethodName) prog_9_method_1_code (2 : Nat) (Option.none : Option Jvm.ClassFile.FieldType)) ∈ lw_all := lw_g (lw_at lw_m1 142 rfl) rfl
theorem q259 : (Jvm.Cond.methodLink "ClockZones$Table" (3 : Nat) ({ cls := "java/lang/Object", name := "<init>", desc := "()V" } : Jvm.MethodName)) ∈ lw_all := lw_g (lw_at lw_m1 143 rfl) rfl
theorem q260 : (Jvm.Cond.fieldLinkNest "ClockZones$Table" (19 : Nat) "ClockZones" "NULL" "I" "ClockZones") ∈ lw_tbl := lw_at lw_m1 144 rfl
theorem q262 : (Jvm.Cond.methodLink "ClockZones$Table" (22 : Nat) ({ cls := "java/util/Arrays", name := "fill", desc := "([II)V" } : Jvm.MethodName)) ∈ lw_all := lw_g (lw_at lw_m1 146 rfl) rfl
theorem q265 : (Jvm.Cond.fieldLink "ClockZones$Table" (9 : Nat) "ClockZones$Table" "size" "I") ∈ lw_all := lw_g (lw_at lw_m1 149 rfl) rfl
theorem q267 : (Jvm.Cond.fieldLink "ClockZones$Table" (15 : Nat) "ClockZones$Table" "row" "[I") ∈ lw_all := lw_g (lw_at lw_m1 151 rfl) rfl
theorem q268 : (Jvm.Cond.fieldLink "ClockZones$Table" (41 : Nat) "ClockZones$Table" "isEmpty" "Z") ∈ lw_all := lw_g (lw_at lw_m1 152 rfl) rfl
theorem q273 : (Jvm.Cond.laysFinal "ClockZones$Table" "ClockZones$Table" "size" "I") ∈ lw_all := lw_g (lw_at lw_m1 157 rfl) rfl
theorem q274 : (Jvm.Cond.soleField "ClockZones$Table" "size") ∈ lw_all := lw_g (lw_at lw_m1 158 rfl) rfl
theorem q275 : (Jvm.Cond.laysFinal "ClockZones$Table" "ClockZones$Table" "row" "[I") ∈ lw_all := lw_g (lw_at lw_m1 159 rfl) rfl
theorem q276 : (Jvm.Cond.soleField "ClockZones$Table" "row") ∈ lw_all := lw_g (lw_at lw_m1 160 rfl) rfl
theorem q277 : (Jvm.Cond.lays "ClockZones$Table" "ClockZones$Table" "isEmpty" "Z") ∈ lw_all := lw_g (lw_at lw_m1 161 rfl) rfl
theorem q278 : (Jvm.Cond.soleField "ClockZones$Table" "isEmpty") ∈ lw_all := lw_g (lw_at lw_m1 162 rfl) rfl
theorem q279 : (Jvm.Cond.superclass "ClockZones$Table" "java/lang/Object") ∈ lw_all := lw_g (lw_at lw_m1 163 rfl) rfl
theorem q850 : (Jvm.Cond.selects "ClockZones$Table" ({ cls := "java/lang/Object", name := "equals", desc := "(Ljava/lang/Object;)Z" } : Jvm.MethodName) ({ cls := "java/lang/Object", name := "equals", desc := "(Ljava/lang/Object;)Z" } : Jvm.MethodName)) ∈ lw_all := lw_g (lw_at lw_m4 14 rfl) rfl
theorem q902 : (Jvm.Cond.selects "ClockZones$Table" ({ cls := "java/lang/Object", name := "getClass", desc := "()Ljava/lang/Class;" } : Jvm.MethodName) ({ cls := "java/lang/Object", name := "getClass", desc := "()Ljava/lang/Class;" } : Jvm.MethodName)) ∈ lw_all := lw_g (lw_at lw_m4 66 rfl) rfl
theorem q1135 : (Jvm.Cond.instanceMethod ({ cls := "ClockZones$Table", name := "says", desc := "(IIII)V" } : Jvm.MethodName)) ∈ lw_all := lw_g (lw_at lw_m5 59 rfl) rfl
theorem q1136 : (Jvm.Cond.selects "ClockZones$Table" ({ cls := "ClockZones$Table", name := "says", desc := "(IIII)V" } : Jvm.MethodName) ({ cls := "ClockZones$Table", name := "says", desc := "(IIII)V" } : Jvm.MethodName)) ∈ lw_all := lw_g (lw_at lw_m5 60 rfl) rfl
theorem q1137 : (Jvm.Cond.sameMethod "ClockZones$Table" "ClockZones$Table" "says" "(IIII)V") ∈ lw_all := lw_g (lw_at lw_m5 61 rfl) rfl
theorem q1139 : (Jvm.Cond.code ({ cls := "ClockZones$Table", name := "says", desc := "(IIII)V" } : Jvm.MethodName) prog_9_method_10_code (5 : Nat) (Option.none : Option Jvm.ClassFile.FieldType)) ∈ lw_all := lw_g (lw_at lw_m5 63 rfl) rfl
theorem q1140 : (Jvm.Cond.methodLinkNest "ClockZones$Table" (64 : Nat) ({ cls := "ClockZones", name := "below", desc := "(I)I" } : Jvm.MethodName) "ClockZones") ∈ lw_tbl := lw_at lw_m5 64 rfl
theorem q1143 : (Jvm.Cond.methodLink "ClockZones$Table" (68 : Nat) ({ cls := "ClockZones$Table", name := "least", desc := "(III)V" } : Jvm.MethodName)) ∈ lw_all := lw_g (lw_at lw_m5 67 rfl) rfl
theorem q1144 : (Jvm.Cond.instanceMethod ({ cls := "ClockZones$Table", name := "least", desc := "(III)V" } : Jvm.MethodName)) ∈ lw_all := lw_g (lw_at lw_m5 68 rfl) rfl
theorem q1145 : (Jvm.Cond.selects "ClockZones$Table" ({ cls := "ClockZones$Table", name := "least", desc := "(III)V" } : Jvm.MethodName) ({ cls := "ClockZones$Table", name := "least", desc := "(III)V" } : Jvm.MethodName)) ∈ lw_all := lw_g (lw_at lw_m5 69 rfl) rfl
theorem q1146 : (Jvm.Cond.sameMethod "ClockZones$Table" "ClockZones$Table" "least" "(III)V") ∈ lw_all := lw_g (lw_at lw_m5 70 rfl) rfl
theorem q1148 : (Jvm.Cond.code ({ cls := "ClockZones$Table", name := "least", desc := "(III)V" } : Jvm.MethodName) prog_9_method_9_code (4 : Nat) (Option.none : Option Jvm.ClassFile.FieldType)) ∈ lw_all := lw_g (lw_at lw_m5 72 rfl) rfl
theorem q1149 : (Jvm.Cond.methodLink "ClockZones$Table" (52 : Nat) ({ cls := "ClockZones$Table", name := "of", desc := "(II)I" } : Jvm.MethodName)) ∈ lw_all := lw_g (lw_at lw_m5 73 rfl) rfl
theorem q1150 : (Jvm.Cond.instanceMethod ({ cls := "ClockZones$Table", name := "of", desc := "(II)I" } : Jvm.MethodName)) ∈ lw_all := lw_g (lw_at lw_m5 74 rfl) rfl
theorem q1151 : (Jvm.Cond.selects "ClockZones$Table" ({ cls := "ClockZones$Table", name := "of", desc := "(II)I" } : Jvm.MethodName) ({ cls := "ClockZones$Table", name := "of", desc := "(II)I" } : Jvm.MethodName)) ∈ lw_all := lw_g (lw_at lw_m5 75 rfl) rfl
theorem q1152 : (Jvm.Cond.sameMethod "ClockZones$Table" "ClockZones$Table" "of" "(II)I") ∈ lw_all := lw_g (lw_at lw_m5 76 rfl) rfl
theorem q1154 : (Jvm.Cond.code ({ cls := "ClockZones$Table", name := "of", desc := "(II)I" } : Jvm.MethodName) prog_9_method_4_code (3 : Nat) (Option.some Jvm.ClassFile.FieldType.int)) ∈ lw_all := lw_g (lw_at lw_m5 78 rfl) rfl
theorem q1155 : (Jvm.Cond.methodLink "ClockZones$Table" (59 : Nat) ({ cls := "java/lang/Math", name := "min", desc := "(II)I" } : Jvm.MethodName)) ∈ lw_all := lw_g (lw_at lw_m5 79 rfl) rfl
theorem q1156 : (Jvm.Cond.methodLink "ClockZones$Table" (48 : Nat) ({ cls := "ClockZones$Table", name := "lays", desc := "(III)V" } : Jvm.MethodName)) ∈ lw_all := lw_g (lw_at lw_m5 80 rfl) rfl
theorem q1157 : (Jvm.Cond.instanceMethod ({ cls := "ClockZones$Table", name := "lays", desc := "(III)V" } : Jvm.MethodName)) ∈ lw_all := lw_g (lw_at lw_m5 81 rfl) rfl
theorem q1158 : (Jvm.Cond.selects "ClockZones$Table" ({ cls := "ClockZones$Table", name := "lays", desc := "(III)V" } : Jvm.MethodName) ({ cls := "ClockZones$Table", name := "lays", desc := "(III)V" } : Jvm.MethodName)) ∈ lw_all := lw_g (lw_at lw_m5 82 rfl) rfl
theorem q1159 : (Jvm.Cond.sameMethod "ClockZones$Table" "ClockZones$Table" "lays" "(III)V") ∈ lw_all := lw_g (lw_at lw_m5 83 rfl) rfl
theorem q1161 : (Jvm.Cond.code ({ cls := "ClockZones$Table", name := "lays", desc := "(III)V" } : Jvm.MethodName) prog_9_method_5_code (4 : Nat) (Option.none : Option Jvm.ClassFile.FieldType)) ∈ lw_all := lw_g (lw_at lw_m5 85 rfl) rfl
theorem q1162 : (Jvm.Cond.methodLinkNest "ClockZones$Table" (71 : Nat) ({ cls := "ClockZones", name := "reached", desc := "(I)I" } : Jvm.MethodName) "ClockZones") ∈ lw_tbl := lw_at lw_m5 86 rfl
theorem q1166 : (Jvm.Cond.instanceMethod ({ cls := "ClockZones$Table", name := "closes", desc := "()V" } : Jvm.MethodName)) ∈ lw_all := lw_g (lw_at lw_m5 90 rfl) rfl
theorem q1167 : (Jvm.Cond.selects "ClockZones$Table" ({ cls := "ClockZones$Table", name := "closes", desc := "()V" } : Jvm.MethodName) ({ cls := "ClockZones$Table", name := "closes", desc := "()V" } : Jvm.MethodName)) ∈ lw_all := lw_g (lw_at lw_m5 91 rfl) rfl
theorem q1168 : (Jvm.Cond.sameMethod "ClockZones$Table" "ClockZones$Table" "closes" "()V") ∈ lw_all := lw_g (lw_at lw_m5 92 rfl) rfl
theorem q1170 : (Jvm.Cond.code ({ cls := "ClockZones$Table", name := "closes", desc := "()V" } : Jvm.MethodName) prog_9_method_8_code (4 : Nat) (Option.none : Option Jvm.ClassFile.FieldType)) ∈ lw_all := lw_g (lw_at lw_m5 94 rfl) rfl
theorem q1171 : (Jvm.Cond.fieldLinkNest "ClockZones$Table" (45 : Nat) "ClockZones" "INF" "I" "ClockZones") ∈ lw_tbl := lw_at lw_m5 95 rfl
theorem q1173 : (Jvm.Cond.methodLinkNest "ClockZones$Table" (56 : Nat) ({ cls := "ClockZones", name := "sum", desc := "(II)I" } : Jvm.MethodName) "ClockZones") ∈ lw_tbl := lw_at lw_m5 97 rfl
theorem q1178 : (Jvm.Cond.instanceMethod ({ cls := "ClockZones$Table", name := "up", desc := "()V" } : Jvm.MethodName)) ∈ lw_all := lw_g (lw_at lw_m5 102 rfl) rfl
theorem q1179 : (Jvm.Cond.selects "ClockZones$Table" ({ cls := "ClockZones$Table", name := "up", desc := "()V" } : Jvm.MethodName) ({ cls := "ClockZones$Table", name := "up", desc := "()V" } : Jvm.MethodName)) ∈ lw_all := lw_g (lw_at lw_m5 103 rfl) rfl
theorem q1180 : (Jvm.Cond.sameMethod "ClockZones$Table" "ClockZones$Table" "up" "()V") ∈ lw_all := lw_g (lw_at lw_m5 104 rfl) rfl
theorem q1182 : (Jvm.Cond.code ({ cls := "ClockZones$Table", name := "up", desc := "()V" } : Jvm.MethodName) prog_9_method_11_code (2 : Nat) (Option.none : Option Jvm.ClassFile.FieldType)) ∈ lw_all := lw_g (lw_at lw_m5 106 rfl) rfl
theorem q1184 : (Jvm.Cond.instanceMethod ({ cls := "ClockZones$Table", name := "roughens", desc := "([I)V" } : Jvm.MethodName)) ∈ lw_all := lw_g (lw_at lw_m5 108 rfl) rfl
theorem q1185 : (Jvm.Cond.selects "ClockZones$Table" ({ cls := "ClockZones$Table", name := "roughens", desc := "([I)V" } : Jvm.MethodName) ({ cls := "ClockZones$Table", name := "roughens", desc := "([I)V" } : Jvm.MethodName)) ∈ lw_all := lw_g (lw_at lw_m5 109 rfl) rfl
theorem q1186 : (Jvm.Cond.sameMethod "ClockZones$Table" "ClockZones$Table" "roughens" "([I)V") ∈ lw_all := lw_g (lw_at lw_m5 110 rfl) rfl
theorem q1188 : (Jvm.Cond.code ({ cls := "ClockZones$Table", name := "roughens", desc := "([I)V" } : Jvm.MethodName) prog_9_method_20_code (4 : Nat) (Option.none : Option Jvm.ClassFile.FieldType)) ∈ lw_all := lw_g (lw_at lw_m5 112 rfl) rfl
theorem q1189 : (Jvm.Cond.methodLink "ClockZones$Table" (74 : Nat) ({ cls := "ClockZones$Table", name := "closes", desc := "()V" } : Jvm.MethodName)) ∈ lw_all := lw_g (lw_at lw_m5 113 rfl) rfl
theorem q1228 : (Jvm.Cond.instanceMethod ({ cls := "ClockZones$Table", name := "<init>", desc := "(LClockZones$Table;)V" } : Jvm.MethodName)) ∈ lw_all := lw_g (lw_at lw_m5 152 rfl) rfl
theorem q1229 : (Jvm.Cond.code ({ cls := "ClockZones$Table", name := "<init>", desc := "(LClockZones$Table;)V" } : Jvm.MethodName) prog_9_method_2_code (2 : Nat) (Option.none : Option Jvm.ClassFile.FieldType)) ∈ lw_all := lw_g (lw_at lw_m5 153 rfl) rfl
theorem q1230 : (Jvm.Cond.methodLink "ClockZones$Table" (28 : Nat) ({ cls := "ClockZones$Table", name := "<init>", desc := "(I)V" } : Jvm.MethodName)) ∈ lw_all := lw_g (lw_at lw_m5 154 rfl) rfl
theorem q1231 : (Jvm.Cond.methodLink "ClockZones$Table" (31 : Nat) ({ cls := "ClockZones$Table", name := "likens", desc := "(LClockZones$Table;)V" } : Jvm.MethodName)) ∈ lw_all := lw_g (lw_at lw_m5 155 rfl) rfl
theorem q1232 : (Jvm.Cond.instanceMethod ({ cls := "ClockZones$Table", name := "likens", desc := "(LClockZones$Table;)V" } : Jvm.MethodName)) ∈ lw_all := lw_g (lw_at lw_m5 156 rfl) rfl
theorem q1233 : (Jvm.Cond.selects "ClockZones$Table" ({ cls := "ClockZones$Table", name := "likens", desc := "(LClockZones$Table;)V" } : Jvm.MethodName) ({ cls := "ClockZones$Table", name := "likens", desc := "(LClockZones$Table;)V" } : Jvm.MethodName)) ∈ lw_all := lw_g (lw_at lw_m5 157 rfl) rfl
theorem q1234 : (Jvm.Cond.sameMethod "ClockZones$Table" "ClockZones$Table" "likens" "(LClockZones$Table;)V") ∈ lw_all := lw_g (lw_at lw_m5 158 rfl) rfl
theorem q1236 : (Jvm.Cond.code ({ cls := "ClockZones$Table", name := "likens", desc := "(LClockZones$Table;)V" } : Jvm.MethodName) prog_9_method_3_code (2 : Nat) (Option.none : Option Jvm.ClassFile.FieldType)) ∈ lw_all := lw_g (lw_at lw_m5 160 rfl) rfl
theorem q1237 : (Jvm.Cond.methodLink "ClockZones$Table" (35 : Nat) ({ cls := "java/lang/System", name := "arraycopy", desc := "(Ljava/lang/Object;ILjava/lang/Object;II)V" } : Jvm.MethodName)) ∈ lw_all := lw_g (lw_at lw_m5 161 rfl) rfl
theorem q1243 : (Jvm.Cond.instanceMethod ({ cls := "ClockZones$Table", name := "sets", desc := "(II)V" } : Jvm.MethodName)) ∈ lw_all := lw_g (lw_at lw_m5 167 rfl) rfl
theorem q1244 : (Jvm.Cond.selects "ClockZones$Table" ({ cls := "ClockZones$Table", name := "sets", desc := "(II)V" } : Jvm.MethodName) ({ cls := "ClockZones$Table", name := "sets", desc := "(II)V" } : Jvm.MethodName)) ∈ lw_all := lw_g (lw_at lw_m5 168 rfl) rfl
theorem q1245 : (Jvm.Cond.sameMethod "ClockZones$Table" "ClockZones$Table" "sets" "(II)V") ∈ lw_all := lw_g (lw_at lw_m5 169 rfl) rfl
theorem q1247 : (Jvm.Cond.code ({ cls := "ClockZones$Table", name := "sets", desc := "(II)V" } : Jvm.MethodName) prog_9_method_13_code (4 : Nat) (Option.none : Option Jvm.ClassFile.FieldType)) ∈ lw_all := lw_g (lw_at lw_m5 171 rfl) rfl
theorem q1253 : (Jvm.Cond.instanceMethod ({ cls := "ClockZones$Table", name := "holds", desc := "(LClockZones$Table;)Z" } : Jvm.MethodName)) ∈ lw_all := lw_g (lw_at lw_m5 177 rfl) rfl
theorem q1254 : (Jvm.Cond.selects "ClockZones$Table" ({ cls := "ClockZones$Table", name := "holds", desc := "(LClockZones$Table;)Z" } : Jvm.MethodName) ({ cls := "ClockZones$Table", name := "holds", desc := "(LClockZones$Table;)Z" } : Jvm.MethodName)) ∈ lw_all := lw_g (lw_at lw_m5 178 rfl) rfl
theorem q1255 : (Jvm.Cond.sameMethod "ClockZones$Table" "ClockZones$Table" "holds" "(LClockZones$Table;)Z") ∈ lw_all := lw_g (lw_at lw_m5 179 rfl) rfl
theorem q1257 : (Jvm.Cond.code ({ cls := "ClockZones$Table", name := "holds", desc := "(LClockZones$Table;)Z" } : Jvm.MethodName) prog_9_method_18_code (3 : Nat) (Option.some Jvm.ClassFile.FieldType.boolean)) ∈ lw_all := lw_g (lw_at lw_m5 181 rfl) rfl
theorem q1362 : (Jvm.Cond.instanceMethod ({ cls := "ClockZones$Table", name := "nulls", desc := "()V" } : Jvm.MethodName)) ∈ lw_all := lw_g (lw_at lw_m6 46 rfl) rfl
theorem q1363 : (Jvm.Cond.selects "ClockZones$Table" ({ cls := "ClockZones$Table", name := "nulls", desc := "()V" } : Jvm.MethodName) ({ cls := "ClockZones$Table", name := "nulls", desc := "()V" } : Jvm.MethodName)) ∈ lw_all := lw_g (lw_at lw_m6 47 rfl) rfl
theorem q1364 : (Jvm.Cond.sameMethod "ClockZones$Table" "ClockZones$Table" "nulls" "()V") ∈ lw_all := lw_g (lw_at lw_m6 48 rfl) rfl
theorem q1366 : (Jvm.Cond.code ({ cls := "ClockZones$Table", name := "nulls", desc := "()V" } : Jvm.MethodName) prog_9_method_7_code (1 : Nat) (Option.none : Option Jvm.ClassFile.FieldType)) ∈ lw_all := lw_g (lw_at lw_m6 50 rfl) rfl
theorem q1368 : (Jvm.Cond.instanceMethod ({ cls := "ClockZones$Table", name := "opens", desc := "()LClockZones$Table;" } : Jvm.MethodName)) ∈ lw_all := lw_g (lw_at lw_m6 52 rfl) rfl
theorem q1369 : (Jvm.Cond.selects "ClockZones$Table" ({ cls := "ClockZones$Table", name := "opens", desc := "()LClockZones$Table;" } : Jvm.MethodName) ({ cls := "ClockZones$Table", name := "opens", desc := "()LClockZones$Table;" } : Jvm.MethodName)) ∈ lw_all := lw_g (lw_at lw_m6 53 rfl) rfl
theorem q1370 : (Jvm.Cond.sameMethod "ClockZones$Table" "ClockZones$Table" "opens" "()LClockZones$Table;") ∈ lw_all := lw_g (lw_at lw_m6 54 rfl) rfl
theorem q1372 : (Jvm.Cond.code ({ cls := "ClockZones$Table", name := "opens", desc := "()LClockZones$Table;" } : Jvm.MethodName) prog_9_method_6_code (3 : Nat) (Option.some (Jvm.ClassFile.FieldType.object "ClockZones$Table"))) ∈ lw_all := lw_g (lw_at lw_m6 56 rfl) rfl
theorem q1378 : (Jvm.Cond.instanceMethod ({ cls := "ClockZones$Table", name := "isTooWide", desc := "()Z" } : Jvm.MethodName)) ∈ lw_all := lw_g (lw_at lw_m6 62 rfl) rfl
theorem q1379 : (Jvm.Cond.selects "ClockZones$Table" ({ cls := "ClockZones$Table", name := "isTooWide", desc := "()Z" } : Jvm.MethodName) ({ cls := "ClockZones$Table", name := "isTooWide", desc := "()Z" } : Jvm.MethodName)) ∈ lw_all := lw_g (lw_at lw_m6 63 rfl) rfl
theorem q1380 : (Jvm.Cond.sameMethod "ClockZones$Table" "ClockZones$Table" "isTooWide" "()Z") ∈ lw_all := lw_g (lw_at lw_m6 64 rfl) rfl
theorem q1382 : (Jvm.Cond.code ({ cls := "ClockZones$Table", name := "isTooWide", desc := "()Z" } : Jvm.MethodName) prog_9_method_17_code (2 : Nat) (Option.some Jvm.ClassFile.FieldType.boolean)) ∈ lw_all := lw_g (lw_at lw_m6 66 rfl) rfl
theorem q1383 : (Jvm.Cond.methodLinkNest "ClockZones$Table" (80 : Nat) ({ cls := "ClockZones", name := "in", desc := "(III)Z" } : Jvm.MethodName) "ClockZones") ∈ lw_tbl := lw_at lw_m6 67 rfl
theorem q1446 : (Jvm.Cond.instanceMethod ({ cls := "ClockZones$Table", name := "down", desc := "()V" } : Jvm.MethodName)) ∈ lw_all := lw_g (lw_at lw_m6 130 rfl) rfl
theorem q1447 : (Jvm.Cond.selects "ClockZones$Table" ({ cls := "ClockZones$Table", name := "down", desc := "()V" } : Jvm.MethodName) ({ cls := "ClockZones$Table", name := "down", desc := "()V" } : Jvm.MethodName)) ∈ lw_all := lw_g (lw_at lw_m6 131 rfl) rfl
theorem q1448 : (Jvm.Cond.sameMethod "ClockZones$Table" "ClockZones$Table" "down" "()V") ∈ lw_all := lw_g (lw_at lw_m6 132 rfl) rfl
theorem q1450 : (Jvm.Cond.code ({ cls := "ClockZones$Table", name := "down", desc := "()V" } : Jvm.MethodName) prog_9_method_12_code (4 : Nat) (Option.none : Option Jvm.ClassFile.FieldType)) ∈ lw_all := lw_g (lw_at lw_m6 134 rfl) rfl
theorem q1460 : (Jvm.Cond.instanceMethod ({ cls := "ClockZones$Table", name := "frees", desc := "(I)V" } : Jvm.MethodName)) ∈ lw_all := lw_g (lw_at lw_m6 144 rfl) rfl
theorem q1461 : (Jvm.Cond.selects "ClockZones$Table" ({ cls := "ClockZones$Table", name := "frees", desc := "(I)V" } : Jvm.MethodName) ({ cls := "ClockZones$Table", name := "frees", desc := "(I)V" } : Jvm.MethodName)) ∈ lw_all := lw_g (lw_at lw_m6 145 rfl) rfl
theorem q1462 : (Jvm.Cond.sameMethod "ClockZones$Table" "ClockZones$Table" "frees" "(I)V") ∈ lw_all := lw_g (lw_at lw_m6 146 rfl) rfl
theorem q1464 : (Jvm.Cond.code ({ cls := "ClockZones$Table", name := "frees", desc := "(I)V" } : Jvm.MethodName) prog_9_method_14_code (3 : Nat) (Option.none : Option Jvm.ClassFile.FieldType)) ∈ lw_all := lw_g (lw_at lw_m6 148 rfl) rfl
theorem q1474 : (Jvm.Cond.instanceMethod ({ cls := "ClockZones$Table", name := "joins", desc := "(LClockZones$Table;)V" } : Jvm.MethodName)) ∈ lw_all := lw_g (lw_at lw_m6 158 rfl) rfl
theorem q1475 : (Jvm.Cond.selects "ClockZones$Table" ({ cls := "ClockZones$Table", name := "joins", desc := "(LClockZones$Table;)V" } : Jvm.MethodName) ({ cls := "ClockZones$Table", name := "joins", desc := "(LClockZones$Table;)V" } : Jvm.MethodName)) ∈ lw_all := lw_g (lw_at lw_m6 159 rfl) rfl
theorem q1476 : (Jvm.Cond.sameMethod "ClockZones$Table" "ClockZones$Table" "joins" "(LClockZones$Table;)V") ∈ lw_all := lw_g (lw_at lw_m6 160 rfl) rfl
theorem q1478 : (Jvm.Cond.code ({ cls := "ClockZones$Table", name := "joins", desc := "(LClockZones$Table;)V" } : Jvm.MethodName) prog_9_method_15_code (3 : Nat) (Option.none : Option Jvm.ClassFile.FieldType)) ∈ lw_all := lw_g (lw_at lw_m6 162 rfl) rfl
theorem q1479 : (Jvm.Cond.methodLink "ClockZones$Table" (77 : Nat) ({ cls := "java/lang/Math", name := "max", desc := "(II)I" } : Jvm.MethodName)) ∈ lw_all := lw_g (lw_at lw_m6 163 rfl) rfl
theorem q1485 : (Jvm.Cond.instanceMethod ({ cls := "ClockZones$Table", name := "meets", desc := "(LClockZones$Table;)V" } : Jvm.MethodName)) ∈ lw_all := lw_g (lw_at lw_m6 169 rfl) rfl
theorem q1486 : (Jvm.Cond.selects "ClockZones$Table" ({ cls := "ClockZones$Table", name := "meets", desc := "(LClockZones$Table;)V" } : Jvm.MethodName) ({ cls := "ClockZones$Table", name := "meets", desc := "(LClockZones$Table;)V" } : Jvm.MethodName)) ∈ lw_all := lw_g (lw_at lw_m6 170 rfl) rfl
theorem q1487 : (Jvm.Cond.sameMethod "ClockZones$Table" "ClockZones$Table" "meets" "(LClockZones$Table;)V") ∈ lw_all := lw_g (lw_at lw_m6 171 rfl) rfl
theorem q1489 : (Jvm.Cond.code ({ cls := "ClockZones$Table", name := "meets", desc := "(LClockZones$Table;)V" } : Jvm.MethodName) prog_9_method_16_code (3 : Nat) (Option.none : Option Jvm.ClassFile.FieldType)) ∈ lw_all := lw_g (lw_at lw_m6 173 rfl) rfl
theorem q1536 : (Jvm.Cond.instanceMethod ({ cls := "ClockZones$Table", name := "hasAll", desc := "(I[I)Z" } : Jvm.MethodName)) ∈ lw_all := lw_g (lw_at lw_m6 220 rfl) rfl
theorem q1537 : (Jvm.Cond.selects "ClockZones$Table" ({ cls := "ClockZones$Table", name := "hasAll", desc := "(I[I)Z" } : Jvm.MethodName) ({ cls := "ClockZones$Table", name := "hasAll", desc := "(I[I)Z" } : Jvm.MethodName)) ∈ lw_all := lw_g (lw_at lw_m6 221 rfl) rfl
theorem q1538 : (Jvm.Cond.sameMethod "ClockZones$Table" "ClockZones$Table" "hasAll" "(I[I)Z") ∈ lw_all := lw_g (lw_at lw_m6 222 rfl) rfl
theorem q1540 : (Jvm.Cond.code ({ cls := "ClockZones$Table", name := "hasAll", desc := "(I[I)Z" } : Jvm.MethodName) prog_9_method_19_code (7 : Nat) (Option.some Jvm.ClassFile.FieldType.boolean)) ∈ lw_all := lw_g (lw_at lw_m6 224 rfl) rfl
theorem q1568 : (Jvm.Cond.instanceMethod ({ cls := "ClockZones$Table", name := "told", desc := "(IIII)I" } : Jvm.MethodName)) ∈ lw_all := lw_g (lw_at lw_m7 12 rfl) rfl
theorem q1569 : (Jvm.Cond.selects "ClockZones$Table" ({ cls := "ClockZones$Table", name := "told", desc := "(IIII)I" } : Jvm.MethodName) ({ cls := "ClockZones$Table", name := "told", desc := "(IIII)I" } : Jvm.MethodName)) ∈ lw_all := lw_g (lw_at lw_m7 13 rfl) rfl
theorem q1570 : (Jvm.Cond.sameMethod "ClockZones$Table" "ClockZones$Table" "told" "(IIII)I") ∈ lw_all := lw_g (lw_at lw_m7 14 rfl) rfl
theorem q1572 : (Jvm.Cond.code ({ cls := "ClockZones$Table", name := "told", desc := "(IIII)I" } : Jvm.MethodName) prog_9_method_23_code (6 : Nat) (Option.some Jvm.ClassFile.FieldType.int)) ∈ lw_all := lw_g (lw_at lw_m7 16 rfl) rfl
theorem q1595 : (Jvm.Cond.instanceMethod ({ cls := "ClockZones$Table", name := "wholes", desc := "()V" } : Jvm.MethodName)) ∈ lw_all := lw_g (lw_at lw_m7 39 rfl) rfl
theorem q1596 : (Jvm.Cond.selects "ClockZones$Table" ({ cls := "ClockZones$Table", name := "wholes", desc := "()V" } : Jvm.MethodName) ({ cls := "ClockZones$Table", name := "wholes", desc := "()V" } : Jvm.MethodName)) ∈ lw_all := lw_g (lw_at lw_m7 40 rfl) rfl
theorem q1597 : (Jvm.Cond.sameMethod "ClockZones$Table" "ClockZones$Table" "wholes" "()V") ∈ lw_all := lw_g (lw_at lw_m7 41 rfl) rfl
theorem q1599 : (Jvm.Cond.code ({ cls := "ClockZones$Table", name := "wholes", desc := "()V" } : Jvm.MethodName) prog_9_method_21_code (2 : Nat) (Option.none : Option Jvm.ClassFile.FieldType)) ∈ lw_all := lw_g (lw_at lw_m7 43 rfl) rfl
theorem q1601 : (Jvm.Cond.instanceMethod ({ cls := "ClockZones$Table", name := "leastOf", desc := "(I)I" } : Jvm.MethodName)) ∈ lw_all := lw_g (lw_at lw_m7 45 rfl) rfl
theorem q1602 : (Jvm.Cond.selects "ClockZones$Table" ({ cls := "ClockZones$Table", name := "leastOf", desc := "(I)I" } : Jvm.MethodName) ({ cls := "ClockZones$Table", name := "leastOf", desc := "(I)I" } : Jvm.MethodName)) ∈ lw_all := lw_g (lw_at lw_m7 46 rfl) rfl
theorem q1603 : (Jvm.Cond.sameMethod "ClockZones$Table" "ClockZones$Table" "leastOf" "(I)I") ∈ lw_all := lw_g (lw_at lw_m7 47 rfl) rfl
theorem q1605 : (Jvm.Cond.code ({ cls := "ClockZones$Table", name := "leastOf", desc := "(I)I" } : Jvm.MethodName) prog_9_method_22_code (3 : Nat) (Option.some Jvm.ClassFile.FieldType.int)) ∈ lw_all := lw_g (lw_at lw_m7 49 rfl) rfl
theorem q1606 : (Jvm.Cond.methodLink "ClockZones$Table" (84 : Nat) ({ cls := "ClockZones$Table", name := "says", desc := "(IIII)V" } : Jvm.MethodName)) ∈ lw_all := lw_g (lw_at lw_m7 50 rfl) rfl
theorem q1797 : (Jvm.Cond.declares ({ cls := "ClockZones$Table", name := "opens", desc := "()LClockZones$Table;" } : Jvm.MethodName)) ∈ lw_tbl := lw_at lw_m8 1 rfl
theorem q1817 : (Jvm.Cond.declares ({ cls := "ClockZones$Table", name := "says", desc := "(IIII)V" } : Jvm.MethodName)) ∈ lw_tbl := lw_at lw_m8 21 rfl
theorem q1829 : (Jvm.Cond.declares ({ cls := "ClockZones$Table", name := "least", desc := "(III)V" } : Jvm.MethodName)) ∈ lw_tbl := lw_at lw_m8 33 rfl
theorem q1837 : (Jvm.Cond.declares ({ cls := "ClockZones$Table", name := "closes", desc := "()V" } : Jvm.MethodName)) ∈ lw_tbl := lw_at lw_m8 41 rfl
theorem q1862 : (Jvm.Cond.declares ({ cls := "ClockZones$Table", name := "told", desc := "(IIII)I" } : Jvm.MethodName)) ∈ lw_tbl := lw_at lw_m8 66 rfl
theorem q1955 : (Jvm.Cond.declares ({ cls := "ClockZones$Table", name := "wholes", desc := "()V" } : Jvm.MethodName)) ∈ lw_tbl := lw_at lw_m8 159 rfl
theorem q1959 : (Jvm.Cond.declares ({ cls := "ClockZones$Table", name := "leastOf", desc := "(I)I" } : Jvm.MethodName)) ∈ lw_tbl := lw_at lw_m8 163 rfl
theorem q2728 : (Jvm.Cond.castable "ClockZones$Table" "java/lang/Object") ∈ lw_tbl := lw_at lw_m11 212 rfl
theorem in_X3 : ∀ w ∈ wsX30, w ∈ lw_all := lw_in wsX30 [273, 275, 277] (by decide +kernel) (by decide +kernel)

/-! java/util/Arrays -/
def RJ3 : String := "java/util/Arrays"
abbrev cJ3_fill : ByteArray := prog_47_method_103_code
def yJ3_fill : MethodName := ⟨RJ3, "fill", "([II)V"⟩
abbrev cJ3_copyOf : ByteArray := prog_47_method_121_code
def yJ3_copyOf : MethodName := ⟨RJ3, "copyOf", "([BI)[B"⟩
abbrev cJ3_copyOfRange : ByteArray := prog_47_method_132_code
def yJ3_copyOfRange : MethodName := ⟨RJ3, "copyOfRange", "([BII)[B"⟩
abbrev cJ3_copyOfRangeByte : ByteArray := prog_47_method_133_code
def yJ3_copyOfRangeByte : MethodName := ⟨RJ3, "copyOfRangeByte", "([BII)[B"⟩
abbrev cJ3_checkLength : ByteArray := prog_47_method_131_code
def yJ3_checkLength : MethodName := ⟨RJ3, "checkLength", "(II)V"⟩
abbrev cJ3_copyOf_2 : ByteArray := prog_47_method_119_code
def yJ3_copyOf_2 : MethodName := ⟨RJ3, "copyOf", "([Ljava/lang/Object;I)[Ljava/lang/Object;"⟩
abbrev cJ3_copyOf_3 : ByteArray := prog_47_method_120_code
def yJ3_copyOf_3 : MethodName := ⟨RJ3, "copyOf", "([Ljava/lang/Object;ILjava/lang/Class;)[Ljava/lang/Object;"⟩
abbrev cJ3_copyOfRange_2 : ByteArray := prog_47_method_130_code
def yJ3_copyOfRange_2 : MethodName := ⟨RJ3, "copyOfRange", "([Ljava/lang/Object;IILjava/lang/Class;)[Ljava/lang/Object;"⟩
theorem q123 : (Jvm.Cond.initialized "java/util/Arrays") ∈ lw_all := lw_g (lw_at lw_m1 7 rfl) rfl
theorem q263 : (Jvm.Cond.static ({ cls := "java/util/Arrays", name := "fill", desc := "([II)V" } : Jvm.MethodName)) ∈ lw_all := lw_g (lw_at lw_m1 147 rfl) rfl
theorem q264 : (Jvm.Cond.code ({ cls := "java/util/Arrays", name := "fill", desc := "([II)V" } : Jvm.MethodName) prog_47_method_103_code (4 : Nat) (Option.none : Option Jvm.ClassFile.FieldType)) ∈ lw_all := lw_g (lw_at lw_m1 148 rfl) rfl
theorem q599 : (Jvm.Cond.static ({ cls := "java/util/Arrays", name := "copyOf", desc := "([BI)[B" } : Jvm.MethodName)) ∈ lw_all := lw_g (lw_at lw_m3 3 rfl) rfl
theorem q600 : (Jvm.Cond.code ({ cls := "java/util/Arrays", name := "copyOf", desc := "([BI)[B" } : Jvm.MethodName) prog_47_method_121_code (3 : Nat) (Option.some (Jvm.ClassFile.FieldType.array Jvm.ClassFile.FieldType.byte))) ∈ lw_all := lw_g (lw_at lw_m3 4 rfl) rfl
theorem q601 : (Jvm.Cond.methodLink "java/util/Arrays" (310 : Nat) ({ cls := "[B", name := "clone", desc := "()Ljava/lang/Object;" } : Jvm.MethodName)) ∈ lw_all := lw_g (lw_at lw_m3 5 rfl) rfl
theorem q607 : (Jvm.Cond.classLink "java/util/Arrays" (311 : Nat) "[B") ∈ lw_all := lw_g (lw_at lw_m3 11 rfl) rfl
theorem q608 : (Jvm.Cond.methodLink "java/util/Arrays" (304 : Nat) ({ cls := "java/lang/Math", name := "min", desc := "(II)I" } : Jvm.MethodName)) ∈ lw_all := lw_g (lw_at lw_m3 12 rfl) rfl
theorem q611 : (Jvm.Cond.methodLink "java/util/Arrays" (150 : Nat) ({ cls := "java/lang/System", name := "arraycopy", desc := "(Ljava/lang/Object;ILjava/lang/Object;II)V" } : Jvm.MethodName)) ∈ lw_all := lw_g (lw_at lw_m3 15 rfl) rfl
theorem q694 : (Jvm.Cond.static ({ cls := "java/util/Arrays", name := "copyOfRange", desc := "([BII)[B" } : Jvm.MethodName)) ∈ lw_all := lw_g (lw_at lw_m3 98 rfl) rfl
theorem q695 : (Jvm.Cond.code ({ cls := "java/util/Arrays", name := "copyOfRange", desc := "([BII)[B" } : Jvm.MethodName) prog_47_method_132_code (3 : Nat) (Option.some (Jvm.ClassFile.FieldType.array Jvm.ClassFile.FieldType.byte))) ∈ lw_all := lw_g (lw_at lw_m3 99 rfl) rfl
theorem q696 : (Jvm.Cond.methodLink "java/util/Arrays" (339 : Nat) ({ cls := "java/util/Arrays", name := "copyOfRangeByte", desc := "([BII)[B" } : Jvm.MethodName)) ∈ lw_all := lw_g (lw_at lw_m3 100 rfl) rfl
theorem q697 : (Jvm.Cond.static ({ cls := "java/util/Arrays", name := "copyOfRangeByte", desc := "([BII)[B" } : Jvm.MethodName)) ∈ lw_all := lw_g (lw_at lw_m3 101 rfl) rfl
theorem q698 : (Jvm.Cond.code ({ cls := "java/util/Arrays", name := "copyOfRangeByte", desc := "([BII)[B" } : Jvm.MethodName) prog_47_method_133_code (5 : Nat) (Option.some (Jvm.ClassFile.FieldType.array Jvm.ClassFile.FieldType.byte))) ∈ lw_all := lw_g (lw_at lw_m3 102 rfl) rfl
theorem q699 : (Jvm.Cond.methodLink "java/util/Arrays" (343 : Nat) ({ cls := "java/util/Arrays", name := "checkLength", desc := "(II)V" } : Jvm.MethodName)) ∈ lw_all := lw_g (lw_at lw_m3 103 rfl) rfl
theorem q700 : (Jvm.Cond.static ({ cls := "java/util/Arrays", name := "checkLength", desc := "(II)V" } : Jvm.MethodName)) ∈ lw_all := lw_g (lw_at lw_m3 104 rfl) rfl
theorem q701 : (Jvm.Cond.code ({ cls := "java/util/Arrays", name := "checkLength", desc := "(II)V" } : Jvm.MethodName) prog_47_method_131_code (2 : Nat) (Option.none : Option Jvm.ClassFile.FieldType)) ∈ lw_all := lw_g (lw_at lw_m3 105 rfl) rfl
theorem q889 : (Jvm.Cond.static ({ cls := "java/util/Arrays", name := "copyOf", desc := "([Ljava/lang/Object;I)[Ljava/lang/Object;" } : Jvm.MethodName)) ∈ lw_all := lw_g (lw_at lw_m4 53 rfl) rfl
theorem q890 : (Jvm.Cond.code ({ cls := "java/util/Arrays", name := "copyOf", desc := "([Ljava/lang/Object;I)[Ljava/lang/Object;" } : Jvm.MethodName) prog_47_method_119_code (2 : Nat) (Option.some (Jvm.ClassFile.FieldType.array (Jvm.ClassFile.FieldType.object "java/lang/Object")))) ∈ lw_all := lw_g (lw_at lw_m4 54 rfl) rfl
theorem q891 : (Jvm.Cond.methodLink "java/util/Arrays" (86 : Nat) ({ cls := "java/lang/Object", name := "getClass", desc := "()Ljava/lang/Class;" } : Jvm.MethodName)) ∈ lw_all := lw_g (lw_at lw_m4 55 rfl) rfl
theorem q920 : (Jvm.Cond.methodLink "java/util/Arrays" (300 : Nat) ({ cls := "java/util/Arrays", name := "copyOf", desc := "([Ljava/lang/Object;ILjava/lang/Class;)[Ljava/lang/Object;" } : Jvm.MethodName)) ∈ lw_all := lw_g (lw_at lw_m4 84 rfl) rfl
theorem q921 : (Jvm.Cond.static ({ cls := "java/util/Arrays", name := "copyOf", desc := "([Ljava/lang/Object;ILjava/lang/Class;)[Ljava/lang/Object;" } : Jvm.MethodName)) ∈ lw_all := lw_g (lw_at lw_m4 85 rfl) rfl
theorem q922 : (Jvm.Cond.code ({ cls := "java/util/Arrays", name := "copyOf", desc := "([Ljava/lang/Object;ILjava/lang/Class;)[Ljava/lang/Object;" } : Jvm.MethodName) prog_47_method_120_code (4 : Nat) (Option.some (Jvm.ClassFile.FieldType.array (Jvm.ClassFile.FieldType.object "java/lang/Object")))) ∈ lw_all := lw_g (lw_at lw_m4 86 rfl) rfl
theorem q923 : (Jvm.Cond.classLink "java/util/Arrays" (110 : Nat) "[Ljava/lang/Object;") ∈ lw_all := lw_g (lw_at lw_m4 87 rfl) rfl
theorem q924 : (Jvm.Cond.classLink "java/util/Arrays" (2 : Nat) "java/lang/Object") ∈ lw_all := lw_g (lw_at lw_m4 88 rfl) rfl
theorem q1891 : (Jvm.Cond.static ({ cls := "java/util/Arrays", name := "copyOfRange", desc := "([Ljava/lang/Object;IILjava/lang/Class;)[Ljava/lang/Object;" } : Jvm.MethodName)) ∈ lw_all := lw_g (lw_at lw_m8 95 rfl) rfl
theorem q1892 : (Jvm.Cond.code ({ cls := "java/util/Arrays", name := "copyOfRange", desc := "([Ljava/lang/Object;IILjava/lang/Class;)[Ljava/lang/Object;" } : Jvm.MethodName) prog_47_method_130_code (6 : Nat) (Option.some (Jvm.ClassFile.FieldType.array (Jvm.ClassFile.FieldType.object "java/lang/Object")))) ∈ lw_all := lw_g (lw_at lw_m8 96 rfl) rfl

/-! java/util/ArrayDeque -/
def RJ4 : String := "java/util/ArrayDeque"
def TJ4 : u_T := fun k => match k with
  | 0 => ("java/util/ArrayDeque", "elements", "[Ljava/lang/Object;", false)
  | 1 => ("java/util/ArrayDeque", "head", "I", false)
  | _ => ("java/util/ArrayDeque", "tail", "I", false)
def tyJ4 : Nat → FieldType := fun k => match k with
  | 0 => .array (.object "java/lang/Object")
  | 1 => .int
  | _ => .int
abbrev wsJ40 : List Cond := u_ws RJ4 TJ4 3
theorem nmJ4 : ∀ a, a < 3 → ∀ b, b < 3 → a ≠ b → (TJ4 a).2.1 ≠ (TJ4 b).2.1 := by decide +kernel
theorem tyJ4_ok : ∀ k, k < 3 → parseFieldDescriptor (TJ4 k).2.2.1 = some (tyJ4 k) := by decide +kernel
abbrev cJ4_init : ByteArray := prog_44_method_3_code
def yJ4_init : MethodName := ⟨RJ4, "<init>", "()V"⟩
abbrev cJ4_clear : ByteArray := prog_44_method_53_code
def yJ4_clear : MethodName := ⟨RJ4, "clear", "()V"⟩
abbrev cJ4_circularClear : ByteArray := prog_44_method_54_code
def yJ4_circularClear : MethodName := ⟨RJ4, "circularClear", "([Ljava/lang/Object;II)V"⟩
abbrev cJ4_isEmpty : ByteArray := prog_44_method_38_code
def yJ4_isEmpty : MethodName := ⟨RJ4, "isEmpty", "()Z"⟩
abbrev cJ4_removeLast : ByteArray := prog_44_method_19_code
def yJ4_removeLast : MethodName := ⟨RJ4, "removeLast", "()Ljava/lang/Object;"⟩
abbrev cJ4_pollLast : ByteArray := prog_44_method_21_code
def yJ4_pollLast : MethodName := ⟨RJ4, "pollLast", "()Ljava/lang/Object;"⟩
abbrev cJ4_dec : ByteArray := prog_44_method_7_code
def yJ4_dec : MethodName := ⟨RJ4, "dec", "(II)I"⟩
abbrev cJ4_elementAt : ByteArray := prog_44_method_10_code
def yJ4_elementAt : MethodName := ⟨RJ4, "elementAt", "([Ljava/lang/Object;I)Ljava/lang/Object;"⟩
abbrev cJ4_size : ByteArray := prog_44_method_37_code
def yJ4_size : MethodName := ⟨RJ4, "size", "()I"⟩
abbrev cJ4_sub : ByteArray := prog_44_method_9_code
def yJ4_sub : MethodName := ⟨RJ4, "sub", "(III)I"⟩
abbrev cJ4_removeFirst : ByteArray := prog_44_method_18_code
def yJ4_removeFirst : MethodName := ⟨RJ4, "removeFirst", "()Ljava/lang/Object;"⟩
abbrev cJ4_pollFirst : ByteArray := prog_44_method_20_code
def yJ4_pollFirst : MethodName := ⟨RJ4, "pollFirst", "()Ljava/lang/Object;"⟩
abbrev cJ4_inc : ByteArray := prog_44_method_6_code
def yJ4_inc : MethodName := ⟨RJ4, "inc", "(II)I"⟩
abbrev cJ4_addLast : ByteArray := prog_44_method_13_code
def yJ4_addLast : MethodName := ⟨RJ4, "addLast", "(Ljava/lang/Object;)V"⟩
abbrev cJ4_grow : ByteArray := prog_44_method_1_code
def yJ4_grow : MethodName := ⟨RJ4, "grow", "(I)V"⟩
abbrev cJ4_newCapacity : ByteArray := prog_44_method_2_code
def yJ4_newCapacity : MethodName := ⟨RJ4, "newCapacity", "(II)I"⟩
abbrev cJ4_toArray : ByteArray := prog_44_method_55_code
def yJ4_toArray : MethodName := ⟨RJ4, "toArray", "()[Ljava/lang/Object;"⟩
abbrev cJ4_toArray_2 : ByteArray := prog_44_method_56_code
def yJ4_toArray_2 : MethodName := ⟨RJ4, "toArray", "(Ljava/lang/Class;)[Ljava/lang/Object;"⟩
theorem q124 : (Jvm.Cond.initialized "java/util/ArrayDeque") ∈ lw_all := lw_g (lw_at lw_m1 8 rfl) rfl
theorem q281 : (Jvm.Cond.instantiable "java/util/ArrayDeque" (3 : Nat)) ∈ lw_all := lw_g (lw_at lw_m1 165 rfl) rfl
theorem q283 : (Jvm.Cond.instanceMethod ({ cls := "java/util/ArrayDeque", name := "<init>", desc := "()V" } : Jvm.MethodName)) ∈ lw_all := lw_g (lw_at lw_m1 167 rfl) rfl
theorem q284 : (Jvm.Cond.code ({ cls := "java/util/ArrayDeque", name := "<init>", desc := "()V" } : Jvm.MethodName) prog_44_method_3_code (1 : Nat) (Option.none : Option Jvm.ClassFile.FieldType)) ∈ lw_all := lw_g (lw_at lw_m1 168 rfl) rfl
theorem q285 : (Jvm.Cond.methodLink "java/util/ArrayDeque" (42 : Nat) ({ cls := "java/util/AbstractCollection", name := "<init>", desc := "()V" } : Jvm.MethodName)) ∈ lw_all := lw_g (lw_at lw_m1 169 rfl) rfl
theorem q286 : (Jvm.Cond.classLink "java/util/ArrayDeque" (47 : Nat) "java/lang/Object") ∈ lw_all := lw_g (lw_at lw_m1 170 rfl) rfl
theorem q288 : (Jvm.Cond.fieldLink "java/util/ArrayDeque" (3 : Nat) "java/util/ArrayDeque" "elements" "[Ljava/lang/Object;") ∈ lw_all := lw_g (lw_at lw_m1 172 rfl) rfl
theorem q289 : (Jvm.Cond.fieldLink "java/util/ArrayDeque" (24 : Nat) "java/util/ArrayDeque" "head" "I") ∈ lw_all := lw_g (lw_at lw_m1 173 rfl) rfl
theorem q290 : (Jvm.Cond.fieldLink "java/util/ArrayDeque" (20 : Nat) "java/util/ArrayDeque" "tail" "I") ∈ lw_all := lw_g (lw_at lw_m1 174 rfl) rfl
theorem q291 : (Jvm.Cond.lays "java/util/ArrayDeque" "java/util/ArrayDeque" "elements" "[Ljava/lang/Object;") ∈ lw_all := lw_g (lw_at lw_m1 175 rfl) rfl
theorem q292 : (Jvm.Cond.soleField "java/util/ArrayDeque" "elements") ∈ lw_all := lw_g (lw_at lw_m1 176 rfl) rfl
theorem q293 : (Jvm.Cond.lays "java/util/ArrayDeque" "java/util/ArrayDeque" "head" "I") ∈ lw_all := lw_g (lw_at lw_m1 177 rfl) rfl
theorem q294 : (Jvm.Cond.soleField "java/util/ArrayDeque" "head") ∈ lw_all := lw_g (lw_at lw_m1 178 rfl) rfl
theorem q295 : (Jvm.Cond.lays "java/util/ArrayDeque" "java/util/ArrayDeque" "tail" "I") ∈ lw_all := lw_g (lw_at lw_m1 179 rfl) rfl
theorem q296 : (Jvm.Cond.soleField "java/util/ArrayDeque" "tail") ∈ lw_all := lw_g (lw_at lw_m1 180 rfl) rfl
theorem q297 : (Jvm.Cond.superclass "java/util/ArrayDeque" "java/util/AbstractCollection") ∈ lw_all := lw_g (lw_at lw_m1 181 rfl) rfl
theorem q915 : (Jvm.Cond.selects "java/util/ArrayDeque" ({ cls := "java/lang/Object", name := "getClass", desc := "()Ljava/lang/Class;" } : Jvm.MethodName) ({ cls := "java/lang/Object", name := "getClass", desc := "()Ljava/lang/Class;" } : Jvm.MethodName)) ∈ lw_all := lw_g (lw_at lw_m4 79 rfl) rfl
theorem q1106 : (Jvm.Cond.instanceMethod ({ cls := "java/util/ArrayDeque", name := "clear", desc := "()V" } : Jvm.MethodName)) ∈ lw_all := lw_g (lw_at lw_m5 30 rfl) rfl
theorem q1107 : (Jvm.Cond.selects "java/util/ArrayDeque" ({ cls := "java/util/ArrayDeque", name := "clear", desc := "()V" } : Jvm.MethodName) ({ cls := "java/util/ArrayDeque", name := "clear", desc := "()V" } : Jvm.MethodName)) ∈ lw_all := lw_g (lw_at lw_m5 31 rfl) rfl
theorem q1108 : (Jvm.Cond.code ({ cls := "java/util/ArrayDeque", name := "clear", desc := "()V" } : Jvm.MethodName) prog_44_method_53_code (1 : Nat) (Option.none : Option Jvm.ClassFile.FieldType)) ∈ lw_all := lw_g (lw_at lw_m5 32 rfl) rfl
theorem q1109 : (Jvm.Cond.methodLink "java/util/ArrayDeque" (181 : Nat) ({ cls := "java/util/ArrayDeque", name := "circularClear", desc := "([Ljava/lang/Object;II)V" } : Jvm.MethodName)) ∈ lw_all := lw_g (lw_at lw_m5 33 rfl) rfl
theorem q1110 : (Jvm.Cond.static ({ cls := "java/util/ArrayDeque", name := "circularClear", desc := "([Ljava/lang/Object;II)V" } : Jvm.MethodName)) ∈ lw_all := lw_g (lw_at lw_m5 34 rfl) rfl
theorem q1111 : (Jvm.Cond.code ({ cls := "java/util/ArrayDeque", name := "circularClear", desc := "([Ljava/lang/Object;II)V" } : Jvm.MethodName) prog_44_method_54_code (4 : Nat) (Option.none : Option Jvm.ClassFile.FieldType)) ∈ lw_all := lw_g (lw_at lw_m5 35 rfl) rfl
theorem q1323 : (Jvm.Cond.instanceMethod ({ cls := "java/util/ArrayDeque", name := "isEmpty", desc := "()Z" } : Jvm.MethodName)) ∈ lw_all := lw_g (lw_at lw_m6 7 rfl) rfl
theorem q1324 : (Jvm.Cond.selects "java/util/ArrayDeque" ({ cls := "java/util/ArrayDeque", name := "isEmpty", desc := "()Z" } : Jvm.MethodName) ({ cls := "java/util/ArrayDeque", name := "isEmpty", desc := "()Z" } : Jvm.MethodName)) ∈ lw_all := lw_g (lw_at lw_m6 8 rfl) rfl
theorem q1325 : (Jvm.Cond.code ({ cls := "java/util/ArrayDeque", name := "isEmpty", desc := "()Z" } : Jvm.MethodName) prog_44_method_38_code (1 : Nat) (Option.some Jvm.ClassFile.FieldType.boolean)) ∈ lw_all := lw_g (lw_at lw_m6 9 rfl) rfl
theorem q1327 : (Jvm.Cond.instanceMethod ({ cls := "java/util/ArrayDeque", name := "removeLast", desc := "()Ljava/lang/Object;" } : Jvm.MethodName)) ∈ lw_all := lw_g (lw_at lw_m6 11 rfl) rfl
theorem q1328 : (Jvm.Cond.selects "java/util/ArrayDeque" ({ cls := "java/util/ArrayDeque", name := "removeLast", desc := "()Ljava/lang/Object;" } : Jvm.MethodName) ({ cls := "java/util/ArrayDeque", name := "removeLast", desc := "()Ljava/lang/Object;" } : Jvm.MethodName)) ∈ lw_all := lw_g (lw_at lw_m6 12 rfl) rfl
theorem q1329 : (Jvm.Cond.code ({ cls := "java/util/ArrayDeque", name := "removeLast", desc := "()Ljava/lang/Object;" } : Jvm.MethodName) prog_44_method_19_code (2 : Nat) (Option.some (Jvm.ClassFile.FieldType.object "java/lang/Object"))) ∈ lw_all := lw_g (lw_at lw_m6 13 rfl) rfl
theorem q1330 : (Jvm.Cond.methodLink "java/util/ArrayDeque" (100 : Nat) ({ cls := "java/util/ArrayDeque", name := "pollLast", desc := "()Ljava/lang/Object;" } : Jvm.MethodName)) ∈ lw_all := lw_g (lw_at lw_m6 14 rfl) rfl
theorem q1331 : (Jvm.Cond.instanceMethod ({ cls := "java/util/ArrayDeque", name := "pollLast", desc := "()Ljava/lang/Object;" } : Jvm.MethodName)) ∈ lw_all := lw_g (lw_at lw_m6 15 rfl) rfl
theorem q1332 : (Jvm.Cond.selects "java/util/ArrayDeque" ({ cls := "java/util/ArrayDeque", name := "pollLast", desc := "()Ljava/lang/Object;" } : Jvm.MethodName) ({ cls := "java/util/ArrayDeque", name := "pollLast", desc := "()Ljava/lang/Object;" } : Jvm.MethodName)) ∈ lw_all := lw_g (lw_at lw_m6 16 rfl) rfl
theorem q1333 : (Jvm.Cond.code ({ cls := "java/util/ArrayDeque", name := "pollLast", desc := "()Ljava/lang/Object;" } : Jvm.MethodName) prog_44_method_21_code (4 : Nat) (Option.some (Jvm.ClassFile.FieldType.object "java/lang/Object"))) ∈ lw_all := lw_g (lw_at lw_m6 17 rfl) rfl
theorem q1334 : (Jvm.Cond.methodLink "java/util/ArrayDeque" (68 : Nat) ({ cls := "java/util/ArrayDeque", name := "dec", desc := "(II)I" } : Jvm.MethodName)) ∈ lw_all := lw_g (lw_at lw_m6 18 rfl) rfl
theorem q1335 : (Jvm.Cond.static ({ cls := "java/util/ArrayDeque", name := "dec", desc := "(II)I" } : Jvm.MethodName)) ∈ lw_all := lw_g (lw_at lw_m6 19 rfl) rfl
theorem q1336 : (Jvm.Cond.code ({ cls := "java/util/ArrayDeque", name := "dec", desc := "(II)I" } : Jvm.MethodName) prog_44_method_7_code (2 : Nat) (Option.some Jvm.ClassFile.FieldType.int)) ∈ lw_all := lw_g (lw_at lw_m6 20 rfl) rfl
theorem q1337 : (Jvm.Cond.methodLink "java/util/ArrayDeque" (103 : Nat) ({ cls := "java/util/ArrayDeque", name := "elementAt", desc := "([Ljava/lang/Object;I)Ljava/lang/Object;" } : Jvm.MethodName)) ∈ lw_all := lw_g (lw_at lw_m6 21 rfl) rfl
theorem q1338 : (Jvm.Cond.static ({ cls := "java/util/ArrayDeque", name := "elementAt", desc := "([Ljava/lang/Object;I)Ljava/lang/Object;" } : Jvm.MethodName)) ∈ lw_all := lw_g (lw_at lw_m6 22 rfl) rfl
theorem q1339 : (Jvm.Cond.code ({ cls := "java/util/ArrayDeque", name := "elementAt", desc := "([Ljava/lang/Object;I)Ljava/lang/Object;" } : Jvm.MethodName) prog_44_method_10_code (2 : Nat) (Option.some (Jvm.ClassFile.FieldType.object "java/lang/Object"))) ∈ lw_all := lw_g (lw_at lw_m6 23 rfl) rfl
theorem q1340 : (Jvm.Cond.classLink "java/util/ArrayDeque" (97 : Nat) "java/util/NoSuchElementException") ∈ lw_all := lw_g (lw_at lw_m6 24 rfl) rfl
theorem q1341 : (Jvm.Cond.methodLink "java/util/ArrayDeque" (99 : Nat) ({ cls := "java/util/NoSuchElementException", name := "<init>", desc := "()V" } : Jvm.MethodName)) ∈ lw_all := lw_g (lw_at lw_m6 25 rfl) rfl
theorem q1344 : (Jvm.Cond.instanceMethod ({ cls := "java/util/ArrayDeque", name := "size", desc := "()I" } : Jvm.MethodName)) ∈ lw_all := lw_g (lw_at lw_m6 28 rfl) rfl
theorem q1345 : (Jvm.Cond.selects "java/util/ArrayDeque" ({ cls := "java/util/ArrayDeque", name := "size", desc := "()I" } : Jvm.MethodName) ({ cls := "java/util/ArrayDeque", name := "size", desc := "()I" } : Jvm.MethodName)) ∈ lw_all := lw_g (lw_at lw_m6 29 rfl) rfl
theorem q1346 : (Jvm.Cond.code ({ cls := "java/util/ArrayDeque", name := "size", desc := "()I" } : Jvm.MethodName) prog_44_method_37_code (1 : Nat) (Option.some Jvm.ClassFile.FieldType.int)) ∈ lw_all := lw_g (lw_at lw_m6 30 rfl) rfl
theorem q1347 : (Jvm.Cond.methodLink "java/util/ArrayDeque" (127 : Nat) ({ cls := "java/util/ArrayDeque", name := "sub", desc := "(III)I" } : Jvm.MethodName)) ∈ lw_all := lw_g (lw_at lw_m6 31 rfl) rfl
theorem q1348 : (Jvm.Cond.static ({ cls := "java/util/ArrayDeque", name := "sub", desc := "(III)I" } : Jvm.MethodName)) ∈ lw_all := lw_g (lw_at lw_m6 32 rfl) rfl
theorem q1349 : (Jvm.Cond.code ({ cls := "java/util/ArrayDeque", name := "sub", desc := "(III)I" } : Jvm.MethodName) prog_44_method_9_code (3 : Nat) (Option.some Jvm.ClassFile.FieldType.int)) ∈ lw_all := lw_g (lw_at lw_m6 33 rfl) rfl
theorem q1407 : (Jvm.Cond.instanceMethod ({ cls := "java/util/ArrayDeque", name := "removeFirst", desc := "()Ljava/lang/Object;" } : Jvm.MethodName)) ∈ lw_all := lw_g (lw_at lw_m6 91 rfl) rfl
theorem q1408 : (Jvm.Cond.selects "java/util/ArrayDeque" ({ cls := "java/util/ArrayDeque", name := "removeFirst", desc := "()Ljava/lang/Object;" } : Jvm.MethodName) ({ cls := "java/util/ArrayDeque", name := "removeFirst", desc := "()Ljava/lang/Object;" } : Jvm.MethodName)) ∈ lw_all := lw_g (lw_at lw_m6 92 rfl) rfl
theorem q1409 : (Jvm.Cond.code ({ cls := "java/util/ArrayDeque", name := "removeFirst", desc := "()Ljava/lang/Object;" } : Jvm.MethodName) prog_44_method_18_code (2 : Nat) (Option.some (Jvm.ClassFile.FieldType.object "java/lang/Object"))) ∈ lw_all := lw_g (lw_at lw_m6 93 rfl) rfl
theorem q1410 : (Jvm.Cond.methodLink "java/util/ArrayDeque" (93 : Nat) ({ cls := "java/util/ArrayDeque", name := "pollFirst", desc := "()Ljava/lang/Object;" } : Jvm.MethodName)) ∈ lw_all := lw_g (lw_at lw_m6 94 rfl) rfl
theorem q1411 : (Jvm.Cond.instanceMethod ({ cls := "java/util/ArrayDeque", name := "pollFirst", desc := "()Ljava/lang/Object;" } : Jvm.MethodName)) ∈ lw_all := lw_g (lw_at lw_m6 95 rfl) rfl
theorem q1412 : (Jvm.Cond.selects "java/util/ArrayDeque" ({ cls := "java/util/ArrayDeque", name := "pollFirst", desc := "()Ljava/lang/Object;" } : Jvm.MethodName) ({ cls := "java/util/ArrayDeque", name := "pollFirst", desc := "()Ljava/lang/Object;" } : Jvm.MethodName)) ∈ lw_all := lw_g (lw_at lw_m6 96 rfl) rfl
theorem q1413 : (Jvm.Cond.code ({ cls := "java/util/ArrayDeque", name := "pollFirst", desc := "()Ljava/lang/Object;" } : Jvm.MethodName) prog_44_method_20_code (4 : Nat) (Option.some (Jvm.ClassFile.FieldType.object "java/lang/Object"))) ∈ lw_all := lw_g (lw_at lw_m6 97 rfl) rfl
theorem q1414 : (Jvm.Cond.methodLink "java/util/ArrayDeque" (74 : Nat) ({ cls := "java/util/ArrayDeque", name := "inc", desc := "(II)I" } : Jvm.MethodName)) ∈ lw_all := lw_g (lw_at lw_m6 98 rfl) rfl
theorem q1415 : (Jvm.Cond.static ({ cls := "java/util/ArrayDeque", name := "inc", desc := "(II)I" } : Jvm.MethodName)) ∈ lw_all := lw_g (lw_at lw_m6 99 rfl) rfl
theorem q1416 : (Jvm.Cond.code ({ cls := "java/util/ArrayDeque", name := "inc", desc := "(II)I" } : Jvm.MethodName) prog_44_method_6_code (2 : Nat) (Option.some Jvm.ClassFile.FieldType.int)) ∈ lw_all := lw_g (lw_at lw_m6 100 rfl) rfl
theorem q1418 : (Jvm.Cond.instanceMethod ({ cls := "java/util/ArrayDeque", name := "addLast", desc := "(Ljava/lang/Object;)V" } : Jvm.MethodName)) ∈ lw_all := lw_g (lw_at lw_m6 102 rfl) rfl
theorem q1419 : (Jvm.Cond.selects "java/util/ArrayDeque" ({ cls := "java/util/ArrayDeque", name := "addLast", desc := "(Ljava/lang/Object;)V" } : Jvm.MethodName) ({ cls := "java/util/ArrayDeque", name := "addLast", desc := "(Ljava/lang/Object;)V" } : Jvm.MethodName)) ∈ lw_all := lw_g (lw_at lw_m6 103 rfl) rfl
theorem q1420 : (Jvm.Cond.code ({ cls := "java/util/ArrayDeque", name := "addLast", desc := "(Ljava/lang/Object;)V" } : Jvm.MethodName) prog_44_method_13_code (3 : Nat) (Option.none : Option Jvm.ClassFile.FieldType)) ∈ lw_all := lw_g (lw_at lw_m6 104 rfl) rfl
theorem q1421 : (Jvm.Cond.methodLink "java/util/ArrayDeque" (71 : Nat) ({ cls := "java/util/ArrayDeque", name := "grow", desc := "(I)V" } : Jvm.MethodName)) ∈ lw_all := lw_g (lw_at lw_m6 105 rfl) rfl
theorem q1422 : (Jvm.Cond.privateMethod ({ cls := "java/util/ArrayDeque", name := "grow", desc := "(I)V" } : Jvm.MethodName)) ∈ lw_tbl := lw_at lw_m6 106 rfl
theorem q1423 : (Jvm.Cond.instanceMethod ({ cls := "java/util/ArrayDeque", name := "grow", desc := "(I)V" } : Jvm.MethodName)) ∈ lw_all := lw_g (lw_at lw_m6 107 rfl) rfl
theorem q1424 : (Jvm.Cond.code ({ cls := "java/util/ArrayDeque", name := "grow", desc := "(I)V" } : Jvm.MethodName) prog_44_method_1_code (9 : Nat) (Option.none : Option Jvm.ClassFile.FieldType)) ∈ lw_all := lw_g (lw_at lw_m6 108 rfl) rfl
theorem q1425 : (Jvm.Cond.constant "java/util/ArrayDeque" (9 : Nat) (2147483639 : Int32)) ∈ lw_all := lw_g (lw_at lw_m6 109 rfl) rfl
theorem q1426 : (Jvm.Cond.methodLink "java/util/ArrayDeque" (10 : Nat) ({ cls := "java/util/ArrayDeque", name := "newCapacity", desc := "(II)I" } : Jvm.MethodName)) ∈ lw_all := lw_g (lw_at lw_m6 110 rfl) rfl
theorem q1427 : (Jvm.Cond.privateMethod ({ cls := "java/util/ArrayDeque", name := "newCapacity", desc := "(II)I" } : Jvm.MethodName)) ∈ lw_tbl := lw_at lw_m6 111 rfl
theorem q1428 : (Jvm.Cond.instanceMethod ({ cls := "java/util/ArrayDeque", name := "newCapacity", desc := "(II)I" } : Jvm.MethodName)) ∈ lw_all := lw_g (lw_at lw_m6 112 rfl) rfl
theorem q1429 : (Jvm.Cond.code ({ cls := "java/util/ArrayDeque", name := "newCapacity", desc := "(II)I" } : Jvm.MethodName) prog_44_method_2_code (5 : Nat) (Option.some Jvm.ClassFile.FieldType.int)) ∈ lw_all := lw_g (lw_at lw_m6 113 rfl) rfl
theorem q1430 : (Jvm.Cond.constant "java/util/ArrayDeque" (41 : Nat) (2147483647 : Int32)) ∈ lw_all := lw_g (lw_at lw_m6 114 rfl) rfl
theorem q1431 : (Jvm.Cond.methodLink "java/util/ArrayDeque" (14 : Nat) ({ cls := "java/util/Arrays", name := "copyOf", desc := "([Ljava/lang/Object;I)[Ljava/lang/Object;" } : Jvm.MethodName)) ∈ lw_all := lw_g (lw_at lw_m6 115 rfl) rfl
theorem q1432 : (Jvm.Cond.methodLink "java/util/ArrayDeque" (27 : Nat) ({ cls := "java/lang/System", name := "arraycopy", desc := "(Ljava/lang/Object;ILjava/lang/Object;II)V" } : Jvm.MethodName)) ∈ lw_all := lw_g (lw_at lw_m6 116 rfl) rfl
theorem q1879 : (Jvm.Cond.castable "java/util/ArrayDeque" "java/util/Collection") ∈ lw_tbl := lw_at lw_m8 83 rfl
theorem q1880 : (Jvm.Cond.selects "java/util/ArrayDeque" ({ cls := "java/util/Collection", name := "toArray", desc := "()[Ljava/lang/Object;" } : Jvm.MethodName) ({ cls := "java/util/ArrayDeque", name := "toArray", desc := "()[Ljava/lang/Object;" } : Jvm.MethodName)) ∈ lw_all := lw_g (lw_at lw_m8 84 rfl) rfl
theorem q1881 : (Jvm.Cond.unhidden "java/util/ArrayDeque" "toArray" "()[Ljava/lang/Object;") ∈ lw_tbl := lw_at lw_m8 85 rfl
theorem q1882 : (Jvm.Cond.instanceMethod ({ cls := "java/util/ArrayDeque", name := "toArray", desc := "()[Ljava/lang/Object;" } : Jvm.MethodName)) ∈ lw_all := lw_g (lw_at lw_m8 86 rfl) rfl
theorem q1883 : (Jvm.Cond.publicMethod ({ cls := "java/util/ArrayDeque", name := "toArray", desc := "()[Ljava/lang/Object;" } : Jvm.MethodName)) ∈ lw_tbl := lw_at lw_m8 87 rfl
theorem q1884 : (Jvm.Cond.code ({ cls := "java/util/ArrayDeque", name := "toArray", desc := "()[Ljava/lang/Object;" } : Jvm.MethodName) prog_44_method_55_code (1 : Nat) (Option.some (Jvm.ClassFile.FieldType.array (Jvm.ClassFile.FieldType.object "java/lang/Object")))) ∈ lw_all := lw_g (lw_at lw_m8 88 rfl) rfl
theorem q1885 : (Jvm.Cond.classLink "java/util/ArrayDeque" (188 : Nat) "[Ljava/lang/Object;") ∈ lw_all := lw_g (lw_at lw_m8 89 rfl) rfl
theorem q1886 : (Jvm.Cond.methodLink "java/util/ArrayDeque" (189 : Nat) ({ cls := "java/util/ArrayDeque", name := "toArray", desc := "(Ljava/lang/Class;)[Ljava/lang/Object;" } : Jvm.MethodName)) ∈ lw_all := lw_g (lw_at lw_m8 90 rfl) rfl
theorem q1887 : (Jvm.Cond.privateMethod ({ cls := "java/util/ArrayDeque", name := "toArray", desc := "(Ljava/lang/Class;)[Ljava/lang/Object;" } : Jvm.MethodName)) ∈ lw_tbl := lw_at lw_m8 91 rfl
theorem q1888 : (Jvm.Cond.instanceMethod ({ cls := "java/util/ArrayDeque", name := "toArray", desc := "(Ljava/lang/Class;)[Ljava/lang/Object;" } : Jvm.MethodName)) ∈ lw_all := lw_g (lw_at lw_m8 92 rfl) rfl
theorem q1889 : (Jvm.Cond.code ({ cls := "java/util/ArrayDeque", name := "toArray", desc := "(Ljava/lang/Class;)[Ljava/lang/Object;" } : Jvm.MethodName) prog_44_method_56_code (7 : Nat) (Option.some (Jvm.ClassFile.FieldType.array (Jvm.ClassFile.FieldType.object "java/lang/Object")))) ∈ lw_all := lw_g (lw_at lw_m8 93 rfl) rfl
theorem q1890 : (Jvm.Cond.methodLink "java/util/ArrayDeque" (193 : Nat) ({ cls := "java/util/Arrays", name := "copyOfRange", desc := "([Ljava/lang/Object;IILjava/lang/Class;)[Ljava/lang/Object;" } : Jvm.MethodName)) ∈ lw_all := lw_g (lw_at lw_m8 94 rfl) rfl
theorem q1903 : (Jvm.Cond.unhidden "java/util/ArrayDeque" "getClass" "()Ljava/lang/Class;") ∈ lw_tbl := lw_at lw_m8 107 rfl
theorem q2733 : (Jvm.Cond.castable "java/util/ArrayDeque" "java/lang/Object") ∈ lw_tbl := lw_at lw_m11 217 rfl
theorem in_J4 : ∀ w ∈ wsJ40, w ∈ lw_all := lw_in wsJ40 [291, 293, 295] (by decide +kernel) (by decide +kernel)

/-! ClockZonesModel -/
def RX4 : String := "ClockZonesModel"
def TX4 : u_T := fun k => match k with
  | 0 => ("ClockZonesModel", "thrown", "I", false)
  | 1 => ("ClockZonesModel", "lines", "I", false)
  | 2 => ("ClockZonesModel", "clocks", "I", false)
  | 3 => ("ClockZonesModel", "places", "I", false)
  | 4 => ("ClockZonesModel", "edges", "I", false)
  | 5 => ("ClockZonesModel", "start", "I", false)
  | 6 => ("ClockZonesModel", "whenMany", "[I", true)
  | 7 => ("ClockZonesModel", "whenClock", "[I", true)
  | 8 => ("ClockZonesModel", "whenRel", "[I", true)
  | 9 => ("ClockZonesModel", "whenNumber", "[I", true)
  | 10 => ("ClockZonesModel", "edgeFrom", "[I", true)
  | 11 => ("ClockZonesModel", "edgeTo", "[I", true)
  | 12 => ("ClockZonesModel", "setMany", "[I", true)
  | 13 => ("ClockZonesModel", "setClock", "[I", true)
  | 14 => ("ClockZonesModel", "setNumber", "[I", true)
  | 15 => ("ClockZonesModel", "great", "[I", true)
  | 16 => ("ClockZonesModel", "now", "[I", true)
  | 17 => ("ClockZonesModel", "past", "[I", true)
  | 18 => ("ClockZonesModel", "pasts", "I", false)
  | 19 => ("ClockZonesModel", "nodePlace", "[I", true)
  | 20 => ("ClockZonesModel", "nodeBy", "[I", true)
  | 21 => ("ClockZonesModel", "nodeEdge", "[I", true)
  | 22 => ("ClockZonesModel", "nodeTable", "[I", true)
  | 23 => ("ClockZonesModel", "nodes", "I", false)
  | 24 => ("ClockZonesModel", "tape", "[B", true)
  | 25 => ("ClockZonesModel", "taped", "I", false)
  | 26 => ("ClockZonesModel", "size", "I", false)
  | 27 => ("ClockZonesModel", "next", "I", false)
  | 28 => ("ClockZonesModel", "from", "I", false)
  | 29 => ("ClockZonesModel", "token", "I", false)
  | 30 => ("ClockZonesModel", "value", "I", false)
  | 31 => ("ClockZonesModel", "fault", "I", false)
  | 32 => ("ClockZonesModel", "faultPlace", "I", false)
  | 33 => ("ClockZonesModel", "bad", "Z", false)
  | 34 => ("ClockZonesModel", "clockName", "[I", true)
  | 35 => ("ClockZonesModel", "placeName", "[I", true)
  | 36 => ("ClockZonesModel", "newClocks", "I", false)
  | 37 => ("ClockZonesModel", "newPlaces", "I", false)
  | 38 => ("ClockZonesModel", "newEdges", "I", false)
  | 39 => ("ClockZonesModel", "newStart", "I", false)
  | 40 => ("ClockZonesModel", "hasStart", "Z", false)
  | 41 => ("ClockZonesModel", "newLines", "I", false)
  | 42 => ("ClockZonesModel", "newMany", "[I", true)
  | 43 => ("ClockZonesModel", "newClock", "[I", true)
  | 44 => ("ClockZonesModel", "newRel", "[I", true)
  | 45 => ("ClockZonesModel", "newNumber", "[I", true)
  | 46 => ("ClockZonesModel", "newFrom", "[I", true)
  | 47 => ("ClockZonesModel", "newTo", "[I", true)
  | 48 => ("ClockZonesModel", "newSets", "[I", true)
  | 49 => ("ClockZonesModel", "newSetClock", "[I", true)
  | 50 => ("ClockZonesModel", "newSetNumber", "[I", true)
  | 51 => ("ClockZonesModel", "w", "[I", true)
  | 52 => ("ClockZonesModel", "dim", "I", false)
  | 53 => ("ClockZonesModel", "isVoid", "Z", false)
  | 54 => ("ClockZonesModel", "times", "[I", true)
  | 55 => ("ClockZonesModel", "road", "[I", true)
  | 56 => ("ClockZonesModel", "roads", "I", false)
  | 57 => ("ClockZonesModel", "since", "[I", true)
  | 58 => ("ClockZonesModel", "began", "[I", true)
  | 59 => ("ClockZonesModel", "sinceAt", "[I", true)
  | _ => ("ClockZonesModel", "beganAt", "[I", true)
def tyX4 : Nat → FieldType := fun k => match k with
  | 0 => .int
  | 1 => .int
  | 2 => .int
  | 3 => .int
  | 4 => .int
  | 5 => .int
  | 6 => .array .int
  | 7 => .array .int
  | 8 => .array .int
  | 9 => .array .int
  | 10 => .array .int
  | 11 => .array .int
  | 12 => .array .int
  | 13 => .array .int
  | 14 => .array .int
  | 15 => .array .int
  | 16 => .array .int
  | 17 => .array .int
  | 18 => .int
  | 19 => .array .int
  | 20 => .array .int
  | 21 => .array .int
  | 22 => .array .int
  | 23 => .int
  | 24 => .array .byte
  | 25 => .int
  | 26 => .int
  | 27 => .int
  | 28 => .int
  | 29 => .int
  | 30 => .int
  | 31 => .int
  | 32 => .int
  | 33 => .boolean
  | 34 => .array .int
  | 35 => .array .int
  | 36 => .int
  | 37 => .int
  | 38 => .int
  | 39 => .int
  | 40 => .boolean
  | 41 => .int
  | 42 => .array .int
  | 43 => .array .int
  | 44 => .array .int
  | 45 => .array .int
  | 46 => .array .int
  | 47 => .array .int
  | 48 => .array .int
  | 49 => .array .int
  | 50 => .array .int
  | 51 => .array .int
  | 52 => .int
  | 53 => .boolean
  | 54 => .array .int
  | 55 => .array .int
  | 56 => .int
  | 57 => .array .int
  | 58 => .array .int
  | 59 => .array .int
  | _ => .array .int
abbrev wsX40 : List Cond := u_ws RX4 TX4 61
theorem nmX4 : ∀ a, a < 61 → ∀ b, b < 61 → a ≠ b → (TX4 a).2.1 ≠ (TX4 b).2.1 := by decide +kernel
theorem tyX4_ok : ∀ k, k < 61 → parseFieldDescriptor (TX4 k).2.2.1 = some (tyX4 k) := by decide +kernel
abbrev cX4_thrown : ByteArray := prog_12_method_1_code
def yX4_thrown : MethodName := ⟨RX4, "thrown", "()I"⟩
abbrev cX4_init : ByteArray := prog_12_method_3_code
def yX4_init : MethodName := ⟨RX4, "<init>", "()V"⟩
abbrev cX4_laysAll : ByteArray := prog_12_method_4_code
def yX4_laysAll : MethodName := ⟨RX4, "laysAll", "()V"⟩
abbrev cX4_nought : ByteArray := prog_12_method_35_code
def yX4_nought : MethodName := ⟨RX4, "nought", "()V"⟩
abbrev cX4_put : ByteArray := prog_12_method_31_code
def yX4_put : MethodName := ⟨RX4, "put", "(III)V"⟩
abbrev cX4_stores : ByteArray := prog_12_method_46_code
def yX4_stores : MethodName := ⟨RX4, "stores", "(I)V"⟩
abbrev cX4_get : ByteArray := prog_12_method_30_code
def yX4_get : MethodName := ⟨RX4, "get", "(II)I"⟩
abbrev cX4_feed : ByteArray := prog_12_method_6_code
def yX4_feed : MethodName := ⟨RX4, "feed", "(IIIII)I"⟩
abbrev cX4_four : ByteArray := prog_12_method_5_code
def yX4_four : MethodName := ⟨RX4, "four", "(I)V"⟩
abbrev cX4_text : ByteArray := prog_12_method_21_code
def yX4_text : MethodName := ⟨RX4, "text", "(I)I"⟩
abbrev cX4_isIn : ByteArray := prog_12_method_2_code
def yX4_isIn : MethodName := ⟨RX4, "isIn", "(III)Z"⟩
abbrev cX4_advance : ByteArray := prog_12_method_8_code
def yX4_advance : MethodName := ⟨RX4, "advance", "()V"⟩
abbrev cX4_see : ByteArray := prog_12_method_7_code
def yX4_see : MethodName := ⟨RX4, "see", "()I"⟩
abbrev cX4_lineHere : ByteArray := prog_12_method_20_code
def yX4_lineHere : MethodName := ⟨RX4, "lineHere", "()V"⟩
abbrev cX4_isWord : ByteArray := prog_12_method_10_code
def yX4_isWord : MethodName := ⟨RX4, "isWord", "(I)Z"⟩
abbrev cX4_opens : ByteArray := prog_12_method_14_code
def yX4_opens : MethodName := ⟨RX4, "opens", "(ZI)V"⟩
abbrev cX4_must : ByteArray := prog_12_method_9_code
def yX4_must : MethodName := ⟨RX4, "must", "(ZI)V"⟩
abbrev cX4_freshHere : ByteArray := prog_12_method_15_code
def yX4_freshHere : MethodName := ⟨RX4, "freshHere", "([II)I"⟩
abbrev cX4_isName : ByteArray := prog_12_method_11_code
def yX4_isName : MethodName := ⟨RX4, "isName", "()Z"⟩
abbrev cX4_at : ByteArray := prog_12_method_13_code
def yX4_at : MethodName := ⟨RX4, "at", "([III)I"⟩
abbrev cX4_whensHere : ByteArray := prog_12_method_18_code
def yX4_whensHere : MethodName := ⟨RX4, "whensHere", "(I)V"⟩
abbrev cX4_seenHere : ByteArray := prog_12_method_16_code
def yX4_seenHere : MethodName := ⟨RX4, "seenHere", "([II)I"⟩
abbrev cX4_numberHere : ByteArray := prog_12_method_12_code
def yX4_numberHere : MethodName := ⟨RX4, "numberHere", "()I"⟩
abbrev cX4_placeHere : ByteArray := prog_12_method_17_code
def yX4_placeHere : MethodName := ⟨RX4, "placeHere", "()I"⟩
abbrev cX4_setsHere : ByteArray := prog_12_method_19_code
def yX4_setsHere : MethodName := ⟨RX4, "setsHere", "(I)V"⟩
abbrev cX4_becomes : ByteArray := prog_12_method_23_code
def yX4_becomes : MethodName := ⟨RX4, "becomes", "()V"⟩
abbrev cX4_copies : ByteArray := prog_12_method_22_code
def yX4_copies : MethodName := ⟨RX4, "copies", "([I[II)V"⟩
abbrev cX4_greatens : ByteArray := prog_12_method_24_code
def yX4_greatens : MethodName := ⟨RX4, "greatens", "(I)V"⟩
abbrev cX4_grows : ByteArray := prog_12_method_25_code
def yX4_grows : MethodName := ⟨RX4, "grows", "(II)V"⟩
abbrev cX4_explores : ByteArray := prog_12_method_95_code
def yX4_explores : MethodName := ⟨RX4, "explores", "()V"⟩
abbrev cX4_stays : ByteArray := prog_12_method_42_code
def yX4_stays : MethodName := ⟨RX4, "stays", "(I)V"⟩
abbrev cX4_whens : ByteArray := prog_12_method_37_code
def yX4_whens : MethodName := ⟨RX4, "whens", "(I)V"⟩
abbrev cX4_meets : ByteArray := prog_12_method_36_code
def yX4_meets : MethodName := ⟨RX4, "meets", "(IIII)V"⟩
abbrev cX4_reached : ByteArray := prog_12_method_27_code
def yX4_reached : MethodName := ⟨RX4, "reached", "(I)I"⟩
abbrev cX4_tightens : ByteArray := prog_12_method_32_code
def yX4_tightens : MethodName := ⟨RX4, "tightens", "(III)V"⟩
abbrev cX4_closes : ByteArray := prog_12_method_33_code
def yX4_closes : MethodName := ⟨RX4, "closes", "()V"⟩
abbrev cX4_plus : ByteArray := prog_12_method_28_code
def yX4_plus : MethodName := ⟨RX4, "plus", "(II)I"⟩
abbrev cX4_ups : ByteArray := prog_12_method_38_code
def yX4_ups : MethodName := ⟨RX4, "ups", "()V"⟩
abbrev cX4_roughens : ByteArray := prog_12_method_45_code
def yX4_roughens : MethodName := ⟨RX4, "roughens", "()V"⟩
abbrev cX4_numberOf : ByteArray := prog_12_method_29_code
def yX4_numberOf : MethodName := ⟨RX4, "numberOf", "(I)I"⟩
abbrev cX4_adds : ByteArray := prog_12_method_94_code
def yX4_adds : MethodName := ⟨RX4, "adds", "(III)V"⟩
abbrev cX4_loadsNode : ByteArray := prog_12_method_48_code
def yX4_loadsNode : MethodName := ⟨RX4, "loadsNode", "(I)V"⟩
abbrev cX4_steps : ByteArray := prog_12_method_43_code
def yX4_steps : MethodName := ⟨RX4, "steps", "(I)V"⟩
abbrev cX4_sets : ByteArray := prog_12_method_40_code
def yX4_sets : MethodName := ⟨RX4, "sets", "(II)V"⟩
abbrev cX4_isKnown : ByteArray := prog_12_method_93_code
def yX4_isKnown : MethodName := ⟨RX4, "isKnown", "(I)Z"⟩
abbrev cX4_isInside : ByteArray := prog_12_method_80_code
def yX4_isInside : MethodName := ⟨RX4, "isInside", "([II)Z"⟩
abbrev cX4_fault : ByteArray := prog_12_method_26_code
def yX4_fault : MethodName := ⟨RX4, "fault", "(I)I"⟩
abbrev cX4_undo : ByteArray := prog_12_method_56_code
def yX4_undo : MethodName := ⟨RX4, "undo", "()I"⟩
abbrev cX4_lay : ByteArray := prog_12_method_59_code
def yX4_lay : MethodName := ⟨RX4, "lay", "(II)Z"⟩
abbrev cX4_isTable : ByteArray := prog_12_method_49_code
def yX4_isTable : MethodName := ⟨RX4, "isTable", "(I)Z"⟩
abbrev cX4_wide : ByteArray := prog_12_method_34_code
def yX4_wide : MethodName := ⟨RX4, "wide", "()V"⟩
abbrev cX4_becomesTable : ByteArray := prog_12_method_58_code
def yX4_becomesTable : MethodName := ⟨RX4, "becomesTable", "(I)I"⟩
abbrev cX4_isFar : ByteArray := prog_12_method_57_code
def yX4_isFar : MethodName := ⟨RX4, "isFar", "()Z"⟩
abbrev cX4_keeps : ByteArray := prog_12_method_55_code
def yX4_keeps : MethodName := ⟨RX4, "keeps", "()V"⟩
abbrev cX4_meet : ByteArray := prog_12_method_60_code
def yX4_meet : MethodName := ⟨RX4, "meet", "(IIIII)I"⟩
abbrev cX4_arePair : ByteArray := prog_12_method_53_code
def yX4_arePair : MethodName := ⟨RX4, "arePair", "(II)Z"⟩
abbrev cX4_loads : ByteArray := prog_12_method_47_code
def yX4_loads : MethodName := ⟨RX4, "loads", "(I)V"⟩
abbrev cX4_pass : ByteArray := prog_12_method_61_code
def yX4_pass : MethodName := ⟨RX4, "pass", "(II)I"⟩
abbrev cX4_isTwo : ByteArray := prog_12_method_54_code
def yX4_isTwo : MethodName := ⟨RX4, "isTwo", "(I)Z"⟩
abbrev cX4_downs : ByteArray := prog_12_method_39_code
def yX4_downs : MethodName := ⟨RX4, "downs", "()V"⟩
abbrev cX4_reset : ByteArray := prog_12_method_62_code
def yX4_reset : MethodName := ⟨RX4, "reset", "(III)I"⟩
abbrev cX4_isClock : ByteArray := prog_12_method_50_code
def yX4_isClock : MethodName := ⟨RX4, "isClock", "(I)Z"⟩
abbrev cX4_free : ByteArray := prog_12_method_63_code
def yX4_free : MethodName := ⟨RX4, "free", "(II)I"⟩
abbrev cX4_frees : ByteArray := prog_12_method_41_code
def yX4_frees : MethodName := ⟨RX4, "frees", "(I)V"⟩
abbrev cX4_copy : ByteArray := prog_12_method_64_code
def yX4_copy : MethodName := ⟨RX4, "copy", "(II)I"⟩
abbrev cX4_join : ByteArray := prog_12_method_66_code
def yX4_join : MethodName := ⟨RX4, "join", "(II)I"⟩
abbrev cX4_other : ByteArray := prog_12_method_65_code
def yX4_other : MethodName := ⟨RX4, "other", "(III)I"⟩
abbrev cX4_both : ByteArray := prog_12_method_68_code
def yX4_both : MethodName := ⟨RX4, "both", "(II)I"⟩
abbrev cX4_meetsTable : ByteArray := prog_12_method_67_code
def yX4_meetsTable : MethodName := ⟨RX4, "meetsTable", "(II)V"⟩
abbrev cX4_touch : ByteArray := prog_12_method_69_code
def yX4_touch : MethodName := ⟨RX4, "touch", "(II)I"⟩
abbrev cX4_step : ByteArray := prog_12_method_70_code
def yX4_step : MethodName := ⟨RX4, "step", "(II)I"⟩
abbrev cX4_isEdge : ByteArray := prog_12_method_52_code
def yX4_isEdge : MethodName := ⟨RX4, "isEdge", "(I)Z"⟩
abbrev cX4_back : ByteArray := prog_12_method_71_code
def yX4_back : MethodName := ⟨RX4, "back", "(II)I"⟩
abbrev cX4_backs : ByteArray := prog_12_method_44_code
def yX4_backs : MethodName := ⟨RX4, "backs", "(I)V"⟩
abbrev cX4_stay : ByteArray := prog_12_method_72_code
def yX4_stay : MethodName := ⟨RX4, "stay", "(II)I"⟩
abbrev cX4_isPlace : ByteArray := prog_12_method_51_code
def yX4_isPlace : MethodName := ⟨RX4, "isPlace", "(I)Z"⟩
abbrev cX4_rough : ByteArray := prog_12_method_73_code
def yX4_rough : MethodName := ⟨RX4, "rough", "(I)I"⟩
abbrev cX4_take : ByteArray := prog_12_method_74_code
def yX4_take : MethodName := ⟨RX4, "take", "(II)I"⟩
abbrev cX4_bound : ByteArray := prog_12_method_76_code
def yX4_bound : MethodName := ⟨RX4, "bound", "(IIII)I"⟩
abbrev cX4_told : ByteArray := prog_12_method_75_code
def yX4_told : MethodName := ⟨RX4, "told", "(II)I"⟩
abbrev cX4_width : ByteArray := prog_12_method_77_code
def yX4_width : MethodName := ⟨RX4, "width", "(IIII)I"⟩
abbrev cX4_empty : ByteArray := prog_12_method_78_code
def yX4_empty : MethodName := ⟨RX4, "empty", "(I)I"⟩
abbrev cX4_within : ByteArray := prog_12_method_79_code
def yX4_within : MethodName := ⟨RX4, "within", "(II)I"⟩
abbrev cX4_has : ByteArray := prog_12_method_82_code
def yX4_has : MethodName := ⟨RX4, "has", "(IIIII)I"⟩
abbrev cX4_hasTimes : ByteArray := prog_12_method_81_code
def yX4_hasTimes : MethodName := ⟨RX4, "hasTimes", "(I)Z"⟩
abbrev cX4_pairs : ByteArray := prog_12_method_84_code
def yX4_pairs : MethodName := ⟨RX4, "pairs", "(II)I"⟩
abbrev cX4_follows : ByteArray := prog_12_method_83_code
def yX4_follows : MethodName := ⟨RX4, "follows", "(II)Z"⟩
abbrev cX4_single : ByteArray := prog_12_method_85_code
def yX4_single : MethodName := ⟨RX4, "single", "(I)I"⟩
abbrev cX4_whole : ByteArray := prog_12_method_86_code
def yX4_whole : MethodName := ⟨RX4, "whole", "(II)I"⟩
abbrev cX4_first : ByteArray := prog_12_method_88_code
def yX4_first : MethodName := ⟨RX4, "first", "(II)I"⟩
abbrev cX4_wholes : ByteArray := prog_12_method_87_code
def yX4_wholes : MethodName := ⟨RX4, "wholes", "()V"⟩
abbrev cX4_longest : ByteArray := prog_12_method_90_code
def yX4_longest : MethodName := ⟨RX4, "longest", "(III)I"⟩
abbrev cX4_stretches : ByteArray := prog_12_method_89_code
def yX4_stretches : MethodName := ⟨RX4, "stretches", "()V"⟩
abbrev cX4_soonest : ByteArray := prog_12_method_91_code
def yX4_soonest : MethodName := ⟨RX4, "soonest", "(III)I"⟩
abbrev cX4_low : ByteArray := prog_12_method_92_code
def yX4_low : MethodName := ⟨RX4, "low", "(II)I"⟩
abbrev cX4_nodes : ByteArray := prog_12_method_96_code
def yX4_nodes : MethodName := ⟨RX4, "nodes", "()I"⟩
abbrev cX4_node : ByteArray := prog_12_method_98_code
def yX4_node : MethodName := ⟨RX4, "node", "(II)I"⟩
abbrev cX4_depth : ByteArray := prog_12_method_97_code
def yX4_depth : MethodName := ⟨RX4, "depth", "(I)I"⟩
abbrev cX4_nodeBound : ByteArray := prog_12_method_99_code
def yX4_nodeBound : MethodName := ⟨RX4, "nodeBound", "(IIII)I"⟩
abbrev cX4_way : ByteArray := prog_12_method_102_code
def yX4_way : MethodName := ⟨RX4, "way", "(II)I"⟩
abbrev cX4_laysRoad : ByteArray := prog_12_method_101_code
def yX4_laysRoad : MethodName := ⟨RX4, "laysRoad", "(I)Z"⟩
abbrev cX4_firstNode : ByteArray := prog_12_method_100_code
def yX4_firstNode : MethodName := ⟨RX4, "firstNode", "(I)I"⟩
abbrev cX4_deepest : ByteArray := prog_12_method_103_code
def yX4_deepest : MethodName := ⟨RX4, "deepest", "(I)I"⟩
abbrev cX4_open : ByteArray := prog_12_method_105_code
def yX4_open : MethodName := ⟨RX4, "open", "(I)I"⟩
abbrev cX4_openOf : ByteArray := prog_12_method_104_code
def yX4_openOf : MethodName := ⟨RX4, "openOf", "(I)I"⟩
abbrev cX4_stuck : ByteArray := prog_12_method_106_code
def yX4_stuck : MethodName := ⟨RX4, "stuck", "()I"⟩
abbrev cX4_reached_2 : ByteArray := prog_12_method_107_code
def yX4_reached_2 : MethodName := ⟨RX4, "reached", "()I"⟩
abbrev cX4_leads : ByteArray := prog_12_method_108_code
def yX4_leads : MethodName := ⟨RX4, "leads", "(I)I"⟩
abbrev cX4_place : ByteArray := prog_12_method_109_code
def yX4_place : MethodName := ⟨RX4, "place", "(II)I"⟩
abbrev cX4_edge : ByteArray := prog_12_method_110_code
def yX4_edge : MethodName := ⟨RX4, "edge", "(II)I"⟩
abbrev cX4_when : ByteArray := prog_12_method_111_code
def yX4_when : MethodName := ⟨RX4, "when", "(III)I"⟩
abbrev cX4_set : ByteArray := prog_12_method_112_code
def yX4_set : MethodName := ⟨RX4, "set", "(III)I"⟩
abbrev cX4_tells : ByteArray := prog_12_method_115_code
def yX4_tells : MethodName := ⟨RX4, "tells", "(II)I"⟩
abbrev cX4_hasWhen : ByteArray := prog_12_method_113_code
def yX4_hasWhen : MethodName := ⟨RX4, "hasWhen", "(II)Z"⟩
abbrev cX4_hasSet : ByteArray := prog_12_method_114_code
def yX4_hasSet : MethodName := ⟨RX4, "hasSet", "(II)Z"⟩
abbrev cX4_great : ByteArray := prog_12_method_116_code
def yX4_great : MethodName := ⟨RX4, "great", "(I)I"⟩
abbrev cX4_add : ByteArray := prog_12_method_122_code
def yX4_add : MethodName := ⟨RX4, "add", "(I)I"⟩
abbrev cX4_traced : ByteArray := prog_12_method_120_code
def yX4_traced : MethodName := ⟨RX4, "traced", "()I"⟩
abbrev cX4_lead : ByteArray := prog_12_method_123_code
def yX4_lead : MethodName := ⟨RX4, "lead", "(I)I"⟩
abbrev cX4_trace : ByteArray := prog_12_method_124_code
def yX4_trace : MethodName := ⟨RX4, "trace", "(I)I"⟩
abbrev cX4_can : ByteArray := prog_12_method_125_code
def yX4_can : MethodName := ⟨RX4, "can", "()I"⟩
abbrev cX4_laysTrace : ByteArray := prog_12_method_121_code
def yX4_laysTrace : MethodName := ⟨RX4, "laysTrace", "()V"⟩
abbrev cX4_laysTimes : ByteArray := prog_12_method_119_code
def yX4_laysTimes : MethodName := ⟨RX4, "laysTimes", "([III)V"⟩
abbrev cX4_holdsAt : ByteArray := prog_12_method_118_code
def yX4_holdsAt : MethodName := ⟨RX4, "holdsAt", "(II)V"⟩
abbrev cX4_holds : ByteArray := prog_12_method_117_code
def yX4_holds : MethodName := ⟨RX4, "holds", "(III)Z"⟩
abbrev cX4_window : ByteArray := prog_12_method_127_code
def yX4_window : MethodName := ⟨RX4, "window", "(II)I"⟩
abbrev cX4_spanOf : ByteArray := prog_12_method_126_code
def yX4_spanOf : MethodName := ⟨RX4, "spanOf", "(IIII)I"⟩
abbrev cX4_between : ByteArray := prog_12_method_128_code
def yX4_between : MethodName := ⟨RX4, "between", "(III)I"⟩
abbrev cX4_value : ByteArray := prog_12_method_129_code
def yX4_value : MethodName := ⟨RX4, "value", "(III)I"⟩
abbrev cX4_breaks : ByteArray := prog_12_method_130_code
def yX4_breaks : MethodName := ⟨RX4, "breaks", "()I"⟩
abbrev cX4_fastest : ByteArray := prog_12_method_131_code
def yX4_fastest : MethodName := ⟨RX4, "fastest", "(II)I"⟩
abbrev cX4_moment : ByteArray := prog_12_method_132_code
def yX4_moment : MethodName := ⟨RX4, "moment", "(I)I"⟩
abbrev cX4_count : ByteArray := prog_12_method_133_code
def yX4_count : MethodName := ⟨RX4, "count", "(I)I"⟩
theorem q125 : (Jvm.Cond.initialized "ClockZonesModel") ∈ lw_all := lw_g (lw_at lw_m1 9 rfl) rfl
theorem q852 : (Jvm.Cond.selects "ClockZonesModel" ({ cls := "java/lang/Object", name := "equals", desc := "(Ljava/lang/Object;)Z" } : Jvm.MethodName) ({ cls := "java/lang/Object", name := "equals", desc := "(Ljava/lang/Object;)Z" } : Jvm.MethodName)) ∈ lw_all := lw_g (lw_at lw_m4 16 rfl) rfl
theorem q904 : (Jvm.Cond.selects "ClockZonesModel" ({ cls := "java/lang/Object", name := "getClass", desc := "()Ljava/lang/Class;" } : Jvm.MethodName) ({ cls := "java/lang/Object", name := "getClass", desc := "()Ljava/lang/Class;" } : Jvm.MethodName)) ∈ lw_all := lw_g (lw_at lw_m4 68 rfl) rfl
theorem q1993 : (Jvm.Cond.instanceMethod ({ cls := "ClockZonesModel", name := "thrown", desc := "()I" } : Jvm.MethodName)) ∈ lw_all := lw_g (lw_at lw_m8 197 rfl) rfl
theorem q1994 : (Jvm.Cond.selects "ClockZonesModel" ({ cls := "ClockZonesModel", name := "thrown", desc := "()I" } : Jvm.MethodName) ({ cls := "ClockZonesModel", name := "thrown", desc := "()I" } : Jvm.MethodName)) ∈ lw_all := lw_g (lw_at lw_m8 198 rfl) rfl
theorem q1995 : (Jvm.Cond.code ({ cls := "ClockZonesModel", name := "thrown", desc := "()I" } : Jvm.MethodName) prog_12_method_1_code (1 : Nat) (Option.some Jvm.ClassFile.FieldType.int)) ∈ lw_all := lw_g (lw_at lw_m8 199 rfl) rfl
theorem q1997 : (Jvm.Cond.instantiable "ClockZonesModel" (61 : Nat)) ∈ lw_all := lw_g (lw_at lw_m8 201 rfl) rfl
theorem q1999 : (Jvm.Cond.instanceMethod ({ cls := "ClockZonesModel", name := "<init>", desc := "()V" } : Jvm.MethodName)) ∈ lw_all := lw_g (lw_at lw_m8 203 rfl) rfl
theorem q2000 : (Jvm.Cond.code ({ cls := "ClockZonesModel", name := "<init>", desc := "()V" } : Jvm.MethodName) prog_12_method_3_code (1 : Nat) (Option.none : Option Jvm.ClassFile.FieldType)) ∈ lw_all := lw_g (lw_at lw_m8 204 rfl) rfl
theorem q2001 : (Jvm.Cond.methodLink "ClockZonesModel" (7 : Nat) ({ cls := "java/lang/Object", name := "<init>", desc := "()V" } : Jvm.MethodName)) ∈ lw_all := lw_g (lw_at lw_m8 205 rfl) rfl
theorem q2002 : (Jvm.Cond.methodLink "ClockZonesModel" (123 : Nat) ({ cls := "ClockZonesModel", name := "laysAll", desc := "()V" } : Jvm.MethodName)) ∈ lw_all := lw_g (lw_at lw_m8 206 rfl) rfl
theorem q2003 : (Jvm.Cond.privateMethod ({ cls := "ClockZonesModel", name := "laysAll", desc := "()V" } : Jvm.MethodName)) ∈ lw_tbl := lw_at lw_m8 207 rfl
theorem q2004 : (Jvm.Cond.instanceMethod ({ cls := "ClockZonesModel", name := "laysAll", desc := "()V" } : Jvm.MethodName)) ∈ lw_all := lw_g (lw_at lw_m8 208 rfl) rfl
theorem q2005 : (Jvm.Cond.code ({ cls := "ClockZonesModel", name := "laysAll", desc := "()V" } : Jvm.MethodName) prog_12_method_4_code (2 : Nat) (Option.none : Option Jvm.ClassFile.FieldType)) ∈ lw_all := lw_g (lw_at lw_m8 209 rfl) rfl
theorem q2006 : (Jvm.Cond.methodLink "ClockZonesModel" (126 : Nat) ({ cls := "ClockZonesModel", name := "nought", desc := "()V" } : Jvm.MethodName)) ∈ lw_all := lw_g (lw_at lw_m8 210 rfl) rfl
theorem q2007 : (Jvm.Cond.privateMethod ({ cls := "ClockZonesModel", name := "nought", desc := "()V" } : Jvm.MethodName)) ∈ lw_tbl := lw_at lw_m8 211 rfl
theorem q2008 : (Jvm.Cond.instanceMethod ({ cls := "ClockZonesModel", name := "nought", desc := "()V" } : Jvm.MethodName)) ∈ lw_all := lw_g (lw_at lw_m8 212 rfl) rfl
theorem q2009 : (Jvm.Cond.code ({ cls := "ClockZonesModel", name := "nought", desc := "()V" } : Jvm.MethodName) prog_12_method_35_code (3 : Nat) (Option.none : Option Jvm.ClassFile.FieldType)) ∈ lw_all := lw_g (lw_at lw_m8 213 rfl) rfl
theorem q2010 : (Jvm.Cond.methodLink "ClockZonesModel" (276 : Nat) ({ cls := "ClockZonesModel", name := "put", desc := "(III)V" } : Jvm.MethodName)) ∈ lw_all := lw_g (lw_at lw_m8 214 rfl) rfl
theorem q2011 : (Jvm.Cond.privateMethod ({ cls := "ClockZonesModel", name := "put", desc := "(III)V" } : Jvm.MethodName)) ∈ lw_tbl := lw_at lw_m8 215 rfl
theorem q2012 : (Jvm.Cond.instanceMethod ({ cls := "ClockZonesModel", name := "put", desc := "(III)V" } : Jvm.MethodName)) ∈ lw_all := lw_g (lw_at lw_m8 216 rfl) rfl
theorem q2013 : (Jvm.Cond.code ({ cls := "ClockZonesModel", name := "put", desc := "(III)V" } : Jvm.MethodName) prog_12_method_31_code (4 : Nat) (Option.none : Option Jvm.ClassFile.FieldType)) ∈ lw_all := lw_g (lw_at lw_m8 217 rfl) rfl
theorem q2014 : (Jvm.Cond.methodLink "ClockZonesModel" (129 : Nat) ({ cls := "ClockZonesModel", name := "stores", desc := "(I)V" } : Jvm.MethodName)) ∈ lw_all := lw_g (lw_at lw_m8 218 rfl) rfl
theorem q2015 : (Jvm.Cond.privateMethod ({ cls := "ClockZonesModel", name := "stores", desc := "(I)V" } : Jvm.MethodName)) ∈ lw_tbl := lw_at lw_m8 219 rfl
theorem q2016 : (Jvm.Cond.instanceMethod ({ cls := "ClockZonesModel", name := "stores", desc := "(I)V" } : Jvm.MethodName)) ∈ lw_all := lw_g (lw_at lw_m8 220 rfl) rfl
theorem q2017 : (Jvm.Cond.code ({ cls := "ClockZonesModel", name := "stores", desc := "(I)V" } : Jvm.MethodName) prog_12_method_46_code (4 : Nat) (Option.none : Option Jvm.ClassFile.FieldType)) ∈ lw_all := lw_g (lw_at lw_m8 221 rfl) rfl
theorem q2018 : (Jvm.Cond.methodLink "ClockZonesModel" (272 : Nat) ({ cls := "ClockZonesModel", name := "get", desc := "(II)I" } : Jvm.MethodName)) ∈ lw_all := lw_g (lw_at lw_m8 222 rfl) rfl
theorem q2019 : (Jvm.Cond.privateMethod ({ cls := "ClockZonesModel", name := "get", desc := "(II)I" } : Jvm.MethodName)) ∈ lw_tbl := lw_at lw_m8 223 rfl
theorem q2020 : (Jvm.Cond.instanceMethod ({ cls := "ClockZonesModel", name := "get", desc := "(II)I" } : Jvm.MethodName)) ∈ lw_all := lw_g (lw_at lw_m8 224 rfl) rfl
theorem q2021 : (Jvm.Cond.code ({ cls := "ClockZonesModel", name := "get", desc := "(II)I" } : Jvm.MethodName) prog_12_method_30_code (3 : Nat) (Option.some Jvm.ClassFile.FieldType.int)) ∈ lw_all := lw_g (lw_at lw_m8 225 rfl) rfl
theorem q2022 : (Jvm.Cond.fieldLink "ClockZonesModel" (1 : Nat) "ClockZonesModel" "thrown" "I") ∈ lw_all := lw_g (lw_at lw_m8 226 rfl) rfl
theorem q2023 : (Jvm.Cond.fieldLink "ClockZonesModel" (239 : Nat) "ClockZonesModel" "lines" "I") ∈ lw_all := lw_g (lw_at lw_m8 227 rfl) rfl
theorem q2024 : (Jvm.Cond.fieldLink "ClockZonesModel" (242 : Nat) "ClockZonesModel" "clocks" "I") ∈ lw_all := lw_g (lw_at lw_m8 228 rfl) rfl
theorem q2025 : (Jvm.Cond.fieldLink "ClockZonesModel" (245 : Nat) "ClockZonesModel" "places" "I") ∈ lw_all := lw_g (lw_at lw_m8 229 rfl) rfl
theorem q2026 : (Jvm.Cond.fieldLink "ClockZonesModel" (248 : Nat) "ClockZonesModel" "edges" "I") ∈ lw_all := lw_g (lw_at lw_m8 230 rfl) rfl
theorem q2027 : (Jvm.Cond.fieldLink "ClockZonesModel" (251 : Nat) "ClockZonesModel" "start" "I") ∈ lw_all := lw_g (lw_at lw_m8 231 rfl) rfl
theorem q2028 : (Jvm.Cond.fieldLink "ClockZonesModel" (13 : Nat) "ClockZonesModel" "whenMany" "[I") ∈ lw_all := lw_g (lw_at lw_m8 232 rfl) rfl
theorem q2029 : (Jvm.Cond.fieldLink "ClockZonesModel" (17 : Nat) "ClockZonesModel" "whenClock" "[I") ∈ lw_all := lw_g (lw_at lw_m8 233 rfl) rfl
theorem q2030 : (Jvm.Cond.fieldLink "ClockZonesModel" (20 : Nat) "ClockZonesModel" "whenRel" "[I") ∈ lw_all := lw_g (lw_at lw_m8 234 rfl) rfl
theorem q2031 : (Jvm.Cond.fieldLink "ClockZonesModel" (23 : Nat) "ClockZonesModel" "whenNumber" "[I") ∈ lw_all := lw_g (lw_at lw_m8 235 rfl) rfl
theorem q2032 : (Jvm.Cond.fieldLink "ClockZonesModel" (26 : Nat) "ClockZonesModel" "edgeFrom" "[I") ∈ lw_all := lw_g (lw_at lw_m8 236 rfl) rfl
theorem q2033 : (Jvm.Cond.fieldLink "ClockZonesModel" (29 : Nat) "ClockZonesModel" "edgeTo" "[I") ∈ lw_all := lw_g (lw_at lw_m8 237 rfl) rfl
theorem q2034 : (Jvm.Cond.fieldLink "ClockZonesModel" (32 : Nat) "ClockZonesModel" "setMany" "[I") ∈ lw_all := lw_g (lw_at lw_m8 238 rfl) rfl
theorem q2035 : (Jvm.Cond.fieldLink "ClockZonesModel" (35 : Nat) "ClockZonesModel" "setClock" "[I") ∈ lw_all := lw_g (lw_at lw_m8 239 rfl) rfl
theorem q2036 : (Jvm.Cond.fieldLink "ClockZonesModel" (38 : Nat) "ClockZonesModel" "setNumber" "[I") ∈ lw_all := lw_g (lw_at lw_m9 0 rfl) rfl
theorem q2037 : (Jvm.Cond.fieldLink "ClockZonesModel" (41 : Nat) "ClockZonesModel" "great" "[I") ∈ lw_all := lw_g (lw_at lw_m9 1 rfl) rfl
theorem q2038 : (Jvm.Cond.fieldLink "ClockZonesModel" (44 : Nat) "ClockZonesModel" "now" "[I") ∈ lw_all := lw_g (lw_at lw_m9 2 rfl) rfl
theorem q2039 : (Jvm.Cond.fieldLink "ClockZonesModel" (47 : Nat) "ClockZonesModel" "past" "[I") ∈ lw_all := lw_g (lw_at lw_m9 3 rfl) rfl
theorem q2040 : (Jvm.Cond.fieldLink "ClockZonesModel" (261 : Nat) "ClockZonesModel" "pasts" "I") ∈ lw_all := lw_g (lw_at lw_m9 4 rfl) rfl
theorem q2041 : (Jvm.Cond.fieldLink "ClockZonesModel" (50 : Nat) "ClockZonesModel" "nodePlace" "[I") ∈ lw_all := lw_g (lw_at lw_m9 5 rfl) rfl
theorem q2042 : (Jvm.Cond.fieldLink "ClockZonesModel" (53 : Nat) "ClockZonesModel" "nodeBy" "[I") ∈ lw_all := lw_g (lw_at lw_m9 6 rfl) rfl
theorem q2043 : (Jvm.Cond.fieldLink "ClockZonesModel" (56 : Nat) "ClockZonesModel" "nodeEdge" "[I") ∈ lw_all := lw_g (lw_at lw_m9 7 rfl) rfl
theorem q2044 : (Jvm.Cond.fieldLink "ClockZonesModel" (59 : Nat) "ClockZonesModel" "nodeTable" "[I") ∈ lw_all := lw_g (lw_at lw_m9 8 rfl) rfl
theorem q2045 : (Jvm.Cond.fieldLink "ClockZonesModel" (374 : Nat) "ClockZonesModel" "nodes" "I") ∈ lw_all := lw_g (lw_at lw_m9 9 rfl) rfl
theorem q2046 : (Jvm.Cond.fieldLink "ClockZonesModel" (62 : Nat) "ClockZonesModel" "tape" "[B") ∈ lw_all := lw_g (lw_at lw_m9 10 rfl) rfl
theorem q2047 : (Jvm.Cond.fieldLink "ClockZonesModel" (133 : Nat) "ClockZonesModel" "taped" "I") ∈ lw_all := lw_g (lw_at lw_m9 11 rfl) rfl
theorem q2048 : (Jvm.Cond.fieldLink "ClockZonesModel" (142 : Nat) "ClockZonesModel" "size" "I") ∈ lw_all := lw_g (lw_at lw_m9 12 rfl) rfl
theorem q2049 : (Jvm.Cond.fieldLink "ClockZonesModel" (139 : Nat) "ClockZonesModel" "next" "I") ∈ lw_all := lw_g (lw_at lw_m9 13 rfl) rfl
theorem q2050 : (Jvm.Cond.fieldLink "ClockZonesModel" (149 : Nat) "ClockZonesModel" "from" "I") ∈ lw_all := lw_g (lw_at lw_m9 14 rfl) rfl
theorem q2051 : (Jvm.Cond.fieldLink "ClockZonesModel" (155 : Nat) "ClockZonesModel" "token" "I") ∈ lw_all := lw_g (lw_at lw_m9 15 rfl) rfl
theorem q2052 : (Jvm.Cond.fieldLink "ClockZonesModel" (152 : Nat) "ClockZonesModel" "value" "I") ∈ lw_all := lw_g (lw_at lw_m9 16 rfl) rfl
theorem q2053 : (Jvm.Cond.fieldLink "ClockZonesModel" (166 : Nat) "ClockZonesModel" "fault" "I") ∈ lw_all := lw_g (lw_at lw_m9 17 rfl) rfl
theorem q2054 : (Jvm.Cond.fieldLink "ClockZonesModel" (66 : Nat) "ClockZonesModel" "faultPlace" "I") ∈ lw_all := lw_g (lw_at lw_m9 18 rfl) rfl
theorem q2055 : (Jvm.Cond.fieldLink "ClockZonesModel" (162 : Nat) "ClockZonesModel" "bad" "Z") ∈ lw_all := lw_g (lw_at lw_m9 19 rfl) rfl
theorem q2056 : (Jvm.Cond.fieldLink "ClockZonesModel" (69 : Nat) "ClockZonesModel" "clockName" "[I") ∈ lw_all := lw_g (lw_at lw_m9 20 rfl) rfl
theorem q2057 : (Jvm.Cond.fieldLink "ClockZonesModel" (72 : Nat) "ClockZonesModel" "placeName" "[I") ∈ lw_all := lw_g (lw_at lw_m9 21 rfl) rfl
theorem q2058 : (Jvm.Cond.fieldLink "ClockZonesModel" (203 : Nat) "ClockZonesModel" "newClocks" "I") ∈ lw_all := lw_g (lw_at lw_m9 22 rfl) rfl
theorem q2059 : (Jvm.Cond.fieldLink "ClockZonesModel" (189 : Nat) "ClockZonesModel" "newPlaces" "I") ∈ lw_all := lw_g (lw_at lw_m9 23 rfl) rfl
theorem q2060 : (Jvm.Cond.fieldLink "ClockZonesModel" (215 : Nat) "ClockZonesModel" "newEdges" "I") ∈ lw_all := lw_g (lw_at lw_m9 24 rfl) rfl
theorem q2061 : (Jvm.Cond.fieldLink "ClockZonesModel" (227 : Nat) "ClockZonesModel" "newStart" "I") ∈ lw_all := lw_g (lw_at lw_m9 25 rfl) rfl
theorem q2062 : (Jvm.Cond.fieldLink "ClockZonesModel" (224 : Nat) "ClockZonesModel" "hasStart" "Z") ∈ lw_all := lw_g (lw_at lw_m9 26 rfl) rfl
theorem q2063 : (Jvm.Cond.fieldLink "ClockZonesModel" (230 : Nat) "ClockZonesModel" "newLines" "I") ∈ lw_all := lw_g (lw_at lw_m9 27 rfl) rfl
theorem q2064 : (Jvm.Cond.fieldLink "ClockZonesModel" (75 : Nat) "ClockZonesModel" "newMany" "[I") ∈ lw_all := lw_g (lw_at lw_m9 28 rfl) rfl
theorem q2065 : (Jvm.Cond.fieldLink "ClockZonesModel" (78 : Nat) "ClockZonesModel" "newClock" "[I") ∈ lw_all := lw_g (lw_at lw_m9 29 rfl) rfl
theorem q2066 : (Jvm.Cond.fieldLink "ClockZonesModel" (81 : Nat) "ClockZonesModel" "newRel" "[I") ∈ lw_all := lw_g (lw_at lw_m9 30 rfl) rfl
theorem q2067 : (Jvm.Cond.fieldLink "ClockZonesModel" (84 : Nat) "ClockZonesModel" "newNumber" "[I") ∈ lw_all := lw_g (lw_at lw_m9 31 rfl) rfl
theorem q2068 : (Jvm.Cond.fieldLink "ClockZonesModel" (87 : Nat) "ClockZonesModel" "newFrom" "[I") ∈ lw_all := lw_g (lw_at lw_m9 32 rfl) rfl
theorem q2069 : (Jvm.Cond.fieldLink "ClockZonesModel" (90 : Nat) "ClockZonesModel" "newTo" "[I") ∈ lw_all := lw_g (lw_at lw_m9 33 rfl) rfl
theorem q2070 : (Jvm.Cond.fieldLink "ClockZonesModel" (93 : Nat) "ClockZonesModel" "newSets" "[I") ∈ lw_all := lw_g (lw_at lw_m9 34 rfl) rfl
theorem q2071 : (Jvm.Cond.fieldLink "ClockZonesModel" (96 : Nat) "ClockZonesModel" "newSetClock" "[I") ∈ lw_all := lw_g (lw_at lw_m9 35 rfl) rfl
theorem q2072 : (Jvm.Cond.fieldLink "ClockZonesModel" (99 : Nat) "ClockZonesModel" "newSetNumber" "[I") ∈ lw_all := lw_g (lw_at lw_m9 36 rfl) rfl
theorem q2073 : (Jvm.Cond.fieldLink "ClockZonesModel" (102 : Nat) "ClockZonesModel" "w" "[I") ∈ lw_all := lw_g (lw_at lw_m9 37 rfl) rfl
theorem q2074 : (Jvm.Cond.fieldLink "ClockZonesModel" (280 : Nat) "ClockZonesModel" "dim" "I") ∈ lw_all := lw_g (lw_at lw_m9 38 rfl) rfl
theorem q2075 : (Jvm.Cond.fieldLink "ClockZonesModel" (289 : Nat) "ClockZonesModel" "isVoid" "Z") ∈ lw_all := lw_g (lw_at lw_m9 39 rfl) rfl
theorem q2076 : (Jvm.Cond.fieldLink "ClockZonesModel" (105 : Nat) "ClockZonesModel" "times" "[I") ∈ lw_all := lw_g (lw_at lw_m9 40 rfl) rfl
theorem q2077 : (Jvm.Cond.fieldLink "ClockZonesModel" (108 : Nat) "ClockZonesModel" "road" "[I") ∈ lw_all := lw_g (lw_at lw_m9 41 rfl) rfl
theorem q2078 : (Jvm.Cond.fieldLink "ClockZonesModel" (414 : Nat) "ClockZonesModel" "roads" "I") ∈ lw_all := lw_g (lw_at lw_m9 42 rfl) rfl
theorem q2079 : (Jvm.Cond.fieldLink "ClockZonesModel" (111 : Nat) "ClockZonesModel" "since" "[I") ∈ lw_all := lw_g (lw_at lw_m9 43 rfl) rfl
theorem q2080 : (Jvm.Cond.fieldLink "ClockZonesModel" (114 : Nat) "ClockZonesModel" "began" "[I") ∈ lw_all := lw_g (lw_at lw_m9 44 rfl) rfl
theorem q2081 : (Jvm.Cond.fieldLink "ClockZonesModel" (117 : Nat) "ClockZonesModel" "sinceAt" "[I") ∈ lw_all := lw_g (lw_at lw_m9 45 rfl) rfl
theorem q2082 : (Jvm.Cond.fieldLink "ClockZonesModel" (120 : Nat) "ClockZonesModel" "beganAt" "[I") ∈ lw_all := lw_g (lw_at lw_m9 46 rfl) rfl
theorem q2083 : (Jvm.Cond.lays "ClockZonesModel" "ClockZonesModel" "thrown" "I") ∈ lw_all := lw_g (lw_at lw_m9 47 rfl) rfl
theorem q2084 : (Jvm.Cond.soleField "ClockZonesModel" "thrown") ∈ lw_all := lw_g (lw_at lw_m9 48 rfl) rfl
theorem q2085 : (Jvm.Cond.lays "ClockZonesModel" "ClockZonesModel" "lines" "I") ∈ lw_all := lw_g (lw_at lw_m9 49 rfl) rfl
theorem q2086 : (Jvm.Cond.soleField "ClockZonesModel" "lines") ∈ lw_all := lw_g (lw_at lw_m9 50 rfl) rfl
theorem q2087 : (Jvm.Cond.lays "ClockZonesModel" "ClockZonesModel" "clocks" "I") ∈ lw_all := lw_g (lw_at lw_m9 51 rfl) rfl
theorem q2088 : (Jvm.Cond.soleField "ClockZonesModel" "clocks") ∈ lw_all := lw_g (lw_at lw_m9 52 rfl) rfl
theorem q2089 : (Jvm.Cond.lays "ClockZonesModel" "ClockZonesModel" "places" "I") ∈ lw_all := lw_g (lw_at lw_m9 53 rfl) rfl
theorem q2090 : (Jvm.Cond.soleField "ClockZonesModel" "places") ∈ lw_all := lw_g (lw_at lw_m9 54 rfl) rfl
theorem q2091 : (Jvm.Cond.lays "ClockZonesModel" "ClockZonesModel" "edges" "I") ∈ lw_all := lw_g (lw_at lw_m9 55 rfl) rfl
theorem q2092 : (Jvm.Cond.soleField "ClockZonesModel" "edges") ∈ lw_all := lw_g (lw_at lw_m9 56 rfl) rfl
theorem q2093 : (Jvm.Cond.lays "ClockZonesModel" "ClockZonesModel" "start" "I") ∈ lw_all := lw_g (lw_at lw_m9 57 rfl) rfl
theorem q2094 : (Jvm.Cond.soleField "ClockZonesModel" "start") ∈ lw_all := lw_g (lw_at lw_m9 58 rfl) rfl
theorem q2095 : (Jvm.Cond.laysFinal "ClockZonesModel" "ClockZonesModel" "whenMany" "[I") ∈ lw_all := lw_g (lw_at lw_m9 59 rfl) rfl
theorem q2096 : (Jvm.Cond.soleField "ClockZonesModel" "whenMany") ∈ lw_all := lw_g (lw_at lw_m9 60 rfl) rfl
theorem q2097 : (Jvm.Cond.laysFinal "ClockZonesModel" "ClockZonesModel" "whenClock" "[I") ∈ lw_all := lw_g (lw_at lw_m9 61 rfl) rfl
theorem q2098 : (Jvm.Cond.soleField "ClockZonesModel" "whenClock") ∈ lw_all := lw_g (lw_at lw_m9 62 rfl) rfl
theorem q2099 : (Jvm.Cond.laysFinal "ClockZonesModel" "ClockZonesModel" "whenRel" "[I") ∈ lw_all := lw_g (lw_at lw_m9 63 rfl) rfl
theorem q2100 : (Jvm.Cond.soleField "ClockZonesModel" "whenRel") ∈ lw_all := lw_g (lw_at lw_m9 64 rfl) rfl
theorem q2101 : (Jvm.Cond.laysFinal "ClockZonesModel" "ClockZonesModel" "whenNumber" "[I") ∈ lw_all := lw_g (lw_at lw_m9 65 rfl) rfl
theorem q2102 : (Jvm.Cond.soleField "ClockZonesModel" "whenNumber") ∈ lw_all := lw_g (lw_at lw_m9 66 rfl) rfl
theorem q2103 : (Jvm.Cond.laysFinal "ClockZonesModel" "ClockZonesModel" "edgeFrom" "[I") ∈ lw_all := lw_g (lw_at lw_m9 67 rfl) rfl
theorem q2104 : (Jvm.Cond.soleField "ClockZonesModel" "edgeFrom") ∈ lw_all := lw_g (lw_at lw_m9 68 rfl) rfl
theorem q2105 : (Jvm.Cond.laysFinal "ClockZonesModel" "ClockZonesModel" "edgeTo" "[I") ∈ lw_all := lw_g (lw_at lw_m9 69 rfl) rfl
theorem q2106 : (Jvm.Cond.soleField "ClockZonesModel" "edgeTo") ∈ lw_all := lw_g (lw_at lw_m9 70 rfl) rfl
theorem q2107 : (Jvm.Cond.laysFinal "ClockZonesModel" "ClockZonesModel" "setMany" "[I") ∈ lw_all := lw_g (lw_at lw_m9 71 rfl) rfl
theorem q2108 : (Jvm.Cond.soleField "ClockZonesModel" "setMany") ∈ lw_all := lw_g (lw_at lw_m9 72 rfl) rfl
theorem q2109 : (Jvm.Cond.laysFinal "ClockZonesModel" "ClockZonesModel" "setClock" "[I") ∈ lw_all := lw_g (lw_at lw_m9 73 rfl) rfl
theorem q2110 : (Jvm.Cond.soleField "ClockZonesModel" "setClock") ∈ lw_all := lw_g (lw_at lw_m9 74 rfl) rfl
theorem q2111 : (Jvm.Cond.laysFinal "ClockZonesModel" "ClockZonesModel" "setNumber" "[I") ∈ lw_all := lw_g (lw_at lw_m9 75 rfl) rfl
theorem q2112 : (Jvm.Cond.soleField "ClockZonesModel" "setNumber") ∈ lw_all := lw_g (lw_at lw_m9 76 rfl) rfl
theorem q2113 : (Jvm.Cond.laysFinal "ClockZonesModel" "ClockZonesModel" "great" "[I") ∈ lw_all := lw_g (lw_at lw_m9 77 rfl) rfl
theorem q2114 : (Jvm.Cond.soleField "ClockZonesModel" "great") ∈ lw_all := lw_g (lw_at lw_m9 78 rfl) rfl
theorem q2115 : (Jvm.Cond.laysFinal "ClockZonesModel" "ClockZonesModel" "now" "[I") ∈ lw_all := lw_g (lw_at lw_m9 79 rfl) rfl
theorem q2116 : (Jvm.Cond.soleField "ClockZonesModel" "now") ∈ lw_all := lw_g (lw_at lw_m9 80 rfl) rfl
theorem q2117 : (Jvm.Cond.laysFinal "ClockZonesModel" "ClockZonesModel" "past" "[I") ∈ lw_all := lw_g (lw_at lw_m9 81 rfl) rfl
theorem q2118 : (Jvm.Cond.soleField "ClockZonesModel" "past") ∈ lw_all := lw_g (lw_at lw_m9 82 rfl) rfl
theorem q2119 : (Jvm.Cond.lays "ClockZonesModel" "ClockZonesModel" "pasts" "I") ∈ lw_all := lw_g (lw_at lw_m9 83 rfl) rfl
theorem q2120 : (Jvm.Cond.soleField "ClockZonesModel" "pasts") ∈ lw_all := lw_g (lw_at lw_m9 84 rfl) rfl
theorem q2121 : (Jvm.Cond.laysFinal "ClockZonesModel" "ClockZonesModel" "nodePlace" "[I") ∈ lw_all := lw_g (lw_at lw_m9 85 rfl) rfl
theorem q2122 : (Jvm.Cond.soleField "ClockZonesModel" "nodePlace") ∈ lw_all := lw_g (lw_at lw_m9 86 rfl) rfl
theorem q2123 : (Jvm.Cond.laysFinal "ClockZonesModel" "ClockZonesModel" "nodeBy" "[I") ∈ lw_all := lw_g (lw_at lw_m9 87 rfl) rfl
theorem q2124 : (Jvm.Cond.soleField "ClockZonesModel" "nodeBy") ∈ lw_all := lw_g (lw_at lw_m9 88 rfl) rfl
theorem q2125 : (Jvm.Cond.laysFinal "ClockZonesModel" "ClockZonesModel" "nodeEdge" "[I") ∈ lw_all := lw_g (lw_at lw_m9 89 rfl) rfl
theorem q2126 : (Jvm.Cond.soleField "ClockZonesModel" "nodeEdge") ∈ lw_all := lw_g (lw_at lw_m9 90 rfl) rfl
theorem q2127 : (Jvm.Cond.laysFinal "ClockZonesModel" "ClockZonesModel" "nodeTable" "[I") ∈ lw_all := lw_g (lw_at lw_m9 91 rfl) rfl
theorem q2128 : (Jvm.Cond.soleField "ClockZonesModel" "nodeTable") ∈ lw_all := lw_g (lw_at lw_m9 92 rfl) rfl
theorem q2129 : (Jvm.Cond.lays "ClockZonesModel" "ClockZonesModel" "nodes" "I") ∈ lw_all := lw_g (lw_at lw_m9 93 rfl) rfl
theorem q2130 : (Jvm.Cond.soleField "ClockZonesModel" "nodes") ∈ lw_all := lw_g (lw_at lw_m9 94 rfl) rfl
theorem q2131 : (Jvm.Cond.laysFinal "ClockZonesModel" "ClockZonesModel" "tape" "[B") ∈ lw_all := lw_g (lw_at lw_m9 95 rfl) rfl
theorem q2132 : (Jvm.Cond.soleField "ClockZonesModel" "tape") ∈ lw_all := lw_g (lw_at lw_m9 96 rfl) rfl
theorem q2133 : (Jvm.Cond.lays "ClockZonesModel" "ClockZonesModel" "taped" "I") ∈ lw_all := lw_g (lw_at lw_m9 97 rfl) rfl
theorem q2134 : (Jvm.Cond.soleField "ClockZonesModel" "taped") ∈ lw_all := lw_g (lw_at lw_m9 98 rfl) rfl
theorem q2135 : (Jvm.Cond.lays "ClockZonesModel" "ClockZonesModel" "size" "I") ∈ lw_all := lw_g (lw_at lw_m9 99 rfl) rfl
theorem q2136 : (Jvm.Cond.soleField "ClockZonesModel" "size") ∈ lw_all := lw_g (lw_at lw_m9 100 rfl) rfl
theorem q2137 : (Jvm.Cond.lays "ClockZonesModel" "ClockZonesModel" "next" "I") ∈ lw_all := lw_g (lw_at lw_m9 101 rfl) rfl
theorem q2138 : (Jvm.Cond.soleField "ClockZonesModel" "next") ∈ lw_all := lw_g (lw_at lw_m9 102 rfl) rfl
theorem q2139 : (Jvm.Cond.lays "ClockZonesModel" "ClockZonesModel" "from" "I") ∈ lw_all := lw_g (lw_at lw_m9 103 rfl) rfl
theorem q2140 : (Jvm.Cond.soleField "ClockZonesModel" "from") ∈ lw_all := lw_g (lw_at lw_m9 104 rfl) rfl
theorem q2141 : (Jvm.Cond.lays "ClockZonesModel" "ClockZonesModel" "token" "I") ∈ lw_all := lw_g (lw_at lw_m9 105 rfl) rfl
theorem q2142 : (Jvm.Cond.soleField "ClockZonesModel" "token") ∈ lw_all := lw_g (lw_at lw_m9 106 rfl) rfl
theorem q2143 : (Jvm.Cond.lays "ClockZonesModel" "ClockZonesModel" "value" "I") ∈ lw_all := lw_g (lw_at lw_m9 107 rfl) rfl
theorem q2144 : (Jvm.Cond.soleField "ClockZonesModel" "value") ∈ lw_all := lw_g (lw_at lw_m9 108 rfl) rfl
theorem q2145 : (Jvm.Cond.lays "ClockZonesModel" "ClockZonesModel" "fault" "I") ∈ lw_all := lw_g (lw_at lw_m9 109 rfl) rfl
theorem q2146 : (Jvm.Cond.soleField "ClockZonesModel" "fault") ∈ lw_all := lw_g (lw_at lw_m9 110 rfl) rfl
theorem q2147 : (Jvm.Cond.lays "ClockZonesModel" "ClockZonesModel" "faultPlace" "I") ∈ lw_all := lw_g (lw_at lw_m9 111 rfl) rfl
theorem q2148 : (Jvm.Cond.soleField "ClockZonesModel" "faultPlace") ∈ lw_all := lw_g (lw_at lw_m9 112 rfl) rfl
theorem q2149 : (Jvm.Cond.lays "ClockZonesModel" "ClockZonesModel" "bad" "Z") ∈ lw_all := lw_g (lw_at lw_m9 113 rfl) rfl
theorem q2150 : (Jvm.Cond.soleField "ClockZonesModel" "bad") ∈ lw_all := lw_g (lw_at lw_m9 114 rfl) rfl
theorem q2151 : (Jvm.Cond.laysFinal "ClockZonesModel" "ClockZonesModel" "clockName" "[I") ∈ lw_all := lw_g (lw_at lw_m9 115 rfl) rfl
theorem q2152 : (Jvm.Cond.soleField "ClockZonesModel" "clockName") ∈ lw_all := lw_g (lw_at lw_m9 116 rfl) rfl
theorem q2153 : (Jvm.Cond.laysFinal "ClockZonesModel" "ClockZonesModel" "placeName" "[I") ∈ lw_all := lw_g (lw_at lw_m9 117 rfl) rfl
theorem q2154 : (Jvm.Cond.soleField "ClockZonesModel" "placeName") ∈ lw_all := lw_g (lw_at lw_m9 118 rfl) rfl
theorem q2155 : (Jvm.Cond.lays "ClockZonesModel" "ClockZonesModel" "newClocks" "I") ∈ lw_all := lw_g (lw_at lw_m9 119 rfl) rfl
theorem q2156 : (Jvm.Cond.soleField "ClockZonesModel" "newClocks") ∈ lw_all := lw_g (lw_at lw_m9 120 rfl) rfl
theorem q2157 : (Jvm.Cond.lays "ClockZonesModel" "ClockZonesModel" "newPlaces" "I") ∈ lw_all := lw_g (lw_at lw_m9 121 rfl) rfl
theorem q2158 : (Jvm.Cond.soleField "ClockZonesModel" "newPlaces") ∈ lw_all := lw_g (lw_at lw_m9 122 rfl) rfl
theorem q2159 : (Jvm.Cond.lays "ClockZonesModel" "ClockZonesModel" "newEdges" "I") ∈ lw_all := lw_g (lw_at lw_m9 123 rfl) rfl
theorem q2160 : (Jvm.Cond.soleField "ClockZonesModel" "newEdges") ∈ lw_all := lw_g (lw_at lw_m9 124 rfl) rfl
theorem q2161 : (Jvm.Cond.lays "ClockZonesModel" "ClockZonesModel" "newStart" "I") ∈ lw_all := lw_g (lw_at lw_m9 125 rfl) rfl
theorem q2162 : (Jvm.Cond.soleField "ClockZonesModel" "newStart") ∈ lw_all := lw_g (lw_at lw_m9 126 rfl) rfl
theorem q2163 : (Jvm.Cond.lays "ClockZonesModel" "ClockZonesModel" "hasStart" "Z") ∈ lw_all := lw_g (lw_at lw_m9 127 rfl) rfl
theorem q2164 : (Jvm.Cond.soleField "ClockZonesModel" "hasStart") ∈ lw_all := lw_g (lw_at lw_m9 128 rfl) rfl
theorem q2165 : (Jvm.Cond.lays "ClockZonesModel" "ClockZonesModel" "newLines" "I") ∈ lw_all := lw_g (lw_at lw_m9 129 rfl) rfl
theorem q2166 : (Jvm.Cond.soleField "ClockZonesModel" "newLines") ∈ lw_all := lw_g (lw_at lw_m9 130 rfl) rfl
theorem q2167 : (Jvm.Cond.laysFinal "ClockZonesModel" "ClockZonesModel" "newMany" "[I") ∈ lw_all := lw_g (lw_at lw_m9 131 rfl) rfl
theorem q2168 : (Jvm.Cond.soleField "ClockZonesModel" "newMany") ∈ lw_all := lw_g (lw_at lw_m9 132 rfl) rfl
theorem q2169 : (Jvm.Cond.laysFinal "ClockZonesModel" "ClockZonesModel" "newClock" "[I") ∈ lw_all := lw_g (lw_at lw_m9 133 rfl) rfl
theorem q2170 : (Jvm.Cond.soleField "ClockZonesModel" "newClock") ∈ lw_all := lw_g (lw_at lw_m9 134 rfl) rfl
theorem q2171 : (Jvm.Cond.laysFinal "ClockZonesModel" "ClockZonesModel" "newRel" "[I") ∈ lw_all := lw_g (lw_at lw_m9 135 rfl) rfl
theorem q2172 : (Jvm.Cond.soleField "ClockZonesModel" "newRel") ∈ lw_all := lw_g (lw_at lw_m9 136 rfl) rfl
theorem q2173 : (Jvm.Cond.laysFinal "ClockZonesModel" "ClockZonesModel" "newNumber" "[I") ∈ lw_all := lw_g (lw_at lw_m9 137 rfl) rfl
theorem q2174 : (Jvm.Cond.soleField "ClockZonesModel" "newNumber") ∈ lw_all := lw_g (lw_at lw_m9 138 rfl) rfl
theorem q2175 : (Jvm.Cond.laysFinal "ClockZonesModel" "ClockZonesModel" "newFrom" "[I") ∈ lw_all := lw_g (lw_at lw_m9 139 rfl) rfl
theorem q2176 : (Jvm.Cond.soleField "ClockZonesModel" "newFrom") ∈ lw_all := lw_g (lw_at lw_m9 140 rfl) rfl
theorem q2177 : (Jvm.Cond.laysFinal "ClockZonesModel" "ClockZonesModel" "newTo" "[I") ∈ lw_all := lw_g (lw_at lw_m9 141 rfl) rfl
theorem q2178 : (Jvm.Cond.soleField "ClockZonesModel" "newTo") ∈ lw_all := lw_g (lw_at lw_m9 142 rfl) rfl
theorem q2179 : (Jvm.Cond.laysFinal "ClockZonesModel" "ClockZonesModel" "newSets" "[I") ∈ lw_all := lw_g (lw_at lw_m9 143 rfl) rfl
theorem q2180 : (Jvm.Cond.soleField "ClockZonesModel" "newSets") ∈ lw_all := lw_g (lw_at lw_m9 144 rfl) rfl
theorem q2181 : (Jvm.Cond.laysFinal "ClockZonesModel" "ClockZonesModel" "newSetClock" "[I") ∈ lw_all := lw_g (lw_at lw_m9 145 rfl) rfl
theorem q2182 : (Jvm.Cond.soleField "ClockZonesModel" "newSetClock") ∈ lw_all := lw_g (lw_at lw_m9 146 rfl) rfl
theorem q2183 : (Jvm.Cond.laysFinal "ClockZonesModel" "ClockZonesModel" "newSetNumber" "[I") ∈ lw_all := lw_g (lw_at lw_m9 147 rfl) rfl
theorem q2184 : (Jvm.Cond.soleField "ClockZonesModel" "newSetNumber") ∈ lw_all := lw_g (lw_at lw_m9 148 rfl) rfl
theorem q2185 : (Jvm.Cond.laysFinal "ClockZonesModel" "ClockZonesModel" "w" "[I") ∈ lw_all := lw_g (lw_at lw_m9 149 rfl) rfl
theorem q2186 : (Jvm.Cond.soleField "ClockZonesModel" "w") ∈ lw_all := lw_g (lw_at lw_m9 150 rfl) rfl
theorem q2187 : (Jvm.Cond.lays "ClockZonesModel" "ClockZonesModel" "dim" "I") ∈ lw_all := lw_g (lw_at lw_m9 151 rfl) rfl
theorem q2188 : (Jvm.Cond.soleField "ClockZonesModel" "dim") ∈ lw_all := lw_g (lw_at lw_m9 152 rfl) rfl
theorem q2189 : (Jvm.Cond.lays "ClockZonesModel" "ClockZonesModel" "isVoid" "Z") ∈ lw_all := lw_g (lw_at lw_m9 153 rfl) rfl
theorem q2190 : (Jvm.Cond.soleField "ClockZonesModel" "isVoid") ∈ lw_all := lw_g (lw_at lw_m9 154 rfl) rfl
theorem q2191 : (Jvm.Cond.laysFinal "ClockZonesModel" "ClockZonesModel" "times" "[I") ∈ lw_all := lw_g (lw_at lw_m9 155 rfl) rfl
theorem q2192 : (Jvm.Cond.soleField "ClockZonesModel" "times") ∈ lw_all := lw_g (lw_at lw_m9 156 rfl) rfl
theorem q2193 : (Jvm.Cond.laysFinal "ClockZonesModel" "ClockZonesModel" "road" "[I") ∈ lw_all := lw_g (lw_at lw_m9 157 rfl) rfl
theorem q2194 : (Jvm.Cond.soleField "ClockZonesModel" "road") ∈ lw_all := lw_g (lw_at lw_m9 158 rfl) rfl
theorem q2195 : (Jvm.Cond.lays "ClockZonesModel" "ClockZonesModel" "roads" "I") ∈ lw_all := lw_g (lw_at lw_m9 159 rfl) rfl
theorem q2196 : (Jvm.Cond.soleField "ClockZonesModel" "roads") ∈ lw_all := lw_g (lw_at lw_m9 160 rfl) rfl
theorem q2197 : (Jvm.Cond.laysFinal "ClockZonesModel" "ClockZonesModel" "since" "[I") ∈ lw_all := lw_g (lw_at lw_m9 161 rfl) rfl
theorem q2198 : (Jvm.Cond.soleField "ClockZonesModel" "since") ∈ lw_all := lw_g (lw_at lw_m9 162 rfl) rfl
theorem q2199 : (Jvm.Cond.laysFinal "ClockZonesModel" "ClockZonesModel" "began" "[I") ∈ lw_all := lw_g (lw_at lw_m9 163 rfl) rfl
theorem q2200 : (Jvm.Cond.soleField "ClockZonesModel" "began") ∈ lw_all := lw_g (lw_at lw_m9 164 rfl) rfl
theorem q2201 : (Jvm.Cond.laysFinal "ClockZonesModel" "ClockZonesModel" "sinceAt" "[I") ∈ lw_all := lw_g (lw_at lw_m9 165 rfl) rfl
theorem q2202 : (Jvm.Cond.soleField "ClockZonesModel" "sinceAt") ∈ lw_all := lw_g (lw_at lw_m9 166 rfl) rfl
theorem q2203 : (Jvm.Cond.laysFinal "ClockZonesModel" "ClockZonesModel" "beganAt" "[I") ∈ lw_all := lw_g (lw_at lw_m9 167 rfl) rfl
theorem q2204 : (Jvm.Cond.soleField "ClockZonesModel" "beganAt") ∈ lw_all := lw_g (lw_at lw_m9 168 rfl) rfl
theorem q2205 : (Jvm.Cond.superclass "ClockZonesModel" "java/lang/Object") ∈ lw_all := lw_g (lw_at lw_m9 169 rfl) rfl
theorem q2207 : (Jvm.Cond.instanceMethod ({ cls := "ClockZonesModel", name := "feed", desc := "(IIIII)I" } : Jvm.MethodName)) ∈ lw_all := lw_g (lw_at lw_m9 171 rfl) rfl
theorem q2208 : (Jvm.Cond.selects "ClockZonesModel" ({ cls := "ClockZonesModel", name := "feed", desc := "(IIIII)I" } : Jvm.MethodName) ({ cls := "ClockZonesModel", name := "feed", desc := "(IIIII)I" } : Jvm.MethodName)) ∈ lw_all := lw_g (lw_at lw_m9 172 rfl) rfl
theorem q2209 : (Jvm.Cond.code ({ cls := "ClockZonesModel", name := "feed", desc := "(IIIII)I" } : Jvm.MethodName) prog_12_method_6_code (6 : Nat) (Option.some Jvm.ClassFile.FieldType.int)) ∈ lw_all := lw_g (lw_at lw_m9 173 rfl) rfl
theorem q2210 : (Jvm.Cond.methodLink "ClockZonesModel" (136 : Nat) ({ cls := "ClockZonesModel", name := "four", desc := "(I)V" } : Jvm.MethodName)) ∈ lw_all := lw_g (lw_at lw_m9 174 rfl) rfl
theorem q2211 : (Jvm.Cond.privateMethod ({ cls := "ClockZonesModel", name := "four", desc := "(I)V" } : Jvm.MethodName)) ∈ lw_tbl := lw_at lw_m9 175 rfl
theorem q2212 : (Jvm.Cond.instanceMethod ({ cls := "ClockZonesModel", name := "four", desc := "(I)V" } : Jvm.MethodName)) ∈ lw_all := lw_g (lw_at lw_m9 176 rfl) rfl
theorem q2213 : (Jvm.Cond.code ({ cls := "ClockZonesModel", name := "four", desc := "(I)V" } : Jvm.MethodName) prog_12_method_5_code (3 : Nat) (Option.none : Option Jvm.ClassFile.FieldType)) ∈ lw_all := lw_g (lw_at lw_m9 177 rfl) rfl
theorem q2215 : (Jvm.Cond.instanceMethod ({ cls := "ClockZonesModel", name := "text", desc := "(I)I" } : Jvm.MethodName)) ∈ lw_all := lw_g (lw_at lw_m9 179 rfl) rfl
theorem q2216 : (Jvm.Cond.selects "ClockZonesModel" ({ cls := "ClockZonesModel", name := "text", desc := "(I)I" } : Jvm.MethodName) ({ cls := "ClockZonesModel", name := "text", desc := "(I)I" } : Jvm.MethodName)) ∈ lw_all := lw_g (lw_at lw_m9 180 rfl) rfl
theorem q2217 : (Jvm.Cond.code ({ cls := "ClockZonesModel", name := "text", desc := "(I)I" } : Jvm.MethodName) prog_12_method_21_code (2 : Nat) (Option.some Jvm.ClassFile.FieldType.int)) ∈ lw_all := lw_g (lw_at lw_m9 181 rfl) rfl
theorem q2218 : (Jvm.Cond.methodLink "ClockZonesModel" (158 : Nat) ({ cls := "ClockZonesModel", name := "isIn", desc := "(III)Z" } : Jvm.MethodName)) ∈ lw_all := lw_g (lw_at lw_m9 182 rfl) rfl
theorem q2219 : (Jvm.Cond.static ({ cls := "ClockZonesModel", name := "isIn", desc := "(III)Z" } : Jvm.MethodName)) ∈ lw_all := lw_g (lw_at lw_m9 183 rfl) rfl
theorem q2220 : (Jvm.Cond.code ({ cls := "ClockZonesModel", name := "isIn", desc := "(III)Z" } : Jvm.MethodName) prog_12_method_2_code (3 : Nat) (Option.some Jvm.ClassFile.FieldType.boolean)) ∈ lw_all := lw_g (lw_at lw_m9 184 rfl) rfl
theorem q2221 : (Jvm.Cond.methodLink "ClockZonesModel" (178 : Nat) ({ cls := "ClockZonesModel", name := "advance", desc := "()V" } : Jvm.MethodName)) ∈ lw_all := lw_g (lw_at lw_m9 185 rfl) rfl
theorem q2222 : (Jvm.Cond.privateMethod ({ cls := "ClockZonesModel", name := "advance", desc := "()V" } : Jvm.MethodName)) ∈ lw_tbl := lw_at lw_m9 186 rfl
theorem q2223 : (Jvm.Cond.instanceMethod ({ cls := "ClockZonesModel", name := "advance", desc := "()V" } : Jvm.MethodName)) ∈ lw_all := lw_g (lw_at lw_m9 187 rfl) rfl
theorem q2224 : (Jvm.Cond.code ({ cls := "ClockZonesModel", name := "advance", desc := "()V" } : Jvm.MethodName) prog_12_method_8_code (3 : Nat) (Option.none : Option Jvm.ClassFile.FieldType)) ∈ lw_all := lw_g (lw_at lw_m9 188 rfl) rfl
theorem q2225 : (Jvm.Cond.methodLink "ClockZonesModel" (145 : Nat) ({ cls := "ClockZonesModel", name := "see", desc := "()I" } : Jvm.MethodName)) ∈ lw_all := lw_g (lw_at lw_m9 189 rfl) rfl
theorem q2226 : (Jvm.Cond.privateMethod ({ cls := "ClockZonesModel", name := "see", desc := "()I" } : Jvm.MethodName)) ∈ lw_tbl := lw_at lw_m9 190 rfl
theorem q2227 : (Jvm.Cond.instanceMethod ({ cls := "ClockZonesModel", name := "see", desc := "()I" } : Jvm.MethodName)) ∈ lw_all := lw_g (lw_at lw_m9 191 rfl) rfl
theorem q2228 : (Jvm.Cond.code ({ cls := "ClockZonesModel", name := "see", desc := "()I" } : Jvm.MethodName) prog_12_method_7_code (1 : Nat) (Option.some Jvm.ClassFile.FieldType.int)) ∈ lw_all := lw_g (lw_at lw_m9 192 rfl) rfl
theorem q2229 : (Jvm.Cond.methodLink "ClockZonesModel" (233 : Nat) ({ cls := "ClockZonesModel", name := "lineHere", desc := "()V" } : Jvm.MethodName)) ∈ lw_all := lw_g (lw_at lw_m9 193 rfl) rfl
theorem q2230 : (Jvm.Cond.privateMethod ({ cls := "ClockZonesModel", name := "lineHere", desc := "()V" } : Jvm.MethodName)) ∈ lw_tbl := lw_at lw_m9 194 rfl
theorem q2231 : (Jvm.Cond.instanceMethod ({ cls := "ClockZonesModel", name := "lineHere", desc := "()V" } : Jvm.MethodName)) ∈ lw_all := lw_g (lw_at lw_m9 195 rfl) rfl
theorem q2232 : (Jvm.Cond.code ({ cls := "ClockZonesModel", name := "lineHere", desc := "()V" } : Jvm.MethodName) prog_12_method_20_code (3 : Nat) (Option.none : Option Jvm.ClassFile.FieldType)) ∈ lw_all := lw_g (lw_at lw_m9 196 rfl) rfl
theorem q2233 : (Jvm.Cond.constant "ClockZonesModel" (169 : Nat) (3554411 : Int32)) ∈ lw_all := lw_g (lw_at lw_m9 197 rfl) rfl
theorem q2234 : (Jvm.Cond.methodLink "ClockZonesModel" (196 : Nat) ({ cls := "ClockZonesModel", name := "isWord", desc := "(I)Z" } : Jvm.MethodName)) ∈ lw_all := lw_g (lw_at lw_m9 198 rfl) rfl
theorem q2235 : (Jvm.Cond.privateMethod ({ cls := "ClockZonesModel", name := "isWord", desc := "(I)Z" } : Jvm.MethodName)) ∈ lw_tbl := lw_at lw_m9 199 rfl
theorem q2236 : (Jvm.Cond.instanceMethod ({ cls := "ClockZonesModel", name := "isWord", desc := "(I)Z" } : Jvm.MethodName)) ∈ lw_all := lw_g (lw_at lw_m9 200 rfl) rfl
theorem q2237 : (Jvm.Cond.code ({ cls := "ClockZonesModel", name := "isWord", desc := "(I)Z" } : Jvm.MethodName) prog_12_method_10_code (2 : Nat) (Option.some Jvm.ClassFile.FieldType.boolean)) ∈ lw_all := lw_g (lw_at lw_m9 201 rfl) rfl
theorem q2238 : (Jvm.Cond.methodLink "ClockZonesModel" (200 : Nat) ({ cls := "ClockZonesModel", name := "opens", desc := "(ZI)V" } : Jvm.MethodName)) ∈ lw_all := lw_g (lw_at lw_m9 202 rfl) rfl
theorem q2239 : (Jvm.Cond.privateMethod ({ cls := "ClockZonesModel", name := "opens", desc := "(ZI)V" } : Jvm.MethodName)) ∈ lw_tbl := lw_at lw_m9 203 rfl
theorem q2240 : (Jvm.Cond.instanceMethod ({ cls := "ClockZonesModel", name := "opens", desc := "(ZI)V" } : Jvm.MethodName)) ∈ lw_all := lw_g (lw_at lw_m9 204 rfl) rfl
theorem q2241 : (Jvm.Cond.code ({ cls := "ClockZonesModel", name := "opens", desc := "(ZI)V" } : Jvm.MethodName) prog_12_method_14_code (3 : Nat) (Option.none : Option Jvm.ClassFile.FieldType)) ∈ lw_all := lw_g (lw_at lw_m9 205 rfl) rfl
theorem q2242 : (Jvm.Cond.methodLink "ClockZonesModel" (174 : Nat) ({ cls := "ClockZonesModel", name := "must", desc := "(ZI)V" } : Jvm.MethodName)) ∈ lw_all := lw_g (lw_at lw_m9 206 rfl) rfl
theorem q2243 : (Jvm.Cond.privateMethod ({ cls := "ClockZonesModel", name := "must", desc := "(ZI)V" } : Jvm.MethodName)) ∈ lw_tbl := lw_at lw_m9 207 rfl
theorem q2244 : (Jvm.Cond.instanceMethod ({ cls := "ClockZonesModel", name := "must", desc := "(ZI)V" } : Jvm.MethodName)) ∈ lw_all := lw_g (lw_at lw_m9 208 rfl) rfl
theorem q2245 : (Jvm.Cond.code ({ cls := "ClockZonesModel", name := "must", desc := "(ZI)V" } : Jvm.MethodName) prog_12_method_9_code (3 : Nat) (Option.none : Option Jvm.ClassFile.FieldType)) ∈ lw_all := lw_g (lw_at lw_m9 209 rfl) rfl
theorem q2246 : (Jvm.Cond.methodLink "ClockZonesModel" (209 : Nat) ({ cls := "ClockZonesModel", name := "freshHere", desc := "([II)I" } : Jvm.MethodName)) ∈ lw_all := lw_g (lw_at lw_m9 210 rfl) rfl
theorem q2247 : (Jvm.Cond.privateMethod ({ cls := "ClockZonesModel", name := "freshHere", desc := "([II)I" } : Jvm.MethodName)) ∈ lw_tbl := lw_at lw_m9 211 rfl
theorem q2248 : (Jvm.Cond.instanceMethod ({ cls := "ClockZonesModel", name := "freshHere", desc := "([II)I" } : Jvm.MethodName)) ∈ lw_all := lw_g (lw_at lw_m9 212 rfl) rfl
theorem q2249 : (Jvm.Cond.code ({ cls := "ClockZonesModel", name := "freshHere", desc := "([II)I" } : Jvm.MethodName) prog_12_method_15_code (4 : Nat) (Option.some Jvm.ClassFile.FieldType.int)) ∈ lw_all := lw_g (lw_at lw_m9 213 rfl) rfl
theorem q2250 : (Jvm.Cond.methodLink "ClockZonesModel" (181 : Nat) ({ cls := "ClockZonesModel", name := "isName", desc := "()Z" } : Jvm.MethodName)) ∈ lw_all := lw_g (lw_at lw_m9 214 rfl) rfl
theorem q2251 : (Jvm.Cond.privateMethod ({ cls := "ClockZonesModel", name := "isName", desc := "()Z" } : Jvm.MethodName)) ∈ lw_tbl := lw_at lw_m9 215 rfl
theorem q2252 : (Jvm.Cond.instanceMethod ({ cls := "ClockZonesModel", name := "isName", desc := "()Z" } : Jvm.MethodName)) ∈ lw_all := lw_g (lw_at lw_m9 216 rfl) rfl
theorem q2253 : (Jvm.Cond.code ({ cls := "ClockZonesModel", name := "isName", desc := "()Z" } : Jvm.MethodName) prog_12_method_11_code (1 : Nat) (Option.some Jvm.ClassFile.FieldType.boolean)) ∈ lw_all := lw_g (lw_at lw_m9 217 rfl) rfl
theorem q2254 : (Jvm.Cond.constant "ClockZonesModel" (170 : Nat) (17171557 : Int32)) ∈ lw_all := lw_g (lw_at lw_m9 218 rfl) rfl
theorem q2255 : (Jvm.Cond.constant "ClockZonesModel" (171 : Nat) (168165 : Int32)) ∈ lw_all := lw_g (lw_at lw_m9 219 rfl) rfl
theorem q2256 : (Jvm.Cond.constant "ClockZonesModel" (172 : Nat) (20579924 : Int32)) ∈ lw_all := lw_g (lw_at lw_m9 220 rfl) rfl
theorem q2257 : (Jvm.Cond.constant "ClockZonesModel" (173 : Nat) (762030 : Int32)) ∈ lw_all := lw_g (lw_at lw_m9 221 rfl) rfl
theorem q2258 : (Jvm.Cond.methodLink "ClockZonesModel" (185 : Nat) ({ cls := "ClockZonesModel", name := "at", desc := "([III)I" } : Jvm.MethodName)) ∈ lw_all := lw_g (lw_at lw_m9 222 rfl) rfl
theorem q2259 : (Jvm.Cond.static ({ cls := "ClockZonesModel", name := "at", desc := "([III)I" } : Jvm.MethodName)) ∈ lw_all := lw_g (lw_at lw_m9 223 rfl) rfl
theorem q2260 : (Jvm.Cond.code ({ cls := "ClockZonesModel", name := "at", desc := "([III)I" } : Jvm.MethodName) prog_12_method_13_code (4 : Nat) (Option.some Jvm.ClassFile.FieldType.int)) ∈ lw_all := lw_g (lw_at lw_m9 224 rfl) rfl
theorem q2261 : (Jvm.Cond.methodLink "ClockZonesModel" (212 : Nat) ({ cls := "ClockZonesModel", name := "whensHere", desc := "(I)V" } : Jvm.MethodName)) ∈ lw_all := lw_g (lw_at lw_m9 225 rfl) rfl
theorem q2262 : (Jvm.Cond.privateMethod ({ cls := "ClockZonesModel", name := "whensHere", desc := "(I)V" } : Jvm.MethodName)) ∈ lw_tbl := lw_at lw_m9 226 rfl
theorem q2263 : (Jvm.Cond.instanceMethod ({ cls := "ClockZonesModel", name := "whensHere", desc := "(I)V" } : Jvm.MethodName)) ∈ lw_all := lw_g (lw_at lw_m9 227 rfl) rfl
theorem q2264 : (Jvm.Cond.code ({ cls := "ClockZonesModel", name := "whensHere", desc := "(I)V" } : Jvm.MethodName) prog_12_method_18_code (6 : Nat) (Option.none : Option Jvm.ClassFile.FieldType)) ∈ lw_all := lw_g (lw_at lw_m9 228 rfl) rfl
theorem q2265 : (Jvm.Cond.methodLink "ClockZonesModel" (192 : Nat) ({ cls := "ClockZonesModel", name := "seenHere", desc := "([II)I" } : Jvm.MethodName)) ∈ lw_all := lw_g (lw_at lw_m9 229 rfl) rfl
theorem q2266 : (Jvm.Cond.privateMethod ({ cls := "ClockZonesModel", name := "seenHere", desc := "([II)I" } : Jvm.MethodName)) ∈ lw_tbl := lw_at lw_m9 230 rfl
theorem q2267 : (Jvm.Cond.instanceMethod ({ cls := "ClockZonesModel", name := "seenHere", desc := "([II)I" } : Jvm.MethodName)) ∈ lw_all := lw_g (lw_at lw_m9 231 rfl) rfl
theorem q2268 : (Jvm.Cond.code ({ cls := "ClockZonesModel", name := "seenHere", desc := "([II)I" } : Jvm.MethodName) prog_12_method_16_code (3 : Nat) (Option.some Jvm.ClassFile.FieldType.int)) ∈ lw_all := lw_g (lw_at lw_m9 232 rfl) rfl
theorem q2269 : (Jvm.Cond.methodLink "ClockZonesModel" (206 : Nat) ({ cls := "ClockZonesModel", name := "numberHere", desc := "()I" } : Jvm.MethodName)) ∈ lw_all := lw_g (lw_at lw_m9 233 rfl) rfl
theorem q2270 : (Jvm.Cond.privateMethod ({ cls := "ClockZonesModel", name := "numberHere", desc := "()I" } : Jvm.MethodName)) ∈ lw_tbl := lw_at lw_m9 234 rfl
theorem q2271 : (Jvm.Cond.instanceMethod ({ cls := "ClockZonesModel", name := "numberHere", desc := "()I" } : Jvm.MethodName)) ∈ lw_all := lw_g (lw_at lw_m9 235 rfl) rfl
theorem q2272 : (Jvm.Cond.code ({ cls := "ClockZonesModel", name := "numberHere", desc := "()I" } : Jvm.MethodName) prog_12_method_12_code (2 : Nat) (Option.some Jvm.ClassFile.FieldType.int)) ∈ lw_all := lw_g (lw_at lw_m9 236 rfl) rfl
theorem q2273 : (Jvm.Cond.methodLink "ClockZonesModel" (218 : Nat) ({ cls := "ClockZonesModel", name := "placeHere", desc := "()I" } : Jvm.MethodName)) ∈ lw_all := lw_g (lw_at lw_m9 237 rfl) rfl
theorem q2274 : (Jvm.Cond.privateMethod ({ cls := "ClockZonesModel", name := "placeHere", desc := "()I" } : Jvm.MethodName)) ∈ lw_tbl := lw_at lw_m9 238 rfl
theorem q2275 : (Jvm.Cond.instanceMethod ({ cls := "ClockZonesModel", name := "placeHere", desc := "()I" } : Jvm.MethodName)) ∈ lw_all := lw_g (lw_at lw_m9 239 rfl) rfl
theorem q2276 : (Jvm.Cond.code ({ cls := "ClockZonesModel", name := "placeHere", desc := "()I" } : Jvm.MethodName) prog_12_method_17_code (2 : Nat) (Option.some Jvm.ClassFile.FieldType.int)) ∈ lw_all := lw_g (lw_at lw_m10 0 rfl) rfl
theorem q2277 : (Jvm.Cond.methodLink "ClockZonesModel" (221 : Nat) ({ cls := "ClockZonesModel", name := "setsHere", desc := "(I)V" } : Jvm.MethodName)) ∈ lw_all := lw_g (lw_at lw_m10 1 rfl) rfl
theorem q2278 : (Jvm.Cond.privateMethod ({ cls := "ClockZonesModel", name := "setsHere", desc := "(I)V" } : Jvm.MethodName)) ∈ lw_tbl := lw_at lw_m10 2 rfl
theorem q2279 : (Jvm.Cond.instanceMethod ({ cls := "ClockZonesModel", name := "setsHere", desc := "(I)V" } : Jvm.MethodName)) ∈ lw_all := lw_g (lw_at lw_m10 3 rfl) rfl
theorem q2280 : (Jvm.Cond.code ({ cls := "ClockZonesModel", name := "setsHere", desc := "(I)V" } : Jvm.MethodName) prog_12_method_19_code (5 : Nat) (Option.none : Option Jvm.ClassFile.FieldType)) ∈ lw_all := lw_g (lw_at lw_m10 4 rfl) rfl
theorem q2281 : (Jvm.Cond.methodLink "ClockZonesModel" (236 : Nat) ({ cls := "ClockZonesModel", name := "becomes", desc := "()V" } : Jvm.MethodName)) ∈ lw_all := lw_g (lw_at lw_m10 5 rfl) rfl
theorem q2282 : (Jvm.Cond.privateMethod ({ cls := "ClockZonesModel", name := "becomes", desc := "()V" } : Jvm.MethodName)) ∈ lw_tbl := lw_at lw_m10 6 rfl
theorem q2283 : (Jvm.Cond.instanceMethod ({ cls := "ClockZonesModel", name := "becomes", desc := "()V" } : Jvm.MethodName)) ∈ lw_all := lw_g (lw_at lw_m10 7 rfl) rfl
theorem q2284 : (Jvm.Cond.code ({ cls := "ClockZonesModel", name := "becomes", desc := "()V" } : Jvm.MethodName) prog_12_method_23_code (2 : Nat) (Option.none : Option Jvm.ClassFile.FieldType)) ∈ lw_all := lw_g (lw_at lw_m10 8 rfl) rfl
theorem q2285 : (Jvm.Cond.methodLink "ClockZonesModel" (254 : Nat) ({ cls := "ClockZonesModel", name := "copies", desc := "([I[II)V" } : Jvm.MethodName)) ∈ lw_all := lw_g (lw_at lw_m10 9 rfl) rfl
theorem q2286 : (Jvm.Cond.static ({ cls := "ClockZonesModel", name := "copies", desc := "([I[II)V" } : Jvm.MethodName)) ∈ lw_all := lw_g (lw_at lw_m10 10 rfl) rfl
theorem q2287 : (Jvm.Cond.code ({ cls := "ClockZonesModel", name := "copies", desc := "([I[II)V" } : Jvm.MethodName) prog_12_method_22_code (4 : Nat) (Option.none : Option Jvm.ClassFile.FieldType)) ∈ lw_all := lw_g (lw_at lw_m10 11 rfl) rfl
theorem q2288 : (Jvm.Cond.methodLink "ClockZonesModel" (258 : Nat) ({ cls := "ClockZonesModel", name := "greatens", desc := "(I)V" } : Jvm.MethodName)) ∈ lw_all := lw_g (lw_at lw_m10 12 rfl) rfl
theorem q2289 : (Jvm.Cond.privateMethod ({ cls := "ClockZonesModel", name := "greatens", desc := "(I)V" } : Jvm.MethodName)) ∈ lw_tbl := lw_at lw_m10 13 rfl
theorem q2290 : (Jvm.Cond.instanceMethod ({ cls := "ClockZonesModel", name := "greatens", desc := "(I)V" } : Jvm.MethodName)) ∈ lw_all := lw_g (lw_at lw_m10 14 rfl) rfl
theorem q2291 : (Jvm.Cond.code ({ cls := "ClockZonesModel", name := "greatens", desc := "(I)V" } : Jvm.MethodName) prog_12_method_24_code (3 : Nat) (Option.none : Option Jvm.ClassFile.FieldType)) ∈ lw_all := lw_g (lw_at lw_m10 15 rfl) rfl
theorem q2292 : (Jvm.Cond.methodLink "ClockZonesModel" (267 : Nat) ({ cls := "ClockZonesModel", name := "grows", desc := "(II)V" } : Jvm.MethodName)) ∈ lw_all := lw_g (lw_at lw_m10 16 rfl) rfl
theorem q2293 : (Jvm.Cond.privateMethod ({ cls := "ClockZonesModel", name := "grows", desc := "(II)V" } : Jvm.MethodName)) ∈ lw_tbl := lw_at lw_m10 17 rfl
theorem q2294 : (Jvm.Cond.instanceMethod ({ cls := "ClockZonesModel", name := "grows", desc := "(II)V" } : Jvm.MethodName)) ∈ lw_all := lw_g (lw_at lw_m10 18 rfl) rfl
theorem q2295 : (Jvm.Cond.code ({ cls := "ClockZonesModel", name := "grows", desc := "(II)V" } : Jvm.MethodName) prog_12_method_25_code (3 : Nat) (Option.none : Option Jvm.ClassFile.FieldType)) ∈ lw_all := lw_g (lw_at lw_m10 19 rfl) rfl
theorem q2296 : (Jvm.Cond.methodLink "ClockZonesModel" (264 : Nat) ({ cls := "ClockZonesModel", name := "explores", desc := "()V" } : Jvm.MethodName)) ∈ lw_all := lw_g (lw_at lw_m10 20 rfl) rfl
theorem q2297 : (Jvm.Cond.privateMethod ({ cls := "ClockZonesModel", name := "explores", desc := "()V" } : Jvm.MethodName)) ∈ lw_tbl := lw_at lw_m10 21 rfl
theorem q2298 : (Jvm.Cond.instanceMethod ({ cls := "ClockZonesModel", name := "explores", desc := "()V" } : Jvm.MethodName)) ∈ lw_all := lw_g (lw_at lw_m10 22 rfl) rfl
theorem q2299 : (Jvm.Cond.code ({ cls := "ClockZonesModel", name := "explores", desc := "()V" } : Jvm.MethodName) prog_12_method_95_code (3 : Nat) (Option.none : Option Jvm.ClassFile.FieldType)) ∈ lw_all := lw_g (lw_at lw_m10 23 rfl) rfl
theorem q2300 : (Jvm.Cond.methodLink "ClockZonesModel" (312 : Nat) ({ cls := "ClockZonesModel", name := "stays", desc := "(I)V" } : Jvm.MethodName)) ∈ lw_all := lw_g (lw_at lw_m10 24 rfl) rfl
theorem q2301 : (Jvm.Cond.privateMethod ({ cls := "ClockZonesModel", name := "stays", desc := "(I)V" } : Jvm.MethodName)) ∈ lw_tbl := lw_at lw_m10 25 rfl
theorem q2302 : (Jvm.Cond.instanceMethod ({ cls := "ClockZonesModel", name := "stays", desc := "(I)V" } : Jvm.MethodName)) ∈ lw_all := lw_g (lw_at lw_m10 26 rfl) rfl
theorem q2303 : (Jvm.Cond.code ({ cls := "ClockZonesModel", name := "stays", desc := "(I)V" } : Jvm.MethodName) prog_12_method_42_code (2 : Nat) (Option.none : Option Jvm.ClassFile.FieldType)) ∈ lw_all := lw_g (lw_at lw_m10 27 rfl) rfl
theorem q2304 : (Jvm.Cond.methodLink "ClockZonesModel" (303 : Nat) ({ cls := "ClockZonesModel", name := "whens", desc := "(I)V" } : Jvm.MethodName)) ∈ lw_all := lw_g (lw_at lw_m10 28 rfl) rfl
theorem q2305 : (Jvm.Cond.privateMethod ({ cls := "ClockZonesModel", name := "whens", desc := "(I)V" } : Jvm.MethodName)) ∈ lw_tbl := lw_at lw_m10 29 rfl
theorem q2306 : (Jvm.Cond.instanceMethod ({ cls := "ClockZonesModel", name := "whens", desc := "(I)V" } : Jvm.MethodName)) ∈ lw_all := lw_g (lw_at lw_m10 30 rfl) rfl
theorem q2307 : (Jvm.Cond.code ({ cls := "ClockZonesModel", name := "whens", desc := "(I)V" } : Jvm.MethodName) prog_12_method_37_code (3 : Nat) (Option.none : Option Jvm.ClassFile.FieldType)) ∈ lw_all := lw_g (lw_at lw_m10 31 rfl) rfl
theorem q2308 : (Jvm.Cond.methodLink "ClockZonesModel" (296 : Nat) ({ cls := "ClockZonesModel", name := "meets", desc := "(IIII)V" } : Jvm.MethodName)) ∈ lw_all := lw_g (lw_at lw_m10 32 rfl) rfl
theorem q2309 : (Jvm.Cond.privateMethod ({ cls := "ClockZonesModel", name := "meets", desc := "(IIII)V" } : Jvm.MethodName)) ∈ lw_tbl := lw_at lw_m10 33 rfl
theorem q2310 : (Jvm.Cond.instanceMethod ({ cls := "ClockZonesModel", name := "meets", desc := "(IIII)V" } : Jvm.MethodName)) ∈ lw_all := lw_g (lw_at lw_m10 34 rfl) rfl
theorem q2311 : (Jvm.Cond.code ({ cls := "ClockZonesModel", name := "meets", desc := "(IIII)V" } : Jvm.MethodName) prog_12_method_36_code (5 : Nat) (Option.none : Option Jvm.ClassFile.FieldType)) ∈ lw_all := lw_g (lw_at lw_m10 35 rfl) rfl
theorem q2312 : (Jvm.Cond.methodLink "ClockZonesModel" (292 : Nat) ({ cls := "ClockZonesModel", name := "reached", desc := "(I)I" } : Jvm.MethodName)) ∈ lw_all := lw_g (lw_at lw_m10 36 rfl) rfl
theorem q2313 : (Jvm.Cond.static ({ cls := "ClockZonesModel", name := "reached", desc := "(I)I" } : Jvm.MethodName)) ∈ lw_all := lw_g (lw_at lw_m10 37 rfl) rfl
theorem q2314 : (Jvm.Cond.code ({ cls := "ClockZonesModel", name := "reached", desc := "(I)I" } : Jvm.MethodName) prog_12_method_27_code (1 : Nat) (Option.some Jvm.ClassFile.FieldType.int)) ∈ lw_all := lw_g (lw_at lw_m10 38 rfl) rfl
theorem q2315 : (Jvm.Cond.methodLink "ClockZonesModel" (286 : Nat) ({ cls := "ClockZonesModel", name := "tightens", desc := "(III)V" } : Jvm.MethodName)) ∈ lw_all := lw_g (lw_at lw_m10 39 rfl) rfl
theorem q2316 : (Jvm.Cond.privateMethod ({ cls := "ClockZonesModel", name := "tightens", desc := "(III)V" } : Jvm.MethodName)) ∈ lw_tbl := lw_at lw_m10 40 rfl
theorem q2317 : (Jvm.Cond.instanceMethod ({ cls := "ClockZonesModel", name := "tightens", desc := "(III)V" } : Jvm.MethodName)) ∈ lw_all := lw_g (lw_at lw_m10 41 rfl) rfl
theorem q2318 : (Jvm.Cond.code ({ cls := "ClockZonesModel", name := "tightens", desc := "(III)V" } : Jvm.MethodName) prog_12_method_32_code (4 : Nat) (Option.none : Option Jvm.ClassFile.FieldType)) ∈ lw_all := lw_g (lw_at lw_m10 42 rfl) rfl
theorem q2319 : (Jvm.Cond.methodLink "ClockZonesModel" (300 : Nat) ({ cls := "ClockZonesModel", name := "closes", desc := "()V" } : Jvm.MethodName)) ∈ lw_all := lw_g (lw_at lw_m10 43 rfl) rfl
theorem q2320 : (Jvm.Cond.privateMethod ({ cls := "ClockZonesModel", name := "closes", desc := "()V" } : Jvm.MethodName)) ∈ lw_tbl := lw_at lw_m10 44 rfl
theorem q2321 : (Jvm.Cond.instanceMethod ({ cls := "ClockZonesModel", name := "closes", desc := "()V" } : Jvm.MethodName)) ∈ lw_all := lw_g (lw_at lw_m10 45 rfl) rfl
theorem q2322 : (Jvm.Cond.code ({ cls := "ClockZonesModel", name := "closes", desc := "()V" } : Jvm.MethodName) prog_12_method_33_code (4 : Nat) (Option.none : Option Jvm.ClassFile.FieldType)) ∈ lw_all := lw_g (lw_at lw_m10 46 rfl) rfl
theorem q2323 : (Jvm.Cond.constant "ClockZonesModel" (271 : Nat) (1000000 : Int32)) ∈ lw_all := lw_g (lw_at lw_m10 47 rfl) rfl
theorem q2324 : (Jvm.Cond.methodLink "ClockZonesModel" (283 : Nat) ({ cls := "ClockZonesModel", name := "plus", desc := "(II)I" } : Jvm.MethodName)) ∈ lw_all := lw_g (lw_at lw_m10 48 rfl) rfl
theorem q2325 : (Jvm.Cond.static ({ cls := "ClockZonesModel", name := "plus", desc := "(II)I" } : Jvm.MethodName)) ∈ lw_all := lw_g (lw_at lw_m10 49 rfl) rfl
theorem q2326 : (Jvm.Cond.code ({ cls := "ClockZonesModel", name := "plus", desc := "(II)I" } : Jvm.MethodName) prog_12_method_28_code (2 : Nat) (Option.some Jvm.ClassFile.FieldType.int)) ∈ lw_all := lw_g (lw_at lw_m10 50 rfl) rfl
theorem q2327 : (Jvm.Cond.methodLink "ClockZonesModel" (306 : Nat) ({ cls := "ClockZonesModel", name := "ups", desc := "()V" } : Jvm.MethodName)) ∈ lw_all := lw_g (lw_at lw_m10 51 rfl) rfl
theorem q2328 : (Jvm.Cond.privateMethod ({ cls := "ClockZonesModel", name := "ups", desc := "()V" } : Jvm.MethodName)) ∈ lw_tbl := lw_at lw_m10 52 rfl
theorem q2329 : (Jvm.Cond.instanceMethod ({ cls := "ClockZonesModel", name := "ups", desc := "()V" } : Jvm.MethodName)) ∈ lw_all := lw_g (lw_at lw_m10 53 rfl) rfl
theorem q2330 : (Jvm.Cond.code ({ cls := "ClockZonesModel", name := "ups", desc := "()V" } : Jvm.MethodName) prog_12_method_38_code (2 : Nat) (Option.none : Option Jvm.ClassFile.FieldType)) ∈ lw_all := lw_g (lw_at lw_m10 54 rfl) rfl
theorem q2331 : (Jvm.Cond.methodLink "ClockZonesModel" (371 : Nat) ({ cls := "ClockZonesModel", name := "roughens", desc := "()V" } : Jvm.MethodName)) ∈ lw_all := lw_g (lw_at lw_m10 55 rfl) rfl
theorem q2332 : (Jvm.Cond.privateMethod ({ cls := "ClockZonesModel", name := "roughens", desc := "()V" } : Jvm.MethodName)) ∈ lw_tbl := lw_at lw_m10 56 rfl
theorem q2333 : (Jvm.Cond.instanceMethod ({ cls := "ClockZonesModel", name := "roughens", desc := "()V" } : Jvm.MethodName)) ∈ lw_all := lw_g (lw_at lw_m10 57 rfl) rfl
theorem q2334 : (Jvm.Cond.code ({ cls := "ClockZonesModel", name := "roughens", desc := "()V" } : Jvm.MethodName) prog_12_method_45_code (4 : Nat) (Option.none : Option Jvm.ClassFile.FieldType)) ∈ lw_all := lw_g (lw_at lw_m10 58 rfl) rfl
theorem q2335 : (Jvm.Cond.methodLink "ClockZonesModel" (318 : Nat) ({ cls := "ClockZonesModel", name := "numberOf", desc := "(I)I" } : Jvm.MethodName)) ∈ lw_all := lw_g (lw_at lw_m10 59 rfl) rfl
theorem q2336 : (Jvm.Cond.static ({ cls := "ClockZonesModel", name := "numberOf", desc := "(I)I" } : Jvm.MethodName)) ∈ lw_all := lw_g (lw_at lw_m10 60 rfl) rfl
theorem q2337 : (Jvm.Cond.code ({ cls := "ClockZonesModel", name := "numberOf", desc := "(I)I" } : Jvm.MethodName) prog_12_method_29_code (1 : Nat) (Option.some Jvm.ClassFile.FieldType.int)) ∈ lw_all := lw_g (lw_at lw_m10 61 rfl) rfl
theorem q2338 : (Jvm.Cond.methodLink "ClockZonesModel" (402 : Nat) ({ cls := "ClockZonesModel", name := "adds", desc := "(III)V" } : Jvm.MethodName)) ∈ lw_all := lw_g (lw_at lw_m10 62 rfl) rfl
theorem q2339 : (Jvm.Cond.privateMethod ({ cls := "ClockZonesModel", name := "adds", desc := "(III)V" } : Jvm.MethodName)) ∈ lw_tbl := lw_at lw_m10 63 rfl
theorem q2340 : (Jvm.Cond.instanceMethod ({ cls := "ClockZonesModel", name := "adds", desc := "(III)V" } : Jvm.MethodName)) ∈ lw_all := lw_g (lw_at lw_m10 64 rfl) rfl
theorem q2341 : (Jvm.Cond.code ({ cls := "ClockZonesModel", name := "adds", desc := "(III)V" } : Jvm.MethodName) prog_12_method_94_code (6 : Nat) (Option.none : Option Jvm.ClassFile.FieldType)) ∈ lw_all := lw_g (lw_at lw_m10 65 rfl) rfl
theorem q2342 : (Jvm.Cond.methodLink "ClockZonesModel" (377 : Nat) ({ cls := "ClockZonesModel", name := "loadsNode", desc := "(I)V" } : Jvm.MethodName)) ∈ lw_all := lw_g (lw_at lw_m10 66 rfl) rfl
theorem q2343 : (Jvm.Cond.privateMethod ({ cls := "ClockZonesModel", name := "loadsNode", desc := "(I)V" } : Jvm.MethodName)) ∈ lw_tbl := lw_at lw_m10 67 rfl
theorem q2344 : (Jvm.Cond.instanceMethod ({ cls := "ClockZonesModel", name := "loadsNode", desc := "(I)V" } : Jvm.MethodName)) ∈ lw_all := lw_g (lw_at lw_m10 68 rfl) rfl
theorem q2345 : (Jvm.Cond.code ({ cls := "ClockZonesModel", name := "loadsNode", desc := "(I)V" } : Jvm.MethodName) prog_12_method_48_code (4 : Nat) (Option.none : Option Jvm.ClassFile.FieldType)) ∈ lw_all := lw_g (lw_at lw_m10 69 rfl) rfl
theorem q2346 : (Jvm.Cond.methodLink "ClockZonesModel" (362 : Nat) ({ cls := "ClockZonesModel", name := "steps", desc := "(I)V" } : Jvm.MethodName)) ∈ lw_all := lw_g (lw_at lw_m10 70 rfl) rfl
theorem q2347 : (Jvm.Cond.privateMethod ({ cls := "ClockZonesModel", name := "steps", desc := "(I)V" } : Jvm.MethodName)) ∈ lw_tbl := lw_at lw_m10 71 rfl
theorem q2348 : (Jvm.Cond.instanceMethod ({ cls := "ClockZonesModel", name := "steps", desc := "(I)V" } : Jvm.MethodName)) ∈ lw_all := lw_g (lw_at lw_m10 72 rfl) rfl
theorem q2349 : (Jvm.Cond.code ({ cls := "ClockZonesModel", name := "steps", desc := "(I)V" } : Jvm.MethodName) prog_12_method_43_code (3 : Nat) (Option.none : Option Jvm.ClassFile.FieldType)) ∈ lw_all := lw_g (lw_at lw_m10 73 rfl) rfl
theorem q2350 : (Jvm.Cond.methodLink "ClockZonesModel" (309 : Nat) ({ cls := "ClockZonesModel", name := "sets", desc := "(II)V" } : Jvm.MethodName)) ∈ lw_all := lw_g (lw_at lw_m10 74 rfl) rfl
theorem q2351 : (Jvm.Cond.privateMethod ({ cls := "ClockZonesModel", name := "sets", desc := "(II)V" } : Jvm.MethodName)) ∈ lw_tbl := lw_at lw_m10 75 rfl
theorem q2352 : (Jvm.Cond.instanceMethod ({ cls := "ClockZonesModel", name := "sets", desc := "(II)V" } : Jvm.MethodName)) ∈ lw_all := lw_g (lw_at lw_m10 76 rfl) rfl
theorem q2353 : (Jvm.Cond.code ({ cls := "ClockZonesModel", name := "sets", desc := "(II)V" } : Jvm.MethodName) prog_12_method_40_code (4 : Nat) (Option.none : Option Jvm.ClassFile.FieldType)) ∈ lw_all := lw_g (lw_at lw_m10 77 rfl) rfl
theorem q2354 : (Jvm.Cond.methodLink "ClockZonesModel" (405 : Nat) ({ cls := "ClockZonesModel", name := "isKnown", desc := "(I)Z" } : Jvm.MethodName)) ∈ lw_all := lw_g (lw_at lw_m10 78 rfl) rfl
theorem q2355 : (Jvm.Cond.privateMethod ({ cls := "ClockZonesModel", name := "isKnown", desc := "(I)Z" } : Jvm.MethodName)) ∈ lw_tbl := lw_at lw_m10 79 rfl
theorem q2356 : (Jvm.Cond.instanceMethod ({ cls := "ClockZonesModel", name := "isKnown", desc := "(I)Z" } : Jvm.MethodName)) ∈ lw_all := lw_g (lw_at lw_m10 80 rfl) rfl
theorem q2357 : (Jvm.Cond.code ({ cls := "ClockZonesModel", name := "isKnown", desc := "(I)Z" } : Jvm.MethodName) prog_12_method_93_code (3 : Nat) (Option.some Jvm.ClassFile.FieldType.boolean)) ∈ lw_all := lw_g (lw_at lw_m10 81 rfl) rfl
theorem q2358 : (Jvm.Cond.methodLink "ClockZonesModel" (383 : Nat) ({ cls := "ClockZonesModel", name := "isInside", desc := "([II)Z" } : Jvm.MethodName)) ∈ lw_all := lw_g (lw_at lw_m10 82 rfl) rfl
theorem q2359 : (Jvm.Cond.privateMethod ({ cls := "ClockZonesModel", name := "isInside", desc := "([II)Z" } : Jvm.MethodName)) ∈ lw_tbl := lw_at lw_m10 83 rfl
theorem q2360 : (Jvm.Cond.instanceMethod ({ cls := "ClockZonesModel", name := "isInside", desc := "([II)Z" } : Jvm.MethodName)) ∈ lw_all := lw_g (lw_at lw_m10 84 rfl) rfl
theorem q2361 : (Jvm.Cond.code ({ cls := "ClockZonesModel", name := "isInside", desc := "([II)Z" } : Jvm.MethodName) prog_12_method_80_code (5 : Nat) (Option.some Jvm.ClassFile.FieldType.boolean)) ∈ lw_all := lw_g (lw_at lw_m10 85 rfl) rfl
theorem q2363 : (Jvm.Cond.instanceMethod ({ cls := "ClockZonesModel", name := "fault", desc := "(I)I" } : Jvm.MethodName)) ∈ lw_all := lw_g (lw_at lw_m10 87 rfl) rfl
theorem q2364 : (Jvm.Cond.selects "ClockZonesModel" ({ cls := "ClockZonesModel", name := "fault", desc := "(I)I" } : Jvm.MethodName) ({ cls := "ClockZonesModel", name := "fault", desc := "(I)I" } : Jvm.MethodName)) ∈ lw_all := lw_g (lw_at lw_m10 88 rfl) rfl
theorem q2365 : (Jvm.Cond.code ({ cls := "ClockZonesModel", name := "fault", desc := "(I)I" } : Jvm.MethodName) prog_12_method_26_code (2 : Nat) (Option.some Jvm.ClassFile.FieldType.int)) ∈ lw_all := lw_g (lw_at lw_m10 89 rfl) rfl
theorem q2367 : (Jvm.Cond.instanceMethod ({ cls := "ClockZonesModel", name := "undo", desc := "()I" } : Jvm.MethodName)) ∈ lw_all := lw_g (lw_at lw_m10 91 rfl) rfl
theorem q2368 : (Jvm.Cond.selects "ClockZonesModel" ({ cls := "ClockZonesModel", name := "undo", desc := "()I" } : Jvm.MethodName) ({ cls := "ClockZonesModel", name := "undo", desc := "()I" } : Jvm.MethodName)) ∈ lw_all := lw_g (lw_at lw_m10 92 rfl) rfl
theorem q2369 : (Jvm.Cond.code ({ cls := "ClockZonesModel", name := "undo", desc := "()I" } : Jvm.MethodName) prog_12_method_56_code (2 : Nat) (Option.some Jvm.ClassFile.FieldType.int)) ∈ lw_all := lw_g (lw_at lw_m10 93 rfl) rfl
theorem q2371 : (Jvm.Cond.instanceMethod ({ cls := "ClockZonesModel", name := "lay", desc := "(II)Z" } : Jvm.MethodName)) ∈ lw_all := lw_g (lw_at lw_m10 95 rfl) rfl
theorem q2372 : (Jvm.Cond.selects "ClockZonesModel" ({ cls := "ClockZonesModel", name := "lay", desc := "(II)Z" } : Jvm.MethodName) ({ cls := "ClockZonesModel", name := "lay", desc := "(II)Z" } : Jvm.MethodName)) ∈ lw_all := lw_g (lw_at lw_m10 96 rfl) rfl
theorem q2373 : (Jvm.Cond.code ({ cls := "ClockZonesModel", name := "lay", desc := "(II)Z" } : Jvm.MethodName) prog_12_method_59_code (3 : Nat) (Option.some Jvm.ClassFile.FieldType.boolean)) ∈ lw_all := lw_g (lw_at lw_m10 97 rfl) rfl
theorem q2374 : (Jvm.Cond.methodLink "ClockZonesModel" (327 : Nat) ({ cls := "ClockZonesModel", name := "isTable", desc := "(I)Z" } : Jvm.MethodName)) ∈ lw_all := lw_g (lw_at lw_m10 98 rfl) rfl
theorem q2375 : (Jvm.Cond.static ({ cls := "ClockZonesModel", name := "isTable", desc := "(I)Z" } : Jvm.MethodName)) ∈ lw_all := lw_g (lw_at lw_m10 99 rfl) rfl
theorem q2376 : (Jvm.Cond.code ({ cls := "ClockZonesModel", name := "isTable", desc := "(I)Z" } : Jvm.MethodName) prog_12_method_49_code (1 : Nat) (Option.some Jvm.ClassFile.FieldType.boolean)) ∈ lw_all := lw_g (lw_at lw_m10 100 rfl) rfl
theorem q2377 : (Jvm.Cond.methodLink "ClockZonesModel" (330 : Nat) ({ cls := "ClockZonesModel", name := "wide", desc := "()V" } : Jvm.MethodName)) ∈ lw_all := lw_g (lw_at lw_m10 101 rfl) rfl
theorem q2378 : (Jvm.Cond.privateMethod ({ cls := "ClockZonesModel", name := "wide", desc := "()V" } : Jvm.MethodName)) ∈ lw_tbl := lw_at lw_m10 102 rfl
theorem q2379 : (Jvm.Cond.instanceMethod ({ cls := "ClockZonesModel", name := "wide", desc := "()V" } : Jvm.MethodName)) ∈ lw_all := lw_g (lw_at lw_m10 103 rfl) rfl
theorem q2380 : (Jvm.Cond.code ({ cls := "ClockZonesModel", name := "wide", desc := "()V" } : Jvm.MethodName) prog_12_method_34_code (3 : Nat) (Option.none : Option Jvm.ClassFile.FieldType)) ∈ lw_all := lw_g (lw_at lw_m10 104 rfl) rfl
theorem q2381 : (Jvm.Cond.methodLink "ClockZonesModel" (333 : Nat) ({ cls := "ClockZonesModel", name := "becomesTable", desc := "(I)I" } : Jvm.MethodName)) ∈ lw_all := lw_g (lw_at lw_m10 105 rfl) rfl
theorem q2382 : (Jvm.Cond.privateMethod ({ cls := "ClockZonesModel", name := "becomesTable", desc := "(I)I" } : Jvm.MethodName)) ∈ lw_tbl := lw_at lw_m10 106 rfl
theorem q2383 : (Jvm.Cond.instanceMethod ({ cls := "ClockZonesModel", name := "becomesTable", desc := "(I)I" } : Jvm.MethodName)) ∈ lw_all := lw_g (lw_at lw_m10 107 rfl) rfl
theorem q2384 : (Jvm.Cond.code ({ cls := "ClockZonesModel", name := "becomesTable", desc := "(I)I" } : Jvm.MethodName) prog_12_method_58_code (2 : Nat) (Option.some Jvm.ClassFile.FieldType.int)) ∈ lw_all := lw_g (lw_at lw_m10 108 rfl) rfl
theorem q2385 : (Jvm.Cond.methodLink "ClockZonesModel" (321 : Nat) ({ cls := "ClockZonesModel", name := "isFar", desc := "()Z" } : Jvm.MethodName)) ∈ lw_all := lw_g (lw_at lw_m10 109 rfl) rfl
theorem q2386 : (Jvm.Cond.privateMethod ({ cls := "ClockZonesModel", name := "isFar", desc := "()Z" } : Jvm.MethodName)) ∈ lw_tbl := lw_at lw_m10 110 rfl
theorem q2387 : (Jvm.Cond.instanceMethod ({ cls := "ClockZonesModel", name := "isFar", desc := "()Z" } : Jvm.MethodName)) ∈ lw_all := lw_g (lw_at lw_m10 111 rfl) rfl
theorem q2388 : (Jvm.Cond.code ({ cls := "ClockZonesModel", name := "isFar", desc := "()Z" } : Jvm.MethodName) prog_12_method_57_code (3 : Nat) (Option.some Jvm.ClassFile.FieldType.boolean)) ∈ lw_all := lw_g (lw_at lw_m10 112 rfl) rfl
theorem q2389 : (Jvm.Cond.methodLink "ClockZonesModel" (324 : Nat) ({ cls := "ClockZonesModel", name := "keeps", desc := "()V" } : Jvm.MethodName)) ∈ lw_all := lw_g (lw_at lw_m10 113 rfl) rfl
theorem q2390 : (Jvm.Cond.privateMethod ({ cls := "ClockZonesModel", name := "keeps", desc := "()V" } : Jvm.MethodName)) ∈ lw_tbl := lw_at lw_m10 114 rfl
theorem q2391 : (Jvm.Cond.instanceMethod ({ cls := "ClockZonesModel", name := "keeps", desc := "()V" } : Jvm.MethodName)) ∈ lw_all := lw_g (lw_at lw_m10 115 rfl) rfl
theorem q2392 : (Jvm.Cond.code ({ cls := "ClockZonesModel", name := "keeps", desc := "()V" } : Jvm.MethodName) prog_12_method_55_code (2 : Nat) (Option.none : Option Jvm.ClassFile.FieldType)) ∈ lw_all := lw_g (lw_at lw_m10 116 rfl) rfl
theorem q2394 : (Jvm.Cond.instanceMethod ({ cls := "ClockZonesModel", name := "meet", desc := "(IIIII)I" } : Jvm.MethodName)) ∈ lw_all := lw_g (lw_at lw_m10 118 rfl) rfl
theorem q2395 : (Jvm.Cond.selects "ClockZonesModel" ({ cls := "ClockZonesModel", name := "meet", desc := "(IIIII)I" } : Jvm.MethodName) ({ cls := "ClockZonesModel", name := "meet", desc := "(IIIII)I" } : Jvm.MethodName)) ∈ lw_all := lw_g (lw_at lw_m10 119 rfl) rfl
theorem q2396 : (Jvm.Cond.code ({ cls := "ClockZonesModel", name := "meet", desc := "(IIIII)I" } : Jvm.MethodName) prog_12_method_60_code (6 : Nat) (Option.some Jvm.ClassFile.FieldType.int)) ∈ lw_all := lw_g (lw_at lw_m10 120 rfl) rfl
theorem q2397 : (Jvm.Cond.methodLink "ClockZonesModel" (336 : Nat) ({ cls := "ClockZonesModel", name := "arePair", desc := "(II)Z" } : Jvm.MethodName)) ∈ lw_all := lw_g (lw_at lw_m10 121 rfl) rfl
theorem q2398 : (Jvm.Cond.privateMethod ({ cls := "ClockZonesModel", name := "arePair", desc := "(II)Z" } : Jvm.MethodName)) ∈ lw_tbl := lw_at lw_m10 122 rfl
theorem q2399 : (Jvm.Cond.instanceMethod ({ cls := "ClockZonesModel", name := "arePair", desc := "(II)Z" } : Jvm.MethodName)) ∈ lw_all := lw_g (lw_at lw_m10 123 rfl) rfl
theorem q2400 : (Jvm.Cond.code ({ cls := "ClockZonesModel", name := "arePair", desc := "(II)Z" } : Jvm.MethodName) prog_12_method_53_code (3 : Nat) (Option.some Jvm.ClassFile.FieldType.boolean)) ∈ lw_all := lw_g (lw_at lw_m10 124 rfl) rfl
theorem q2401 : (Jvm.Cond.methodLink "ClockZonesModel" (340 : Nat) ({ cls := "ClockZonesModel", name := "loads", desc := "(I)V" } : Jvm.MethodName)) ∈ lw_all := lw_g (lw_at lw_m10 125 rfl) rfl
theorem q2402 : (Jvm.Cond.privateMethod ({ cls := "ClockZonesModel", name := "loads", desc := "(I)V" } : Jvm.MethodName)) ∈ lw_tbl := lw_at lw_m10 126 rfl
theorem q2403 : (Jvm.Cond.instanceMethod ({ cls := "ClockZonesModel", name := "loads", desc := "(I)V" } : Jvm.MethodName)) ∈ lw_all := lw_g (lw_at lw_m10 127 rfl) rfl
theorem q2404 : (Jvm.Cond.code ({ cls := "ClockZonesModel", name := "loads", desc := "(I)V" } : Jvm.MethodName) prog_12_method_47_code (4 : Nat) (Option.none : Option Jvm.ClassFile.FieldType)) ∈ lw_all := lw_g (lw_at lw_m10 128 rfl) rfl
theorem q2406 : (Jvm.Cond.instanceMethod ({ cls := "ClockZonesModel", name := "pass", desc := "(II)I" } : Jvm.MethodName)) ∈ lw_all := lw_g (lw_at lw_m10 130 rfl) rfl
theorem q2407 : (Jvm.Cond.selects "ClockZonesModel" ({ cls := "ClockZonesModel", name := "pass", desc := "(II)I" } : Jvm.MethodName) ({ cls := "ClockZonesModel", name := "pass", desc := "(II)I" } : Jvm.MethodName)) ∈ lw_all := lw_g (lw_at lw_m10 131 rfl) rfl
theorem q2408 : (Jvm.Cond.code ({ cls := "ClockZonesModel", name := "pass", desc := "(II)I" } : Jvm.MethodName) prog_12_method_61_code (3 : Nat) (Option.some Jvm.ClassFile.FieldType.int)) ∈ lw_all := lw_g (lw_at lw_m10 132 rfl) rfl
theorem q2409 : (Jvm.Cond.methodLink "ClockZonesModel" (343 : Nat) ({ cls := "ClockZonesModel", name := "isTwo", desc := "(I)Z" } : Jvm.MethodName)) ∈ lw_all := lw_g (lw_at lw_m10 133 rfl) rfl
theorem q2410 : (Jvm.Cond.static ({ cls := "ClockZonesModel", name := "isTwo", desc := "(I)Z" } : Jvm.MethodName)) ∈ lw_all := lw_g (lw_at lw_m10 134 rfl) rfl
theorem q2411 : (Jvm.Cond.code ({ cls := "ClockZonesModel", name := "isTwo", desc := "(I)Z" } : Jvm.MethodName) prog_12_method_54_code (1 : Nat) (Option.some Jvm.ClassFile.FieldType.boolean)) ∈ lw_all := lw_g (lw_at lw_m10 135 rfl) rfl
theorem q2412 : (Jvm.Cond.methodLink "ClockZonesModel" (346 : Nat) ({ cls := "ClockZonesModel", name := "downs", desc := "()V" } : Jvm.MethodName)) ∈ lw_all := lw_g (lw_at lw_m10 136 rfl) rfl
theorem q2413 : (Jvm.Cond.privateMethod ({ cls := "ClockZonesModel", name := "downs", desc := "()V" } : Jvm.MethodName)) ∈ lw_tbl := lw_at lw_m10 137 rfl
theorem q2414 : (Jvm.Cond.instanceMethod ({ cls := "ClockZonesModel", name := "downs", desc := "()V" } : Jvm.MethodName)) ∈ lw_all := lw_g (lw_at lw_m10 138 rfl) rfl
theorem q2415 : (Jvm.Cond.code ({ cls := "ClockZonesModel", name := "downs", desc := "()V" } : Jvm.MethodName) prog_12_method_39_code (2 : Nat) (Option.none : Option Jvm.ClassFile.FieldType)) ∈ lw_all := lw_g (lw_at lw_m10 139 rfl) rfl
theorem q2417 : (Jvm.Cond.instanceMethod ({ cls := "ClockZonesModel", name := "reset", desc := "(III)I" } : Jvm.MethodName)) ∈ lw_all := lw_g (lw_at lw_m10 141 rfl) rfl
theorem q2418 : (Jvm.Cond.selects "ClockZonesModel" ({ cls := "ClockZonesModel", name := "reset", desc := "(III)I" } : Jvm.MethodName) ({ cls := "ClockZonesModel", name := "reset", desc := "(III)I" } : Jvm.MethodName)) ∈ lw_all := lw_g (lw_at lw_m10 142 rfl) rfl
theorem q2419 : (Jvm.Cond.code ({ cls := "ClockZonesModel", name := "reset", desc := "(III)I" } : Jvm.MethodName) prog_12_method_62_code (4 : Nat) (Option.some Jvm.ClassFile.FieldType.int)) ∈ lw_all := lw_g (lw_at lw_m10 143 rfl) rfl
theorem q2420 : (Jvm.Cond.methodLink "ClockZonesModel" (349 : Nat) ({ cls := "ClockZonesModel", name := "isClock", desc := "(I)Z" } : Jvm.MethodName)) ∈ lw_all := lw_g (lw_at lw_m10 144 rfl) rfl
theorem q2421 : (Jvm.Cond.privateMethod ({ cls := "ClockZonesModel", name := "isClock", desc := "(I)Z" } : Jvm.MethodName)) ∈ lw_tbl := lw_at lw_m10 145 rfl
theorem q2422 : (Jvm.Cond.instanceMethod ({ cls := "ClockZonesModel", name := "isClock", desc := "(I)Z" } : Jvm.MethodName)) ∈ lw_all := lw_g (lw_at lw_m10 146 rfl) rfl
theorem q2423 : (Jvm.Cond.code ({ cls := "ClockZonesModel", name := "isClock", desc := "(I)Z" } : Jvm.MethodName) prog_12_method_50_code (2 : Nat) (Option.some Jvm.ClassFile.FieldType.boolean)) ∈ lw_all := lw_g (lw_at lw_m10 147 rfl) rfl
theorem q2425 : (Jvm.Cond.instanceMethod ({ cls := "ClockZonesModel", name := "free", desc := "(II)I" } : Jvm.MethodName)) ∈ lw_all := lw_g (lw_at lw_m10 149 rfl) rfl
theorem q2426 : (Jvm.Cond.selects "ClockZonesModel" ({ cls := "ClockZonesModel", name := "free", desc := "(II)I" } : Jvm.MethodName) ({ cls := "ClockZonesModel", name := "free", desc := "(II)I" } : Jvm.MethodName)) ∈ lw_all := lw_g (lw_at lw_m10 150 rfl) rfl
theorem q2427 : (Jvm.Cond.code ({ cls := "ClockZonesModel", name := "free", desc := "(II)I" } : Jvm.MethodName) prog_12_method_63_code (3 : Nat) (Option.some Jvm.ClassFile.FieldType.int)) ∈ lw_all := lw_g (lw_at lw_m10 151 rfl) rfl
theorem q2428 : (Jvm.Cond.methodLink "ClockZonesModel" (315 : Nat) ({ cls := "ClockZonesModel", name := "frees", desc := "(I)V" } : Jvm.MethodName)) ∈ lw_all := lw_g (lw_at lw_m10 152 rfl) rfl
theorem q2429 : (Jvm.Cond.privateMethod ({ cls := "ClockZonesModel", name := "frees", desc := "(I)V" } : Jvm.MethodName)) ∈ lw_tbl := lw_at lw_m10 153 rfl
theorem q2430 : (Jvm.Cond.instanceMethod ({ cls := "ClockZonesModel", name := "frees", desc := "(I)V" } : Jvm.MethodName)) ∈ lw_all := lw_g (lw_at lw_m10 154 rfl) rfl
theorem q2431 : (Jvm.Cond.code ({ cls := "ClockZonesModel", name := "frees", desc := "(I)V" } : Jvm.MethodName) prog_12_method_41_code (3 : Nat) (Option.none : Option Jvm.ClassFile.FieldType)) ∈ lw_all := lw_g (lw_at lw_m10 155 rfl) rfl
theorem q2433 : (Jvm.Cond.instanceMethod ({ cls := "ClockZonesModel", name := "copy", desc := "(II)I" } : Jvm.MethodName)) ∈ lw_all := lw_g (lw_at lw_m10 157 rfl) rfl
theorem q2434 : (Jvm.Cond.selects "ClockZonesModel" ({ cls := "ClockZonesModel", name := "copy", desc := "(II)I" } : Jvm.MethodName) ({ cls := "ClockZonesModel", name := "copy", desc := "(II)I" } : Jvm.MethodName)) ∈ lw_all := lw_g (lw_at lw_m10 158 rfl) rfl
theorem q2435 : (Jvm.Cond.code ({ cls := "ClockZonesModel", name := "copy", desc := "(II)I" } : Jvm.MethodName) prog_12_method_64_code (3 : Nat) (Option.some Jvm.ClassFile.FieldType.int)) ∈ lw_all := lw_g (lw_at lw_m10 159 rfl) rfl
theorem q2437 : (Jvm.Cond.instanceMethod ({ cls := "ClockZonesModel", name := "join", desc := "(II)I" } : Jvm.MethodName)) ∈ lw_all := lw_g (lw_at lw_m10 161 rfl) rfl
theorem q2438 : (Jvm.Cond.selects "ClockZonesModel" ({ cls := "ClockZonesModel", name := "join", desc := "(II)I" } : Jvm.MethodName) ({ cls := "ClockZonesModel", name := "join", desc := "(II)I" } : Jvm.MethodName)) ∈ lw_all := lw_g (lw_at lw_m10 162 rfl) rfl
theorem q2439 : (Jvm.Cond.code ({ cls := "ClockZonesModel", name := "join", desc := "(II)I" } : Jvm.MethodName) prog_12_method_66_code (5 : Nat) (Option.some Jvm.ClassFile.FieldType.int)) ∈ lw_all := lw_g (lw_at lw_m10 163 rfl) rfl
theorem q2440 : (Jvm.Cond.methodLink "ClockZonesModel" (352 : Nat) ({ cls := "ClockZonesModel", name := "other", desc := "(III)I" } : Jvm.MethodName)) ∈ lw_all := lw_g (lw_at lw_m10 164 rfl) rfl
theorem q2441 : (Jvm.Cond.privateMethod ({ cls := "ClockZonesModel", name := "other", desc := "(III)I" } : Jvm.MethodName)) ∈ lw_tbl := lw_at lw_m10 165 rfl
theorem q2442 : (Jvm.Cond.instanceMethod ({ cls := "ClockZonesModel", name := "other", desc := "(III)I" } : Jvm.MethodName)) ∈ lw_all := lw_g (lw_at lw_m10 166 rfl) rfl
theorem q2443 : (Jvm.Cond.code ({ cls := "ClockZonesModel", name := "other", desc := "(III)I" } : Jvm.MethodName) prog_12_method_65_code (4 : Nat) (Option.some Jvm.ClassFile.FieldType.int)) ∈ lw_all := lw_g (lw_at lw_m10 167 rfl) rfl
theorem q2445 : (Jvm.Cond.instanceMethod ({ cls := "ClockZonesModel", name := "both", desc := "(II)I" } : Jvm.MethodName)) ∈ lw_all := lw_g (lw_at lw_m10 169 rfl) rfl
theorem q2446 : (Jvm.Cond.selects "ClockZonesModel" ({ cls := "ClockZonesModel", name := "both", desc := "(II)I" } : Jvm.MethodName) ({ cls := "ClockZonesModel", name := "both", desc := "(II)I" } : Jvm.MethodName)) ∈ lw_all := lw_g (lw_at lw_m10 170 rfl) rfl
theorem q2447 : (Jvm.Cond.code ({ cls := "ClockZonesModel", name := "both", desc := "(II)I" } : Jvm.MethodName) prog_12_method_68_code (3 : Nat) (Option.some Jvm.ClassFile.FieldType.int)) ∈ lw_all := lw_g (lw_at lw_m10 171 rfl) rfl
theorem q2448 : (Jvm.Cond.methodLink "ClockZonesModel" (356 : Nat) ({ cls := "ClockZonesModel", name := "meetsTable", desc := "(II)V" } : Jvm.MethodName)) ∈ lw_all := lw_g (lw_at lw_m10 172 rfl) rfl
theorem q2449 : (Jvm.Cond.privateMethod ({ cls := "ClockZonesModel", name := "meetsTable", desc := "(II)V" } : Jvm.MethodName)) ∈ lw_tbl := lw_at lw_m10 173 rfl
theorem q2450 : (Jvm.Cond.instanceMethod ({ cls := "ClockZonesModel", name := "meetsTable", desc := "(II)V" } : Jvm.MethodName)) ∈ lw_all := lw_g (lw_at lw_m10 174 rfl) rfl
theorem q2451 : (Jvm.Cond.code ({ cls := "ClockZonesModel", name := "meetsTable", desc := "(II)V" } : Jvm.MethodName) prog_12_method_67_code (5 : Nat) (Option.none : Option Jvm.ClassFile.FieldType)) ∈ lw_all := lw_g (lw_at lw_m10 175 rfl) rfl
theorem q2453 : (Jvm.Cond.instanceMethod ({ cls := "ClockZonesModel", name := "touch", desc := "(II)I" } : Jvm.MethodName)) ∈ lw_all := lw_g (lw_at lw_m10 177 rfl) rfl
theorem q2454 : (Jvm.Cond.selects "ClockZonesModel" ({ cls := "ClockZonesModel", name := "touch", desc := "(II)I" } : Jvm.MethodName) ({ cls := "ClockZonesModel", name := "touch", desc := "(II)I" } : Jvm.MethodName)) ∈ lw_all := lw_g (lw_at lw_m10 178 rfl) rfl
theorem q2455 : (Jvm.Cond.code ({ cls := "ClockZonesModel", name := "touch", desc := "(II)I" } : Jvm.MethodName) prog_12_method_69_code (3 : Nat) (Option.some Jvm.ClassFile.FieldType.int)) ∈ lw_all := lw_g (lw_at lw_m10 179 rfl) rfl
theorem q2457 : (Jvm.Cond.instanceMethod ({ cls := "ClockZonesModel", name := "step", desc := "(II)I" } : Jvm.MethodName)) ∈ lw_all := lw_g (lw_at lw_m10 181 rfl) rfl
theorem q2458 : (Jvm.Cond.selects "ClockZonesModel" ({ cls := "ClockZonesModel", name := "step", desc := "(II)I" } : Jvm.MethodName) ({ cls := "ClockZonesModel", name := "step", desc := "(II)I" } : Jvm.MethodName)) ∈ lw_all := lw_g (lw_at lw_m10 182 rfl) rfl
theorem q2459 : (Jvm.Cond.code ({ cls := "ClockZonesModel", name := "step", desc := "(II)I" } : Jvm.MethodName) prog_12_method_70_code (3 : Nat) (Option.some Jvm.ClassFile.FieldType.int)) ∈ lw_all := lw_g (lw_at lw_m10 183 rfl) rfl
theorem q2460 : (Jvm.Cond.methodLink "ClockZonesModel" (359 : Nat) ({ cls := "ClockZonesModel", name := "isEdge", desc := "(I)Z" } : Jvm.MethodName)) ∈ lw_all := lw_g (lw_at lw_m10 184 rfl) rfl
theorem q2461 : (Jvm.Cond.privateMethod ({ cls := "ClockZonesModel", name := "isEdge", desc := "(I)Z" } : Jvm.MethodName)) ∈ lw_tbl := lw_at lw_m10 185 rfl
theorem q2462 : (Jvm.Cond.instanceMethod ({ cls := "ClockZonesModel", name := "isEdge", desc := "(I)Z" } : Jvm.MethodName)) ∈ lw_all := lw_g (lw_at lw_m10 186 rfl) rfl
theorem q2463 : (Jvm.Cond.code ({ cls := "ClockZonesModel", name := "isEdge", desc := "(I)Z" } : Jvm.MethodName) prog_12_method_52_code (2 : Nat) (Option.some Jvm.ClassFile.FieldType.boolean)) ∈ lw_all := lw_g (lw_at lw_m10 187 rfl) rfl
theorem q2465 : (Jvm.Cond.instanceMethod ({ cls := "ClockZonesModel", name := "back", desc := "(II)I" } : Jvm.MethodName)) ∈ lw_all := lw_g (lw_at lw_m10 189 rfl) rfl
theorem q2466 : (Jvm.Cond.selects "ClockZonesModel" ({ cls := "ClockZonesModel", name := "back", desc := "(II)I" } : Jvm.MethodName) ({ cls := "ClockZonesModel", name := "back", desc := "(II)I" } : Jvm.MethodName)) ∈ lw_all := lw_g (lw_at lw_m10 190 rfl) rfl
theorem q2467 : (Jvm.Cond.code ({ cls := "ClockZonesModel", name := "back", desc := "(II)I" } : Jvm.MethodName) prog_12_method_71_code (3 : Nat) (Option.some Jvm.ClassFile.FieldType.int)) ∈ lw_all := lw_g (lw_at lw_m10 191 rfl) rfl
theorem q2468 : (Jvm.Cond.methodLink "ClockZonesModel" (365 : Nat) ({ cls := "ClockZonesModel", name := "backs", desc := "(I)V" } : Jvm.MethodName)) ∈ lw_all := lw_g (lw_at lw_m10 192 rfl) rfl
theorem q2469 : (Jvm.Cond.privateMethod ({ cls := "ClockZonesModel", name := "backs", desc := "(I)V" } : Jvm.MethodName)) ∈ lw_tbl := lw_at lw_m10 193 rfl
theorem q2470 : (Jvm.Cond.instanceMethod ({ cls := "ClockZonesModel", name := "backs", desc := "(I)V" } : Jvm.MethodName)) ∈ lw_all := lw_g (lw_at lw_m10 194 rfl) rfl
theorem q2471 : (Jvm.Cond.code ({ cls := "ClockZonesModel", name := "backs", desc := "(I)V" } : Jvm.MethodName) prog_12_method_44_code (3 : Nat) (Option.none : Option Jvm.ClassFile.FieldType)) ∈ lw_all := lw_g (lw_at lw_m10 195 rfl) rfl
theorem q2473 : (Jvm.Cond.instanceMethod ({ cls := "ClockZonesModel", name := "stay", desc := "(II)I" } : Jvm.MethodName)) ∈ lw_all := lw_g (lw_at lw_m10 197 rfl) rfl
theorem q2474 : (Jvm.Cond.selects "ClockZonesModel" ({ cls := "ClockZonesModel", name := "stay", desc := "(II)I" } : Jvm.MethodName) ({ cls := "ClockZonesModel", name := "stay", desc := "(II)I" } : Jvm.MethodName)) ∈ lw_all := lw_g (lw_at lw_m10 198 rfl) rfl
theorem q2475 : (Jvm.Cond.code ({ cls := "ClockZonesModel", name := "stay", desc := "(II)I" } : Jvm.MethodName) prog_12_method_72_code (3 : Nat) (Option.some Jvm.ClassFile.FieldType.int)) ∈ lw_all := lw_g (lw_at lw_m10 199 rfl) rfl
theorem q2476 : (Jvm.Cond.methodLink "ClockZonesModel" (368 : Nat) ({ cls := "ClockZonesModel", name := "isPlace", desc := "(I)Z" } : Jvm.MethodName)) ∈ lw_all := lw_g (lw_at lw_m10 200 rfl) rfl
theorem q2477 : (Jvm.Cond.privateMethod ({ cls := "ClockZonesModel", name := "isPlace", desc := "(I)Z" } : Jvm.MethodName)) ∈ lw_tbl := lw_at lw_m10 201 rfl
theorem q2478 : (Jvm.Cond.instanceMethod ({ cls := "ClockZonesModel", name := "isPlace", desc := "(I)Z" } : Jvm.MethodName)) ∈ lw_all := lw_g (lw_at lw_m10 202 rfl) rfl
theorem q2479 : (Jvm.Cond.code ({ cls := "ClockZonesModel", name := "isPlace", desc := "(I)Z" } : Jvm.MethodName) prog_12_method_51_code (2 : Nat) (Option.some Jvm.ClassFile.FieldType.boolean)) ∈ lw_all := lw_g (lw_at lw_m10 203 rfl) rfl
theorem q2481 : (Jvm.Cond.instanceMethod ({ cls := "ClockZonesModel", name := "rough", desc := "(I)I" } : Jvm.MethodName)) ∈ lw_all := lw_g (lw_at lw_m10 205 rfl) rfl
theorem q2482 : (Jvm.Cond.selects "ClockZonesModel" ({ cls := "ClockZonesModel", name := "rough", desc := "(I)I" } : Jvm.MethodName) ({ cls := "ClockZonesModel", name := "rough", desc := "(I)I" } : Jvm.MethodName)) ∈ lw_all := lw_g (lw_at lw_m10 206 rfl) rfl
theorem q2483 : (Jvm.Cond.code ({ cls := "ClockZonesModel", name := "rough", desc := "(I)I" } : Jvm.MethodName) prog_12_method_73_code (2 : Nat) (Option.some Jvm.ClassFile.FieldType.int)) ∈ lw_all := lw_g (lw_at lw_m10 207 rfl) rfl
theorem q2485 : (Jvm.Cond.instanceMethod ({ cls := "ClockZonesModel", name := "take", desc := "(II)I" } : Jvm.MethodName)) ∈ lw_all := lw_g (lw_at lw_m10 209 rfl) rfl
theorem q2486 : (Jvm.Cond.selects "ClockZonesModel" ({ cls := "ClockZonesModel", name := "take", desc := "(II)I" } : Jvm.MethodName) ({ cls := "ClockZonesModel", name := "take", desc := "(II)I" } : Jvm.MethodName)) ∈ lw_all := lw_g (lw_at lw_m10 210 rfl) rfl
theorem q2487 : (Jvm.Cond.code ({ cls := "ClockZonesModel", name := "take", desc := "(II)I" } : Jvm.MethodName) prog_12_method_74_code (3 : Nat) (Option.some Jvm.ClassFile.FieldType.int)) ∈ lw_all := lw_g (lw_at lw_m10 211 rfl) rfl
theorem q2489 : (Jvm.Cond.instanceMethod ({ cls := "ClockZonesModel", name := "bound", desc := "(IIII)I" } : Jvm.MethodName)) ∈ lw_all := lw_g (lw_at lw_m10 213 rfl) rfl
theorem q2490 : (Jvm.Cond.selects "ClockZonesModel" ({ cls := "ClockZonesModel", name := "bound", desc := "(IIII)I" } : Jvm.MethodName) ({ cls := "ClockZonesModel", name := "bound", desc := "(IIII)I" } : Jvm.MethodName)) ∈ lw_all := lw_g (lw_at lw_m10 214 rfl) rfl
theorem q2491 : (Jvm.Cond.code ({ cls := "ClockZonesModel", name := "bound", desc := "(IIII)I" } : Jvm.MethodName) prog_12_method_76_code (5 : Nat) (Option.some Jvm.ClassFile.FieldType.int)) ∈ lw_all := lw_g (lw_at lw_m10 215 rfl) rfl
theorem q2492 : (Jvm.Cond.methodLink "ClockZonesModel" (380 : Nat) ({ cls := "ClockZonesModel", name := "told", desc := "(II)I" } : Jvm.MethodName)) ∈ lw_all := lw_g (lw_at lw_m10 216 rfl) rfl
theorem q2493 : (Jvm.Cond.privateMethod ({ cls := "ClockZonesModel", name := "told", desc := "(II)I" } : Jvm.MethodName)) ∈ lw_tbl := lw_at lw_m10 217 rfl
theorem q2494 : (Jvm.Cond.instanceMethod ({ cls := "ClockZonesModel", name := "told", desc := "(II)I" } : Jvm.MethodName)) ∈ lw_all := lw_g (lw_at lw_m10 218 rfl) rfl
theorem q2495 : (Jvm.Cond.code ({ cls := "ClockZonesModel", name := "told", desc := "(II)I" } : Jvm.MethodName) prog_12_method_75_code (3 : Nat) (Option.some Jvm.ClassFile.FieldType.int)) ∈ lw_all := lw_g (lw_at lw_m10 219 rfl) rfl
theorem q2497 : (Jvm.Cond.instanceMethod ({ cls := "ClockZonesModel", name := "width", desc := "(IIII)I" } : Jvm.MethodName)) ∈ lw_all := lw_g (lw_at lw_m10 221 rfl) rfl
theorem q2498 : (Jvm.Cond.selects "ClockZonesModel" ({ cls := "ClockZonesModel", name := "width", desc := "(IIII)I" } : Jvm.MethodName) ({ cls := "ClockZonesModel", name := "width", desc := "(IIII)I" } : Jvm.MethodName)) ∈ lw_all := lw_g (lw_at lw_m10 222 rfl) rfl
theorem q2499 : (Jvm.Cond.code ({ cls := "ClockZonesModel", name := "width", desc := "(IIII)I" } : Jvm.MethodName) prog_12_method_77_code (5 : Nat) (Option.some Jvm.ClassFile.FieldType.int)) ∈ lw_all := lw_g (lw_at lw_m10 223 rfl) rfl
theorem q2501 : (Jvm.Cond.instanceMethod ({ cls := "ClockZonesModel", name := "empty", desc := "(I)I" } : Jvm.MethodName)) ∈ lw_all := lw_g (lw_at lw_m10 225 rfl) rfl
theorem q2502 : (Jvm.Cond.selects "ClockZonesModel" ({ cls := "ClockZonesModel", name := "empty", desc := "(I)I" } : Jvm.MethodName) ({ cls := "ClockZonesModel", name := "empty", desc := "(I)I" } : Jvm.MethodName)) ∈ lw_all := lw_g (lw_at lw_m10 226 rfl) rfl
theorem q2503 : (Jvm.Cond.code ({ cls := "ClockZonesModel", name := "empty", desc := "(I)I" } : Jvm.MethodName) prog_12_method_78_code (2 : Nat) (Option.some Jvm.ClassFile.FieldType.int)) ∈ lw_all := lw_g (lw_at lw_m10 227 rfl) rfl
theorem q2505 : (Jvm.Cond.instanceMethod ({ cls := "ClockZonesModel", name := "within", desc := "(II)I" } : Jvm.MethodName)) ∈ lw_all := lw_g (lw_at lw_m10 229 rfl) rfl
theorem q2506 : (Jvm.Cond.selects "ClockZonesModel" ({ cls := "ClockZonesModel", name := "within", desc := "(II)I" } : Jvm.MethodName) ({ cls := "ClockZonesModel", name := "within", desc := "(II)I" } : Jvm.MethodName)) ∈ lw_all := lw_g (lw_at lw_m10 230 rfl) rfl
theorem q2507 : (Jvm.Cond.code ({ cls := "ClockZonesModel", name := "within", desc := "(II)I" } : Jvm.MethodName) prog_12_method_79_code (3 : Nat) (Option.some Jvm.ClassFile.FieldType.int)) ∈ lw_all := lw_g (lw_at lw_m10 231 rfl) rfl
theorem q2509 : (Jvm.Cond.instanceMethod ({ cls := "ClockZonesModel", name := "has", desc := "(IIIII)I" } : Jvm.MethodName)) ∈ lw_all := lw_g (lw_at lw_m10 233 rfl) rfl
theorem q2510 : (Jvm.Cond.selects "ClockZonesModel" ({ cls := "ClockZonesModel", name := "has", desc := "(IIIII)I" } : Jvm.MethodName) ({ cls := "ClockZonesModel", name := "has", desc := "(IIIII)I" } : Jvm.MethodName)) ∈ lw_all := lw_g (lw_at lw_m10 234 rfl) rfl
theorem q2511 : (Jvm.Cond.code ({ cls := "ClockZonesModel", name := "has", desc := "(IIIII)I" } : Jvm.MethodName) prog_12_method_82_code (6 : Nat) (Option.some Jvm.ClassFile.FieldType.int)) ∈ lw_all := lw_g (lw_at lw_m10 235 rfl) rfl
theorem q2512 : (Jvm.Cond.methodLink "ClockZonesModel" (387 : Nat) ({ cls := "ClockZonesModel", name := "hasTimes", desc := "(I)Z" } : Jvm.MethodName)) ∈ lw_all := lw_g (lw_at lw_m10 236 rfl) rfl
theorem q2513 : (Jvm.Cond.privateMethod ({ cls := "ClockZonesModel", name := "hasTimes", desc := "(I)Z" } : Jvm.MethodName)) ∈ lw_tbl := lw_at lw_m10 237 rfl
theorem q2514 : (Jvm.Cond.instanceMethod ({ cls := "ClockZonesModel", name := "hasTimes", desc := "(I)Z" } : Jvm.MethodName)) ∈ lw_all := lw_g (lw_at lw_m10 238 rfl) rfl
theorem q2515 : (Jvm.Cond.code ({ cls := "ClockZonesModel", name := "hasTimes", desc := "(I)Z" } : Jvm.MethodName) prog_12_method_81_code (7 : Nat) (Option.some Jvm.ClassFile.FieldType.boolean)) ∈ lw_all := lw_g (lw_at lw_m10 239 rfl) rfl
theorem q2517 : (Jvm.Cond.instanceMethod ({ cls := "ClockZonesModel", name := "pairs", desc := "(II)I" } : Jvm.MethodName)) ∈ lw_all := lw_g (lw_at lw_m11 1 rfl) rfl
theorem q2518 : (Jvm.Cond.selects "ClockZonesModel" ({ cls := "ClockZonesModel", name := "pairs", desc := "(II)I" } : Jvm.MethodName) ({ cls := "ClockZonesModel", name := "pairs", desc := "(II)I" } : Jvm.MethodName)) ∈ lw_all := lw_g (lw_at lw_m11 2 rfl) rfl
theorem q2519 : (Jvm.Cond.code ({ cls := "ClockZonesModel", name := "pairs", desc := "(II)I" } : Jvm.MethodName) prog_12_method_84_code (6 : Nat) (Option.some Jvm.ClassFile.FieldType.int)) ∈ lw_all := lw_g (lw_at lw_m11 3 rfl) rfl
theorem q2520 : (Jvm.Cond.methodLink "ClockZonesModel" (390 : Nat) ({ cls := "ClockZonesModel", name := "follows", desc := "(II)Z" } : Jvm.MethodName)) ∈ lw_all := lw_g (lw_at lw_m11 4 rfl) rfl
theorem q2521 : (Jvm.Cond.privateMethod ({ cls := "ClockZonesModel", name := "follows", desc := "(II)Z" } : Jvm.MethodName)) ∈ lw_tbl := lw_at lw_m11 5 rfl
theorem q2522 : (Jvm.Cond.instanceMethod ({ cls := "ClockZonesModel", name := "follows", desc := "(II)Z" } : Jvm.MethodName)) ∈ lw_all := lw_g (lw_at lw_m11 6 rfl) rfl
theorem q2523 : (Jvm.Cond.code ({ cls := "ClockZonesModel", name := "follows", desc := "(II)Z" } : Jvm.MethodName) prog_12_method_83_code (4 : Nat) (Option.some Jvm.ClassFile.FieldType.boolean)) ∈ lw_all := lw_g (lw_at lw_m11 7 rfl) rfl
theorem q2525 : (Jvm.Cond.instanceMethod ({ cls := "ClockZonesModel", name := "single", desc := "(I)I" } : Jvm.MethodName)) ∈ lw_all := lw_g (lw_at lw_m11 9 rfl) rfl
theorem q2526 : (Jvm.Cond.selects "ClockZonesModel" ({ cls := "ClockZonesModel", name := "single", desc := "(I)I" } : Jvm.MethodName) ({ cls := "ClockZonesModel", name := "single", desc := "(I)I" } : Jvm.MethodName)) ∈ lw_all := lw_g (lw_at lw_m11 10 rfl) rfl
theorem q2527 : (Jvm.Cond.code ({ cls := "ClockZonesModel", name := "single", desc := "(I)I" } : Jvm.MethodName) prog_12_method_85_code (4 : Nat) (Option.some Jvm.ClassFile.FieldType.int)) ∈ lw_all := lw_g (lw_at lw_m11 11 rfl) rfl
theorem q2529 : (Jvm.Cond.instanceMethod ({ cls := "ClockZonesModel", name := "whole", desc := "(II)I" } : Jvm.MethodName)) ∈ lw_all := lw_g (lw_at lw_m11 13 rfl) rfl
theorem q2530 : (Jvm.Cond.selects "ClockZonesModel" ({ cls := "ClockZonesModel", name := "whole", desc := "(II)I" } : Jvm.MethodName) ({ cls := "ClockZonesModel", name := "whole", desc := "(II)I" } : Jvm.MethodName)) ∈ lw_all := lw_g (lw_at lw_m11 14 rfl) rfl
theorem q2531 : (Jvm.Cond.code ({ cls := "ClockZonesModel", name := "whole", desc := "(II)I" } : Jvm.MethodName) prog_12_method_86_code (8 : Nat) (Option.some Jvm.ClassFile.FieldType.int)) ∈ lw_all := lw_g (lw_at lw_m11 15 rfl) rfl
theorem q2533 : (Jvm.Cond.instanceMethod ({ cls := "ClockZonesModel", name := "first", desc := "(II)I" } : Jvm.MethodName)) ∈ lw_all := lw_g (lw_at lw_m11 17 rfl) rfl
theorem q2534 : (Jvm.Cond.selects "ClockZonesModel" ({ cls := "ClockZonesModel", name := "first", desc := "(II)I" } : Jvm.MethodName) ({ cls := "ClockZonesModel", name := "first", desc := "(II)I" } : Jvm.MethodName)) ∈ lw_all := lw_g (lw_at lw_m11 18 rfl) rfl
theorem q2535 : (Jvm.Cond.code ({ cls := "ClockZonesModel", name := "first", desc := "(II)I" } : Jvm.MethodName) prog_12_method_88_code (4 : Nat) (Option.some Jvm.ClassFile.FieldType.int)) ∈ lw_all := lw_g (lw_at lw_m11 19 rfl) rfl
theorem q2536 : (Jvm.Cond.methodLink "ClockZonesModel" (393 : Nat) ({ cls := "ClockZonesModel", name := "wholes", desc := "()V" } : Jvm.MethodName)) ∈ lw_all := lw_g (lw_at lw_m11 20 rfl) rfl
theorem q2537 : (Jvm.Cond.privateMethod ({ cls := "ClockZonesModel", name := "wholes", desc := "()V" } : Jvm.MethodName)) ∈ lw_tbl := lw_at lw_m11 21 rfl
theorem q2538 : (Jvm.Cond.instanceMethod ({ cls := "ClockZonesModel", name := "wholes", desc := "()V" } : Jvm.MethodName)) ∈ lw_all := lw_g (lw_at lw_m11 22 rfl) rfl
theorem q2539 : (Jvm.Cond.code ({ cls := "ClockZonesModel", name := "wholes", desc := "()V" } : Jvm.MethodName) prog_12_method_87_code (3 : Nat) (Option.none : Option Jvm.ClassFile.FieldType)) ∈ lw_all := lw_g (lw_at lw_m11 23 rfl) rfl
theorem q2541 : (Jvm.Cond.instanceMethod ({ cls := "ClockZonesModel", name := "longest", desc := "(III)I" } : Jvm.MethodName)) ∈ lw_all := lw_g (lw_at lw_m11 25 rfl) rfl
theorem q2542 : (Jvm.Cond.selects "ClockZonesModel" ({ cls := "ClockZonesModel", name := "longest", desc := "(III)I" } : Jvm.MethodName) ({ cls := "ClockZonesModel", name := "longest", desc := "(III)I" } : Jvm.MethodName)) ∈ lw_all := lw_g (lw_at lw_m11 26 rfl) rfl
theorem q2543 : (Jvm.Cond.code ({ cls := "ClockZonesModel", name := "longest", desc := "(III)I" } : Jvm.MethodName) prog_12_method_90_code (4 : Nat) (Option.some Jvm.ClassFile.FieldType.int)) ∈ lw_all := lw_g (lw_at lw_m11 27 rfl) rfl
theorem q2544 : (Jvm.Cond.methodLink "ClockZonesModel" (396 : Nat) ({ cls := "ClockZonesModel", name := "stretches", desc := "()V" } : Jvm.MethodName)) ∈ lw_all := lw_g (lw_at lw_m11 28 rfl) rfl
theorem q2545 : (Jvm.Cond.privateMethod ({ cls := "ClockZonesModel", name := "stretches", desc := "()V" } : Jvm.MethodName)) ∈ lw_tbl := lw_at lw_m11 29 rfl
theorem q2546 : (Jvm.Cond.instanceMethod ({ cls := "ClockZonesModel", name := "stretches", desc := "()V" } : Jvm.MethodName)) ∈ lw_all := lw_g (lw_at lw_m11 30 rfl) rfl
theorem q2547 : (Jvm.Cond.code ({ cls := "ClockZonesModel", name := "stretches", desc := "()V" } : Jvm.MethodName) prog_12_method_89_code (3 : Nat) (Option.none : Option Jvm.ClassFile.FieldType)) ∈ lw_all := lw_g (lw_at lw_m11 31 rfl) rfl
theorem q2549 : (Jvm.Cond.instanceMethod ({ cls := "ClockZonesModel", name := "soonest", desc := "(III)I" } : Jvm.MethodName)) ∈ lw_all := lw_g (lw_at lw_m11 33 rfl) rfl
theorem q2550 : (Jvm.Cond.selects "ClockZonesModel" ({ cls := "ClockZonesModel", name := "soonest", desc := "(III)I" } : Jvm.MethodName) ({ cls := "ClockZonesModel", name := "soonest", desc := "(III)I" } : Jvm.MethodName)) ∈ lw_all := lw_g (lw_at lw_m11 34 rfl) rfl
theorem q2551 : (Jvm.Cond.code ({ cls := "ClockZonesModel", name := "soonest", desc := "(III)I" } : Jvm.MethodName) prog_12_method_91_code (4 : Nat) (Option.some Jvm.ClassFile.FieldType.int)) ∈ lw_all := lw_g (lw_at lw_m11 35 rfl) rfl
theorem q2552 : (Jvm.Cond.methodLink "ClockZonesModel" (399 : Nat) ({ cls := "ClockZonesModel", name := "low", desc := "(II)I" } : Jvm.MethodName)) ∈ lw_all := lw_g (lw_at lw_m11 36 rfl) rfl
theorem q2553 : (Jvm.Cond.static ({ cls := "ClockZonesModel", name := "low", desc := "(II)I" } : Jvm.MethodName)) ∈ lw_all := lw_g (lw_at lw_m11 37 rfl) rfl
theorem q2554 : (Jvm.Cond.code ({ cls := "ClockZonesModel", name := "low", desc := "(II)I" } : Jvm.MethodName) prog_12_method_92_code (2 : Nat) (Option.some Jvm.ClassFile.FieldType.int)) ∈ lw_all := lw_g (lw_at lw_m11 38 rfl) rfl
theorem q2556 : (Jvm.Cond.instanceMethod ({ cls := "ClockZonesModel", name := "nodes", desc := "()I" } : Jvm.MethodName)) ∈ lw_all := lw_g (lw_at lw_m11 40 rfl) rfl
theorem q2557 : (Jvm.Cond.selects "ClockZonesModel" ({ cls := "ClockZonesModel", name := "nodes", desc := "()I" } : Jvm.MethodName) ({ cls := "ClockZonesModel", name := "nodes", desc := "()I" } : Jvm.MethodName)) ∈ lw_all := lw_g (lw_at lw_m11 41 rfl) rfl
theorem q2558 : (Jvm.Cond.code ({ cls := "ClockZonesModel", name := "nodes", desc := "()I" } : Jvm.MethodName) prog_12_method_96_code (1 : Nat) (Option.some Jvm.ClassFile.FieldType.int)) ∈ lw_all := lw_g (lw_at lw_m11 42 rfl) rfl
theorem q2560 : (Jvm.Cond.instanceMethod ({ cls := "ClockZonesModel", name := "node", desc := "(II)I" } : Jvm.MethodName)) ∈ lw_all := lw_g (lw_at lw_m11 44 rfl) rfl
theorem q2561 : (Jvm.Cond.selects "ClockZonesModel" ({ cls := "ClockZonesModel", name := "node", desc := "(II)I" } : Jvm.MethodName) ({ cls := "ClockZonesModel", name := "node", desc := "(II)I" } : Jvm.MethodName)) ∈ lw_all := lw_g (lw_at lw_m11 45 rfl) rfl
theorem q2562 : (Jvm.Cond.code ({ cls := "ClockZonesModel", name := "node", desc := "(II)I" } : Jvm.MethodName) prog_12_method_98_code (3 : Nat) (Option.some Jvm.ClassFile.FieldType.int)) ∈ lw_all := lw_g (lw_at lw_m11 46 rfl) rfl
theorem q2563 : (Jvm.Cond.methodLink "ClockZonesModel" (408 : Nat) ({ cls := "ClockZonesModel", name := "depth", desc := "(I)I" } : Jvm.MethodName)) ∈ lw_all := lw_g (lw_at lw_m11 47 rfl) rfl
theorem q2564 : (Jvm.Cond.privateMethod ({ cls := "ClockZonesModel", name := "depth", desc := "(I)I" } : Jvm.MethodName)) ∈ lw_tbl := lw_at lw_m11 48 rfl
theorem q2565 : (Jvm.Cond.instanceMethod ({ cls := "ClockZonesModel", name := "depth", desc := "(I)I" } : Jvm.MethodName)) ∈ lw_all := lw_g (lw_at lw_m11 49 rfl) rfl
theorem q2566 : (Jvm.Cond.code ({ cls := "ClockZonesModel", name := "depth", desc := "(I)I" } : Jvm.MethodName) prog_12_method_97_code (4 : Nat) (Option.some Jvm.ClassFile.FieldType.int)) ∈ lw_all := lw_g (lw_at lw_m11 50 rfl) rfl
theorem q2568 : (Jvm.Cond.instanceMethod ({ cls := "ClockZonesModel", name := "nodeBound", desc := "(IIII)I" } : Jvm.MethodName)) ∈ lw_all := lw_g (lw_at lw_m11 52 rfl) rfl
theorem q2569 : (Jvm.Cond.selects "ClockZonesModel" ({ cls := "ClockZonesModel", name := "nodeBound", desc := "(IIII)I" } : Jvm.MethodName) ({ cls := "ClockZonesModel", name := "nodeBound", desc := "(IIII)I" } : Jvm.MethodName)) ∈ lw_all := lw_g (lw_at lw_m11 53 rfl) rfl
theorem q2570 : (Jvm.Cond.code ({ cls := "ClockZonesModel", name := "nodeBound", desc := "(IIII)I" } : Jvm.MethodName) prog_12_method_99_code (5 : Nat) (Option.some Jvm.ClassFile.FieldType.int)) ∈ lw_all := lw_g (lw_at lw_m11 54 rfl) rfl
theorem q2572 : (Jvm.Cond.instanceMethod ({ cls := "ClockZonesModel", name := "way", desc := "(II)I" } : Jvm.MethodName)) ∈ lw_all := lw_g (lw_at lw_m11 56 rfl) rfl
theorem q2573 : (Jvm.Cond.selects "ClockZonesModel" ({ cls := "ClockZonesModel", name := "way", desc := "(II)I" } : Jvm.MethodName) ({ cls := "ClockZonesModel", name := "way", desc := "(II)I" } : Jvm.MethodName)) ∈ lw_all := lw_g (lw_at lw_m11 57 rfl) rfl
theorem q2574 : (Jvm.Cond.code ({ cls := "ClockZonesModel", name := "way", desc := "(II)I" } : Jvm.MethodName) prog_12_method_102_code (3 : Nat) (Option.some Jvm.ClassFile.FieldType.int)) ∈ lw_all := lw_g (lw_at lw_m11 58 rfl) rfl
theorem q2575 : (Jvm.Cond.methodLink "ClockZonesModel" (417 : Nat) ({ cls := "ClockZonesModel", name := "laysRoad", desc := "(I)Z" } : Jvm.MethodName)) ∈ lw_all := lw_g (lw_at lw_m11 59 rfl) rfl
theorem q2576 : (Jvm.Cond.privateMethod ({ cls := "ClockZonesModel", name := "laysRoad", desc := "(I)Z" } : Jvm.MethodName)) ∈ lw_tbl := lw_at lw_m11 60 rfl
theorem q2577 : (Jvm.Cond.instanceMethod ({ cls := "ClockZonesModel", name := "laysRoad", desc := "(I)Z" } : Jvm.MethodName)) ∈ lw_all := lw_g (lw_at lw_m11 61 rfl) rfl
theorem q2578 : (Jvm.Cond.code ({ cls := "ClockZonesModel", name := "laysRoad", desc := "(I)Z" } : Jvm.MethodName) prog_12_method_101_code (5 : Nat) (Option.some Jvm.ClassFile.FieldType.boolean)) ∈ lw_all := lw_g (lw_at lw_m11 62 rfl) rfl
theorem q2579 : (Jvm.Cond.methodLink "ClockZonesModel" (411 : Nat) ({ cls := "ClockZonesModel", name := "firstNode", desc := "(I)I" } : Jvm.MethodName)) ∈ lw_all := lw_g (lw_at lw_m11 63 rfl) rfl
theorem q2580 : (Jvm.Cond.privateMethod ({ cls := "ClockZonesModel", name := "firstNode", desc := "(I)I" } : Jvm.MethodName)) ∈ lw_tbl := lw_at lw_m11 64 rfl
theorem q2581 : (Jvm.Cond.instanceMethod ({ cls := "ClockZonesModel", name := "firstNode", desc := "(I)I" } : Jvm.MethodName)) ∈ lw_all := lw_g (lw_at lw_m11 65 rfl) rfl
theorem q2582 : (Jvm.Cond.code ({ cls := "ClockZonesModel", name := "firstNode", desc := "(I)I" } : Jvm.MethodName) prog_12_method_100_code (3 : Nat) (Option.some Jvm.ClassFile.FieldType.int)) ∈ lw_all := lw_g (lw_at lw_m11 66 rfl) rfl
theorem q2584 : (Jvm.Cond.instanceMethod ({ cls := "ClockZonesModel", name := "deepest", desc := "(I)I" } : Jvm.MethodName)) ∈ lw_all := lw_g (lw_at lw_m11 68 rfl) rfl
theorem q2585 : (Jvm.Cond.selects "ClockZonesModel" ({ cls := "ClockZonesModel", name := "deepest", desc := "(I)I" } : Jvm.MethodName) ({ cls := "ClockZonesModel", name := "deepest", desc := "(I)I" } : Jvm.MethodName)) ∈ lw_all := lw_g (lw_at lw_m11 69 rfl) rfl
theorem q2586 : (Jvm.Cond.code ({ cls := "ClockZonesModel", name := "deepest", desc := "(I)I" } : Jvm.MethodName) prog_12_method_103_code (6 : Nat) (Option.some Jvm.ClassFile.FieldType.int)) ∈ lw_all := lw_g (lw_at lw_m11 70 rfl) rfl
theorem q2588 : (Jvm.Cond.instanceMethod ({ cls := "ClockZonesModel", name := "open", desc := "(I)I" } : Jvm.MethodName)) ∈ lw_all := lw_g (lw_at lw_m11 72 rfl) rfl
theorem q2589 : (Jvm.Cond.selects "ClockZonesModel" ({ cls := "ClockZonesModel", name := "open", desc := "(I)I" } : Jvm.MethodName) ({ cls := "ClockZonesModel", name := "open", desc := "(I)I" } : Jvm.MethodName)) ∈ lw_all := lw_g (lw_at lw_m11 73 rfl) rfl
theorem q2590 : (Jvm.Cond.code ({ cls := "ClockZonesModel", name := "open", desc := "(I)I" } : Jvm.MethodName) prog_12_method_105_code (2 : Nat) (Option.some Jvm.ClassFile.FieldType.int)) ∈ lw_all := lw_g (lw_at lw_m11 74 rfl) rfl
theorem q2591 : (Jvm.Cond.methodLink "ClockZonesModel" (420 : Nat) ({ cls := "ClockZonesModel", name := "openOf", desc := "(I)I" } : Jvm.MethodName)) ∈ lw_all := lw_g (lw_at lw_m11 75 rfl) rfl
theorem q2592 : (Jvm.Cond.privateMethod ({ cls := "ClockZonesModel", name := "openOf", desc := "(I)I" } : Jvm.MethodName)) ∈ lw_tbl := lw_at lw_m11 76 rfl
theorem q2593 : (Jvm.Cond.instanceMethod ({ cls := "ClockZonesModel", name := "openOf", desc := "(I)I" } : Jvm.MethodName)) ∈ lw_all := lw_g (lw_at lw_m11 77 rfl) rfl
theorem q2594 : (Jvm.Cond.code ({ cls := "ClockZonesModel", name := "openOf", desc := "(I)I" } : Jvm.MethodName) prog_12_method_104_code (4 : Nat) (Option.some Jvm.ClassFile.FieldType.int)) ∈ lw_all := lw_g (lw_at lw_m11 78 rfl) rfl
theorem q2596 : (Jvm.Cond.instanceMethod ({ cls := "ClockZonesModel", name := "stuck", desc := "()I" } : Jvm.MethodName)) ∈ lw_all := lw_g (lw_at lw_m11 80 rfl) rfl
theorem q2597 : (Jvm.Cond.selects "ClockZonesModel" ({ cls := "ClockZonesModel", name := "stuck", desc := "()I" } : Jvm.MethodName) ({ cls := "ClockZonesModel", name := "stuck", desc := "()I" } : Jvm.MethodName)) ∈ lw_all := lw_g (lw_at lw_m11 81 rfl) rfl
theorem q2598 : (Jvm.Cond.code ({ cls := "ClockZonesModel", name := "stuck", desc := "()I" } : Jvm.MethodName) prog_12_method_106_code (2 : Nat) (Option.some Jvm.ClassFile.FieldType.int)) ∈ lw_all := lw_g (lw_at lw_m11 82 rfl) rfl
theorem q2600 : (Jvm.Cond.instanceMethod ({ cls := "ClockZonesModel", name := "reached", desc := "()I" } : Jvm.MethodName)) ∈ lw_all := lw_g (lw_at lw_m11 84 rfl) rfl
theorem q2601 : (Jvm.Cond.selects "ClockZonesModel" ({ cls := "ClockZonesModel", name := "reached", desc := "()I" } : Jvm.MethodName) ({ cls := "ClockZonesModel", name := "reached", desc := "()I" } : Jvm.MethodName)) ∈ lw_all := lw_g (lw_at lw_m11 85 rfl) rfl
theorem q2602 : (Jvm.Cond.code ({ cls := "ClockZonesModel", name := "reached", desc := "()I" } : Jvm.MethodName) prog_12_method_107_code (3 : Nat) (Option.some Jvm.ClassFile.FieldType.int)) ∈ lw_all := lw_g (lw_at lw_m11 86 rfl) rfl
theorem q2604 : (Jvm.Cond.instanceMethod ({ cls := "ClockZonesModel", name := "leads", desc := "(I)I" } : Jvm.MethodName)) ∈ lw_all := lw_g (lw_at lw_m11 88 rfl) rfl
theorem q2605 : (Jvm.Cond.selects "ClockZonesModel" ({ cls := "ClockZonesModel", name := "leads", desc := "(I)I" } : Jvm.MethodName) ({ cls := "ClockZonesModel", name := "leads", desc := "(I)I" } : Jvm.MethodName)) ∈ lw_all := lw_g (lw_at lw_m11 89 rfl) rfl
theorem q2606 : (Jvm.Cond.code ({ cls := "ClockZonesModel", name := "leads", desc := "(I)I" } : Jvm.MethodName) prog_12_method_108_code (5 : Nat) (Option.some Jvm.ClassFile.FieldType.int)) ∈ lw_all := lw_g (lw_at lw_m11 90 rfl) rfl
theorem q2608 : (Jvm.Cond.instanceMethod ({ cls := "ClockZonesModel", name := "place", desc := "(II)I" } : Jvm.MethodName)) ∈ lw_all := lw_g (lw_at lw_m11 92 rfl) rfl
theorem q2609 : (Jvm.Cond.selects "ClockZonesModel" ({ cls := "ClockZonesModel", name := "place", desc := "(II)I" } : Jvm.MethodName) ({ cls := "ClockZonesModel", name := "place", desc := "(II)I" } : Jvm.MethodName)) ∈ lw_all := lw_g (lw_at lw_m11 93 rfl) rfl
theorem q2610 : (Jvm.Cond.code ({ cls := "ClockZonesModel", name := "place", desc := "(II)I" } : Jvm.MethodName) prog_12_method_109_code (5 : Nat) (Option.some Jvm.ClassFile.FieldType.int)) ∈ lw_all := lw_g (lw_at lw_m11 94 rfl) rfl
theorem q2612 : (Jvm.Cond.instanceMethod ({ cls := "ClockZonesModel", name := "edge", desc := "(II)I" } : Jvm.MethodName)) ∈ lw_all := lw_g (lw_at lw_m11 96 rfl) rfl
theorem q2613 : (Jvm.Cond.selects "ClockZonesModel" ({ cls := "ClockZonesModel", name := "edge", desc := "(II)I" } : Jvm.MethodName) ({ cls := "ClockZonesModel", name := "edge", desc := "(II)I" } : Jvm.MethodName)) ∈ lw_all := lw_g (lw_at lw_m11 97 rfl) rfl
theorem q2614 : (Jvm.Cond.code ({ cls := "ClockZonesModel", name := "edge", desc := "(II)I" } : Jvm.MethodName) prog_12_method_110_code (4 : Nat) (Option.some Jvm.ClassFile.FieldType.int)) ∈ lw_all := lw_g (lw_at lw_m11 98 rfl) rfl
theorem q2616 : (Jvm.Cond.instanceMethod ({ cls := "ClockZonesModel", name := "when", desc := "(III)I" } : Jvm.MethodName)) ∈ lw_all := lw_g (lw_at lw_m11 100 rfl) rfl
theorem q2617 : (Jvm.Cond.selects "ClockZonesModel" ({ cls := "ClockZonesModel", name := "when", desc := "(III)I" } : Jvm.MethodName) ({ cls := "ClockZonesModel", name := "when", desc := "(III)I" } : Jvm.MethodName)) ∈ lw_all := lw_g (lw_at lw_m11 101 rfl) rfl
theorem q2618 : (Jvm.Cond.code ({ cls := "ClockZonesModel", name := "when", desc := "(III)I" } : Jvm.MethodName) prog_12_method_111_code (5 : Nat) (Option.some Jvm.ClassFile.FieldType.int)) ∈ lw_all := lw_g (lw_at lw_m11 102 rfl) rfl
theorem q2620 : (Jvm.Cond.instanceMethod ({ cls := "ClockZonesModel", name := "set", desc := "(III)I" } : Jvm.MethodName)) ∈ lw_all := lw_g (lw_at lw_m11 104 rfl) rfl
theorem q2621 : (Jvm.Cond.selects "ClockZonesModel" ({ cls := "ClockZonesModel", name := "set", desc := "(III)I" } : Jvm.MethodName) ({ cls := "ClockZonesModel", name := "set", desc := "(III)I" } : Jvm.MethodName)) ∈ lw_all := lw_g (lw_at lw_m11 105 rfl) rfl
theorem q2622 : (Jvm.Cond.code ({ cls := "ClockZonesModel", name := "set", desc := "(III)I" } : Jvm.MethodName) prog_12_method_112_code (4 : Nat) (Option.some Jvm.ClassFile.FieldType.int)) ∈ lw_all := lw_g (lw_at lw_m11 106 rfl) rfl
theorem q2624 : (Jvm.Cond.instanceMethod ({ cls := "ClockZonesModel", name := "tells", desc := "(II)I" } : Jvm.MethodName)) ∈ lw_all := lw_g (lw_at lw_m11 108 rfl) rfl
theorem q2625 : (Jvm.Cond.selects "ClockZonesModel" ({ cls := "ClockZonesModel", name := "tells", desc := "(II)I" } : Jvm.MethodName) ({ cls := "ClockZonesModel", name := "tells", desc := "(II)I" } : Jvm.MethodName)) ∈ lw_all := lw_g (lw_at lw_m11 109 rfl) rfl
theorem q2626 : (Jvm.Cond.code ({ cls := "ClockZonesModel", name := "tells", desc := "(II)I" } : Jvm.MethodName) prog_12_method_115_code (5 : Nat) (Option.some Jvm.ClassFile.FieldType.int)) ∈ lw_all := lw_g (lw_at lw_m11 110 rfl) rfl
theorem q2627 : (Jvm.Cond.methodLink "ClockZonesModel" (423 : Nat) ({ cls := "ClockZonesModel", name := "hasWhen", desc := "(II)Z" } : Jvm.MethodName)) ∈ lw_all := lw_g (lw_at lw_m11 111 rfl) rfl
theorem q2628 : (Jvm.Cond.privateMethod ({ cls := "ClockZonesModel", name := "hasWhen", desc := "(II)Z" } : Jvm.MethodName)) ∈ lw_tbl := lw_at lw_m11 112 rfl
theorem q2629 : (Jvm.Cond.instanceMethod ({ cls := "ClockZonesModel", name := "hasWhen", desc := "(II)Z" } : Jvm.MethodName)) ∈ lw_all := lw_g (lw_at lw_m11 113 rfl) rfl
theorem q2630 : (Jvm.Cond.code ({ cls := "ClockZonesModel", name := "hasWhen", desc := "(II)Z" } : Jvm.MethodName) prog_12_method_113_code (4 : Nat) (Option.some Jvm.ClassFile.FieldType.boolean)) ∈ lw_all := lw_g (lw_at lw_m11 114 rfl) rfl
theorem q2631 : (Jvm.Cond.methodLink "ClockZonesModel" (426 : Nat) ({ cls := "ClockZonesModel", name := "hasSet", desc := "(II)Z" } : Jvm.MethodName)) ∈ lw_all := lw_g (lw_at lw_m11 115 rfl) rfl
theorem q2632 : (Jvm.Cond.privateMethod ({ cls := "ClockZonesModel", name := "hasSet", desc := "(II)Z" } : Jvm.MethodName)) ∈ lw_tbl := lw_at lw_m11 116 rfl
theorem q2633 : (Jvm.Cond.instanceMethod ({ cls := "ClockZonesModel", name := "hasSet", desc := "(II)Z" } : Jvm.MethodName)) ∈ lw_all := lw_g (lw_at lw_m11 117 rfl) rfl
theorem q2634 : (Jvm.Cond.code ({ cls := "ClockZonesModel", name := "hasSet", desc := "(II)Z" } : Jvm.MethodName) prog_12_method_114_code (4 : Nat) (Option.some Jvm.ClassFile.FieldType.boolean)) ∈ lw_all := lw_g (lw_at lw_m11 118 rfl) rfl
theorem q2636 : (Jvm.Cond.instanceMethod ({ cls := "ClockZonesModel", name := "great", desc := "(I)I" } : Jvm.MethodName)) ∈ lw_all := lw_g (lw_at lw_m11 120 rfl) rfl
theorem q2637 : (Jvm.Cond.selects "ClockZonesModel" ({ cls := "ClockZonesModel", name := "great", desc := "(I)I" } : Jvm.MethodName) ({ cls := "ClockZonesModel", name := "great", desc := "(I)I" } : Jvm.MethodName)) ∈ lw_all := lw_g (lw_at lw_m11 121 rfl) rfl
theorem q2638 : (Jvm.Cond.code ({ cls := "ClockZonesModel", name := "great", desc := "(I)I" } : Jvm.MethodName) prog_12_method_116_code (2 : Nat) (Option.some Jvm.ClassFile.FieldType.int)) ∈ lw_all := lw_g (lw_at lw_m11 122 rfl) rfl
theorem q2640 : (Jvm.Cond.instanceMethod ({ cls := "ClockZonesModel", name := "add", desc := "(I)I" } : Jvm.MethodName)) ∈ lw_all := lw_g (lw_at lw_m11 124 rfl) rfl
theorem q2641 : (Jvm.Cond.selects "ClockZonesModel" ({ cls := "ClockZonesModel", name := "add", desc := "(I)I" } : Jvm.MethodName) ({ cls := "ClockZonesModel", name := "add", desc := "(I)I" } : Jvm.MethodName)) ∈ lw_all := lw_g (lw_at lw_m11 125 rfl) rfl
theorem q2642 : (Jvm.Cond.code ({ cls := "ClockZonesModel", name := "add", desc := "(I)I" } : Jvm.MethodName) prog_12_method_122_code (3 : Nat) (Option.some Jvm.ClassFile.FieldType.int)) ∈ lw_all := lw_g (lw_at lw_m11 126 rfl) rfl
theorem q2643 : (Jvm.Cond.methodLink "ClockZonesModel" (435 : Nat) ({ cls := "ClockZonesModel", name := "traced", desc := "()I" } : Jvm.MethodName)) ∈ lw_all := lw_g (lw_at lw_m11 127 rfl) rfl
theorem q2644 : (Jvm.Cond.privateMethod ({ cls := "ClockZonesModel", name := "traced", desc := "()I" } : Jvm.MethodName)) ∈ lw_tbl := lw_at lw_m11 128 rfl
theorem q2645 : (Jvm.Cond.instanceMethod ({ cls := "ClockZonesModel", name := "traced", desc := "()I" } : Jvm.MethodName)) ∈ lw_all := lw_g (lw_at lw_m11 129 rfl) rfl
theorem q2646 : (Jvm.Cond.code ({ cls := "ClockZonesModel", name := "traced", desc := "()I" } : Jvm.MethodName) prog_12_method_120_code (1 : Nat) (Option.some Jvm.ClassFile.FieldType.int)) ∈ lw_all := lw_g (lw_at lw_m11 130 rfl) rfl
theorem q2648 : (Jvm.Cond.instanceMethod ({ cls := "ClockZonesModel", name := "lead", desc := "(I)I" } : Jvm.MethodName)) ∈ lw_all := lw_g (lw_at lw_m11 132 rfl) rfl
theorem q2649 : (Jvm.Cond.selects "ClockZonesModel" ({ cls := "ClockZonesModel", name := "lead", desc := "(I)I" } : Jvm.MethodName) ({ cls := "ClockZonesModel", name := "lead", desc := "(I)I" } : Jvm.MethodName)) ∈ lw_all := lw_g (lw_at lw_m11 133 rfl) rfl
theorem q2650 : (Jvm.Cond.code ({ cls := "ClockZonesModel", name := "lead", desc := "(I)I" } : Jvm.MethodName) prog_12_method_123_code (3 : Nat) (Option.some Jvm.ClassFile.FieldType.int)) ∈ lw_all := lw_g (lw_at lw_m11 134 rfl) rfl
theorem q2652 : (Jvm.Cond.instanceMethod ({ cls := "ClockZonesModel", name := "trace", desc := "(I)I" } : Jvm.MethodName)) ∈ lw_all := lw_g (lw_at lw_m11 136 rfl) rfl
theorem q2653 : (Jvm.Cond.selects "ClockZonesModel" ({ cls := "ClockZonesModel", name := "trace", desc := "(I)I" } : Jvm.MethodName) ({ cls := "ClockZonesModel", name := "trace", desc := "(I)I" } : Jvm.MethodName)) ∈ lw_all := lw_g (lw_at lw_m11 137 rfl) rfl
theorem q2654 : (Jvm.Cond.code ({ cls := "ClockZonesModel", name := "trace", desc := "(I)I" } : Jvm.MethodName) prog_12_method_124_code (2 : Nat) (Option.some Jvm.ClassFile.FieldType.int)) ∈ lw_all := lw_g (lw_at lw_m11 138 rfl) rfl
theorem q2656 : (Jvm.Cond.instanceMethod ({ cls := "ClockZonesModel", name := "can", desc := "()I" } : Jvm.MethodName)) ∈ lw_all := lw_g (lw_at lw_m11 140 rfl) rfl
theorem q2657 : (Jvm.Cond.selects "ClockZonesModel" ({ cls := "ClockZonesModel", name := "can", desc := "()I" } : Jvm.MethodName) ({ cls := "ClockZonesModel", name := "can", desc := "()I" } : Jvm.MethodName)) ∈ lw_all := lw_g (lw_at lw_m11 141 rfl) rfl
theorem q2658 : (Jvm.Cond.code ({ cls := "ClockZonesModel", name := "can", desc := "()I" } : Jvm.MethodName) prog_12_method_125_code (1 : Nat) (Option.some Jvm.ClassFile.FieldType.int)) ∈ lw_all := lw_g (lw_at lw_m11 142 rfl) rfl
theorem q2659 : (Jvm.Cond.methodLink "ClockZonesModel" (442 : Nat) ({ cls := "ClockZonesModel", name := "laysTrace", desc := "()V" } : Jvm.MethodName)) ∈ lw_all := lw_g (lw_at lw_m11 143 rfl) rfl
theorem q2660 : (Jvm.Cond.privateMethod ({ cls := "ClockZonesModel", name := "laysTrace", desc := "()V" } : Jvm.MethodName)) ∈ lw_tbl := lw_at lw_m11 144 rfl
theorem q2661 : (Jvm.Cond.instanceMethod ({ cls := "ClockZonesModel", name := "laysTrace", desc := "()V" } : Jvm.MethodName)) ∈ lw_all := lw_g (lw_at lw_m11 145 rfl) rfl
theorem q2662 : (Jvm.Cond.code ({ cls := "ClockZonesModel", name := "laysTrace", desc := "()V" } : Jvm.MethodName) prog_12_method_121_code (1 : Nat) (Option.none : Option Jvm.ClassFile.FieldType)) ∈ lw_all := lw_g (lw_at lw_m11 146 rfl) rfl
theorem q2663 : (Jvm.Cond.methodLink "ClockZonesModel" (438 : Nat) ({ cls := "ClockZonesModel", name := "laysTimes", desc := "([III)V" } : Jvm.MethodName)) ∈ lw_all := lw_g (lw_at lw_m11 147 rfl) rfl
theorem q2664 : (Jvm.Cond.privateMethod ({ cls := "ClockZonesModel", name := "laysTimes", desc := "([III)V" } : Jvm.MethodName)) ∈ lw_tbl := lw_at lw_m11 148 rfl
theorem q2665 : (Jvm.Cond.instanceMethod ({ cls := "ClockZonesModel", name := "laysTimes", desc := "([III)V" } : Jvm.MethodName)) ∈ lw_all := lw_g (lw_at lw_m11 149 rfl) rfl
theorem q2666 : (Jvm.Cond.code ({ cls := "ClockZonesModel", name := "laysTimes", desc := "([III)V" } : Jvm.MethodName) prog_12_method_119_code (9 : Nat) (Option.none : Option Jvm.ClassFile.FieldType)) ∈ lw_all := lw_g (lw_at lw_m11 150 rfl) rfl
theorem q2667 : (Jvm.Cond.methodLink "ClockZonesModel" (432 : Nat) ({ cls := "ClockZonesModel", name := "holdsAt", desc := "(II)V" } : Jvm.MethodName)) ∈ lw_all := lw_g (lw_at lw_m11 151 rfl) rfl
theorem q2668 : (Jvm.Cond.privateMethod ({ cls := "ClockZonesModel", name := "holdsAt", desc := "(II)V" } : Jvm.MethodName)) ∈ lw_tbl := lw_at lw_m11 152 rfl
theorem q2669 : (Jvm.Cond.instanceMethod ({ cls := "ClockZonesModel", name := "holdsAt", desc := "(II)V" } : Jvm.MethodName)) ∈ lw_all := lw_g (lw_at lw_m11 153 rfl) rfl
theorem q2670 : (Jvm.Cond.code ({ cls := "ClockZonesModel", name := "holdsAt", desc := "(II)V" } : Jvm.MethodName) prog_12_method_118_code (5 : Nat) (Option.none : Option Jvm.ClassFile.FieldType)) ∈ lw_all := lw_g (lw_at lw_m11 154 rfl) rfl
theorem q2671 : (Jvm.Cond.methodLink "ClockZonesModel" (429 : Nat) ({ cls := "ClockZonesModel", name := "holds", desc := "(III)Z" } : Jvm.MethodName)) ∈ lw_all := lw_g (lw_at lw_m11 155 rfl) rfl
theorem q2672 : (Jvm.Cond.static ({ cls := "ClockZonesModel", name := "holds", desc := "(III)Z" } : Jvm.MethodName)) ∈ lw_all := lw_g (lw_at lw_m11 156 rfl) rfl
theorem q2673 : (Jvm.Cond.code ({ cls := "ClockZonesModel", name := "holds", desc := "(III)Z" } : Jvm.MethodName) prog_12_method_117_code (3 : Nat) (Option.some Jvm.ClassFile.FieldType.boolean)) ∈ lw_all := lw_g (lw_at lw_m11 157 rfl) rfl
theorem q2675 : (Jvm.Cond.instanceMethod ({ cls := "ClockZonesModel", name := "window", desc := "(II)I" } : Jvm.MethodName)) ∈ lw_all := lw_g (lw_at lw_m11 159 rfl) rfl
theorem q2676 : (Jvm.Cond.selects "ClockZonesModel" ({ cls := "ClockZonesModel", name := "window", desc := "(II)I" } : Jvm.MethodName) ({ cls := "ClockZonesModel", name := "window", desc := "(II)I" } : Jvm.MethodName)) ∈ lw_all := lw_g (lw_at lw_m11 160 rfl) rfl
theorem q2677 : (Jvm.Cond.code ({ cls := "ClockZonesModel", name := "window", desc := "(II)I" } : Jvm.MethodName) prog_12_method_127_code (3 : Nat) (Option.some Jvm.ClassFile.FieldType.int)) ∈ lw_all := lw_g (lw_at lw_m11 161 rfl) rfl
theorem q2678 : (Jvm.Cond.methodLink "ClockZonesModel" (445 : Nat) ({ cls := "ClockZonesModel", name := "spanOf", desc := "(IIII)I" } : Jvm.MethodName)) ∈ lw_all := lw_g (lw_at lw_m11 162 rfl) rfl
theorem q2679 : (Jvm.Cond.privateMethod ({ cls := "ClockZonesModel", name := "spanOf", desc := "(IIII)I" } : Jvm.MethodName)) ∈ lw_tbl := lw_at lw_m11 163 rfl
theorem q2680 : (Jvm.Cond.instanceMethod ({ cls := "ClockZonesModel", name := "spanOf", desc := "(IIII)I" } : Jvm.MethodName)) ∈ lw_all := lw_g (lw_at lw_m11 164 rfl) rfl
theorem q2681 : (Jvm.Cond.code ({ cls := "ClockZonesModel", name := "spanOf", desc := "(IIII)I" } : Jvm.MethodName) prog_12_method_126_code (6 : Nat) (Option.some Jvm.ClassFile.FieldType.int)) ∈ lw_all := lw_g (lw_at lw_m11 165 rfl) rfl
theorem q2683 : (Jvm.Cond.instanceMethod ({ cls := "ClockZonesModel", name := "between", desc := "(III)I" } : Jvm.MethodName)) ∈ lw_all := lw_g (lw_at lw_m11 167 rfl) rfl
theorem q2684 : (Jvm.Cond.selects "ClockZonesModel" ({ cls := "ClockZonesModel", name := "between", desc := "(III)I" } : Jvm.MethodName) ({ cls := "ClockZonesModel", name := "between", desc := "(III)I" } : Jvm.MethodName)) ∈ lw_all := lw_g (lw_at lw_m11 168 rfl) rfl
theorem q2685 : (Jvm.Cond.code ({ cls := "ClockZonesModel", name := "between", desc := "(III)I" } : Jvm.MethodName) prog_12_method_128_code (4 : Nat) (Option.some Jvm.ClassFile.FieldType.int)) ∈ lw_all := lw_g (lw_at lw_m11 169 rfl) rfl
theorem q2687 : (Jvm.Cond.instanceMethod ({ cls := "ClockZonesModel", name := "value", desc := "(III)I" } : Jvm.MethodName)) ∈ lw_all := lw_g (lw_at lw_m11 171 rfl) rfl
theorem q2688 : (Jvm.Cond.selects "ClockZonesModel" ({ cls := "ClockZonesModel", name := "value", desc := "(III)I" } : Jvm.MethodName) ({ cls := "ClockZonesModel", name := "value", desc := "(III)I" } : Jvm.MethodName)) ∈ lw_all := lw_g (lw_at lw_m11 172 rfl) rfl
theorem q2689 : (Jvm.Cond.code ({ cls := "ClockZonesModel", name := "value", desc := "(III)I" } : Jvm.MethodName) prog_12_method_129_code (4 : Nat) (Option.some Jvm.ClassFile.FieldType.int)) ∈ lw_all := lw_g (lw_at lw_m11 173 rfl) rfl
theorem q2691 : (Jvm.Cond.instanceMethod ({ cls := "ClockZonesModel", name := "breaks", desc := "()I" } : Jvm.MethodName)) ∈ lw_all := lw_g (lw_at lw_m11 175 rfl) rfl
theorem q2692 : (Jvm.Cond.selects "ClockZonesModel" ({ cls := "ClockZonesModel", name := "breaks", desc := "()I" } : Jvm.MethodName) ({ cls := "ClockZonesModel", name := "breaks", desc := "()I" } : Jvm.MethodName)) ∈ lw_all := lw_g (lw_at lw_m11 176 rfl) rfl
theorem q2693 : (Jvm.Cond.code ({ cls := "ClockZonesModel", name := "breaks", desc := "()I" } : Jvm.MethodName) prog_12_method_130_code (2 : Nat) (Option.some Jvm.ClassFile.FieldType.int)) ∈ lw_all := lw_g (lw_at lw_m11 177 rfl) rfl
theorem q2695 : (Jvm.Cond.instanceMethod ({ cls := "ClockZonesModel", name := "fastest", desc := "(II)I" } : Jvm.MethodName)) ∈ lw_all := lw_g (lw_at lw_m11 179 rfl) rfl
theorem q2696 : (Jvm.Cond.selects "ClockZonesModel" ({ cls := "ClockZonesModel", name := "fastest", desc := "(II)I" } : Jvm.MethodName) ({ cls := "ClockZonesModel", name := "fastest", desc := "(II)I" } : Jvm.MethodName)) ∈ lw_all := lw_g (lw_at lw_m11 180 rfl) rfl
theorem q2697 : (Jvm.Cond.code ({ cls := "ClockZonesModel", name := "fastest", desc := "(II)I" } : Jvm.MethodName) prog_12_method_131_code (3 : Nat) (Option.some Jvm.ClassFile.FieldType.int)) ∈ lw_all := lw_g (lw_at lw_m11 181 rfl) rfl
theorem q2699 : (Jvm.Cond.instanceMethod ({ cls := "ClockZonesModel", name := "moment", desc := "(I)I" } : Jvm.MethodName)) ∈ lw_all := lw_g (lw_at lw_m11 183 rfl) rfl
theorem q2700 : (Jvm.Cond.selects "ClockZonesModel" ({ cls := "ClockZonesModel", name := "moment", desc := "(I)I" } : Jvm.MethodName) ({ cls := "ClockZonesModel", name := "moment", desc := "(I)I" } : Jvm.MethodName)) ∈ lw_all := lw_g (lw_at lw_m11 184 rfl) rfl
theorem q2701 : (Jvm.Cond.code ({ cls := "ClockZonesModel", name := "moment", desc := "(I)I" } : Jvm.MethodName) prog_12_method_132_code (2 : Nat) (Option.some Jvm.ClassFile.FieldType.int)) ∈ lw_all := lw_g (lw_at lw_m11 185 rfl) rfl
theorem q2703 : (Jvm.Cond.instanceMethod ({ cls := "ClockZonesModel", name := "count", desc := "(I)I" } : Jvm.MethodName)) ∈ lw_all := lw_g (lw_at lw_m11 187 rfl) rfl
theorem q2704 : (Jvm.Cond.selects "ClockZonesModel" ({ cls := "ClockZonesModel", name := "count", desc := "(I)I" } : Jvm.MethodName) ({ cls := "ClockZonesModel", name := "count", desc := "(I)I" } : Jvm.MethodName)) ∈ lw_all := lw_g (lw_at lw_m11 188 rfl) rfl
theorem q2705 : (Jvm.Cond.code ({ cls := "ClockZonesModel", name := "count", desc := "(I)I" } : Jvm.MethodName) prog_12_method_133_code (2 : Nat) (Option.some Jvm.ClassFile.FieldType.int)) ∈ lw_all := lw_g (lw_at lw_m11 189 rfl) rfl
theorem q2734 : (Jvm.Cond.castable "ClockZonesModel" "java/lang/Object") ∈ lw_tbl := lw_at lw_m11 218 rfl
theorem in_X4 : ∀ w ∈ wsX40, w ∈ lw_all := lw_in wsX40 [2083, 2085, 2087, 2089, 2091, 2093, 2095, 2097, 2099, 2101, 2103, 2105, 2107, 2109, 2111, 2113, 2115, 2117, 2119, 2121, 2123, 2125, 2127, 2129, 2131, 2133, 2135, 2137, 2139, 2141, 2143, 2145, 2147, 2149, 2151, 2153, 2155, 2157, 2159, 2161, 2163, 2165, 2167, 2169, 2171, 2173, 2175, 2177, 2179, 2181, 2183, 2185, 2187, 2189, 2191, 2193, 2195, 2197, 2199, 2201, 2203] (by decide +kernel) (by decide +kernel)

/-! java/lang/Throwable -/
def RJ5 : String := "java/lang/Throwable"
def TJ5 : u_T := fun k => match k with
  | 0 => ("java/lang/Throwable", "cause", "Ljava/lang/Throwable;", false)
  | 1 => ("java/lang/Throwable", "stackTrace", "[Ljava/lang/StackTraceElement;", false)
  | 2 => ("java/lang/Throwable", "suppressedExceptions", "Ljava/util/List;", false)
  | 3 => ("java/lang/Throwable", "detailMessage", "Ljava/lang/String;", false)
  | _ => ("java/lang/Throwable", "backtrace", "Ljava/lang/Object;", false)
def tyJ5 : Nat → FieldType := fun k => match k with
  | 0 => .object "java/lang/Throwable"
  | 1 => .array (.object "java/lang/StackTraceElement")
  | 2 => .object "java/util/List"
  | 3 => .object "java/lang/String"
  | _ => .object "java/lang/Object"
abbrev wsJ50 : List Cond := u_ws RJ5 TJ5 5
theorem nmJ5 : ∀ a, a < 5 → ∀ b, b < 5 → a ≠ b → (TJ5 a).2.1 ≠ (TJ5 b).2.1 := by decide +kernel
theorem tyJ5_ok : ∀ k, k < 5 → parseFieldDescriptor (TJ5 k).2.2.1 = some (tyJ5 k) := by decide +kernel
abbrev cJ5_init : ByteArray := prog_39_method_2_code
def yJ5_init : MethodName := ⟨RJ5, "<init>", "(Ljava/lang/String;)V"⟩
abbrev cJ5_init_2 : ByteArray := prog_39_method_1_code
def yJ5_init_2 : MethodName := ⟨RJ5, "<init>", "()V"⟩
abbrev cJ5_init_3 : ByteArray := prog_39_method_5_code
def yJ5_init_3 : MethodName := ⟨RJ5, "<init>", "(Ljava/lang/String;Ljava/lang/Throwable;ZZ)V"⟩
theorem q126 : (Jvm.Cond.initialized "java/lang/Throwable") ∈ lw_all := lw_g (lw_at lw_m1 10 rfl) rfl
theorem q347 : (Jvm.Cond.instanceMethod ({ cls := "java/lang/Throwable", name := "<init>", desc := "(Ljava/lang/String;)V" } : Jvm.MethodName)) ∈ lw_all := lw_g (lw_at lw_m1 231 rfl) rfl
theorem q348 : (Jvm.Cond.code ({ cls := "java/lang/Throwable", name := "<init>", desc := "(Ljava/lang/String;)V" } : Jvm.MethodName) prog_39_method_2_code (2 : Nat) (Option.none : Option Jvm.ClassFile.FieldType)) ∈ lw_all := lw_g (lw_at lw_m1 232 rfl) rfl
theorem q349 : (Jvm.Cond.methodLink "java/lang/Throwable" (1 : Nat) ({ cls := "java/lang/Object", name := "<init>", desc := "()V" } : Jvm.MethodName)) ∈ lw_all := lw_g (lw_at lw_m1 233 rfl) rfl
theorem q350 : (Jvm.Cond.fieldLink "java/lang/Throwable" (13 : Nat) "java/lang/Throwable" "UNASSIGNED_STACK" "[Ljava/lang/StackTraceElement;") ∈ lw_all := lw_g (lw_at lw_m1 234 rfl) rfl
theorem q351 : (Jvm.Cond.laysStatic "java/lang/Throwable" "UNASSIGNED_STACK" "[Ljava/lang/StackTraceElement;") ∈ lw_tbl := lw_at lw_m1 235 rfl
theorem q352 : (Jvm.Cond.fieldLink "java/lang/Throwable" (20 : Nat) "java/lang/Throwable" "SUPPRESSED_SENTINEL" "Ljava/util/List;") ∈ lw_all := lw_g (lw_at lw_m1 236 rfl) rfl
theorem q353 : (Jvm.Cond.laysStatic "java/lang/Throwable" "SUPPRESSED_SENTINEL" "Ljava/util/List;") ∈ lw_tbl := lw_at lw_m1 237 rfl
theorem q354 : (Jvm.Cond.methodLink "java/lang/Throwable" (27 : Nat) ({ cls := "java/lang/Throwable", name := "fillInStackTrace", desc := "()Ljava/lang/Throwable;" } : Jvm.MethodName)) ∈ lw_all := lw_g (lw_at lw_m1 238 rfl) rfl
theorem q355 : (Jvm.Cond.instanceMethod ({ cls := "java/lang/Throwable", name := "fillInStackTrace", desc := "()Ljava/lang/Throwable;" } : Jvm.MethodName)) ∈ lw_all := lw_g (lw_at lw_m1 239 rfl) rfl
theorem q356 : (Jvm.Cond.sameMethod "java/lang/Throwable" "java/lang/Throwable" "fillInStackTrace" "()Ljava/lang/Throwable;") ∈ lw_all := lw_g (lw_at lw_m2 0 rfl) rfl
theorem q374 : (Jvm.Cond.declares ({ cls := "java/lang/Throwable", name := "fillInStackTrace", desc := "()Ljava/lang/Throwable;" } : Jvm.MethodName)) ∈ lw_tbl := lw_at lw_m2 18 rfl
theorem q378 : (Jvm.Cond.codeSync ({ cls := "java/lang/Throwable", name := "fillInStackTrace", desc := "()Ljava/lang/Throwable;" } : Jvm.MethodName) prog_39_method_18_code (1 : Nat) (Option.some (Jvm.ClassFile.FieldType.object "java/lang/Throwable"))) ∈ lw_all := lw_g (lw_at lw_m2 22 rfl) rfl
theorem q379 : (Jvm.Cond.methodLink "java/lang/Throwable" (202 : Nat) ({ cls := "java/lang/Throwable", name := "fillInStackTrace", desc := "(I)Ljava/lang/Throwable;" } : Jvm.MethodName)) ∈ lw_all := lw_g (lw_at lw_m2 23 rfl) rfl
theorem q380 : (Jvm.Cond.privateMethod ({ cls := "java/lang/Throwable", name := "fillInStackTrace", desc := "(I)Ljava/lang/Throwable;" } : Jvm.MethodName)) ∈ lw_tbl := lw_at lw_m2 24 rfl
theorem q381 : (Jvm.Cond.instanceMethod ({ cls := "java/lang/Throwable", name := "fillInStackTrace", desc := "(I)Ljava/lang/Throwable;" } : Jvm.MethodName)) ∈ lw_all := lw_g (lw_at lw_m2 25 rfl) rfl
theorem q382 : (Jvm.Cond.instantiable "java/lang/Throwable" (6 : Nat)) ∈ lw_all := lw_g (lw_at lw_m2 26 rfl) rfl
theorem q383 : (Jvm.Cond.native ({ cls := "java/lang/Throwable", name := "fillInStackTrace", desc := "(I)Ljava/lang/Throwable;" } : Jvm.MethodName)) ∈ lw_all := lw_g (lw_at lw_m2 27 rfl) rfl
theorem q385 : (Jvm.Cond.fieldLink "java/lang/Throwable" (198 : Nat) "java/lang/Throwable" "backtrace" "Ljava/lang/Object;") ∈ lw_all := lw_g (lw_at lw_m2 29 rfl) rfl
theorem q386 : (Jvm.Cond.fieldLink "java/lang/Throwable" (31 : Nat) "java/lang/Throwable" "detailMessage" "Ljava/lang/String;") ∈ lw_all := lw_g (lw_at lw_m2 30 rfl) rfl
theorem q387 : (Jvm.Cond.fieldLink "java/lang/Throwable" (7 : Nat) "java/lang/Throwable" "cause" "Ljava/lang/Throwable;") ∈ lw_all := lw_g (lw_at lw_m2 31 rfl) rfl
theorem q388 : (Jvm.Cond.fieldLink "java/lang/Throwable" (17 : Nat) "java/lang/Throwable" "stackTrace" "[Ljava/lang/StackTraceElement;") ∈ lw_all := lw_g (lw_at lw_m2 32 rfl) rfl
theorem q389 : (Jvm.Cond.fieldLink "java/lang/Throwable" (24 : Nat) "java/lang/Throwable" "suppressedExceptions" "Ljava/util/List;") ∈ lw_all := lw_g (lw_at lw_m2 33 rfl) rfl
theorem q391 : (Jvm.Cond.soleField "java/lang/Throwable" "backtrace") ∈ lw_all := lw_g (lw_at lw_m2 35 rfl) rfl
theorem q393 : (Jvm.Cond.soleField "java/lang/Throwable" "detailMessage") ∈ lw_all := lw_g (lw_at lw_m2 37 rfl) rfl
theorem q395 : (Jvm.Cond.soleField "java/lang/Throwable" "cause") ∈ lw_all := lw_g (lw_at lw_m2 39 rfl) rfl
theorem q397 : (Jvm.Cond.soleField "java/lang/Throwable" "stackTrace") ∈ lw_all := lw_g (lw_at lw_m2 41 rfl) rfl
theorem q399 : (Jvm.Cond.soleField "java/lang/Throwable" "depth") ∈ lw_all := lw_g (lw_at lw_m2 43 rfl) rfl
theorem q401 : (Jvm.Cond.soleField "java/lang/Throwable" "suppressedExceptions") ∈ lw_all := lw_g (lw_at lw_m2 45 rfl) rfl
theorem q408 : (Jvm.Cond.declares ({ cls := "java/lang/Throwable", name := "<init>", desc := "()V" } : Jvm.MethodName)) ∈ lw_tbl := lw_at lw_m2 52 rfl
theorem q409 : (Jvm.Cond.declares ({ cls := "java/lang/Throwable", name := "<init>", desc := "(Ljava/lang/String;)V" } : Jvm.MethodName)) ∈ lw_tbl := lw_at lw_m2 53 rfl
theorem q411 : (Jvm.Cond.lays "java/lang/Throwable" "java/lang/Throwable" "cause" "Ljava/lang/Throwable;") ∈ lw_all := lw_g (lw_at lw_m2 55 rfl) rfl
theorem q412 : (Jvm.Cond.lays "java/lang/Throwable" "java/lang/Throwable" "stackTrace" "[Ljava/lang/StackTraceElement;") ∈ lw_all := lw_g (lw_at lw_m2 56 rfl) rfl
theorem q413 : (Jvm.Cond.lays "java/lang/Throwable" "java/lang/Throwable" "suppressedExceptions" "Ljava/util/List;") ∈ lw_all := lw_g (lw_at lw_m2 57 rfl) rfl
theorem q414 : (Jvm.Cond.lays "java/lang/Throwable" "java/lang/Throwable" "detailMessage" "Ljava/lang/String;") ∈ lw_all := lw_g (lw_at lw_m2 58 rfl) rfl
theorem q415 : (Jvm.Cond.lays "java/lang/Throwable" "java/lang/Throwable" "backtrace" "Ljava/lang/Object;") ∈ lw_all := lw_g (lw_at lw_m2 59 rfl) rfl
theorem q416 : (Jvm.Cond.fieldLink "java/lang/Throwable" (198 : Nat) "java/lang/Throwable" "backtrace" "Ljava/lang/Object;") ∈ lw_all := lw_g (lw_at lw_m2 60 rfl) rfl
theorem q417 : (Jvm.Cond.superclass "java/lang/Throwable" "java/lang/Object") ∈ lw_all := lw_g (lw_at lw_m2 61 rfl) rfl
theorem q418 : (Jvm.Cond.instanceMethod ({ cls := "java/lang/Throwable", name := "<init>", desc := "()V" } : Jvm.MethodName)) ∈ lw_all := lw_g (lw_at lw_m2 62 rfl) rfl
theorem q419 : (Jvm.Cond.code ({ cls := "java/lang/Throwable", name := "<init>", desc := "()V" } : Jvm.MethodName) prog_39_method_1_code (1 : Nat) (Option.none : Option Jvm.ClassFile.FieldType)) ∈ lw_all := lw_g (lw_at lw_m2 63 rfl) rfl
theorem q793 : (Jvm.Cond.instanceMethod ({ cls := "java/lang/Throwable", name := "<init>", desc := "(Ljava/lang/String;Ljava/lang/Throwable;ZZ)V" } : Jvm.MethodName)) ∈ lw_all := lw_g (lw_at lw_m3 197 rfl) rfl
theorem q794 : (Jvm.Cond.code ({ cls := "java/lang/Throwable", name := "<init>", desc := "(Ljava/lang/String;Ljava/lang/Throwable;ZZ)V" } : Jvm.MethodName) prog_39_method_5_code (5 : Nat) (Option.none : Option Jvm.ClassFile.FieldType)) ∈ lw_all := lw_g (lw_at lw_m3 198 rfl) rfl
theorem q1264 : (Jvm.Cond.instanceMethod ({ cls := "java/lang/Throwable", name := "addSuppressed", desc := "(Ljava/lang/Throwable;)V" } : Jvm.MethodName)) ∈ lw_all := lw_g (lw_at lw_m5 188 rfl) rfl
theorem q1265 : (Jvm.Cond.sameMethod "java/lang/Throwable" "java/lang/Throwable" "addSuppressed" "(Ljava/lang/Throwable;)V") ∈ lw_all := lw_g (lw_at lw_m5 189 rfl) rfl
theorem q1275 : (Jvm.Cond.codeSync ({ cls := "java/lang/Throwable", name := "addSuppressed", desc := "(Ljava/lang/Throwable;)V" } : Jvm.MethodName) prog_39_method_26_code (2 : Nat) (Option.none : Option Jvm.ClassFile.FieldType)) ∈ lw_all := lw_g (lw_at lw_m5 199 rfl) rfl
theorem q1276 : (Jvm.Cond.stringRef "java/lang/Throwable" (258 : Nat) "Cannot suppress a null exception.") ∈ lw_tbl := lw_at lw_m5 200 rfl
theorem q1277 : (Jvm.Cond.methodLink "java/lang/Throwable" (260 : Nat) ({ cls := "java/util/Objects", name := "requireNonNull", desc := "(Ljava/lang/Object;Ljava/lang/String;)Ljava/lang/Object;" } : Jvm.MethodName)) ∈ lw_all := lw_g (lw_at lw_m5 201 rfl) rfl
theorem q1280 : (Jvm.Cond.classLink "java/lang/Throwable" (233 : Nat) "java/util/ArrayList") ∈ lw_all := lw_g (lw_at lw_m5 204 rfl) rfl
theorem q1281 : (Jvm.Cond.methodLink "java/lang/Throwable" (241 : Nat) ({ cls := "java/util/ArrayList", name := "<init>", desc := "(I)V" } : Jvm.MethodName)) ∈ lw_all := lw_g (lw_at lw_m5 205 rfl) rfl
theorem q1286 : (Jvm.Cond.interfaceEntry "java/lang/Throwable" (301 : Nat)) ∈ lw_tbl := lw_at lw_m5 210 rfl
theorem q1287 : (Jvm.Cond.methodLink "java/lang/Throwable" (301 : Nat) ({ cls := "java/util/List", name := "add", desc := "(Ljava/lang/Object;)Z" } : Jvm.MethodName)) ∈ lw_all := lw_g (lw_at lw_m5 211 rfl) rfl
theorem q2707 : (Jvm.Cond.sameMethod "java/lang/Throwable" "java/lang/Throwable" "fillInStackTrace" "(I)Ljava/lang/Throwable;") ∈ lw_all := lw_g (lw_at lw_m11 191 rfl) rfl
theorem q2753 : (Jvm.Cond.castable "java/lang/Throwable" "java/lang/Object") ∈ lw_tbl := lw_at lw_m11 237 rfl
theorem in_J5 : ∀ w ∈ wsJ50, w ∈ lw_all := lw_in wsJ50 [411, 412, 413, 414, 415] (by decide +kernel) (by decide +kernel)

/-! java/lang/Exception -/
def RJ6 : String := "java/lang/Exception"
abbrev cJ6_init : ByteArray := prog_24_method_2_code
def yJ6_init : MethodName := ⟨RJ6, "<init>", "(Ljava/lang/String;)V"⟩
abbrev cJ6_init_2 : ByteArray := prog_24_method_1_code
def yJ6_init_2 : MethodName := ⟨RJ6, "<init>", "()V"⟩
abbrev cJ6_init_3 : ByteArray := prog_24_method_5_code
def yJ6_init_3 : MethodName := ⟨RJ6, "<init>", "(Ljava/lang/String;Ljava/lang/Throwable;ZZ)V"⟩
theorem q127 : (Jvm.Cond.initialized "java/lang/Exception") ∈ lw_all := lw_g (lw_at lw_m1 11 rfl) rfl
theorem q344 : (Jvm.Cond.instanceMethod ({ cls := "java/lang/Exception", name := "<init>", desc := "(Ljava/lang/String;)V" } : Jvm.MethodName)) ∈ lw_all := lw_g (lw_at lw_m1 228 rfl) rfl
theorem q345 : (Jvm.Cond.code ({ cls := "java/lang/Exception", name := "<init>", desc := "(Ljava/lang/String;)V" } : Jvm.MethodName) prog_24_method_2_code (2 : Nat) (Option.none : Option Jvm.ClassFile.FieldType)) ∈ lw_all := lw_g (lw_at lw_m1 229 rfl) rfl
theorem q346 : (Jvm.Cond.methodLink "java/lang/Exception" (7 : Nat) ({ cls := "java/lang/Throwable", name := "<init>", desc := "(Ljava/lang/String;)V" } : Jvm.MethodName)) ∈ lw_all := lw_g (lw_at lw_m1 230 rfl) rfl
theorem q377 : (Jvm.Cond.superclass "java/lang/Exception" "java/lang/Throwable") ∈ lw_all := lw_g (lw_at lw_m2 21 rfl) rfl
theorem q406 : (Jvm.Cond.declares ({ cls := "java/lang/Exception", name := "<init>", desc := "()V" } : Jvm.MethodName)) ∈ lw_tbl := lw_at lw_m2 50 rfl
theorem q407 : (Jvm.Cond.declares ({ cls := "java/lang/Exception", name := "<init>", desc := "(Ljava/lang/String;)V" } : Jvm.MethodName)) ∈ lw_tbl := lw_at lw_m2 51 rfl
theorem q449 : (Jvm.Cond.instanceMethod ({ cls := "java/lang/Exception", name := "<init>", desc := "()V" } : Jvm.MethodName)) ∈ lw_all := lw_g (lw_at lw_m2 93 rfl) rfl
theorem q450 : (Jvm.Cond.code ({ cls := "java/lang/Exception", name := "<init>", desc := "()V" } : Jvm.MethodName) prog_24_method_1_code (1 : Nat) (Option.none : Option Jvm.ClassFile.FieldType)) ∈ lw_all := lw_g (lw_at lw_m2 94 rfl) rfl
theorem q451 : (Jvm.Cond.methodLink "java/lang/Exception" (1 : Nat) ({ cls := "java/lang/Throwable", name := "<init>", desc := "()V" } : Jvm.MethodName)) ∈ lw_all := lw_g (lw_at lw_m2 95 rfl) rfl
theorem q790 : (Jvm.Cond.instanceMethod ({ cls := "java/lang/Exception", name := "<init>", desc := "(Ljava/lang/String;Ljava/lang/Throwable;ZZ)V" } : Jvm.MethodName)) ∈ lw_all := lw_g (lw_at lw_m3 194 rfl) rfl
theorem q791 : (Jvm.Cond.code ({ cls := "java/lang/Exception", name := "<init>", desc := "(Ljava/lang/String;Ljava/lang/Throwable;ZZ)V" } : Jvm.MethodName) prog_24_method_5_code (5 : Nat) (Option.none : Option Jvm.ClassFile.FieldType)) ∈ lw_all := lw_g (lw_at lw_m3 195 rfl) rfl
theorem q792 : (Jvm.Cond.methodLink "java/lang/Exception" (16 : Nat) ({ cls := "java/lang/Throwable", name := "<init>", desc := "(Ljava/lang/String;Ljava/lang/Throwable;ZZ)V" } : Jvm.MethodName)) ∈ lw_all := lw_g (lw_at lw_m3 196 rfl) rfl

/-! java/lang/RuntimeException -/
def RJ7 : String := "java/lang/RuntimeException"
abbrev cJ7_init : ByteArray := prog_33_method_2_code
def yJ7_init : MethodName := ⟨RJ7, "<init>", "(Ljava/lang/String;)V"⟩
abbrev cJ7_init_2 : ByteArray := prog_33_method_1_code
def yJ7_init_2 : MethodName := ⟨RJ7, "<init>", "()V"⟩
theorem q128 : (Jvm.Cond.initialized "java/lang/RuntimeException") ∈ lw_all := lw_g (lw_at lw_m1 12 rfl) rfl
theorem q341 : (Jvm.Cond.instanceMethod ({ cls := "java/lang/RuntimeException", name := "<init>", desc := "(Ljava/lang/String;)V" } : Jvm.MethodName)) ∈ lw_all := lw_g (lw_at lw_m1 225 rfl) rfl
theorem q342 : (Jvm.Cond.code ({ cls := "java/lang/RuntimeException", name := "<init>", desc := "(Ljava/lang/String;)V" } : Jvm.MethodName) prog_33_method_2_code (2 : Nat) (Option.none : Option Jvm.ClassFile.FieldType)) ∈ lw_all := lw_g (lw_at lw_m1 226 rfl) rfl
theorem q343 : (Jvm.Cond.methodLink "java/lang/RuntimeException" (7 : Nat) ({ cls := "java/lang/Exception", name := "<init>", desc := "(Ljava/lang/String;)V" } : Jvm.MethodName)) ∈ lw_all := lw_g (lw_at lw_m1 227 rfl) rfl
theorem q373 : (Jvm.Cond.sameMethod "java/lang/RuntimeException" "java/lang/Throwable" "fillInStackTrace" "()Ljava/lang/Throwable;") ∈ lw_all := lw_g (lw_at lw_m2 17 rfl) rfl
theorem q376 : (Jvm.Cond.superclass "java/lang/RuntimeException" "java/lang/Exception") ∈ lw_all := lw_g (lw_at lw_m2 20 rfl) rfl
theorem q404 : (Jvm.Cond.declares ({ cls := "java/lang/RuntimeException", name := "<init>", desc := "()V" } : Jvm.MethodName)) ∈ lw_tbl := lw_at lw_m2 48 rfl
theorem q405 : (Jvm.Cond.declares ({ cls := "java/lang/RuntimeException", name := "<init>", desc := "(Ljava/lang/String;)V" } : Jvm.MethodName)) ∈ lw_tbl := lw_at lw_m2 49 rfl
theorem q446 : (Jvm.Cond.instanceMethod ({ cls := "java/lang/RuntimeException", name := "<init>", desc := "()V" } : Jvm.MethodName)) ∈ lw_all := lw_g (lw_at lw_m2 90 rfl) rfl
theorem q447 : (Jvm.Cond.code ({ cls := "java/lang/RuntimeException", name := "<init>", desc := "()V" } : Jvm.MethodName) prog_33_method_1_code (1 : Nat) (Option.none : Option Jvm.ClassFile.FieldType)) ∈ lw_all := lw_g (lw_at lw_m2 91 rfl) rfl
theorem q448 : (Jvm.Cond.methodLink "java/lang/RuntimeException" (1 : Nat) ({ cls := "java/lang/Exception", name := "<init>", desc := "()V" } : Jvm.MethodName)) ∈ lw_all := lw_g (lw_at lw_m2 92 rfl) rfl
theorem q466 : (Jvm.Cond.castable "java/lang/RuntimeException" "java/lang/Throwable") ∈ lw_tbl := lw_at lw_m2 110 rfl

/-! java/lang/ArithmeticException -/
def RJ8 : String := "java/lang/ArithmeticException"
def TJ8 : u_T := fun k => match k with
  | 0 => ("java/lang/Throwable", "backtrace", "Ljava/lang/Object;", false)
  | 1 => ("java/lang/Throwable", "detailMessage", "Ljava/lang/String;", false)
  | 2 => ("java/lang/Throwable", "cause", "Ljava/lang/Throwable;", false)
  | 3 => ("java/lang/Throwable", "stackTrace", "[Ljava/lang/StackTraceElement;", false)
  | 4 => ("java/lang/Throwable", "depth", "I", false)
  | _ => ("java/lang/Throwable", "suppressedExceptions", "Ljava/util/List;", false)
def tyJ8 : Nat → FieldType := fun k => match k with
  | 0 => .object "java/lang/Object"
  | 1 => .object "java/lang/String"
  | 2 => .object "java/lang/Throwable"
  | 3 => .array (.object "java/lang/StackTraceElement")
  | 4 => .int
  | _ => .object "java/util/List"
abbrev wsJ80 : List Cond := u_ws RJ8 TJ8 6
theorem nmJ8 : ∀ a, a < 6 → ∀ b, b < 6 → a ≠ b → (TJ8 a).2.1 ≠ (TJ8 b).2.1 := by decide +kernel
theorem tyJ8_ok : ∀ k, k < 6 → parseFieldDescriptor (TJ8 k).2.2.1 = some (tyJ8 k) := by decide +kernel
abbrev cJ8_init : ByteArray := prog_16_method_2_code
def yJ8_init : MethodName := ⟨RJ8, "<init>", "(Ljava/lang/String;)V"⟩
theorem q129 : (Jvm.Cond.initialized "java/lang/ArithmeticException") ∈ lw_all := lw_g (lw_at lw_m1 13 rfl) rfl
theorem q337 : (Jvm.Cond.instantiable "java/lang/ArithmeticException" (6 : Nat)) ∈ lw_all := lw_g (lw_at lw_m1 221 rfl) rfl
theorem q338 : (Jvm.Cond.instanceMethod ({ cls := "java/lang/ArithmeticException", name := "<init>", desc := "(Ljava/lang/String;)V" } : Jvm.MethodName)) ∈ lw_all := lw_g (lw_at lw_m1 222 rfl) rfl
theorem q339 : (Jvm.Cond.code ({ cls := "java/lang/ArithmeticException", name := "<init>", desc := "(Ljava/lang/String;)V" } : Jvm.MethodName) prog_16_method_2_code (2 : Nat) (Option.none : Option Jvm.ClassFile.FieldType)) ∈ lw_all := lw_g (lw_at lw_m1 223 rfl) rfl
theorem q340 : (Jvm.Cond.methodLink "java/lang/ArithmeticException" (7 : Nat) ({ cls := "java/lang/RuntimeException", name := "<init>", desc := "(Ljava/lang/String;)V" } : Jvm.MethodName)) ∈ lw_all := lw_g (lw_at lw_m1 224 rfl) rfl
theorem q358 : (Jvm.Cond.selects "java/lang/ArithmeticException" ({ cls := "java/lang/Throwable", name := "fillInStackTrace", desc := "()Ljava/lang/Throwable;" } : Jvm.MethodName) ({ cls := "java/lang/Throwable", name := "fillInStackTrace", desc := "()Ljava/lang/Throwable;" } : Jvm.MethodName)) ∈ lw_all := lw_g (lw_at lw_m2 2 rfl) rfl
theorem q390 : (Jvm.Cond.lays "java/lang/ArithmeticException" "java/lang/Throwable" "backtrace" "Ljava/lang/Object;") ∈ lw_all := lw_g (lw_at lw_m2 34 rfl) rfl
theorem q392 : (Jvm.Cond.lays "java/lang/ArithmeticException" "java/lang/Throwable" "detailMessage" "Ljava/lang/String;") ∈ lw_all := lw_g (lw_at lw_m2 36 rfl) rfl
theorem q394 : (Jvm.Cond.lays "java/lang/ArithmeticException" "java/lang/Throwable" "cause" "Ljava/lang/Throwable;") ∈ lw_all := lw_g (lw_at lw_m2 38 rfl) rfl
theorem q396 : (Jvm.Cond.lays "java/lang/ArithmeticException" "java/lang/Throwable" "stackTrace" "[Ljava/lang/StackTraceElement;") ∈ lw_all := lw_g (lw_at lw_m2 40 rfl) rfl
theorem q398 : (Jvm.Cond.lays "java/lang/ArithmeticException" "java/lang/Throwable" "depth" "I") ∈ lw_all := lw_g (lw_at lw_m2 42 rfl) rfl
theorem q400 : (Jvm.Cond.lays "java/lang/ArithmeticException" "java/lang/Throwable" "suppressedExceptions" "Ljava/util/List;") ∈ lw_all := lw_g (lw_at lw_m2 44 rfl) rfl
theorem q402 : (Jvm.Cond.superclass "java/lang/ArithmeticException" "java/lang/RuntimeException") ∈ lw_all := lw_g (lw_at lw_m2 46 rfl) rfl
theorem q403 : (Jvm.Cond.castable "java/lang/ArithmeticException" "java/lang/ArithmeticException") ∈ lw_tbl := lw_at lw_m2 47 rfl
theorem q410 : (Jvm.Cond.selects "java/lang/ArithmeticException" ({ cls := "java/lang/Throwable", name := "fillInStackTrace", desc := "(I)Ljava/lang/Throwable;" } : Jvm.MethodName) ({ cls := "java/lang/Throwable", name := "fillInStackTrace", desc := "(I)Ljava/lang/Throwable;" } : Jvm.MethodName)) ∈ lw_all := lw_g (lw_at lw_m2 54 rfl) rfl
theorem q853 : (Jvm.Cond.selects "java/lang/ArithmeticException" ({ cls := "java/lang/Object", name := "equals", desc := "(Ljava/lang/Object;)Z" } : Jvm.MethodName) ({ cls := "java/lang/Object", name := "equals", desc := "(Ljava/lang/Object;)Z" } : Jvm.MethodName)) ∈ lw_all := lw_g (lw_at lw_m4 17 rfl) rfl
theorem q905 : (Jvm.Cond.selects "java/lang/ArithmeticException" ({ cls := "java/lang/Object", name := "getClass", desc := "()Ljava/lang/Class;" } : Jvm.MethodName) ({ cls := "java/lang/Object", name := "getClass", desc := "()Ljava/lang/Class;" } : Jvm.MethodName)) ∈ lw_all := lw_g (lw_at lw_m4 69 rfl) rfl
theorem q1267 : (Jvm.Cond.selects "java/lang/ArithmeticException" ({ cls := "java/lang/Throwable", name := "addSuppressed", desc := "(Ljava/lang/Throwable;)V" } : Jvm.MethodName) ({ cls := "java/lang/Throwable", name := "addSuppressed", desc := "(Ljava/lang/Throwable;)V" } : Jvm.MethodName)) ∈ lw_all := lw_g (lw_at lw_m5 191 rfl) rfl
theorem q2719 : (Jvm.Cond.castable "java/lang/ArithmeticException" "java/lang/Throwable") ∈ lw_tbl := lw_at lw_m11 203 rfl
theorem q2735 : (Jvm.Cond.castable "java/lang/ArithmeticException" "java/lang/Object") ∈ lw_tbl := lw_at lw_m11 219 rfl
theorem in_J8 : ∀ w ∈ wsJ80, w ∈ lw_all := lw_in wsJ80 [390, 392, 394, 396, 398, 400] (by decide +kernel) (by decide +kernel)

/-! java/lang/String -/
def RJ9 : String := "java/lang/String"
def TJ9 : u_T := fun k => match k with
  | 0 => ("java/lang/String", "value", "[B", true)
  | 1 => ("java/lang/String", "coder", "B", true)
  | 2 => ("java/lang/String", "hash", "I", false)
  | _ => ("java/lang/String", "hashIsZero", "Z", false)
def tyJ9 : Nat → FieldType := fun k => match k with
  | 0 => .array .byte
  | 1 => .byte
  | 2 => .int
  | _ => .boolean
abbrev wsJ90 : List Cond := u_ws RJ9 TJ9 4
theorem nmJ9 : ∀ a, a < 4 → ∀ b, b < 4 → a ≠ b → (TJ9 a).2.1 ≠ (TJ9 b).2.1 := by decide +kernel
theorem tyJ9_ok : ∀ k, k < 4 → parseFieldDescriptor (TJ9 k).2.2.1 = some (tyJ9 k) := by decide +kernel
abbrev cJ9_checkBoundsOffCount : ByteArray := prog_34_method_157_code
def yJ9_checkBoundsOffCount : MethodName := ⟨RJ9, "checkBoundsOffCount", "(III)I"⟩
abbrev cJ9_checkIndex : ByteArray := prog_34_method_155_code
def yJ9_checkIndex : MethodName := ⟨RJ9, "checkIndex", "(II)V"⟩
abbrev cJ9_init : ByteArray := prog_34_method_53_code
def yJ9_init : MethodName := ⟨RJ9, "<init>", "(Ljava/lang/StringBuilder;)V"⟩
abbrev cJ9_init_2 : ByteArray := prog_34_method_150_code
def yJ9_init_2 : MethodName := ⟨RJ9, "<init>", "(Ljava/lang/AbstractStringBuilder;Ljava/lang/Void;)V"⟩
abbrev cJ9_length : ByteArray := prog_34_method_54_code
def yJ9_length : MethodName := ⟨RJ9, "length", "()I"⟩
abbrev cJ9_coder : ByteArray := prog_34_method_152_code
def yJ9_coder : MethodName := ⟨RJ9, "coder", "()B"⟩
abbrev cJ9_equals : ByteArray := prog_34_method_66_code
def yJ9_equals : MethodName := ⟨RJ9, "equals", "(Ljava/lang/Object;)Z"⟩
abbrev cJ9_checkBoundsBeginEnd : ByteArray := prog_34_method_158_code
def yJ9_checkBoundsBeginEnd : MethodName := ⟨RJ9, "checkBoundsBeginEnd", "(III)V"⟩
abbrev cJ9_getBytes : ByteArray := prog_34_method_147_code
def yJ9_getBytes : MethodName := ⟨RJ9, "getBytes", "([BIB)V"⟩
theorem q130 : (Jvm.Cond.initialized "java/lang/String") ∈ lw_all := lw_g (lw_at lw_m1 14 rfl) rfl
theorem q420 : (Jvm.Cond.instantiable "java/lang/String" (4 : Nat)) ∈ lw_all := lw_g (lw_at lw_m2 64 rfl) rfl
theorem q421 : (Jvm.Cond.laysFinal "java/lang/String" "java/lang/String" "value" "[B") ∈ lw_all := lw_g (lw_at lw_m2 65 rfl) rfl
theorem q422 : (Jvm.Cond.soleField "java/lang/String" "value") ∈ lw_all := lw_g (lw_at lw_m2 66 rfl) rfl
theorem q423 : (Jvm.Cond.laysFinal "java/lang/String" "java/lang/String" "coder" "B") ∈ lw_all := lw_g (lw_at lw_m2 67 rfl) rfl
theorem q424 : (Jvm.Cond.soleField "java/lang/String" "coder") ∈ lw_all := lw_g (lw_at lw_m2 68 rfl) rfl
theorem q551 : (Jvm.Cond.laysStatic "java/lang/String" "COMPACT_STRINGS" "Z") ∈ lw_tbl := lw_at lw_m2 195 rfl
theorem q561 : (Jvm.Cond.fieldLink "java/lang/String" (1048 : Nat) "java/lang/AbstractStringBuilder" "maybeLatin1" "Z") ∈ lw_all := lw_g (lw_at lw_m2 205 rfl) rfl
theorem q639 : (Jvm.Cond.static ({ cls := "java/lang/String", name := "checkBoundsOffCount", desc := "(III)I" } : Jvm.MethodName)) ∈ lw_all := lw_g (lw_at lw_m3 43 rfl) rfl
theorem q640 : (Jvm.Cond.code ({ cls := "java/lang/String", name := "checkBoundsOffCount", desc := "(III)I" } : Jvm.MethodName) prog_34_method_157_code (3 : Nat) (Option.some Jvm.ClassFile.FieldType.int)) ∈ lw_all := lw_g (lw_at lw_m3 44 rfl) rfl
theorem q641 : (Jvm.Cond.fieldLink "java/lang/String" (1053 : Nat) "jdk/internal/util/Preconditions" "SIOOBE_FORMATTER" "Ljava/util/function/BiFunction;") ∈ lw_all := lw_g (lw_at lw_m3 45 rfl) rfl
theorem q643 : (Jvm.Cond.methodLink "java/lang/String" (1065 : Nat) ({ cls := "jdk/internal/util/Preconditions", name := "checkFromIndexSize", desc := "(IIILjava/util/function/BiFunction;)I" } : Jvm.MethodName)) ∈ lw_all := lw_g (lw_at lw_m3 47 rfl) rfl
theorem q662 : (Jvm.Cond.static ({ cls := "java/lang/String", name := "checkIndex", desc := "(II)V" } : Jvm.MethodName)) ∈ lw_all := lw_g (lw_at lw_m3 66 rfl) rfl
theorem q663 : (Jvm.Cond.code ({ cls := "java/lang/String", name := "checkIndex", desc := "(II)V" } : Jvm.MethodName) prog_34_method_155_code (2 : Nat) (Option.none : Option Jvm.ClassFile.FieldType)) ∈ lw_all := lw_g (lw_at lw_m3 67 rfl) rfl
theorem q664 : (Jvm.Cond.methodLink "java/lang/String" (1059 : Nat) ({ cls := "jdk/internal/util/Preconditions", name := "checkIndex", desc := "(IILjava/util/function/BiFunction;)I" } : Jvm.MethodName)) ∈ lw_all := lw_g (lw_at lw_m3 68 rfl) rfl
theorem q673 : (Jvm.Cond.instanceMethod ({ cls := "java/lang/String", name := "<init>", desc := "(Ljava/lang/StringBuilder;)V" } : Jvm.MethodName)) ∈ lw_all := lw_g (lw_at lw_m3 77 rfl) rfl
theorem q674 : (Jvm.Cond.code ({ cls := "java/lang/String", name := "<init>", desc := "(Ljava/lang/StringBuilder;)V" } : Jvm.MethodName) prog_34_method_53_code (2 : Nat) (Option.none : Option Jvm.ClassFile.FieldType)) ∈ lw_all := lw_g (lw_at lw_m3 78 rfl) rfl
theorem q675 : (Jvm.Cond.methodLink "java/lang/String" (489 : Nat) ({ cls := "java/lang/String", name := "<init>", desc := "(Ljava/lang/AbstractStringBuilder;Ljava/lang/Void;)V" } : Jvm.MethodName)) ∈ lw_all := lw_g (lw_at lw_m3 79 rfl) rfl
theorem q676 : (Jvm.Cond.instanceMethod ({ cls := "java/lang/String", name := "<init>", desc := "(Ljava/lang/AbstractStringBuilder;Ljava/lang/Void;)V" } : Jvm.MethodName)) ∈ lw_all := lw_g (lw_at lw_m3 80 rfl) rfl
theorem q677 : (Jvm.Cond.code ({ cls := "java/lang/String", name := "<init>", desc := "(Ljava/lang/AbstractStringBuilder;Ljava/lang/Void;)V" } : Jvm.MethodName) prog_34_method_150_code (5 : Nat) (Option.none : Option Jvm.ClassFile.FieldType)) ∈ lw_all := lw_g (lw_at lw_m3 81 rfl) rfl
theorem q678 : (Jvm.Cond.methodLink "java/lang/String" (1 : Nat) ({ cls := "java/lang/Object", name := "<init>", desc := "()V" } : Jvm.MethodName)) ∈ lw_all := lw_g (lw_at lw_m3 82 rfl) rfl
theorem q679 : (Jvm.Cond.methodLink "java/lang/String" (552 : Nat) ({ cls := "java/lang/AbstractStringBuilder", name := "getValue", desc := "()[B" } : Jvm.MethodName)) ∈ lw_all := lw_g (lw_at lw_m3 83 rfl) rfl
theorem q684 : (Jvm.Cond.methodLink "java/lang/String" (549 : Nat) ({ cls := "java/lang/AbstractStringBuilder", name := "length", desc := "()I" } : Jvm.MethodName)) ∈ lw_all := lw_g (lw_at lw_m3 88 rfl) rfl
theorem q692 : (Jvm.Cond.methodLink "java/lang/String" (1047 : Nat) ({ cls := "java/lang/AbstractStringBuilder", name := "isLatin1", desc := "()Z" } : Jvm.MethodName)) ∈ lw_all := lw_g (lw_at lw_m3 96 rfl) rfl
theorem q693 : (Jvm.Cond.methodLink "java/lang/String" (54 : Nat) ({ cls := "java/util/Arrays", name := "copyOfRange", desc := "([BII)[B" } : Jvm.MethodName)) ∈ lw_all := lw_g (lw_at lw_m3 97 rfl) rfl
theorem q702 : (Jvm.Cond.fieldLink "java/lang/String" (38 : Nat) "java/lang/String" "COMPACT_STRINGS" "Z") ∈ lw_all := lw_g (lw_at lw_m3 106 rfl) rfl
theorem q703 : (Jvm.Cond.methodLink "java/lang/String" (1051 : Nat) ({ cls := "java/lang/StringUTF16", name := "compress", desc := "([BII)[B" } : Jvm.MethodName)) ∈ lw_all := lw_g (lw_at lw_m3 107 rfl) rfl
theorem q713 : (Jvm.Cond.methodLink "java/lang/String" (47 : Nat) ({ cls := "java/lang/StringUTF16", name := "coderFromArrayLen", desc := "([BI)B" } : Jvm.MethodName)) ∈ lw_all := lw_g (lw_at lw_m3 117 rfl) rfl
theorem q716 : (Jvm.Cond.fieldLink "java/lang/String" (9 : Nat) "java/lang/String" "value" "[B") ∈ lw_all := lw_g (lw_at lw_m3 120 rfl) rfl
theorem q717 : (Jvm.Cond.fieldLink "java/lang/String" (15 : Nat) "java/lang/String" "coder" "B") ∈ lw_all := lw_g (lw_at lw_m3 121 rfl) rfl
theorem q718 : (Jvm.Cond.lays "java/lang/String" "java/lang/String" "hash" "I") ∈ lw_all := lw_g (lw_at lw_m3 122 rfl) rfl
theorem q719 : (Jvm.Cond.soleField "java/lang/String" "hash") ∈ lw_all := lw_g (lw_at lw_m3 123 rfl) rfl
theorem q720 : (Jvm.Cond.lays "java/lang/String" "java/lang/String" "hashIsZero" "Z") ∈ lw_all := lw_g (lw_at lw_m3 124 rfl) rfl
theorem q721 : (Jvm.Cond.soleField "java/lang/String" "hashIsZero") ∈ lw_all := lw_g (lw_at lw_m3 125 rfl) rfl
theorem q722 : (Jvm.Cond.superclass "java/lang/String" "java/lang/Object") ∈ lw_all := lw_g (lw_at lw_m3 126 rfl) rfl
theorem q724 : (Jvm.Cond.instanceMethod ({ cls := "java/lang/String", name := "length", desc := "()I" } : Jvm.MethodName)) ∈ lw_all := lw_g (lw_at lw_m3 128 rfl) rfl
theorem q725 : (Jvm.Cond.selects "java/lang/String" ({ cls := "java/lang/String", name := "length", desc := "()I" } : Jvm.MethodName) ({ cls := "java/lang/String", name := "length", desc := "()I" } : Jvm.MethodName)) ∈ lw_all := lw_g (lw_at lw_m3 129 rfl) rfl
theorem q726 : (Jvm.Cond.code ({ cls := "java/lang/String", name := "length", desc := "()I" } : Jvm.MethodName) prog_34_method_54_code (1 : Nat) (Option.some Jvm.ClassFile.FieldType.int)) ∈ lw_all := lw_g (lw_at lw_m3 130 rfl) rfl
theorem q727 : (Jvm.Cond.methodLink "java/lang/String" (335 : Nat) ({ cls := "java/lang/String", name := "coder", desc := "()B" } : Jvm.MethodName)) ∈ lw_all := lw_g (lw_at lw_m3 131 rfl) rfl
theorem q728 : (Jvm.Cond.instanceMethod ({ cls := "java/lang/String", name := "coder", desc := "()B" } : Jvm.MethodName)) ∈ lw_all := lw_g (lw_at lw_m3 132 rfl) rfl
theorem q729 : (Jvm.Cond.selects "java/lang/String" ({ cls := "java/lang/String", name := "coder", desc := "()B" } : Jvm.MethodName) ({ cls := "java/lang/String", name := "coder", desc := "()B" } : Jvm.MethodName)) ∈ lw_all := lw_g (lw_at lw_m3 133 rfl) rfl
theorem q730 : (Jvm.Cond.code ({ cls := "java/lang/String", name := "coder", desc := "()B" } : Jvm.MethodName) prog_34_method_152_code (1 : Nat) (Option.some Jvm.ClassFile.FieldType.byte)) ∈ lw_all := lw_g (lw_at lw_m3 134 rfl) rfl
theorem q810 : (Jvm.Cond.instanceMethod ({ cls := "java/lang/String", name := "equals", desc := "(Ljava/lang/Object;)Z" } : Jvm.MethodName)) ∈ lw_all := lw_g (lw_at lw_m3 214 rfl) rfl
theorem q811 : (Jvm.Cond.selects "java/lang/String" ({ cls := "java/lang/String", name := "equals", desc := "(Ljava/lang/Object;)Z" } : Jvm.MethodName) ({ cls := "java/lang/String", name := "equals", desc := "(Ljava/lang/Object;)Z" } : Jvm.MethodName)) ∈ lw_all := lw_g (lw_at lw_m3 215 rfl) rfl
theorem q812 : (Jvm.Cond.code ({ cls := "java/lang/String", name := "equals", desc := "(Ljava/lang/Object;)Z" } : Jvm.MethodName) prog_34_method_66_code (3 : Nat) (Option.some Jvm.ClassFile.FieldType.boolean)) ∈ lw_all := lw_g (lw_at lw_m3 216 rfl) rfl
theorem q813 : (Jvm.Cond.classLink "java/lang/String" (10 : Nat) "java/lang/String") ∈ lw_all := lw_g (lw_at lw_m3 217 rfl) rfl
theorem q814 : (Jvm.Cond.methodLink "java/lang/String" (541 : Nat) ({ cls := "java/lang/StringLatin1", name := "equals", desc := "([B[B)Z" } : Jvm.MethodName)) ∈ lw_all := lw_g (lw_at lw_m3 218 rfl) rfl
theorem q868 : (Jvm.Cond.selects "java/lang/String" ({ cls := "java/lang/Object", name := "equals", desc := "(Ljava/lang/Object;)Z" } : Jvm.MethodName) ({ cls := "java/lang/String", name := "equals", desc := "(Ljava/lang/Object;)Z" } : Jvm.MethodName)) ∈ lw_all := lw_g (lw_at lw_m4 32 rfl) rfl
theorem q913 : (Jvm.Cond.selects "java/lang/String" ({ cls := "java/lang/Object", name := "getClass", desc := "()Ljava/lang/Class;" } : Jvm.MethodName) ({ cls := "java/lang/Object", name := "getClass", desc := "()Ljava/lang/Class;" } : Jvm.MethodName)) ∈ lw_all := lw_g (lw_at lw_m4 77 rfl) rfl
theorem q1692 : (Jvm.Cond.static ({ cls := "java/lang/String", name := "checkBoundsBeginEnd", desc := "(III)V" } : Jvm.MethodName)) ∈ lw_all := lw_g (lw_at lw_m7 136 rfl) rfl
theorem q1693 : (Jvm.Cond.code ({ cls := "java/lang/String", name := "checkBoundsBeginEnd", desc := "(III)V" } : Jvm.MethodName) prog_34_method_158_code (3 : Nat) (Option.none : Option Jvm.ClassFile.FieldType)) ∈ lw_all := lw_g (lw_at lw_m7 137 rfl) rfl
theorem q1694 : (Jvm.Cond.methodLink "java/lang/String" (1062 : Nat) ({ cls := "jdk/internal/util/Preconditions", name := "checkFromToIndex", desc := "(IIILjava/util/function/BiFunction;)I" } : Jvm.MethodName)) ∈ lw_all := lw_g (lw_at lw_m7 138 rfl) rfl
theorem q1708 : (Jvm.Cond.instanceMethod ({ cls := "java/lang/String", name := "getBytes", desc := "([BIB)V" } : Jvm.MethodName)) ∈ lw_all := lw_g (lw_at lw_m7 152 rfl) rfl
theorem q1709 : (Jvm.Cond.selects "java/lang/String" ({ cls := "java/lang/String", name := "getBytes", desc := "([BIB)V" } : Jvm.MethodName) ({ cls := "java/lang/String", name := "getBytes", desc := "([BIB)V" } : Jvm.MethodName)) ∈ lw_all := lw_g (lw_at lw_m7 153 rfl) rfl
theorem q1710 : (Jvm.Cond.code ({ cls := "java/lang/String", name := "getBytes", desc := "([BIB)V" } : Jvm.MethodName) prog_34_method_147_code (4 : Nat) (Option.none : Option Jvm.ClassFile.FieldType)) ∈ lw_all := lw_g (lw_at lw_m7 154 rfl) rfl
theorem q1711 : (Jvm.Cond.methodLink "java/lang/String" (212 : Nat) ({ cls := "java/lang/System", name := "arraycopy", desc := "(Ljava/lang/Object;ILjava/lang/Object;II)V" } : Jvm.MethodName)) ∈ lw_all := lw_g (lw_at lw_m7 155 rfl) rfl
theorem q1712 : (Jvm.Cond.methodLink "java/lang/String" (106 : Nat) ({ cls := "java/lang/StringLatin1", name := "inflate", desc := "([BI[BII)V" } : Jvm.MethodName)) ∈ lw_all := lw_g (lw_at lw_m7 156 rfl) rfl
theorem q2729 : (Jvm.Cond.castable "java/lang/String" "java/lang/Object") ∈ lw_tbl := lw_at lw_m11 213 rfl
theorem in_J9 : ∀ w ∈ wsJ90, w ∈ lw_all := lw_in wsJ90 [421, 423, 718, 720] (by decide +kernel) (by decide +kernel)

/-! java/lang/IndexOutOfBoundsException -/
def RJ10 : String := "java/lang/IndexOutOfBoundsException"
def TJ10 : u_T := fun k => match k with
  | 0 => ("java/lang/Throwable", "cause", "Ljava/lang/Throwable;", false)
  | 1 => ("java/lang/Throwable", "stackTrace", "[Ljava/lang/StackTraceElement;", false)
  | 2 => ("java/lang/Throwable", "suppressedExceptions", "Ljava/util/List;", false)
  | 3 => ("java/lang/Throwable", "detailMessage", "Ljava/lang/String;", false)
  | 4 => ("java/lang/Throwable", "backtrace", "Ljava/lang/Object;", false)
  | _ => ("java/lang/Throwable", "depth", "I", false)
def tyJ10 : Nat → FieldType := fun k => match k with
  | 0 => .object "java/lang/Throwable"
  | 1 => .array (.object "java/lang/StackTraceElement")
  | 2 => .object "java/util/List"
  | 3 => .object "java/lang/String"
  | 4 => .object "java/lang/Object"
  | _ => .int
abbrev wsJ100 : List Cond := u_ws RJ10 TJ10 6
theorem nmJ10 : ∀ a, a < 6 → ∀ b, b < 6 → a ≠ b → (TJ10 a).2.1 ≠ (TJ10 b).2.1 := by decide +kernel
theorem tyJ10_ok : ∀ k, k < 6 → parseFieldDescriptor (TJ10 k).2.2.1 = some (tyJ10 k) := by decide +kernel
abbrev cJ10_init : ByteArray := prog_25_method_2_code
def yJ10_init : MethodName := ⟨RJ10, "<init>", "(Ljava/lang/String;)V"⟩
abbrev cJ10_init_2 : ByteArray := prog_25_method_1_code
def yJ10_init_2 : MethodName := ⟨RJ10, "<init>", "()V"⟩
theorem q131 : (Jvm.Cond.initialized "java/lang/IndexOutOfBoundsException") ∈ lw_all := lw_g (lw_at lw_m1 15 rfl) rfl
theorem q362 : (Jvm.Cond.selects "java/lang/IndexOutOfBoundsException" ({ cls := "java/lang/Throwable", name := "fillInStackTrace", desc := "()Ljava/lang/Throwable;" } : Jvm.MethodName) ({ cls := "java/lang/Throwable", name := "fillInStackTrace", desc := "()Ljava/lang/Throwable;" } : Jvm.MethodName)) ∈ lw_all := lw_g (lw_at lw_m2 6 rfl) rfl
theorem q429 : (Jvm.Cond.instanceMethod ({ cls := "java/lang/IndexOutOfBoundsException", name := "<init>", desc := "(Ljava/lang/String;)V" } : Jvm.MethodName)) ∈ lw_all := lw_g (lw_at lw_m2 73 rfl) rfl
theorem q430 : (Jvm.Cond.code ({ cls := "java/lang/IndexOutOfBoundsException", name := "<init>", desc := "(Ljava/lang/String;)V" } : Jvm.MethodName) prog_25_method_2_code (2 : Nat) (Option.none : Option Jvm.ClassFile.FieldType)) ∈ lw_all := lw_g (lw_at lw_m2 74 rfl) rfl
theorem q431 : (Jvm.Cond.methodLink "java/lang/IndexOutOfBoundsException" (7 : Nat) ({ cls := "java/lang/RuntimeException", name := "<init>", desc := "(Ljava/lang/String;)V" } : Jvm.MethodName)) ∈ lw_all := lw_g (lw_at lw_m2 75 rfl) rfl
theorem q440 : (Jvm.Cond.declares ({ cls := "java/lang/IndexOutOfBoundsException", name := "<init>", desc := "()V" } : Jvm.MethodName)) ∈ lw_tbl := lw_at lw_m2 84 rfl
theorem q441 : (Jvm.Cond.declares ({ cls := "java/lang/IndexOutOfBoundsException", name := "<init>", desc := "(Ljava/lang/String;)V" } : Jvm.MethodName)) ∈ lw_tbl := lw_at lw_m2 85 rfl
theorem q857 : (Jvm.Cond.selects "java/lang/IndexOutOfBoundsException" ({ cls := "java/lang/Object", name := "equals", desc := "(Ljava/lang/Object;)Z" } : Jvm.MethodName) ({ cls := "java/lang/Object", name := "equals", desc := "(Ljava/lang/Object;)Z" } : Jvm.MethodName)) ∈ lw_all := lw_g (lw_at lw_m4 21 rfl) rfl
theorem q909 : (Jvm.Cond.selects "java/lang/IndexOutOfBoundsException" ({ cls := "java/lang/Object", name := "getClass", desc := "()Ljava/lang/Class;" } : Jvm.MethodName) ({ cls := "java/lang/Object", name := "getClass", desc := "()Ljava/lang/Class;" } : Jvm.MethodName)) ∈ lw_all := lw_g (lw_at lw_m4 73 rfl) rfl
theorem q1271 : (Jvm.Cond.selects "java/lang/IndexOutOfBoundsException" ({ cls := "java/lang/Throwable", name := "addSuppressed", desc := "(Ljava/lang/Throwable;)V" } : Jvm.MethodName) ({ cls := "java/lang/Throwable", name := "addSuppressed", desc := "(Ljava/lang/Throwable;)V" } : Jvm.MethodName)) ∈ lw_all := lw_g (lw_at lw_m5 195 rfl) rfl
theorem q1659 : (Jvm.Cond.instantiable "java/lang/IndexOutOfBoundsException" (6 : Nat)) ∈ lw_all := lw_g (lw_at lw_m7 103 rfl) rfl
theorem q1660 : (Jvm.Cond.castable "java/lang/IndexOutOfBoundsException" "java/lang/IndexOutOfBoundsException") ∈ lw_tbl := lw_at lw_m7 104 rfl
theorem q1661 : (Jvm.Cond.selects "java/lang/IndexOutOfBoundsException" ({ cls := "java/lang/Throwable", name := "fillInStackTrace", desc := "(I)Ljava/lang/Throwable;" } : Jvm.MethodName) ({ cls := "java/lang/Throwable", name := "fillInStackTrace", desc := "(I)Ljava/lang/Throwable;" } : Jvm.MethodName)) ∈ lw_all := lw_g (lw_at lw_m7 105 rfl) rfl
theorem q1662 : (Jvm.Cond.lays "java/lang/IndexOutOfBoundsException" "java/lang/Throwable" "cause" "Ljava/lang/Throwable;") ∈ lw_all := lw_g (lw_at lw_m7 106 rfl) rfl
theorem q1663 : (Jvm.Cond.lays "java/lang/IndexOutOfBoundsException" "java/lang/Throwable" "stackTrace" "[Ljava/lang/StackTraceElement;") ∈ lw_all := lw_g (lw_at lw_m7 107 rfl) rfl
theorem q1664 : (Jvm.Cond.lays "java/lang/IndexOutOfBoundsException" "java/lang/Throwable" "suppressedExceptions" "Ljava/util/List;") ∈ lw_all := lw_g (lw_at lw_m7 108 rfl) rfl
theorem q1665 : (Jvm.Cond.lays "java/lang/IndexOutOfBoundsException" "java/lang/Throwable" "detailMessage" "Ljava/lang/String;") ∈ lw_all := lw_g (lw_at lw_m7 109 rfl) rfl
theorem q1666 : (Jvm.Cond.lays "java/lang/IndexOutOfBoundsException" "java/lang/Throwable" "backtrace" "Ljava/lang/Object;") ∈ lw_all := lw_g (lw_at lw_m7 110 rfl) rfl
theorem q1741 : (Jvm.Cond.lays "java/lang/IndexOutOfBoundsException" "java/lang/Throwable" "depth" "I") ∈ lw_all := lw_g (lw_at lw_m7 185 rfl) rfl
theorem q1742 : (Jvm.Cond.superclass "java/lang/IndexOutOfBoundsException" "java/lang/RuntimeException") ∈ lw_all := lw_g (lw_at lw_m7 186 rfl) rfl
theorem q1980 : (Jvm.Cond.instanceMethod ({ cls := "java/lang/IndexOutOfBoundsException", name := "<init>", desc := "()V" } : Jvm.MethodName)) ∈ lw_all := lw_g (lw_at lw_m8 184 rfl) rfl
theorem q1981 : (Jvm.Cond.code ({ cls := "java/lang/IndexOutOfBoundsException", name := "<init>", desc := "()V" } : Jvm.MethodName) prog_25_method_1_code (1 : Nat) (Option.none : Option Jvm.ClassFile.FieldType)) ∈ lw_all := lw_g (lw_at lw_m8 185 rfl) rfl
theorem q1982 : (Jvm.Cond.methodLink "java/lang/IndexOutOfBoundsException" (1 : Nat) ({ cls := "java/lang/RuntimeException", name := "<init>", desc := "()V" } : Jvm.MethodName)) ∈ lw_all := lw_g (lw_at lw_m8 186 rfl) rfl
theorem q2723 : (Jvm.Cond.castable "java/lang/IndexOutOfBoundsException" "java/lang/Throwable") ∈ lw_tbl := lw_at lw_m11 207 rfl
theorem q2749 : (Jvm.Cond.castable "java/lang/IndexOutOfBoundsException" "java/lang/Object") ∈ lw_tbl := lw_at lw_m11 233 rfl
theorem in_J10 : ∀ w ∈ wsJ100, w ∈ lw_all := lw_in wsJ100 [1662, 1663, 1664, 1665, 1666, 1741] (by decide +kernel) (by decide +kernel)

/-! java/lang/ArrayIndexOutOfBoundsException -/
def RJ11 : String := "java/lang/ArrayIndexOutOfBoundsException"
def TJ11 : u_T := fun k => match k with
  | 0 => ("java/lang/Throwable", "backtrace", "Ljava/lang/Object;", false)
  | 1 => ("java/lang/Throwable", "detailMessage", "Ljava/lang/String;", false)
  | 2 => ("java/lang/Throwable", "cause", "Ljava/lang/Throwable;", false)
  | 3 => ("java/lang/Throwable", "stackTrace", "[Ljava/lang/StackTraceElement;", false)
  | 4 => ("java/lang/Throwable", "depth", "I", false)
  | _ => ("java/lang/Throwable", "suppressedExceptions", "Ljava/util/List;", false)
def tyJ11 : Nat → FieldType := fun k => match k with
  | 0 => .object "java/lang/Object"
  | 1 => .object "java/lang/String"
  | 2 => .object "java/lang/Throwable"
  | 3 => .array (.object "java/lang/StackTraceElement")
  | 4 => .int
  | _ => .object "java/util/List"
abbrev wsJ110 : List Cond := u_ws RJ11 TJ11 6
theorem nmJ11 : ∀ a, a < 6 → ∀ b, b < 6 → a ≠ b → (TJ11 a).2.1 ≠ (TJ11 b).2.1 := by decide +kernel
theorem tyJ11_ok : ∀ k, k < 6 → parseFieldDescriptor (TJ11 k).2.2.1 = some (tyJ11 k) := by decide +kernel
abbrev cJ11_init : ByteArray := prog_17_method_2_code
def yJ11_init : MethodName := ⟨RJ11, "<init>", "(Ljava/lang/String;)V"⟩
theorem q132 : (Jvm.Cond.initialized "java/lang/ArrayIndexOutOfBoundsException") ∈ lw_all := lw_g (lw_at lw_m1 16 rfl) rfl
theorem q359 : (Jvm.Cond.selects "java/lang/ArrayIndexOutOfBoundsException" ({ cls := "java/lang/Throwable", name := "fillInStackTrace", desc := "()Ljava/lang/Throwable;" } : Jvm.MethodName) ({ cls := "java/lang/Throwable", name := "fillInStackTrace", desc := "()Ljava/lang/Throwable;" } : Jvm.MethodName)) ∈ lw_all := lw_g (lw_at lw_m2 3 rfl) rfl
theorem q425 : (Jvm.Cond.instantiable "java/lang/ArrayIndexOutOfBoundsException" (6 : Nat)) ∈ lw_all := lw_g (lw_at lw_m2 69 rfl) rfl
theorem q426 : (Jvm.Cond.instanceMethod ({ cls := "java/lang/ArrayIndexOutOfBoundsException", name := "<init>", desc := "(Ljava/lang/String;)V" } : Jvm.MethodName)) ∈ lw_all := lw_g (lw_at lw_m2 70 rfl) rfl
theorem q427 : (Jvm.Cond.code ({ cls := "java/lang/ArrayIndexOutOfBoundsException", name := "<init>", desc := "(Ljava/lang/String;)V" } : Jvm.MethodName) prog_17_method_2_code (2 : Nat) (Option.none : Option Jvm.ClassFile.FieldType)) ∈ lw_all := lw_g (lw_at lw_m2 71 rfl) rfl
theorem q428 : (Jvm.Cond.methodLink "java/lang/ArrayIndexOutOfBoundsException" (7 : Nat) ({ cls := "java/lang/IndexOutOfBoundsException", name := "<init>", desc := "(Ljava/lang/String;)V" } : Jvm.MethodName)) ∈ lw_all := lw_g (lw_at lw_m2 72 rfl) rfl
theorem q432 : (Jvm.Cond.lays "java/lang/ArrayIndexOutOfBoundsException" "java/lang/Throwable" "backtrace" "Ljava/lang/Object;") ∈ lw_all := lw_g (lw_at lw_m2 76 rfl) rfl
theorem q433 : (Jvm.Cond.lays "java/lang/ArrayIndexOutOfBoundsException" "java/lang/Throwable" "detailMessage" "Ljava/lang/String;") ∈ lw_all := lw_g (lw_at lw_m2 77 rfl) rfl
theorem q434 : (Jvm.Cond.lays "java/lang/ArrayIndexOutOfBoundsException" "java/lang/Throwable" "cause" "Ljava/lang/Throwable;") ∈ lw_all := lw_g (lw_at lw_m2 78 rfl) rfl
theorem q435 : (Jvm.Cond.lays "java/lang/ArrayIndexOutOfBoundsException" "java/lang/Throwable" "stackTrace" "[Ljava/lang/StackTraceElement;") ∈ lw_all := lw_g (lw_at lw_m2 79 rfl) rfl
theorem q436 : (Jvm.Cond.lays "java/lang/ArrayIndexOutOfBoundsException" "java/lang/Throwable" "depth" "I") ∈ lw_all := lw_g (lw_at lw_m2 80 rfl) rfl
theorem q437 : (Jvm.Cond.lays "java/lang/ArrayIndexOutOfBoundsException" "java/lang/Throwable" "suppressedExceptions" "Ljava/util/List;") ∈ lw_all := lw_g (lw_at lw_m2 81 rfl) rfl
theorem q438 : (Jvm.Cond.superclass "java/lang/ArrayIndexOutOfBoundsException" "java/lang/IndexOutOfBoundsException") ∈ lw_all := lw_g (lw_at lw_m2 82 rfl) rfl
theorem q439 : (Jvm.Cond.castable "java/lang/ArrayIndexOutOfBoundsException" "java/lang/ArrayIndexOutOfBoundsException") ∈ lw_tbl := lw_at lw_m2 83 rfl
theorem q442 : (Jvm.Cond.selects "java/lang/ArrayIndexOutOfBoundsException" ({ cls := "java/lang/Throwable", name := "fillInStackTrace", desc := "(I)Ljava/lang/Throwable;" } : Jvm.MethodName) ({ cls := "java/lang/Throwable", name := "fillInStackTrace", desc := "(I)Ljava/lang/Throwable;" } : Jvm.MethodName)) ∈ lw_all := lw_g (lw_at lw_m2 86 rfl) rfl
theorem q854 : (Jvm.Cond.selects "java/lang/ArrayIndexOutOfBoundsException" ({ cls := "java/lang/Object", name := "equals", desc := "(Ljava/lang/Object;)Z" } : Jvm.MethodName) ({ cls := "java/lang/Object", name := "equals", desc := "(Ljava/lang/Object;)Z" } : Jvm.MethodName)) ∈ lw_all := lw_g (lw_at lw_m4 18 rfl) rfl
theorem q906 : (Jvm.Cond.selects "java/lang/ArrayIndexOutOfBoundsException" ({ cls := "java/lang/Object", name := "getClass", desc := "()Ljava/lang/Class;" } : Jvm.MethodName) ({ cls := "java/lang/Object", name := "getClass", desc := "()Ljava/lang/Class;" } : Jvm.MethodName)) ∈ lw_all := lw_g (lw_at lw_m4 70 rfl) rfl
theorem q1268 : (Jvm.Cond.selects "java/lang/ArrayIndexOutOfBoundsException" ({ cls := "java/lang/Throwable", name := "addSuppressed", desc := "(Ljava/lang/Throwable;)V" } : Jvm.MethodName) ({ cls := "java/lang/Throwable", name := "addSuppressed", desc := "(Ljava/lang/Throwable;)V" } : Jvm.MethodName)) ∈ lw_all := lw_g (lw_at lw_m5 192 rfl) rfl
theorem q2720 : (Jvm.Cond.castable "java/lang/ArrayIndexOutOfBoundsException" "java/lang/Throwable") ∈ lw_tbl := lw_at lw_m11 204 rfl
theorem q2727 : (Jvm.Cond.castable "java/lang/ArrayIndexOutOfBoundsException" "java/lang/IndexOutOfBoundsException") ∈ lw_tbl := lw_at lw_m11 211 rfl
theorem q2736 : (Jvm.Cond.castable "java/lang/ArrayIndexOutOfBoundsException" "java/lang/Object") ∈ lw_tbl := lw_at lw_m11 220 rfl
theorem in_J11 : ∀ w ∈ wsJ110, w ∈ lw_all := lw_in wsJ110 [432, 433, 434, 435, 436, 437] (by decide +kernel) (by decide +kernel)

/-! java/lang/NullPointerException -/
def RJ12 : String := "java/lang/NullPointerException"
def TJ12 : u_T := fun k => match k with
  | 0 => ("java/lang/Throwable", "backtrace", "Ljava/lang/Object;", false)
  | 1 => ("java/lang/Throwable", "detailMessage", "Ljava/lang/String;", false)
  | 2 => ("java/lang/Throwable", "cause", "Ljava/lang/Throwable;", false)
  | 3 => ("java/lang/Throwable", "stackTrace", "[Ljava/lang/StackTraceElement;", false)
  | 4 => ("java/lang/Throwable", "depth", "I", false)
  | 5 => ("java/lang/Throwable", "suppressedExceptions", "Ljava/util/List;", false)
  | 6 => ("java/lang/NullPointerException", "extendedMessageState", "I", false)
  | _ => ("java/lang/NullPointerException", "extendedMessage", "Ljava/lang/String;", false)
def tyJ12 : Nat → FieldType := fun k => match k with
  | 0 => .object "java/lang/Object"
  | 1 => .object "java/lang/String"
  | 2 => .object "java/lang/Throwable"
  | 3 => .array (.object "java/lang/StackTraceElement")
  | 4 => .int
  | 5 => .object "java/util/List"
  | 6 => .int
  | _ => .object "java/lang/String"
abbrev wsJ120 : List Cond := u_ws RJ12 TJ12 8
theorem nmJ12 : ∀ a, a < 8 → ∀ b, b < 8 → a ≠ b → (TJ12 a).2.1 ≠ (TJ12 b).2.1 := by decide +kernel
theorem tyJ12_ok : ∀ k, k < 8 → parseFieldDescriptor (TJ12 k).2.2.1 = some (tyJ12 k) := by decide +kernel
abbrev cJ12_init : ByteArray := prog_31_method_1_code
def yJ12_init : MethodName := ⟨RJ12, "<init>", "()V"⟩
theorem q133 : (Jvm.Cond.initialized "java/lang/NullPointerException") ∈ lw_all := lw_g (lw_at lw_m1 17 rfl) rfl
theorem q364 : (Jvm.Cond.selects "java/lang/NullPointerException" ({ cls := "java/lang/Throwable", name := "fillInStackTrace", desc := "()Ljava/lang/Throwable;" } : Jvm.MethodName) ({ cls := "java/lang/NullPointerException", name := "fillInStackTrace", desc := "()Ljava/lang/Throwable;" } : Jvm.MethodName)) ∈ lw_all := lw_g (lw_at lw_m2 8 rfl) rfl
theorem q365 : (Jvm.Cond.instanceMethod ({ cls := "java/lang/NullPointerException", name := "fillInStackTrace", desc := "()Ljava/lang/Throwable;" } : Jvm.MethodName)) ∈ lw_all := lw_g (lw_at lw_m2 9 rfl) rfl
theorem q366 : (Jvm.Cond.codeSync ({ cls := "java/lang/NullPointerException", name := "fillInStackTrace", desc := "()Ljava/lang/Throwable;" } : Jvm.MethodName) prog_31_method_3_code (1 : Nat) (Option.some (Jvm.ClassFile.FieldType.object "java/lang/Throwable"))) ∈ lw_all := lw_g (lw_at lw_m2 10 rfl) rfl
theorem q367 : (Jvm.Cond.methodLink "java/lang/NullPointerException" (16 : Nat) ({ cls := "java/lang/NullPointerException", name := "getExtendedNPEMessage", desc := "()Ljava/lang/String;" } : Jvm.MethodName)) ∈ lw_all := lw_g (lw_at lw_m2 11 rfl) rfl
theorem q368 : (Jvm.Cond.privateMethod ({ cls := "java/lang/NullPointerException", name := "getExtendedNPEMessage", desc := "()Ljava/lang/String;" } : Jvm.MethodName)) ∈ lw_tbl := lw_at lw_m2 12 rfl
theorem q369 : (Jvm.Cond.instanceMethod ({ cls := "java/lang/NullPointerException", name := "getExtendedNPEMessage", desc := "()Ljava/lang/String;" } : Jvm.MethodName)) ∈ lw_all := lw_g (lw_at lw_m2 13 rfl) rfl
theorem q370 : (Jvm.Cond.instantiable "java/lang/NullPointerException" (8 : Nat)) ∈ lw_all := lw_g (lw_at lw_m2 14 rfl) rfl
theorem q371 : (Jvm.Cond.native ({ cls := "java/lang/NullPointerException", name := "getExtendedNPEMessage", desc := "()Ljava/lang/String;" } : Jvm.MethodName)) ∈ lw_all := lw_g (lw_at lw_m2 15 rfl) rfl
theorem q372 : (Jvm.Cond.methodLink "java/lang/NullPointerException" (24 : Nat) ({ cls := "java/lang/RuntimeException", name := "fillInStackTrace", desc := "()Ljava/lang/Throwable;" } : Jvm.MethodName)) ∈ lw_all := lw_g (lw_at lw_m2 16 rfl) rfl
theorem q375 : (Jvm.Cond.superclass "java/lang/NullPointerException" "java/lang/RuntimeException") ∈ lw_all := lw_g (lw_at lw_m2 19 rfl) rfl
theorem q443 : (Jvm.Cond.instanceMethod ({ cls := "java/lang/NullPointerException", name := "<init>", desc := "()V" } : Jvm.MethodName)) ∈ lw_all := lw_g (lw_at lw_m2 87 rfl) rfl
theorem q444 : (Jvm.Cond.code ({ cls := "java/lang/NullPointerException", name := "<init>", desc := "()V" } : Jvm.MethodName) prog_31_method_1_code (1 : Nat) (Option.none : Option Jvm.ClassFile.FieldType)) ∈ lw_all := lw_g (lw_at lw_m2 88 rfl) rfl
theorem q445 : (Jvm.Cond.methodLink "java/lang/NullPointerException" (1 : Nat) ({ cls := "java/lang/RuntimeException", name := "<init>", desc := "()V" } : Jvm.MethodName)) ∈ lw_all := lw_g (lw_at lw_m2 89 rfl) rfl
theorem q452 : (Jvm.Cond.fieldLink "java/lang/NullPointerException" (10 : Nat) "java/lang/NullPointerException" "extendedMessageState" "I") ∈ lw_all := lw_g (lw_at lw_m2 96 rfl) rfl
theorem q453 : (Jvm.Cond.fieldLink "java/lang/NullPointerException" (20 : Nat) "java/lang/NullPointerException" "extendedMessage" "Ljava/lang/String;") ∈ lw_all := lw_g (lw_at lw_m2 97 rfl) rfl
theorem q454 : (Jvm.Cond.lays "java/lang/NullPointerException" "java/lang/NullPointerException" "extendedMessageState" "I") ∈ lw_all := lw_g (lw_at lw_m2 98 rfl) rfl
theorem q455 : (Jvm.Cond.soleField "java/lang/NullPointerException" "extendedMessageState") ∈ lw_all := lw_g (lw_at lw_m2 99 rfl) rfl
theorem q456 : (Jvm.Cond.lays "java/lang/NullPointerException" "java/lang/NullPointerException" "extendedMessage" "Ljava/lang/String;") ∈ lw_all := lw_g (lw_at lw_m2 100 rfl) rfl
theorem q457 : (Jvm.Cond.soleField "java/lang/NullPointerException" "extendedMessage") ∈ lw_all := lw_g (lw_at lw_m2 101 rfl) rfl
theorem q458 : (Jvm.Cond.lays "java/lang/NullPointerException" "java/lang/Throwable" "backtrace" "Ljava/lang/Object;") ∈ lw_all := lw_g (lw_at lw_m2 102 rfl) rfl
theorem q459 : (Jvm.Cond.lays "java/lang/NullPointerException" "java/lang/Throwable" "detailMessage" "Ljava/lang/String;") ∈ lw_all := lw_g (lw_at lw_m2 103 rfl) rfl
theorem q460 : (Jvm.Cond.lays "java/lang/NullPointerException" "java/lang/Throwable" "cause" "Ljava/lang/Throwable;") ∈ lw_all := lw_g (lw_at lw_m2 104 rfl) rfl
theorem q461 : (Jvm.Cond.lays "java/lang/NullPointerException" "java/lang/Throwable" "stackTrace" "[Ljava/lang/StackTraceElement;") ∈ lw_all := lw_g (lw_at lw_m2 105 rfl) rfl
theorem q462 : (Jvm.Cond.lays "java/lang/NullPointerException" "java/lang/Throwable" "depth" "I") ∈ lw_all := lw_g (lw_at lw_m2 106 rfl) rfl
theorem q463 : (Jvm.Cond.lays "java/lang/NullPointerException" "java/lang/Throwable" "suppressedExceptions" "Ljava/util/List;") ∈ lw_all := lw_g (lw_at lw_m2 107 rfl) rfl
theorem q464 : (Jvm.Cond.castable "java/lang/NullPointerException" "java/lang/NullPointerException") ∈ lw_tbl := lw_at lw_m2 108 rfl
theorem q465 : (Jvm.Cond.selects "java/lang/NullPointerException" ({ cls := "java/lang/Throwable", name := "fillInStackTrace", desc := "(I)Ljava/lang/Throwable;" } : Jvm.MethodName) ({ cls := "java/lang/Throwable", name := "fillInStackTrace", desc := "(I)Ljava/lang/Throwable;" } : Jvm.MethodName)) ∈ lw_all := lw_g (lw_at lw_m2 109 rfl) rfl
theorem q867 : (Jvm.Cond.selects "java/lang/NullPointerException" ({ cls := "java/lang/Object", name := "equals", desc := "(Ljava/lang/Object;)Z" } : Jvm.MethodName) ({ cls := "java/lang/Object", name := "equals", desc := "(Ljava/lang/Object;)Z" } : Jvm.MethodName)) ∈ lw_all := lw_g (lw_at lw_m4 31 rfl) rfl
theorem q912 : (Jvm.Cond.selects "java/lang/NullPointerException" ({ cls := "java/lang/Object", name := "getClass", desc := "()Ljava/lang/Class;" } : Jvm.MethodName) ({ cls := "java/lang/Object", name := "getClass", desc := "()Ljava/lang/Class;" } : Jvm.MethodName)) ∈ lw_all := lw_g (lw_at lw_m4 76 rfl) rfl
theorem q1273 : (Jvm.Cond.selects "java/lang/NullPointerException" ({ cls := "java/lang/Throwable", name := "addSuppressed", desc := "(Ljava/lang/Throwable;)V" } : Jvm.MethodName) ({ cls := "java/lang/Throwable", name := "addSuppressed", desc := "(Ljava/lang/Throwable;)V" } : Jvm.MethodName)) ∈ lw_all := lw_g (lw_at lw_m5 197 rfl) rfl
theorem q2725 : (Jvm.Cond.castable "java/lang/NullPointerException" "java/lang/Throwable") ∈ lw_tbl := lw_at lw_m11 209 rfl
theorem q2737 : (Jvm.Cond.castable "java/lang/NullPointerException" "java/lang/Object") ∈ lw_tbl := lw_at lw_m11 221 rfl
theorem in_J12 : ∀ w ∈ wsJ120, w ∈ lw_all := lw_in wsJ120 [458, 459, 460, 461, 462, 463, 454, 456] (by decide +kernel) (by decide +kernel)

/-! java/lang/ClassCastException -/
def RJ13 : String := "java/lang/ClassCastException"
def TJ13 : u_T := fun k => match k with
  | 0 => ("java/lang/Throwable", "backtrace", "Ljava/lang/Object;", false)
  | 1 => ("java/lang/Throwable", "detailMessage", "Ljava/lang/String;", false)
  | 2 => ("java/lang/Throwable", "cause", "Ljava/lang/Throwable;", false)
  | 3 => ("java/lang/Throwable", "stackTrace", "[Ljava/lang/StackTraceElement;", false)
  | 4 => ("java/lang/Throwable", "depth", "I", false)
  | _ => ("java/lang/Throwable", "suppressedExceptions", "Ljava/util/List;", false)
def tyJ13 : Nat → FieldType := fun k => match k with
  | 0 => .object "java/lang/Object"
  | 1 => .object "java/lang/String"
  | 2 => .object "java/lang/Throwable"
  | 3 => .array (.object "java/lang/StackTraceElement")
  | 4 => .int
  | _ => .object "java/util/List"
abbrev wsJ130 : List Cond := u_ws RJ13 TJ13 6
theorem nmJ13 : ∀ a, a < 6 → ∀ b, b < 6 → a ≠ b → (TJ13 a).2.1 ≠ (TJ13 b).2.1 := by decide +kernel
theorem tyJ13_ok : ∀ k, k < 6 → parseFieldDescriptor (TJ13 k).2.2.1 = some (tyJ13 k) := by decide +kernel
abbrev cJ13_init : ByteArray := prog_21_method_2_code
def yJ13_init : MethodName := ⟨RJ13, "<init>", "(Ljava/lang/String;)V"⟩
theorem q134 : (Jvm.Cond.initialized "java/lang/ClassCastException") ∈ lw_all := lw_g (lw_at lw_m1 18 rfl) rfl
theorem q361 : (Jvm.Cond.selects "java/lang/ClassCastException" ({ cls := "java/lang/Throwable", name := "fillInStackTrace", desc := "()Ljava/lang/Throwable;" } : Jvm.MethodName) ({ cls := "java/lang/Throwable", name := "fillInStackTrace", desc := "()Ljava/lang/Throwable;" } : Jvm.MethodName)) ∈ lw_all := lw_g (lw_at lw_m2 5 rfl) rfl
theorem q467 : (Jvm.Cond.instantiable "java/lang/ClassCastException" (6 : Nat)) ∈ lw_all := lw_g (lw_at lw_m2 111 rfl) rfl
theorem q468 : (Jvm.Cond.instanceMethod ({ cls := "java/lang/ClassCastException", name := "<init>", desc := "(Ljava/lang/String;)V" } : Jvm.MethodName)) ∈ lw_all := lw_g (lw_at lw_m2 112 rfl) rfl
theorem q469 : (Jvm.Cond.code ({ cls := "java/lang/ClassCastException", name := "<init>", desc := "(Ljava/lang/String;)V" } : Jvm.MethodName) prog_21_method_2_code (2 : Nat) (Option.none : Option Jvm.ClassFile.FieldType)) ∈ lw_all := lw_g (lw_at lw_m2 113 rfl) rfl
theorem q470 : (Jvm.Cond.methodLink "java/lang/ClassCastException" (7 : Nat) ({ cls := "java/lang/RuntimeException", name := "<init>", desc := "(Ljava/lang/String;)V" } : Jvm.MethodName)) ∈ lw_all := lw_g (lw_at lw_m2 114 rfl) rfl
theorem q471 : (Jvm.Cond.lays "java/lang/ClassCastException" "java/lang/Throwable" "backtrace" "Ljava/lang/Object;") ∈ lw_all := lw_g (lw_at lw_m2 115 rfl) rfl
theorem q472 : (Jvm.Cond.lays "java/lang/ClassCastException" "java/lang/Throwable" "detailMessage" "Ljava/lang/String;") ∈ lw_all := lw_g (lw_at lw_m2 116 rfl) rfl
theorem q473 : (Jvm.Cond.lays "java/lang/ClassCastException" "java/lang/Throwable" "cause" "Ljava/lang/Throwable;") ∈ lw_all := lw_g (lw_at lw_m2 117 rfl) rfl
theorem q474 : (Jvm.Cond.lays "java/lang/ClassCastException" "java/lang/Throwable" "stackTrace" "[Ljava/lang/StackTraceElement;") ∈ lw_all := lw_g (lw_at lw_m2 118 rfl) rfl
theorem q475 : (Jvm.Cond.lays "java/lang/ClassCastException" "java/lang/Throwable" "depth" "I") ∈ lw_all := lw_g (lw_at lw_m2 119 rfl) rfl
theorem q476 : (Jvm.Cond.lays "java/lang/ClassCastException" "java/lang/Throwable" "suppressedExceptions" "Ljava/util/List;") ∈ lw_all := lw_g (lw_at lw_m2 120 rfl) rfl
theorem q477 : (Jvm.Cond.superclass "java/lang/ClassCastException" "java/lang/RuntimeException") ∈ lw_all := lw_g (lw_at lw_m2 121 rfl) rfl
theorem q478 : (Jvm.Cond.castable "java/lang/ClassCastException" "java/lang/ClassCastException") ∈ lw_tbl := lw_at lw_m2 122 rfl
theorem q479 : (Jvm.Cond.selects "java/lang/ClassCastException" ({ cls := "java/lang/Throwable", name := "fillInStackTrace", desc := "(I)Ljava/lang/Throwable;" } : Jvm.MethodName) ({ cls := "java/lang/Throwable", name := "fillInStackTrace", desc := "(I)Ljava/lang/Throwable;" } : Jvm.MethodName)) ∈ lw_all := lw_g (lw_at lw_m2 123 rfl) rfl
theorem q856 : (Jvm.Cond.selects "java/lang/ClassCastException" ({ cls := "java/lang/Object", name := "equals", desc := "(Ljava/lang/Object;)Z" } : Jvm.MethodName) ({ cls := "java/lang/Object", name := "equals", desc := "(Ljava/lang/Object;)Z" } : Jvm.MethodName)) ∈ lw_all := lw_g (lw_at lw_m4 20 rfl) rfl
theorem q908 : (Jvm.Cond.selects "java/lang/ClassCastException" ({ cls := "java/lang/Object", name := "getClass", desc := "()Ljava/lang/Class;" } : Jvm.MethodName) ({ cls := "java/lang/Object", name := "getClass", desc := "()Ljava/lang/Class;" } : Jvm.MethodName)) ∈ lw_all := lw_g (lw_at lw_m4 72 rfl) rfl
theorem q1270 : (Jvm.Cond.selects "java/lang/ClassCastException" ({ cls := "java/lang/Throwable", name := "addSuppressed", desc := "(Ljava/lang/Throwable;)V" } : Jvm.MethodName) ({ cls := "java/lang/Throwable", name := "addSuppressed", desc := "(Ljava/lang/Throwable;)V" } : Jvm.MethodName)) ∈ lw_all := lw_g (lw_at lw_m5 194 rfl) rfl
theorem q2722 : (Jvm.Cond.castable "java/lang/ClassCastException" "java/lang/Throwable") ∈ lw_tbl := lw_at lw_m11 206 rfl
theorem q2738 : (Jvm.Cond.castable "java/lang/ClassCastException" "java/lang/Object") ∈ lw_tbl := lw_at lw_m11 222 rfl
theorem in_J13 : ∀ w ∈ wsJ130, w ∈ lw_all := lw_in wsJ130 [471, 472, 473, 474, 475, 476] (by decide +kernel) (by decide +kernel)

/-! java/lang/NegativeArraySizeException -/
def RJ14 : String := "java/lang/NegativeArraySizeException"
def TJ14 : u_T := fun k => match k with
  | 0 => ("java/lang/Throwable", "backtrace", "Ljava/lang/Object;", false)
  | 1 => ("java/lang/Throwable", "detailMessage", "Ljava/lang/String;", false)
  | 2 => ("java/lang/Throwable", "cause", "Ljava/lang/Throwable;", false)
  | 3 => ("java/lang/Throwable", "stackTrace", "[Ljava/lang/StackTraceElement;", false)
  | 4 => ("java/lang/Throwable", "depth", "I", false)
  | _ => ("java/lang/Throwable", "suppressedExceptions", "Ljava/util/List;", false)
def tyJ14 : Nat → FieldType := fun k => match k with
  | 0 => .object "java/lang/Object"
  | 1 => .object "java/lang/String"
  | 2 => .object "java/lang/Throwable"
  | 3 => .array (.object "java/lang/StackTraceElement")
  | 4 => .int
  | _ => .object "java/util/List"
abbrev wsJ140 : List Cond := u_ws RJ14 TJ14 6
theorem nmJ14 : ∀ a, a < 6 → ∀ b, b < 6 → a ≠ b → (TJ14 a).2.1 ≠ (TJ14 b).2.1 := by decide +kernel
theorem tyJ14_ok : ∀ k, k < 6 → parseFieldDescriptor (TJ14 k).2.2.1 = some (tyJ14 k) := by decide +kernel
abbrev cJ14_init : ByteArray := prog_30_method_2_code
def yJ14_init : MethodName := ⟨RJ14, "<init>", "(Ljava/lang/String;)V"⟩
theorem q135 : (Jvm.Cond.initialized "java/lang/NegativeArraySizeException") ∈ lw_all := lw_g (lw_at lw_m1 19 rfl) rfl
theorem q363 : (Jvm.Cond.selects "java/lang/NegativeArraySizeException" ({ cls := "java/lang/Throwable", name := "fillInStackTrace", desc := "()Ljava/lang/Throwable;" } : Jvm.MethodName) ({ cls := "java/lang/Throwable", name := "fillInStackTrace", desc := "()Ljava/lang/Throwable;" } : Jvm.MethodName)) ∈ lw_all := lw_g (lw_at lw_m2 7 rfl) rfl
theorem q480 : (Jvm.Cond.instantiable "java/lang/NegativeArraySizeException" (6 : Nat)) ∈ lw_all := lw_g (lw_at lw_m2 124 rfl) rfl
theorem q481 : (Jvm.Cond.instanceMethod ({ cls := "java/lang/NegativeArraySizeException", name := "<init>", desc := "(Ljava/lang/String;)V" } : Jvm.MethodName)) ∈ lw_all := lw_g (lw_at lw_m2 125 rfl) rfl
theorem q482 : (Jvm.Cond.code ({ cls := "java/lang/NegativeArraySizeException", name := "<init>", desc := "(Ljava/lang/String;)V" } : Jvm.MethodName) prog_30_method_2_code (2 : Nat) (Option.none : Option Jvm.ClassFile.FieldType)) ∈ lw_all := lw_g (lw_at lw_m2 126 rfl) rfl
theorem q483 : (Jvm.Cond.methodLink "java/lang/NegativeArraySizeException" (7 : Nat) ({ cls := "java/lang/RuntimeException", name := "<init>", desc := "(Ljava/lang/String;)V" } : Jvm.MethodName)) ∈ lw_all := lw_g (lw_at lw_m2 127 rfl) rfl
theorem q484 : (Jvm.Cond.lays "java/lang/NegativeArraySizeException" "java/lang/Throwable" "backtrace" "Ljava/lang/Object;") ∈ lw_all := lw_g (lw_at lw_m2 128 rfl) rfl
theorem q485 : (Jvm.Cond.lays "java/lang/NegativeArraySizeException" "java/lang/Throwable" "detailMessage" "Ljava/lang/String;") ∈ lw_all := lw_g (lw_at lw_m2 129 rfl) rfl
theorem q486 : (Jvm.Cond.lays "java/lang/NegativeArraySizeException" "java/lang/Throwable" "cause" "Ljava/lang/Throwable;") ∈ lw_all := lw_g (lw_at lw_m2 130 rfl) rfl
theorem q487 : (Jvm.Cond.lays "java/lang/NegativeArraySizeException" "java/lang/Throwable" "stackTrace" "[Ljava/lang/StackTraceElement;") ∈ lw_all := lw_g (lw_at lw_m2 131 rfl) rfl
theorem q488 : (Jvm.Cond.lays "java/lang/NegativeArraySizeException" "java/lang/Throwable" "depth" "I") ∈ lw_all := lw_g (lw_at lw_m2 132 rfl) rfl
theorem q489 : (Jvm.Cond.lays "java/lang/NegativeArraySizeException" "java/lang/Throwable" "suppressedExceptions" "Ljava/util/List;") ∈ lw_all := lw_g (lw_at lw_m2 133 rfl) rfl
theorem q490 : (Jvm.Cond.superclass "java/lang/NegativeArraySizeException" "java/lang/RuntimeException") ∈ lw_all := lw_g (lw_at lw_m2 134 rfl) rfl
theorem q491 : (Jvm.Cond.castable "java/lang/NegativeArraySizeException" "java/lang/NegativeArraySizeException") ∈ lw_tbl := lw_at lw_m2 135 rfl
theorem q492 : (Jvm.Cond.selects "java/lang/NegativeArraySizeException" ({ cls := "java/lang/Throwable", name := "fillInStackTrace", desc := "(I)Ljava/lang/Throwable;" } : Jvm.MethodName) ({ cls := "java/lang/Throwable", name := "fillInStackTrace", desc := "(I)Ljava/lang/Throwable;" } : Jvm.MethodName)) ∈ lw_all := lw_g (lw_at lw_m2 136 rfl) rfl
theorem q866 : (Jvm.Cond.selects "java/lang/NegativeArraySizeException" ({ cls := "java/lang/Object", name := "equals", desc := "(Ljava/lang/Object;)Z" } : Jvm.MethodName) ({ cls := "java/lang/Object", name := "equals", desc := "(Ljava/lang/Object;)Z" } : Jvm.MethodName)) ∈ lw_all := lw_g (lw_at lw_m4 30 rfl) rfl
theorem q911 : (Jvm.Cond.selects "java/lang/NegativeArraySizeException" ({ cls := "java/lang/Object", name := "getClass", desc := "()Ljava/lang/Class;" } : Jvm.MethodName) ({ cls := "java/lang/Object", name := "getClass", desc := "()Ljava/lang/Class;" } : Jvm.MethodName)) ∈ lw_all := lw_g (lw_at lw_m4 75 rfl) rfl
theorem q1272 : (Jvm.Cond.selects "java/lang/NegativeArraySizeException" ({ cls := "java/lang/Throwable", name := "addSuppressed", desc := "(Ljava/lang/Throwable;)V" } : Jvm.MethodName) ({ cls := "java/lang/Throwable", name := "addSuppressed", desc := "(Ljava/lang/Throwable;)V" } : Jvm.MethodName)) ∈ lw_all := lw_g (lw_at lw_m5 196 rfl) rfl
theorem q2724 : (Jvm.Cond.castable "java/lang/NegativeArraySizeException" "java/lang/Throwable") ∈ lw_tbl := lw_at lw_m11 208 rfl
theorem q2739 : (Jvm.Cond.castable "java/lang/NegativeArraySizeException" "java/lang/Object") ∈ lw_tbl := lw_at lw_m11 223 rfl
theorem in_J14 : ∀ w ∈ wsJ140, w ∈ lw_all := lw_in wsJ140 [484, 485, 486, 487, 488, 489] (by decide +kernel) (by decide +kernel)

/-! java/lang/ArrayStoreException -/
def RJ15 : String := "java/lang/ArrayStoreException"
def TJ15 : u_T := fun k => match k with
  | 0 => ("java/lang/Throwable", "backtrace", "Ljava/lang/Object;", false)
  | 1 => ("java/lang/Throwable", "detailMessage", "Ljava/lang/String;", false)
  | 2 => ("java/lang/Throwable", "cause", "Ljava/lang/Throwable;", false)
  | 3 => ("java/lang/Throwable", "stackTrace", "[Ljava/lang/StackTraceElement;", false)
  | 4 => ("java/lang/Throwable", "depth", "I", false)
  | _ => ("java/lang/Throwable", "suppressedExceptions", "Ljava/util/List;", false)
def tyJ15 : Nat → FieldType := fun k => match k with
  | 0 => .object "java/lang/Object"
  | 1 => .object "java/lang/String"
  | 2 => .object "java/lang/Throwable"
  | 3 => .array (.object "java/lang/StackTraceElement")
  | 4 => .int
  | _ => .object "java/util/List"
abbrev wsJ150 : List Cond := u_ws RJ15 TJ15 6
theorem nmJ15 : ∀ a, a < 6 → ∀ b, b < 6 → a ≠ b → (TJ15 a).2.1 ≠ (TJ15 b).2.1 := by decide +kernel
theorem tyJ15_ok : ∀ k, k < 6 → parseFieldDescriptor (TJ15 k).2.2.1 = some (tyJ15 k) := by decide +kernel
abbrev cJ15_init : ByteArray := prog_18_method_2_code
def yJ15_init : MethodName := ⟨RJ15, "<init>", "(Ljava/lang/String;)V"⟩
theorem q136 : (Jvm.Cond.initialized "java/lang/ArrayStoreException") ∈ lw_all := lw_g (lw_at lw_m1 20 rfl) rfl
theorem q360 : (Jvm.Cond.selects "java/lang/ArrayStoreException" ({ cls := "java/lang/Throwable", name := "fillInStackTrace", desc := "()Ljava/lang/Throwable;" } : Jvm.MethodName) ({ cls := "java/lang/Throwable", name := "fillInStackTrace", desc := "()Ljava/lang/Throwable;" } : Jvm.MethodName)) ∈ lw_all := lw_g (lw_at lw_m2 4 rfl) rfl
theorem q493 : (Jvm.Cond.instantiable "java/lang/ArrayStoreException" (6 : Nat)) ∈ lw_all := lw_g (lw_at lw_m2 137 rfl) rfl
theorem q494 : (Jvm.Cond.instanceMethod ({ cls := "java/lang/ArrayStoreException", name := "<init>", desc := "(Ljava/lang/String;)V" } : Jvm.MethodName)) ∈ lw_all := lw_g (lw_at lw_m2 138 rfl) rfl
theorem q495 : (Jvm.Cond.code ({ cls := "java/lang/ArrayStoreException", name := "<init>", desc := "(Ljava/lang/String;)V" } : Jvm.MethodName) prog_18_method_2_code (2 : Nat) (Option.none : Option Jvm.ClassFile.FieldType)) ∈ lw_all := lw_g (lw_at lw_m2 139 rfl) rfl
theorem q496 : (Jvm.Cond.methodLink "java/lang/ArrayStoreException" (7 : Nat) ({ cls := "java/lang/RuntimeException", name := "<init>", desc := "(Ljava/lang/String;)V" } : Jvm.MethodName)) ∈ lw_all := lw_g (lw_at lw_m2 140 rfl) rfl
theorem q497 : (Jvm.Cond.lays "java/lang/ArrayStoreException" "java/lang/Throwable" "backtrace" "Ljava/lang/Object;") ∈ lw_all := lw_g (lw_at lw_m2 141 rfl) rfl
theorem q498 : (Jvm.Cond.lays "java/lang/ArrayStoreException" "java/lang/Throwable" "detailMessage" "Ljava/lang/String;") ∈ lw_all := lw_g (lw_at lw_m2 142 rfl) rfl
theorem q499 : (Jvm.Cond.lays "java/lang/ArrayStoreException" "java/lang/Throwable" "cause" "Ljava/lang/Throwable;") ∈ lw_all := lw_g (lw_at lw_m2 143 rfl) rfl
theorem q500 : (Jvm.Cond.lays "java/lang/ArrayStoreException" "java/lang/Throwable" "stackTrace" "[Ljava/lang/StackTraceElement;") ∈ lw_all := lw_g (lw_at lw_m2 144 rfl) rfl
theorem q501 : (Jvm.Cond.lays "java/lang/ArrayStoreException" "java/lang/Throwable" "depth" "I") ∈ lw_all := lw_g (lw_at lw_m2 145 rfl) rfl
theorem q502 : (Jvm.Cond.lays "java/lang/ArrayStoreException" "java/lang/Throwable" "suppressedExceptions" "Ljava/util/List;") ∈ lw_all := lw_g (lw_at lw_m2 146 rfl) rfl
theorem q503 : (Jvm.Cond.superclass "java/lang/ArrayStoreException" "java/lang/RuntimeException") ∈ lw_all := lw_g (lw_at lw_m2 147 rfl) rfl
theorem q504 : (Jvm.Cond.castable "java/lang/ArrayStoreException" "java/lang/ArrayStoreException") ∈ lw_tbl := lw_at lw_m2 148 rfl
theorem q505 : (Jvm.Cond.selects "java/lang/ArrayStoreException" ({ cls := "java/lang/Throwable", name := "fillInStackTrace", desc := "(I)Ljava/lang/Throwable;" } : Jvm.MethodName) ({ cls := "java/lang/Throwable", name := "fillInStackTrace", desc := "(I)Ljava/lang/Throwable;" } : Jvm.MethodName)) ∈ lw_all := lw_g (lw_at lw_m2 149 rfl) rfl
theorem q855 : (Jvm.Cond.selects "java/lang/ArrayStoreException" ({ cls := "java/lang/Object", name := "equals", desc := "(Ljava/lang/Object;)Z" } : Jvm.MethodName) ({ cls := "java/lang/Object", name := "equals", desc := "(Ljava/lang/Object;)Z" } : Jvm.MethodName)) ∈ lw_all := lw_g (lw_at lw_m4 19 rfl) rfl
theorem q907 : (Jvm.Cond.selects "java/lang/ArrayStoreException" ({ cls := "java/lang/Object", name := "getClass", desc := "()Ljava/lang/Class;" } : Jvm.MethodName) ({ cls := "java/lang/Object", name := "getClass", desc := "()Ljava/lang/Class;" } : Jvm.MethodName)) ∈ lw_all := lw_g (lw_at lw_m4 71 rfl) rfl
theorem q1269 : (Jvm.Cond.selects "java/lang/ArrayStoreException" ({ cls := "java/lang/Throwable", name := "addSuppressed", desc := "(Ljava/lang/Throwable;)V" } : Jvm.MethodName) ({ cls := "java/lang/Throwable", name := "addSuppressed", desc := "(Ljava/lang/Throwable;)V" } : Jvm.MethodName)) ∈ lw_all := lw_g (lw_at lw_m5 193 rfl) rfl
theorem q2721 : (Jvm.Cond.castable "java/lang/ArrayStoreException" "java/lang/Throwable") ∈ lw_tbl := lw_at lw_m11 205 rfl
theorem q2740 : (Jvm.Cond.castable "java/lang/ArrayStoreException" "java/lang/Object") ∈ lw_tbl := lw_at lw_m11 224 rfl
theorem in_J15 : ∀ w ∈ wsJ150, w ∈ lw_all := lw_in wsJ150 [497, 498, 499, 500, 501, 502] (by decide +kernel) (by decide +kernel)

/-! ClockZones$Reader -/
def RX5 : String := "ClockZones$Reader"
def TX5 : u_T := fun k => match k with
  | 0 => ("ClockZones$Reader", "kept", "[Ljava/lang/String;", true)
  | 1 => ("ClockZones$Reader", "rels", "[Ljava/lang/String;", true)
  | 2 => ("ClockZones$Reader", "many", "I", true)
  | 3 => ("ClockZones$Reader", "read", "LClockZones$Net;", true)
  | 4 => ("ClockZones$Reader", "hasStart", "Z", false)
  | 5 => ("ClockZones$Reader", "place", "I", false)
  | 6 => ("ClockZones$Reader", "begin", "I", false)
  | 7 => ("ClockZones$Reader", "token", "I", false)
  | 8 => ("ClockZones$Reader", "value", "I", false)
  | 9 => ("ClockZones$Reader", "word", "Ljava/lang/String;", false)
  | _ => ("ClockZones$Reader", "this$0", "LClockZones;", true)
def tyX5 : Nat → FieldType := fun k => match k with
  | 0 => .array (.object "java/lang/String")
  | 1 => .array (.object "java/lang/String")
  | 2 => .int
  | 3 => .object "ClockZones$Net"
  | 4 => .boolean
  | 5 => .int
  | 6 => .int
  | 7 => .int
  | 8 => .int
  | 9 => .object "java/lang/String"
  | _ => .object "ClockZones"
abbrev wsX50 : List Cond := u_ws RX5 TX5 11
theorem nmX5 : ∀ a, a < 11 → ∀ b, b < 11 → a ≠ b → (TX5 a).2.1 ≠ (TX5 b).2.1 := by decide +kernel
theorem tyX5_ok : ∀ k, k < 11 → parseFieldDescriptor (TX5 k).2.2.1 = some (tyX5 k) := by decide +kernel
abbrev cX5_init : ByteArray := prog_7_method_1_code
def yX5_init : MethodName := ⟨RX5, "<init>", "(LClockZones;I)V"⟩
abbrev cX5_goes : ByteArray := prog_7_method_4_code
def yX5_goes : MethodName := ⟨RX5, "goes", "()V"⟩
abbrev cX5_isAt : ByteArray := prog_7_method_3_code
def yX5_isAt : MethodName := ⟨RX5, "isAt", "(II)Z"⟩
abbrev cX5_whole : ByteArray := prog_7_method_15_code
def yX5_whole : MethodName := ⟨RX5, "whole", "()LClockZones$Net;"⟩
abbrev cX5_line : ByteArray := prog_7_method_14_code
def yX5_line : MethodName := ⟨RX5, "line", "()V"⟩
abbrev cX5_must : ByteArray := prog_7_method_6_code
def yX5_must : MethodName := ⟨RX5, "must", "(ZI)V"⟩
abbrev cX5_which : ByteArray := prog_7_method_5_code
def yX5_which : MethodName := ⟨RX5, "which", "([Ljava/lang/String;)I"⟩
abbrev cX5_newName : ByteArray := prog_7_method_11_code
def yX5_newName : MethodName := ⟨RX5, "newName", "(Ljava/util/ArrayList;I)V"⟩
abbrev cX5_isName : ByteArray := prog_7_method_8_code
def yX5_isName : MethodName := ⟨RX5, "isName", "()Z"⟩
abbrev cX5_whens : ByteArray := prog_7_method_12_code
def yX5_whens : MethodName := ⟨RX5, "whens", "(Ljava/util/ArrayList;)V"⟩
abbrev cX5_isWord : ByteArray := prog_7_method_7_code
def yX5_isWord : MethodName := ⟨RX5, "isWord", "(Ljava/lang/String;)Z"⟩
abbrev cX5_told : ByteArray := prog_7_method_10_code
def yX5_told : MethodName := ⟨RX5, "told", "(Ljava/util/ArrayList;)I"⟩
abbrev cX5_number : ByteArray := prog_7_method_9_code
def yX5_number : MethodName := ⟨RX5, "number", "()I"⟩
abbrev cX5_sets : ByteArray := prog_7_method_13_code
def yX5_sets : MethodName := ⟨RX5, "sets", "(Ljava/util/ArrayList;)V"⟩
abbrev cX5_close : ByteArray := prog_7_method_2_code
def yX5_close : MethodName := ⟨RX5, "close", "()V"⟩
theorem q137 : (Jvm.Cond.initialized "ClockZones$Reader") ∈ lw_all := lw_g (lw_at lw_m1 21 rfl) rfl
theorem q208 : (Jvm.Cond.fieldLinkNest "ClockZones$Reader" (147 : Nat) "ClockZones$Net" "clocks" "Ljava/util/ArrayList;" "ClockZones") ∈ lw_tbl := lw_at lw_m1 92 rfl
theorem q211 : (Jvm.Cond.fieldLinkNest "ClockZones$Reader" (183 : Nat) "ClockZones$Net" "places" "Ljava/util/ArrayList;" "ClockZones") ∈ lw_tbl := lw_at lw_m1 95 rfl
theorem q216 : (Jvm.Cond.fieldLinkNest "ClockZones$Reader" (186 : Nat) "ClockZones$Net" "stays" "Ljava/util/ArrayList;" "ClockZones") ∈ lw_tbl := lw_at lw_m1 100 rfl
theorem q219 : (Jvm.Cond.fieldLinkNest "ClockZones$Reader" (198 : Nat) "ClockZones$Net" "edges" "Ljava/util/ArrayList;" "ClockZones") ∈ lw_tbl := lw_at lw_m1 103 rfl
theorem q223 : (Jvm.Cond.fieldLinkNest "ClockZones$Reader" (215 : Nat) "ClockZones$Net" "start" "I" "ClockZones") ∈ lw_tbl := lw_at lw_m1 107 rfl
theorem q225 : (Jvm.Cond.fieldLinkNest "ClockZones$Reader" (217 : Nat) "ClockZones$Net" "lines" "I" "ClockZones") ∈ lw_tbl := lw_at lw_m1 109 rfl
theorem q298 : (Jvm.Cond.fieldLinkNest "ClockZones$Reader" (71 : Nat) "ClockZones" "tape" "[B" "ClockZones") ∈ lw_tbl := lw_at lw_m1 182 rfl
theorem q300 : (Jvm.Cond.fieldLinkNest "ClockZones$Reader" (66 : Nat) "ClockZones" "taped" "I" "ClockZones") ∈ lw_tbl := lw_at lw_m1 184 rfl
theorem q511 : (Jvm.Cond.instantiable "ClockZones$Reader" (11 : Nat)) ∈ lw_all := lw_g (lw_at lw_m2 155 rfl) rfl
theorem q513 : (Jvm.Cond.instanceMethod ({ cls := "ClockZones$Reader", name := "<init>", desc := "(LClockZones;I)V" } : Jvm.MethodName)) ∈ lw_all := lw_g (lw_at lw_m2 157 rfl) rfl
theorem q514 : (Jvm.Cond.code ({ cls := "ClockZones$Reader", name := "<init>", desc := "(LClockZones;I)V" } : Jvm.MethodName) prog_7_method_1_code (3 : Nat) (Option.none : Option Jvm.ClassFile.FieldType)) ∈ lw_all := lw_g (lw_at lw_m2 158 rfl) rfl
theorem q515 : (Jvm.Cond.methodLink "ClockZones$Reader" (9 : Nat) ({ cls := "java/lang/Object", name := "<init>", desc := "()V" } : Jvm.MethodName)) ∈ lw_all := lw_g (lw_at lw_m2 159 rfl) rfl
theorem q516 : (Jvm.Cond.classLink "ClockZones$Reader" (15 : Nat) "java/lang/String") ∈ lw_all := lw_g (lw_at lw_m2 160 rfl) rfl
theorem q518 : (Jvm.Cond.stringRef "ClockZones$Reader" (17 : Nat) "clock") ∈ lw_tbl := lw_at lw_m2 162 rfl
theorem q519 : (Jvm.Cond.stringRef "ClockZones$Reader" (19 : Nat) "place") ∈ lw_tbl := lw_at lw_m2 163 rfl
theorem q520 : (Jvm.Cond.stringRef "ClockZones$Reader" (21 : Nat) "edge") ∈ lw_tbl := lw_at lw_m2 164 rfl
theorem q521 : (Jvm.Cond.stringRef "ClockZones$Reader" (23 : Nat) "start") ∈ lw_tbl := lw_at lw_m2 165 rfl
theorem q522 : (Jvm.Cond.stringRef "ClockZones$Reader" (25 : Nat) "when") ∈ lw_tbl := lw_at lw_m2 166 rfl
theorem q523 : (Jvm.Cond.stringRef "ClockZones$Reader" (27 : Nat) "set") ∈ lw_tbl := lw_at lw_m2 167 rfl
theorem q524 : (Jvm.Cond.stringRef "ClockZones$Reader" (33 : Nat) "<") ∈ lw_tbl := lw_at lw_m2 168 rfl
theorem q525 : (Jvm.Cond.stringRef "ClockZones$Reader" (35 : Nat) "<=") ∈ lw_tbl := lw_at lw_m2 169 rfl
theorem q526 : (Jvm.Cond.stringRef "ClockZones$Reader" (37 : Nat) "=") ∈ lw_tbl := lw_at lw_m2 170 rfl
theorem q527 : (Jvm.Cond.stringRef "ClockZones$Reader" (39 : Nat) ">=") ∈ lw_tbl := lw_at lw_m2 171 rfl
theorem q528 : (Jvm.Cond.stringRef "ClockZones$Reader" (41 : Nat) ">") ∈ lw_tbl := lw_at lw_m2 172 rfl
theorem q529 : (Jvm.Cond.classLink "ClockZones$Reader" (46 : Nat) "ClockZones$Net") ∈ lw_all := lw_g (lw_at lw_m2 173 rfl) rfl
theorem q530 : (Jvm.Cond.methodLinkNest "ClockZones$Reader" (48 : Nat) ({ cls := "ClockZones$Net", name := "<init>", desc := "()V" } : Jvm.MethodName) "ClockZones") ∈ lw_tbl := lw_at lw_m2 174 rfl
theorem q531 : (Jvm.Cond.stringRef "ClockZones$Reader" (53 : Nat) "") ∈ lw_tbl := lw_at lw_m2 175 rfl
theorem q532 : (Jvm.Cond.methodLink "ClockZones$Reader" (63 : Nat) ({ cls := "ClockZones$Reader", name := "goes", desc := "()V" } : Jvm.MethodName)) ∈ lw_all := lw_g (lw_at lw_m2 176 rfl) rfl
theorem q533 : (Jvm.Cond.privateMethod ({ cls := "ClockZones$Reader", name := "goes", desc := "()V" } : Jvm.MethodName)) ∈ lw_tbl := lw_at lw_m2 177 rfl
theorem q534 : (Jvm.Cond.instanceMethod ({ cls := "ClockZones$Reader", name := "goes", desc := "()V" } : Jvm.MethodName)) ∈ lw_all := lw_g (lw_at lw_m2 178 rfl) rfl
theorem q535 : (Jvm.Cond.code ({ cls := "ClockZones$Reader", name := "goes", desc := "()V" } : Jvm.MethodName) prog_7_method_4_code (3 : Nat) (Option.none : Option Jvm.ClassFile.FieldType)) ∈ lw_all := lw_g (lw_at lw_m2 179 rfl) rfl
theorem q536 : (Jvm.Cond.methodLink "ClockZones$Reader" (79 : Nat) ({ cls := "ClockZones$Reader", name := "isAt", desc := "(II)Z" } : Jvm.MethodName)) ∈ lw_all := lw_g (lw_at lw_m2 180 rfl) rfl
theorem q537 : (Jvm.Cond.privateMethod ({ cls := "ClockZones$Reader", name := "isAt", desc := "(II)Z" } : Jvm.MethodName)) ∈ lw_tbl := lw_at lw_m2 181 rfl
theorem q538 : (Jvm.Cond.instanceMethod ({ cls := "ClockZones$Reader", name := "isAt", desc := "(II)Z" } : Jvm.MethodName)) ∈ lw_all := lw_g (lw_at lw_m2 182 rfl) rfl
theorem q539 : (Jvm.Cond.code ({ cls := "ClockZones$Reader", name := "isAt", desc := "(II)Z" } : Jvm.MethodName) prog_7_method_3_code (3 : Nat) (Option.some Jvm.ClassFile.FieldType.boolean)) ∈ lw_all := lw_g (lw_at lw_m2 183 rfl) rfl
theorem q540 : (Jvm.Cond.methodLinkNest "ClockZones$Reader" (75 : Nat) ({ cls := "ClockZones", name := "in", desc := "(III)Z" } : Jvm.MethodName) "ClockZones") ∈ lw_tbl := lw_at lw_m2 184 rfl
theorem q541 : (Jvm.Cond.classLink "ClockZones$Reader" (92 : Nat) "java/lang/StringBuilder") ∈ lw_all := lw_g (lw_at lw_m2 185 rfl) rfl
theorem q543 : (Jvm.Cond.methodLink "ClockZones$Reader" (94 : Nat) ({ cls := "java/lang/StringBuilder", name := "<init>", desc := "()V" } : Jvm.MethodName)) ∈ lw_all := lw_g (lw_at lw_m2 187 rfl) rfl
theorem q572 : (Jvm.Cond.methodLink "ClockZones$Reader" (95 : Nat) ({ cls := "java/lang/StringBuilder", name := "append", desc := "(C)Ljava/lang/StringBuilder;" } : Jvm.MethodName)) ∈ lw_all := lw_g (lw_at lw_m2 216 rfl) rfl
theorem q667 : (Jvm.Cond.methodLink "ClockZones$Reader" (99 : Nat) ({ cls := "java/lang/StringBuilder", name := "toString", desc := "()Ljava/lang/String;" } : Jvm.MethodName)) ∈ lw_all := lw_g (lw_at lw_m3 71 rfl) rfl
theorem q723 : (Jvm.Cond.methodLink "ClockZones$Reader" (103 : Nat) ({ cls := "java/lang/String", name := "length", desc := "()I" } : Jvm.MethodName)) ∈ lw_all := lw_g (lw_at lw_m3 127 rfl) rfl
theorem q731 : (Jvm.Cond.fieldLink "ClockZones$Reader" (29 : Nat) "ClockZones$Reader" "kept" "[Ljava/lang/String;") ∈ lw_all := lw_g (lw_at lw_m3 135 rfl) rfl
theorem q732 : (Jvm.Cond.fieldLink "ClockZones$Reader" (43 : Nat) "ClockZones$Reader" "rels" "[Ljava/lang/String;") ∈ lw_all := lw_g (lw_at lw_m3 136 rfl) rfl
theorem q733 : (Jvm.Cond.fieldLink "ClockZones$Reader" (59 : Nat) "ClockZones$Reader" "many" "I") ∈ lw_all := lw_g (lw_at lw_m3 137 rfl) rfl
theorem q734 : (Jvm.Cond.fieldLink "ClockZones$Reader" (49 : Nat) "ClockZones$Reader" "read" "LClockZones$Net;") ∈ lw_all := lw_g (lw_at lw_m3 138 rfl) rfl
theorem q735 : (Jvm.Cond.fieldLink "ClockZones$Reader" (211 : Nat) "ClockZones$Reader" "hasStart" "Z") ∈ lw_all := lw_g (lw_at lw_m3 139 rfl) rfl
theorem q736 : (Jvm.Cond.fieldLink "ClockZones$Reader" (69 : Nat) "ClockZones$Reader" "place" "I") ∈ lw_all := lw_g (lw_at lw_m3 140 rfl) rfl
theorem q737 : (Jvm.Cond.fieldLink "ClockZones$Reader" (83 : Nat) "ClockZones$Reader" "begin" "I") ∈ lw_all := lw_g (lw_at lw_m3 141 rfl) rfl
theorem q738 : (Jvm.Cond.fieldLink "ClockZones$Reader" (89 : Nat) "ClockZones$Reader" "token" "I") ∈ lw_all := lw_g (lw_at lw_m3 142 rfl) rfl
theorem q739 : (Jvm.Cond.fieldLink "ClockZones$Reader" (86 : Nat) "ClockZones$Reader" "value" "I") ∈ lw_all := lw_g (lw_at lw_m3 143 rfl) rfl
theorem q740 : (Jvm.Cond.fieldLink "ClockZones$Reader" (55 : Nat) "ClockZones$Reader" "word" "Ljava/lang/String;") ∈ lw_all := lw_g (lw_at lw_m3 144 rfl) rfl
theorem q741 : (Jvm.Cond.fieldLink "ClockZones$Reader" (3 : Nat) "ClockZones$Reader" "this$0" "LClockZones;") ∈ lw_all := lw_g (lw_at lw_m3 145 rfl) rfl
theorem q742 : (Jvm.Cond.laysFinal "ClockZones$Reader" "ClockZones$Reader" "kept" "[Ljava/lang/String;") ∈ lw_all := lw_g (lw_at lw_m3 146 rfl) rfl
theorem q743 : (Jvm.Cond.soleField "ClockZones$Reader" "kept") ∈ lw_all := lw_g (lw_at lw_m3 147 rfl) rfl
theorem q744 : (Jvm.Cond.laysFinal "ClockZones$Reader" "ClockZones$Reader" "rels" "[Ljava/lang/String;") ∈ lw_all := lw_g (lw_at lw_m3 148 rfl) rfl
theorem q745 : (Jvm.Cond.soleField "ClockZones$Reader" "rels") ∈ lw_all := lw_g (lw_at lw_m3 149 rfl) rfl
theorem q746 : (Jvm.Cond.laysFinal "ClockZones$Reader" "ClockZones$Reader" "many" "I") ∈ lw_all := lw_g (lw_at lw_m3 150 rfl) rfl
theorem q747 : (Jvm.Cond.soleField "ClockZones$Reader" "many") ∈ lw_all := lw_g (lw_at lw_m3 151 rfl) rfl
theorem q748 : (Jvm.Cond.laysFinal "ClockZones$Reader" "ClockZones$Reader" "read" "LClockZones$Net;") ∈ lw_all := lw_g (lw_at lw_m3 152 rfl) rfl
theorem q749 : (Jvm.Cond.soleField "ClockZones$Reader" "read") ∈ lw_all := lw_g (lw_at lw_m3 153 rfl) rfl
theorem q750 : (Jvm.Cond.lays "ClockZones$Reader" "ClockZones$Reader" "hasStart" "Z") ∈ lw_all := lw_g (lw_at lw_m3 154 rfl) rfl
theorem q751 : (Jvm.Cond.soleField "ClockZones$Reader" "hasStart") ∈ lw_all := lw_g (lw_at lw_m3 155 rfl) rfl
theorem q752 : (Jvm.Cond.lays "ClockZones$Reader" "ClockZones$Reader" "place" "I") ∈ lw_all := lw_g (lw_at lw_m3 156 rfl) rfl
theorem q753 : (Jvm.Cond.soleField "ClockZones$Reader" "place") ∈ lw_all := lw_g (lw_at lw_m3 157 rfl) rfl
theorem q754 : (Jvm.Cond.lays "ClockZones$Reader" "ClockZones$Reader" "begin" "I") ∈ lw_all := lw_g (lw_at lw_m3 158 rfl) rfl
theorem q755 : (Jvm.Cond.soleField "ClockZones$Reader" "begin") ∈ lw_all := lw_g (lw_at lw_m3 159 rfl) rfl
theorem q756 : (Jvm.Cond.lays "ClockZones$Reader" "ClockZones$Reader" "token" "I") ∈ lw_all := lw_g (lw_at lw_m3 160 rfl) rfl
theorem q757 : (Jvm.Cond.soleField "ClockZones$Reader" "token") ∈ lw_all := lw_g (lw_at lw_m3 161 rfl) rfl
theorem q758 : (Jvm.Cond.lays "ClockZones$Reader" "ClockZones$Reader" "value" "I") ∈ lw_all := lw_g (lw_at lw_m3 162 rfl) rfl
theorem q759 : (Jvm.Cond.soleField "ClockZones$Reader" "value") ∈ lw_all := lw_g (lw_at lw_m3 163 rfl) rfl
theorem q760 : (Jvm.Cond.lays "ClockZones$Reader" "ClockZones$Reader" "word" "Ljava/lang/String;") ∈ lw_all := lw_g (lw_at lw_m3 164 rfl) rfl
theorem q761 : (Jvm.Cond.soleField "ClockZones$Reader" "word") ∈ lw_all := lw_g (lw_at lw_m3 165 rfl) rfl
theorem q762 : (Jvm.Cond.laysFinal "ClockZones$Reader" "ClockZones$Reader" "this$0" "LClockZones;") ∈ lw_all := lw_g (lw_at lw_m3 166 rfl) rfl
theorem q763 : (Jvm.Cond.soleField "ClockZones$Reader" "this$0") ∈ lw_all := lw_g (lw_at lw_m3 167 rfl) rfl
theorem q764 : (Jvm.Cond.superclass "ClockZones$Reader" "java/lang/Object") ∈ lw_all := lw_g (lw_at lw_m3 168 rfl) rfl
theorem q766 : (Jvm.Cond.instanceMethod ({ cls := "ClockZones$Reader", name := "whole", desc := "()LClockZones$Net;" } : Jvm.MethodName)) ∈ lw_all := lw_g (lw_at lw_m3 170 rfl) rfl
theorem q767 : (Jvm.Cond.selects "ClockZones$Reader" ({ cls := "ClockZones$Reader", name := "whole", desc := "()LClockZones$Net;" } : Jvm.MethodName) ({ cls := "ClockZones$Reader", name := "whole", desc := "()LClockZones$Net;" } : Jvm.MethodName)) ∈ lw_all := lw_g (lw_at lw_m3 171 rfl) rfl
theorem q768 : (Jvm.Cond.code ({ cls := "ClockZones$Reader", name := "whole", desc := "()LClockZones$Net;" } : Jvm.MethodName) prog_7_method_15_code (1 : Nat) (Option.some (Jvm.ClassFile.FieldType.object "ClockZones$Net"))) ∈ lw_all := lw_g (lw_at lw_m3 172 rfl) rfl
theorem q769 : (Jvm.Cond.methodLink "ClockZones$Reader" (220 : Nat) ({ cls := "ClockZones$Reader", name := "line", desc := "()V" } : Jvm.MethodName)) ∈ lw_all := lw_g (lw_at lw_m3 173 rfl) rfl
theorem q770 : (Jvm.Cond.privateMethod ({ cls := "ClockZones$Reader", name := "line", desc := "()V" } : Jvm.MethodName)) ∈ lw_tbl := lw_at lw_m3 174 rfl
theorem q771 : (Jvm.Cond.instanceMethod ({ cls := "ClockZones$Reader", name := "line", desc := "()V" } : Jvm.MethodName)) ∈ lw_all := lw_g (lw_at lw_m3 175 rfl) rfl
theorem q772 : (Jvm.Cond.code ({ cls := "ClockZones$Reader", name := "line", desc := "()V" } : Jvm.MethodName) prog_7_method_14_code (3 : Nat) (Option.none : Option Jvm.ClassFile.FieldType)) ∈ lw_all := lw_g (lw_at lw_m3 176 rfl) rfl
theorem q773 : (Jvm.Cond.methodLink "ClockZones$Reader" (120 : Nat) ({ cls := "ClockZones$Reader", name := "must", desc := "(ZI)V" } : Jvm.MethodName)) ∈ lw_all := lw_g (lw_at lw_m3 177 rfl) rfl
theorem q774 : (Jvm.Cond.privateMethod ({ cls := "ClockZones$Reader", name := "must", desc := "(ZI)V" } : Jvm.MethodName)) ∈ lw_tbl := lw_at lw_m3 178 rfl
theorem q775 : (Jvm.Cond.instanceMethod ({ cls := "ClockZones$Reader", name := "must", desc := "(ZI)V" } : Jvm.MethodName)) ∈ lw_all := lw_g (lw_at lw_m3 179 rfl) rfl
theorem q776 : (Jvm.Cond.code ({ cls := "ClockZones$Reader", name := "must", desc := "(ZI)V" } : Jvm.MethodName) prog_7_method_6_code (3 : Nat) (Option.none : Option Jvm.ClassFile.FieldType)) ∈ lw_all := lw_g (lw_at lw_m3 180 rfl) rfl
theorem q777 : (Jvm.Cond.classLink "ClockZones$Reader" (111 : Nat) "ClockZones$Fault") ∈ lw_all := lw_g (lw_at lw_m3 181 rfl) rfl
theorem q786 : (Jvm.Cond.methodLink "ClockZones$Reader" (113 : Nat) ({ cls := "ClockZones$Fault", name := "<init>", desc := "(II)V" } : Jvm.MethodName)) ∈ lw_all := lw_g (lw_at lw_m3 190 rfl) rfl
theorem q805 : (Jvm.Cond.methodLink "ClockZones$Reader" (116 : Nat) ({ cls := "ClockZones$Reader", name := "which", desc := "([Ljava/lang/String;)I" } : Jvm.MethodName)) ∈ lw_all := lw_g (lw_at lw_m3 209 rfl) rfl
theorem q806 : (Jvm.Cond.privateMethod ({ cls := "ClockZones$Reader", name := "which", desc := "([Ljava/lang/String;)I" } : Jvm.MethodName)) ∈ lw_tbl := lw_at lw_m3 210 rfl
theorem q807 : (Jvm.Cond.instanceMethod ({ cls := "ClockZones$Reader", name := "which", desc := "([Ljava/lang/String;)I" } : Jvm.MethodName)) ∈ lw_all := lw_g (lw_at lw_m3 211 rfl) rfl
theorem q808 : (Jvm.Cond.code ({ cls := "ClockZones$Reader", name := "which", desc := "([Ljava/lang/String;)I" } : Jvm.MethodName) prog_7_method_5_code (3 : Nat) (Option.some Jvm.ClassFile.FieldType.int)) ∈ lw_all := lw_g (lw_at lw_m3 212 rfl) rfl
theorem q809 : (Jvm.Cond.methodLink "ClockZones$Reader" (107 : Nat) ({ cls := "java/lang/String", name := "equals", desc := "(Ljava/lang/Object;)Z" } : Jvm.MethodName)) ∈ lw_all := lw_g (lw_at lw_m3 213 rfl) rfl
theorem q817 : (Jvm.Cond.methodLink "ClockZones$Reader" (179 : Nat) ({ cls := "ClockZones$Reader", name := "newName", desc := "(Ljava/util/ArrayList;I)V" } : Jvm.MethodName)) ∈ lw_all := lw_g (lw_at lw_m3 221 rfl) rfl
theorem q818 : (Jvm.Cond.privateMethod ({ cls := "ClockZones$Reader", name := "newName", desc := "(Ljava/util/ArrayList;I)V" } : Jvm.MethodName)) ∈ lw_tbl := lw_at lw_m3 222 rfl
theorem q819 : (Jvm.Cond.instanceMethod ({ cls := "ClockZones$Reader", name := "newName", desc := "(Ljava/util/ArrayList;I)V" } : Jvm.MethodName)) ∈ lw_all := lw_g (lw_at lw_m3 223 rfl) rfl
theorem q820 : (Jvm.Cond.code ({ cls := "ClockZones$Reader", name := "newName", desc := "(Ljava/util/ArrayList;I)V" } : Jvm.MethodName) prog_7_method_11_code (3 : Nat) (Option.none : Option Jvm.ClassFile.FieldType)) ∈ lw_all := lw_g (lw_at lw_m3 224 rfl) rfl
theorem q821 : (Jvm.Cond.methodLink "ClockZones$Reader" (137 : Nat) ({ cls := "java/util/ArrayList", name := "size", desc := "()I" } : Jvm.MethodName)) ∈ lw_all := lw_g (lw_at lw_m3 225 rfl) rfl
theorem q822 : (Jvm.Cond.methodLink "ClockZones$Reader" (124 : Nat) ({ cls := "ClockZones$Reader", name := "isName", desc := "()Z" } : Jvm.MethodName)) ∈ lw_all := lw_g (lw_at lw_m3 226 rfl) rfl
theorem q823 : (Jvm.Cond.privateMethod ({ cls := "ClockZones$Reader", name := "isName", desc := "()Z" } : Jvm.MethodName)) ∈ lw_tbl := lw_at lw_m3 227 rfl
theorem q824 : (Jvm.Cond.instanceMethod ({ cls := "ClockZones$Reader", name := "isName", desc := "()Z" } : Jvm.MethodName)) ∈ lw_all := lw_g (lw_at lw_m3 228 rfl) rfl
theorem q825 : (Jvm.Cond.code ({ cls := "ClockZones$Reader", name := "isName", desc := "()Z" } : Jvm.MethodName) prog_7_method_8_code (1 : Nat) (Option.some Jvm.ClassFile.FieldType.boolean)) ∈ lw_all := lw_g (lw_at lw_m3 229 rfl) rfl
theorem q826 : (Jvm.Cond.methodLink "ClockZones$Reader" (128 : Nat) ({ cls := "java/util/ArrayList", name := "contains", desc := "(Ljava/lang/Object;)Z" } : Jvm.MethodName)) ∈ lw_all := lw_g (lw_at lw_m3 230 rfl) rfl
theorem q848 : (Jvm.Cond.selects "ClockZones$Reader" ({ cls := "java/lang/Object", name := "equals", desc := "(Ljava/lang/Object;)Z" } : Jvm.MethodName) ({ cls := "java/lang/Object", name := "equals", desc := "(Ljava/lang/Object;)Z" } : Jvm.MethodName)) ∈ lw_all := lw_g (lw_at lw_m4 12 rfl) rfl
theorem q871 : (Jvm.Cond.methodLink "ClockZones$Reader" (140 : Nat) ({ cls := "java/util/ArrayList", name := "add", desc := "(Ljava/lang/Object;)Z" } : Jvm.MethodName)) ∈ lw_all := lw_g (lw_at lw_m4 35 rfl) rfl
theorem q900 : (Jvm.Cond.selects "ClockZones$Reader" ({ cls := "java/lang/Object", name := "getClass", desc := "()Ljava/lang/Class;" } : Jvm.MethodName) ({ cls := "java/lang/Object", name := "getClass", desc := "()Ljava/lang/Class;" } : Jvm.MethodName)) ∈ lw_all := lw_g (lw_at lw_m4 64 rfl) rfl
theorem q927 : (Jvm.Cond.classLink "ClockZones$Reader" (129 : Nat) "java/util/ArrayList") ∈ lw_all := lw_g (lw_at lw_m4 91 rfl) rfl
theorem q928 : (Jvm.Cond.methodLink "ClockZones$Reader" (189 : Nat) ({ cls := "java/util/ArrayList", name := "<init>", desc := "()V" } : Jvm.MethodName)) ∈ lw_all := lw_g (lw_at lw_m4 92 rfl) rfl
theorem q929 : (Jvm.Cond.methodLink "ClockZones$Reader" (190 : Nat) ({ cls := "java/util/ArrayList", name := "get", desc := "(I)Ljava/lang/Object;" } : Jvm.MethodName)) ∈ lw_all := lw_g (lw_at lw_m4 93 rfl) rfl
theorem q941 : (Jvm.Cond.methodLink "ClockZones$Reader" (194 : Nat) ({ cls := "ClockZones$Reader", name := "whens", desc := "(Ljava/util/ArrayList;)V" } : Jvm.MethodName)) ∈ lw_all := lw_g (lw_at lw_m4 105 rfl) rfl
theorem q942 : (Jvm.Cond.privateMethod ({ cls := "ClockZones$Reader", name := "whens", desc := "(Ljava/util/ArrayList;)V" } : Jvm.MethodName)) ∈ lw_tbl := lw_at lw_m4 106 rfl
theorem q943 : (Jvm.Cond.instanceMethod ({ cls := "ClockZones$Reader", name := "whens", desc := "(Ljava/util/ArrayList;)V" } : Jvm.MethodName)) ∈ lw_all := lw_g (lw_at lw_m4 107 rfl) rfl
theorem q944 : (Jvm.Cond.code ({ cls := "ClockZones$Reader", name := "whens", desc := "(Ljava/util/ArrayList;)V" } : Jvm.MethodName) prog_7_method_12_code (4 : Nat) (Option.none : Option Jvm.ClassFile.FieldType)) ∈ lw_all := lw_g (lw_at lw_m4 108 rfl) rfl
theorem q945 : (Jvm.Cond.methodLink "ClockZones$Reader" (143 : Nat) ({ cls := "ClockZones$Reader", name := "isWord", desc := "(Ljava/lang/String;)Z" } : Jvm.MethodName)) ∈ lw_all := lw_g (lw_at lw_m4 109 rfl) rfl
theorem q946 : (Jvm.Cond.privateMethod ({ cls := "ClockZones$Reader", name := "isWord", desc := "(Ljava/lang/String;)Z" } : Jvm.MethodName)) ∈ lw_tbl := lw_at lw_m4 110 rfl
theorem q947 : (Jvm.Cond.instanceMethod ({ cls := "ClockZones$Reader", name := "isWord", desc := "(Ljava/lang/String;)Z" } : Jvm.MethodName)) ∈ lw_all := lw_g (lw_at lw_m4 111 rfl) rfl
theorem q948 : (Jvm.Cond.code ({ cls := "ClockZones$Reader", name := "isWord", desc := "(Ljava/lang/String;)Z" } : Jvm.MethodName) prog_7_method_7_code (2 : Nat) (Option.some Jvm.ClassFile.FieldType.boolean)) ∈ lw_all := lw_g (lw_at lw_m4 112 rfl) rfl
theorem q949 : (Jvm.Cond.methodLink "ClockZones$Reader" (151 : Nat) ({ cls := "ClockZones$Reader", name := "told", desc := "(Ljava/util/ArrayList;)I" } : Jvm.MethodName)) ∈ lw_all := lw_g (lw_at lw_m4 113 rfl) rfl
theorem q950 : (Jvm.Cond.privateMethod ({ cls := "ClockZones$Reader", name := "told", desc := "(Ljava/util/ArrayList;)I" } : Jvm.MethodName)) ∈ lw_tbl := lw_at lw_m4 114 rfl
theorem q951 : (Jvm.Cond.instanceMethod ({ cls := "ClockZones$Reader", name := "told", desc := "(Ljava/util/ArrayList;)I" } : Jvm.MethodName)) ∈ lw_all := lw_g (lw_at lw_m4 115 rfl) rfl
theorem q952 : (Jvm.Cond.code ({ cls := "ClockZones$Reader", name := "told", desc := "(Ljava/util/ArrayList;)I" } : Jvm.MethodName) prog_7_method_10_code (3 : Nat) (Option.some Jvm.ClassFile.FieldType.int)) ∈ lw_all := lw_g (lw_at lw_m4 116 rfl) rfl
theorem q953 : (Jvm.Cond.methodLink "ClockZones$Reader" (133 : Nat) ({ cls := "java/util/ArrayList", name := "indexOf", desc := "(Ljava/lang/Object;)I" } : Jvm.MethodName)) ∈ lw_all := lw_g (lw_at lw_m4 117 rfl) rfl
theorem q954 : (Jvm.Cond.classLink "ClockZones$Reader" (155 : Nat) "ClockZones$Said") ∈ lw_all := lw_g (lw_at lw_m4 118 rfl) rfl
theorem q956 : (Jvm.Cond.methodLink "ClockZones$Reader" (157 : Nat) ({ cls := "ClockZones$Reader", name := "number", desc := "()I" } : Jvm.MethodName)) ∈ lw_all := lw_g (lw_at lw_m4 120 rfl) rfl
theorem q957 : (Jvm.Cond.privateMethod ({ cls := "ClockZones$Reader", name := "number", desc := "()I" } : Jvm.MethodName)) ∈ lw_tbl := lw_at lw_m4 121 rfl
theorem q958 : (Jvm.Cond.instanceMethod ({ cls := "ClockZones$Reader", name := "number", desc := "()I" } : Jvm.MethodName)) ∈ lw_all := lw_g (lw_at lw_m4 122 rfl) rfl
theorem q959 : (Jvm.Cond.code ({ cls := "ClockZones$Reader", name := "number", desc := "()I" } : Jvm.MethodName) prog_7_method_9_code (2 : Nat) (Option.some Jvm.ClassFile.FieldType.int)) ∈ lw_all := lw_g (lw_at lw_m4 123 rfl) rfl
theorem q960 : (Jvm.Cond.methodLink "ClockZones$Reader" (160 : Nat) ({ cls := "ClockZones$Said", name := "<init>", desc := "(III)V" } : Jvm.MethodName)) ∈ lw_all := lw_g (lw_at lw_m4 124 rfl) rfl
theorem q968 : (Jvm.Cond.fieldLinkNest "ClockZones$Reader" (176 : Nat) "ClockZones$Said" "clock" "I" "ClockZones") ∈ lw_tbl := lw_at lw_m4 132 rfl
theorem q983 : (Jvm.Cond.classLink "ClockZones$Reader" (201 : Nat) "ClockZones$Edge") ∈ lw_all := lw_g (lw_at lw_m4 147 rfl) rfl
theorem q985 : (Jvm.Cond.methodLink "ClockZones$Reader" (203 : Nat) ({ cls := "ClockZones$Edge", name := "<init>", desc := "(II)V" } : Jvm.MethodName)) ∈ lw_all := lw_g (lw_at lw_m4 149 rfl) rfl
theorem q1001 : (Jvm.Cond.fieldLinkNest "ClockZones$Reader" (204 : Nat) "ClockZones$Edge" "whens" "Ljava/util/ArrayList;" "ClockZones") ∈ lw_tbl := lw_at lw_m4 165 rfl
theorem q1006 : (Jvm.Cond.fieldLinkNest "ClockZones$Reader" (206 : Nat) "ClockZones$Edge" "sets" "Ljava/util/ArrayList;" "ClockZones") ∈ lw_tbl := lw_at lw_m4 170 rfl
theorem q1016 : (Jvm.Cond.methodLink "ClockZones$Reader" (209 : Nat) ({ cls := "ClockZones$Reader", name := "sets", desc := "(Ljava/util/ArrayList;)V" } : Jvm.MethodName)) ∈ lw_all := lw_g (lw_at lw_m4 180 rfl) rfl
theorem q1017 : (Jvm.Cond.privateMethod ({ cls := "ClockZones$Reader", name := "sets", desc := "(Ljava/util/ArrayList;)V" } : Jvm.MethodName)) ∈ lw_tbl := lw_at lw_m4 181 rfl
theorem q1018 : (Jvm.Cond.instanceMethod ({ cls := "ClockZones$Reader", name := "sets", desc := "(Ljava/util/ArrayList;)V" } : Jvm.MethodName)) ∈ lw_all := lw_g (lw_at lw_m4 182 rfl) rfl
theorem q1019 : (Jvm.Cond.code ({ cls := "ClockZones$Reader", name := "sets", desc := "(Ljava/util/ArrayList;)V" } : Jvm.MethodName) prog_7_method_13_code (5 : Nat) (Option.none : Option Jvm.ClassFile.FieldType)) ∈ lw_all := lw_g (lw_at lw_m4 183 rfl) rfl
theorem q1020 : (Jvm.Cond.methodLink "ClockZones$Reader" (163 : Nat) ({ cls := "java/util/ArrayList", name := "iterator", desc := "()Ljava/util/Iterator;" } : Jvm.MethodName)) ∈ lw_all := lw_g (lw_at lw_m4 184 rfl) rfl
theorem q1043 : (Jvm.Cond.interfaceEntry "ClockZones$Reader" (167 : Nat)) ∈ lw_tbl := lw_at lw_m4 207 rfl
theorem q1044 : (Jvm.Cond.methodLink "ClockZones$Reader" (167 : Nat) ({ cls := "java/util/Iterator", name := "hasNext", desc := "()Z" } : Jvm.MethodName)) ∈ lw_all := lw_g (lw_at lw_m4 208 rfl) rfl
theorem q1053 : (Jvm.Cond.interfaceEntry "ClockZones$Reader" (172 : Nat)) ∈ lw_tbl := lw_at lw_m4 217 rfl
theorem q1054 : (Jvm.Cond.methodLink "ClockZones$Reader" (172 : Nat) ({ cls := "java/util/Iterator", name := "next", desc := "()Ljava/lang/Object;" } : Jvm.MethodName)) ∈ lw_all := lw_g (lw_at lw_m4 218 rfl) rfl
theorem q1081 : (Jvm.Cond.methodLink "ClockZones$Reader" (178 : Nat) ({ cls := "ClockZones$Said", name := "<init>", desc := "(II)V" } : Jvm.MethodName)) ∈ lw_all := lw_g (lw_at lw_m5 5 rfl) rfl
theorem q1085 : (Jvm.Cond.methodLink "ClockZones$Reader" (223 : Nat) ({ cls := "java/util/ArrayList", name := "isEmpty", desc := "()Z" } : Jvm.MethodName)) ∈ lw_all := lw_g (lw_at lw_m5 9 rfl) rfl
theorem q1260 : (Jvm.Cond.instanceMethod ({ cls := "ClockZones$Reader", name := "close", desc := "()V" } : Jvm.MethodName)) ∈ lw_all := lw_g (lw_at lw_m5 184 rfl) rfl
theorem q1261 : (Jvm.Cond.selects "ClockZones$Reader" ({ cls := "ClockZones$Reader", name := "close", desc := "()V" } : Jvm.MethodName) ({ cls := "ClockZones$Reader", name := "close", desc := "()V" } : Jvm.MethodName)) ∈ lw_all := lw_g (lw_at lw_m5 185 rfl) rfl
theorem q1262 : (Jvm.Cond.code ({ cls := "ClockZones$Reader", name := "close", desc := "()V" } : Jvm.MethodName) prog_7_method_2_code (1 : Nat) (Option.none : Option Jvm.ClassFile.FieldType)) ∈ lw_all := lw_g (lw_at lw_m5 186 rfl) rfl
theorem q2741 : (Jvm.Cond.castable "ClockZones$Reader" "java/lang/Object") ∈ lw_tbl := lw_at lw_m11 225 rfl
theorem in_X5 : ∀ w ∈ wsX50, w ∈ lw_all := lw_in wsX50 [742, 744, 746, 748, 750, 752, 754, 756, 758, 760, 762] (by decide +kernel) (by decide +kernel)

/-! java/lang/AbstractStringBuilder -/
def RJ16 : String := "java/lang/AbstractStringBuilder"
abbrev cJ16_init : ByteArray := prog_14_method_2_code
def yJ16_init : MethodName := ⟨RJ16, "<init>", "(I)V"⟩
abbrev cJ16_append : ByteArray := prog_14_method_31_code
def yJ16_append : MethodName := ⟨RJ16, "append", "(C)Ljava/lang/AbstractStringBuilder;"⟩
abbrev cJ16_ensureCapacityInternal : ByteArray := prog_14_method_9_code
def yJ16_ensureCapacityInternal : MethodName := ⟨RJ16, "ensureCapacityInternal", "(I)V"⟩
abbrev cJ16_newCapacity : ByteArray := prog_14_method_10_code
def yJ16_newCapacity : MethodName := ⟨RJ16, "newCapacity", "(I)I"⟩
abbrev cJ16_isLatin1 : ByteArray := prog_14_method_68_code
def yJ16_isLatin1 : MethodName := ⟨RJ16, "isLatin1", "()Z"⟩
abbrev cJ16_inflate : ByteArray := prog_14_method_11_code
def yJ16_inflate : MethodName := ⟨RJ16, "inflate", "()V"⟩
abbrev cJ16_getValue : ByteArray := prog_14_method_64_code
def yJ16_getValue : MethodName := ⟨RJ16, "getValue", "()[B"⟩
abbrev cJ16_length : ByteArray := prog_14_method_6_code
def yJ16_length : MethodName := ⟨RJ16, "length", "()I"⟩
abbrev cJ16_append_2 : ByteArray := prog_14_method_22_code
def yJ16_append_2 : MethodName := ⟨RJ16, "append", "(Ljava/lang/String;)Ljava/lang/AbstractStringBuilder;"⟩
abbrev cJ16_appendNull : ByteArray := prog_14_method_26_code
def yJ16_appendNull : MethodName := ⟨RJ16, "appendNull", "()Ljava/lang/AbstractStringBuilder;"⟩
abbrev cJ16_putStringAt : ByteArray := prog_14_method_73_code
def yJ16_putStringAt : MethodName := ⟨RJ16, "putStringAt", "(ILjava/lang/String;)V"⟩
abbrev cJ16_inflateIfNeededFor : ByteArray := prog_14_method_71_code
def yJ16_inflateIfNeededFor : MethodName := ⟨RJ16, "inflateIfNeededFor", "(Ljava/lang/String;)V"⟩
abbrev cJ16_append_3 : ByteArray := prog_14_method_32_code
def yJ16_append_3 : MethodName := ⟨RJ16, "append", "(I)Ljava/lang/AbstractStringBuilder;"⟩
theorem q138 : (Jvm.Cond.initialized "java/lang/AbstractStringBuilder") ∈ lw_all := lw_g (lw_at lw_m1 22 rfl) rfl
theorem q547 : (Jvm.Cond.instanceMethod ({ cls := "java/lang/AbstractStringBuilder", name := "<init>", desc := "(I)V" } : Jvm.MethodName)) ∈ lw_all := lw_g (lw_at lw_m2 191 rfl) rfl
theorem q548 : (Jvm.Cond.code ({ cls := "java/lang/AbstractStringBuilder", name := "<init>", desc := "(I)V" } : Jvm.MethodName) prog_14_method_2_code (2 : Nat) (Option.none : Option Jvm.ClassFile.FieldType)) ∈ lw_all := lw_g (lw_at lw_m2 192 rfl) rfl
theorem q549 : (Jvm.Cond.methodLink "java/lang/AbstractStringBuilder" (3 : Nat) ({ cls := "java/lang/Object", name := "<init>", desc := "()V" } : Jvm.MethodName)) ∈ lw_all := lw_g (lw_at lw_m2 193 rfl) rfl
theorem q550 : (Jvm.Cond.fieldLink "java/lang/AbstractStringBuilder" (18 : Nat) "java/lang/String" "COMPACT_STRINGS" "Z") ∈ lw_all := lw_g (lw_at lw_m2 194 rfl) rfl
theorem q552 : (Jvm.Cond.methodLink "java/lang/AbstractStringBuilder" (26 : Nat) ({ cls := "java/lang/StringUTF16", name := "newBytesFor", desc := "(I)[B" } : Jvm.MethodName)) ∈ lw_all := lw_g (lw_at lw_m2 196 rfl) rfl
theorem q559 : (Jvm.Cond.fieldLink "java/lang/AbstractStringBuilder" (15 : Nat) "java/lang/AbstractStringBuilder" "value" "[B") ∈ lw_all := lw_g (lw_at lw_m2 203 rfl) rfl
theorem q560 : (Jvm.Cond.fieldLink "java/lang/AbstractStringBuilder" (22 : Nat) "java/lang/AbstractStringBuilder" "coder" "B") ∈ lw_all := lw_g (lw_at lw_m2 204 rfl) rfl
theorem q562 : (Jvm.Cond.fieldLink "java/lang/AbstractStringBuilder" (79 : Nat) "java/lang/AbstractStringBuilder" "count" "I") ∈ lw_all := lw_g (lw_at lw_m2 206 rfl) rfl
theorem q564 : (Jvm.Cond.soleField "java/lang/AbstractStringBuilder" "value") ∈ lw_all := lw_g (lw_at lw_m2 208 rfl) rfl
theorem q566 : (Jvm.Cond.soleField "java/lang/AbstractStringBuilder" "coder") ∈ lw_all := lw_g (lw_at lw_m2 210 rfl) rfl
theorem q568 : (Jvm.Cond.soleField "java/lang/AbstractStringBuilder" "maybeLatin1") ∈ lw_all := lw_g (lw_at lw_m2 212 rfl) rfl
theorem q570 : (Jvm.Cond.soleField "java/lang/AbstractStringBuilder" "count") ∈ lw_all := lw_g (lw_at lw_m2 214 rfl) rfl
theorem q577 : (Jvm.Cond.instanceMethod ({ cls := "java/lang/AbstractStringBuilder", name := "append", desc := "(C)Ljava/lang/AbstractStringBuilder;" } : Jvm.MethodName)) ∈ lw_all := lw_g (lw_at lw_m2 221 rfl) rfl
theorem q578 : (Jvm.Cond.code ({ cls := "java/lang/AbstractStringBuilder", name := "append", desc := "(C)Ljava/lang/AbstractStringBuilder;" } : Jvm.MethodName) prog_14_method_31_code (2 : Nat) (Option.some (Jvm.ClassFile.FieldType.object "java/lang/AbstractStringBuilder"))) ∈ lw_all := lw_g (lw_at lw_m2 222 rfl) rfl
theorem q579 : (Jvm.Cond.methodLink "java/lang/AbstractStringBuilder" (100 : Nat) ({ cls := "java/lang/AbstractStringBuilder", name := "ensureCapacityInternal", desc := "(I)V" } : Jvm.MethodName)) ∈ lw_all := lw_g (lw_at lw_m2 223 rfl) rfl
theorem q580 : (Jvm.Cond.privateMethod ({ cls := "java/lang/AbstractStringBuilder", name := "ensureCapacityInternal", desc := "(I)V" } : Jvm.MethodName)) ∈ lw_tbl := lw_at lw_m2 224 rfl
theorem q581 : (Jvm.Cond.instanceMethod ({ cls := "java/lang/AbstractStringBuilder", name := "ensureCapacityInternal", desc := "(I)V" } : Jvm.MethodName)) ∈ lw_all := lw_g (lw_at lw_m2 225 rfl) rfl
theorem q582 : (Jvm.Cond.code ({ cls := "java/lang/AbstractStringBuilder", name := "ensureCapacityInternal", desc := "(I)V" } : Jvm.MethodName) prog_14_method_9_code (3 : Nat) (Option.none : Option Jvm.ClassFile.FieldType)) ∈ lw_all := lw_g (lw_at lw_m2 226 rfl) rfl
theorem q583 : (Jvm.Cond.methodLink "java/lang/AbstractStringBuilder" (104 : Nat) ({ cls := "java/lang/AbstractStringBuilder", name := "newCapacity", desc := "(I)I" } : Jvm.MethodName)) ∈ lw_all := lw_g (lw_at lw_m2 227 rfl) rfl
theorem q584 : (Jvm.Cond.privateMethod ({ cls := "java/lang/AbstractStringBuilder", name := "newCapacity", desc := "(I)I" } : Jvm.MethodName)) ∈ lw_tbl := lw_at lw_m2 228 rfl
theorem q585 : (Jvm.Cond.instanceMethod ({ cls := "java/lang/AbstractStringBuilder", name := "newCapacity", desc := "(I)I" } : Jvm.MethodName)) ∈ lw_all := lw_g (lw_at lw_m2 229 rfl) rfl
theorem q586 : (Jvm.Cond.code ({ cls := "java/lang/AbstractStringBuilder", name := "newCapacity", desc := "(I)I" } : Jvm.MethodName) prog_14_method_10_code (6 : Nat) (Option.some Jvm.ClassFile.FieldType.int)) ∈ lw_all := lw_g (lw_at lw_m2 230 rfl) rfl
theorem q587 : (Jvm.Cond.methodLink "java/lang/AbstractStringBuilder" (114 : Nat) ({ cls := "jdk/internal/util/ArraysSupport", name := "newLength", desc := "(III)I" } : Jvm.MethodName)) ∈ lw_all := lw_g (lw_at lw_m2 231 rfl) rfl
theorem q597 : (Jvm.Cond.constant "java/lang/AbstractStringBuilder" (39 : Nat) (2147483647 : Int32)) ∈ lw_all := lw_g (lw_at lw_m3 1 rfl) rfl
theorem q598 : (Jvm.Cond.methodLink "java/lang/AbstractStringBuilder" (108 : Nat) ({ cls := "java/util/Arrays", name := "copyOf", desc := "([BI)[B" } : Jvm.MethodName)) ∈ lw_all := lw_g (lw_at lw_m3 2 rfl) rfl
theorem q614 : (Jvm.Cond.methodLink "java/lang/AbstractStringBuilder" (83 : Nat) ({ cls := "java/lang/AbstractStringBuilder", name := "isLatin1", desc := "()Z" } : Jvm.MethodName)) ∈ lw_all := lw_g (lw_at lw_m3 18 rfl) rfl
theorem q615 : (Jvm.Cond.instanceMethod ({ cls := "java/lang/AbstractStringBuilder", name := "isLatin1", desc := "()Z" } : Jvm.MethodName)) ∈ lw_all := lw_g (lw_at lw_m3 19 rfl) rfl
theorem q616 : (Jvm.Cond.sameMethod "java/lang/AbstractStringBuilder" "java/lang/AbstractStringBuilder" "isLatin1" "()Z") ∈ lw_all := lw_g (lw_at lw_m3 20 rfl) rfl
theorem q618 : (Jvm.Cond.code ({ cls := "java/lang/AbstractStringBuilder", name := "isLatin1", desc := "()Z" } : Jvm.MethodName) prog_14_method_68_code (1 : Nat) (Option.some Jvm.ClassFile.FieldType.boolean)) ∈ lw_all := lw_g (lw_at lw_m3 22 rfl) rfl
theorem q619 : (Jvm.Cond.methodLink "java/lang/AbstractStringBuilder" (191 : Nat) ({ cls := "java/lang/StringLatin1", name := "canEncode", desc := "(C)Z" } : Jvm.MethodName)) ∈ lw_all := lw_g (lw_at lw_m3 23 rfl) rfl
theorem q622 : (Jvm.Cond.methodLink "java/lang/AbstractStringBuilder" (195 : Nat) ({ cls := "java/lang/AbstractStringBuilder", name := "inflate", desc := "()V" } : Jvm.MethodName)) ∈ lw_all := lw_g (lw_at lw_m3 26 rfl) rfl
theorem q623 : (Jvm.Cond.privateMethod ({ cls := "java/lang/AbstractStringBuilder", name := "inflate", desc := "()V" } : Jvm.MethodName)) ∈ lw_tbl := lw_at lw_m3 27 rfl
theorem q624 : (Jvm.Cond.instanceMethod ({ cls := "java/lang/AbstractStringBuilder", name := "inflate", desc := "()V" } : Jvm.MethodName)) ∈ lw_all := lw_g (lw_at lw_m3 28 rfl) rfl
theorem q625 : (Jvm.Cond.code ({ cls := "java/lang/AbstractStringBuilder", name := "inflate", desc := "()V" } : Jvm.MethodName) prog_14_method_11_code (2 : Nat) (Option.none : Option Jvm.ClassFile.FieldType)) ∈ lw_all := lw_g (lw_at lw_m3 29 rfl) rfl
theorem q626 : (Jvm.Cond.methodLink "java/lang/AbstractStringBuilder" (125 : Nat) ({ cls := "java/lang/StringLatin1", name := "inflate", desc := "([BI[BII)V" } : Jvm.MethodName)) ∈ lw_all := lw_g (lw_at lw_m3 30 rfl) rfl
theorem q655 : (Jvm.Cond.methodLink "java/lang/AbstractStringBuilder" (197 : Nat) ({ cls := "java/lang/StringUTF16", name := "putCharSB", desc := "([BII)V" } : Jvm.MethodName)) ∈ lw_all := lw_g (lw_at lw_m3 59 rfl) rfl
theorem q680 : (Jvm.Cond.instanceMethod ({ cls := "java/lang/AbstractStringBuilder", name := "getValue", desc := "()[B" } : Jvm.MethodName)) ∈ lw_all := lw_g (lw_at lw_m3 84 rfl) rfl
theorem q681 : (Jvm.Cond.sameMethod "java/lang/AbstractStringBuilder" "java/lang/AbstractStringBuilder" "getValue" "()[B") ∈ lw_all := lw_g (lw_at lw_m3 85 rfl) rfl
theorem q683 : (Jvm.Cond.code ({ cls := "java/lang/AbstractStringBuilder", name := "getValue", desc := "()[B" } : Jvm.MethodName) prog_14_method_64_code (1 : Nat) (Option.some (Jvm.ClassFile.FieldType.array Jvm.ClassFile.FieldType.byte))) ∈ lw_all := lw_g (lw_at lw_m3 87 rfl) rfl
theorem q685 : (Jvm.Cond.instanceMethod ({ cls := "java/lang/AbstractStringBuilder", name := "length", desc := "()I" } : Jvm.MethodName)) ∈ lw_all := lw_g (lw_at lw_m3 89 rfl) rfl
theorem q686 : (Jvm.Cond.sameMethod "java/lang/AbstractStringBuilder" "java/lang/AbstractStringBuilder" "length" "()I") ∈ lw_all := lw_g (lw_at lw_m3 90 rfl) rfl
theorem q691 : (Jvm.Cond.code ({ cls := "java/lang/AbstractStringBuilder", name := "length", desc := "()I" } : Jvm.MethodName) prog_14_method_6_code (1 : Nat) (Option.some Jvm.ClassFile.FieldType.int)) ∈ lw_all := lw_g (lw_at lw_m3 95 rfl) rfl
theorem q1679 : (Jvm.Cond.instanceMethod ({ cls := "java/lang/AbstractStringBuilder", name := "append", desc := "(Ljava/lang/String;)Ljava/lang/AbstractStringBuilder;" } : Jvm.MethodName)) ∈ lw_all := lw_g (lw_at lw_m7 123 rfl) rfl
theorem q1680 : (Jvm.Cond.code ({ cls := "java/lang/AbstractStringBuilder", name := "append", desc := "(Ljava/lang/String;)Ljava/lang/AbstractStringBuilder;" } : Jvm.MethodName) prog_14_method_22_code (3 : Nat) (Option.some (Jvm.ClassFile.FieldType.object "java/lang/AbstractStringBuilder"))) ∈ lw_all := lw_g (lw_at lw_m7 124 rfl) rfl
theorem q1681 : (Jvm.Cond.methodLink "java/lang/AbstractStringBuilder" (204 : Nat) ({ cls := "java/lang/AbstractStringBuilder", name := "appendNull", desc := "()Ljava/lang/AbstractStringBuilder;" } : Jvm.MethodName)) ∈ lw_all := lw_g (lw_at lw_m7 125 rfl) rfl
theorem q1682 : (Jvm.Cond.privateMethod ({ cls := "java/lang/AbstractStringBuilder", name := "appendNull", desc := "()Ljava/lang/AbstractStringBuilder;" } : Jvm.MethodName)) ∈ lw_tbl := lw_at lw_m7 126 rfl
theorem q1683 : (Jvm.Cond.instanceMethod ({ cls := "java/lang/AbstractStringBuilder", name := "appendNull", desc := "()Ljava/lang/AbstractStringBuilder;" } : Jvm.MethodName)) ∈ lw_all := lw_g (lw_at lw_m7 127 rfl) rfl
theorem q1684 : (Jvm.Cond.code ({ cls := "java/lang/AbstractStringBuilder", name := "appendNull", desc := "()Ljava/lang/AbstractStringBuilder;" } : Jvm.MethodName) prog_14_method_26_code (3 : Nat) (Option.some (Jvm.ClassFile.FieldType.object "java/lang/AbstractStringBuilder"))) ∈ lw_all := lw_g (lw_at lw_m7 128 rfl) rfl
theorem q1685 : (Jvm.Cond.methodLink "java/lang/AbstractStringBuilder" (226 : Nat) ({ cls := "java/lang/StringUTF16", name := "putCharsAt", desc := "([BICCCC)I" } : Jvm.MethodName)) ∈ lw_all := lw_g (lw_at lw_m7 129 rfl) rfl
theorem q1697 : (Jvm.Cond.methodLink "java/lang/AbstractStringBuilder" (32 : Nat) ({ cls := "java/lang/String", name := "length", desc := "()I" } : Jvm.MethodName)) ∈ lw_all := lw_g (lw_at lw_m7 141 rfl) rfl
theorem q1698 : (Jvm.Cond.methodLink "java/lang/AbstractStringBuilder" (208 : Nat) ({ cls := "java/lang/AbstractStringBuilder", name := "putStringAt", desc := "(ILjava/lang/String;)V" } : Jvm.MethodName)) ∈ lw_all := lw_g (lw_at lw_m7 142 rfl) rfl
theorem q1699 : (Jvm.Cond.privateMethod ({ cls := "java/lang/AbstractStringBuilder", name := "putStringAt", desc := "(ILjava/lang/String;)V" } : Jvm.MethodName)) ∈ lw_tbl := lw_at lw_m7 143 rfl
theorem q1700 : (Jvm.Cond.instanceMethod ({ cls := "java/lang/AbstractStringBuilder", name := "putStringAt", desc := "(ILjava/lang/String;)V" } : Jvm.MethodName)) ∈ lw_all := lw_g (lw_at lw_m7 144 rfl) rfl
theorem q1701 : (Jvm.Cond.code ({ cls := "java/lang/AbstractStringBuilder", name := "putStringAt", desc := "(ILjava/lang/String;)V" } : Jvm.MethodName) prog_14_method_73_code (3 : Nat) (Option.none : Option Jvm.ClassFile.FieldType)) ∈ lw_all := lw_g (lw_at lw_m7 145 rfl) rfl
theorem q1702 : (Jvm.Cond.methodLink "java/lang/AbstractStringBuilder" (397 : Nat) ({ cls := "java/lang/AbstractStringBuilder", name := "inflateIfNeededFor", desc := "(Ljava/lang/String;)V" } : Jvm.MethodName)) ∈ lw_all := lw_g (lw_at lw_m7 146 rfl) rfl
theorem q1703 : (Jvm.Cond.privateMethod ({ cls := "java/lang/AbstractStringBuilder", name := "inflateIfNeededFor", desc := "(Ljava/lang/String;)V" } : Jvm.MethodName)) ∈ lw_tbl := lw_at lw_m7 147 rfl
theorem q1704 : (Jvm.Cond.instanceMethod ({ cls := "java/lang/AbstractStringBuilder", name := "inflateIfNeededFor", desc := "(Ljava/lang/String;)V" } : Jvm.MethodName)) ∈ lw_all := lw_g (lw_at lw_m7 148 rfl) rfl
theorem q1705 : (Jvm.Cond.code ({ cls := "java/lang/AbstractStringBuilder", name := "inflateIfNeededFor", desc := "(Ljava/lang/String;)V" } : Jvm.MethodName) prog_14_method_71_code (2 : Nat) (Option.none : Option Jvm.ClassFile.FieldType)) ∈ lw_all := lw_g (lw_at lw_m7 149 rfl) rfl
theorem q1706 : (Jvm.Cond.methodLink "java/lang/AbstractStringBuilder" (40 : Nat) ({ cls := "java/lang/String", name := "coder", desc := "()B" } : Jvm.MethodName)) ∈ lw_all := lw_g (lw_at lw_m7 150 rfl) rfl
theorem q1707 : (Jvm.Cond.methodLink "java/lang/AbstractStringBuilder" (399 : Nat) ({ cls := "java/lang/String", name := "getBytes", desc := "([BIB)V" } : Jvm.MethodName)) ∈ lw_all := lw_g (lw_at lw_m7 151 rfl) rfl
theorem q1718 : (Jvm.Cond.instanceMethod ({ cls := "java/lang/AbstractStringBuilder", name := "append", desc := "(I)Ljava/lang/AbstractStringBuilder;" } : Jvm.MethodName)) ∈ lw_all := lw_g (lw_at lw_m7 162 rfl) rfl
theorem q1719 : (Jvm.Cond.code ({ cls := "java/lang/AbstractStringBuilder", name := "append", desc := "(I)Ljava/lang/AbstractStringBuilder;" } : Jvm.MethodName) prog_14_method_32_code (4 : Nat) (Option.some (Jvm.ClassFile.FieldType.object "java/lang/AbstractStringBuilder"))) ∈ lw_all := lw_g (lw_at lw_m7 163 rfl) rfl
theorem q1720 : (Jvm.Cond.methodLink "java/lang/AbstractStringBuilder" (245 : Nat) ({ cls := "java/lang/Integer", name := "stringSize", desc := "(I)I" } : Jvm.MethodName)) ∈ lw_all := lw_g (lw_at lw_m7 164 rfl) rfl
theorem q1723 : (Jvm.Cond.methodLink "java/lang/AbstractStringBuilder" (248 : Nat) ({ cls := "java/lang/Integer", name := "getChars", desc := "(II[B)I" } : Jvm.MethodName)) ∈ lw_all := lw_g (lw_at lw_m7 167 rfl) rfl
theorem q1730 : (Jvm.Cond.methodLink "java/lang/AbstractStringBuilder" (251 : Nat) ({ cls := "java/lang/StringUTF16", name := "getChars", desc := "(III[B)I" } : Jvm.MethodName)) ∈ lw_all := lw_g (lw_at lw_m7 174 rfl) rfl
theorem q2708 : (Jvm.Cond.sameMethod "java/lang/AbstractStringBuilder" "java/lang/AbstractStringBuilder" "append" "(C)Ljava/lang/AbstractStringBuilder;") ∈ lw_all := lw_g (lw_at lw_m11 192 rfl) rfl
theorem q2709 : (Jvm.Cond.sameMethod "java/lang/AbstractStringBuilder" "java/lang/AbstractStringBuilder" "ensureCapacityInternal" "(I)V") ∈ lw_all := lw_g (lw_at lw_m11 193 rfl) rfl
theorem q2710 : (Jvm.Cond.sameMethod "java/lang/AbstractStringBuilder" "java/lang/AbstractStringBuilder" "newCapacity" "(I)I") ∈ lw_all := lw_g (lw_at lw_m11 194 rfl) rfl
theorem q2711 : (Jvm.Cond.sameMethod "java/lang/AbstractStringBuilder" "java/lang/AbstractStringBuilder" "inflate" "()V") ∈ lw_all := lw_g (lw_at lw_m11 195 rfl) rfl
theorem q2712 : (Jvm.Cond.sameMethod "java/lang/AbstractStringBuilder" "java/lang/AbstractStringBuilder" "append" "(Ljava/lang/String;)Ljava/lang/AbstractStringBuilder;") ∈ lw_all := lw_g (lw_at lw_m11 196 rfl) rfl
theorem q2713 : (Jvm.Cond.sameMethod "java/lang/AbstractStringBuilder" "java/lang/AbstractStringBuilder" "appendNull" "()Ljava/lang/AbstractStringBuilder;") ∈ lw_all := lw_g (lw_at lw_m11 197 rfl) rfl
theorem q2714 : (Jvm.Cond.sameMethod "java/lang/AbstractStringBuilder" "java/lang/AbstractStringBuilder" "putStringAt" "(ILjava/lang/String;)V") ∈ lw_all := lw_g (lw_at lw_m11 198 rfl) rfl
theorem q2715 : (Jvm.Cond.sameMethod "java/lang/AbstractStringBuilder" "java/lang/AbstractStringBuilder" "inflateIfNeededFor" "(Ljava/lang/String;)V") ∈ lw_all := lw_g (lw_at lw_m11 199 rfl) rfl
theorem q2716 : (Jvm.Cond.sameMethod "java/lang/AbstractStringBuilder" "java/lang/AbstractStringBuilder" "append" "(I)Ljava/lang/AbstractStringBuilder;") ∈ lw_all := lw_g (lw_at lw_m11 200 rfl) rfl

/-! java/lang/StringBuilder -/
def RJ17 : String := "java/lang/StringBuilder"
def TJ17 : u_T := fun k => match k with
  | 0 => ("java/lang/AbstractStringBuilder", "value", "[B", false)
  | 1 => ("java/lang/AbstractStringBuilder", "coder", "B", false)
  | 2 => ("java/lang/AbstractStringBuilder", "maybeLatin1", "Z", false)
  | _ => ("java/lang/AbstractStringBuilder", "count", "I", false)
def tyJ17 : Nat → FieldType := fun k => match k with
  | 0 => .array .byte
  | 1 => .byte
  | 2 => .boolean
  | _ => .int
abbrev wsJ170 : List Cond := u_ws RJ17 TJ17 4
theorem nmJ17 : ∀ a, a < 4 → ∀ b, b < 4 → a ≠ b → (TJ17 a).2.1 ≠ (TJ17 b).2.1 := by decide +kernel
theorem tyJ17_ok : ∀ k, k < 4 → parseFieldDescriptor (TJ17 k).2.2.1 = some (tyJ17 k) := by decide +kernel
abbrev cJ17_init : ByteArray := prog_35_method_1_code
def yJ17_init : MethodName := ⟨RJ17, "<init>", "()V"⟩
abbrev cJ17_append : ByteArray := prog_35_method_14_code
def yJ17_append : MethodName := ⟨RJ17, "append", "(C)Ljava/lang/StringBuilder;"⟩
abbrev cJ17_toString : ByteArray := prog_35_method_42_code
def yJ17_toString : MethodName := ⟨RJ17, "toString", "()Ljava/lang/String;"⟩
abbrev cJ17_length : ByteArray := prog_35_method_93_code
def yJ17_length : MethodName := ⟨RJ17, "length", "()I"⟩
abbrev cJ17_append_2 : ByteArray := prog_35_method_7_code
def yJ17_append_2 : MethodName := ⟨RJ17, "append", "(Ljava/lang/String;)Ljava/lang/StringBuilder;"⟩
abbrev cJ17_append_3 : ByteArray := prog_35_method_15_code
def yJ17_append_3 : MethodName := ⟨RJ17, "append", "(I)Ljava/lang/StringBuilder;"⟩
theorem q139 : (Jvm.Cond.initialized "java/lang/StringBuilder") ∈ lw_all := lw_g (lw_at lw_m1 23 rfl) rfl
theorem q542 : (Jvm.Cond.instantiable "java/lang/StringBuilder" (4 : Nat)) ∈ lw_all := lw_g (lw_at lw_m2 186 rfl) rfl
theorem q544 : (Jvm.Cond.instanceMethod ({ cls := "java/lang/StringBuilder", name := "<init>", desc := "()V" } : Jvm.MethodName)) ∈ lw_all := lw_g (lw_at lw_m2 188 rfl) rfl
theorem q545 : (Jvm.Cond.code ({ cls := "java/lang/StringBuilder", name := "<init>", desc := "()V" } : Jvm.MethodName) prog_35_method_1_code (1 : Nat) (Option.none : Option Jvm.ClassFile.FieldType)) ∈ lw_all := lw_g (lw_at lw_m2 189 rfl) rfl
theorem q546 : (Jvm.Cond.methodLink "java/lang/StringBuilder" (1 : Nat) ({ cls := "java/lang/AbstractStringBuilder", name := "<init>", desc := "(I)V" } : Jvm.MethodName)) ∈ lw_all := lw_g (lw_at lw_m2 190 rfl) rfl
theorem q563 : (Jvm.Cond.lays "java/lang/StringBuilder" "java/lang/AbstractStringBuilder" "value" "[B") ∈ lw_all := lw_g (lw_at lw_m2 207 rfl) rfl
theorem q565 : (Jvm.Cond.lays "java/lang/StringBuilder" "java/lang/AbstractStringBuilder" "coder" "B") ∈ lw_all := lw_g (lw_at lw_m2 209 rfl) rfl
theorem q567 : (Jvm.Cond.lays "java/lang/StringBuilder" "java/lang/AbstractStringBuilder" "maybeLatin1" "Z") ∈ lw_all := lw_g (lw_at lw_m2 211 rfl) rfl
theorem q569 : (Jvm.Cond.lays "java/lang/StringBuilder" "java/lang/AbstractStringBuilder" "count" "I") ∈ lw_all := lw_g (lw_at lw_m2 213 rfl) rfl
theorem q571 : (Jvm.Cond.superclass "java/lang/StringBuilder" "java/lang/AbstractStringBuilder") ∈ lw_all := lw_g (lw_at lw_m2 215 rfl) rfl
theorem q573 : (Jvm.Cond.instanceMethod ({ cls := "java/lang/StringBuilder", name := "append", desc := "(C)Ljava/lang/StringBuilder;" } : Jvm.MethodName)) ∈ lw_all := lw_g (lw_at lw_m2 217 rfl) rfl
theorem q574 : (Jvm.Cond.selects "java/lang/StringBuilder" ({ cls := "java/lang/StringBuilder", name := "append", desc := "(C)Ljava/lang/StringBuilder;" } : Jvm.MethodName) ({ cls := "java/lang/StringBuilder", name := "append", desc := "(C)Ljava/lang/StringBuilder;" } : Jvm.MethodName)) ∈ lw_all := lw_g (lw_at lw_m2 218 rfl) rfl
theorem q575 : (Jvm.Cond.code ({ cls := "java/lang/StringBuilder", name := "append", desc := "(C)Ljava/lang/StringBuilder;" } : Jvm.MethodName) prog_35_method_14_code (2 : Nat) (Option.some (Jvm.ClassFile.FieldType.object "java/lang/StringBuilder"))) ∈ lw_all := lw_g (lw_at lw_m2 219 rfl) rfl
theorem q576 : (Jvm.Cond.methodLink "java/lang/StringBuilder" (50 : Nat) ({ cls := "java/lang/AbstractStringBuilder", name := "append", desc := "(C)Ljava/lang/AbstractStringBuilder;" } : Jvm.MethodName)) ∈ lw_all := lw_g (lw_at lw_m2 220 rfl) rfl
theorem q617 : (Jvm.Cond.selects "java/lang/StringBuilder" ({ cls := "java/lang/AbstractStringBuilder", name := "isLatin1", desc := "()Z" } : Jvm.MethodName) ({ cls := "java/lang/AbstractStringBuilder", name := "isLatin1", desc := "()Z" } : Jvm.MethodName)) ∈ lw_all := lw_g (lw_at lw_m3 21 rfl) rfl
theorem q668 : (Jvm.Cond.instanceMethod ({ cls := "java/lang/StringBuilder", name := "toString", desc := "()Ljava/lang/String;" } : Jvm.MethodName)) ∈ lw_all := lw_g (lw_at lw_m3 72 rfl) rfl
theorem q669 : (Jvm.Cond.selects "java/lang/StringBuilder" ({ cls := "java/lang/StringBuilder", name := "toString", desc := "()Ljava/lang/String;" } : Jvm.MethodName) ({ cls := "java/lang/StringBuilder", name := "toString", desc := "()Ljava/lang/String;" } : Jvm.MethodName)) ∈ lw_all := lw_g (lw_at lw_m3 73 rfl) rfl
theorem q670 : (Jvm.Cond.code ({ cls := "java/lang/StringBuilder", name := "toString", desc := "()Ljava/lang/String;" } : Jvm.MethodName) prog_35_method_42_code (1 : Nat) (Option.some (Jvm.ClassFile.FieldType.object "java/lang/String"))) ∈ lw_all := lw_g (lw_at lw_m3 74 rfl) rfl
theorem q671 : (Jvm.Cond.classLink "java/lang/StringBuilder" (18 : Nat) "java/lang/String") ∈ lw_all := lw_g (lw_at lw_m3 75 rfl) rfl
theorem q672 : (Jvm.Cond.methodLink "java/lang/StringBuilder" (137 : Nat) ({ cls := "java/lang/String", name := "<init>", desc := "(Ljava/lang/StringBuilder;)V" } : Jvm.MethodName)) ∈ lw_all := lw_g (lw_at lw_m3 76 rfl) rfl
theorem q682 : (Jvm.Cond.selects "java/lang/StringBuilder" ({ cls := "java/lang/AbstractStringBuilder", name := "getValue", desc := "()[B" } : Jvm.MethodName) ({ cls := "java/lang/AbstractStringBuilder", name := "getValue", desc := "()[B" } : Jvm.MethodName)) ∈ lw_all := lw_g (lw_at lw_m3 86 rfl) rfl
theorem q687 : (Jvm.Cond.selects "java/lang/StringBuilder" ({ cls := "java/lang/AbstractStringBuilder", name := "length", desc := "()I" } : Jvm.MethodName) ({ cls := "java/lang/StringBuilder", name := "length", desc := "()I" } : Jvm.MethodName)) ∈ lw_all := lw_g (lw_at lw_m3 91 rfl) rfl
theorem q688 : (Jvm.Cond.instanceMethod ({ cls := "java/lang/StringBuilder", name := "length", desc := "()I" } : Jvm.MethodName)) ∈ lw_all := lw_g (lw_at lw_m3 92 rfl) rfl
theorem q689 : (Jvm.Cond.code ({ cls := "java/lang/StringBuilder", name := "length", desc := "()I" } : Jvm.MethodName) prog_35_method_93_code (1 : Nat) (Option.some Jvm.ClassFile.FieldType.int)) ∈ lw_all := lw_g (lw_at lw_m3 93 rfl) rfl
theorem q690 : (Jvm.Cond.methodLink "java/lang/StringBuilder" (343 : Nat) ({ cls := "java/lang/AbstractStringBuilder", name := "length", desc := "()I" } : Jvm.MethodName)) ∈ lw_all := lw_g (lw_at lw_m3 94 rfl) rfl
theorem q869 : (Jvm.Cond.selects "java/lang/StringBuilder" ({ cls := "java/lang/Object", name := "equals", desc := "(Ljava/lang/Object;)Z" } : Jvm.MethodName) ({ cls := "java/lang/Object", name := "equals", desc := "(Ljava/lang/Object;)Z" } : Jvm.MethodName)) ∈ lw_all := lw_g (lw_at lw_m4 33 rfl) rfl
theorem q914 : (Jvm.Cond.selects "java/lang/StringBuilder" ({ cls := "java/lang/Object", name := "getClass", desc := "()Ljava/lang/Class;" } : Jvm.MethodName) ({ cls := "java/lang/Object", name := "getClass", desc := "()Ljava/lang/Class;" } : Jvm.MethodName)) ∈ lw_all := lw_g (lw_at lw_m4 78 rfl) rfl
theorem q1675 : (Jvm.Cond.instanceMethod ({ cls := "java/lang/StringBuilder", name := "append", desc := "(Ljava/lang/String;)Ljava/lang/StringBuilder;" } : Jvm.MethodName)) ∈ lw_all := lw_g (lw_at lw_m7 119 rfl) rfl
theorem q1676 : (Jvm.Cond.selects "java/lang/StringBuilder" ({ cls := "java/lang/StringBuilder", name := "append", desc := "(Ljava/lang/String;)Ljava/lang/StringBuilder;" } : Jvm.MethodName) ({ cls := "java/lang/StringBuilder", name := "append", desc := "(Ljava/lang/String;)Ljava/lang/StringBuilder;" } : Jvm.MethodName)) ∈ lw_all := lw_g (lw_at lw_m7 120 rfl) rfl
theorem q1677 : (Jvm.Cond.code ({ cls := "java/lang/StringBuilder", name := "append", desc := "(Ljava/lang/String;)Ljava/lang/StringBuilder;" } : Jvm.MethodName) prog_35_method_7_code (2 : Nat) (Option.some (Jvm.ClassFile.FieldType.object "java/lang/StringBuilder"))) ∈ lw_all := lw_g (lw_at lw_m7 121 rfl) rfl
theorem q1678 : (Jvm.Cond.methodLink "java/lang/StringBuilder" (29 : Nat) ({ cls := "java/lang/AbstractStringBuilder", name := "append", desc := "(Ljava/lang/String;)Ljava/lang/AbstractStringBuilder;" } : Jvm.MethodName)) ∈ lw_all := lw_g (lw_at lw_m7 122 rfl) rfl
theorem q1714 : (Jvm.Cond.instanceMethod ({ cls := "java/lang/StringBuilder", name := "append", desc := "(I)Ljava/lang/StringBuilder;" } : Jvm.MethodName)) ∈ lw_all := lw_g (lw_at lw_m7 158 rfl) rfl
theorem q1715 : (Jvm.Cond.selects "java/lang/StringBuilder" ({ cls := "java/lang/StringBuilder", name := "append", desc := "(I)Ljava/lang/StringBuilder;" } : Jvm.MethodName) ({ cls := "java/lang/StringBuilder", name := "append", desc := "(I)Ljava/lang/StringBuilder;" } : Jvm.MethodName)) ∈ lw_all := lw_g (lw_at lw_m7 159 rfl) rfl
theorem q1716 : (Jvm.Cond.code ({ cls := "java/lang/StringBuilder", name := "append", desc := "(I)Ljava/lang/StringBuilder;" } : Jvm.MethodName) prog_35_method_15_code (2 : Nat) (Option.some (Jvm.ClassFile.FieldType.object "java/lang/StringBuilder"))) ∈ lw_all := lw_g (lw_at lw_m7 160 rfl) rfl
theorem q1717 : (Jvm.Cond.methodLink "java/lang/StringBuilder" (53 : Nat) ({ cls := "java/lang/AbstractStringBuilder", name := "append", desc := "(I)Ljava/lang/AbstractStringBuilder;" } : Jvm.MethodName)) ∈ lw_all := lw_g (lw_at lw_m7 161 rfl) rfl
theorem q2742 : (Jvm.Cond.castable "java/lang/StringBuilder" "java/lang/Object") ∈ lw_tbl := lw_at lw_m11 226 rfl
theorem in_J17 : ∀ w ∈ wsJ170, w ∈ lw_all := lw_in wsJ170 [563, 565, 567, 569] (by decide +kernel) (by decide +kernel)

/-! java/lang/StringUTF16 -/
def RJ18 : String := "java/lang/StringUTF16"
abbrev cJ18_newBytesFor : ByteArray := prog_37_method_2_code
def yJ18_newBytesFor : MethodName := ⟨RJ18, "newBytesFor", "(I)[B"⟩
abbrev cJ18_newBytesLength : ByteArray := prog_37_method_3_code
def yJ18_newBytesLength : MethodName := ⟨RJ18, "newBytesLength", "(I)I"⟩
abbrev cJ18_inflate : ByteArray := prog_37_method_86_code
def yJ18_inflate : MethodName := ⟨RJ18, "inflate", "([BI[BII)V"⟩
abbrev cJ18_checkBoundsOffCount : ByteArray := prog_37_method_94_code
def yJ18_checkBoundsOffCount : MethodName := ⟨RJ18, "checkBoundsOffCount", "(II[B)V"⟩
abbrev cJ18_length : ByteArray := prog_37_method_6_code
def yJ18_length : MethodName := ⟨RJ18, "length", "([B)I"⟩
abbrev cJ18_putChar : ByteArray := prog_37_method_4_code
def yJ18_putChar : MethodName := ⟨RJ18, "putChar", "([BII)V"⟩
abbrev cJ18_putCharSB : ByteArray := prog_37_method_71_code
def yJ18_putCharSB : MethodName := ⟨RJ18, "putCharSB", "([BII)V"⟩
abbrev cJ18_checkIndex : ByteArray := prog_37_method_91_code
def yJ18_checkIndex : MethodName := ⟨RJ18, "checkIndex", "(I[B)V"⟩
abbrev cJ18_compress : ByteArray := prog_37_method_17_code
def yJ18_compress : MethodName := ⟨RJ18, "compress", "([BII)[B"⟩
abbrev cJ18_compress_2 : ByteArray := prog_37_method_22_code
def yJ18_compress_2 : MethodName := ⟨RJ18, "compress", "([BI[BII)I"⟩
abbrev cJ18_getChar : ByteArray := prog_37_method_5_code
def yJ18_getChar : MethodName := ⟨RJ18, "getChar", "([BI)C"⟩
abbrev cJ18_coderFromArrayLen : ByteArray := prog_37_method_15_code
def yJ18_coderFromArrayLen : MethodName := ⟨RJ18, "coderFromArrayLen", "([BI)B"⟩
abbrev cJ18_putCharsAt : ByteArray := prog_37_method_81_code
def yJ18_putCharsAt : MethodName := ⟨RJ18, "putCharsAt", "([BICCCC)I"⟩
abbrev cJ18_checkBoundsBeginEnd : ByteArray := prog_37_method_93_code
def yJ18_checkBoundsBeginEnd : MethodName := ⟨RJ18, "checkBoundsBeginEnd", "(II[B)V"⟩
abbrev cJ18_getChars : ByteArray := prog_37_method_77_code
def yJ18_getChars : MethodName := ⟨RJ18, "getChars", "(III[B)I"⟩
abbrev cJ18_getChars_2 : ByteArray := prog_37_method_89_code
def yJ18_getChars_2 : MethodName := ⟨RJ18, "getChars", "(II[B)I"⟩
theorem q140 : (Jvm.Cond.initialized "java/lang/StringUTF16") ∈ lw_all := lw_g (lw_at lw_m1 24 rfl) rfl
theorem q553 : (Jvm.Cond.static ({ cls := "java/lang/StringUTF16", name := "newBytesFor", desc := "(I)[B" } : Jvm.MethodName)) ∈ lw_all := lw_g (lw_at lw_m2 197 rfl) rfl
theorem q554 : (Jvm.Cond.code ({ cls := "java/lang/StringUTF16", name := "newBytesFor", desc := "(I)[B" } : Jvm.MethodName) prog_37_method_2_code (1 : Nat) (Option.some (Jvm.ClassFile.FieldType.array Jvm.ClassFile.FieldType.byte))) ∈ lw_all := lw_g (lw_at lw_m2 198 rfl) rfl
theorem q555 : (Jvm.Cond.methodLink "java/lang/StringUTF16" (11 : Nat) ({ cls := "java/lang/StringUTF16", name := "newBytesLength", desc := "(I)I" } : Jvm.MethodName)) ∈ lw_all := lw_g (lw_at lw_m2 199 rfl) rfl
theorem q556 : (Jvm.Cond.static ({ cls := "java/lang/StringUTF16", name := "newBytesLength", desc := "(I)I" } : Jvm.MethodName)) ∈ lw_all := lw_g (lw_at lw_m2 200 rfl) rfl
theorem q557 : (Jvm.Cond.code ({ cls := "java/lang/StringUTF16", name := "newBytesLength", desc := "(I)I" } : Jvm.MethodName) prog_37_method_3_code (1 : Nat) (Option.some Jvm.ClassFile.FieldType.int)) ∈ lw_all := lw_g (lw_at lw_m2 201 rfl) rfl
theorem q558 : (Jvm.Cond.constant "java/lang/StringUTF16" (20 : Nat) (1073741823 : Int32)) ∈ lw_all := lw_g (lw_at lw_m2 202 rfl) rfl
theorem q630 : (Jvm.Cond.static ({ cls := "java/lang/StringUTF16", name := "inflate", desc := "([BI[BII)V" } : Jvm.MethodName)) ∈ lw_all := lw_g (lw_at lw_m3 34 rfl) rfl
theorem q631 : (Jvm.Cond.code ({ cls := "java/lang/StringUTF16", name := "inflate", desc := "([BI[BII)V" } : Jvm.MethodName) prog_37_method_86_code (6 : Nat) (Option.none : Option Jvm.ClassFile.FieldType)) ∈ lw_all := lw_g (lw_at lw_m3 35 rfl) rfl
theorem q632 : (Jvm.Cond.methodLink "java/lang/StringUTF16" (173 : Nat) ({ cls := "java/lang/StringUTF16", name := "checkBoundsOffCount", desc := "(II[B)V" } : Jvm.MethodName)) ∈ lw_all := lw_g (lw_at lw_m3 36 rfl) rfl
theorem q633 : (Jvm.Cond.static ({ cls := "java/lang/StringUTF16", name := "checkBoundsOffCount", desc := "(II[B)V" } : Jvm.MethodName)) ∈ lw_all := lw_g (lw_at lw_m3 37 rfl) rfl
theorem q634 : (Jvm.Cond.code ({ cls := "java/lang/StringUTF16", name := "checkBoundsOffCount", desc := "(II[B)V" } : Jvm.MethodName) prog_37_method_94_code (3 : Nat) (Option.none : Option Jvm.ClassFile.FieldType)) ∈ lw_all := lw_g (lw_at lw_m3 38 rfl) rfl
theorem q635 : (Jvm.Cond.methodLink "java/lang/StringUTF16" (48 : Nat) ({ cls := "java/lang/StringUTF16", name := "length", desc := "([B)I" } : Jvm.MethodName)) ∈ lw_all := lw_g (lw_at lw_m3 39 rfl) rfl
theorem q636 : (Jvm.Cond.static ({ cls := "java/lang/StringUTF16", name := "length", desc := "([B)I" } : Jvm.MethodName)) ∈ lw_all := lw_g (lw_at lw_m3 40 rfl) rfl
theorem q637 : (Jvm.Cond.code ({ cls := "java/lang/StringUTF16", name := "length", desc := "([B)I" } : Jvm.MethodName) prog_37_method_6_code (1 : Nat) (Option.some Jvm.ClassFile.FieldType.int)) ∈ lw_all := lw_g (lw_at lw_m3 41 rfl) rfl
theorem q638 : (Jvm.Cond.methodLink "java/lang/StringUTF16" (419 : Nat) ({ cls := "java/lang/String", name := "checkBoundsOffCount", desc := "(III)I" } : Jvm.MethodName)) ∈ lw_all := lw_g (lw_at lw_m3 42 rfl) rfl
theorem q646 : (Jvm.Cond.methodLink "java/lang/StringUTF16" (111 : Nat) ({ cls := "java/lang/StringUTF16", name := "putChar", desc := "([BII)V" } : Jvm.MethodName)) ∈ lw_all := lw_g (lw_at lw_m3 50 rfl) rfl
theorem q647 : (Jvm.Cond.static ({ cls := "java/lang/StringUTF16", name := "putChar", desc := "([BII)V" } : Jvm.MethodName)) ∈ lw_all := lw_g (lw_at lw_m3 51 rfl) rfl
theorem q648 : (Jvm.Cond.code ({ cls := "java/lang/StringUTF16", name := "putChar", desc := "([BII)V" } : Jvm.MethodName) prog_37_method_4_code (3 : Nat) (Option.none : Option Jvm.ClassFile.FieldType)) ∈ lw_all := lw_g (lw_at lw_m3 52 rfl) rfl
theorem q649 : (Jvm.Cond.fieldLink "java/lang/StringUTF16" (44 : Nat) "java/lang/StringUTF16" "$assertionsDisabled" "Z") ∈ lw_all := lw_g (lw_at lw_m3 53 rfl) rfl
theorem q650 : (Jvm.Cond.laysStatic "java/lang/StringUTF16" "$assertionsDisabled" "Z") ∈ lw_tbl := lw_at lw_m3 54 rfl
theorem q651 : (Jvm.Cond.fieldLink "java/lang/StringUTF16" (59 : Nat) "java/lang/StringUTF16" "HI_BYTE_SHIFT" "I") ∈ lw_all := lw_g (lw_at lw_m3 55 rfl) rfl
theorem q652 : (Jvm.Cond.laysStatic "java/lang/StringUTF16" "HI_BYTE_SHIFT" "I") ∈ lw_tbl := lw_at lw_m3 56 rfl
theorem q653 : (Jvm.Cond.fieldLink "java/lang/StringUTF16" (63 : Nat) "java/lang/StringUTF16" "LO_BYTE_SHIFT" "I") ∈ lw_all := lw_g (lw_at lw_m3 57 rfl) rfl
theorem q654 : (Jvm.Cond.laysStatic "java/lang/StringUTF16" "LO_BYTE_SHIFT" "I") ∈ lw_tbl := lw_at lw_m3 58 rfl
theorem q656 : (Jvm.Cond.static ({ cls := "java/lang/StringUTF16", name := "putCharSB", desc := "([BII)V" } : Jvm.MethodName)) ∈ lw_all := lw_g (lw_at lw_m3 60 rfl) rfl
theorem q657 : (Jvm.Cond.code ({ cls := "java/lang/StringUTF16", name := "putCharSB", desc := "([BII)V" } : Jvm.MethodName) prog_37_method_71_code (3 : Nat) (Option.none : Option Jvm.ClassFile.FieldType)) ∈ lw_all := lw_g (lw_at lw_m3 61 rfl) rfl
theorem q658 : (Jvm.Cond.methodLink "java/lang/StringUTF16" (67 : Nat) ({ cls := "java/lang/StringUTF16", name := "checkIndex", desc := "(I[B)V" } : Jvm.MethodName)) ∈ lw_all := lw_g (lw_at lw_m3 62 rfl) rfl
theorem q659 : (Jvm.Cond.static ({ cls := "java/lang/StringUTF16", name := "checkIndex", desc := "(I[B)V" } : Jvm.MethodName)) ∈ lw_all := lw_g (lw_at lw_m3 63 rfl) rfl
theorem q660 : (Jvm.Cond.code ({ cls := "java/lang/StringUTF16", name := "checkIndex", desc := "(I[B)V" } : Jvm.MethodName) prog_37_method_91_code (2 : Nat) (Option.none : Option Jvm.ClassFile.FieldType)) ∈ lw_all := lw_g (lw_at lw_m3 64 rfl) rfl
theorem q661 : (Jvm.Cond.methodLink "java/lang/StringUTF16" (414 : Nat) ({ cls := "java/lang/String", name := "checkIndex", desc := "(II)V" } : Jvm.MethodName)) ∈ lw_all := lw_g (lw_at lw_m3 65 rfl) rfl
theorem q704 : (Jvm.Cond.static ({ cls := "java/lang/StringUTF16", name := "compress", desc := "([BII)[B" } : Jvm.MethodName)) ∈ lw_all := lw_g (lw_at lw_m3 108 rfl) rfl
theorem q705 : (Jvm.Cond.code ({ cls := "java/lang/StringUTF16", name := "compress", desc := "([BII)[B" } : Jvm.MethodName) prog_37_method_17_code (6 : Nat) (Option.some (Jvm.ClassFile.FieldType.array Jvm.ClassFile.FieldType.byte))) ∈ lw_all := lw_g (lw_at lw_m3 109 rfl) rfl
theorem q706 : (Jvm.Cond.methodLink "java/lang/StringUTF16" (123 : Nat) ({ cls := "java/lang/StringUTF16", name := "compress", desc := "([BI[BII)I" } : Jvm.MethodName)) ∈ lw_all := lw_g (lw_at lw_m3 110 rfl) rfl
theorem q707 : (Jvm.Cond.static ({ cls := "java/lang/StringUTF16", name := "compress", desc := "([BI[BII)I" } : Jvm.MethodName)) ∈ lw_all := lw_g (lw_at lw_m3 111 rfl) rfl
theorem q708 : (Jvm.Cond.code ({ cls := "java/lang/StringUTF16", name := "compress", desc := "([BI[BII)I" } : Jvm.MethodName) prog_37_method_22_code (7 : Nat) (Option.some Jvm.ClassFile.FieldType.int)) ∈ lw_all := lw_g (lw_at lw_m3 112 rfl) rfl
theorem q709 : (Jvm.Cond.methodLink "java/lang/StringUTF16" (71 : Nat) ({ cls := "java/lang/StringUTF16", name := "getChar", desc := "([BI)C" } : Jvm.MethodName)) ∈ lw_all := lw_g (lw_at lw_m3 113 rfl) rfl
theorem q710 : (Jvm.Cond.static ({ cls := "java/lang/StringUTF16", name := "getChar", desc := "([BI)C" } : Jvm.MethodName)) ∈ lw_all := lw_g (lw_at lw_m3 114 rfl) rfl
theorem q711 : (Jvm.Cond.code ({ cls := "java/lang/StringUTF16", name := "getChar", desc := "([BI)C" } : Jvm.MethodName) prog_37_method_5_code (2 : Nat) (Option.some Jvm.ClassFile.FieldType.char)) ∈ lw_all := lw_g (lw_at lw_m3 115 rfl) rfl
theorem q712 : (Jvm.Cond.methodLink "java/lang/StringUTF16" (126 : Nat) ({ cls := "java/util/Arrays", name := "copyOfRange", desc := "([BII)[B" } : Jvm.MethodName)) ∈ lw_all := lw_g (lw_at lw_m3 116 rfl) rfl
theorem q714 : (Jvm.Cond.static ({ cls := "java/lang/StringUTF16", name := "coderFromArrayLen", desc := "([BI)B" } : Jvm.MethodName)) ∈ lw_all := lw_g (lw_at lw_m3 118 rfl) rfl
theorem q715 : (Jvm.Cond.code ({ cls := "java/lang/StringUTF16", name := "coderFromArrayLen", desc := "([BI)B" } : Jvm.MethodName) prog_37_method_15_code (2 : Nat) (Option.some Jvm.ClassFile.FieldType.byte)) ∈ lw_all := lw_g (lw_at lw_m3 119 rfl) rfl
theorem q1686 : (Jvm.Cond.static ({ cls := "java/lang/StringUTF16", name := "putCharsAt", desc := "([BICCCC)I" } : Jvm.MethodName)) ∈ lw_all := lw_g (lw_at lw_m7 130 rfl) rfl
theorem q1687 : (Jvm.Cond.code ({ cls := "java/lang/StringUTF16", name := "putCharsAt", desc := "([BICCCC)I" } : Jvm.MethodName) prog_37_method_81_code (7 : Nat) (Option.some Jvm.ClassFile.FieldType.int)) ∈ lw_all := lw_g (lw_at lw_m7 131 rfl) rfl
theorem q1688 : (Jvm.Cond.methodLink "java/lang/StringUTF16" (96 : Nat) ({ cls := "java/lang/StringUTF16", name := "checkBoundsBeginEnd", desc := "(II[B)V" } : Jvm.MethodName)) ∈ lw_all := lw_g (lw_at lw_m7 132 rfl) rfl
theorem q1689 : (Jvm.Cond.static ({ cls := "java/lang/StringUTF16", name := "checkBoundsBeginEnd", desc := "(II[B)V" } : Jvm.MethodName)) ∈ lw_all := lw_g (lw_at lw_m7 133 rfl) rfl
theorem q1690 : (Jvm.Cond.code ({ cls := "java/lang/StringUTF16", name := "checkBoundsBeginEnd", desc := "(II[B)V" } : Jvm.MethodName) prog_37_method_93_code (3 : Nat) (Option.none : Option Jvm.ClassFile.FieldType)) ∈ lw_all := lw_g (lw_at lw_m7 134 rfl) rfl
theorem q1691 : (Jvm.Cond.methodLink "java/lang/StringUTF16" (241 : Nat) ({ cls := "java/lang/String", name := "checkBoundsBeginEnd", desc := "(III)V" } : Jvm.MethodName)) ∈ lw_all := lw_g (lw_at lw_m7 135 rfl) rfl
theorem q1731 : (Jvm.Cond.static ({ cls := "java/lang/StringUTF16", name := "getChars", desc := "(III[B)I" } : Jvm.MethodName)) ∈ lw_all := lw_g (lw_at lw_m7 175 rfl) rfl
theorem q1732 : (Jvm.Cond.code ({ cls := "java/lang/StringUTF16", name := "getChars", desc := "(III[B)I" } : Jvm.MethodName) prog_37_method_77_code (5 : Nat) (Option.some Jvm.ClassFile.FieldType.int)) ∈ lw_all := lw_g (lw_at lw_m7 176 rfl) rfl
theorem q1733 : (Jvm.Cond.methodLink "java/lang/StringUTF16" (393 : Nat) ({ cls := "java/lang/StringUTF16", name := "getChars", desc := "(II[B)I" } : Jvm.MethodName)) ∈ lw_all := lw_g (lw_at lw_m7 177 rfl) rfl
theorem q1734 : (Jvm.Cond.static ({ cls := "java/lang/StringUTF16", name := "getChars", desc := "(II[B)I" } : Jvm.MethodName)) ∈ lw_all := lw_g (lw_at lw_m7 178 rfl) rfl
theorem q1735 : (Jvm.Cond.code ({ cls := "java/lang/StringUTF16", name := "getChars", desc := "(II[B)I" } : Jvm.MethodName) prog_37_method_89_code (7 : Nat) (Option.some Jvm.ClassFile.FieldType.int)) ∈ lw_all := lw_g (lw_at lw_m7 179 rfl) rfl
theorem q1736 : (Jvm.Cond.fieldLink "java/lang/StringUTF16" (403 : Nat) "java/lang/Integer" "DigitOnes" "[B") ∈ lw_all := lw_g (lw_at lw_m7 180 rfl) rfl
theorem q1737 : (Jvm.Cond.fieldLink "java/lang/StringUTF16" (407 : Nat) "java/lang/Integer" "DigitTens" "[B") ∈ lw_all := lw_g (lw_at lw_m7 181 rfl) rfl

/-! jdk/internal/util/ArraysSupport -/
def RJ19 : String := "jdk/internal/util/ArraysSupport"
abbrev cJ19_newLength : ByteArray := prog_57_method_27_code
def yJ19_newLength : MethodName := ⟨RJ19, "newLength", "(III)I"⟩
abbrev cJ19_hugeLength : ByteArray := prog_57_method_28_code
def yJ19_hugeLength : MethodName := ⟨RJ19, "hugeLength", "(II)I"⟩
theorem q141 : (Jvm.Cond.initialized "jdk/internal/util/ArraysSupport") ∈ lw_all := lw_g (lw_at lw_m1 25 rfl) rfl
theorem q588 : (Jvm.Cond.static ({ cls := "jdk/internal/util/ArraysSupport", name := "newLength", desc := "(III)I" } : Jvm.MethodName)) ∈ lw_all := lw_g (lw_at lw_m2 232 rfl) rfl
theorem q589 : (Jvm.Cond.code ({ cls := "jdk/internal/util/ArraysSupport", name := "newLength", desc := "(III)I" } : Jvm.MethodName) prog_57_method_27_code (4 : Nat) (Option.some Jvm.ClassFile.FieldType.int)) ∈ lw_all := lw_g (lw_at lw_m2 233 rfl) rfl
theorem q590 : (Jvm.Cond.methodLink "jdk/internal/util/ArraysSupport" (194 : Nat) ({ cls := "java/lang/Math", name := "max", desc := "(II)I" } : Jvm.MethodName)) ∈ lw_all := lw_g (lw_at lw_m2 234 rfl) rfl
theorem q593 : (Jvm.Cond.constant "jdk/internal/util/ArraysSupport" (200 : Nat) (2147483639 : Int32)) ∈ lw_all := lw_g (lw_at lw_m2 237 rfl) rfl
theorem q594 : (Jvm.Cond.methodLink "jdk/internal/util/ArraysSupport" (201 : Nat) ({ cls := "jdk/internal/util/ArraysSupport", name := "hugeLength", desc := "(II)I" } : Jvm.MethodName)) ∈ lw_all := lw_g (lw_at lw_m2 238 rfl) rfl
theorem q595 : (Jvm.Cond.static ({ cls := "jdk/internal/util/ArraysSupport", name := "hugeLength", desc := "(II)I" } : Jvm.MethodName)) ∈ lw_all := lw_g (lw_at lw_m2 239 rfl) rfl
theorem q596 : (Jvm.Cond.code ({ cls := "jdk/internal/util/ArraysSupport", name := "hugeLength", desc := "(II)I" } : Jvm.MethodName) prog_57_method_28_code (3 : Nat) (Option.some Jvm.ClassFile.FieldType.int)) ∈ lw_all := lw_g (lw_at lw_m3 0 rfl) rfl

/-! java/lang/Math -/
def RJ20 : String := "java/lang/Math"
abbrev cJ20_max : ByteArray := prog_29_method_65_code
def yJ20_max : MethodName := ⟨RJ20, "max", "(II)I"⟩
abbrev cJ20_min : ByteArray := prog_29_method_69_code
def yJ20_min : MethodName := ⟨RJ20, "min", "(II)I"⟩
theorem q142 : (Jvm.Cond.initialized "java/lang/Math") ∈ lw_all := lw_g (lw_at lw_m1 26 rfl) rfl
theorem q591 : (Jvm.Cond.static ({ cls := "java/lang/Math", name := "max", desc := "(II)I" } : Jvm.MethodName)) ∈ lw_all := lw_g (lw_at lw_m2 235 rfl) rfl
theorem q592 : (Jvm.Cond.code ({ cls := "java/lang/Math", name := "max", desc := "(II)I" } : Jvm.MethodName) prog_29_method_65_code (2 : Nat) (Option.some Jvm.ClassFile.FieldType.int)) ∈ lw_all := lw_g (lw_at lw_m2 236 rfl) rfl
theorem q609 : (Jvm.Cond.static ({ cls := "java/lang/Math", name := "min", desc := "(II)I" } : Jvm.MethodName)) ∈ lw_all := lw_g (lw_at lw_m3 13 rfl) rfl
theorem q610 : (Jvm.Cond.code ({ cls := "java/lang/Math", name := "min", desc := "(II)I" } : Jvm.MethodName) prog_29_method_69_code (2 : Nat) (Option.some Jvm.ClassFile.FieldType.int)) ∈ lw_all := lw_g (lw_at lw_m3 14 rfl) rfl

/-! java/lang/StringLatin1 -/
def RJ21 : String := "java/lang/StringLatin1"
abbrev cJ21_canEncode : ByteArray := prog_36_method_3_code
def yJ21_canEncode : MethodName := ⟨RJ21, "canEncode", "(C)Z"⟩
abbrev cJ21_inflate : ByteArray := prog_36_method_50_code
def yJ21_inflate : MethodName := ⟨RJ21, "inflate", "([BI[BII)V"⟩
abbrev cJ21_equals : ByteArray := prog_36_method_13_code
def yJ21_equals : MethodName := ⟨RJ21, "equals", "([B[B)Z"⟩
theorem q144 : (Jvm.Cond.initialized "java/lang/StringLatin1") ∈ lw_all := lw_g (lw_at lw_m1 28 rfl) rfl
theorem q620 : (Jvm.Cond.static ({ cls := "java/lang/StringLatin1", name := "canEncode", desc := "(C)Z" } : Jvm.MethodName)) ∈ lw_all := lw_g (lw_at lw_m3 24 rfl) rfl
theorem q621 : (Jvm.Cond.code ({ cls := "java/lang/StringLatin1", name := "canEncode", desc := "(C)Z" } : Jvm.MethodName) prog_36_method_3_code (1 : Nat) (Option.some Jvm.ClassFile.FieldType.boolean)) ∈ lw_all := lw_g (lw_at lw_m3 25 rfl) rfl
theorem q627 : (Jvm.Cond.static ({ cls := "java/lang/StringLatin1", name := "inflate", desc := "([BI[BII)V" } : Jvm.MethodName)) ∈ lw_all := lw_g (lw_at lw_m3 31 rfl) rfl
theorem q628 : (Jvm.Cond.code ({ cls := "java/lang/StringLatin1", name := "inflate", desc := "([BI[BII)V" } : Jvm.MethodName) prog_36_method_50_code (5 : Nat) (Option.none : Option Jvm.ClassFile.FieldType)) ∈ lw_all := lw_g (lw_at lw_m3 32 rfl) rfl
theorem q629 : (Jvm.Cond.methodLink "java/lang/StringLatin1" (240 : Nat) ({ cls := "java/lang/StringUTF16", name := "inflate", desc := "([BI[BII)V" } : Jvm.MethodName)) ∈ lw_all := lw_g (lw_at lw_m3 33 rfl) rfl
theorem q815 : (Jvm.Cond.static ({ cls := "java/lang/StringLatin1", name := "equals", desc := "([B[B)Z" } : Jvm.MethodName)) ∈ lw_all := lw_g (lw_at lw_m3 219 rfl) rfl
theorem q816 : (Jvm.Cond.code ({ cls := "java/lang/StringLatin1", name := "equals", desc := "([B[B)Z" } : Jvm.MethodName) prog_36_method_13_code (3 : Nat) (Option.some Jvm.ClassFile.FieldType.boolean)) ∈ lw_all := lw_g (lw_at lw_m3 220 rfl) rfl

/-! jdk/internal/util/Preconditions -/
def RJ22 : String := "jdk/internal/util/Preconditions"
abbrev cJ22_checkFromIndexSize : ByteArray := prog_58_method_13_code
def yJ22_checkFromIndexSize : MethodName := ⟨RJ22, "checkFromIndexSize", "(IIILjava/util/function/BiFunction;)I"⟩
abbrev cJ22_checkIndex : ByteArray := prog_58_method_11_code
def yJ22_checkIndex : MethodName := ⟨RJ22, "checkIndex", "(IILjava/util/function/BiFunction;)I"⟩
abbrev cJ22_checkFromToIndex : ByteArray := prog_58_method_12_code
def yJ22_checkFromToIndex : MethodName := ⟨RJ22, "checkFromToIndex", "(IIILjava/util/function/BiFunction;)I"⟩
theorem q145 : (Jvm.Cond.initialized "jdk/internal/util/Preconditions") ∈ lw_all := lw_g (lw_at lw_m1 29 rfl) rfl
theorem q642 : (Jvm.Cond.laysStatic "jdk/internal/util/Preconditions" "SIOOBE_FORMATTER" "Ljava/util/function/BiFunction;") ∈ lw_tbl := lw_at lw_m3 46 rfl
theorem q644 : (Jvm.Cond.static ({ cls := "jdk/internal/util/Preconditions", name := "checkFromIndexSize", desc := "(IIILjava/util/function/BiFunction;)I" } : Jvm.MethodName)) ∈ lw_all := lw_g (lw_at lw_m3 48 rfl) rfl
theorem q645 : (Jvm.Cond.code ({ cls := "jdk/internal/util/Preconditions", name := "checkFromIndexSize", desc := "(IIILjava/util/function/BiFunction;)I" } : Jvm.MethodName) prog_58_method_13_code (4 : Nat) (Option.some Jvm.ClassFile.FieldType.int)) ∈ lw_all := lw_g (lw_at lw_m3 49 rfl) rfl
theorem q665 : (Jvm.Cond.static ({ cls := "jdk/internal/util/Preconditions", name := "checkIndex", desc := "(IILjava/util/function/BiFunction;)I" } : Jvm.MethodName)) ∈ lw_all := lw_g (lw_at lw_m3 69 rfl) rfl
theorem q666 : (Jvm.Cond.code ({ cls := "jdk/internal/util/Preconditions", name := "checkIndex", desc := "(IILjava/util/function/BiFunction;)I" } : Jvm.MethodName) prog_58_method_11_code (3 : Nat) (Option.some Jvm.ClassFile.FieldType.int)) ∈ lw_all := lw_g (lw_at lw_m3 70 rfl) rfl
theorem q1695 : (Jvm.Cond.static ({ cls := "jdk/internal/util/Preconditions", name := "checkFromToIndex", desc := "(IIILjava/util/function/BiFunction;)I" } : Jvm.MethodName)) ∈ lw_all := lw_g (lw_at lw_m7 139 rfl) rfl
theorem q1696 : (Jvm.Cond.code ({ cls := "jdk/internal/util/Preconditions", name := "checkFromToIndex", desc := "(IIILjava/util/function/BiFunction;)I" } : Jvm.MethodName) prog_58_method_12_code (4 : Nat) (Option.some Jvm.ClassFile.FieldType.int)) ∈ lw_all := lw_g (lw_at lw_m7 140 rfl) rfl

/-! ClockZones$Fault -/
def RX6 : String := "ClockZones$Fault"
def TX6 : u_T := fun k => match k with
  | 0 => ("java/lang/Throwable", "cause", "Ljava/lang/Throwable;", false)
  | 1 => ("java/lang/Throwable", "stackTrace", "[Ljava/lang/StackTraceElement;", false)
  | 2 => ("java/lang/Throwable", "suppressedExceptions", "Ljava/util/List;", false)
  | 3 => ("java/lang/Throwable", "detailMessage", "Ljava/lang/String;", false)
  | 4 => ("java/lang/Throwable", "backtrace", "Ljava/lang/Object;", false)
  | 5 => ("java/lang/Throwable", "depth", "I", false)
  | 6 => ("ClockZones$Fault", "kind", "I", true)
  | _ => ("ClockZones$Fault", "place", "I", true)
def tyX6 : Nat → FieldType := fun k => match k with
  | 0 => .object "java/lang/Throwable"
  | 1 => .array (.object "java/lang/StackTraceElement")
  | 2 => .object "java/util/List"
  | 3 => .object "java/lang/String"
  | 4 => .object "java/lang/Object"
  | 5 => .int
  | 6 => .int
  | _ => .int
abbrev wsX60 : List Cond := u_ws RX6 TX6 8
theorem nmX6 : ∀ a, a < 8 → ∀ b, b < 8 → a ≠ b → (TX6 a).2.1 ≠ (TX6 b).2.1 := by decide +kernel
theorem tyX6_ok : ∀ k, k < 8 → parseFieldDescriptor (TX6 k).2.2.1 = some (tyX6 k) := by decide +kernel
abbrev cX6_init : ByteArray := prog_3_method_1_code
def yX6_init : MethodName := ⟨RX6, "<init>", "(II)V"⟩
theorem q146 : (Jvm.Cond.initialized "ClockZones$Fault") ∈ lw_all := lw_g (lw_at lw_m1 30 rfl) rfl
theorem q357 : (Jvm.Cond.selects "ClockZones$Fault" ({ cls := "java/lang/Throwable", name := "fillInStackTrace", desc := "()Ljava/lang/Throwable;" } : Jvm.MethodName) ({ cls := "java/lang/Throwable", name := "fillInStackTrace", desc := "()Ljava/lang/Throwable;" } : Jvm.MethodName)) ∈ lw_all := lw_g (lw_at lw_m2 1 rfl) rfl
theorem q778 : (Jvm.Cond.instantiable "ClockZones$Fault" (8 : Nat)) ∈ lw_all := lw_g (lw_at lw_m3 182 rfl) rfl
theorem q779 : (Jvm.Cond.castable "ClockZones$Fault" "ClockZones$Fault") ∈ lw_tbl := lw_at lw_m3 183 rfl
theorem q780 : (Jvm.Cond.selects "ClockZones$Fault" ({ cls := "java/lang/Throwable", name := "fillInStackTrace", desc := "(I)Ljava/lang/Throwable;" } : Jvm.MethodName) ({ cls := "java/lang/Throwable", name := "fillInStackTrace", desc := "(I)Ljava/lang/Throwable;" } : Jvm.MethodName)) ∈ lw_all := lw_g (lw_at lw_m3 184 rfl) rfl
theorem q781 : (Jvm.Cond.lays "ClockZones$Fault" "java/lang/Throwable" "cause" "Ljava/lang/Throwable;") ∈ lw_all := lw_g (lw_at lw_m3 185 rfl) rfl
theorem q782 : (Jvm.Cond.lays "ClockZones$Fault" "java/lang/Throwable" "stackTrace" "[Ljava/lang/StackTraceElement;") ∈ lw_all := lw_g (lw_at lw_m3 186 rfl) rfl
theorem q783 : (Jvm.Cond.lays "ClockZones$Fault" "java/lang/Throwable" "suppressedExceptions" "Ljava/util/List;") ∈ lw_all := lw_g (lw_at lw_m3 187 rfl) rfl
theorem q784 : (Jvm.Cond.lays "ClockZones$Fault" "java/lang/Throwable" "detailMessage" "Ljava/lang/String;") ∈ lw_all := lw_g (lw_at lw_m3 188 rfl) rfl
theorem q785 : (Jvm.Cond.lays "ClockZones$Fault" "java/lang/Throwable" "backtrace" "Ljava/lang/Object;") ∈ lw_all := lw_g (lw_at lw_m3 189 rfl) rfl
theorem q787 : (Jvm.Cond.instanceMethod ({ cls := "ClockZones$Fault", name := "<init>", desc := "(II)V" } : Jvm.MethodName)) ∈ lw_all := lw_g (lw_at lw_m3 191 rfl) rfl
theorem q788 : (Jvm.Cond.code ({ cls := "ClockZones$Fault", name := "<init>", desc := "(II)V" } : Jvm.MethodName) prog_3_method_1_code (3 : Nat) (Option.none : Option Jvm.ClassFile.FieldType)) ∈ lw_all := lw_g (lw_at lw_m3 192 rfl) rfl
theorem q789 : (Jvm.Cond.methodLink "ClockZones$Fault" (1 : Nat) ({ cls := "java/lang/Exception", name := "<init>", desc := "(Ljava/lang/String;Ljava/lang/Throwable;ZZ)V" } : Jvm.MethodName)) ∈ lw_all := lw_g (lw_at lw_m3 193 rfl) rfl
theorem q795 : (Jvm.Cond.fieldLink "ClockZones$Fault" (7 : Nat) "ClockZones$Fault" "kind" "I") ∈ lw_all := lw_g (lw_at lw_m3 199 rfl) rfl
theorem q797 : (Jvm.Cond.fieldLink "ClockZones$Fault" (13 : Nat) "ClockZones$Fault" "place" "I") ∈ lw_all := lw_g (lw_at lw_m3 201 rfl) rfl
theorem q799 : (Jvm.Cond.laysFinal "ClockZones$Fault" "ClockZones$Fault" "kind" "I") ∈ lw_all := lw_g (lw_at lw_m3 203 rfl) rfl
theorem q800 : (Jvm.Cond.soleField "ClockZones$Fault" "kind") ∈ lw_all := lw_g (lw_at lw_m3 204 rfl) rfl
theorem q801 : (Jvm.Cond.laysFinal "ClockZones$Fault" "ClockZones$Fault" "place" "I") ∈ lw_all := lw_g (lw_at lw_m3 205 rfl) rfl
theorem q802 : (Jvm.Cond.soleField "ClockZones$Fault" "place") ∈ lw_all := lw_g (lw_at lw_m3 206 rfl) rfl
theorem q803 : (Jvm.Cond.lays "ClockZones$Fault" "java/lang/Throwable" "depth" "I") ∈ lw_all := lw_g (lw_at lw_m3 207 rfl) rfl
theorem q804 : (Jvm.Cond.superclass "ClockZones$Fault" "java/lang/Exception") ∈ lw_all := lw_g (lw_at lw_m3 208 rfl) rfl
theorem q844 : (Jvm.Cond.selects "ClockZones$Fault" ({ cls := "java/lang/Object", name := "equals", desc := "(Ljava/lang/Object;)Z" } : Jvm.MethodName) ({ cls := "java/lang/Object", name := "equals", desc := "(Ljava/lang/Object;)Z" } : Jvm.MethodName)) ∈ lw_all := lw_g (lw_at lw_m4 8 rfl) rfl
theorem q896 : (Jvm.Cond.selects "ClockZones$Fault" ({ cls := "java/lang/Object", name := "getClass", desc := "()Ljava/lang/Class;" } : Jvm.MethodName) ({ cls := "java/lang/Object", name := "getClass", desc := "()Ljava/lang/Class;" } : Jvm.MethodName)) ∈ lw_all := lw_g (lw_at lw_m4 60 rfl) rfl
theorem q1266 : (Jvm.Cond.selects "ClockZones$Fault" ({ cls := "java/lang/Throwable", name := "addSuppressed", desc := "(Ljava/lang/Throwable;)V" } : Jvm.MethodName) ({ cls := "java/lang/Throwable", name := "addSuppressed", desc := "(Ljava/lang/Throwable;)V" } : Jvm.MethodName)) ∈ lw_all := lw_g (lw_at lw_m5 190 rfl) rfl
theorem q2718 : (Jvm.Cond.castable "ClockZones$Fault" "java/lang/Throwable") ∈ lw_tbl := lw_at lw_m11 202 rfl
theorem q2743 : (Jvm.Cond.castable "ClockZones$Fault" "java/lang/Object") ∈ lw_tbl := lw_at lw_m11 227 rfl
theorem in_X6 : ∀ w ∈ wsX60, w ∈ lw_all := lw_in wsX60 [781, 782, 783, 784, 785, 803, 799, 801] (by decide +kernel) (by decide +kernel)

/-! java/util/Objects -/
def RJ23 : String := "java/util/Objects"
abbrev cJ23_checkIndex : ByteArray := prog_53_method_17_code
def yJ23_checkIndex : MethodName := ⟨RJ23, "checkIndex", "(II)I"⟩
abbrev cJ23_requireNonNull : ByteArray := prog_53_method_11_code
def yJ23_requireNonNull : MethodName := ⟨RJ23, "requireNonNull", "(Ljava/lang/Object;Ljava/lang/String;)Ljava/lang/Object;"⟩
theorem q147 : (Jvm.Cond.initialized "java/util/Objects") ∈ lw_all := lw_g (lw_at lw_m1 31 rfl) rfl
theorem q934 : (Jvm.Cond.static ({ cls := "java/util/Objects", name := "checkIndex", desc := "(II)I" } : Jvm.MethodName)) ∈ lw_all := lw_g (lw_at lw_m4 98 rfl) rfl
theorem q935 : (Jvm.Cond.code ({ cls := "java/util/Objects", name := "checkIndex", desc := "(II)I" } : Jvm.MethodName) prog_53_method_17_code (2 : Nat) (Option.some Jvm.ClassFile.FieldType.int)) ∈ lw_all := lw_g (lw_at lw_m4 99 rfl) rfl
theorem q936 : (Jvm.Cond.methodLink "java/util/Objects" (105 : Nat) ({ cls := "jdk/internal/util/Preconditions", name := "checkIndex", desc := "(IILjava/util/function/BiFunction;)I" } : Jvm.MethodName)) ∈ lw_all := lw_g (lw_at lw_m4 100 rfl) rfl
theorem q1278 : (Jvm.Cond.static ({ cls := "java/util/Objects", name := "requireNonNull", desc := "(Ljava/lang/Object;Ljava/lang/String;)Ljava/lang/Object;" } : Jvm.MethodName)) ∈ lw_all := lw_g (lw_at lw_m5 202 rfl) rfl
theorem q1279 : (Jvm.Cond.code ({ cls := "java/util/Objects", name := "requireNonNull", desc := "(Ljava/lang/Object;Ljava/lang/String;)Ljava/lang/Object;" } : Jvm.MethodName) prog_53_method_11_code (2 : Nat) (Option.some (Jvm.ClassFile.FieldType.object "java/lang/Object"))) ∈ lw_all := lw_g (lw_at lw_m5 203 rfl) rfl

/-! ClockZones$Said -/
def RX7 : String := "ClockZones$Said"
def TX7 : u_T := fun k => match k with
  | 0 => ("ClockZones$Said", "clock", "I", true)
  | 1 => ("ClockZones$Said", "rel", "I", true)
  | _ => ("ClockZones$Said", "n", "I", true)
def tyX7 : Nat → FieldType := fun k => match k with
  | 0 => .int
  | 1 => .int
  | _ => .int
abbrev wsX70 : List Cond := u_ws RX7 TX7 3
theorem nmX7 : ∀ a, a < 3 → ∀ b, b < 3 → a ≠ b → (TX7 a).2.1 ≠ (TX7 b).2.1 := by decide +kernel
theorem tyX7_ok : ∀ k, k < 3 → parseFieldDescriptor (TX7 k).2.2.1 = some (tyX7 k) := by decide +kernel
abbrev cX7_init : ByteArray := prog_8_method_1_code
def yX7_init : MethodName := ⟨RX7, "<init>", "(III)V"⟩
abbrev cX7_init_2 : ByteArray := prog_8_method_2_code
def yX7_init_2 : MethodName := ⟨RX7, "<init>", "(II)V"⟩
theorem q148 : (Jvm.Cond.initialized "ClockZones$Said") ∈ lw_all := lw_g (lw_at lw_m1 32 rfl) rfl
theorem q849 : (Jvm.Cond.selects "ClockZones$Said" ({ cls := "java/lang/Object", name := "equals", desc := "(Ljava/lang/Object;)Z" } : Jvm.MethodName) ({ cls := "java/lang/Object", name := "equals", desc := "(Ljava/lang/Object;)Z" } : Jvm.MethodName)) ∈ lw_all := lw_g (lw_at lw_m4 13 rfl) rfl
theorem q901 : (Jvm.Cond.selects "ClockZones$Said" ({ cls := "java/lang/Object", name := "getClass", desc := "()Ljava/lang/Class;" } : Jvm.MethodName) ({ cls := "java/lang/Object", name := "getClass", desc := "()Ljava/lang/Class;" } : Jvm.MethodName)) ∈ lw_all := lw_g (lw_at lw_m4 65 rfl) rfl
theorem q955 : (Jvm.Cond.instantiable "ClockZones$Said" (3 : Nat)) ∈ lw_all := lw_g (lw_at lw_m4 119 rfl) rfl
theorem q961 : (Jvm.Cond.instanceMethod ({ cls := "ClockZones$Said", name := "<init>", desc := "(III)V" } : Jvm.MethodName)) ∈ lw_all := lw_g (lw_at lw_m4 125 rfl) rfl
theorem q962 : (Jvm.Cond.code ({ cls := "ClockZones$Said", name := "<init>", desc := "(III)V" } : Jvm.MethodName) prog_8_method_1_code (4 : Nat) (Option.none : Option Jvm.ClassFile.FieldType)) ∈ lw_all := lw_g (lw_at lw_m4 126 rfl) rfl
theorem q963 : (Jvm.Cond.methodLink "ClockZones$Said" (3 : Nat) ({ cls := "java/lang/Object", name := "<init>", desc := "()V" } : Jvm.MethodName)) ∈ lw_all := lw_g (lw_at lw_m4 127 rfl) rfl
theorem q964 : (Jvm.Cond.fieldLink "ClockZones$Said" (9 : Nat) "ClockZones$Said" "clock" "I") ∈ lw_all := lw_g (lw_at lw_m4 128 rfl) rfl
theorem q969 : (Jvm.Cond.fieldLink "ClockZones$Said" (15 : Nat) "ClockZones$Said" "rel" "I") ∈ lw_all := lw_g (lw_at lw_m4 133 rfl) rfl
theorem q972 : (Jvm.Cond.fieldLink "ClockZones$Said" (18 : Nat) "ClockZones$Said" "n" "I") ∈ lw_all := lw_g (lw_at lw_m4 136 rfl) rfl
theorem q976 : (Jvm.Cond.laysFinal "ClockZones$Said" "ClockZones$Said" "clock" "I") ∈ lw_all := lw_g (lw_at lw_m4 140 rfl) rfl
theorem q977 : (Jvm.Cond.soleField "ClockZones$Said" "clock") ∈ lw_all := lw_g (lw_at lw_m4 141 rfl) rfl
theorem q978 : (Jvm.Cond.laysFinal "ClockZones$Said" "ClockZones$Said" "rel" "I") ∈ lw_all := lw_g (lw_at lw_m4 142 rfl) rfl
theorem q979 : (Jvm.Cond.soleField "ClockZones$Said" "rel") ∈ lw_all := lw_g (lw_at lw_m4 143 rfl) rfl
theorem q980 : (Jvm.Cond.laysFinal "ClockZones$Said" "ClockZones$Said" "n" "I") ∈ lw_all := lw_g (lw_at lw_m4 144 rfl) rfl
theorem q981 : (Jvm.Cond.soleField "ClockZones$Said" "n") ∈ lw_all := lw_g (lw_at lw_m4 145 rfl) rfl
theorem q982 : (Jvm.Cond.superclass "ClockZones$Said" "java/lang/Object") ∈ lw_all := lw_g (lw_at lw_m4 146 rfl) rfl
theorem q1082 : (Jvm.Cond.instanceMethod ({ cls := "ClockZones$Said", name := "<init>", desc := "(II)V" } : Jvm.MethodName)) ∈ lw_all := lw_g (lw_at lw_m5 6 rfl) rfl
theorem q1083 : (Jvm.Cond.code ({ cls := "ClockZones$Said", name := "<init>", desc := "(II)V" } : Jvm.MethodName) prog_8_method_2_code (3 : Nat) (Option.none : Option Jvm.ClassFile.FieldType)) ∈ lw_all := lw_g (lw_at lw_m5 7 rfl) rfl
theorem q1084 : (Jvm.Cond.methodLink "ClockZones$Said" (21 : Nat) ({ cls := "ClockZones$Said", name := "<init>", desc := "(III)V" } : Jvm.MethodName)) ∈ lw_all := lw_g (lw_at lw_m5 8 rfl) rfl
theorem q2744 : (Jvm.Cond.castable "ClockZones$Said" "java/lang/Object") ∈ lw_tbl := lw_at lw_m11 228 rfl
theorem in_X7 : ∀ w ∈ wsX70, w ∈ lw_all := lw_in wsX70 [976, 978, 980] (by decide +kernel) (by decide +kernel)

/-! ClockZones$Edge -/
def RX8 : String := "ClockZones$Edge"
def TX8 : u_T := fun k => match k with
  | 0 => ("ClockZones$Edge", "from", "I", true)
  | 1 => ("ClockZones$Edge", "to", "I", true)
  | 2 => ("ClockZones$Edge", "whens", "Ljava/util/ArrayList;", true)
  | _ => ("ClockZones$Edge", "sets", "Ljava/util/ArrayList;", true)
def tyX8 : Nat → FieldType := fun k => match k with
  | 0 => .int
  | 1 => .int
  | 2 => .object "java/util/ArrayList"
  | _ => .object "java/util/ArrayList"
abbrev wsX80 : List Cond := u_ws RX8 TX8 4
theorem nmX8 : ∀ a, a < 4 → ∀ b, b < 4 → a ≠ b → (TX8 a).2.1 ≠ (TX8 b).2.1 := by decide +kernel
theorem tyX8_ok : ∀ k, k < 4 → parseFieldDescriptor (TX8 k).2.2.1 = some (tyX8 k) := by decide +kernel
abbrev cX8_init : ByteArray := prog_2_method_1_code
def yX8_init : MethodName := ⟨RX8, "<init>", "(II)V"⟩
theorem q149 : (Jvm.Cond.initialized "ClockZones$Edge") ∈ lw_all := lw_g (lw_at lw_m1 33 rfl) rfl
theorem q843 : (Jvm.Cond.selects "ClockZones$Edge" ({ cls := "java/lang/Object", name := "equals", desc := "(Ljava/lang/Object;)Z" } : Jvm.MethodName) ({ cls := "java/lang/Object", name := "equals", desc := "(Ljava/lang/Object;)Z" } : Jvm.MethodName)) ∈ lw_all := lw_g (lw_at lw_m4 7 rfl) rfl
theorem q895 : (Jvm.Cond.selects "ClockZones$Edge" ({ cls := "java/lang/Object", name := "getClass", desc := "()Ljava/lang/Class;" } : Jvm.MethodName) ({ cls := "java/lang/Object", name := "getClass", desc := "()Ljava/lang/Class;" } : Jvm.MethodName)) ∈ lw_all := lw_g (lw_at lw_m4 59 rfl) rfl
theorem q984 : (Jvm.Cond.instantiable "ClockZones$Edge" (4 : Nat)) ∈ lw_all := lw_g (lw_at lw_m4 148 rfl) rfl
theorem q986 : (Jvm.Cond.instanceMethod ({ cls := "ClockZones$Edge", name := "<init>", desc := "(II)V" } : Jvm.MethodName)) ∈ lw_all := lw_g (lw_at lw_m4 150 rfl) rfl
theorem q987 : (Jvm.Cond.code ({ cls := "ClockZones$Edge", name := "<init>", desc := "(II)V" } : Jvm.MethodName) prog_2_method_1_code (3 : Nat) (Option.none : Option Jvm.ClassFile.FieldType)) ∈ lw_all := lw_g (lw_at lw_m4 151 rfl) rfl
theorem q988 : (Jvm.Cond.methodLink "ClockZones$Edge" (1 : Nat) ({ cls := "java/lang/Object", name := "<init>", desc := "()V" } : Jvm.MethodName)) ∈ lw_all := lw_g (lw_at lw_m4 152 rfl) rfl
theorem q989 : (Jvm.Cond.classLink "ClockZones$Edge" (7 : Nat) "java/util/ArrayList") ∈ lw_all := lw_g (lw_at lw_m4 153 rfl) rfl
theorem q990 : (Jvm.Cond.methodLink "ClockZones$Edge" (9 : Nat) ({ cls := "java/util/ArrayList", name := "<init>", desc := "()V" } : Jvm.MethodName)) ∈ lw_all := lw_g (lw_at lw_m4 154 rfl) rfl
theorem q991 : (Jvm.Cond.fieldLink "ClockZones$Edge" (19 : Nat) "ClockZones$Edge" "from" "I") ∈ lw_all := lw_g (lw_at lw_m4 155 rfl) rfl
theorem q994 : (Jvm.Cond.fieldLink "ClockZones$Edge" (23 : Nat) "ClockZones$Edge" "to" "I") ∈ lw_all := lw_g (lw_at lw_m4 158 rfl) rfl
theorem q997 : (Jvm.Cond.fieldLink "ClockZones$Edge" (10 : Nat) "ClockZones$Edge" "whens" "Ljava/util/ArrayList;") ∈ lw_all := lw_g (lw_at lw_m4 161 rfl) rfl
theorem q1002 : (Jvm.Cond.fieldLink "ClockZones$Edge" (16 : Nat) "ClockZones$Edge" "sets" "Ljava/util/ArrayList;") ∈ lw_all := lw_g (lw_at lw_m4 166 rfl) rfl
theorem q1007 : (Jvm.Cond.laysFinal "ClockZones$Edge" "ClockZones$Edge" "from" "I") ∈ lw_all := lw_g (lw_at lw_m4 171 rfl) rfl
theorem q1008 : (Jvm.Cond.soleField "ClockZones$Edge" "from") ∈ lw_all := lw_g (lw_at lw_m4 172 rfl) rfl
theorem q1009 : (Jvm.Cond.laysFinal "ClockZones$Edge" "ClockZones$Edge" "to" "I") ∈ lw_all := lw_g (lw_at lw_m4 173 rfl) rfl
theorem q1010 : (Jvm.Cond.soleField "ClockZones$Edge" "to") ∈ lw_all := lw_g (lw_at lw_m4 174 rfl) rfl
theorem q1011 : (Jvm.Cond.laysFinal "ClockZones$Edge" "ClockZones$Edge" "whens" "Ljava/util/ArrayList;") ∈ lw_all := lw_g (lw_at lw_m4 175 rfl) rfl
theorem q1012 : (Jvm.Cond.soleField "ClockZones$Edge" "whens") ∈ lw_all := lw_g (lw_at lw_m4 176 rfl) rfl
theorem q1013 : (Jvm.Cond.laysFinal "ClockZones$Edge" "ClockZones$Edge" "sets" "Ljava/util/ArrayList;") ∈ lw_all := lw_g (lw_at lw_m4 177 rfl) rfl
theorem q1014 : (Jvm.Cond.soleField "ClockZones$Edge" "sets") ∈ lw_all := lw_g (lw_at lw_m4 178 rfl) rfl
theorem q1015 : (Jvm.Cond.superclass "ClockZones$Edge" "java/lang/Object") ∈ lw_all := lw_g (lw_at lw_m4 179 rfl) rfl
theorem q2745 : (Jvm.Cond.castable "ClockZones$Edge" "java/lang/Object") ∈ lw_tbl := lw_at lw_m11 229 rfl
theorem in_X8 : ∀ w ∈ wsX80, w ∈ lw_all := lw_in wsX80 [1007, 1009, 1011, 1013] (by decide +kernel) (by decide +kernel)

/-! java/util/ArrayList$Itr -/
def RJ24 : String := "java/util/ArrayList$Itr"
def TJ24 : u_T := fun k => match k with
  | 0 => ("java/util/ArrayList$Itr", "cursor", "I", false)
  | 1 => ("java/util/ArrayList$Itr", "lastRet", "I", false)
  | 2 => ("java/util/ArrayList$Itr", "expectedModCount", "I", false)
  | _ => ("java/util/ArrayList$Itr", "this$0", "Ljava/util/ArrayList;", true)
def tyJ24 : Nat → FieldType := fun k => match k with
  | 0 => .int
  | 1 => .int
  | 2 => .int
  | _ => .object "java/util/ArrayList"
abbrev wsJ240 : List Cond := u_ws RJ24 TJ24 4
theorem nmJ24 : ∀ a, a < 4 → ∀ b, b < 4 → a ≠ b → (TJ24 a).2.1 ≠ (TJ24 b).2.1 := by decide +kernel
theorem tyJ24_ok : ∀ k, k < 4 → parseFieldDescriptor (TJ24 k).2.2.1 = some (tyJ24 k) := by decide +kernel
abbrev cJ24_init : ByteArray := prog_46_method_1_code
def yJ24_init : MethodName := ⟨RJ24, "<init>", "(Ljava/util/ArrayList;)V"⟩
abbrev cJ24_hasNext : ByteArray := prog_46_method_2_code
def yJ24_hasNext : MethodName := ⟨RJ24, "hasNext", "()Z"⟩
abbrev cJ24_next : ByteArray := prog_46_method_3_code
def yJ24_next : MethodName := ⟨RJ24, "next", "()Ljava/lang/Object;"⟩
abbrev cJ24_checkForComodification : ByteArray := prog_46_method_6_code
def yJ24_checkForComodification : MethodName := ⟨RJ24, "checkForComodification", "()V"⟩
theorem q150 : (Jvm.Cond.initialized "java/util/ArrayList$Itr") ∈ lw_all := lw_g (lw_at lw_m1 34 rfl) rfl
theorem q192 : (Jvm.Cond.fieldLink "java/util/ArrayList$Itr" (37 : Nat) "java/util/ArrayList" "elementData" "[Ljava/lang/Object;") ∈ lw_all := lw_g (lw_at lw_m1 76 rfl) rfl
theorem q193 : (Jvm.Cond.fieldLinkNest "java/util/ArrayList$Itr" (28 : Nat) "java/util/ArrayList" "size" "I" "java/util/ArrayList") ∈ lw_tbl := lw_at lw_m1 77 rfl
theorem q196 : (Jvm.Cond.fieldLink "java/util/ArrayList$Itr" (17 : Nat) "java/util/ArrayList" "modCount" "I") ∈ lw_all := lw_g (lw_at lw_m1 80 rfl) rfl
theorem q917 : (Jvm.Cond.selects "java/util/ArrayList$Itr" ({ cls := "java/lang/Object", name := "getClass", desc := "()Ljava/lang/Class;" } : Jvm.MethodName) ({ cls := "java/lang/Object", name := "getClass", desc := "()Ljava/lang/Class;" } : Jvm.MethodName)) ∈ lw_all := lw_g (lw_at lw_m4 81 rfl) rfl
theorem q1025 : (Jvm.Cond.instantiable "java/util/ArrayList$Itr" (4 : Nat)) ∈ lw_all := lw_g (lw_at lw_m4 189 rfl) rfl
theorem q1027 : (Jvm.Cond.instanceMethod ({ cls := "java/util/ArrayList$Itr", name := "<init>", desc := "(Ljava/util/ArrayList;)V" } : Jvm.MethodName)) ∈ lw_all := lw_g (lw_at lw_m4 191 rfl) rfl
theorem q1028 : (Jvm.Cond.code ({ cls := "java/util/ArrayList$Itr", name := "<init>", desc := "(Ljava/util/ArrayList;)V" } : Jvm.MethodName) prog_46_method_1_code (2 : Nat) (Option.none : Option Jvm.ClassFile.FieldType)) ∈ lw_all := lw_g (lw_at lw_m4 192 rfl) rfl
theorem q1029 : (Jvm.Cond.methodLink "java/util/ArrayList$Itr" (7 : Nat) ({ cls := "java/lang/Object", name := "<init>", desc := "()V" } : Jvm.MethodName)) ∈ lw_all := lw_g (lw_at lw_m4 193 rfl) rfl
theorem q1030 : (Jvm.Cond.fieldLink "java/util/ArrayList$Itr" (25 : Nat) "java/util/ArrayList$Itr" "cursor" "I") ∈ lw_all := lw_g (lw_at lw_m4 194 rfl) rfl
theorem q1031 : (Jvm.Cond.fieldLink "java/util/ArrayList$Itr" (13 : Nat) "java/util/ArrayList$Itr" "lastRet" "I") ∈ lw_all := lw_g (lw_at lw_m4 195 rfl) rfl
theorem q1032 : (Jvm.Cond.fieldLink "java/util/ArrayList$Itr" (22 : Nat) "java/util/ArrayList$Itr" "expectedModCount" "I") ∈ lw_all := lw_g (lw_at lw_m4 196 rfl) rfl
theorem q1033 : (Jvm.Cond.fieldLink "java/util/ArrayList$Itr" (1 : Nat) "java/util/ArrayList$Itr" "this$0" "Ljava/util/ArrayList;") ∈ lw_all := lw_g (lw_at lw_m4 197 rfl) rfl
theorem q1034 : (Jvm.Cond.lays "java/util/ArrayList$Itr" "java/util/ArrayList$Itr" "cursor" "I") ∈ lw_all := lw_g (lw_at lw_m4 198 rfl) rfl
theorem q1035 : (Jvm.Cond.soleField "java/util/ArrayList$Itr" "cursor") ∈ lw_all := lw_g (lw_at lw_m4 199 rfl) rfl
theorem q1036 : (Jvm.Cond.lays "java/util/ArrayList$Itr" "java/util/ArrayList$Itr" "lastRet" "I") ∈ lw_all := lw_g (lw_at lw_m4 200 rfl) rfl
theorem q1037 : (Jvm.Cond.soleField "java/util/ArrayList$Itr" "lastRet") ∈ lw_all := lw_g (lw_at lw_m4 201 rfl) rfl
theorem q1038 : (Jvm.Cond.lays "java/util/ArrayList$Itr" "java/util/ArrayList$Itr" "expectedModCount" "I") ∈ lw_all := lw_g (lw_at lw_m4 202 rfl) rfl
theorem q1039 : (Jvm.Cond.soleField "java/util/ArrayList$Itr" "expectedModCount") ∈ lw_all := lw_g (lw_at lw_m4 203 rfl) rfl
theorem q1040 : (Jvm.Cond.laysFinal "java/util/ArrayList$Itr" "java/util/ArrayList$Itr" "this$0" "Ljava/util/ArrayList;") ∈ lw_all := lw_g (lw_at lw_m4 204 rfl) rfl
theorem q1041 : (Jvm.Cond.soleField "java/util/ArrayList$Itr" "this$0") ∈ lw_all := lw_g (lw_at lw_m4 205 rfl) rfl
theorem q1042 : (Jvm.Cond.superclass "java/util/ArrayList$Itr" "java/lang/Object") ∈ lw_all := lw_g (lw_at lw_m4 206 rfl) rfl
theorem q1047 : (Jvm.Cond.castable "java/util/ArrayList$Itr" "java/util/Iterator") ∈ lw_tbl := lw_at lw_m4 211 rfl
theorem q1048 : (Jvm.Cond.selects "java/util/ArrayList$Itr" ({ cls := "java/util/Iterator", name := "hasNext", desc := "()Z" } : Jvm.MethodName) ({ cls := "java/util/ArrayList$Itr", name := "hasNext", desc := "()Z" } : Jvm.MethodName)) ∈ lw_all := lw_g (lw_at lw_m4 212 rfl) rfl
theorem q1049 : (Jvm.Cond.unhidden "java/util/ArrayList$Itr" "hasNext" "()Z") ∈ lw_tbl := lw_at lw_m4 213 rfl
theorem q1050 : (Jvm.Cond.instanceMethod ({ cls := "java/util/ArrayList$Itr", name := "hasNext", desc := "()Z" } : Jvm.MethodName)) ∈ lw_all := lw_g (lw_at lw_m4 214 rfl) rfl
theorem q1051 : (Jvm.Cond.publicMethod ({ cls := "java/util/ArrayList$Itr", name := "hasNext", desc := "()Z" } : Jvm.MethodName)) ∈ lw_tbl := lw_at lw_m4 215 rfl
theorem q1052 : (Jvm.Cond.code ({ cls := "java/util/ArrayList$Itr", name := "hasNext", desc := "()Z" } : Jvm.MethodName) prog_46_method_2_code (1 : Nat) (Option.some Jvm.ClassFile.FieldType.boolean)) ∈ lw_all := lw_g (lw_at lw_m4 216 rfl) rfl
theorem q1057 : (Jvm.Cond.selects "java/util/ArrayList$Itr" ({ cls := "java/util/Iterator", name := "next", desc := "()Ljava/lang/Object;" } : Jvm.MethodName) ({ cls := "java/util/ArrayList$Itr", name := "next", desc := "()Ljava/lang/Object;" } : Jvm.MethodName)) ∈ lw_all := lw_g (lw_at lw_m4 221 rfl) rfl
theorem q1058 : (Jvm.Cond.unhidden "java/util/ArrayList$Itr" "next" "()Ljava/lang/Object;") ∈ lw_tbl := lw_at lw_m4 222 rfl
theorem q1059 : (Jvm.Cond.instanceMethod ({ cls := "java/util/ArrayList$Itr", name := "next", desc := "()Ljava/lang/Object;" } : Jvm.MethodName)) ∈ lw_all := lw_g (lw_at lw_m4 223 rfl) rfl
theorem q1060 : (Jvm.Cond.publicMethod ({ cls := "java/util/ArrayList$Itr", name := "next", desc := "()Ljava/lang/Object;" } : Jvm.MethodName)) ∈ lw_tbl := lw_at lw_m4 224 rfl
theorem q1061 : (Jvm.Cond.code ({ cls := "java/util/ArrayList$Itr", name := "next", desc := "()Ljava/lang/Object;" } : Jvm.MethodName) prog_46_method_3_code (3 : Nat) (Option.some (Jvm.ClassFile.FieldType.object "java/lang/Object"))) ∈ lw_all := lw_g (lw_at lw_m4 225 rfl) rfl
theorem q1062 : (Jvm.Cond.methodLink "java/util/ArrayList$Itr" (31 : Nat) ({ cls := "java/util/ArrayList$Itr", name := "checkForComodification", desc := "()V" } : Jvm.MethodName)) ∈ lw_all := lw_g (lw_at lw_m4 226 rfl) rfl
theorem q1063 : (Jvm.Cond.instanceMethod ({ cls := "java/util/ArrayList$Itr", name := "checkForComodification", desc := "()V" } : Jvm.MethodName)) ∈ lw_all := lw_g (lw_at lw_m4 227 rfl) rfl
theorem q1064 : (Jvm.Cond.selects "java/util/ArrayList$Itr" ({ cls := "java/util/ArrayList$Itr", name := "checkForComodification", desc := "()V" } : Jvm.MethodName) ({ cls := "java/util/ArrayList$Itr", name := "checkForComodification", desc := "()V" } : Jvm.MethodName)) ∈ lw_all := lw_g (lw_at lw_m4 228 rfl) rfl
theorem q1065 : (Jvm.Cond.code ({ cls := "java/util/ArrayList$Itr", name := "checkForComodification", desc := "()V" } : Jvm.MethodName) prog_46_method_6_code (1 : Nat) (Option.none : Option Jvm.ClassFile.FieldType)) ∈ lw_all := lw_g (lw_at lw_m4 229 rfl) rfl
theorem q1066 : (Jvm.Cond.classLink "java/util/ArrayList$Itr" (34 : Nat) "java/util/NoSuchElementException") ∈ lw_all := lw_g (lw_at lw_m4 230 rfl) rfl
theorem q1075 : (Jvm.Cond.methodLink "java/util/ArrayList$Itr" (36 : Nat) ({ cls := "java/util/NoSuchElementException", name := "<init>", desc := "()V" } : Jvm.MethodName)) ∈ lw_all := lw_g (lw_at lw_m4 239 rfl) rfl
theorem q2746 : (Jvm.Cond.castable "java/util/ArrayList$Itr" "java/lang/Object") ∈ lw_tbl := lw_at lw_m11 230 rfl
theorem in_J24 : ∀ w ∈ wsJ240, w ∈ lw_all := lw_in wsJ240 [1034, 1036, 1038, 1040] (by decide +kernel) (by decide +kernel)

/-! java/util/NoSuchElementException -/
def RJ25 : String := "java/util/NoSuchElementException"
def TJ25 : u_T := fun k => match k with
  | 0 => ("java/lang/Throwable", "cause", "Ljava/lang/Throwable;", false)
  | 1 => ("java/lang/Throwable", "stackTrace", "[Ljava/lang/StackTraceElement;", false)
  | 2 => ("java/lang/Throwable", "suppressedExceptions", "Ljava/util/List;", false)
  | 3 => ("java/lang/Throwable", "detailMessage", "Ljava/lang/String;", false)
  | 4 => ("java/lang/Throwable", "backtrace", "Ljava/lang/Object;", false)
  | _ => ("java/lang/Throwable", "depth", "I", false)
def tyJ25 : Nat → FieldType := fun k => match k with
  | 0 => .object "java/lang/Throwable"
  | 1 => .array (.object "java/lang/StackTraceElement")
  | 2 => .object "java/util/List"
  | 3 => .object "java/lang/String"
  | 4 => .object "java/lang/Object"
  | _ => .int
abbrev wsJ250 : List Cond := u_ws RJ25 TJ25 6
theorem nmJ25 : ∀ a, a < 6 → ∀ b, b < 6 → a ≠ b → (TJ25 a).2.1 ≠ (TJ25 b).2.1 := by decide +kernel
theorem tyJ25_ok : ∀ k, k < 6 → parseFieldDescriptor (TJ25 k).2.2.1 = some (tyJ25 k) := by decide +kernel
abbrev cJ25_init : ByteArray := prog_52_method_1_code
def yJ25_init : MethodName := ⟨RJ25, "<init>", "()V"⟩
theorem q151 : (Jvm.Cond.initialized "java/util/NoSuchElementException") ∈ lw_all := lw_g (lw_at lw_m1 35 rfl) rfl
theorem q384 : (Jvm.Cond.selects "java/util/NoSuchElementException" ({ cls := "java/lang/Throwable", name := "fillInStackTrace", desc := "()Ljava/lang/Throwable;" } : Jvm.MethodName) ({ cls := "java/lang/Throwable", name := "fillInStackTrace", desc := "()Ljava/lang/Throwable;" } : Jvm.MethodName)) ∈ lw_all := lw_g (lw_at lw_m2 28 rfl) rfl
theorem q918 : (Jvm.Cond.selects "java/util/NoSuchElementException" ({ cls := "java/lang/Object", name := "getClass", desc := "()Ljava/lang/Class;" } : Jvm.MethodName) ({ cls := "java/lang/Object", name := "getClass", desc := "()Ljava/lang/Class;" } : Jvm.MethodName)) ∈ lw_all := lw_g (lw_at lw_m4 82 rfl) rfl
theorem q1067 : (Jvm.Cond.instantiable "java/util/NoSuchElementException" (6 : Nat)) ∈ lw_all := lw_g (lw_at lw_m4 231 rfl) rfl
theorem q1068 : (Jvm.Cond.castable "java/util/NoSuchElementException" "java/util/NoSuchElementException") ∈ lw_tbl := lw_at lw_m4 232 rfl
theorem q1069 : (Jvm.Cond.selects "java/util/NoSuchElementException" ({ cls := "java/lang/Throwable", name := "fillInStackTrace", desc := "(I)Ljava/lang/Throwable;" } : Jvm.MethodName) ({ cls := "java/lang/Throwable", name := "fillInStackTrace", desc := "(I)Ljava/lang/Throwable;" } : Jvm.MethodName)) ∈ lw_all := lw_g (lw_at lw_m4 233 rfl) rfl
theorem q1070 : (Jvm.Cond.lays "java/util/NoSuchElementException" "java/lang/Throwable" "cause" "Ljava/lang/Throwable;") ∈ lw_all := lw_g (lw_at lw_m4 234 rfl) rfl
theorem q1071 : (Jvm.Cond.lays "java/util/NoSuchElementException" "java/lang/Throwable" "stackTrace" "[Ljava/lang/StackTraceElement;") ∈ lw_all := lw_g (lw_at lw_m4 235 rfl) rfl
theorem q1072 : (Jvm.Cond.lays "java/util/NoSuchElementException" "java/lang/Throwable" "suppressedExceptions" "Ljava/util/List;") ∈ lw_all := lw_g (lw_at lw_m4 236 rfl) rfl
theorem q1073 : (Jvm.Cond.lays "java/util/NoSuchElementException" "java/lang/Throwable" "detailMessage" "Ljava/lang/String;") ∈ lw_all := lw_g (lw_at lw_m4 237 rfl) rfl
theorem q1074 : (Jvm.Cond.lays "java/util/NoSuchElementException" "java/lang/Throwable" "backtrace" "Ljava/lang/Object;") ∈ lw_all := lw_g (lw_at lw_m4 238 rfl) rfl
theorem q1076 : (Jvm.Cond.instanceMethod ({ cls := "java/util/NoSuchElementException", name := "<init>", desc := "()V" } : Jvm.MethodName)) ∈ lw_all := lw_g (lw_at lw_m5 0 rfl) rfl
theorem q1077 : (Jvm.Cond.code ({ cls := "java/util/NoSuchElementException", name := "<init>", desc := "()V" } : Jvm.MethodName) prog_52_method_1_code (1 : Nat) (Option.none : Option Jvm.ClassFile.FieldType)) ∈ lw_all := lw_g (lw_at lw_m5 1 rfl) rfl
theorem q1078 : (Jvm.Cond.methodLink "java/util/NoSuchElementException" (1 : Nat) ({ cls := "java/lang/RuntimeException", name := "<init>", desc := "()V" } : Jvm.MethodName)) ∈ lw_all := lw_g (lw_at lw_m5 2 rfl) rfl
theorem q1079 : (Jvm.Cond.lays "java/util/NoSuchElementException" "java/lang/Throwable" "depth" "I") ∈ lw_all := lw_g (lw_at lw_m5 3 rfl) rfl
theorem q1080 : (Jvm.Cond.superclass "java/util/NoSuchElementException" "java/lang/RuntimeException") ∈ lw_all := lw_g (lw_at lw_m5 4 rfl) rfl
theorem q1274 : (Jvm.Cond.selects "java/util/NoSuchElementException" ({ cls := "java/lang/Throwable", name := "addSuppressed", desc := "(Ljava/lang/Throwable;)V" } : Jvm.MethodName) ({ cls := "java/lang/Throwable", name := "addSuppressed", desc := "(Ljava/lang/Throwable;)V" } : Jvm.MethodName)) ∈ lw_all := lw_g (lw_at lw_m5 198 rfl) rfl
theorem q2726 : (Jvm.Cond.castable "java/util/NoSuchElementException" "java/lang/Throwable") ∈ lw_tbl := lw_at lw_m11 210 rfl
theorem q2747 : (Jvm.Cond.castable "java/util/NoSuchElementException" "java/lang/Object") ∈ lw_tbl := lw_at lw_m11 231 rfl
theorem in_J25 : ∀ w ∈ wsJ250, w ∈ lw_all := lw_in wsJ250 [1070, 1071, 1072, 1073, 1074, 1079] (by decide +kernel) (by decide +kernel)

/-! ClockZones$Node -/
def RX9 : String := "ClockZones$Node"
def TX9 : u_T := fun k => match k with
  | 0 => ("ClockZones$Node", "place", "I", true)
  | 1 => ("ClockZones$Node", "by", "I", true)
  | 2 => ("ClockZones$Node", "edge", "I", true)
  | 3 => ("ClockZones$Node", "far", "I", true)
  | _ => ("ClockZones$Node", "table", "LClockZones$Table;", true)
def tyX9 : Nat → FieldType := fun k => match k with
  | 0 => .int
  | 1 => .int
  | 2 => .int
  | 3 => .int
  | _ => .object "ClockZones$Table"
abbrev wsX90 : List Cond := u_ws RX9 TX9 5
theorem nmX9 : ∀ a, a < 5 → ∀ b, b < 5 → a ≠ b → (TX9 a).2.1 ≠ (TX9 b).2.1 := by decide +kernel
theorem tyX9_ok : ∀ k, k < 5 → parseFieldDescriptor (TX9 k).2.2.1 = some (tyX9 k) := by decide +kernel
abbrev cX9_init : ByteArray := prog_5_method_2_code
def yX9_init : MethodName := ⟨RX9, "<init>", "(ILClockZones$Table;)V"⟩
abbrev cX9_init_2 : ByteArray := prog_5_method_1_code
def yX9_init_2 : MethodName := ⟨RX9, "<init>", "(ILClockZones$Table;III)V"⟩
theorem q152 : (Jvm.Cond.initialized "ClockZones$Node") ∈ lw_all := lw_g (lw_at lw_m1 36 rfl) rfl
theorem q846 : (Jvm.Cond.selects "ClockZones$Node" ({ cls := "java/lang/Object", name := "equals", desc := "(Ljava/lang/Object;)Z" } : Jvm.MethodName) ({ cls := "java/lang/Object", name := "equals", desc := "(Ljava/lang/Object;)Z" } : Jvm.MethodName)) ∈ lw_all := lw_g (lw_at lw_m4 10 rfl) rfl
theorem q898 : (Jvm.Cond.selects "ClockZones$Node" ({ cls := "java/lang/Object", name := "getClass", desc := "()Ljava/lang/Class;" } : Jvm.MethodName) ({ cls := "java/lang/Object", name := "getClass", desc := "()Ljava/lang/Class;" } : Jvm.MethodName)) ∈ lw_all := lw_g (lw_at lw_m4 62 rfl) rfl
theorem q1191 : (Jvm.Cond.instantiable "ClockZones$Node" (5 : Nat)) ∈ lw_all := lw_g (lw_at lw_m5 115 rfl) rfl
theorem q1193 : (Jvm.Cond.instanceMethod ({ cls := "ClockZones$Node", name := "<init>", desc := "(ILClockZones$Table;)V" } : Jvm.MethodName)) ∈ lw_all := lw_g (lw_at lw_m5 117 rfl) rfl
theorem q1194 : (Jvm.Cond.code ({ cls := "ClockZones$Node", name := "<init>", desc := "(ILClockZones$Table;)V" } : Jvm.MethodName) prog_5_method_2_code (3 : Nat) (Option.none : Option Jvm.ClassFile.FieldType)) ∈ lw_all := lw_g (lw_at lw_m5 118 rfl) rfl
theorem q1195 : (Jvm.Cond.methodLink "ClockZones$Node" (28 : Nat) ({ cls := "ClockZones$Node", name := "<init>", desc := "(ILClockZones$Table;III)V" } : Jvm.MethodName)) ∈ lw_all := lw_g (lw_at lw_m5 119 rfl) rfl
theorem q1196 : (Jvm.Cond.instanceMethod ({ cls := "ClockZones$Node", name := "<init>", desc := "(ILClockZones$Table;III)V" } : Jvm.MethodName)) ∈ lw_all := lw_g (lw_at lw_m5 120 rfl) rfl
theorem q1197 : (Jvm.Cond.code ({ cls := "ClockZones$Node", name := "<init>", desc := "(ILClockZones$Table;III)V" } : Jvm.MethodName) prog_5_method_1_code (6 : Nat) (Option.none : Option Jvm.ClassFile.FieldType)) ∈ lw_all := lw_g (lw_at lw_m5 121 rfl) rfl
theorem q1198 : (Jvm.Cond.methodLink "ClockZones$Node" (3 : Nat) ({ cls := "java/lang/Object", name := "<init>", desc := "()V" } : Jvm.MethodName)) ∈ lw_all := lw_g (lw_at lw_m5 122 rfl) rfl
theorem q1199 : (Jvm.Cond.fieldLink "ClockZones$Node" (9 : Nat) "ClockZones$Node" "place" "I") ∈ lw_all := lw_g (lw_at lw_m5 123 rfl) rfl
theorem q1201 : (Jvm.Cond.fieldLink "ClockZones$Node" (19 : Nat) "ClockZones$Node" "by" "I") ∈ lw_all := lw_g (lw_at lw_m5 125 rfl) rfl
theorem q1203 : (Jvm.Cond.fieldLink "ClockZones$Node" (22 : Nat) "ClockZones$Node" "edge" "I") ∈ lw_all := lw_g (lw_at lw_m5 127 rfl) rfl
theorem q1205 : (Jvm.Cond.fieldLink "ClockZones$Node" (25 : Nat) "ClockZones$Node" "far" "I") ∈ lw_all := lw_g (lw_at lw_m5 129 rfl) rfl
theorem q1207 : (Jvm.Cond.fieldLink "ClockZones$Node" (15 : Nat) "ClockZones$Node" "table" "LClockZones$Table;") ∈ lw_all := lw_g (lw_at lw_m5 131 rfl) rfl
theorem q1209 : (Jvm.Cond.laysFinal "ClockZones$Node" "ClockZones$Node" "place" "I") ∈ lw_all := lw_g (lw_at lw_m5 133 rfl) rfl
theorem q1210 : (Jvm.Cond.soleField "ClockZones$Node" "place") ∈ lw_all := lw_g (lw_at lw_m5 134 rfl) rfl
theorem q1211 : (Jvm.Cond.laysFinal "ClockZones$Node" "ClockZones$Node" "by" "I") ∈ lw_all := lw_g (lw_at lw_m5 135 rfl) rfl
theorem q1212 : (Jvm.Cond.soleField "ClockZones$Node" "by") ∈ lw_all := lw_g (lw_at lw_m5 136 rfl) rfl
theorem q1213 : (Jvm.Cond.laysFinal "ClockZones$Node" "ClockZones$Node" "edge" "I") ∈ lw_all := lw_g (lw_at lw_m5 137 rfl) rfl
theorem q1214 : (Jvm.Cond.soleField "ClockZones$Node" "edge") ∈ lw_all := lw_g (lw_at lw_m5 138 rfl) rfl
theorem q1215 : (Jvm.Cond.laysFinal "ClockZones$Node" "ClockZones$Node" "far" "I") ∈ lw_all := lw_g (lw_at lw_m5 139 rfl) rfl
theorem q1216 : (Jvm.Cond.soleField "ClockZones$Node" "far") ∈ lw_all := lw_g (lw_at lw_m5 140 rfl) rfl
theorem q1217 : (Jvm.Cond.laysFinal "ClockZones$Node" "ClockZones$Node" "table" "LClockZones$Table;") ∈ lw_all := lw_g (lw_at lw_m5 141 rfl) rfl
theorem q1218 : (Jvm.Cond.soleField "ClockZones$Node" "table") ∈ lw_all := lw_g (lw_at lw_m5 142 rfl) rfl
theorem q1219 : (Jvm.Cond.superclass "ClockZones$Node" "java/lang/Object") ∈ lw_all := lw_g (lw_at lw_m5 143 rfl) rfl
theorem q2748 : (Jvm.Cond.castable "ClockZones$Node" "java/lang/Object") ∈ lw_tbl := lw_at lw_m11 232 rfl
theorem in_X9 : ∀ w ∈ wsX90, w ∈ lw_all := lw_in wsX90 [1209, 1211, 1213, 1215, 1217] (by decide +kernel) (by decide +kernel)

/-! ClockZones$Past -/
def RX10 : String := "ClockZones$Past"
def TX10 : u_T := fun k => match k with
  | 0 => ("ClockZones$Past", "table", "LClockZones$Table;", true)
  | 1 => ("ClockZones$Past", "at", "I", true)
  | _ => ("ClockZones$Past", "trace", "Ljava/util/ArrayList;", true)
def tyX10 : Nat → FieldType := fun k => match k with
  | 0 => .object "ClockZones$Table"
  | 1 => .int
  | _ => .object "java/util/ArrayList"
abbrev wsX100 : List Cond := u_ws RX10 TX10 3
theorem nmX10 : ∀ a, a < 3 → ∀ b, b < 3 → a ≠ b → (TX10 a).2.1 ≠ (TX10 b).2.1 := by decide +kernel
theorem tyX10_ok : ∀ k, k < 3 → parseFieldDescriptor (TX10 k).2.2.1 = some (tyX10 k) := by decide +kernel
abbrev cX10_init : ByteArray := prog_6_method_1_code
def yX10_init : MethodName := ⟨RX10, "<init>", "(ILClockZones$Table;Ljava/util/ArrayList;)V"⟩
theorem q153 : (Jvm.Cond.initialized "ClockZones$Past") ∈ lw_all := lw_g (lw_at lw_m1 37 rfl) rfl
theorem q847 : (Jvm.Cond.selects "ClockZones$Past" ({ cls := "java/lang/Object", name := "equals", desc := "(Ljava/lang/Object;)Z" } : Jvm.MethodName) ({ cls := "java/lang/Object", name := "equals", desc := "(Ljava/lang/Object;)Z" } : Jvm.MethodName)) ∈ lw_all := lw_g (lw_at lw_m4 11 rfl) rfl
theorem q899 : (Jvm.Cond.selects "ClockZones$Past" ({ cls := "java/lang/Object", name := "getClass", desc := "()Ljava/lang/Class;" } : Jvm.MethodName) ({ cls := "java/lang/Object", name := "getClass", desc := "()Ljava/lang/Class;" } : Jvm.MethodName)) ∈ lw_all := lw_g (lw_at lw_m4 63 rfl) rfl
theorem q1384 : (Jvm.Cond.instantiable "ClockZones$Past" (3 : Nat)) ∈ lw_all := lw_g (lw_at lw_m6 68 rfl) rfl
theorem q1386 : (Jvm.Cond.instanceMethod ({ cls := "ClockZones$Past", name := "<init>", desc := "(ILClockZones$Table;Ljava/util/ArrayList;)V" } : Jvm.MethodName)) ∈ lw_all := lw_g (lw_at lw_m6 70 rfl) rfl
theorem q1387 : (Jvm.Cond.code ({ cls := "ClockZones$Past", name := "<init>", desc := "(ILClockZones$Table;Ljava/util/ArrayList;)V" } : Jvm.MethodName) prog_6_method_1_code (4 : Nat) (Option.none : Option Jvm.ClassFile.FieldType)) ∈ lw_all := lw_g (lw_at lw_m6 71 rfl) rfl
theorem q1388 : (Jvm.Cond.methodLink "ClockZones$Past" (1 : Nat) ({ cls := "java/lang/Object", name := "<init>", desc := "()V" } : Jvm.MethodName)) ∈ lw_all := lw_g (lw_at lw_m6 72 rfl) rfl
theorem q1389 : (Jvm.Cond.fieldLink "ClockZones$Past" (13 : Nat) "ClockZones$Past" "table" "LClockZones$Table;") ∈ lw_all := lw_g (lw_at lw_m6 73 rfl) rfl
theorem q1391 : (Jvm.Cond.fieldLink "ClockZones$Past" (7 : Nat) "ClockZones$Past" "at" "I") ∈ lw_all := lw_g (lw_at lw_m6 75 rfl) rfl
theorem q1393 : (Jvm.Cond.fieldLink "ClockZones$Past" (17 : Nat) "ClockZones$Past" "trace" "Ljava/util/ArrayList;") ∈ lw_all := lw_g (lw_at lw_m6 77 rfl) rfl
theorem q1395 : (Jvm.Cond.laysFinal "ClockZones$Past" "ClockZones$Past" "table" "LClockZones$Table;") ∈ lw_all := lw_g (lw_at lw_m6 79 rfl) rfl
theorem q1396 : (Jvm.Cond.soleField "ClockZones$Past" "table") ∈ lw_all := lw_g (lw_at lw_m6 80 rfl) rfl
theorem q1397 : (Jvm.Cond.laysFinal "ClockZones$Past" "ClockZones$Past" "at" "I") ∈ lw_all := lw_g (lw_at lw_m6 81 rfl) rfl
theorem q1398 : (Jvm.Cond.soleField "ClockZones$Past" "at") ∈ lw_all := lw_g (lw_at lw_m6 82 rfl) rfl
theorem q1399 : (Jvm.Cond.laysFinal "ClockZones$Past" "ClockZones$Past" "trace" "Ljava/util/ArrayList;") ∈ lw_all := lw_g (lw_at lw_m6 83 rfl) rfl
theorem q1400 : (Jvm.Cond.soleField "ClockZones$Past" "trace") ∈ lw_all := lw_g (lw_at lw_m6 84 rfl) rfl
theorem q1401 : (Jvm.Cond.superclass "ClockZones$Past" "java/lang/Object") ∈ lw_all := lw_g (lw_at lw_m6 85 rfl) rfl
theorem q2750 : (Jvm.Cond.castable "ClockZones$Past" "java/lang/Object") ∈ lw_tbl := lw_at lw_m11 234 rfl
theorem in_X10 : ∀ w ∈ wsX100, w ∈ lw_all := lw_in wsX100 [1395, 1397, 1399] (by decide +kernel) (by decide +kernel)

/-! java/lang/Number -/
def RJ26 : String := "java/lang/Number"
abbrev cJ26_init : ByteArray := prog_32_method_1_code
def yJ26_init : MethodName := ⟨RJ26, "<init>", "()V"⟩
theorem q154 : (Jvm.Cond.initialized "java/lang/Number") ∈ lw_all := lw_g (lw_at lw_m1 38 rfl) rfl
theorem q1643 : (Jvm.Cond.instanceMethod ({ cls := "java/lang/Number", name := "<init>", desc := "()V" } : Jvm.MethodName)) ∈ lw_all := lw_g (lw_at lw_m7 87 rfl) rfl
theorem q1644 : (Jvm.Cond.code ({ cls := "java/lang/Number", name := "<init>", desc := "()V" } : Jvm.MethodName) prog_32_method_1_code (1 : Nat) (Option.none : Option Jvm.ClassFile.FieldType)) ∈ lw_all := lw_g (lw_at lw_m7 88 rfl) rfl
theorem q1645 : (Jvm.Cond.methodLink "java/lang/Number" (1 : Nat) ({ cls := "java/lang/Object", name := "<init>", desc := "()V" } : Jvm.MethodName)) ∈ lw_all := lw_g (lw_at lw_m7 89 rfl) rfl

/-! java/lang/Integer -/
def RJ27 : String := "java/lang/Integer"
def TJ27 : u_T := fun k => match k with
  | _ => ("java/lang/Integer", "value", "I", true)
def tyJ27 : Nat → FieldType := fun k => match k with
  | _ => .int
abbrev wsJ270 : List Cond := u_ws RJ27 TJ27 1
theorem nmJ27 : ∀ a, a < 1 → ∀ b, b < 1 → a ≠ b → (TJ27 a).2.1 ≠ (TJ27 b).2.1 := by decide +kernel
theorem tyJ27_ok : ∀ k, k < 1 → parseFieldDescriptor (TJ27 k).2.2.1 = some (tyJ27 k) := by decide +kernel
abbrev cJ27_equals : ByteArray := prog_26_method_34_code
def yJ27_equals : MethodName := ⟨RJ27, "equals", "(Ljava/lang/Object;)Z"⟩
abbrev cJ27_intValue : ByteArray := prog_26_method_27_code
def yJ27_intValue : MethodName := ⟨RJ27, "intValue", "()I"⟩
abbrev cJ27_valueOf : ByteArray := prog_26_method_22_code
def yJ27_valueOf : MethodName := ⟨RJ27, "valueOf", "(I)Ljava/lang/Integer;"⟩
abbrev cJ27_init : ByteArray := prog_26_method_23_code
def yJ27_init : MethodName := ⟨RJ27, "<init>", "(I)V"⟩
abbrev cJ27_stringSize : ByteArray := prog_26_method_13_code
def yJ27_stringSize : MethodName := ⟨RJ27, "stringSize", "(I)I"⟩
abbrev cJ27_getChars : ByteArray := prog_26_method_12_code
def yJ27_getChars : MethodName := ⟨RJ27, "getChars", "(II[B)I"⟩
theorem q155 : (Jvm.Cond.initialized "java/lang/Integer") ∈ lw_all := lw_g (lw_at lw_m1 39 rfl) rfl
theorem q858 : (Jvm.Cond.selects "java/lang/Integer" ({ cls := "java/lang/Object", name := "equals", desc := "(Ljava/lang/Object;)Z" } : Jvm.MethodName) ({ cls := "java/lang/Integer", name := "equals", desc := "(Ljava/lang/Object;)Z" } : Jvm.MethodName)) ∈ lw_all := lw_g (lw_at lw_m4 22 rfl) rfl
theorem q859 : (Jvm.Cond.instanceMethod ({ cls := "java/lang/Integer", name := "equals", desc := "(Ljava/lang/Object;)Z" } : Jvm.MethodName)) ∈ lw_all := lw_g (lw_at lw_m4 23 rfl) rfl
theorem q860 : (Jvm.Cond.code ({ cls := "java/lang/Integer", name := "equals", desc := "(Ljava/lang/Object;)Z" } : Jvm.MethodName) prog_26_method_34_code (2 : Nat) (Option.some Jvm.ClassFile.FieldType.boolean)) ∈ lw_all := lw_g (lw_at lw_m4 24 rfl) rfl
theorem q861 : (Jvm.Cond.classLink "java/lang/Integer" (1 : Nat) "java/lang/Integer") ∈ lw_all := lw_g (lw_at lw_m4 25 rfl) rfl
theorem q862 : (Jvm.Cond.methodLink "java/lang/Integer" (211 : Nat) ({ cls := "java/lang/Integer", name := "intValue", desc := "()I" } : Jvm.MethodName)) ∈ lw_all := lw_g (lw_at lw_m4 26 rfl) rfl
theorem q863 : (Jvm.Cond.instanceMethod ({ cls := "java/lang/Integer", name := "intValue", desc := "()I" } : Jvm.MethodName)) ∈ lw_all := lw_g (lw_at lw_m4 27 rfl) rfl
theorem q864 : (Jvm.Cond.selects "java/lang/Integer" ({ cls := "java/lang/Integer", name := "intValue", desc := "()I" } : Jvm.MethodName) ({ cls := "java/lang/Integer", name := "intValue", desc := "()I" } : Jvm.MethodName)) ∈ lw_all := lw_g (lw_at lw_m4 28 rfl) rfl
theorem q865 : (Jvm.Cond.code ({ cls := "java/lang/Integer", name := "intValue", desc := "()I" } : Jvm.MethodName) prog_26_method_27_code (1 : Nat) (Option.some Jvm.ClassFile.FieldType.int)) ∈ lw_all := lw_g (lw_at lw_m4 29 rfl) rfl
theorem q910 : (Jvm.Cond.selects "java/lang/Integer" ({ cls := "java/lang/Object", name := "getClass", desc := "()Ljava/lang/Class;" } : Jvm.MethodName) ({ cls := "java/lang/Object", name := "getClass", desc := "()Ljava/lang/Class;" } : Jvm.MethodName)) ∈ lw_all := lw_g (lw_at lw_m4 74 rfl) rfl
theorem q1632 : (Jvm.Cond.static ({ cls := "java/lang/Integer", name := "valueOf", desc := "(I)Ljava/lang/Integer;" } : Jvm.MethodName)) ∈ lw_all := lw_g (lw_at lw_m7 76 rfl) rfl
theorem q1633 : (Jvm.Cond.code ({ cls := "java/lang/Integer", name := "valueOf", desc := "(I)Ljava/lang/Integer;" } : Jvm.MethodName) prog_26_method_22_code (1 : Nat) (Option.some (Jvm.ClassFile.FieldType.object "java/lang/Integer"))) ∈ lw_all := lw_g (lw_at lw_m7 77 rfl) rfl
theorem q1634 : (Jvm.Cond.fieldLink "java/lang/Integer" (191 : Nat) "java/lang/Integer$IntegerCache" "high" "I") ∈ lw_all := lw_g (lw_at lw_m7 78 rfl) rfl
theorem q1636 : (Jvm.Cond.fieldLink "java/lang/Integer" (195 : Nat) "java/lang/Integer$IntegerCache" "cache" "[Ljava/lang/Integer;") ∈ lw_all := lw_g (lw_at lw_m7 80 rfl) rfl
theorem q1638 : (Jvm.Cond.instantiable "java/lang/Integer" (1 : Nat)) ∈ lw_all := lw_g (lw_at lw_m7 82 rfl) rfl
theorem q1639 : (Jvm.Cond.methodLink "java/lang/Integer" (199 : Nat) ({ cls := "java/lang/Integer", name := "<init>", desc := "(I)V" } : Jvm.MethodName)) ∈ lw_all := lw_g (lw_at lw_m7 83 rfl) rfl
theorem q1640 : (Jvm.Cond.instanceMethod ({ cls := "java/lang/Integer", name := "<init>", desc := "(I)V" } : Jvm.MethodName)) ∈ lw_all := lw_g (lw_at lw_m7 84 rfl) rfl
theorem q1641 : (Jvm.Cond.code ({ cls := "java/lang/Integer", name := "<init>", desc := "(I)V" } : Jvm.MethodName) prog_26_method_23_code (2 : Nat) (Option.none : Option Jvm.ClassFile.FieldType)) ∈ lw_all := lw_g (lw_at lw_m7 85 rfl) rfl
theorem q1642 : (Jvm.Cond.methodLink "java/lang/Integer" (202 : Nat) ({ cls := "java/lang/Number", name := "<init>", desc := "()V" } : Jvm.MethodName)) ∈ lw_all := lw_g (lw_at lw_m7 86 rfl) rfl
theorem q1646 : (Jvm.Cond.fieldLink "java/lang/Integer" (205 : Nat) "java/lang/Integer" "value" "I") ∈ lw_all := lw_g (lw_at lw_m7 90 rfl) rfl
theorem q1647 : (Jvm.Cond.laysFinal "java/lang/Integer" "java/lang/Integer" "value" "I") ∈ lw_all := lw_g (lw_at lw_m7 91 rfl) rfl
theorem q1648 : (Jvm.Cond.soleField "java/lang/Integer" "value") ∈ lw_all := lw_g (lw_at lw_m7 92 rfl) rfl
theorem q1649 : (Jvm.Cond.superclass "java/lang/Integer" "java/lang/Number") ∈ lw_all := lw_g (lw_at lw_m7 93 rfl) rfl
theorem q1721 : (Jvm.Cond.static ({ cls := "java/lang/Integer", name := "stringSize", desc := "(I)I" } : Jvm.MethodName)) ∈ lw_all := lw_g (lw_at lw_m7 165 rfl) rfl
theorem q1722 : (Jvm.Cond.code ({ cls := "java/lang/Integer", name := "stringSize", desc := "(I)I" } : Jvm.MethodName) prog_26_method_13_code (4 : Nat) (Option.some Jvm.ClassFile.FieldType.int)) ∈ lw_all := lw_g (lw_at lw_m7 166 rfl) rfl
theorem q1724 : (Jvm.Cond.static ({ cls := "java/lang/Integer", name := "getChars", desc := "(II[B)I" } : Jvm.MethodName)) ∈ lw_all := lw_g (lw_at lw_m7 168 rfl) rfl
theorem q1725 : (Jvm.Cond.code ({ cls := "java/lang/Integer", name := "getChars", desc := "(II[B)I" } : Jvm.MethodName) prog_26_method_12_code (7 : Nat) (Option.some Jvm.ClassFile.FieldType.int)) ∈ lw_all := lw_g (lw_at lw_m7 169 rfl) rfl
theorem q1726 : (Jvm.Cond.fieldLink "java/lang/Integer" (83 : Nat) "java/lang/Integer" "DigitOnes" "[B") ∈ lw_all := lw_g (lw_at lw_m7 170 rfl) rfl
theorem q1727 : (Jvm.Cond.laysStatic "java/lang/Integer" "DigitOnes" "[B") ∈ lw_tbl := lw_at lw_m7 171 rfl
theorem q1728 : (Jvm.Cond.fieldLink "java/lang/Integer" (87 : Nat) "java/lang/Integer" "DigitTens" "[B") ∈ lw_all := lw_g (lw_at lw_m7 172 rfl) rfl
theorem q1729 : (Jvm.Cond.laysStatic "java/lang/Integer" "DigitTens" "[B") ∈ lw_tbl := lw_at lw_m7 173 rfl
theorem q2751 : (Jvm.Cond.castable "java/lang/Integer" "java/lang/Object") ∈ lw_tbl := lw_at lw_m11 235 rfl
theorem in_J27 : ∀ w ∈ wsJ270, w ∈ lw_all := lw_in wsJ270 [1647] (by decide +kernel) (by decide +kernel)

/-! ClockZones$Times -/
def RX11 : String := "ClockZones$Times"
def TX11 : u_T := fun k => match k with
  | 0 => ("ClockZones$Table", "size", "I", true)
  | 1 => ("ClockZones$Table", "row", "[I", true)
  | 2 => ("ClockZones$Table", "isEmpty", "Z", false)
  | 3 => ("ClockZones$Times", "since", "[I", true)
  | 4 => ("ClockZones$Times", "from", "[I", true)
  | 5 => ("ClockZones$Times", "sinces", "[[I", true)
  | 6 => ("ClockZones$Times", "froms", "[[I", true)
  | _ => ("ClockZones$Times", "this$0", "LClockZones;", true)
def tyX11 : Nat → FieldType := fun k => match k with
  | 0 => .int
  | 1 => .array .int
  | 2 => .boolean
  | 3 => .array .int
  | 4 => .array .int
  | 5 => .array (.array .int)
  | 6 => .array (.array .int)
  | _ => .object "ClockZones"
abbrev wsX110 : List Cond := u_ws RX11 TX11 8
theorem nmX11 : ∀ a, a < 8 → ∀ b, b < 8 → a ≠ b → (TX11 a).2.1 ≠ (TX11 b).2.1 := by decide +kernel
theorem tyX11_ok : ∀ k, k < 8 → parseFieldDescriptor (TX11 k).2.2.1 = some (tyX11 k) := by decide +kernel
abbrev cX11_init : ByteArray := prog_10_method_1_code
def yX11_init : MethodName := ⟨RX11, "<init>", "(LClockZones;Ljava/util/ArrayList;I)V"⟩
abbrev cX11_holds : ByteArray := prog_10_method_2_code
def yX11_holds : MethodName := ⟨RX11, "holds", "(Ljava/util/ArrayList;I)V"⟩
abbrev cX11_asks : ByteArray := prog_10_method_3_code
def yX11_asks : MethodName := ⟨RX11, "asks", "(LClockZones$Said;I)V"⟩
abbrev cX11_goes : ByteArray := prog_10_method_4_code
def yX11_goes : MethodName := ⟨RX11, "goes", "(ILClockZones$Edge;)V"⟩
theorem q157 : (Jvm.Cond.initialized "ClockZones$Times") ∈ lw_all := lw_g (lw_at lw_m1 41 rfl) rfl
theorem q214 : (Jvm.Cond.fieldLinkNest "ClockZones$Times" (38 : Nat) "ClockZones$Net" "stays" "Ljava/util/ArrayList;" "ClockZones") ∈ lw_tbl := lw_at lw_m1 98 rfl
theorem q218 : (Jvm.Cond.fieldLinkNest "ClockZones$Times" (58 : Nat) "ClockZones$Net" "edges" "Ljava/util/ArrayList;" "ClockZones") ∈ lw_tbl := lw_at lw_m1 102 rfl
theorem q221 : (Jvm.Cond.fieldLinkNest "ClockZones$Times" (44 : Nat) "ClockZones$Net" "start" "I" "ClockZones") ∈ lw_tbl := lw_at lw_m1 105 rfl
theorem q269 : (Jvm.Cond.fieldLink "ClockZones$Times" (106 : Nat) "ClockZones$Times" "isEmpty" "Z") ∈ lw_all := lw_g (lw_at lw_m1 153 rfl) rfl
theorem q270 : (Jvm.Cond.sameField "ClockZones$Times" "ClockZones$Table" "isEmpty" "Z") ∈ lw_all := lw_g (lw_at lw_m1 154 rfl) rfl
theorem q304 : (Jvm.Cond.fieldLinkNest "ClockZones$Times" (34 : Nat) "ClockZones" "net" "LClockZones$Net;" "ClockZones") ∈ lw_tbl := lw_at lw_m1 188 rfl
theorem q851 : (Jvm.Cond.selects "ClockZones$Times" ({ cls := "java/lang/Object", name := "equals", desc := "(Ljava/lang/Object;)Z" } : Jvm.MethodName) ({ cls := "java/lang/Object", name := "equals", desc := "(Ljava/lang/Object;)Z" } : Jvm.MethodName)) ∈ lw_all := lw_g (lw_at lw_m4 15 rfl) rfl
theorem q903 : (Jvm.Cond.selects "ClockZones$Times" ({ cls := "java/lang/Object", name := "getClass", desc := "()Ljava/lang/Class;" } : Jvm.MethodName) ({ cls := "java/lang/Object", name := "getClass", desc := "()Ljava/lang/Class;" } : Jvm.MethodName)) ∈ lw_all := lw_g (lw_at lw_m4 67 rfl) rfl
theorem q965 : (Jvm.Cond.fieldLinkNest "ClockZones$Times" (97 : Nat) "ClockZones$Said" "clock" "I" "ClockZones") ∈ lw_tbl := lw_at lw_m4 129 rfl
theorem q970 : (Jvm.Cond.fieldLinkNest "ClockZones$Times" (100 : Nat) "ClockZones$Said" "rel" "I" "ClockZones") ∈ lw_tbl := lw_at lw_m4 134 rfl
theorem q973 : (Jvm.Cond.fieldLinkNest "ClockZones$Times" (103 : Nat) "ClockZones$Said" "n" "I" "ClockZones") ∈ lw_tbl := lw_at lw_m4 137 rfl
theorem q992 : (Jvm.Cond.fieldLinkNest "ClockZones$Times" (124 : Nat) "ClockZones$Edge" "from" "I" "ClockZones") ∈ lw_tbl := lw_at lw_m4 156 rfl
theorem q995 : (Jvm.Cond.fieldLinkNest "ClockZones$Times" (132 : Nat) "ClockZones$Edge" "to" "I" "ClockZones") ∈ lw_tbl := lw_at lw_m4 159 rfl
theorem q999 : (Jvm.Cond.fieldLinkNest "ClockZones$Times" (126 : Nat) "ClockZones$Edge" "whens" "Ljava/util/ArrayList;" "ClockZones") ∈ lw_tbl := lw_at lw_m4 163 rfl
theorem q1004 : (Jvm.Cond.fieldLinkNest "ClockZones$Times" (129 : Nat) "ClockZones$Edge" "sets" "Ljava/util/ArrayList;" "ClockZones") ∈ lw_tbl := lw_at lw_m4 168 rfl
theorem q1138 : (Jvm.Cond.selects "ClockZones$Times" ({ cls := "ClockZones$Table", name := "says", desc := "(IIII)V" } : Jvm.MethodName) ({ cls := "ClockZones$Table", name := "says", desc := "(IIII)V" } : Jvm.MethodName)) ∈ lw_all := lw_g (lw_at lw_m5 62 rfl) rfl
theorem q1147 : (Jvm.Cond.selects "ClockZones$Times" ({ cls := "ClockZones$Table", name := "least", desc := "(III)V" } : Jvm.MethodName) ({ cls := "ClockZones$Table", name := "least", desc := "(III)V" } : Jvm.MethodName)) ∈ lw_all := lw_g (lw_at lw_m5 71 rfl) rfl
theorem q1153 : (Jvm.Cond.selects "ClockZones$Times" ({ cls := "ClockZones$Table", name := "of", desc := "(II)I" } : Jvm.MethodName) ({ cls := "ClockZones$Table", name := "of", desc := "(II)I" } : Jvm.MethodName)) ∈ lw_all := lw_g (lw_at lw_m5 77 rfl) rfl
theorem q1160 : (Jvm.Cond.selects "ClockZones$Times" ({ cls := "ClockZones$Table", name := "lays", desc := "(III)V" } : Jvm.MethodName) ({ cls := "ClockZones$Table", name := "lays", desc := "(III)V" } : Jvm.MethodName)) ∈ lw_all := lw_g (lw_at lw_m5 84 rfl) rfl
theorem q1169 : (Jvm.Cond.selects "ClockZones$Times" ({ cls := "ClockZones$Table", name := "closes", desc := "()V" } : Jvm.MethodName) ({ cls := "ClockZones$Table", name := "closes", desc := "()V" } : Jvm.MethodName)) ∈ lw_all := lw_g (lw_at lw_m5 93 rfl) rfl
theorem q1181 : (Jvm.Cond.selects "ClockZones$Times" ({ cls := "ClockZones$Table", name := "up", desc := "()V" } : Jvm.MethodName) ({ cls := "ClockZones$Table", name := "up", desc := "()V" } : Jvm.MethodName)) ∈ lw_all := lw_g (lw_at lw_m5 105 rfl) rfl
theorem q1187 : (Jvm.Cond.selects "ClockZones$Times" ({ cls := "ClockZones$Table", name := "roughens", desc := "([I)V" } : Jvm.MethodName) ({ cls := "ClockZones$Table", name := "roughens", desc := "([I)V" } : Jvm.MethodName)) ∈ lw_all := lw_g (lw_at lw_m5 111 rfl) rfl
theorem q1235 : (Jvm.Cond.selects "ClockZones$Times" ({ cls := "ClockZones$Table", name := "likens", desc := "(LClockZones$Table;)V" } : Jvm.MethodName) ({ cls := "ClockZones$Table", name := "likens", desc := "(LClockZones$Table;)V" } : Jvm.MethodName)) ∈ lw_all := lw_g (lw_at lw_m5 159 rfl) rfl
theorem q1246 : (Jvm.Cond.selects "ClockZones$Times" ({ cls := "ClockZones$Table", name := "sets", desc := "(II)V" } : Jvm.MethodName) ({ cls := "ClockZones$Table", name := "sets", desc := "(II)V" } : Jvm.MethodName)) ∈ lw_all := lw_g (lw_at lw_m5 170 rfl) rfl
theorem q1256 : (Jvm.Cond.selects "ClockZones$Times" ({ cls := "ClockZones$Table", name := "holds", desc := "(LClockZones$Table;)Z" } : Jvm.MethodName) ({ cls := "ClockZones$Table", name := "holds", desc := "(LClockZones$Table;)Z" } : Jvm.MethodName)) ∈ lw_all := lw_g (lw_at lw_m5 180 rfl) rfl
theorem q1365 : (Jvm.Cond.selects "ClockZones$Times" ({ cls := "ClockZones$Table", name := "nulls", desc := "()V" } : Jvm.MethodName) ({ cls := "ClockZones$Table", name := "nulls", desc := "()V" } : Jvm.MethodName)) ∈ lw_all := lw_g (lw_at lw_m6 49 rfl) rfl
theorem q1371 : (Jvm.Cond.selects "ClockZones$Times" ({ cls := "ClockZones$Table", name := "opens", desc := "()LClockZones$Table;" } : Jvm.MethodName) ({ cls := "ClockZones$Table", name := "opens", desc := "()LClockZones$Table;" } : Jvm.MethodName)) ∈ lw_all := lw_g (lw_at lw_m6 55 rfl) rfl
theorem q1381 : (Jvm.Cond.selects "ClockZones$Times" ({ cls := "ClockZones$Table", name := "isTooWide", desc := "()Z" } : Jvm.MethodName) ({ cls := "ClockZones$Table", name := "isTooWide", desc := "()Z" } : Jvm.MethodName)) ∈ lw_all := lw_g (lw_at lw_m6 65 rfl) rfl
theorem q1449 : (Jvm.Cond.selects "ClockZones$Times" ({ cls := "ClockZones$Table", name := "down", desc := "()V" } : Jvm.MethodName) ({ cls := "ClockZones$Table", name := "down", desc := "()V" } : Jvm.MethodName)) ∈ lw_all := lw_g (lw_at lw_m6 133 rfl) rfl
theorem q1463 : (Jvm.Cond.selects "ClockZones$Times" ({ cls := "ClockZones$Table", name := "frees", desc := "(I)V" } : Jvm.MethodName) ({ cls := "ClockZones$Table", name := "frees", desc := "(I)V" } : Jvm.MethodName)) ∈ lw_all := lw_g (lw_at lw_m6 147 rfl) rfl
theorem q1477 : (Jvm.Cond.selects "ClockZones$Times" ({ cls := "ClockZones$Table", name := "joins", desc := "(LClockZones$Table;)V" } : Jvm.MethodName) ({ cls := "ClockZones$Table", name := "joins", desc := "(LClockZones$Table;)V" } : Jvm.MethodName)) ∈ lw_all := lw_g (lw_at lw_m6 161 rfl) rfl
theorem q1488 : (Jvm.Cond.selects "ClockZones$Times" ({ cls := "ClockZones$Table", name := "meets", desc := "(LClockZones$Table;)V" } : Jvm.MethodName) ({ cls := "ClockZones$Table", name := "meets", desc := "(LClockZones$Table;)V" } : Jvm.MethodName)) ∈ lw_all := lw_g (lw_at lw_m6 172 rfl) rfl
theorem q1539 : (Jvm.Cond.selects "ClockZones$Times" ({ cls := "ClockZones$Table", name := "hasAll", desc := "(I[I)Z" } : Jvm.MethodName) ({ cls := "ClockZones$Table", name := "hasAll", desc := "(I[I)Z" } : Jvm.MethodName)) ∈ lw_all := lw_g (lw_at lw_m6 223 rfl) rfl
theorem q1571 : (Jvm.Cond.selects "ClockZones$Times" ({ cls := "ClockZones$Table", name := "told", desc := "(IIII)I" } : Jvm.MethodName) ({ cls := "ClockZones$Table", name := "told", desc := "(IIII)I" } : Jvm.MethodName)) ∈ lw_all := lw_g (lw_at lw_m7 15 rfl) rfl
theorem q1598 : (Jvm.Cond.selects "ClockZones$Times" ({ cls := "ClockZones$Table", name := "wholes", desc := "()V" } : Jvm.MethodName) ({ cls := "ClockZones$Table", name := "wholes", desc := "()V" } : Jvm.MethodName)) ∈ lw_all := lw_g (lw_at lw_m7 42 rfl) rfl
theorem q1604 : (Jvm.Cond.selects "ClockZones$Times" ({ cls := "ClockZones$Table", name := "leastOf", desc := "(I)I" } : Jvm.MethodName) ({ cls := "ClockZones$Table", name := "leastOf", desc := "(I)I" } : Jvm.MethodName)) ∈ lw_all := lw_g (lw_at lw_m7 48 rfl) rfl
theorem q1788 : (Jvm.Cond.instantiable "ClockZones$Times" (8 : Nat)) ∈ lw_all := lw_g (lw_at lw_m7 232 rfl) rfl
theorem q1790 : (Jvm.Cond.instanceMethod ({ cls := "ClockZones$Times", name := "<init>", desc := "(LClockZones;Ljava/util/ArrayList;I)V" } : Jvm.MethodName)) ∈ lw_all := lw_g (lw_at lw_m7 234 rfl) rfl
theorem q1791 : (Jvm.Cond.code ({ cls := "ClockZones$Times", name := "<init>", desc := "(LClockZones;Ljava/util/ArrayList;I)V" } : Jvm.MethodName) prog_10_method_1_code (5 : Nat) (Option.none : Option Jvm.ClassFile.FieldType)) ∈ lw_all := lw_g (lw_at lw_m7 235 rfl) rfl
theorem q1792 : (Jvm.Cond.methodLink "ClockZones$Times" (9 : Nat) ({ cls := "ClockZones$Table", name := "<init>", desc := "(I)V" } : Jvm.MethodName)) ∈ lw_all := lw_g (lw_at lw_m7 236 rfl) rfl
theorem q1793 : (Jvm.Cond.classLink "ClockZones$Times" (22 : Nat) "[I") ∈ lw_all := lw_g (lw_at lw_m7 237 rfl) rfl
theorem q1795 : (Jvm.Cond.methodLink "ClockZones$Times" (30 : Nat) ({ cls := "ClockZones$Times", name := "opens", desc := "()LClockZones$Table;" } : Jvm.MethodName)) ∈ lw_all := lw_g (lw_at lw_m7 239 rfl) rfl
theorem q1796 : (Jvm.Cond.sameMethod "ClockZones$Times" "ClockZones$Table" "opens" "()LClockZones$Table;") ∈ lw_all := lw_g (lw_at lw_m8 0 rfl) rfl
theorem q1798 : (Jvm.Cond.selects "ClockZones$Times" ({ cls := "ClockZones$Times", name := "opens", desc := "()LClockZones$Table;" } : Jvm.MethodName) ({ cls := "ClockZones$Table", name := "opens", desc := "()LClockZones$Table;" } : Jvm.MethodName)) ∈ lw_all := lw_g (lw_at lw_m8 2 rfl) rfl
theorem q1799 : (Jvm.Cond.methodLink "ClockZones$Times" (48 : Nat) ({ cls := "java/util/ArrayList", name := "get", desc := "(I)Ljava/lang/Object;" } : Jvm.MethodName)) ∈ lw_all := lw_g (lw_at lw_m8 3 rfl) rfl
theorem q1800 : (Jvm.Cond.classLink "ClockZones$Times" (49 : Nat) "java/util/ArrayList") ∈ lw_all := lw_g (lw_at lw_m8 4 rfl) rfl
theorem q1801 : (Jvm.Cond.methodLink "ClockZones$Times" (54 : Nat) ({ cls := "ClockZones$Times", name := "holds", desc := "(Ljava/util/ArrayList;I)V" } : Jvm.MethodName)) ∈ lw_all := lw_g (lw_at lw_m8 5 rfl) rfl
theorem q1802 : (Jvm.Cond.privateMethod ({ cls := "ClockZones$Times", name := "holds", desc := "(Ljava/util/ArrayList;I)V" } : Jvm.MethodName)) ∈ lw_tbl := lw_at lw_m8 6 rfl
theorem q1803 : (Jvm.Cond.instanceMethod ({ cls := "ClockZones$Times", name := "holds", desc := "(Ljava/util/ArrayList;I)V" } : Jvm.MethodName)) ∈ lw_all := lw_g (lw_at lw_m8 7 rfl) rfl
theorem q1804 : (Jvm.Cond.code ({ cls := "ClockZones$Times", name := "holds", desc := "(Ljava/util/ArrayList;I)V" } : Jvm.MethodName) prog_10_method_2_code (5 : Nat) (Option.none : Option Jvm.ClassFile.FieldType)) ∈ lw_all := lw_g (lw_at lw_m8 8 rfl) rfl
theorem q1805 : (Jvm.Cond.methodLink "ClockZones$Times" (77 : Nat) ({ cls := "java/util/ArrayList", name := "iterator", desc := "()Ljava/util/Iterator;" } : Jvm.MethodName)) ∈ lw_all := lw_g (lw_at lw_m8 9 rfl) rfl
theorem q1806 : (Jvm.Cond.interfaceEntry "ClockZones$Times" (81 : Nat)) ∈ lw_tbl := lw_at lw_m8 10 rfl
theorem q1807 : (Jvm.Cond.methodLink "ClockZones$Times" (81 : Nat) ({ cls := "java/util/Iterator", name := "hasNext", desc := "()Z" } : Jvm.MethodName)) ∈ lw_all := lw_g (lw_at lw_m8 11 rfl) rfl
theorem q1808 : (Jvm.Cond.interfaceEntry "ClockZones$Times" (87 : Nat)) ∈ lw_tbl := lw_at lw_m8 12 rfl
theorem q1809 : (Jvm.Cond.methodLink "ClockZones$Times" (87 : Nat) ({ cls := "java/util/Iterator", name := "next", desc := "()Ljava/lang/Object;" } : Jvm.MethodName)) ∈ lw_all := lw_g (lw_at lw_m8 13 rfl) rfl
theorem q1810 : (Jvm.Cond.classLink "ClockZones$Times" (91 : Nat) "ClockZones$Said") ∈ lw_all := lw_g (lw_at lw_m8 14 rfl) rfl
theorem q1811 : (Jvm.Cond.methodLink "ClockZones$Times" (93 : Nat) ({ cls := "ClockZones$Times", name := "asks", desc := "(LClockZones$Said;I)V" } : Jvm.MethodName)) ∈ lw_all := lw_g (lw_at lw_m8 15 rfl) rfl
theorem q1812 : (Jvm.Cond.privateMethod ({ cls := "ClockZones$Times", name := "asks", desc := "(LClockZones$Said;I)V" } : Jvm.MethodName)) ∈ lw_tbl := lw_at lw_m8 16 rfl
theorem q1813 : (Jvm.Cond.instanceMethod ({ cls := "ClockZones$Times", name := "asks", desc := "(LClockZones$Said;I)V" } : Jvm.MethodName)) ∈ lw_all := lw_g (lw_at lw_m8 17 rfl) rfl
theorem q1814 : (Jvm.Cond.code ({ cls := "ClockZones$Times", name := "asks", desc := "(LClockZones$Said;I)V" } : Jvm.MethodName) prog_10_method_3_code (5 : Nat) (Option.none : Option Jvm.ClassFile.FieldType)) ∈ lw_all := lw_g (lw_at lw_m8 18 rfl) rfl
theorem q1815 : (Jvm.Cond.methodLink "ClockZones$Times" (110 : Nat) ({ cls := "ClockZones$Times", name := "says", desc := "(IIII)V" } : Jvm.MethodName)) ∈ lw_all := lw_g (lw_at lw_m8 19 rfl) rfl
theorem q1816 : (Jvm.Cond.sameMethod "ClockZones$Times" "ClockZones$Table" "says" "(IIII)V") ∈ lw_all := lw_g (lw_at lw_m8 20 rfl) rfl
theorem q1818 : (Jvm.Cond.selects "ClockZones$Times" ({ cls := "ClockZones$Times", name := "says", desc := "(IIII)V" } : Jvm.MethodName) ({ cls := "ClockZones$Table", name := "says", desc := "(IIII)V" } : Jvm.MethodName)) ∈ lw_all := lw_g (lw_at lw_m8 22 rfl) rfl
theorem q1819 : (Jvm.Cond.classLink "ClockZones$Times" (61 : Nat) "java/lang/Integer") ∈ lw_all := lw_g (lw_at lw_m8 23 rfl) rfl
theorem q1820 : (Jvm.Cond.methodLink "ClockZones$Times" (63 : Nat) ({ cls := "java/lang/Integer", name := "intValue", desc := "()I" } : Jvm.MethodName)) ∈ lw_all := lw_g (lw_at lw_m8 24 rfl) rfl
theorem q1821 : (Jvm.Cond.classLink "ClockZones$Times" (67 : Nat) "ClockZones$Edge") ∈ lw_all := lw_g (lw_at lw_m8 25 rfl) rfl
theorem q1822 : (Jvm.Cond.methodLink "ClockZones$Times" (69 : Nat) ({ cls := "ClockZones$Times", name := "goes", desc := "(ILClockZones$Edge;)V" } : Jvm.MethodName)) ∈ lw_all := lw_g (lw_at lw_m8 26 rfl) rfl
theorem q1823 : (Jvm.Cond.privateMethod ({ cls := "ClockZones$Times", name := "goes", desc := "(ILClockZones$Edge;)V" } : Jvm.MethodName)) ∈ lw_tbl := lw_at lw_m8 27 rfl
theorem q1824 : (Jvm.Cond.instanceMethod ({ cls := "ClockZones$Times", name := "goes", desc := "(ILClockZones$Edge;)V" } : Jvm.MethodName)) ∈ lw_all := lw_g (lw_at lw_m8 28 rfl) rfl
theorem q1825 : (Jvm.Cond.code ({ cls := "ClockZones$Times", name := "goes", desc := "(ILClockZones$Edge;)V" } : Jvm.MethodName) prog_10_method_4_code (5 : Nat) (Option.none : Option Jvm.ClassFile.FieldType)) ∈ lw_all := lw_g (lw_at lw_m8 29 rfl) rfl
theorem q1826 : (Jvm.Cond.fieldLinkNest "ClockZones$Times" (114 : Nat) "ClockZones" "NULL" "I" "ClockZones") ∈ lw_tbl := lw_at lw_m8 30 rfl
theorem q1827 : (Jvm.Cond.methodLink "ClockZones$Times" (117 : Nat) ({ cls := "ClockZones$Times", name := "least", desc := "(III)V" } : Jvm.MethodName)) ∈ lw_all := lw_g (lw_at lw_m8 31 rfl) rfl
theorem q1828 : (Jvm.Cond.sameMethod "ClockZones$Times" "ClockZones$Table" "least" "(III)V") ∈ lw_all := lw_g (lw_at lw_m8 32 rfl) rfl
theorem q1830 : (Jvm.Cond.selects "ClockZones$Times" ({ cls := "ClockZones$Times", name := "least", desc := "(III)V" } : Jvm.MethodName) ({ cls := "ClockZones$Table", name := "least", desc := "(III)V" } : Jvm.MethodName)) ∈ lw_all := lw_g (lw_at lw_m8 34 rfl) rfl
theorem q1831 : (Jvm.Cond.methodLink "ClockZones$Times" (121 : Nat) ({ cls := "[I", name := "clone", desc := "()Ljava/lang/Object;" } : Jvm.MethodName)) ∈ lw_all := lw_g (lw_at lw_m8 35 rfl) rfl
theorem q1835 : (Jvm.Cond.methodLink "ClockZones$Times" (73 : Nat) ({ cls := "ClockZones$Times", name := "closes", desc := "()V" } : Jvm.MethodName)) ∈ lw_all := lw_g (lw_at lw_m8 39 rfl) rfl
theorem q1836 : (Jvm.Cond.sameMethod "ClockZones$Times" "ClockZones$Table" "closes" "()V") ∈ lw_all := lw_g (lw_at lw_m8 40 rfl) rfl
theorem q1838 : (Jvm.Cond.selects "ClockZones$Times" ({ cls := "ClockZones$Times", name := "closes", desc := "()V" } : Jvm.MethodName) ({ cls := "ClockZones$Table", name := "closes", desc := "()V" } : Jvm.MethodName)) ∈ lw_all := lw_g (lw_at lw_m8 42 rfl) rfl
theorem q1839 : (Jvm.Cond.fieldLink "ClockZones$Times" (15 : Nat) "ClockZones$Times" "since" "[I") ∈ lw_all := lw_g (lw_at lw_m8 43 rfl) rfl
theorem q1840 : (Jvm.Cond.fieldLink "ClockZones$Times" (19 : Nat) "ClockZones$Times" "from" "[I") ∈ lw_all := lw_g (lw_at lw_m8 44 rfl) rfl
theorem q1841 : (Jvm.Cond.fieldLink "ClockZones$Times" (23 : Nat) "ClockZones$Times" "sinces" "[[I") ∈ lw_all := lw_g (lw_at lw_m8 45 rfl) rfl
theorem q1843 : (Jvm.Cond.fieldLink "ClockZones$Times" (27 : Nat) "ClockZones$Times" "froms" "[[I") ∈ lw_all := lw_g (lw_at lw_m8 47 rfl) rfl
theorem q1845 : (Jvm.Cond.fieldLink "ClockZones$Times" (3 : Nat) "ClockZones$Times" "this$0" "LClockZones;") ∈ lw_all := lw_g (lw_at lw_m8 49 rfl) rfl
theorem q1846 : (Jvm.Cond.laysFinal "ClockZones$Times" "ClockZones$Times" "since" "[I") ∈ lw_all := lw_g (lw_at lw_m8 50 rfl) rfl
theorem q1847 : (Jvm.Cond.soleField "ClockZones$Times" "since") ∈ lw_all := lw_g (lw_at lw_m8 51 rfl) rfl
theorem q1848 : (Jvm.Cond.laysFinal "ClockZones$Times" "ClockZones$Times" "from" "[I") ∈ lw_all := lw_g (lw_at lw_m8 52 rfl) rfl
theorem q1849 : (Jvm.Cond.soleField "ClockZones$Times" "from") ∈ lw_all := lw_g (lw_at lw_m8 53 rfl) rfl
theorem q1850 : (Jvm.Cond.laysFinal "ClockZones$Times" "ClockZones$Times" "sinces" "[[I") ∈ lw_all := lw_g (lw_at lw_m8 54 rfl) rfl
theorem q1851 : (Jvm.Cond.soleField "ClockZones$Times" "sinces") ∈ lw_all := lw_g (lw_at lw_m8 55 rfl) rfl
theorem q1852 : (Jvm.Cond.laysFinal "ClockZones$Times" "ClockZones$Times" "froms" "[[I") ∈ lw_all := lw_g (lw_at lw_m8 56 rfl) rfl
theorem q1853 : (Jvm.Cond.soleField "ClockZones$Times" "froms") ∈ lw_all := lw_g (lw_at lw_m8 57 rfl) rfl
theorem q1854 : (Jvm.Cond.laysFinal "ClockZones$Times" "ClockZones$Times" "this$0" "LClockZones;") ∈ lw_all := lw_g (lw_at lw_m8 58 rfl) rfl
theorem q1855 : (Jvm.Cond.soleField "ClockZones$Times" "this$0") ∈ lw_all := lw_g (lw_at lw_m8 59 rfl) rfl
theorem q1856 : (Jvm.Cond.laysFinal "ClockZones$Times" "ClockZones$Table" "size" "I") ∈ lw_all := lw_g (lw_at lw_m8 60 rfl) rfl
theorem q1857 : (Jvm.Cond.laysFinal "ClockZones$Times" "ClockZones$Table" "row" "[I") ∈ lw_all := lw_g (lw_at lw_m8 61 rfl) rfl
theorem q1858 : (Jvm.Cond.lays "ClockZones$Times" "ClockZones$Table" "isEmpty" "Z") ∈ lw_all := lw_g (lw_at lw_m8 62 rfl) rfl
theorem q1859 : (Jvm.Cond.superclass "ClockZones$Times" "ClockZones$Table") ∈ lw_all := lw_g (lw_at lw_m8 63 rfl) rfl
theorem q1861 : (Jvm.Cond.sameMethod "ClockZones$Times" "ClockZones$Table" "told" "(IIII)I") ∈ lw_all := lw_g (lw_at lw_m8 65 rfl) rfl
theorem q1863 : (Jvm.Cond.selects "ClockZones$Times" ({ cls := "ClockZones$Times", name := "told", desc := "(IIII)I" } : Jvm.MethodName) ({ cls := "ClockZones$Table", name := "told", desc := "(IIII)I" } : Jvm.MethodName)) ∈ lw_all := lw_g (lw_at lw_m8 67 rfl) rfl
theorem q1954 : (Jvm.Cond.sameMethod "ClockZones$Times" "ClockZones$Table" "wholes" "()V") ∈ lw_all := lw_g (lw_at lw_m8 158 rfl) rfl
theorem q1956 : (Jvm.Cond.selects "ClockZones$Times" ({ cls := "ClockZones$Times", name := "wholes", desc := "()V" } : Jvm.MethodName) ({ cls := "ClockZones$Table", name := "wholes", desc := "()V" } : Jvm.MethodName)) ∈ lw_all := lw_g (lw_at lw_m8 160 rfl) rfl
theorem q1958 : (Jvm.Cond.sameMethod "ClockZones$Times" "ClockZones$Table" "leastOf" "(I)I") ∈ lw_all := lw_g (lw_at lw_m8 162 rfl) rfl
theorem q1960 : (Jvm.Cond.selects "ClockZones$Times" ({ cls := "ClockZones$Times", name := "leastOf", desc := "(I)I" } : Jvm.MethodName) ({ cls := "ClockZones$Table", name := "leastOf", desc := "(I)I" } : Jvm.MethodName)) ∈ lw_all := lw_g (lw_at lw_m8 164 rfl) rfl
theorem q2752 : (Jvm.Cond.castable "ClockZones$Times" "java/lang/Object") ∈ lw_tbl := lw_at lw_m11 236 rfl
theorem q2754 : (Jvm.Cond.castable "ClockZones$Times" "ClockZones$Table") ∈ lw_tbl := lw_at lw_m11 238 rfl
theorem in_X11 : ∀ w ∈ wsX110, w ∈ lw_all := lw_in wsX110 [1856, 1857, 1858, 1846, 1848, 1850, 1852, 1854] (by decide +kernel) (by decide +kernel)

/-! java/lang/Object -/
def RJ28 : String := "java/lang/Object"
abbrev cJ28_init : ByteArray := object_method_1_code
def yJ28_init : MethodName := ⟨RJ28, "<init>", "()V"⟩
abbrev cJ28_equals : ByteArray := object_method_4_code
def yJ28_equals : MethodName := ⟨RJ28, "equals", "(Ljava/lang/Object;)Z"⟩
theorem q169 : (Jvm.Cond.instanceMethod ({ cls := "java/lang/Object", name := "<init>", desc := "()V" } : Jvm.MethodName)) ∈ lw_all := lw_g (lw_at lw_m1 53 rfl) rfl
theorem q170 : (Jvm.Cond.code ({ cls := "java/lang/Object", name := "<init>", desc := "()V" } : Jvm.MethodName) object_method_1_code (1 : Nat) (Option.none : Option Jvm.ClassFile.FieldType)) ∈ lw_all := lw_g (lw_at lw_m1 54 rfl) rfl
theorem q603 : (Jvm.Cond.native ({ cls := "java/lang/Object", name := "clone", desc := "()Ljava/lang/Object;" } : Jvm.MethodName)) ∈ lw_all := lw_g (lw_at lw_m3 7 rfl) rfl
theorem q604 : (Jvm.Cond.instanceMethod ({ cls := "java/lang/Object", name := "clone", desc := "()Ljava/lang/Object;" } : Jvm.MethodName)) ∈ lw_all := lw_g (lw_at lw_m3 8 rfl) rfl
theorem q838 : (Jvm.Cond.declares ({ cls := "java/lang/Object", name := "equals", desc := "(Ljava/lang/Object;)Z" } : Jvm.MethodName)) ∈ lw_tbl := lw_at lw_m4 2 rfl
theorem q840 : (Jvm.Cond.instanceMethod ({ cls := "java/lang/Object", name := "equals", desc := "(Ljava/lang/Object;)Z" } : Jvm.MethodName)) ∈ lw_all := lw_g (lw_at lw_m4 4 rfl) rfl
theorem q841 : (Jvm.Cond.sameMethod "java/lang/Object" "java/lang/Object" "equals" "(Ljava/lang/Object;)Z") ∈ lw_all := lw_g (lw_at lw_m4 5 rfl) rfl
theorem q870 : (Jvm.Cond.code ({ cls := "java/lang/Object", name := "equals", desc := "(Ljava/lang/Object;)Z" } : Jvm.MethodName) object_method_4_code (2 : Nat) (Option.some Jvm.ClassFile.FieldType.boolean)) ∈ lw_all := lw_g (lw_at lw_m4 34 rfl) rfl
theorem q892 : (Jvm.Cond.instanceMethod ({ cls := "java/lang/Object", name := "getClass", desc := "()Ljava/lang/Class;" } : Jvm.MethodName)) ∈ lw_all := lw_g (lw_at lw_m4 56 rfl) rfl
theorem q893 : (Jvm.Cond.sameMethod "java/lang/Object" "java/lang/Object" "getClass" "()Ljava/lang/Class;") ∈ lw_all := lw_g (lw_at lw_m4 57 rfl) rfl
theorem q919 : (Jvm.Cond.native ({ cls := "java/lang/Object", name := "getClass", desc := "()Ljava/lang/Class;" } : Jvm.MethodName)) ∈ lw_all := lw_g (lw_at lw_m4 83 rfl) rfl
theorem q1902 : (Jvm.Cond.declares ({ cls := "java/lang/Object", name := "getClass", desc := "()Ljava/lang/Class;" } : Jvm.MethodName)) ∈ lw_tbl := lw_at lw_m8 106 rfl
theorem q1904 : (Jvm.Cond.publicMethod ({ cls := "java/lang/Object", name := "getClass", desc := "()Ljava/lang/Class;" } : Jvm.MethodName)) ∈ lw_tbl := lw_at lw_m8 108 rfl
theorem q2717 : (Jvm.Cond.initialized "java/lang/Object") ∈ lw_all := lw_g (lw_at lw_m11 201 rfl) rfl

/-! the law's own entry -/
abbrev cL_law : ByteArray := code

theorem q162 : (Jvm.Cond.arrayClass Jvm.ClassFile.FieldType.int) ∈ lw_all := lw_g (lw_at lw_m1 46 rfl) rfl
theorem q206 : (Jvm.Cond.arrayClass Jvm.ClassFile.FieldType.byte) ∈ lw_all := lw_g (lw_at lw_m1 90 rfl) rfl
theorem q246 : (Jvm.Cond.arrayOver (Jvm.ClassFile.FieldType.object "ClockZones$Table")) ∈ lw_tbl := lw_at lw_m1 130 rfl
theorem q287 : (Jvm.Cond.arrayOver (Jvm.ClassFile.FieldType.object "java/lang/Object")) ∈ lw_tbl := lw_at lw_m1 171 rfl
theorem q517 : (Jvm.Cond.arrayOver (Jvm.ClassFile.FieldType.object "java/lang/String")) ∈ lw_tbl := lw_at lw_m2 161 rfl
theorem q1794 : (Jvm.Cond.arrayOver (Jvm.ClassFile.FieldType.array Jvm.ClassFile.FieldType.int)) ∈ lw_tbl := lw_at lw_m7 238 rfl
theorem q2706 : (Jvm.Cond.arrayClass Jvm.ClassFile.FieldType.long) ∈ lw_all := lw_g (lw_at lw_m11 190 rfl) rfl

theorem q143 : (Jvm.Cond.initialized "java/lang/System") ∈ lw_all := lw_g (lw_at lw_m1 27 rfl) rfl
theorem q612 : (Jvm.Cond.static ({ cls := "java/lang/System", name := "arraycopy", desc := "(Ljava/lang/Object;ILjava/lang/Object;II)V" } : Jvm.MethodName)) ∈ lw_all := lw_g (lw_at lw_m3 16 rfl) rfl
theorem q613 : (Jvm.Cond.native ({ cls := "java/lang/System", name := "arraycopy", desc := "(Ljava/lang/Object;ILjava/lang/Object;II)V" } : Jvm.MethodName)) ∈ lw_all := lw_g (lw_at lw_m3 17 rfl) rfl

theorem q156 : (Jvm.Cond.initialized "java/lang/Integer$IntegerCache") ∈ lw_all := lw_g (lw_at lw_m1 40 rfl) rfl
theorem q1635 : (Jvm.Cond.laysStatic "java/lang/Integer$IntegerCache" "high" "I") ∈ lw_tbl := lw_at lw_m7 79 rfl
theorem q1637 : (Jvm.Cond.laysStatic "java/lang/Integer$IntegerCache" "cache" "[Ljava/lang/Integer;") ∈ lw_tbl := lw_at lw_m7 81 rfl

theorem q602 : (Jvm.Cond.sameMethod "[B" "java/lang/Object" "clone" "()Ljava/lang/Object;") ∈ lw_all := lw_g (lw_at lw_m3 6 rfl) rfl
theorem q605 : (Jvm.Cond.selects "[B" ({ cls := "[B", name := "clone", desc := "()Ljava/lang/Object;" } : Jvm.MethodName) ({ cls := "java/lang/Object", name := "clone", desc := "()Ljava/lang/Object;" } : Jvm.MethodName)) ∈ lw_all := lw_g (lw_at lw_m3 9 rfl) rfl
theorem q606 : (Jvm.Cond.castable "[B" "java/lang/Cloneable") ∈ lw_tbl := lw_at lw_m3 10 rfl
theorem q2758 : (Jvm.Cond.castable "[B" "java/lang/Object") ∈ lw_tbl := lw_at lw_m12 2 rfl

theorem q1045 : (Jvm.Cond.interfaceMethod "java/util/Iterator" "java/util/Iterator" "hasNext" "()Z") ∈ lw_tbl := lw_at lw_m4 209 rfl
theorem q1046 : (Jvm.Cond.declares ({ cls := "java/util/Iterator", name := "hasNext", desc := "()Z" } : Jvm.MethodName)) ∈ lw_tbl := lw_at lw_m4 210 rfl
theorem q1055 : (Jvm.Cond.interfaceMethod "java/util/Iterator" "java/util/Iterator" "next" "()Ljava/lang/Object;") ∈ lw_tbl := lw_at lw_m4 219 rfl
theorem q1056 : (Jvm.Cond.declares ({ cls := "java/util/Iterator", name := "next", desc := "()Ljava/lang/Object;" } : Jvm.MethodName)) ∈ lw_tbl := lw_at lw_m4 220 rfl

theorem q1288 : (Jvm.Cond.interfaceMethod "java/util/List" "java/util/List" "add" "(Ljava/lang/Object;)Z") ∈ lw_tbl := lw_at lw_m5 212 rfl
theorem q1289 : (Jvm.Cond.declares ({ cls := "java/util/List", name := "add", desc := "(Ljava/lang/Object;)Z" } : Jvm.MethodName)) ∈ lw_tbl := lw_at lw_m5 213 rfl

theorem q1832 : (Jvm.Cond.sameMethod "[I" "java/lang/Object" "clone" "()Ljava/lang/Object;") ∈ lw_all := lw_g (lw_at lw_m8 36 rfl) rfl
theorem q1833 : (Jvm.Cond.selects "[I" ({ cls := "[I", name := "clone", desc := "()Ljava/lang/Object;" } : Jvm.MethodName) ({ cls := "java/lang/Object", name := "clone", desc := "()Ljava/lang/Object;" } : Jvm.MethodName)) ∈ lw_all := lw_g (lw_at lw_m8 37 rfl) rfl
theorem q1834 : (Jvm.Cond.castable "[I" "java/lang/Cloneable") ∈ lw_tbl := lw_at lw_m8 38 rfl
theorem q2757 : (Jvm.Cond.castable "[I" "java/lang/Object") ∈ lw_tbl := lw_at lw_m12 1 rfl

theorem q1877 : (Jvm.Cond.interfaceMethod "java/util/Collection" "java/util/Collection" "toArray" "()[Ljava/lang/Object;") ∈ lw_tbl := lw_at lw_m8 81 rfl
theorem q1878 : (Jvm.Cond.declares ({ cls := "java/util/Collection", name := "toArray", desc := "()[Ljava/lang/Object;" } : Jvm.MethodName)) ∈ lw_tbl := lw_at lw_m8 82 rfl
theorem q1901 : (Jvm.Cond.interfaceMethod "java/util/Collection" "java/lang/Object" "getClass" "()Ljava/lang/Class;") ∈ lw_tbl := lw_at lw_m8 105 rfl

theorem q2755 : (Jvm.Cond.sameMethod "[Ljava/lang/Object;" "java/lang/Object" "getClass" "()Ljava/lang/Class;") ∈ lw_all := lw_g (lw_at lw_m11 239 rfl) rfl
theorem q2756 : (Jvm.Cond.selects "[Ljava/lang/Object;" ({ cls := "java/lang/Object", name := "getClass", desc := "()Ljava/lang/Class;" } : Jvm.MethodName) ({ cls := "java/lang/Object", name := "getClass", desc := "()Ljava/lang/Class;" } : Jvm.MethodName)) ∈ lw_all := lw_g (lw_at lw_m12 0 rfl) rfl
theorem q2760 : (Jvm.Cond.castable "[Ljava/lang/Object;" "java/lang/Object") ∈ lw_tbl := lw_at lw_m12 4 rfl

theorem q2759 : (Jvm.Cond.castable "[LClockZones$Table;" "java/lang/Object") ∈ lw_tbl := lw_at lw_m12 3 rfl

theorem q2761 : (Jvm.Cond.castable "[Ljava/lang/String;" "java/lang/Object") ∈ lw_tbl := lw_at lw_m12 5 rfl

theorem q2762 : (Jvm.Cond.castable "[[I" "java/lang/Object") ∈ lw_tbl := lw_at lw_m12 6 rfl

theorem q2763 : (Jvm.Cond.castable "[J" "java/lang/Object") ∈ lw_tbl := lw_at lw_m12 7 rfl

