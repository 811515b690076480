set_option maxRecDepth 100000
/-! LichenTableLaw -/
def RX0 : String := "LichenTableLaw"
abbrev cX0_habit : ByteArray := method_3_code
def yX0_habit : MethodName := ⟨RX0, "habit", "(LLichenTable;III[J)I"⟩
theorem q77 : (Jvm.Cond.initialized "LichenTableLaw") ∈ lw_all := lw_g (lw_at lw_m1 0 rfl) rfl
theorem q118 : (Jvm.Cond.classLink "LichenTableLaw" (8 : Nat) "LichenTable") ∈ lw_all := lw_g (lw_at lw_m1 41 rfl) rfl
theorem q120 : (Jvm.Cond.methodLink "LichenTableLaw" (15 : Nat) ({ cls := "LichenTable", name := "<init>", desc := "()V" } : Jvm.MethodName)) ∈ lw_all := lw_g (lw_at lw_m1 43 rfl) rfl
theorem q235 : (Jvm.Cond.methodLink "LichenTableLaw" (19 : Nat) ({ cls := "LichenTable", name := "site", desc := "(IIII)I" } : Jvm.MethodName)) ∈ lw_all := lw_g (lw_at lw_m1 158 rfl) rfl
theorem q352 : (Jvm.Cond.methodLink "LichenTableLaw" (24 : Nat) ({ cls := "LichenTable", name := "circle", desc := "(IIIIIIZ)I" } : Jvm.MethodName)) ∈ lw_all := lw_g (lw_at lw_m2 35 rfl) rfl
theorem q416 : (Jvm.Cond.methodLink "LichenTableLaw" (29 : Nat) ({ cls := "LichenTable", name := "looked", desc := "(III)Z" } : Jvm.MethodName)) ∈ lw_all := lw_g (lw_at lw_m2 99 rfl) rfl
theorem q440 : (Jvm.Cond.methodLink "LichenTableLaw" (34 : Nat) ({ cls := "LichenTable", name := "twice", desc := "(IIII)Z" } : Jvm.MethodName)) ∈ lw_all := lw_g (lw_at lw_m2 123 rfl) rfl
theorem q464 : (Jvm.Cond.methodLink "LichenTableLaw" (39 : Nat) ({ cls := "LichenTable", name := "witness", desc := "(III)Z" } : Jvm.MethodName)) ∈ lw_all := lw_g (lw_at lw_m2 147 rfl) rfl
theorem q488 : (Jvm.Cond.methodLink "LichenTableLaw" (43 : Nat) ({ cls := "LichenTable", name := "order", desc := "(III)Z" } : Jvm.MethodName)) ∈ lw_all := lw_g (lw_at lw_m2 171 rfl) rfl
theorem q512 : (Jvm.Cond.methodLink "LichenTableLaw" (47 : Nat) ({ cls := "LichenTable", name := "again", desc := "(II)I" } : Jvm.MethodName)) ∈ lw_all := lw_g (lw_at lw_m2 195 rfl) rfl
theorem q532 : (Jvm.Cond.methodLink "LichenTableLaw" (52 : Nat) ({ cls := "LichenTable", name := "house", desc := "(III)Z" } : Jvm.MethodName)) ∈ lw_all := lw_g (lw_at lw_m2 215 rfl) rfl
theorem q536 : (Jvm.Cond.methodLink "LichenTableLaw" (56 : Nat) ({ cls := "LichenTable", name := "delay", desc := "(II)Z" } : Jvm.MethodName)) ∈ lw_all := lw_g (lw_at lw_m2 219 rfl) rfl
theorem q540 : (Jvm.Cond.methodLink "LichenTableLaw" (80 : Nat) ({ cls := "LichenTable", name := "day", desc := "(I)I" } : Jvm.MethodName)) ∈ lw_all := lw_g (lw_at lw_m2 223 rfl) rfl
theorem q545 : (Jvm.Cond.methodLink "LichenTableLaw" (61 : Nat) ({ cls := "LichenTable", name := "feed", desc := "(IIIII)I" } : Jvm.MethodName)) ∈ lw_all := lw_g (lw_at lw_m2 228 rfl) rfl
theorem q553 : (Jvm.Cond.methodLink "LichenTableLaw" (66 : Nat) ({ cls := "LichenTable", name := "end", desc := "(I)I" } : Jvm.MethodName)) ∈ lw_all := lw_g (lw_at lw_m2 236 rfl) rfl
theorem q557 : (Jvm.Cond.methodLink "LichenTableLaw" (71 : Nat) ({ cls := "LichenTable", name := "rule", desc := "()I" } : Jvm.MethodName)) ∈ lw_all := lw_g (lw_at lw_m3 0 rfl) rfl
theorem q804 : (Jvm.Cond.methodLink "LichenTableLaw" (76 : Nat) ({ cls := "LichenTable", name := "place", desc := "()I" } : Jvm.MethodName)) ∈ lw_all := lw_g (lw_at lw_m4 7 rfl) rfl
theorem q808 : (Jvm.Cond.methodLink "LichenTableLaw" (93 : Nat) ({ cls := "LichenTable", name := "used", desc := "(II)I" } : Jvm.MethodName)) ∈ lw_all := lw_g (lw_at lw_m4 11 rfl) rfl
theorem q873 : (Jvm.Cond.methodLink "LichenTableLaw" (97 : Nat) ({ cls := "LichenTable", name := "trueSize", desc := "(III)I" } : Jvm.MethodName)) ∈ lw_all := lw_g (lw_at lw_m4 76 rfl) rfl
theorem q886 : (Jvm.Cond.methodLink "LichenTableLaw" (101 : Nat) ({ cls := "LichenTable", name := "struck", desc := "(IIII)I" } : Jvm.MethodName)) ∈ lw_all := lw_g (lw_at lw_m4 89 rfl) rfl
theorem q1049 : (Jvm.Cond.methodLink "LichenTableLaw" (105 : Nat) ({ cls := "LichenTable", name := "size", desc := "(IIIIII)I" } : Jvm.MethodName)) ∈ lw_all := lw_g (lw_at lw_m5 12 rfl) rfl
theorem q1072 : (Jvm.Cond.methodLink "LichenTableLaw" (110 : Nat) ({ cls := "LichenTable", name := "span", desc := "(III)I" } : Jvm.MethodName)) ∈ lw_all := lw_g (lw_at lw_m5 35 rfl) rfl
theorem q1126 : (Jvm.Cond.methodLink "LichenTableLaw" (114 : Nat) ({ cls := "LichenTable", name := "bound", desc := "(III)I" } : Jvm.MethodName)) ∈ lw_all := lw_g (lw_at lw_m5 89 rfl) rfl
theorem q1145 : (Jvm.Cond.methodLink "LichenTableLaw" (118 : Nat) ({ cls := "LichenTable", name := "same", desc := "(III)I" } : Jvm.MethodName)) ∈ lw_all := lw_g (lw_at lw_m5 108 rfl) rfl
theorem q1149 : (Jvm.Cond.methodLink "LichenTableLaw" (122 : Nat) ({ cls := "LichenTable", name := "claim", desc := "(III)I" } : Jvm.MethodName)) ∈ lw_all := lw_g (lw_at lw_m5 112 rfl) rfl
theorem q1153 : (Jvm.Cond.methodLink "LichenTableLaw" (126 : Nat) ({ cls := "LichenTable", name := "gaps", desc := "(IIIII)I" } : Jvm.MethodName)) ∈ lw_all := lw_g (lw_at lw_m5 116 rfl) rfl
theorem q1207 : (Jvm.Cond.methodLink "LichenTableLaw" (130 : Nat) ({ cls := "LichenTable", name := "gap", desc := "(IIIIIII)I" } : Jvm.MethodName)) ∈ lw_all := lw_g (lw_at lw_m5 170 rfl) rfl
theorem q1211 : (Jvm.Cond.methodLink "LichenTableLaw" (135 : Nat) ({ cls := "LichenTable", name := "grown", desc := "(II)I" } : Jvm.MethodName)) ∈ lw_all := lw_g (lw_at lw_m5 174 rfl) rfl
theorem q1218 : (Jvm.Cond.methodLink "LichenTableLaw" (139 : Nat) ({ cls := "LichenTable", name := "front", desc := "(III)I" } : Jvm.MethodName)) ∈ lw_all := lw_g (lw_at lw_m5 181 rfl) rfl
theorem q1222 : (Jvm.Cond.methodLink "LichenTableLaw" (143 : Nat) ({ cls := "LichenTable", name := "out", desc := "(II)I" } : Jvm.MethodName)) ∈ lw_all := lw_g (lw_at lw_m5 185 rfl) rfl
theorem q1230 : (Jvm.Cond.methodLink "LichenTableLaw" (147 : Nat) ({ cls := "LichenTable", name := "count", desc := "(I)I" } : Jvm.MethodName)) ∈ lw_all := lw_g (lw_at lw_m5 193 rfl) rfl
theorem q1234 : (Jvm.Cond.methodLink "LichenTableLaw" (84 : Nat) ({ cls := "LichenTableLaw", name := "habit", desc := "(LLichenTable;III[J)I" } : Jvm.MethodName)) ∈ lw_all := lw_g (lw_at lw_m5 197 rfl) rfl
theorem q1235 : (Jvm.Cond.static ({ cls := "LichenTableLaw", name := "habit", desc := "(LLichenTable;III[J)I" } : Jvm.MethodName)) ∈ lw_all := lw_g (lw_at lw_m5 198 rfl) rfl
theorem q1236 : (Jvm.Cond.codeWith ({ cls := "LichenTableLaw", name := "habit", desc := "(LLichenTable;III[J)I" } : Jvm.MethodName) method_3_code (6 : Nat) (Option.some Jvm.ClassFile.FieldType.int) [((0 : Nat), (12 : Nat), (15 : Nat), (13 : Nat))]) ∈ lw_all := lw_g (lw_at lw_m5 199 rfl) rfl
theorem q1237 : (Jvm.Cond.classLink "LichenTableLaw" (13 : Nat) "java/util/NoSuchElementException") ∈ lw_all := lw_g (lw_at lw_m5 200 rfl) rfl
theorem q1238 : (Jvm.Cond.methodLink "LichenTableLaw" (7 : Nat) ({ cls := "LichenTable", name := "habit", desc := "(III)I" } : Jvm.MethodName)) ∈ lw_all := lw_g (lw_at lw_m5 201 rfl) rfl
theorem q1265 : (Jvm.Cond.classLink "LichenTableLaw" (16 : Nat) "LichenTableModel") ∈ lw_all := lw_g (lw_at lw_m5 228 rfl) rfl
theorem q1267 : (Jvm.Cond.methodLink "LichenTableLaw" (18 : Nat) ({ cls := "LichenTableModel", name := "<init>", desc := "()V" } : Jvm.MethodName)) ∈ lw_all := lw_g (lw_at lw_m5 230 rfl) rfl
theorem q1513 : (Jvm.Cond.methodLink "LichenTableLaw" (90 : Nat) ({ cls := "LichenTableModel", name := "thrown", desc := "()I" } : Jvm.MethodName)) ∈ lw_all := lw_g (lw_at lw_m6 236 rfl) rfl
theorem q1517 : (Jvm.Cond.methodLink "LichenTableLaw" (23 : Nat) ({ cls := "LichenTableModel", name := "site", desc := "(IIII)I" } : Jvm.MethodName)) ∈ lw_all := lw_g (lw_at lw_m7 0 rfl) rfl
theorem q1527 : (Jvm.Cond.methodLink "LichenTableLaw" (28 : Nat) ({ cls := "LichenTableModel", name := "circle", desc := "(IIIIIIZ)I" } : Jvm.MethodName)) ∈ lw_all := lw_g (lw_at lw_m7 10 rfl) rfl
theorem q1541 : (Jvm.Cond.methodLink "LichenTableLaw" (33 : Nat) ({ cls := "LichenTableModel", name := "looked", desc := "(III)Z" } : Jvm.MethodName)) ∈ lw_all := lw_g (lw_at lw_m7 24 rfl) rfl
theorem q1545 : (Jvm.Cond.methodLink "LichenTableLaw" (38 : Nat) ({ cls := "LichenTableModel", name := "twice", desc := "(IIII)Z" } : Jvm.MethodName)) ∈ lw_all := lw_g (lw_at lw_m7 28 rfl) rfl
theorem q1549 : (Jvm.Cond.methodLink "LichenTableLaw" (42 : Nat) ({ cls := "LichenTableModel", name := "witness", desc := "(III)Z" } : Jvm.MethodName)) ∈ lw_all := lw_g (lw_at lw_m7 32 rfl) rfl
theorem q1553 : (Jvm.Cond.methodLink "LichenTableLaw" (46 : Nat) ({ cls := "LichenTableModel", name := "order", desc := "(III)Z" } : Jvm.MethodName)) ∈ lw_all := lw_g (lw_at lw_m7 36 rfl) rfl
theorem q1557 : (Jvm.Cond.methodLink "LichenTableLaw" (51 : Nat) ({ cls := "LichenTableModel", name := "again", desc := "(II)I" } : Jvm.MethodName)) ∈ lw_all := lw_g (lw_at lw_m7 40 rfl) rfl
theorem q1565 : (Jvm.Cond.methodLink "LichenTableLaw" (55 : Nat) ({ cls := "LichenTableModel", name := "house", desc := "(III)Z" } : Jvm.MethodName)) ∈ lw_all := lw_g (lw_at lw_m7 48 rfl) rfl
theorem q1569 : (Jvm.Cond.methodLink "LichenTableLaw" (60 : Nat) ({ cls := "LichenTableModel", name := "delay", desc := "(II)Z" } : Jvm.MethodName)) ∈ lw_all := lw_g (lw_at lw_m7 52 rfl) rfl
theorem q1573 : (Jvm.Cond.methodLink "LichenTableLaw" (83 : Nat) ({ cls := "LichenTableModel", name := "day", desc := "(I)I" } : Jvm.MethodName)) ∈ lw_all := lw_g (lw_at lw_m7 56 rfl) rfl
theorem q1578 : (Jvm.Cond.methodLink "LichenTableLaw" (65 : Nat) ({ cls := "LichenTableModel", name := "feed", desc := "(IIIII)I" } : Jvm.MethodName)) ∈ lw_all := lw_g (lw_at lw_m7 61 rfl) rfl
theorem q1582 : (Jvm.Cond.methodLink "LichenTableLaw" (70 : Nat) ({ cls := "LichenTableModel", name := "end", desc := "(I)I" } : Jvm.MethodName)) ∈ lw_all := lw_g (lw_at lw_m7 65 rfl) rfl
theorem q1586 : (Jvm.Cond.methodLink "LichenTableLaw" (75 : Nat) ({ cls := "LichenTableModel", name := "rule", desc := "()I" } : Jvm.MethodName)) ∈ lw_all := lw_g (lw_at lw_m7 69 rfl) rfl
theorem q1641 : (Jvm.Cond.methodLink "LichenTableLaw" (79 : Nat) ({ cls := "LichenTableModel", name := "place", desc := "()I" } : Jvm.MethodName)) ∈ lw_all := lw_g (lw_at lw_m7 124 rfl) rfl
theorem q1645 : (Jvm.Cond.methodLink "LichenTableLaw" (89 : Nat) ({ cls := "LichenTableModel", name := "habit", desc := "(III)I" } : Jvm.MethodName)) ∈ lw_all := lw_g (lw_at lw_m7 128 rfl) rfl
theorem q1663 : (Jvm.Cond.methodLink "LichenTableLaw" (96 : Nat) ({ cls := "LichenTableModel", name := "used", desc := "(II)I" } : Jvm.MethodName)) ∈ lw_all := lw_g (lw_at lw_m7 146 rfl) rfl
theorem q1679 : (Jvm.Cond.methodLink "LichenTableLaw" (100 : Nat) ({ cls := "LichenTableModel", name := "trueSize", desc := "(III)I" } : Jvm.MethodName)) ∈ lw_all := lw_g (lw_at lw_m7 162 rfl) rfl
theorem q1692 : (Jvm.Cond.methodLink "LichenTableLaw" (104 : Nat) ({ cls := "LichenTableModel", name := "struck", desc := "(IIII)I" } : Jvm.MethodName)) ∈ lw_all := lw_g (lw_at lw_m7 175 rfl) rfl
theorem q1734 : (Jvm.Cond.methodLink "LichenTableLaw" (109 : Nat) ({ cls := "LichenTableModel", name := "size", desc := "(IIIIII)I" } : Jvm.MethodName)) ∈ lw_all := lw_g (lw_at lw_m7 217 rfl) rfl
theorem q1738 : (Jvm.Cond.methodLink "LichenTableLaw" (113 : Nat) ({ cls := "LichenTableModel", name := "span", desc := "(III)I" } : Jvm.MethodName)) ∈ lw_all := lw_g (lw_at lw_m7 221 rfl) rfl
theorem q1762 : (Jvm.Cond.methodLink "LichenTableLaw" (117 : Nat) ({ cls := "LichenTableModel", name := "bound", desc := "(III)I" } : Jvm.MethodName)) ∈ lw_all := lw_g (lw_at lw_m8 5 rfl) rfl
theorem q1782 : (Jvm.Cond.methodLink "LichenTableLaw" (121 : Nat) ({ cls := "LichenTableModel", name := "same", desc := "(III)I" } : Jvm.MethodName)) ∈ lw_all := lw_g (lw_at lw_m8 25 rfl) rfl
theorem q1786 : (Jvm.Cond.methodLink "LichenTableLaw" (125 : Nat) ({ cls := "LichenTableModel", name := "claim", desc := "(III)I" } : Jvm.MethodName)) ∈ lw_all := lw_g (lw_at lw_m8 29 rfl) rfl
theorem q1790 : (Jvm.Cond.methodLink "LichenTableLaw" (142 : Nat) ({ cls := "LichenTableModel", name := "front", desc := "(III)I" } : Jvm.MethodName)) ∈ lw_all := lw_g (lw_at lw_m8 33 rfl) rfl
theorem q1794 : (Jvm.Cond.methodLink "LichenTableLaw" (146 : Nat) ({ cls := "LichenTableModel", name := "out", desc := "(II)I" } : Jvm.MethodName)) ∈ lw_all := lw_g (lw_at lw_m8 37 rfl) rfl
theorem q1798 : (Jvm.Cond.methodLink "LichenTableLaw" (129 : Nat) ({ cls := "LichenTableModel", name := "gaps", desc := "(IIIII)I" } : Jvm.MethodName)) ∈ lw_all := lw_g (lw_at lw_m8 41 rfl) rfl
theorem q1810 : (Jvm.Cond.methodLink "LichenTableLaw" (134 : Nat) ({ cls := "LichenTableModel", name := "gap", desc := "(IIIIIII)I" } : Jvm.MethodName)) ∈ lw_all := lw_g (lw_at lw_m8 53 rfl) rfl
theorem q1814 : (Jvm.Cond.methodLink "LichenTableLaw" (138 : Nat) ({ cls := "LichenTableModel", name := "grown", desc := "(II)I" } : Jvm.MethodName)) ∈ lw_all := lw_g (lw_at lw_m8 57 rfl) rfl
theorem q1818 : (Jvm.Cond.methodLink "LichenTableLaw" (150 : Nat) ({ cls := "LichenTableModel", name := "count", desc := "(I)I" } : Jvm.MethodName)) ∈ lw_all := lw_g (lw_at lw_m8 61 rfl) rfl

/-! LichenTable -/
def RX1 : String := "LichenTable"
def TX1 : u_T := fun k => match k with
  | 0 => ("LichenTable", "sites", "Ljava/util/ArrayList;", true)
  | 1 => ("LichenTable", "circles", "Ljava/util/ArrayList;", true)
  | 2 => ("LichenTable", "looks", "Ljava/util/ArrayList;", true)
  | 3 => ("LichenTable", "doubles", "Ljava/util/ArrayList;", true)
  | 4 => ("LichenTable", "witnesses", "Ljava/util/ArrayList;", true)
  | 5 => ("LichenTable", "orders", "Ljava/util/ArrayList;", true)
  | 6 => ("LichenTable", "agains", "Ljava/util/ArrayList;", true)
  | 7 => ("LichenTable", "delays", "[I", true)
  | 8 => ("LichenTable", "today", "I", false)
  | 9 => ("LichenTable", "error", "I", false)
  | 10 => ("LichenTable", "rate", "I", false)
  | 11 => ("LichenTable", "needed", "I", false)
  | 12 => ("LichenTable", "tape", "[B", true)
  | 13 => ("LichenTable", "taped", "I", false)
  | 14 => ("LichenTable", "lastPlace", "I", false)
  | 15 => ("LichenTable", "rule", "Ljava/util/ArrayList;", false)
  | 16 => ("LichenTable", "above", "[[I", true)
  | 17 => ("LichenTable", "doQuarrel", "Z", false)
  | 18 => ("LichenTable", "curves", "[LLichenTable$Curve;", true)
  | 19 => ("LichenTable", "leftOut", "I", false)
  | 20 => ("LichenTable", "spans", "[LLichenTable$Span;", true)
  | 21 => ("LichenTable", "sizes", "[I", false)
  | _ => ("LichenTable", "gapMany", "I", false)
def tyX1 : Nat → FieldType := fun k => match k with
  | 0 => .object "java/util/ArrayList"
  | 1 => .object "java/util/ArrayList"
  | 2 => .object "java/util/ArrayList"
  | 3 => .object "java/util/ArrayList"
  | 4 => .object "java/util/ArrayList"
  | 5 => .object "java/util/ArrayList"
  | 6 => .object "java/util/ArrayList"
  | 7 => .array .int
  | 8 => .int
  | 9 => .int
  | 10 => .int
  | 11 => .int
  | 12 => .array .byte
  | 13 => .int
  | 14 => .int
  | 15 => .object "java/util/ArrayList"
  | 16 => .array (.array .int)
  | 17 => .boolean
  | 18 => .array (.object "LichenTable$Curve")
  | 19 => .int
  | 20 => .array (.object "LichenTable$Span")
  | 21 => .array .int
  | _ => .int
abbrev wsX10 : List Cond := u_ws RX1 TX1 23
set_option maxRecDepth 100000 in
theorem nmX1 : ∀ a, a < 23 → ∀ b, b < 23 → a ≠ b → (TX1 a).2.1 ≠ (TX1 b).2.1 := by decide +kernel
set_option maxRecDepth 100000 in
theorem tyX1_ok : ∀ k, k < 23 → parseFieldDescriptor (TX1 k).2.2.1 = some (tyX1 k) := by decide +kernel
abbrev cX1_init : ByteArray := prog_1_method_3_code
def yX1_init : MethodName := ⟨RX1, "<init>", "()V"⟩
abbrev cX1_site : ByteArray := prog_1_method_7_code
def yX1_site : MethodName := ⟨RX1, "site", "(IIII)I"⟩
abbrev cX1_in : ByteArray := prog_1_method_1_code
def yX1_in : MethodName := ⟨RX1, "in", "(III)Z"⟩
abbrev cX1_isYear : ByteArray := prog_1_method_2_code
def yX1_isYear : MethodName := ⟨RX1, "isYear", "(I)Z"⟩
abbrev cX1_circle : ByteArray := prog_1_method_8_code
def yX1_circle : MethodName := ⟨RX1, "circle", "(IIIIIIZ)I"⟩
abbrev cX1_isSite : ByteArray := prog_1_method_4_code
def yX1_isSite : MethodName := ⟨RX1, "isSite", "(I)Z"⟩
abbrev cX1_isKind : ByteArray := prog_1_method_5_code
def yX1_isKind : MethodName := ⟨RX1, "isKind", "(I)Z"⟩
abbrev cX1_isMeasurer : ByteArray := prog_1_method_6_code
def yX1_isMeasurer : MethodName := ⟨RX1, "isMeasurer", "(I)Z"⟩
abbrev cX1_looked : ByteArray := prog_1_method_9_code
def yX1_looked : MethodName := ⟨RX1, "looked", "(III)Z"⟩
abbrev cX1_twice : ByteArray := prog_1_method_10_code
def yX1_twice : MethodName := ⟨RX1, "twice", "(IIII)Z"⟩
abbrev cX1_witness : ByteArray := prog_1_method_11_code
def yX1_witness : MethodName := ⟨RX1, "witness", "(III)Z"⟩
abbrev cX1_order : ByteArray := prog_1_method_12_code
def yX1_order : MethodName := ⟨RX1, "order", "(III)Z"⟩
abbrev cX1_again : ByteArray := prog_1_method_13_code
def yX1_again : MethodName := ⟨RX1, "again", "(II)I"⟩
abbrev cX1_house : ByteArray := prog_1_method_14_code
def yX1_house : MethodName := ⟨RX1, "house", "(III)Z"⟩
abbrev cX1_delay : ByteArray := prog_1_method_15_code
def yX1_delay : MethodName := ⟨RX1, "delay", "(II)Z"⟩
abbrev cX1_day : ByteArray := prog_1_method_16_code
def yX1_day : MethodName := ⟨RX1, "day", "(I)I"⟩
abbrev cX1_feed : ByteArray := prog_1_method_21_code
def yX1_feed : MethodName := ⟨RX1, "feed", "(IIIII)I"⟩
abbrev cX1_four : ByteArray := prog_1_method_20_code
def yX1_four : MethodName := ⟨RX1, "four", "(I)V"⟩
abbrev cX1_end : ByteArray := prog_1_method_22_code
def yX1_end : MethodName := ⟨RX1, "end", "(I)I"⟩
abbrev cX1_rule : ByteArray := prog_1_method_23_code
def yX1_rule : MethodName := ⟨RX1, "rule", "()I"⟩
abbrev cX1_place : ByteArray := prog_1_method_24_code
def yX1_place : MethodName := ⟨RX1, "place", "()I"⟩
abbrev cX1_used : ByteArray := prog_1_method_32_code
def yX1_used : MethodName := ⟨RX1, "used", "(II)I"⟩
abbrev cX1_circleAt : ByteArray := prog_1_method_31_code
def yX1_circleAt : MethodName := ⟨RX1, "circleAt", "(II)LLichenTable$Circle;"⟩
abbrev cX1_isKnown : ByteArray := prog_1_method_17_code
def yX1_isKnown : MethodName := ⟨RX1, "isKnown", "(I)Z"⟩
abbrev cX1_findHabits : ByteArray := prog_1_method_25_code
def yX1_findHabits : MethodName := ⟨RX1, "findHabits", "(I)V"⟩
abbrev cX1_isUsed : ByteArray := prog_1_method_28_code
def yX1_isUsed : MethodName := ⟨RX1, "isUsed", "(LLichenTable$Circle;I)Z"⟩
abbrev cX1_value : ByteArray := prog_1_method_19_code
def yX1_value : MethodName := ⟨RX1, "value", "(ILLichenTable$Circle;)I"⟩
abbrev cX1_isLed : ByteArray := prog_1_method_26_code
def yX1_isLed : MethodName := ⟨RX1, "isLed", "(I)Z"⟩
abbrev cX1_trueSize : ByteArray := prog_1_method_33_code
def yX1_trueSize : MethodName := ⟨RX1, "trueSize", "(III)I"⟩
abbrev cX1_least : ByteArray := prog_1_method_29_code
def yX1_least : MethodName := ⟨RX1, "least", "(LLichenTable$Circle;)I"⟩
abbrev cX1_most : ByteArray := prog_1_method_30_code
def yX1_most : MethodName := ⟨RX1, "most", "(LLichenTable$Circle;)I"⟩
abbrev cX1_struck : ByteArray := prog_1_method_39_code
def yX1_struck : MethodName := ⟨RX1, "struck", "(IIII)I"⟩
abbrev cX1_isClass : ByteArray := prog_1_method_38_code
def yX1_isClass : MethodName := ⟨RX1, "isClass", "(IIII)Z"⟩
abbrev cX1_begins : ByteArray := prog_1_method_36_code
def yX1_begins : MethodName := ⟨RX1, "begins", "(I)V"⟩
abbrev cX1_curve : ByteArray := prog_1_method_37_code
def yX1_curve : MethodName := ⟨RX1, "curve", "(IIII)LLichenTable$Curve;"⟩
abbrev cX1_findGroups : ByteArray := prog_1_method_35_code
def yX1_findGroups : MethodName := ⟨RX1, "findGroups", "(Ljava/util/ArrayList;LLichenTable$Site;II)V"⟩
abbrev cX1_lookedAt : ByteArray := prog_1_method_34_code
def yX1_lookedAt : MethodName := ⟨RX1, "lookedAt", "(III)I"⟩
abbrev cX1_size : ByteArray := prog_1_method_40_code
def yX1_size : MethodName := ⟨RX1, "size", "(IIIIII)I"⟩
abbrev cX1_span : ByteArray := prog_1_method_43_code
def yX1_span : MethodName := ⟨RX1, "span", "(III)I"⟩
abbrev cX1_isThere : ByteArray := prog_1_method_18_code
def yX1_isThere : MethodName := ⟨RX1, "isThere", "(II)Z"⟩
abbrev cX1_spanOf : ByteArray := prog_1_method_42_code
def yX1_spanOf : MethodName := ⟨RX1, "spanOf", "(LLichenTable$Site;I)LLichenTable$Span;"⟩
abbrev cX1_spanBy : ByteArray := prog_1_method_41_code
def yX1_spanBy : MethodName := ⟨RX1, "spanBy", "(LLichenTable$Site;I)LLichenTable$Span;"⟩
abbrev cX1_bound : ByteArray := prog_1_method_47_code
def yX1_bound : MethodName := ⟨RX1, "bound", "(III)I"⟩
abbrev cX1_findSpans : ByteArray := prog_1_method_44_code
def yX1_findSpans : MethodName := ⟨RX1, "findSpans", "(I)V"⟩
abbrev cX1_binds : ByteArray := prog_1_method_46_code
def yX1_binds : MethodName := ⟨RX1, "binds", "(III)Z"⟩
abbrev cX1_narrows : ByteArray := prog_1_method_45_code
def yX1_narrows : MethodName := ⟨RX1, "narrows", "(III)Z"⟩
abbrev cX1_same : ByteArray := prog_1_method_48_code
def yX1_same : MethodName := ⟨RX1, "same", "(III)I"⟩
abbrev cX1_claim : ByteArray := prog_1_method_49_code
def yX1_claim : MethodName := ⟨RX1, "claim", "(III)I"⟩
abbrev cX1_gaps : ByteArray := prog_1_method_52_code
def yX1_gaps : MethodName := ⟨RX1, "gaps", "(IIIII)I"⟩
abbrev cX1_findSizes : ByteArray := prog_1_method_50_code
def yX1_findSizes : MethodName := ⟨RX1, "findSizes", "(IIIII)Z"⟩
abbrev cX1_gapAt : ByteArray := prog_1_method_51_code
def yX1_gapAt : MethodName := ⟨RX1, "gapAt", "(II)I"⟩
abbrev cX1_gap : ByteArray := prog_1_method_53_code
def yX1_gap : MethodName := ⟨RX1, "gap", "(IIIIIII)I"⟩
abbrev cX1_grown : ByteArray := prog_1_method_54_code
def yX1_grown : MethodName := ⟨RX1, "grown", "(II)I"⟩
abbrev cX1_front : ByteArray := prog_1_method_55_code
def yX1_front : MethodName := ⟨RX1, "front", "(III)I"⟩
abbrev cX1_out : ByteArray := prog_1_method_56_code
def yX1_out : MethodName := ⟨RX1, "out", "(II)I"⟩
abbrev cX1_count : ByteArray := prog_1_method_57_code
def yX1_count : MethodName := ⟨RX1, "count", "(I)I"⟩
abbrev cX1_habit : ByteArray := prog_1_method_27_code
def yX1_habit : MethodName := ⟨RX1, "habit", "(III)I"⟩
theorem q78 : (Jvm.Cond.initialized "LichenTable") ∈ lw_all := lw_g (lw_at lw_m1 1 rfl) rfl
theorem q119 : (Jvm.Cond.instantiable "LichenTable" (23 : Nat)) ∈ lw_all := lw_g (lw_at lw_m1 42 rfl) rfl
theorem q121 : (Jvm.Cond.instanceMethod ({ cls := "LichenTable", name := "<init>", desc := "()V" } : Jvm.MethodName)) ∈ lw_all := lw_g (lw_at lw_m1 44 rfl) rfl
theorem q122 : (Jvm.Cond.code ({ cls := "LichenTable", name := "<init>", desc := "()V" } : Jvm.MethodName) prog_1_method_3_code (1 : Nat) (Option.none : Option Jvm.ClassFile.FieldType)) ∈ lw_all := lw_g (lw_at lw_m1 45 rfl) rfl
theorem q123 : (Jvm.Cond.methodLink "LichenTable" (7 : Nat) ({ cls := "java/lang/Object", name := "<init>", desc := "()V" } : Jvm.MethodName)) ∈ lw_all := lw_g (lw_at lw_m1 46 rfl) rfl
theorem q126 : (Jvm.Cond.classLink "LichenTable" (13 : Nat) "java/util/ArrayList") ∈ lw_all := lw_g (lw_at lw_m1 49 rfl) rfl
theorem q128 : (Jvm.Cond.methodLink "LichenTable" (15 : Nat) ({ cls := "java/util/ArrayList", name := "<init>", desc := "()V" } : Jvm.MethodName)) ∈ lw_all := lw_g (lw_at lw_m1 51 rfl) rfl
theorem q152 : (Jvm.Cond.classLink "LichenTable" (62 : Nat) "[[I") ∈ lw_all := lw_g (lw_at lw_m1 75 rfl) rfl
theorem q154 : (Jvm.Cond.classLink "LichenTable" (67 : Nat) "LichenTable$Curve") ∈ lw_all := lw_g (lw_at lw_m1 77 rfl) rfl
theorem q156 : (Jvm.Cond.classLink "LichenTable" (76 : Nat) "LichenTable$Span") ∈ lw_all := lw_g (lw_at lw_m1 79 rfl) rfl
theorem q158 : (Jvm.Cond.fieldLink "LichenTable" (16 : Nat) "LichenTable" "sites" "Ljava/util/ArrayList;") ∈ lw_all := lw_g (lw_at lw_m1 81 rfl) rfl
theorem q159 : (Jvm.Cond.fieldLink "LichenTable" (20 : Nat) "LichenTable" "circles" "Ljava/util/ArrayList;") ∈ lw_all := lw_g (lw_at lw_m1 82 rfl) rfl
theorem q160 : (Jvm.Cond.fieldLink "LichenTable" (23 : Nat) "LichenTable" "looks" "Ljava/util/ArrayList;") ∈ lw_all := lw_g (lw_at lw_m1 83 rfl) rfl
theorem q161 : (Jvm.Cond.fieldLink "LichenTable" (26 : Nat) "LichenTable" "doubles" "Ljava/util/ArrayList;") ∈ lw_all := lw_g (lw_at lw_m1 84 rfl) rfl
theorem q162 : (Jvm.Cond.fieldLink "LichenTable" (29 : Nat) "LichenTable" "witnesses" "Ljava/util/ArrayList;") ∈ lw_all := lw_g (lw_at lw_m1 85 rfl) rfl
theorem q163 : (Jvm.Cond.fieldLink "LichenTable" (32 : Nat) "LichenTable" "orders" "Ljava/util/ArrayList;") ∈ lw_all := lw_g (lw_at lw_m1 86 rfl) rfl
theorem q164 : (Jvm.Cond.fieldLink "LichenTable" (35 : Nat) "LichenTable" "agains" "Ljava/util/ArrayList;") ∈ lw_all := lw_g (lw_at lw_m1 87 rfl) rfl
theorem q166 : (Jvm.Cond.fieldLink "LichenTable" (38 : Nat) "LichenTable" "delays" "[I") ∈ lw_all := lw_g (lw_at lw_m1 89 rfl) rfl
theorem q167 : (Jvm.Cond.fieldLink "LichenTable" (95 : Nat) "LichenTable" "today" "I") ∈ lw_all := lw_g (lw_at lw_m1 90 rfl) rfl
theorem q168 : (Jvm.Cond.fieldLink "LichenTable" (42 : Nat) "LichenTable" "error" "I") ∈ lw_all := lw_g (lw_at lw_m1 91 rfl) rfl
theorem q169 : (Jvm.Cond.fieldLink "LichenTable" (46 : Nat) "LichenTable" "rate" "I") ∈ lw_all := lw_g (lw_at lw_m1 92 rfl) rfl
theorem q172 : (Jvm.Cond.fieldLink "LichenTable" (49 : Nat) "LichenTable" "needed" "I") ∈ lw_all := lw_g (lw_at lw_m1 95 rfl) rfl
theorem q174 : (Jvm.Cond.fieldLink "LichenTable" (52 : Nat) "LichenTable" "tape" "[B") ∈ lw_all := lw_g (lw_at lw_m1 97 rfl) rfl
theorem q176 : (Jvm.Cond.fieldLink "LichenTable" (183 : Nat) "LichenTable" "taped" "I") ∈ lw_all := lw_g (lw_at lw_m1 99 rfl) rfl
theorem q177 : (Jvm.Cond.fieldLink "LichenTable" (56 : Nat) "LichenTable" "lastPlace" "I") ∈ lw_all := lw_g (lw_at lw_m1 100 rfl) rfl
theorem q178 : (Jvm.Cond.fieldLink "LichenTable" (59 : Nat) "LichenTable" "rule" "Ljava/util/ArrayList;") ∈ lw_all := lw_g (lw_at lw_m1 101 rfl) rfl
theorem q179 : (Jvm.Cond.fieldLink "LichenTable" (64 : Nat) "LichenTable" "above" "[[I") ∈ lw_all := lw_g (lw_at lw_m1 102 rfl) rfl
theorem q180 : (Jvm.Cond.fieldLink "LichenTable" (224 : Nat) "LichenTable" "doQuarrel" "Z") ∈ lw_all := lw_g (lw_at lw_m1 103 rfl) rfl
theorem q181 : (Jvm.Cond.fieldLink "LichenTable" (69 : Nat) "LichenTable" "curves" "[LLichenTable$Curve;") ∈ lw_all := lw_g (lw_at lw_m1 104 rfl) rfl
theorem q182 : (Jvm.Cond.fieldLink "LichenTable" (73 : Nat) "LichenTable" "leftOut" "I") ∈ lw_all := lw_g (lw_at lw_m1 105 rfl) rfl
theorem q183 : (Jvm.Cond.fieldLink "LichenTable" (78 : Nat) "LichenTable" "spans" "[LLichenTable$Span;") ∈ lw_all := lw_g (lw_at lw_m1 106 rfl) rfl
theorem q184 : (Jvm.Cond.fieldLink "LichenTable" (82 : Nat) "LichenTable" "sizes" "[I") ∈ lw_all := lw_g (lw_at lw_m1 107 rfl) rfl
theorem q185 : (Jvm.Cond.fieldLink "LichenTable" (388 : Nat) "LichenTable" "gapMany" "I") ∈ lw_all := lw_g (lw_at lw_m1 108 rfl) rfl
theorem q186 : (Jvm.Cond.laysFinal "LichenTable" "LichenTable" "sites" "Ljava/util/ArrayList;") ∈ lw_all := lw_g (lw_at lw_m1 109 rfl) rfl
theorem q187 : (Jvm.Cond.soleField "LichenTable" "sites") ∈ lw_all := lw_g (lw_at lw_m1 110 rfl) rfl
theorem q188 : (Jvm.Cond.laysFinal "LichenTable" "LichenTable" "circles" "Ljava/util/ArrayList;") ∈ lw_all := lw_g (lw_at lw_m1 111 rfl) rfl
theorem q189 : (Jvm.Cond.soleField "LichenTable" "circles") ∈ lw_all := lw_g (lw_at lw_m1 112 rfl) rfl
theorem q190 : (Jvm.Cond.laysFinal "LichenTable" "LichenTable" "looks" "Ljava/util/ArrayList;") ∈ lw_all := lw_g (lw_at lw_m1 113 rfl) rfl
theorem q191 : (Jvm.Cond.soleField "LichenTable" "looks") ∈ lw_all := lw_g (lw_at lw_m1 114 rfl) rfl
theorem q192 : (Jvm.Cond.laysFinal "LichenTable" "LichenTable" "doubles" "Ljava/util/ArrayList;") ∈ lw_all := lw_g (lw_at lw_m1 115 rfl) rfl
theorem q193 : (Jvm.Cond.soleField "LichenTable" "doubles") ∈ lw_all := lw_g (lw_at lw_m1 116 rfl) rfl
theorem q194 : (Jvm.Cond.laysFinal "LichenTable" "LichenTable" "witnesses" "Ljava/util/ArrayList;") ∈ lw_all := lw_g (lw_at lw_m1 117 rfl) rfl
theorem q195 : (Jvm.Cond.soleField "LichenTable" "witnesses") ∈ lw_all := lw_g (lw_at lw_m1 118 rfl) rfl
theorem q196 : (Jvm.Cond.laysFinal "LichenTable" "LichenTable" "orders" "Ljava/util/ArrayList;") ∈ lw_all := lw_g (lw_at lw_m1 119 rfl) rfl
theorem q197 : (Jvm.Cond.soleField "LichenTable" "orders") ∈ lw_all := lw_g (lw_at lw_m1 120 rfl) rfl
theorem q198 : (Jvm.Cond.laysFinal "LichenTable" "LichenTable" "agains" "Ljava/util/ArrayList;") ∈ lw_all := lw_g (lw_at lw_m1 121 rfl) rfl
theorem q199 : (Jvm.Cond.soleField "LichenTable" "agains") ∈ lw_all := lw_g (lw_at lw_m1 122 rfl) rfl
theorem q200 : (Jvm.Cond.laysFinal "LichenTable" "LichenTable" "delays" "[I") ∈ lw_all := lw_g (lw_at lw_m1 123 rfl) rfl
theorem q201 : (Jvm.Cond.soleField "LichenTable" "delays") ∈ lw_all := lw_g (lw_at lw_m1 124 rfl) rfl
theorem q202 : (Jvm.Cond.lays "LichenTable" "LichenTable" "today" "I") ∈ lw_all := lw_g (lw_at lw_m1 125 rfl) rfl
theorem q203 : (Jvm.Cond.soleField "LichenTable" "today") ∈ lw_all := lw_g (lw_at lw_m1 126 rfl) rfl
theorem q204 : (Jvm.Cond.lays "LichenTable" "LichenTable" "error" "I") ∈ lw_all := lw_g (lw_at lw_m1 127 rfl) rfl
theorem q205 : (Jvm.Cond.soleField "LichenTable" "error") ∈ lw_all := lw_g (lw_at lw_m1 128 rfl) rfl
theorem q206 : (Jvm.Cond.lays "LichenTable" "LichenTable" "rate" "I") ∈ lw_all := lw_g (lw_at lw_m1 129 rfl) rfl
theorem q207 : (Jvm.Cond.soleField "LichenTable" "rate") ∈ lw_all := lw_g (lw_at lw_m1 130 rfl) rfl
theorem q208 : (Jvm.Cond.lays "LichenTable" "LichenTable" "needed" "I") ∈ lw_all := lw_g (lw_at lw_m1 131 rfl) rfl
theorem q209 : (Jvm.Cond.soleField "LichenTable" "needed") ∈ lw_all := lw_g (lw_at lw_m1 132 rfl) rfl
theorem q210 : (Jvm.Cond.laysFinal "LichenTable" "LichenTable" "tape" "[B") ∈ lw_all := lw_g (lw_at lw_m1 133 rfl) rfl
theorem q211 : (Jvm.Cond.soleField "LichenTable" "tape") ∈ lw_all := lw_g (lw_at lw_m1 134 rfl) rfl
theorem q212 : (Jvm.Cond.lays "LichenTable" "LichenTable" "taped" "I") ∈ lw_all := lw_g (lw_at lw_m1 135 rfl) rfl
theorem q213 : (Jvm.Cond.soleField "LichenTable" "taped") ∈ lw_all := lw_g (lw_at lw_m1 136 rfl) rfl
theorem q214 : (Jvm.Cond.lays "LichenTable" "LichenTable" "lastPlace" "I") ∈ lw_all := lw_g (lw_at lw_m1 137 rfl) rfl
theorem q215 : (Jvm.Cond.soleField "LichenTable" "lastPlace") ∈ lw_all := lw_g (lw_at lw_m1 138 rfl) rfl
theorem q216 : (Jvm.Cond.lays "LichenTable" "LichenTable" "rule" "Ljava/util/ArrayList;") ∈ lw_all := lw_g (lw_at lw_m1 139 rfl) rfl
theorem q217 : (Jvm.Cond.soleField "LichenTable" "rule") ∈ lw_all := lw_g (lw_at lw_m1 140 rfl) rfl
theorem q218 : (Jvm.Cond.laysFinal "LichenTable" "LichenTable" "above" "[[I") ∈ lw_all := lw_g (lw_at lw_m1 141 rfl) rfl
theorem q219 : (Jvm.Cond.soleField "LichenTable" "above") ∈ lw_all := lw_g (lw_at lw_m1 142 rfl) rfl
theorem q220 : (Jvm.Cond.lays "LichenTable" "LichenTable" "doQuarrel" "Z") ∈ lw_all := lw_g (lw_at lw_m1 143 rfl) rfl
theorem q221 : (Jvm.Cond.soleField "LichenTable" "doQuarrel") ∈ lw_all := lw_g (lw_at lw_m1 144 rfl) rfl
theorem q222 : (Jvm.Cond.laysFinal "LichenTable" "LichenTable" "curves" "[LLichenTable$Curve;") ∈ lw_all := lw_g (lw_at lw_m1 145 rfl) rfl
theorem q223 : (Jvm.Cond.soleField "LichenTable" "curves") ∈ lw_all := lw_g (lw_at lw_m1 146 rfl) rfl
theorem q224 : (Jvm.Cond.lays "LichenTable" "LichenTable" "leftOut" "I") ∈ lw_all := lw_g (lw_at lw_m1 147 rfl) rfl
theorem q225 : (Jvm.Cond.soleField "LichenTable" "leftOut") ∈ lw_all := lw_g (lw_at lw_m1 148 rfl) rfl
theorem q226 : (Jvm.Cond.laysFinal "LichenTable" "LichenTable" "spans" "[LLichenTable$Span;") ∈ lw_all := lw_g (lw_at lw_m1 149 rfl) rfl
theorem q227 : (Jvm.Cond.soleField "LichenTable" "spans") ∈ lw_all := lw_g (lw_at lw_m1 150 rfl) rfl
theorem q228 : (Jvm.Cond.lays "LichenTable" "LichenTable" "sizes" "[I") ∈ lw_all := lw_g (lw_at lw_m1 151 rfl) rfl
theorem q229 : (Jvm.Cond.soleField "LichenTable" "sizes") ∈ lw_all := lw_g (lw_at lw_m1 152 rfl) rfl
theorem q230 : (Jvm.Cond.lays "LichenTable" "LichenTable" "gapMany" "I") ∈ lw_all := lw_g (lw_at lw_m1 153 rfl) rfl
theorem q231 : (Jvm.Cond.soleField "LichenTable" "gapMany") ∈ lw_all := lw_g (lw_at lw_m1 154 rfl) rfl
theorem q232 : (Jvm.Cond.superclass "LichenTable" "java/lang/Object") ∈ lw_all := lw_g (lw_at lw_m1 155 rfl) rfl
theorem q236 : (Jvm.Cond.instanceMethod ({ cls := "LichenTable", name := "site", desc := "(IIII)I" } : Jvm.MethodName)) ∈ lw_all := lw_g (lw_at lw_m1 159 rfl) rfl
theorem q237 : (Jvm.Cond.selects "LichenTable" ({ cls := "LichenTable", name := "site", desc := "(IIII)I" } : Jvm.MethodName) ({ cls := "LichenTable", name := "site", desc := "(IIII)I" } : Jvm.MethodName)) ∈ lw_all := lw_g (lw_at lw_m1 160 rfl) rfl
theorem q238 : (Jvm.Cond.code ({ cls := "LichenTable", name := "site", desc := "(IIII)I" } : Jvm.MethodName) prog_1_method_7_code (6 : Nat) (Option.some Jvm.ClassFile.FieldType.int)) ∈ lw_all := lw_g (lw_at lw_m1 161 rfl) rfl
theorem q239 : (Jvm.Cond.methodLink "LichenTable" (3 : Nat) ({ cls := "LichenTable", name := "in", desc := "(III)Z" } : Jvm.MethodName)) ∈ lw_all := lw_g (lw_at lw_m1 162 rfl) rfl
theorem q240 : (Jvm.Cond.static ({ cls := "LichenTable", name := "in", desc := "(III)Z" } : Jvm.MethodName)) ∈ lw_all := lw_g (lw_at lw_m1 163 rfl) rfl
theorem q241 : (Jvm.Cond.code ({ cls := "LichenTable", name := "in", desc := "(III)Z" } : Jvm.MethodName) prog_1_method_1_code (3 : Nat) (Option.some Jvm.ClassFile.FieldType.boolean)) ∈ lw_all := lw_g (lw_at lw_m1 164 rfl) rfl
theorem q242 : (Jvm.Cond.methodLink "LichenTable" (89 : Nat) ({ cls := "LichenTable", name := "isYear", desc := "(I)Z" } : Jvm.MethodName)) ∈ lw_all := lw_g (lw_at lw_m1 165 rfl) rfl
theorem q243 : (Jvm.Cond.static ({ cls := "LichenTable", name := "isYear", desc := "(I)Z" } : Jvm.MethodName)) ∈ lw_all := lw_g (lw_at lw_m1 166 rfl) rfl
theorem q244 : (Jvm.Cond.code ({ cls := "LichenTable", name := "isYear", desc := "(I)Z" } : Jvm.MethodName) prog_1_method_2_code (1 : Nat) (Option.some Jvm.ClassFile.FieldType.boolean)) ∈ lw_all := lw_g (lw_at lw_m1 167 rfl) rfl
theorem q245 : (Jvm.Cond.methodLink "LichenTable" (85 : Nat) ({ cls := "java/util/ArrayList", name := "size", desc := "()I" } : Jvm.MethodName)) ∈ lw_all := lw_g (lw_at lw_m1 168 rfl) rfl
theorem q249 : (Jvm.Cond.classLink "LichenTable" (93 : Nat) "LichenTable$Site") ∈ lw_all := lw_g (lw_at lw_m1 172 rfl) rfl
theorem q251 : (Jvm.Cond.methodLink "LichenTable" (98 : Nat) ({ cls := "LichenTable$Site", name := "<init>", desc := "(IIIIII)V" } : Jvm.MethodName)) ∈ lw_all := lw_g (lw_at lw_m1 174 rfl) rfl
theorem q260 : (Jvm.Cond.fieldLinkNest "LichenTable" (159 : Nat) "LichenTable$Site" "number" "I" "LichenTable") ∈ lw_tbl := lw_at lw_m1 183 rfl
theorem q262 : (Jvm.Cond.fieldLinkNest "LichenTable" (177 : Nat) "LichenTable$Site" "side" "I" "LichenTable") ∈ lw_tbl := lw_at lw_m1 185 rfl
theorem q264 : (Jvm.Cond.fieldLinkNest "LichenTable" (180 : Nat) "LichenTable$Site" "belt" "I" "LichenTable") ∈ lw_tbl := lw_at lw_m1 187 rfl
theorem q266 : (Jvm.Cond.fieldLinkNest "LichenTable" (401 : Nat) "LichenTable$Site" "place" "I" "LichenTable") ∈ lw_tbl := lw_at lw_m1 189 rfl
theorem q269 : (Jvm.Cond.fieldLinkNest "LichenTable" (351 : Nat) "LichenTable$Site" "year" "I" "LichenTable") ∈ lw_tbl := lw_at lw_m1 192 rfl
theorem q284 : (Jvm.Cond.methodLink "LichenTable" (101 : Nat) ({ cls := "java/util/ArrayList", name := "add", desc := "(Ljava/lang/Object;)Z" } : Jvm.MethodName)) ∈ lw_all := lw_g (lw_at lw_m1 207 rfl) rfl
theorem q316 : (Jvm.Cond.selects "LichenTable" ({ cls := "java/lang/Object", name := "getClass", desc := "()Ljava/lang/Class;" } : Jvm.MethodName) ({ cls := "java/lang/Object", name := "getClass", desc := "()Ljava/lang/Class;" } : Jvm.MethodName)) ∈ lw_all := lw_g (lw_at lw_m1 239 rfl) rfl
theorem q353 : (Jvm.Cond.instanceMethod ({ cls := "LichenTable", name := "circle", desc := "(IIIIIIZ)I" } : Jvm.MethodName)) ∈ lw_all := lw_g (lw_at lw_m2 36 rfl) rfl
theorem q354 : (Jvm.Cond.selects "LichenTable" ({ cls := "LichenTable", name := "circle", desc := "(IIIIIIZ)I" } : Jvm.MethodName) ({ cls := "LichenTable", name := "circle", desc := "(IIIIIIZ)I" } : Jvm.MethodName)) ∈ lw_all := lw_g (lw_at lw_m2 37 rfl) rfl
theorem q355 : (Jvm.Cond.code ({ cls := "LichenTable", name := "circle", desc := "(IIIIIIZ)I" } : Jvm.MethodName) prog_1_method_8_code (9 : Nat) (Option.some Jvm.ClassFile.FieldType.int)) ∈ lw_all := lw_g (lw_at lw_m2 38 rfl) rfl
theorem q356 : (Jvm.Cond.methodLink "LichenTable" (105 : Nat) ({ cls := "LichenTable", name := "isSite", desc := "(I)Z" } : Jvm.MethodName)) ∈ lw_all := lw_g (lw_at lw_m2 39 rfl) rfl
theorem q357 : (Jvm.Cond.privateMethod ({ cls := "LichenTable", name := "isSite", desc := "(I)Z" } : Jvm.MethodName)) ∈ lw_tbl := lw_at lw_m2 40 rfl
theorem q358 : (Jvm.Cond.instanceMethod ({ cls := "LichenTable", name := "isSite", desc := "(I)Z" } : Jvm.MethodName)) ∈ lw_all := lw_g (lw_at lw_m2 41 rfl) rfl
theorem q359 : (Jvm.Cond.code ({ cls := "LichenTable", name := "isSite", desc := "(I)Z" } : Jvm.MethodName) prog_1_method_4_code (2 : Nat) (Option.some Jvm.ClassFile.FieldType.boolean)) ∈ lw_all := lw_g (lw_at lw_m2 42 rfl) rfl
theorem q360 : (Jvm.Cond.methodLink "LichenTable" (108 : Nat) ({ cls := "LichenTable", name := "isKind", desc := "(I)Z" } : Jvm.MethodName)) ∈ lw_all := lw_g (lw_at lw_m2 43 rfl) rfl
theorem q361 : (Jvm.Cond.static ({ cls := "LichenTable", name := "isKind", desc := "(I)Z" } : Jvm.MethodName)) ∈ lw_all := lw_g (lw_at lw_m2 44 rfl) rfl
theorem q362 : (Jvm.Cond.code ({ cls := "LichenTable", name := "isKind", desc := "(I)Z" } : Jvm.MethodName) prog_1_method_5_code (1 : Nat) (Option.some Jvm.ClassFile.FieldType.boolean)) ∈ lw_all := lw_g (lw_at lw_m2 45 rfl) rfl
theorem q363 : (Jvm.Cond.methodLink "LichenTable" (111 : Nat) ({ cls := "LichenTable", name := "isMeasurer", desc := "(I)Z" } : Jvm.MethodName)) ∈ lw_all := lw_g (lw_at lw_m2 46 rfl) rfl
theorem q364 : (Jvm.Cond.static ({ cls := "LichenTable", name := "isMeasurer", desc := "(I)Z" } : Jvm.MethodName)) ∈ lw_all := lw_g (lw_at lw_m2 47 rfl) rfl
theorem q365 : (Jvm.Cond.code ({ cls := "LichenTable", name := "isMeasurer", desc := "(I)Z" } : Jvm.MethodName) prog_1_method_6_code (1 : Nat) (Option.some Jvm.ClassFile.FieldType.boolean)) ∈ lw_all := lw_g (lw_at lw_m2 48 rfl) rfl
theorem q366 : (Jvm.Cond.classLink "LichenTable" (114 : Nat) "LichenTable$Circle") ∈ lw_all := lw_g (lw_at lw_m2 49 rfl) rfl
theorem q368 : (Jvm.Cond.methodLink "LichenTable" (116 : Nat) ({ cls := "java/util/ArrayList", name := "get", desc := "(I)Ljava/lang/Object;" } : Jvm.MethodName)) ∈ lw_all := lw_g (lw_at lw_m2 51 rfl) rfl
theorem q382 : (Jvm.Cond.methodLink "LichenTable" (120 : Nat) ({ cls := "LichenTable$Circle", name := "<init>", desc := "(ILLichenTable$Site;IIIIIZ)V" } : Jvm.MethodName)) ∈ lw_all := lw_g (lw_at lw_m2 65 rfl) rfl
theorem q387 : (Jvm.Cond.fieldLinkNest "LichenTable" (141 : Nat) "LichenTable$Circle" "kind" "I" "LichenTable") ∈ lw_tbl := lw_at lw_m2 70 rfl
theorem q389 : (Jvm.Cond.fieldLinkNest "LichenTable" (162 : Nat) "LichenTable$Circle" "measurer" "I" "LichenTable") ∈ lw_tbl := lw_at lw_m2 72 rfl
theorem q391 : (Jvm.Cond.fieldLinkNest "LichenTable" (165 : Nat) "LichenTable$Circle" "size" "I" "LichenTable") ∈ lw_tbl := lw_at lw_m2 74 rfl
theorem q393 : (Jvm.Cond.fieldLinkNest "LichenTable" (167 : Nat) "LichenTable$Circle" "breadth" "I" "LichenTable") ∈ lw_tbl := lw_at lw_m2 76 rfl
theorem q395 : (Jvm.Cond.fieldLinkNest "LichenTable" (144 : Nat) "LichenTable$Circle" "year" "I" "LichenTable") ∈ lw_tbl := lw_at lw_m2 78 rfl
theorem q397 : (Jvm.Cond.fieldLinkNest "LichenTable" (137 : Nat) "LichenTable$Circle" "site" "LLichenTable$Site;" "LichenTable") ∈ lw_tbl := lw_at lw_m2 80 rfl
theorem q399 : (Jvm.Cond.fieldLinkNest "LichenTable" (170 : Nat) "LichenTable$Circle" "merged" "Z" "LichenTable") ∈ lw_tbl := lw_at lw_m2 82 rfl
theorem q417 : (Jvm.Cond.instanceMethod ({ cls := "LichenTable", name := "looked", desc := "(III)Z" } : Jvm.MethodName)) ∈ lw_all := lw_g (lw_at lw_m2 100 rfl) rfl
theorem q418 : (Jvm.Cond.selects "LichenTable" ({ cls := "LichenTable", name := "looked", desc := "(III)Z" } : Jvm.MethodName) ({ cls := "LichenTable", name := "looked", desc := "(III)Z" } : Jvm.MethodName)) ∈ lw_all := lw_g (lw_at lw_m2 101 rfl) rfl
theorem q419 : (Jvm.Cond.code ({ cls := "LichenTable", name := "looked", desc := "(III)Z" } : Jvm.MethodName) prog_1_method_9_code (4 : Nat) (Option.some Jvm.ClassFile.FieldType.boolean)) ∈ lw_all := lw_g (lw_at lw_m2 102 rfl) rfl
theorem q420 : (Jvm.Cond.classLink "LichenTable" (123 : Nat) "LichenTable$Look") ∈ lw_all := lw_g (lw_at lw_m2 103 rfl) rfl
theorem q422 : (Jvm.Cond.methodLink "LichenTable" (125 : Nat) ({ cls := "LichenTable$Look", name := "<init>", desc := "(IIII)V" } : Jvm.MethodName)) ∈ lw_all := lw_g (lw_at lw_m2 105 rfl) rfl
theorem q427 : (Jvm.Cond.fieldLinkNest "LichenTable" (265 : Nat) "LichenTable$Look" "site" "I" "LichenTable") ∈ lw_tbl := lw_at lw_m2 110 rfl
theorem q429 : (Jvm.Cond.fieldLinkNest "LichenTable" (267 : Nat) "LichenTable$Look" "kind" "I" "LichenTable") ∈ lw_tbl := lw_at lw_m2 112 rfl
theorem q431 : (Jvm.Cond.fieldLinkNest "LichenTable" (269 : Nat) "LichenTable$Look" "n" "I" "LichenTable") ∈ lw_tbl := lw_at lw_m2 114 rfl
theorem q441 : (Jvm.Cond.instanceMethod ({ cls := "LichenTable", name := "twice", desc := "(IIII)Z" } : Jvm.MethodName)) ∈ lw_all := lw_g (lw_at lw_m2 124 rfl) rfl
theorem q442 : (Jvm.Cond.selects "LichenTable" ({ cls := "LichenTable", name := "twice", desc := "(IIII)Z" } : Jvm.MethodName) ({ cls := "LichenTable", name := "twice", desc := "(IIII)Z" } : Jvm.MethodName)) ∈ lw_all := lw_g (lw_at lw_m2 125 rfl) rfl
theorem q443 : (Jvm.Cond.code ({ cls := "LichenTable", name := "twice", desc := "(IIII)Z" } : Jvm.MethodName) prog_1_method_10_code (5 : Nat) (Option.some Jvm.ClassFile.FieldType.boolean)) ∈ lw_all := lw_g (lw_at lw_m2 126 rfl) rfl
theorem q444 : (Jvm.Cond.classLink "LichenTable" (128 : Nat) "LichenTable$Twice") ∈ lw_all := lw_g (lw_at lw_m2 127 rfl) rfl
theorem q446 : (Jvm.Cond.methodLink "LichenTable" (130 : Nat) ({ cls := "LichenTable$Twice", name := "<init>", desc := "(IIII)V" } : Jvm.MethodName)) ∈ lw_all := lw_g (lw_at lw_m2 129 rfl) rfl
theorem q451 : (Jvm.Cond.fieldLinkNest "LichenTable" (209 : Nat) "LichenTable$Twice" "a" "I" "LichenTable") ∈ lw_tbl := lw_at lw_m2 134 rfl
theorem q453 : (Jvm.Cond.fieldLinkNest "LichenTable" (212 : Nat) "LichenTable$Twice" "b" "I" "LichenTable") ∈ lw_tbl := lw_at lw_m2 136 rfl
theorem q455 : (Jvm.Cond.fieldLinkNest "LichenTable" (215 : Nat) "LichenTable$Twice" "apart" "I" "LichenTable") ∈ lw_tbl := lw_at lw_m2 138 rfl
theorem q465 : (Jvm.Cond.instanceMethod ({ cls := "LichenTable", name := "witness", desc := "(III)Z" } : Jvm.MethodName)) ∈ lw_all := lw_g (lw_at lw_m2 148 rfl) rfl
theorem q466 : (Jvm.Cond.selects "LichenTable" ({ cls := "LichenTable", name := "witness", desc := "(III)Z" } : Jvm.MethodName) ({ cls := "LichenTable", name := "witness", desc := "(III)Z" } : Jvm.MethodName)) ∈ lw_all := lw_g (lw_at lw_m2 149 rfl) rfl
theorem q467 : (Jvm.Cond.code ({ cls := "LichenTable", name := "witness", desc := "(III)Z" } : Jvm.MethodName) prog_1_method_11_code (4 : Nat) (Option.some Jvm.ClassFile.FieldType.boolean)) ∈ lw_all := lw_g (lw_at lw_m2 150 rfl) rfl
theorem q468 : (Jvm.Cond.classLink "LichenTable" (131 : Nat) "LichenTable$Witness") ∈ lw_all := lw_g (lw_at lw_m2 151 rfl) rfl
theorem q470 : (Jvm.Cond.methodLink "LichenTable" (133 : Nat) ({ cls := "LichenTable$Witness", name := "<init>", desc := "(IIII)V" } : Jvm.MethodName)) ∈ lw_all := lw_g (lw_at lw_m2 153 rfl) rfl
theorem q475 : (Jvm.Cond.fieldLinkNest "LichenTable" (339 : Nat) "LichenTable$Witness" "site" "I" "LichenTable") ∈ lw_tbl := lw_at lw_m2 158 rfl
theorem q477 : (Jvm.Cond.fieldLinkNest "LichenTable" (341 : Nat) "LichenTable$Witness" "from" "I" "LichenTable") ∈ lw_tbl := lw_at lw_m2 160 rfl
theorem q479 : (Jvm.Cond.fieldLinkNest "LichenTable" (344 : Nat) "LichenTable$Witness" "to" "I" "LichenTable") ∈ lw_tbl := lw_at lw_m2 162 rfl
theorem q489 : (Jvm.Cond.instanceMethod ({ cls := "LichenTable", name := "order", desc := "(III)Z" } : Jvm.MethodName)) ∈ lw_all := lw_g (lw_at lw_m2 172 rfl) rfl
theorem q490 : (Jvm.Cond.selects "LichenTable" ({ cls := "LichenTable", name := "order", desc := "(III)Z" } : Jvm.MethodName) ({ cls := "LichenTable", name := "order", desc := "(III)Z" } : Jvm.MethodName)) ∈ lw_all := lw_g (lw_at lw_m2 173 rfl) rfl
theorem q491 : (Jvm.Cond.code ({ cls := "LichenTable", name := "order", desc := "(III)Z" } : Jvm.MethodName) prog_1_method_12_code (4 : Nat) (Option.some Jvm.ClassFile.FieldType.boolean)) ∈ lw_all := lw_g (lw_at lw_m2 174 rfl) rfl
theorem q492 : (Jvm.Cond.classLink "LichenTable" (134 : Nat) "LichenTable$Order") ∈ lw_all := lw_g (lw_at lw_m2 175 rfl) rfl
theorem q494 : (Jvm.Cond.methodLink "LichenTable" (136 : Nat) ({ cls := "LichenTable$Order", name := "<init>", desc := "(IIII)V" } : Jvm.MethodName)) ∈ lw_all := lw_g (lw_at lw_m2 177 rfl) rfl
theorem q499 : (Jvm.Cond.fieldLinkNest "LichenTable" (364 : Nat) "LichenTable$Order" "a" "I" "LichenTable") ∈ lw_tbl := lw_at lw_m2 182 rfl
theorem q501 : (Jvm.Cond.fieldLinkNest "LichenTable" (365 : Nat) "LichenTable$Order" "b" "I" "LichenTable") ∈ lw_tbl := lw_at lw_m2 184 rfl
theorem q503 : (Jvm.Cond.fieldLinkNest "LichenTable" (366 : Nat) "LichenTable$Order" "n" "I" "LichenTable") ∈ lw_tbl := lw_at lw_m2 186 rfl
theorem q513 : (Jvm.Cond.instanceMethod ({ cls := "LichenTable", name := "again", desc := "(II)I" } : Jvm.MethodName)) ∈ lw_all := lw_g (lw_at lw_m2 196 rfl) rfl
theorem q514 : (Jvm.Cond.selects "LichenTable" ({ cls := "LichenTable", name := "again", desc := "(II)I" } : Jvm.MethodName) ({ cls := "LichenTable", name := "again", desc := "(II)I" } : Jvm.MethodName)) ∈ lw_all := lw_g (lw_at lw_m2 197 rfl) rfl
theorem q515 : (Jvm.Cond.code ({ cls := "LichenTable", name := "again", desc := "(II)I" } : Jvm.MethodName) prog_1_method_13_code (5 : Nat) (Option.some Jvm.ClassFile.FieldType.int)) ∈ lw_all := lw_g (lw_at lw_m2 198 rfl) rfl
theorem q516 : (Jvm.Cond.classLink "LichenTable" (147 : Nat) "LichenTable$Again") ∈ lw_all := lw_g (lw_at lw_m2 199 rfl) rfl
theorem q518 : (Jvm.Cond.methodLink "LichenTable" (149 : Nat) ({ cls := "LichenTable$Again", name := "<init>", desc := "(III)V" } : Jvm.MethodName)) ∈ lw_all := lw_g (lw_at lw_m2 201 rfl) rfl
theorem q523 : (Jvm.Cond.fieldLinkNest "LichenTable" (399 : Nat) "LichenTable$Again" "a" "I" "LichenTable") ∈ lw_tbl := lw_at lw_m2 206 rfl
theorem q525 : (Jvm.Cond.fieldLinkNest "LichenTable" (400 : Nat) "LichenTable$Again" "b" "I" "LichenTable") ∈ lw_tbl := lw_at lw_m2 208 rfl
theorem q533 : (Jvm.Cond.instanceMethod ({ cls := "LichenTable", name := "house", desc := "(III)Z" } : Jvm.MethodName)) ∈ lw_all := lw_g (lw_at lw_m2 216 rfl) rfl
theorem q534 : (Jvm.Cond.selects "LichenTable" ({ cls := "LichenTable", name := "house", desc := "(III)Z" } : Jvm.MethodName) ({ cls := "LichenTable", name := "house", desc := "(III)Z" } : Jvm.MethodName)) ∈ lw_all := lw_g (lw_at lw_m2 217 rfl) rfl
theorem q535 : (Jvm.Cond.code ({ cls := "LichenTable", name := "house", desc := "(III)Z" } : Jvm.MethodName) prog_1_method_14_code (4 : Nat) (Option.some Jvm.ClassFile.FieldType.boolean)) ∈ lw_all := lw_g (lw_at lw_m2 218 rfl) rfl
theorem q537 : (Jvm.Cond.instanceMethod ({ cls := "LichenTable", name := "delay", desc := "(II)Z" } : Jvm.MethodName)) ∈ lw_all := lw_g (lw_at lw_m2 220 rfl) rfl
theorem q538 : (Jvm.Cond.selects "LichenTable" ({ cls := "LichenTable", name := "delay", desc := "(II)Z" } : Jvm.MethodName) ({ cls := "LichenTable", name := "delay", desc := "(II)Z" } : Jvm.MethodName)) ∈ lw_all := lw_g (lw_at lw_m2 221 rfl) rfl
theorem q539 : (Jvm.Cond.code ({ cls := "LichenTable", name := "delay", desc := "(II)Z" } : Jvm.MethodName) prog_1_method_15_code (3 : Nat) (Option.some Jvm.ClassFile.FieldType.boolean)) ∈ lw_all := lw_g (lw_at lw_m2 222 rfl) rfl
theorem q541 : (Jvm.Cond.instanceMethod ({ cls := "LichenTable", name := "day", desc := "(I)I" } : Jvm.MethodName)) ∈ lw_all := lw_g (lw_at lw_m2 224 rfl) rfl
theorem q542 : (Jvm.Cond.selects "LichenTable" ({ cls := "LichenTable", name := "day", desc := "(I)I" } : Jvm.MethodName) ({ cls := "LichenTable", name := "day", desc := "(I)I" } : Jvm.MethodName)) ∈ lw_all := lw_g (lw_at lw_m2 225 rfl) rfl
theorem q543 : (Jvm.Cond.code ({ cls := "LichenTable", name := "day", desc := "(I)I" } : Jvm.MethodName) prog_1_method_16_code (2 : Nat) (Option.some Jvm.ClassFile.FieldType.int)) ∈ lw_all := lw_g (lw_at lw_m2 226 rfl) rfl
theorem q544 : (Jvm.Cond.constant "LichenTable" (152 : Nat) (100000 : Int32)) ∈ lw_all := lw_g (lw_at lw_m2 227 rfl) rfl
theorem q546 : (Jvm.Cond.instanceMethod ({ cls := "LichenTable", name := "feed", desc := "(IIIII)I" } : Jvm.MethodName)) ∈ lw_all := lw_g (lw_at lw_m2 229 rfl) rfl
theorem q547 : (Jvm.Cond.selects "LichenTable" ({ cls := "LichenTable", name := "feed", desc := "(IIIII)I" } : Jvm.MethodName) ({ cls := "LichenTable", name := "feed", desc := "(IIIII)I" } : Jvm.MethodName)) ∈ lw_all := lw_g (lw_at lw_m2 230 rfl) rfl
theorem q548 : (Jvm.Cond.code ({ cls := "LichenTable", name := "feed", desc := "(IIIII)I" } : Jvm.MethodName) prog_1_method_21_code (6 : Nat) (Option.some Jvm.ClassFile.FieldType.int)) ∈ lw_all := lw_g (lw_at lw_m2 231 rfl) rfl
theorem q549 : (Jvm.Cond.methodLink "LichenTable" (186 : Nat) ({ cls := "LichenTable", name := "four", desc := "(I)V" } : Jvm.MethodName)) ∈ lw_all := lw_g (lw_at lw_m2 232 rfl) rfl
theorem q550 : (Jvm.Cond.privateMethod ({ cls := "LichenTable", name := "four", desc := "(I)V" } : Jvm.MethodName)) ∈ lw_tbl := lw_at lw_m2 233 rfl
theorem q551 : (Jvm.Cond.instanceMethod ({ cls := "LichenTable", name := "four", desc := "(I)V" } : Jvm.MethodName)) ∈ lw_all := lw_g (lw_at lw_m2 234 rfl) rfl
theorem q552 : (Jvm.Cond.code ({ cls := "LichenTable", name := "four", desc := "(I)V" } : Jvm.MethodName) prog_1_method_20_code (3 : Nat) (Option.none : Option Jvm.ClassFile.FieldType)) ∈ lw_all := lw_g (lw_at lw_m2 235 rfl) rfl
theorem q554 : (Jvm.Cond.instanceMethod ({ cls := "LichenTable", name := "end", desc := "(I)I" } : Jvm.MethodName)) ∈ lw_all := lw_g (lw_at lw_m2 237 rfl) rfl
theorem q555 : (Jvm.Cond.selects "LichenTable" ({ cls := "LichenTable", name := "end", desc := "(I)I" } : Jvm.MethodName) ({ cls := "LichenTable", name := "end", desc := "(I)I" } : Jvm.MethodName)) ∈ lw_all := lw_g (lw_at lw_m2 238 rfl) rfl
theorem q556 : (Jvm.Cond.code ({ cls := "LichenTable", name := "end", desc := "(I)I" } : Jvm.MethodName) prog_1_method_22_code (2 : Nat) (Option.some Jvm.ClassFile.FieldType.int)) ∈ lw_all := lw_g (lw_at lw_m2 239 rfl) rfl
theorem q558 : (Jvm.Cond.instanceMethod ({ cls := "LichenTable", name := "rule", desc := "()I" } : Jvm.MethodName)) ∈ lw_all := lw_g (lw_at lw_m3 1 rfl) rfl
theorem q559 : (Jvm.Cond.selects "LichenTable" ({ cls := "LichenTable", name := "rule", desc := "()I" } : Jvm.MethodName) ({ cls := "LichenTable", name := "rule", desc := "()I" } : Jvm.MethodName)) ∈ lw_all := lw_g (lw_at lw_m3 2 rfl) rfl
theorem q560 : (Jvm.Cond.codeWith ({ cls := "LichenTable", name := "rule", desc := "()I" } : Jvm.MethodName) prog_1_method_23_code (4 : Nat) (Option.some Jvm.ClassFile.FieldType.int) [((11 : Nat), (23 : Nat), (26 : Nat), (201 : Nat))]) ∈ lw_all := lw_g (lw_at lw_m3 3 rfl) rfl
theorem q561 : (Jvm.Cond.classLink "LichenTable" (201 : Nat) "LichenTable$Wrong") ∈ lw_all := lw_g (lw_at lw_m3 4 rfl) rfl
theorem q562 : (Jvm.Cond.classLink "LichenTable" (190 : Nat) "LichenTable$Reader") ∈ lw_all := lw_g (lw_at lw_m3 5 rfl) rfl
theorem q564 : (Jvm.Cond.methodLinkNest "LichenTable" (192 : Nat) ({ cls := "LichenTable$Reader", name := "<init>", desc := "(LLichenTable;)V" } : Jvm.MethodName) "LichenTable") ∈ lw_tbl := lw_at lw_m3 7 rfl
theorem q571 : (Jvm.Cond.fieldLinkNest "LichenTable" (198 : Nat) "LichenTable$Reader" "made" "Ljava/util/ArrayList;" "LichenTable") ∈ lw_tbl := lw_at lw_m3 14 rfl
theorem q574 : (Jvm.Cond.fieldLinkNest "LichenTable" (204 : Nat) "LichenTable$Reader" "place" "I" "LichenTable") ∈ lw_tbl := lw_at lw_m3 17 rfl
theorem q591 : (Jvm.Cond.methodLink "LichenTable" (195 : Nat) ({ cls := "LichenTable$Reader", name := "read", desc := "()V" } : Jvm.MethodName)) ∈ lw_all := lw_g (lw_at lw_m3 34 rfl) rfl
theorem q719 : (Jvm.Cond.fieldLinkNest "LichenTable" (203 : Nat) "LichenTable$Wrong" "kind" "I" "LichenTable") ∈ lw_tbl := lw_at lw_m3 162 rfl
theorem q805 : (Jvm.Cond.instanceMethod ({ cls := "LichenTable", name := "place", desc := "()I" } : Jvm.MethodName)) ∈ lw_all := lw_g (lw_at lw_m4 8 rfl) rfl
theorem q806 : (Jvm.Cond.selects "LichenTable" ({ cls := "LichenTable", name := "place", desc := "()I" } : Jvm.MethodName) ({ cls := "LichenTable", name := "place", desc := "()I" } : Jvm.MethodName)) ∈ lw_all := lw_g (lw_at lw_m4 9 rfl) rfl
theorem q807 : (Jvm.Cond.code ({ cls := "LichenTable", name := "place", desc := "()I" } : Jvm.MethodName) prog_1_method_24_code (1 : Nat) (Option.some Jvm.ClassFile.FieldType.int)) ∈ lw_all := lw_g (lw_at lw_m4 10 rfl) rfl
theorem q809 : (Jvm.Cond.instanceMethod ({ cls := "LichenTable", name := "used", desc := "(II)I" } : Jvm.MethodName)) ∈ lw_all := lw_g (lw_at lw_m4 12 rfl) rfl
theorem q810 : (Jvm.Cond.selects "LichenTable" ({ cls := "LichenTable", name := "used", desc := "(II)I" } : Jvm.MethodName) ({ cls := "LichenTable", name := "used", desc := "(II)I" } : Jvm.MethodName)) ∈ lw_all := lw_g (lw_at lw_m4 13 rfl) rfl
theorem q811 : (Jvm.Cond.code ({ cls := "LichenTable", name := "used", desc := "(II)I" } : Jvm.MethodName) prog_1_method_32_code (4 : Nat) (Option.some Jvm.ClassFile.FieldType.int)) ∈ lw_all := lw_g (lw_at lw_m4 14 rfl) rfl
theorem q812 : (Jvm.Cond.methodLink "LichenTable" (250 : Nat) ({ cls := "LichenTable", name := "circleAt", desc := "(II)LLichenTable$Circle;" } : Jvm.MethodName)) ∈ lw_all := lw_g (lw_at lw_m4 15 rfl) rfl
theorem q813 : (Jvm.Cond.privateMethod ({ cls := "LichenTable", name := "circleAt", desc := "(II)LLichenTable$Circle;" } : Jvm.MethodName)) ∈ lw_tbl := lw_at lw_m4 16 rfl
theorem q814 : (Jvm.Cond.instanceMethod ({ cls := "LichenTable", name := "circleAt", desc := "(II)LLichenTable$Circle;" } : Jvm.MethodName)) ∈ lw_all := lw_g (lw_at lw_m4 17 rfl) rfl
theorem q815 : (Jvm.Cond.code ({ cls := "LichenTable", name := "circleAt", desc := "(II)LLichenTable$Circle;" } : Jvm.MethodName) prog_1_method_31_code (3 : Nat) (Option.some (Jvm.ClassFile.FieldType.object "LichenTable$Circle"))) ∈ lw_all := lw_g (lw_at lw_m4 18 rfl) rfl
theorem q816 : (Jvm.Cond.methodLink "LichenTable" (153 : Nat) ({ cls := "LichenTable", name := "isKnown", desc := "(I)Z" } : Jvm.MethodName)) ∈ lw_all := lw_g (lw_at lw_m4 19 rfl) rfl
theorem q817 : (Jvm.Cond.privateMethod ({ cls := "LichenTable", name := "isKnown", desc := "(I)Z" } : Jvm.MethodName)) ∈ lw_tbl := lw_at lw_m4 20 rfl
theorem q818 : (Jvm.Cond.instanceMethod ({ cls := "LichenTable", name := "isKnown", desc := "(I)Z" } : Jvm.MethodName)) ∈ lw_all := lw_g (lw_at lw_m4 21 rfl) rfl
theorem q819 : (Jvm.Cond.code ({ cls := "LichenTable", name := "isKnown", desc := "(I)Z" } : Jvm.MethodName) prog_1_method_17_code (2 : Nat) (Option.some Jvm.ClassFile.FieldType.boolean)) ∈ lw_all := lw_g (lw_at lw_m4 22 rfl) rfl
theorem q820 : (Jvm.Cond.methodLink "LichenTable" (230 : Nat) ({ cls := "LichenTable", name := "findHabits", desc := "(I)V" } : Jvm.MethodName)) ∈ lw_all := lw_g (lw_at lw_m4 23 rfl) rfl
theorem q821 : (Jvm.Cond.privateMethod ({ cls := "LichenTable", name := "findHabits", desc := "(I)V" } : Jvm.MethodName)) ∈ lw_tbl := lw_at lw_m4 24 rfl
theorem q822 : (Jvm.Cond.instanceMethod ({ cls := "LichenTable", name := "findHabits", desc := "(I)V" } : Jvm.MethodName)) ∈ lw_all := lw_g (lw_at lw_m4 25 rfl) rfl
theorem q823 : (Jvm.Cond.code ({ cls := "LichenTable", name := "findHabits", desc := "(I)V" } : Jvm.MethodName) prog_1_method_25_code (5 : Nat) (Option.none : Option Jvm.ClassFile.FieldType)) ∈ lw_all := lw_g (lw_at lw_m4 26 rfl) rfl
theorem q824 : (Jvm.Cond.constant "LichenTable" (207 : Nat) (1000000 : Int32)) ∈ lw_all := lw_g (lw_at lw_m4 27 rfl) rfl
theorem q825 : (Jvm.Cond.methodLink "LichenTable" (208 : Nat) ({ cls := "LichenTable$Twice", name := "isBy", desc := "(I)Z" } : Jvm.MethodName)) ∈ lw_all := lw_g (lw_at lw_m4 28 rfl) rfl
theorem q831 : (Jvm.Cond.methodLink "LichenTable" (218 : Nat) ({ cls := "java/lang/Math", name := "min", desc := "(II)I" } : Jvm.MethodName)) ∈ lw_all := lw_g (lw_at lw_m4 34 rfl) rfl
theorem q832 : (Jvm.Cond.methodLink "LichenTable" (254 : Nat) ({ cls := "LichenTable", name := "isUsed", desc := "(LLichenTable$Circle;I)Z" } : Jvm.MethodName)) ∈ lw_all := lw_g (lw_at lw_m4 35 rfl) rfl
theorem q833 : (Jvm.Cond.privateMethod ({ cls := "LichenTable", name := "isUsed", desc := "(LLichenTable$Circle;I)Z" } : Jvm.MethodName)) ∈ lw_tbl := lw_at lw_m4 36 rfl
theorem q834 : (Jvm.Cond.instanceMethod ({ cls := "LichenTable", name := "isUsed", desc := "(LLichenTable$Circle;I)Z" } : Jvm.MethodName)) ∈ lw_all := lw_g (lw_at lw_m4 37 rfl) rfl
theorem q835 : (Jvm.Cond.code ({ cls := "LichenTable", name := "isUsed", desc := "(LLichenTable$Circle;I)Z" } : Jvm.MethodName) prog_1_method_28_code (5 : Nat) (Option.some Jvm.ClassFile.FieldType.boolean)) ∈ lw_all := lw_g (lw_at lw_m4 38 rfl) rfl
theorem q836 : (Jvm.Cond.classLink "LichenTable" (236 : Nat) "LichenTable$Statement") ∈ lw_all := lw_g (lw_at lw_m4 39 rfl) rfl
theorem q837 : (Jvm.Cond.methodLink "LichenTable" (238 : Nat) ({ cls := "LichenTable$Statement", name := "holds", desc := "(LLichenTable$Circle;)Z" } : Jvm.MethodName)) ∈ lw_all := lw_g (lw_at lw_m4 40 rfl) rfl
theorem q851 : (Jvm.Cond.static ({ cls := "LichenTable", name := "value", desc := "(ILLichenTable$Circle;)I" } : Jvm.MethodName)) ∈ lw_all := lw_g (lw_at lw_m4 54 rfl) rfl
theorem q852 : (Jvm.Cond.code ({ cls := "LichenTable", name := "value", desc := "(ILLichenTable$Circle;)I" } : Jvm.MethodName) prog_1_method_19_code (2 : Nat) (Option.some Jvm.ClassFile.FieldType.int)) ∈ lw_all := lw_g (lw_at lw_m4 55 rfl) rfl
theorem q853 : (Jvm.Cond.methodLink "LichenTable" (174 : Nat) ({ cls := "LichenTable$Circle", name := "round", desc := "()I" } : Jvm.MethodName)) ∈ lw_all := lw_g (lw_at lw_m4 56 rfl) rfl
theorem q857 : (Jvm.Cond.methodLink "LichenTable" (242 : Nat) ({ cls := "LichenTable$Statement", name := "uses", desc := "()Z" } : Jvm.MethodName)) ∈ lw_all := lw_g (lw_at lw_m4 60 rfl) rfl
theorem q866 : (Jvm.Cond.methodLink "LichenTable" (246 : Nat) ({ cls := "LichenTable$Circle", name := "isBy", desc := "(I)Z" } : Jvm.MethodName)) ∈ lw_all := lw_g (lw_at lw_m4 69 rfl) rfl
theorem q869 : (Jvm.Cond.methodLink "LichenTable" (233 : Nat) ({ cls := "LichenTable", name := "isLed", desc := "(I)Z" } : Jvm.MethodName)) ∈ lw_all := lw_g (lw_at lw_m4 72 rfl) rfl
theorem q870 : (Jvm.Cond.privateMethod ({ cls := "LichenTable", name := "isLed", desc := "(I)Z" } : Jvm.MethodName)) ∈ lw_tbl := lw_at lw_m4 73 rfl
theorem q871 : (Jvm.Cond.instanceMethod ({ cls := "LichenTable", name := "isLed", desc := "(I)Z" } : Jvm.MethodName)) ∈ lw_all := lw_g (lw_at lw_m4 74 rfl) rfl
theorem q872 : (Jvm.Cond.code ({ cls := "LichenTable", name := "isLed", desc := "(I)Z" } : Jvm.MethodName) prog_1_method_26_code (2 : Nat) (Option.some Jvm.ClassFile.FieldType.boolean)) ∈ lw_all := lw_g (lw_at lw_m4 75 rfl) rfl
theorem q874 : (Jvm.Cond.instanceMethod ({ cls := "LichenTable", name := "trueSize", desc := "(III)I" } : Jvm.MethodName)) ∈ lw_all := lw_g (lw_at lw_m4 77 rfl) rfl
theorem q875 : (Jvm.Cond.selects "LichenTable" ({ cls := "LichenTable", name := "trueSize", desc := "(III)I" } : Jvm.MethodName) ({ cls := "LichenTable", name := "trueSize", desc := "(III)I" } : Jvm.MethodName)) ∈ lw_all := lw_g (lw_at lw_m4 78 rfl) rfl
theorem q876 : (Jvm.Cond.code ({ cls := "LichenTable", name := "trueSize", desc := "(III)I" } : Jvm.MethodName) prog_1_method_33_code (5 : Nat) (Option.some Jvm.ClassFile.FieldType.int)) ∈ lw_all := lw_g (lw_at lw_m4 79 rfl) rfl
theorem q877 : (Jvm.Cond.methodLink "LichenTable" (258 : Nat) ({ cls := "LichenTable", name := "least", desc := "(LLichenTable$Circle;)I" } : Jvm.MethodName)) ∈ lw_all := lw_g (lw_at lw_m4 80 rfl) rfl
theorem q878 : (Jvm.Cond.privateMethod ({ cls := "LichenTable", name := "least", desc := "(LLichenTable$Circle;)I" } : Jvm.MethodName)) ∈ lw_tbl := lw_at lw_m4 81 rfl
theorem q879 : (Jvm.Cond.instanceMethod ({ cls := "LichenTable", name := "least", desc := "(LLichenTable$Circle;)I" } : Jvm.MethodName)) ∈ lw_all := lw_g (lw_at lw_m4 82 rfl) rfl
theorem q880 : (Jvm.Cond.code ({ cls := "LichenTable", name := "least", desc := "(LLichenTable$Circle;)I" } : Jvm.MethodName) prog_1_method_29_code (2 : Nat) (Option.some Jvm.ClassFile.FieldType.int)) ∈ lw_all := lw_g (lw_at lw_m4 83 rfl) rfl
theorem q881 : (Jvm.Cond.methodLink "LichenTable" (247 : Nat) ({ cls := "java/lang/Math", name := "max", desc := "(II)I" } : Jvm.MethodName)) ∈ lw_all := lw_g (lw_at lw_m4 84 rfl) rfl
theorem q882 : (Jvm.Cond.methodLink "LichenTable" (262 : Nat) ({ cls := "LichenTable", name := "most", desc := "(LLichenTable$Circle;)I" } : Jvm.MethodName)) ∈ lw_all := lw_g (lw_at lw_m4 85 rfl) rfl
theorem q883 : (Jvm.Cond.privateMethod ({ cls := "LichenTable", name := "most", desc := "(LLichenTable$Circle;)I" } : Jvm.MethodName)) ∈ lw_tbl := lw_at lw_m4 86 rfl
theorem q884 : (Jvm.Cond.instanceMethod ({ cls := "LichenTable", name := "most", desc := "(LLichenTable$Circle;)I" } : Jvm.MethodName)) ∈ lw_all := lw_g (lw_at lw_m4 87 rfl) rfl
theorem q885 : (Jvm.Cond.code ({ cls := "LichenTable", name := "most", desc := "(LLichenTable$Circle;)I" } : Jvm.MethodName) prog_1_method_30_code (2 : Nat) (Option.some Jvm.ClassFile.FieldType.int)) ∈ lw_all := lw_g (lw_at lw_m4 88 rfl) rfl
theorem q887 : (Jvm.Cond.instanceMethod ({ cls := "LichenTable", name := "struck", desc := "(IIII)I" } : Jvm.MethodName)) ∈ lw_all := lw_g (lw_at lw_m4 90 rfl) rfl
theorem q888 : (Jvm.Cond.selects "LichenTable" ({ cls := "LichenTable", name := "struck", desc := "(IIII)I" } : Jvm.MethodName) ({ cls := "LichenTable", name := "struck", desc := "(IIII)I" } : Jvm.MethodName)) ∈ lw_all := lw_g (lw_at lw_m4 91 rfl) rfl
theorem q889 : (Jvm.Cond.code ({ cls := "LichenTable", name := "struck", desc := "(IIII)I" } : Jvm.MethodName) prog_1_method_39_code (5 : Nat) (Option.some Jvm.ClassFile.FieldType.int)) ∈ lw_all := lw_g (lw_at lw_m4 92 rfl) rfl
theorem q890 : (Jvm.Cond.methodLink "LichenTable" (301 : Nat) ({ cls := "LichenTable", name := "isClass", desc := "(IIII)Z" } : Jvm.MethodName)) ∈ lw_all := lw_g (lw_at lw_m4 93 rfl) rfl
theorem q891 : (Jvm.Cond.privateMethod ({ cls := "LichenTable", name := "isClass", desc := "(IIII)Z" } : Jvm.MethodName)) ∈ lw_tbl := lw_at lw_m4 94 rfl
theorem q892 : (Jvm.Cond.instanceMethod ({ cls := "LichenTable", name := "isClass", desc := "(IIII)Z" } : Jvm.MethodName)) ∈ lw_all := lw_g (lw_at lw_m4 95 rfl) rfl
theorem q893 : (Jvm.Cond.code ({ cls := "LichenTable", name := "isClass", desc := "(IIII)Z" } : Jvm.MethodName) prog_1_method_38_code (5 : Nat) (Option.some Jvm.ClassFile.FieldType.boolean)) ∈ lw_all := lw_g (lw_at lw_m4 96 rfl) rfl
theorem q894 : (Jvm.Cond.methodLink "LichenTable" (305 : Nat) ({ cls := "LichenTable", name := "begins", desc := "(I)V" } : Jvm.MethodName)) ∈ lw_all := lw_g (lw_at lw_m4 97 rfl) rfl
theorem q895 : (Jvm.Cond.privateMethod ({ cls := "LichenTable", name := "begins", desc := "(I)V" } : Jvm.MethodName)) ∈ lw_tbl := lw_at lw_m4 98 rfl
theorem q896 : (Jvm.Cond.instanceMethod ({ cls := "LichenTable", name := "begins", desc := "(I)V" } : Jvm.MethodName)) ∈ lw_all := lw_g (lw_at lw_m4 99 rfl) rfl
theorem q897 : (Jvm.Cond.code ({ cls := "LichenTable", name := "begins", desc := "(I)V" } : Jvm.MethodName) prog_1_method_36_code (3 : Nat) (Option.none : Option Jvm.ClassFile.FieldType)) ∈ lw_all := lw_g (lw_at lw_m4 100 rfl) rfl
theorem q898 : (Jvm.Cond.methodLink "LichenTable" (308 : Nat) ({ cls := "LichenTable", name := "curve", desc := "(IIII)LLichenTable$Curve;" } : Jvm.MethodName)) ∈ lw_all := lw_g (lw_at lw_m4 101 rfl) rfl
theorem q899 : (Jvm.Cond.privateMethod ({ cls := "LichenTable", name := "curve", desc := "(IIII)LLichenTable$Curve;" } : Jvm.MethodName)) ∈ lw_tbl := lw_at lw_m4 102 rfl
theorem q900 : (Jvm.Cond.instanceMethod ({ cls := "LichenTable", name := "curve", desc := "(IIII)LLichenTable$Curve;" } : Jvm.MethodName)) ∈ lw_all := lw_g (lw_at lw_m4 103 rfl) rfl
theorem q901 : (Jvm.Cond.code ({ cls := "LichenTable", name := "curve", desc := "(IIII)LLichenTable$Curve;" } : Jvm.MethodName) prog_1_method_37_code (10 : Nat) (Option.some (Jvm.ClassFile.FieldType.object "LichenTable$Curve"))) ∈ lw_all := lw_g (lw_at lw_m4 104 rfl) rfl
theorem q903 : (Jvm.Cond.methodLinkNest "LichenTable" (282 : Nat) ({ cls := "LichenTable$Curve", name := "<init>", desc := "(LLichenTable;)V" } : Jvm.MethodName) "LichenTable") ∈ lw_tbl := lw_at lw_m4 106 rfl
theorem q912 : (Jvm.Cond.fieldLinkNest "LichenTable" (312 : Nat) "LichenTable$Curve" "struck" "I" "LichenTable") ∈ lw_tbl := lw_at lw_m4 115 rfl
theorem q923 : (Jvm.Cond.methodLink "LichenTable" (283 : Nat) ({ cls := "LichenTable$Site", name := "isDated", desc := "()Z" } : Jvm.MethodName)) ∈ lw_all := lw_g (lw_at lw_m4 126 rfl) rfl
theorem q927 : (Jvm.Cond.methodLink "LichenTable" (156 : Nat) ({ cls := "LichenTable$Site", name := "isBy", desc := "(I)Z" } : Jvm.MethodName)) ∈ lw_all := lw_g (lw_at lw_m4 130 rfl) rfl
theorem q930 : (Jvm.Cond.methodLink "LichenTable" (286 : Nat) ({ cls := "LichenTable$Site", name := "isLike", desc := "(II)Z" } : Jvm.MethodName)) ∈ lw_all := lw_g (lw_at lw_m4 133 rfl) rfl
theorem q934 : (Jvm.Cond.methodLink "LichenTable" (290 : Nat) ({ cls := "LichenTable", name := "findGroups", desc := "(Ljava/util/ArrayList;LLichenTable$Site;II)V" } : Jvm.MethodName)) ∈ lw_all := lw_g (lw_at lw_m4 137 rfl) rfl
theorem q935 : (Jvm.Cond.privateMethod ({ cls := "LichenTable", name := "findGroups", desc := "(Ljava/util/ArrayList;LLichenTable$Site;II)V" } : Jvm.MethodName)) ∈ lw_tbl := lw_at lw_m4 138 rfl
theorem q936 : (Jvm.Cond.instanceMethod ({ cls := "LichenTable", name := "findGroups", desc := "(Ljava/util/ArrayList;LLichenTable$Site;II)V" } : Jvm.MethodName)) ∈ lw_all := lw_g (lw_at lw_m4 139 rfl) rfl
theorem q937 : (Jvm.Cond.code ({ cls := "LichenTable", name := "findGroups", desc := "(Ljava/util/ArrayList;LLichenTable$Site;II)V" } : Jvm.MethodName) prog_1_method_35_code (10 : Nat) (Option.none : Option Jvm.ClassFile.FieldType)) ∈ lw_all := lw_g (lw_at lw_m4 140 rfl) rfl
theorem q938 : (Jvm.Cond.classLink "LichenTable" (272 : Nat) "LichenTable$Group") ∈ lw_all := lw_g (lw_at lw_m4 141 rfl) rfl
theorem q940 : (Jvm.Cond.methodLink "LichenTable" (275 : Nat) ({ cls := "LichenTable$Group", name := "<init>", desc := "(LLichenTable$Site;I)V" } : Jvm.MethodName)) ∈ lw_all := lw_g (lw_at lw_m4 143 rfl) rfl
theorem q948 : (Jvm.Cond.fieldLinkNest "LichenTable" (274 : Nat) "LichenTable$Group" "year" "I" "LichenTable") ∈ lw_tbl := lw_at lw_m4 151 rfl
theorem q951 : (Jvm.Cond.fieldLinkNest "LichenTable" (322 : Nat) "LichenTable$Group" "least" "I" "LichenTable") ∈ lw_tbl := lw_at lw_m4 154 rfl
theorem q954 : (Jvm.Cond.fieldLinkNest "LichenTable" (334 : Nat) "LichenTable$Group" "most" "I" "LichenTable") ∈ lw_tbl := lw_at lw_m4 157 rfl
theorem q964 : (Jvm.Cond.methodLink "LichenTable" (278 : Nat) ({ cls := "LichenTable$Group", name := "has", desc := "(II)V" } : Jvm.MethodName)) ∈ lw_all := lw_g (lw_at lw_m4 167 rfl) rfl
theorem q969 : (Jvm.Cond.methodLink "LichenTable" (294 : Nat) ({ cls := "LichenTable$Curve", name := "asks", desc := "(LLichenTable$Group;II)V" } : Jvm.MethodName)) ∈ lw_all := lw_g (lw_at lw_m4 172 rfl) rfl
theorem q1009 : (Jvm.Cond.privateMethod ({ cls := "LichenTable", name := "lookedAt", desc := "(III)I" } : Jvm.MethodName)) ∈ lw_tbl := lw_at lw_m4 212 rfl
theorem q1010 : (Jvm.Cond.instanceMethod ({ cls := "LichenTable", name := "lookedAt", desc := "(III)I" } : Jvm.MethodName)) ∈ lw_all := lw_g (lw_at lw_m4 213 rfl) rfl
theorem q1011 : (Jvm.Cond.code ({ cls := "LichenTable", name := "lookedAt", desc := "(III)I" } : Jvm.MethodName) prog_1_method_34_code (6 : Nat) (Option.some Jvm.ClassFile.FieldType.int)) ∈ lw_all := lw_g (lw_at lw_m4 214 rfl) rfl
theorem q1012 : (Jvm.Cond.methodLink "LichenTable" (268 : Nat) ({ cls := "LichenTable$Look", name := "isBy", desc := "(I)Z" } : Jvm.MethodName)) ∈ lw_all := lw_g (lw_at lw_m4 215 rfl) rfl
theorem q1025 : (Jvm.Cond.methodLink "LichenTable" (298 : Nat) ({ cls := "LichenTable$Curve", name := "strikes", desc := "()V" } : Jvm.MethodName)) ∈ lw_all := lw_g (lw_at lw_m4 228 rfl) rfl
theorem q1050 : (Jvm.Cond.instanceMethod ({ cls := "LichenTable", name := "size", desc := "(IIIIII)I" } : Jvm.MethodName)) ∈ lw_all := lw_g (lw_at lw_m5 13 rfl) rfl
theorem q1051 : (Jvm.Cond.selects "LichenTable" ({ cls := "LichenTable", name := "size", desc := "(IIIIII)I" } : Jvm.MethodName) ({ cls := "LichenTable", name := "size", desc := "(IIIIII)I" } : Jvm.MethodName)) ∈ lw_all := lw_g (lw_at lw_m5 14 rfl) rfl
theorem q1052 : (Jvm.Cond.code ({ cls := "LichenTable", name := "size", desc := "(IIIIII)I" } : Jvm.MethodName) prog_1_method_40_code (8 : Nat) (Option.some Jvm.ClassFile.FieldType.int)) ∈ lw_all := lw_g (lw_at lw_m5 15 rfl) rfl
theorem q1053 : (Jvm.Cond.methodLink "LichenTable" (315 : Nat) ({ cls := "LichenTable$Curve", name := "least", desc := "(I)I" } : Jvm.MethodName)) ∈ lw_all := lw_g (lw_at lw_m5 16 rfl) rfl
theorem q1063 : (Jvm.Cond.methodLink "LichenTable" (318 : Nat) ({ cls := "LichenTable$Curve", name := "greatest", desc := "(I)I" } : Jvm.MethodName)) ∈ lw_all := lw_g (lw_at lw_m5 26 rfl) rfl
theorem q1073 : (Jvm.Cond.instanceMethod ({ cls := "LichenTable", name := "span", desc := "(III)I" } : Jvm.MethodName)) ∈ lw_all := lw_g (lw_at lw_m5 36 rfl) rfl
theorem q1074 : (Jvm.Cond.selects "LichenTable" ({ cls := "LichenTable", name := "span", desc := "(III)I" } : Jvm.MethodName) ({ cls := "LichenTable", name := "span", desc := "(III)I" } : Jvm.MethodName)) ∈ lw_all := lw_g (lw_at lw_m5 37 rfl) rfl
theorem q1075 : (Jvm.Cond.code ({ cls := "LichenTable", name := "span", desc := "(III)I" } : Jvm.MethodName) prog_1_method_43_code (5 : Nat) (Option.some Jvm.ClassFile.FieldType.int)) ∈ lw_all := lw_g (lw_at lw_m5 38 rfl) rfl
theorem q1076 : (Jvm.Cond.methodLink "LichenTable" (352 : Nat) ({ cls := "LichenTable", name := "isThere", desc := "(II)Z" } : Jvm.MethodName)) ∈ lw_all := lw_g (lw_at lw_m5 39 rfl) rfl
theorem q1077 : (Jvm.Cond.privateMethod ({ cls := "LichenTable", name := "isThere", desc := "(II)Z" } : Jvm.MethodName)) ∈ lw_tbl := lw_at lw_m5 40 rfl
theorem q1078 : (Jvm.Cond.instanceMethod ({ cls := "LichenTable", name := "isThere", desc := "(II)Z" } : Jvm.MethodName)) ∈ lw_all := lw_g (lw_at lw_m5 41 rfl) rfl
theorem q1079 : (Jvm.Cond.code ({ cls := "LichenTable", name := "isThere", desc := "(II)Z" } : Jvm.MethodName) prog_1_method_18_code (3 : Nat) (Option.some Jvm.ClassFile.FieldType.boolean)) ∈ lw_all := lw_g (lw_at lw_m5 42 rfl) rfl
theorem q1080 : (Jvm.Cond.methodLink "LichenTable" (355 : Nat) ({ cls := "LichenTable", name := "spanOf", desc := "(LLichenTable$Site;I)LLichenTable$Span;" } : Jvm.MethodName)) ∈ lw_all := lw_g (lw_at lw_m5 43 rfl) rfl
theorem q1081 : (Jvm.Cond.privateMethod ({ cls := "LichenTable", name := "spanOf", desc := "(LLichenTable$Site;I)LLichenTable$Span;" } : Jvm.MethodName)) ∈ lw_tbl := lw_at lw_m5 44 rfl
theorem q1082 : (Jvm.Cond.instanceMethod ({ cls := "LichenTable", name := "spanOf", desc := "(LLichenTable$Site;I)LLichenTable$Span;" } : Jvm.MethodName)) ∈ lw_all := lw_g (lw_at lw_m5 45 rfl) rfl
theorem q1083 : (Jvm.Cond.code ({ cls := "LichenTable", name := "spanOf", desc := "(LLichenTable$Site;I)LLichenTable$Span;" } : Jvm.MethodName) prog_1_method_42_code (4 : Nat) (Option.some (Jvm.ClassFile.FieldType.object "LichenTable$Span"))) ∈ lw_all := lw_g (lw_at lw_m5 46 rfl) rfl
theorem q1084 : (Jvm.Cond.methodLink "LichenTable" (347 : Nat) ({ cls := "LichenTable", name := "spanBy", desc := "(LLichenTable$Site;I)LLichenTable$Span;" } : Jvm.MethodName)) ∈ lw_all := lw_g (lw_at lw_m5 47 rfl) rfl
theorem q1085 : (Jvm.Cond.privateMethod ({ cls := "LichenTable", name := "spanBy", desc := "(LLichenTable$Site;I)LLichenTable$Span;" } : Jvm.MethodName)) ∈ lw_tbl := lw_at lw_m5 48 rfl
theorem q1086 : (Jvm.Cond.instanceMethod ({ cls := "LichenTable", name := "spanBy", desc := "(LLichenTable$Site;I)LLichenTable$Span;" } : Jvm.MethodName)) ∈ lw_all := lw_g (lw_at lw_m5 49 rfl) rfl
theorem q1087 : (Jvm.Cond.code ({ cls := "LichenTable", name := "spanBy", desc := "(LLichenTable$Site;I)LLichenTable$Span;" } : Jvm.MethodName) prog_1_method_41_code (10 : Nat) (Option.some (Jvm.ClassFile.FieldType.object "LichenTable$Span"))) ∈ lw_all := lw_g (lw_at lw_m5 50 rfl) rfl
theorem q1089 : (Jvm.Cond.methodLinkNest "LichenTable" (321 : Nat) ({ cls := "LichenTable$Span", name := "<init>", desc := "()V" } : Jvm.MethodName) "LichenTable") ∈ lw_tbl := lw_at lw_m5 52 rfl
theorem q1094 : (Jvm.Cond.fieldLinkNest "LichenTable" (361 : Nat) "LichenTable$Span" "from" "I" "LichenTable") ∈ lw_tbl := lw_at lw_m5 57 rfl
theorem q1096 : (Jvm.Cond.fieldLinkNest "LichenTable" (362 : Nat) "LichenTable$Span" "to" "I" "LichenTable") ∈ lw_tbl := lw_at lw_m5 59 rfl
theorem q1102 : (Jvm.Cond.methodLink "LichenTable" (324 : Nat) ({ cls := "LichenTable$Curve", name := "firstAge", desc := "(I)I" } : Jvm.MethodName)) ∈ lw_all := lw_g (lw_at lw_m5 65 rfl) rfl
theorem q1107 : (Jvm.Cond.methodLink "LichenTable" (327 : Nat) ({ cls := "LichenTable$Span", name := "within", desc := "(II)V" } : Jvm.MethodName)) ∈ lw_all := lw_g (lw_at lw_m5 70 rfl) rfl
theorem q1113 : (Jvm.Cond.methodLink "LichenTable" (330 : Nat) ({ cls := "LichenTable", name := "lookedAt", desc := "(III)I" } : Jvm.MethodName)) ∈ lw_all := lw_g (lw_at lw_m5 76 rfl) rfl
theorem q1114 : (Jvm.Cond.methodLink "LichenTable" (336 : Nat) ({ cls := "LichenTable$Curve", name := "lastAge", desc := "(I)I" } : Jvm.MethodName)) ∈ lw_all := lw_g (lw_at lw_m5 77 rfl) rfl
theorem q1119 : (Jvm.Cond.methodLink "LichenTable" (340 : Nat) ({ cls := "LichenTable$Witness", name := "isBy", desc := "(I)Z" } : Jvm.MethodName)) ∈ lw_all := lw_g (lw_at lw_m5 82 rfl) rfl
theorem q1122 : (Jvm.Cond.methodLink "LichenTable" (358 : Nat) ({ cls := "LichenTable$Span", name := "isNone", desc := "()Z" } : Jvm.MethodName)) ∈ lw_all := lw_g (lw_at lw_m5 85 rfl) rfl
theorem q1127 : (Jvm.Cond.instanceMethod ({ cls := "LichenTable", name := "bound", desc := "(III)I" } : Jvm.MethodName)) ∈ lw_all := lw_g (lw_at lw_m5 90 rfl) rfl
theorem q1128 : (Jvm.Cond.selects "LichenTable" ({ cls := "LichenTable", name := "bound", desc := "(III)I" } : Jvm.MethodName) ({ cls := "LichenTable", name := "bound", desc := "(III)I" } : Jvm.MethodName)) ∈ lw_all := lw_g (lw_at lw_m5 91 rfl) rfl
theorem q1129 : (Jvm.Cond.code ({ cls := "LichenTable", name := "bound", desc := "(III)I" } : Jvm.MethodName) prog_1_method_47_code (4 : Nat) (Option.some Jvm.ClassFile.FieldType.int)) ∈ lw_all := lw_g (lw_at lw_m5 92 rfl) rfl
theorem q1130 : (Jvm.Cond.methodLink "LichenTable" (370 : Nat) ({ cls := "LichenTable", name := "findSpans", desc := "(I)V" } : Jvm.MethodName)) ∈ lw_all := lw_g (lw_at lw_m5 93 rfl) rfl
theorem q1131 : (Jvm.Cond.privateMethod ({ cls := "LichenTable", name := "findSpans", desc := "(I)V" } : Jvm.MethodName)) ∈ lw_tbl := lw_at lw_m5 94 rfl
theorem q1132 : (Jvm.Cond.instanceMethod ({ cls := "LichenTable", name := "findSpans", desc := "(I)V" } : Jvm.MethodName)) ∈ lw_all := lw_g (lw_at lw_m5 95 rfl) rfl
theorem q1133 : (Jvm.Cond.code ({ cls := "LichenTable", name := "findSpans", desc := "(I)V" } : Jvm.MethodName) prog_1_method_44_code (3 : Nat) (Option.none : Option Jvm.ClassFile.FieldType)) ∈ lw_all := lw_g (lw_at lw_m5 96 rfl) rfl
theorem q1134 : (Jvm.Cond.methodLink "LichenTable" (373 : Nat) ({ cls := "LichenTable", name := "binds", desc := "(III)Z" } : Jvm.MethodName)) ∈ lw_all := lw_g (lw_at lw_m5 97 rfl) rfl
theorem q1135 : (Jvm.Cond.privateMethod ({ cls := "LichenTable", name := "binds", desc := "(III)Z" } : Jvm.MethodName)) ∈ lw_tbl := lw_at lw_m5 98 rfl
theorem q1136 : (Jvm.Cond.instanceMethod ({ cls := "LichenTable", name := "binds", desc := "(III)Z" } : Jvm.MethodName)) ∈ lw_all := lw_g (lw_at lw_m5 99 rfl) rfl
theorem q1137 : (Jvm.Cond.code ({ cls := "LichenTable", name := "binds", desc := "(III)Z" } : Jvm.MethodName) prog_1_method_46_code (6 : Nat) (Option.some Jvm.ClassFile.FieldType.boolean)) ∈ lw_all := lw_g (lw_at lw_m5 100 rfl) rfl
theorem q1138 : (Jvm.Cond.methodLink "LichenTable" (363 : Nat) ({ cls := "LichenTable$Order", name := "isBy", desc := "(I)Z" } : Jvm.MethodName)) ∈ lw_all := lw_g (lw_at lw_m5 101 rfl) rfl
theorem q1141 : (Jvm.Cond.methodLink "LichenTable" (367 : Nat) ({ cls := "LichenTable", name := "narrows", desc := "(III)Z" } : Jvm.MethodName)) ∈ lw_all := lw_g (lw_at lw_m5 104 rfl) rfl
theorem q1142 : (Jvm.Cond.privateMethod ({ cls := "LichenTable", name := "narrows", desc := "(III)Z" } : Jvm.MethodName)) ∈ lw_tbl := lw_at lw_m5 105 rfl
theorem q1143 : (Jvm.Cond.instanceMethod ({ cls := "LichenTable", name := "narrows", desc := "(III)Z" } : Jvm.MethodName)) ∈ lw_all := lw_g (lw_at lw_m5 106 rfl) rfl
theorem q1144 : (Jvm.Cond.code ({ cls := "LichenTable", name := "narrows", desc := "(III)Z" } : Jvm.MethodName) prog_1_method_45_code (8 : Nat) (Option.some Jvm.ClassFile.FieldType.boolean)) ∈ lw_all := lw_g (lw_at lw_m5 107 rfl) rfl
theorem q1146 : (Jvm.Cond.instanceMethod ({ cls := "LichenTable", name := "same", desc := "(III)I" } : Jvm.MethodName)) ∈ lw_all := lw_g (lw_at lw_m5 109 rfl) rfl
theorem q1147 : (Jvm.Cond.selects "LichenTable" ({ cls := "LichenTable", name := "same", desc := "(III)I" } : Jvm.MethodName) ({ cls := "LichenTable", name := "same", desc := "(III)I" } : Jvm.MethodName)) ∈ lw_all := lw_g (lw_at lw_m5 110 rfl) rfl
theorem q1148 : (Jvm.Cond.code ({ cls := "LichenTable", name := "same", desc := "(III)I" } : Jvm.MethodName) prog_1_method_48_code (4 : Nat) (Option.some Jvm.ClassFile.FieldType.int)) ∈ lw_all := lw_g (lw_at lw_m5 111 rfl) rfl
theorem q1150 : (Jvm.Cond.instanceMethod ({ cls := "LichenTable", name := "claim", desc := "(III)I" } : Jvm.MethodName)) ∈ lw_all := lw_g (lw_at lw_m5 113 rfl) rfl
theorem q1151 : (Jvm.Cond.selects "LichenTable" ({ cls := "LichenTable", name := "claim", desc := "(III)I" } : Jvm.MethodName) ({ cls := "LichenTable", name := "claim", desc := "(III)I" } : Jvm.MethodName)) ∈ lw_all := lw_g (lw_at lw_m5 114 rfl) rfl
theorem q1152 : (Jvm.Cond.code ({ cls := "LichenTable", name := "claim", desc := "(III)I" } : Jvm.MethodName) prog_1_method_49_code (4 : Nat) (Option.some Jvm.ClassFile.FieldType.int)) ∈ lw_all := lw_g (lw_at lw_m5 115 rfl) rfl
theorem q1154 : (Jvm.Cond.instanceMethod ({ cls := "LichenTable", name := "gaps", desc := "(IIIII)I" } : Jvm.MethodName)) ∈ lw_all := lw_g (lw_at lw_m5 117 rfl) rfl
theorem q1155 : (Jvm.Cond.selects "LichenTable" ({ cls := "LichenTable", name := "gaps", desc := "(IIIII)I" } : Jvm.MethodName) ({ cls := "LichenTable", name := "gaps", desc := "(IIIII)I" } : Jvm.MethodName)) ∈ lw_all := lw_g (lw_at lw_m5 118 rfl) rfl
theorem q1156 : (Jvm.Cond.code ({ cls := "LichenTable", name := "gaps", desc := "(IIIII)I" } : Jvm.MethodName) prog_1_method_52_code (7 : Nat) (Option.some Jvm.ClassFile.FieldType.int)) ∈ lw_all := lw_g (lw_at lw_m5 119 rfl) rfl
theorem q1157 : (Jvm.Cond.methodLink "LichenTable" (391 : Nat) ({ cls := "LichenTable", name := "findSizes", desc := "(IIIII)Z" } : Jvm.MethodName)) ∈ lw_all := lw_g (lw_at lw_m5 120 rfl) rfl
theorem q1158 : (Jvm.Cond.privateMethod ({ cls := "LichenTable", name := "findSizes", desc := "(IIIII)Z" } : Jvm.MethodName)) ∈ lw_tbl := lw_at lw_m5 121 rfl
theorem q1159 : (Jvm.Cond.instanceMethod ({ cls := "LichenTable", name := "findSizes", desc := "(IIIII)Z" } : Jvm.MethodName)) ∈ lw_all := lw_g (lw_at lw_m5 122 rfl) rfl
theorem q1160 : (Jvm.Cond.code ({ cls := "LichenTable", name := "findSizes", desc := "(IIIII)Z" } : Jvm.MethodName) prog_1_method_50_code (10 : Nat) (Option.some Jvm.ClassFile.FieldType.boolean)) ∈ lw_all := lw_g (lw_at lw_m5 123 rfl) rfl
theorem q1161 : (Jvm.Cond.methodLink "LichenTable" (376 : Nat) ({ cls := "java/lang/System", name := "arraycopy", desc := "(Ljava/lang/Object;ILjava/lang/Object;II)V" } : Jvm.MethodName)) ∈ lw_all := lw_g (lw_at lw_m5 124 rfl) rfl
theorem q1162 : (Jvm.Cond.methodLink "LichenTable" (382 : Nat) ({ cls := "java/util/Arrays", name := "sort", desc := "([I)V" } : Jvm.MethodName)) ∈ lw_all := lw_g (lw_at lw_m5 125 rfl) rfl
theorem q1203 : (Jvm.Cond.methodLink "LichenTable" (395 : Nat) ({ cls := "LichenTable", name := "gapAt", desc := "(II)I" } : Jvm.MethodName)) ∈ lw_all := lw_g (lw_at lw_m5 166 rfl) rfl
theorem q1204 : (Jvm.Cond.privateMethod ({ cls := "LichenTable", name := "gapAt", desc := "(II)I" } : Jvm.MethodName)) ∈ lw_tbl := lw_at lw_m5 167 rfl
theorem q1205 : (Jvm.Cond.instanceMethod ({ cls := "LichenTable", name := "gapAt", desc := "(II)I" } : Jvm.MethodName)) ∈ lw_all := lw_g (lw_at lw_m5 168 rfl) rfl
theorem q1206 : (Jvm.Cond.code ({ cls := "LichenTable", name := "gapAt", desc := "(II)I" } : Jvm.MethodName) prog_1_method_51_code (4 : Nat) (Option.some Jvm.ClassFile.FieldType.int)) ∈ lw_all := lw_g (lw_at lw_m5 169 rfl) rfl
theorem q1208 : (Jvm.Cond.instanceMethod ({ cls := "LichenTable", name := "gap", desc := "(IIIIIII)I" } : Jvm.MethodName)) ∈ lw_all := lw_g (lw_at lw_m5 171 rfl) rfl
theorem q1209 : (Jvm.Cond.selects "LichenTable" ({ cls := "LichenTable", name := "gap", desc := "(IIIIIII)I" } : Jvm.MethodName) ({ cls := "LichenTable", name := "gap", desc := "(IIIIIII)I" } : Jvm.MethodName)) ∈ lw_all := lw_g (lw_at lw_m5 172 rfl) rfl
theorem q1210 : (Jvm.Cond.code ({ cls := "LichenTable", name := "gap", desc := "(IIIIIII)I" } : Jvm.MethodName) prog_1_method_53_code (10 : Nat) (Option.some Jvm.ClassFile.FieldType.int)) ∈ lw_all := lw_g (lw_at lw_m5 173 rfl) rfl
theorem q1212 : (Jvm.Cond.instanceMethod ({ cls := "LichenTable", name := "grown", desc := "(II)I" } : Jvm.MethodName)) ∈ lw_all := lw_g (lw_at lw_m5 175 rfl) rfl
theorem q1213 : (Jvm.Cond.selects "LichenTable" ({ cls := "LichenTable", name := "grown", desc := "(II)I" } : Jvm.MethodName) ({ cls := "LichenTable", name := "grown", desc := "(II)I" } : Jvm.MethodName)) ∈ lw_all := lw_g (lw_at lw_m5 176 rfl) rfl
theorem q1214 : (Jvm.Cond.code ({ cls := "LichenTable", name := "grown", desc := "(II)I" } : Jvm.MethodName) prog_1_method_54_code (5 : Nat) (Option.some Jvm.ClassFile.FieldType.int)) ∈ lw_all := lw_g (lw_at lw_m5 177 rfl) rfl
theorem q1215 : (Jvm.Cond.methodLink "LichenTable" (398 : Nat) ({ cls := "LichenTable$Again", name := "isBy", desc := "(I)Z" } : Jvm.MethodName)) ∈ lw_all := lw_g (lw_at lw_m5 178 rfl) rfl
theorem q1219 : (Jvm.Cond.instanceMethod ({ cls := "LichenTable", name := "front", desc := "(III)I" } : Jvm.MethodName)) ∈ lw_all := lw_g (lw_at lw_m5 182 rfl) rfl
theorem q1220 : (Jvm.Cond.selects "LichenTable" ({ cls := "LichenTable", name := "front", desc := "(III)I" } : Jvm.MethodName) ({ cls := "LichenTable", name := "front", desc := "(III)I" } : Jvm.MethodName)) ∈ lw_all := lw_g (lw_at lw_m5 183 rfl) rfl
theorem q1221 : (Jvm.Cond.code ({ cls := "LichenTable", name := "front", desc := "(III)I" } : Jvm.MethodName) prog_1_method_55_code (7 : Nat) (Option.some Jvm.ClassFile.FieldType.int)) ∈ lw_all := lw_g (lw_at lw_m5 184 rfl) rfl
theorem q1223 : (Jvm.Cond.instanceMethod ({ cls := "LichenTable", name := "out", desc := "(II)I" } : Jvm.MethodName)) ∈ lw_all := lw_g (lw_at lw_m5 186 rfl) rfl
theorem q1224 : (Jvm.Cond.selects "LichenTable" ({ cls := "LichenTable", name := "out", desc := "(II)I" } : Jvm.MethodName) ({ cls := "LichenTable", name := "out", desc := "(II)I" } : Jvm.MethodName)) ∈ lw_all := lw_g (lw_at lw_m5 187 rfl) rfl
theorem q1225 : (Jvm.Cond.code ({ cls := "LichenTable", name := "out", desc := "(II)I" } : Jvm.MethodName) prog_1_method_56_code (4 : Nat) (Option.some Jvm.ClassFile.FieldType.int)) ∈ lw_all := lw_g (lw_at lw_m5 188 rfl) rfl
theorem q1226 : (Jvm.Cond.methodLink "LichenTable" (402 : Nat) ({ cls := "LichenTable$Span", name := "has", desc := "(I)Z" } : Jvm.MethodName)) ∈ lw_all := lw_g (lw_at lw_m5 189 rfl) rfl
theorem q1231 : (Jvm.Cond.instanceMethod ({ cls := "LichenTable", name := "count", desc := "(I)I" } : Jvm.MethodName)) ∈ lw_all := lw_g (lw_at lw_m5 194 rfl) rfl
theorem q1232 : (Jvm.Cond.selects "LichenTable" ({ cls := "LichenTable", name := "count", desc := "(I)I" } : Jvm.MethodName) ({ cls := "LichenTable", name := "count", desc := "(I)I" } : Jvm.MethodName)) ∈ lw_all := lw_g (lw_at lw_m5 195 rfl) rfl
theorem q1233 : (Jvm.Cond.code ({ cls := "LichenTable", name := "count", desc := "(I)I" } : Jvm.MethodName) prog_1_method_57_code (2 : Nat) (Option.some Jvm.ClassFile.FieldType.int)) ∈ lw_all := lw_g (lw_at lw_m5 196 rfl) rfl
theorem q1239 : (Jvm.Cond.instanceMethod ({ cls := "LichenTable", name := "habit", desc := "(III)I" } : Jvm.MethodName)) ∈ lw_all := lw_g (lw_at lw_m5 202 rfl) rfl
theorem q1240 : (Jvm.Cond.selects "LichenTable" ({ cls := "LichenTable", name := "habit", desc := "(III)I" } : Jvm.MethodName) ({ cls := "LichenTable", name := "habit", desc := "(III)I" } : Jvm.MethodName)) ∈ lw_all := lw_g (lw_at lw_m5 203 rfl) rfl
theorem q1241 : (Jvm.Cond.code ({ cls := "LichenTable", name := "habit", desc := "(III)I" } : Jvm.MethodName) prog_1_method_27_code (4 : Nat) (Option.some Jvm.ClassFile.FieldType.int)) ∈ lw_all := lw_g (lw_at lw_m5 204 rfl) rfl
theorem q1242 : (Jvm.Cond.classLink "LichenTable" (227 : Nat) "java/util/NoSuchElementException") ∈ lw_all := lw_g (lw_at lw_m5 205 rfl) rfl
theorem q1253 : (Jvm.Cond.methodLink "LichenTable" (229 : Nat) ({ cls := "java/util/NoSuchElementException", name := "<init>", desc := "()V" } : Jvm.MethodName)) ∈ lw_all := lw_g (lw_at lw_m5 216 rfl) rfl
theorem q1830 : (Jvm.Cond.castable "LichenTable" "java/lang/Object") ∈ lw_tbl := lw_at lw_m8 73 rfl
theorem in_X1 : ∀ w ∈ wsX10, w ∈ lw_all := lw_in wsX10 [186, 188, 190, 192, 194, 196, 198, 200, 202, 204, 206, 208, 210, 212, 214, 216, 218, 220, 222, 224, 226, 228, 230] (by decide +kernel) (by decide +kernel)

/-! LichenTableModel -/
def RX2 : String := "LichenTableModel"
def TX2 : u_T := fun k => match k with
  | 0 => ("LichenTableModel", "thrown", "I", false)
  | 1 => ("LichenTableModel", "now", "I", false)
  | 2 => ("LichenTableModel", "sites", "I", false)
  | 3 => ("LichenTableModel", "side", "[I", true)
  | 4 => ("LichenTableModel", "belt", "[I", true)
  | 5 => ("LichenTableModel", "placeOf", "[I", true)
  | 6 => ("LichenTableModel", "yearOf", "[I", true)
  | 7 => ("LichenTableModel", "siteDay", "[I", true)
  | 8 => ("LichenTableModel", "circles", "I", false)
  | 9 => ("LichenTableModel", "circleSite", "[I", true)
  | 10 => ("LichenTableModel", "kind", "[I", true)
  | 11 => ("LichenTableModel", "measurer", "[I", true)
  | 12 => ("LichenTableModel", "longOf", "[I", true)
  | 13 => ("LichenTableModel", "shortOf", "[I", true)
  | 14 => ("LichenTableModel", "measured", "[I", true)
  | 15 => ("LichenTableModel", "isMerged", "[Z", true)
  | 16 => ("LichenTableModel", "circleDay", "[I", true)
  | 17 => ("LichenTableModel", "looks", "I", false)
  | 18 => ("LichenTableModel", "lookSite", "[I", true)
  | 19 => ("LichenTableModel", "lookKind", "[I", true)
  | 20 => ("LichenTableModel", "lookMany", "[I", true)
  | 21 => ("LichenTableModel", "lookDay", "[I", true)
  | 22 => ("LichenTableModel", "doubles", "I", false)
  | 23 => ("LichenTableModel", "one", "[I", true)
  | 24 => ("LichenTableModel", "two", "[I", true)
  | 25 => ("LichenTableModel", "apart", "[I", true)
  | 26 => ("LichenTableModel", "doubleDay", "[I", true)
  | 27 => ("LichenTableModel", "witnesses", "I", false)
  | 28 => ("LichenTableModel", "witnessSite", "[I", true)
  | 29 => ("LichenTableModel", "witnessFrom", "[I", true)
  | 30 => ("LichenTableModel", "witnessTo", "[I", true)
  | 31 => ("LichenTableModel", "witnessDay", "[I", true)
  | 32 => ("LichenTableModel", "orders", "I", false)
  | 33 => ("LichenTableModel", "older", "[I", true)
  | 34 => ("LichenTableModel", "younger", "[I", true)
  | 35 => ("LichenTableModel", "byYears", "[I", true)
  | 36 => ("LichenTableModel", "orderDay", "[I", true)
  | 37 => ("LichenTableModel", "agains", "I", false)
  | 38 => ("LichenTableModel", "againFirst", "[I", true)
  | 39 => ("LichenTableModel", "againSecond", "[I", true)
  | 40 => ("LichenTableModel", "againDay", "[I", true)
  | 41 => ("LichenTableModel", "error", "I", false)
  | 42 => ("LichenTableModel", "rate", "I", false)
  | 43 => ("LichenTableModel", "needed", "I", false)
  | 44 => ("LichenTableModel", "delay", "[I", true)
  | 45 => ("LichenTableModel", "statements", "I", false)
  | 46 => ("LichenTableModel", "reading", "I", false)
  | 47 => ("LichenTableModel", "isUse", "[Z", true)
  | 48 => ("LichenTableModel", "terms", "[I", true)
  | 49 => ("LichenTableModel", "termNot", "[Z", true)
  | 50 => ("LichenTableModel", "termFact", "[I", true)
  | 51 => ("LichenTableModel", "termSign", "[I", true)
  | 52 => ("LichenTableModel", "termValue", "[I", true)
  | 53 => ("LichenTableModel", "tape", "[B", true)
  | 54 => ("LichenTableModel", "taped", "I", false)
  | 55 => ("LichenTableModel", "faultKind", "I", false)
  | 56 => ("LichenTableModel", "faultPlace", "I", false)
  | 57 => ("LichenTableModel", "from", "I", false)
  | 58 => ("LichenTableModel", "over", "I", false)
  | 59 => ("LichenTableModel", "value", "I", false)
  | 60 => ("LichenTableModel", "token", "I", false)
  | 61 => ("LichenTableModel", "least", "[I", true)
  | 62 => ("LichenTableModel", "greatest", "[I", true)
  | 63 => ("LichenTableModel", "isLed", "[Z", true)
  | 64 => ("LichenTableModel", "above", "[I", true)
  | 65 => ("LichenTableModel", "quarrels", "Z", false)
  | 66 => ("LichenTableModel", "low", "I", false)
  | 67 => ("LichenTableModel", "high", "I", false)
  | 68 => ("LichenTableModel", "bounds", "I", false)
  | 69 => ("LichenTableModel", "boundSite", "[I", true)
  | 70 => ("LichenTableModel", "boundAge", "[I", true)
  | 71 => ("LichenTableModel", "boundSize", "[I", true)
  | 72 => ("LichenTableModel", "isUpper", "[Z", true)
  | 73 => ("LichenTableModel", "strikes", "I", false)
  | 74 => ("LichenTableModel", "leastAt", "[I", true)
  | 75 => ("LichenTableModel", "greatestAt", "[I", true)
  | 76 => ("LichenTableModel", "against", "[I", true)
  | 77 => ("LichenTableModel", "from0", "[I", true)
  | 78 => ("LichenTableModel", "to0", "[I", true)
  | _ => ("LichenTableModel", "sizes", "[I", true)
def tyX2 : Nat → FieldType := fun k => match k with
  | 0 => .int
  | 1 => .int
  | 2 => .int
  | 3 => .array .int
  | 4 => .array .int
  | 5 => .array .int
  | 6 => .array .int
  | 7 => .array .int
  | 8 => .int
  | 9 => .array .int
  | 10 => .array .int
  | 11 => .array .int
  | 12 => .array .int
  | 13 => .array .int
  | 14 => .array .int
  | 15 => .array .boolean
  | 16 => .array .int
  | 17 => .int
  | 18 => .array .int
  | 19 => .array .int
  | 20 => .array .int
  | 21 => .array .int
  | 22 => .int
  | 23 => .array .int
  | 24 => .array .int
  | 25 => .array .int
  | 26 => .array .int
  | 27 => .int
  | 28 => .array .int
  | 29 => .array .int
  | 30 => .array .int
  | 31 => .array .int
  | 32 => .int
  | 33 => .array .int
  | 34 => .array .int
  | 35 => .array .int
  | 36 => .array .int
  | 37 => .int
  | 38 => .array .int
  | 39 => .array .int
  | 40 => .array .int
  | 41 => .int
  | 42 => .int
  | 43 => .int
  | 44 => .array .int
  | 45 => .int
  | 46 => .int
  | 47 => .array .boolean
  | 48 => .array .int
  | 49 => .array .boolean
  | 50 => .array .int
  | 51 => .array .int
  | 52 => .array .int
  | 53 => .array .byte
  | 54 => .int
  | 55 => .int
  | 56 => .int
  | 57 => .int
  | 58 => .int
  | 59 => .int
  | 60 => .int
  | 61 => .array .int
  | 62 => .array .int
  | 63 => .array .boolean
  | 64 => .array .int
  | 65 => .boolean
  | 66 => .int
  | 67 => .int
  | 68 => .int
  | 69 => .array .int
  | 70 => .array .int
  | 71 => .array .int
  | 72 => .array .boolean
  | 73 => .int
  | 74 => .array .int
  | 75 => .array .int
  | 76 => .array .int
  | 77 => .array .int
  | 78 => .array .int
  | _ => .array .int
abbrev wsX20 : List Cond := u_ws RX2 TX2 80
set_option maxRecDepth 100000 in
theorem nmX2 : ∀ a, a < 80 → ∀ b, b < 80 → a ≠ b → (TX2 a).2.1 ≠ (TX2 b).2.1 := by decide +kernel
set_option maxRecDepth 100000 in
theorem tyX2_ok : ∀ k, k < 80 → parseFieldDescriptor (TX2 k).2.2.1 = some (tyX2 k) := by decide +kernel
abbrev cX2_init : ByteArray := prog_23_method_1_code
def yX2_init : MethodName := ⟨RX2, "<init>", "()V"⟩
abbrev cX2_thrown : ByteArray := prog_23_method_2_code
def yX2_thrown : MethodName := ⟨RX2, "thrown", "()I"⟩
abbrev cX2_site : ByteArray := prog_23_method_10_code
def yX2_site : MethodName := ⟨RX2, "site", "(IIII)I"⟩
abbrev cX2_within : ByteArray := prog_23_method_3_code
def yX2_within : MethodName := ⟨RX2, "within", "(III)Z"⟩
abbrev cX2_isYear : ByteArray := prog_23_method_4_code
def yX2_isYear : MethodName := ⟨RX2, "isYear", "(I)Z"⟩
abbrev cX2_circle : ByteArray := prog_23_method_11_code
def yX2_circle : MethodName := ⟨RX2, "circle", "(IIIIIIZ)I"⟩
abbrev cX2_isSite : ByteArray := prog_23_method_5_code
def yX2_isSite : MethodName := ⟨RX2, "isSite", "(I)Z"⟩
abbrev cX2_isKind : ByteArray := prog_23_method_8_code
def yX2_isKind : MethodName := ⟨RX2, "isKind", "(I)Z"⟩
abbrev cX2_isSize : ByteArray := prog_23_method_9_code
def yX2_isSize : MethodName := ⟨RX2, "isSize", "(I)Z"⟩
abbrev cX2_looked : ByteArray := prog_23_method_12_code
def yX2_looked : MethodName := ⟨RX2, "looked", "(III)Z"⟩
abbrev cX2_twice : ByteArray := prog_23_method_13_code
def yX2_twice : MethodName := ⟨RX2, "twice", "(IIII)Z"⟩
abbrev cX2_witness : ByteArray := prog_23_method_14_code
def yX2_witness : MethodName := ⟨RX2, "witness", "(III)Z"⟩
abbrev cX2_order : ByteArray := prog_23_method_15_code
def yX2_order : MethodName := ⟨RX2, "order", "(III)Z"⟩
abbrev cX2_again : ByteArray := prog_23_method_16_code
def yX2_again : MethodName := ⟨RX2, "again", "(II)I"⟩
abbrev cX2_isCircle : ByteArray := prog_23_method_6_code
def yX2_isCircle : MethodName := ⟨RX2, "isCircle", "(I)Z"⟩
abbrev cX2_house : ByteArray := prog_23_method_17_code
def yX2_house : MethodName := ⟨RX2, "house", "(III)Z"⟩
abbrev cX2_delay : ByteArray := prog_23_method_18_code
def yX2_delay : MethodName := ⟨RX2, "delay", "(II)Z"⟩
abbrev cX2_day : ByteArray := prog_23_method_19_code
def yX2_day : MethodName := ⟨RX2, "day", "(I)I"⟩
abbrev cX2_feed : ByteArray := prog_23_method_20_code
def yX2_feed : MethodName := ⟨RX2, "feed", "(IIIII)I"⟩
abbrev cX2_end : ByteArray := prog_23_method_21_code
def yX2_end : MethodName := ⟨RX2, "end", "(I)I"⟩
abbrev cX2_rule : ByteArray := prog_23_method_31_code
def yX2_rule : MethodName := ⟨RX2, "rule", "()I"⟩
abbrev cX2_next : ByteArray := prog_23_method_23_code
def yX2_next : MethodName := ⟨RX2, "next", "()V"⟩
abbrev cX2_byteAt : ByteArray := prog_23_method_22_code
def yX2_byteAt : MethodName := ⟨RX2, "byteAt", "(I)I"⟩
abbrev cX2_statement : ByteArray := prog_23_method_30_code
def yX2_statement : MethodName := ⟨RX2, "statement", "()Z"⟩
abbrev cX2_isWord : ByteArray := prog_23_method_24_code
def yX2_isWord : MethodName := ⟨RX2, "isWord", "(Ljava/lang/String;)Z"⟩
abbrev cX2_wrong : ByteArray := prog_23_method_26_code
def yX2_wrong : MethodName := ⟨RX2, "wrong", "(I)Z"⟩
abbrev cX2_takesTerms : ByteArray := prog_23_method_29_code
def yX2_takesTerms : MethodName := ⟨RX2, "takesTerms", "(I)Z"⟩
abbrev cX2_factHere : ByteArray := prog_23_method_28_code
def yX2_factHere : MethodName := ⟨RX2, "factHere", "()I"⟩
abbrev cX2_factWord : ByteArray := prog_23_method_27_code
def yX2_factWord : MethodName := ⟨RX2, "factWord", "(I)Ljava/lang/String;"⟩
abbrev cX2_signHere : ByteArray := prog_23_method_25_code
def yX2_signHere : MethodName := ⟨RX2, "signHere", "()I"⟩
abbrev cX2_place : ByteArray := prog_23_method_32_code
def yX2_place : MethodName := ⟨RX2, "place", "()I"⟩
abbrev cX2_habit : ByteArray := prog_23_method_37_code
def yX2_habit : MethodName := ⟨RX2, "habit", "(III)I"⟩
abbrev cX2_isKnown : ByteArray := prog_23_method_7_code
def yX2_isKnown : MethodName := ⟨RX2, "isKnown", "(I)Z"⟩
abbrev cX2_habits : ByteArray := prog_23_method_35_code
def yX2_habits : MethodName := ⟨RX2, "habits", "(I)V"⟩
abbrev cX2_bounds : ByteArray := prog_23_method_36_code
def yX2_bounds : MethodName := ⟨RX2, "bounds", "(III)Z"⟩
abbrev cX2_used : ByteArray := prog_23_method_41_code
def yX2_used : MethodName := ⟨RX2, "used", "(II)I"⟩
abbrev cX2_isUsed : ByteArray := prog_23_method_38_code
def yX2_isUsed : MethodName := ⟨RX2, "isUsed", "(II)Z"⟩
abbrev cX2_isMeant : ByteArray := prog_23_method_34_code
def yX2_isMeant : MethodName := ⟨RX2, "isMeant", "(II)Z"⟩
abbrev cX2_factOf : ByteArray := prog_23_method_33_code
def yX2_factOf : MethodName := ⟨RX2, "factOf", "(II)I"⟩
abbrev cX2_trueSize : ByteArray := prog_23_method_42_code
def yX2_trueSize : MethodName := ⟨RX2, "trueSize", "(III)I"⟩
abbrev cX2_lowOf : ByteArray := prog_23_method_39_code
def yX2_lowOf : MethodName := ⟨RX2, "lowOf", "(I)I"⟩
abbrev cX2_highOf : ByteArray := prog_23_method_40_code
def yX2_highOf : MethodName := ⟨RX2, "highOf", "(I)I"⟩
abbrev cX2_struck : ByteArray := prog_23_method_52_code
def yX2_struck : MethodName := ⟨RX2, "struck", "(IIII)I"⟩
abbrev cX2_isCurve : ByteArray := prog_23_method_51_code
def yX2_isCurve : MethodName := ⟨RX2, "isCurve", "(IIII)Z"⟩
abbrev cX2_curve : ByteArray := prog_23_method_48_code
def yX2_curve : MethodName := ⟨RX2, "curve", "(IIIII)V"⟩
abbrev cX2_isFirst : ByteArray := prog_23_method_45_code
def yX2_isFirst : MethodName := ⟨RX2, "isFirst", "(I)Z"⟩
abbrev cX2_gathers : ByteArray := prog_23_method_44_code
def yX2_gathers : MethodName := ⟨RX2, "gathers", "(IIII)Z"⟩
abbrev cX2_adds : ByteArray := prog_23_method_46_code
def yX2_adds : MethodName := ⟨RX2, "adds", "(IIIZ)V"⟩
abbrev cX2_lookedAt : ByteArray := prog_23_method_43_code
def yX2_lookedAt : MethodName := ⟨RX2, "lookedAt", "(III)I"⟩
abbrev cX2_goTogether : ByteArray := prog_23_method_47_code
def yX2_goTogether : MethodName := ⟨RX2, "goTogether", "(II)Z"⟩
abbrev cX2_isEnough : ByteArray := prog_23_method_49_code
def yX2_isEnough : MethodName := ⟨RX2, "isEnough", "(I)Z"⟩
abbrev cX2_sizes : ByteArray := prog_23_method_50_code
def yX2_sizes : MethodName := ⟨RX2, "sizes", "()V"⟩
abbrev cX2_size : ByteArray := prog_23_method_53_code
def yX2_size : MethodName := ⟨RX2, "size", "(IIIIII)I"⟩
abbrev cX2_span : ByteArray := prog_23_method_59_code
def yX2_span : MethodName := ⟨RX2, "span", "(III)I"⟩
abbrev cX2_isThere : ByteArray := prog_23_method_56_code
def yX2_isThere : MethodName := ⟨RX2, "isThere", "(II)Z"⟩
abbrev cX2_spans : ByteArray := prog_23_method_58_code
def yX2_spans : MethodName := ⟨RX2, "spans", "(II)V"⟩
abbrev cX2_lays : ByteArray := prog_23_method_57_code
def yX2_lays : MethodName := ⟨RX2, "lays", "(II)V"⟩
abbrev cX2_ageFrom : ByteArray := prog_23_method_54_code
def yX2_ageFrom : MethodName := ⟨RX2, "ageFrom", "(I)I"⟩
abbrev cX2_ageTo : ByteArray := prog_23_method_55_code
def yX2_ageTo : MethodName := ⟨RX2, "ageTo", "(I)I"⟩
abbrev cX2_bound : ByteArray := prog_23_method_64_code
def yX2_bound : MethodName := ⟨RX2, "bound", "(III)I"⟩
abbrev cX2_isBound : ByteArray := prog_23_method_63_code
def yX2_isBound : MethodName := ⟨RX2, "isBound", "(I)Z"⟩
abbrev cX2_allSpans : ByteArray := prog_23_method_60_code
def yX2_allSpans : MethodName := ⟨RX2, "allSpans", "(I)Z"⟩
abbrev cX2_binds : ByteArray := prog_23_method_62_code
def yX2_binds : MethodName := ⟨RX2, "binds", "(III)Z"⟩
abbrev cX2_cuts : ByteArray := prog_23_method_61_code
def yX2_cuts : MethodName := ⟨RX2, "cuts", "(III)Z"⟩
abbrev cX2_same : ByteArray := prog_23_method_65_code
def yX2_same : MethodName := ⟨RX2, "same", "(III)I"⟩
abbrev cX2_claim : ByteArray := prog_23_method_66_code
def yX2_claim : MethodName := ⟨RX2, "claim", "(III)I"⟩
abbrev cX2_front : ByteArray := prog_23_method_67_code
def yX2_front : MethodName := ⟨RX2, "front", "(III)I"⟩
abbrev cX2_out : ByteArray := prog_23_method_68_code
def yX2_out : MethodName := ⟨RX2, "out", "(II)I"⟩
abbrev cX2_gaps : ByteArray := prog_23_method_71_code
def yX2_gaps : MethodName := ⟨RX2, "gaps", "(IIIII)I"⟩
abbrev cX2_isGap : ByteArray := prog_23_method_70_code
def yX2_isGap : MethodName := ⟨RX2, "isGap", "(IIIII)Z"⟩
abbrev cX2_sorts : ByteArray := prog_23_method_69_code
def yX2_sorts : MethodName := ⟨RX2, "sorts", "(IIII)I"⟩
abbrev cX2_gap : ByteArray := prog_23_method_72_code
def yX2_gap : MethodName := ⟨RX2, "gap", "(IIIIIII)I"⟩
abbrev cX2_grown : ByteArray := prog_23_method_73_code
def yX2_grown : MethodName := ⟨RX2, "grown", "(II)I"⟩
abbrev cX2_count : ByteArray := prog_23_method_74_code
def yX2_count : MethodName := ⟨RX2, "count", "(I)I"⟩
theorem q82 : (Jvm.Cond.initialized "LichenTableModel") ∈ lw_all := lw_g (lw_at lw_m1 5 rfl) rfl
theorem q334 : (Jvm.Cond.selects "LichenTableModel" ({ cls := "java/lang/Object", name := "getClass", desc := "()Ljava/lang/Class;" } : Jvm.MethodName) ({ cls := "java/lang/Object", name := "getClass", desc := "()Ljava/lang/Class;" } : Jvm.MethodName)) ∈ lw_all := lw_g (lw_at lw_m2 17 rfl) rfl
theorem q1266 : (Jvm.Cond.instantiable "LichenTableModel" (80 : Nat)) ∈ lw_all := lw_g (lw_at lw_m5 229 rfl) rfl
theorem q1268 : (Jvm.Cond.instanceMethod ({ cls := "LichenTableModel", name := "<init>", desc := "()V" } : Jvm.MethodName)) ∈ lw_all := lw_g (lw_at lw_m5 231 rfl) rfl
theorem q1269 : (Jvm.Cond.code ({ cls := "LichenTableModel", name := "<init>", desc := "()V" } : Jvm.MethodName) prog_23_method_1_code (1 : Nat) (Option.none : Option Jvm.ClassFile.FieldType)) ∈ lw_all := lw_g (lw_at lw_m5 232 rfl) rfl
theorem q1270 : (Jvm.Cond.methodLink "LichenTableModel" (1 : Nat) ({ cls := "java/lang/Object", name := "<init>", desc := "()V" } : Jvm.MethodName)) ∈ lw_all := lw_g (lw_at lw_m5 233 rfl) rfl
theorem q1271 : (Jvm.Cond.fieldLink "LichenTableModel" (187 : Nat) "LichenTableModel" "thrown" "I") ∈ lw_all := lw_g (lw_at lw_m5 234 rfl) rfl
theorem q1272 : (Jvm.Cond.fieldLink "LichenTableModel" (200 : Nat) "LichenTableModel" "now" "I") ∈ lw_all := lw_g (lw_at lw_m5 235 rfl) rfl
theorem q1273 : (Jvm.Cond.fieldLink "LichenTableModel" (194 : Nat) "LichenTableModel" "sites" "I") ∈ lw_all := lw_g (lw_at lw_m5 236 rfl) rfl
theorem q1274 : (Jvm.Cond.fieldLink "LichenTableModel" (7 : Nat) "LichenTableModel" "side" "[I") ∈ lw_all := lw_g (lw_at lw_m5 237 rfl) rfl
theorem q1275 : (Jvm.Cond.fieldLink "LichenTableModel" (13 : Nat) "LichenTableModel" "belt" "[I") ∈ lw_all := lw_g (lw_at lw_m5 238 rfl) rfl
theorem q1276 : (Jvm.Cond.fieldLink "LichenTableModel" (16 : Nat) "LichenTableModel" "placeOf" "[I") ∈ lw_all := lw_g (lw_at lw_m5 239 rfl) rfl
theorem q1277 : (Jvm.Cond.fieldLink "LichenTableModel" (19 : Nat) "LichenTableModel" "yearOf" "[I") ∈ lw_all := lw_g (lw_at lw_m6 0 rfl) rfl
theorem q1278 : (Jvm.Cond.fieldLink "LichenTableModel" (22 : Nat) "LichenTableModel" "siteDay" "[I") ∈ lw_all := lw_g (lw_at lw_m6 1 rfl) rfl
theorem q1279 : (Jvm.Cond.fieldLink "LichenTableModel" (197 : Nat) "LichenTableModel" "circles" "I") ∈ lw_all := lw_g (lw_at lw_m6 2 rfl) rfl
theorem q1280 : (Jvm.Cond.fieldLink "LichenTableModel" (25 : Nat) "LichenTableModel" "circleSite" "[I") ∈ lw_all := lw_g (lw_at lw_m6 3 rfl) rfl
theorem q1281 : (Jvm.Cond.fieldLink "LichenTableModel" (28 : Nat) "LichenTableModel" "kind" "[I") ∈ lw_all := lw_g (lw_at lw_m6 4 rfl) rfl
theorem q1282 : (Jvm.Cond.fieldLink "LichenTableModel" (31 : Nat) "LichenTableModel" "measurer" "[I") ∈ lw_all := lw_g (lw_at lw_m6 5 rfl) rfl
theorem q1283 : (Jvm.Cond.fieldLink "LichenTableModel" (34 : Nat) "LichenTableModel" "longOf" "[I") ∈ lw_all := lw_g (lw_at lw_m6 6 rfl) rfl
theorem q1284 : (Jvm.Cond.fieldLink "LichenTableModel" (37 : Nat) "LichenTableModel" "shortOf" "[I") ∈ lw_all := lw_g (lw_at lw_m6 7 rfl) rfl
theorem q1285 : (Jvm.Cond.fieldLink "LichenTableModel" (40 : Nat) "LichenTableModel" "measured" "[I") ∈ lw_all := lw_g (lw_at lw_m6 8 rfl) rfl
theorem q1286 : (Jvm.Cond.fieldLink "LichenTableModel" (43 : Nat) "LichenTableModel" "isMerged" "[Z") ∈ lw_all := lw_g (lw_at lw_m6 9 rfl) rfl
theorem q1287 : (Jvm.Cond.fieldLink "LichenTableModel" (47 : Nat) "LichenTableModel" "circleDay" "[I") ∈ lw_all := lw_g (lw_at lw_m6 10 rfl) rfl
theorem q1288 : (Jvm.Cond.fieldLink "LichenTableModel" (216 : Nat) "LichenTableModel" "looks" "I") ∈ lw_all := lw_g (lw_at lw_m6 11 rfl) rfl
theorem q1289 : (Jvm.Cond.fieldLink "LichenTableModel" (50 : Nat) "LichenTableModel" "lookSite" "[I") ∈ lw_all := lw_g (lw_at lw_m6 12 rfl) rfl
theorem q1290 : (Jvm.Cond.fieldLink "LichenTableModel" (53 : Nat) "LichenTableModel" "lookKind" "[I") ∈ lw_all := lw_g (lw_at lw_m6 13 rfl) rfl
theorem q1291 : (Jvm.Cond.fieldLink "LichenTableModel" (56 : Nat) "LichenTableModel" "lookMany" "[I") ∈ lw_all := lw_g (lw_at lw_m6 14 rfl) rfl
theorem q1292 : (Jvm.Cond.fieldLink "LichenTableModel" (59 : Nat) "LichenTableModel" "lookDay" "[I") ∈ lw_all := lw_g (lw_at lw_m6 15 rfl) rfl
theorem q1293 : (Jvm.Cond.fieldLink "LichenTableModel" (219 : Nat) "LichenTableModel" "doubles" "I") ∈ lw_all := lw_g (lw_at lw_m6 16 rfl) rfl
theorem q1294 : (Jvm.Cond.fieldLink "LichenTableModel" (62 : Nat) "LichenTableModel" "one" "[I") ∈ lw_all := lw_g (lw_at lw_m6 17 rfl) rfl
theorem q1295 : (Jvm.Cond.fieldLink "LichenTableModel" (65 : Nat) "LichenTableModel" "two" "[I") ∈ lw_all := lw_g (lw_at lw_m6 18 rfl) rfl
theorem q1296 : (Jvm.Cond.fieldLink "LichenTableModel" (68 : Nat) "LichenTableModel" "apart" "[I") ∈ lw_all := lw_g (lw_at lw_m6 19 rfl) rfl
theorem q1297 : (Jvm.Cond.fieldLink "LichenTableModel" (71 : Nat) "LichenTableModel" "doubleDay" "[I") ∈ lw_all := lw_g (lw_at lw_m6 20 rfl) rfl
theorem q1298 : (Jvm.Cond.fieldLink "LichenTableModel" (222 : Nat) "LichenTableModel" "witnesses" "I") ∈ lw_all := lw_g (lw_at lw_m6 21 rfl) rfl
theorem q1299 : (Jvm.Cond.fieldLink "LichenTableModel" (74 : Nat) "LichenTableModel" "witnessSite" "[I") ∈ lw_all := lw_g (lw_at lw_m6 22 rfl) rfl
theorem q1300 : (Jvm.Cond.fieldLink "LichenTableModel" (77 : Nat) "LichenTableModel" "witnessFrom" "[I") ∈ lw_all := lw_g (lw_at lw_m6 23 rfl) rfl
theorem q1301 : (Jvm.Cond.fieldLink "LichenTableModel" (80 : Nat) "LichenTableModel" "witnessTo" "[I") ∈ lw_all := lw_g (lw_at lw_m6 24 rfl) rfl
theorem q1302 : (Jvm.Cond.fieldLink "LichenTableModel" (83 : Nat) "LichenTableModel" "witnessDay" "[I") ∈ lw_all := lw_g (lw_at lw_m6 25 rfl) rfl
theorem q1303 : (Jvm.Cond.fieldLink "LichenTableModel" (225 : Nat) "LichenTableModel" "orders" "I") ∈ lw_all := lw_g (lw_at lw_m6 26 rfl) rfl
theorem q1304 : (Jvm.Cond.fieldLink "LichenTableModel" (86 : Nat) "LichenTableModel" "older" "[I") ∈ lw_all := lw_g (lw_at lw_m6 27 rfl) rfl
theorem q1305 : (Jvm.Cond.fieldLink "LichenTableModel" (89 : Nat) "LichenTableModel" "younger" "[I") ∈ lw_all := lw_g (lw_at lw_m6 28 rfl) rfl
theorem q1306 : (Jvm.Cond.fieldLink "LichenTableModel" (92 : Nat) "LichenTableModel" "byYears" "[I") ∈ lw_all := lw_g (lw_at lw_m6 29 rfl) rfl
theorem q1307 : (Jvm.Cond.fieldLink "LichenTableModel" (95 : Nat) "LichenTableModel" "orderDay" "[I") ∈ lw_all := lw_g (lw_at lw_m6 30 rfl) rfl
theorem q1308 : (Jvm.Cond.fieldLink "LichenTableModel" (231 : Nat) "LichenTableModel" "agains" "I") ∈ lw_all := lw_g (lw_at lw_m6 31 rfl) rfl
theorem q1309 : (Jvm.Cond.fieldLink "LichenTableModel" (98 : Nat) "LichenTableModel" "againFirst" "[I") ∈ lw_all := lw_g (lw_at lw_m6 32 rfl) rfl
theorem q1310 : (Jvm.Cond.fieldLink "LichenTableModel" (101 : Nat) "LichenTableModel" "againSecond" "[I") ∈ lw_all := lw_g (lw_at lw_m6 33 rfl) rfl
theorem q1311 : (Jvm.Cond.fieldLink "LichenTableModel" (104 : Nat) "LichenTableModel" "againDay" "[I") ∈ lw_all := lw_g (lw_at lw_m6 34 rfl) rfl
theorem q1312 : (Jvm.Cond.fieldLink "LichenTableModel" (107 : Nat) "LichenTableModel" "error" "I") ∈ lw_all := lw_g (lw_at lw_m6 35 rfl) rfl
theorem q1313 : (Jvm.Cond.fieldLink "LichenTableModel" (111 : Nat) "LichenTableModel" "rate" "I") ∈ lw_all := lw_g (lw_at lw_m6 36 rfl) rfl
theorem q1314 : (Jvm.Cond.fieldLink "LichenTableModel" (114 : Nat) "LichenTableModel" "needed" "I") ∈ lw_all := lw_g (lw_at lw_m6 37 rfl) rfl
theorem q1315 : (Jvm.Cond.fieldLink "LichenTableModel" (117 : Nat) "LichenTableModel" "delay" "[I") ∈ lw_all := lw_g (lw_at lw_m6 38 rfl) rfl
theorem q1316 : (Jvm.Cond.fieldLink "LichenTableModel" (321 : Nat) "LichenTableModel" "statements" "I") ∈ lw_all := lw_g (lw_at lw_m6 39 rfl) rfl
theorem q1317 : (Jvm.Cond.fieldLink "LichenTableModel" (311 : Nat) "LichenTableModel" "reading" "I") ∈ lw_all := lw_g (lw_at lw_m6 40 rfl) rfl
theorem q1318 : (Jvm.Cond.fieldLink "LichenTableModel" (120 : Nat) "LichenTableModel" "isUse" "[Z") ∈ lw_all := lw_g (lw_at lw_m6 41 rfl) rfl
theorem q1319 : (Jvm.Cond.fieldLink "LichenTableModel" (123 : Nat) "LichenTableModel" "terms" "[I") ∈ lw_all := lw_g (lw_at lw_m6 42 rfl) rfl
theorem q1320 : (Jvm.Cond.fieldLink "LichenTableModel" (126 : Nat) "LichenTableModel" "termNot" "[Z") ∈ lw_all := lw_g (lw_at lw_m6 43 rfl) rfl
theorem q1321 : (Jvm.Cond.fieldLink "LichenTableModel" (129 : Nat) "LichenTableModel" "termFact" "[I") ∈ lw_all := lw_g (lw_at lw_m6 44 rfl) rfl
theorem q1322 : (Jvm.Cond.fieldLink "LichenTableModel" (132 : Nat) "LichenTableModel" "termSign" "[I") ∈ lw_all := lw_g (lw_at lw_m6 45 rfl) rfl
theorem q1323 : (Jvm.Cond.fieldLink "LichenTableModel" (135 : Nat) "LichenTableModel" "termValue" "[I") ∈ lw_all := lw_g (lw_at lw_m6 46 rfl) rfl
theorem q1324 : (Jvm.Cond.fieldLink "LichenTableModel" (138 : Nat) "LichenTableModel" "tape" "[B") ∈ lw_all := lw_g (lw_at lw_m6 47 rfl) rfl
theorem q1325 : (Jvm.Cond.fieldLink "LichenTableModel" (235 : Nat) "LichenTableModel" "taped" "I") ∈ lw_all := lw_g (lw_at lw_m6 48 rfl) rfl
theorem q1326 : (Jvm.Cond.fieldLink "LichenTableModel" (264 : Nat) "LichenTableModel" "faultKind" "I") ∈ lw_all := lw_g (lw_at lw_m6 49 rfl) rfl
theorem q1327 : (Jvm.Cond.fieldLink "LichenTableModel" (142 : Nat) "LichenTableModel" "faultPlace" "I") ∈ lw_all := lw_g (lw_at lw_m6 50 rfl) rfl
theorem q1328 : (Jvm.Cond.fieldLink "LichenTableModel" (241 : Nat) "LichenTableModel" "from" "I") ∈ lw_all := lw_g (lw_at lw_m6 51 rfl) rfl
theorem q1329 : (Jvm.Cond.fieldLink "LichenTableModel" (238 : Nat) "LichenTableModel" "over" "I") ∈ lw_all := lw_g (lw_at lw_m6 52 rfl) rfl
theorem q1330 : (Jvm.Cond.fieldLink "LichenTableModel" (251 : Nat) "LichenTableModel" "value" "I") ∈ lw_all := lw_g (lw_at lw_m6 53 rfl) rfl
theorem q1331 : (Jvm.Cond.fieldLink "LichenTableModel" (248 : Nat) "LichenTableModel" "token" "I") ∈ lw_all := lw_g (lw_at lw_m6 54 rfl) rfl
theorem q1332 : (Jvm.Cond.fieldLink "LichenTableModel" (145 : Nat) "LichenTableModel" "least" "[I") ∈ lw_all := lw_g (lw_at lw_m6 55 rfl) rfl
theorem q1333 : (Jvm.Cond.fieldLink "LichenTableModel" (148 : Nat) "LichenTableModel" "greatest" "[I") ∈ lw_all := lw_g (lw_at lw_m6 56 rfl) rfl
theorem q1334 : (Jvm.Cond.fieldLink "LichenTableModel" (151 : Nat) "LichenTableModel" "isLed" "[Z") ∈ lw_all := lw_g (lw_at lw_m6 57 rfl) rfl
theorem q1335 : (Jvm.Cond.fieldLink "LichenTableModel" (154 : Nat) "LichenTableModel" "above" "[I") ∈ lw_all := lw_g (lw_at lw_m6 58 rfl) rfl
theorem q1336 : (Jvm.Cond.fieldLink "LichenTableModel" (332 : Nat) "LichenTableModel" "quarrels" "Z") ∈ lw_all := lw_g (lw_at lw_m6 59 rfl) rfl
theorem q1337 : (Jvm.Cond.fieldLink "LichenTableModel" (362 : Nat) "LichenTableModel" "low" "I") ∈ lw_all := lw_g (lw_at lw_m6 60 rfl) rfl
theorem q1338 : (Jvm.Cond.fieldLink "LichenTableModel" (365 : Nat) "LichenTableModel" "high" "I") ∈ lw_all := lw_g (lw_at lw_m6 61 rfl) rfl
theorem q1339 : (Jvm.Cond.fieldLink "LichenTableModel" (368 : Nat) "LichenTableModel" "bounds" "I") ∈ lw_all := lw_g (lw_at lw_m6 62 rfl) rfl
theorem q1340 : (Jvm.Cond.fieldLink "LichenTableModel" (157 : Nat) "LichenTableModel" "boundSite" "[I") ∈ lw_all := lw_g (lw_at lw_m6 63 rfl) rfl
theorem q1341 : (Jvm.Cond.fieldLink "LichenTableModel" (160 : Nat) "LichenTableModel" "boundAge" "[I") ∈ lw_all := lw_g (lw_at lw_m6 64 rfl) rfl
theorem q1342 : (Jvm.Cond.fieldLink "LichenTableModel" (163 : Nat) "LichenTableModel" "boundSize" "[I") ∈ lw_all := lw_g (lw_at lw_m6 65 rfl) rfl
theorem q1343 : (Jvm.Cond.fieldLink "LichenTableModel" (166 : Nat) "LichenTableModel" "isUpper" "[Z") ∈ lw_all := lw_g (lw_at lw_m6 66 rfl) rfl
theorem q1344 : (Jvm.Cond.fieldLink "LichenTableModel" (388 : Nat) "LichenTableModel" "strikes" "I") ∈ lw_all := lw_g (lw_at lw_m6 67 rfl) rfl
theorem q1345 : (Jvm.Cond.fieldLink "LichenTableModel" (169 : Nat) "LichenTableModel" "leastAt" "[I") ∈ lw_all := lw_g (lw_at lw_m6 68 rfl) rfl
theorem q1346 : (Jvm.Cond.fieldLink "LichenTableModel" (172 : Nat) "LichenTableModel" "greatestAt" "[I") ∈ lw_all := lw_g (lw_at lw_m6 69 rfl) rfl
theorem q1347 : (Jvm.Cond.fieldLink "LichenTableModel" (175 : Nat) "LichenTableModel" "against" "[I") ∈ lw_all := lw_g (lw_at lw_m6 70 rfl) rfl
theorem q1348 : (Jvm.Cond.fieldLink "LichenTableModel" (178 : Nat) "LichenTableModel" "from0" "[I") ∈ lw_all := lw_g (lw_at lw_m6 71 rfl) rfl
theorem q1349 : (Jvm.Cond.fieldLink "LichenTableModel" (181 : Nat) "LichenTableModel" "to0" "[I") ∈ lw_all := lw_g (lw_at lw_m6 72 rfl) rfl
theorem q1350 : (Jvm.Cond.fieldLink "LichenTableModel" (184 : Nat) "LichenTableModel" "sizes" "[I") ∈ lw_all := lw_g (lw_at lw_m6 73 rfl) rfl
theorem q1351 : (Jvm.Cond.lays "LichenTableModel" "LichenTableModel" "thrown" "I") ∈ lw_all := lw_g (lw_at lw_m6 74 rfl) rfl
theorem q1352 : (Jvm.Cond.soleField "LichenTableModel" "thrown") ∈ lw_all := lw_g (lw_at lw_m6 75 rfl) rfl
theorem q1353 : (Jvm.Cond.lays "LichenTableModel" "LichenTableModel" "now" "I") ∈ lw_all := lw_g (lw_at lw_m6 76 rfl) rfl
theorem q1354 : (Jvm.Cond.soleField "LichenTableModel" "now") ∈ lw_all := lw_g (lw_at lw_m6 77 rfl) rfl
theorem q1355 : (Jvm.Cond.lays "LichenTableModel" "LichenTableModel" "sites" "I") ∈ lw_all := lw_g (lw_at lw_m6 78 rfl) rfl
theorem q1356 : (Jvm.Cond.soleField "LichenTableModel" "sites") ∈ lw_all := lw_g (lw_at lw_m6 79 rfl) rfl
theorem q1357 : (Jvm.Cond.laysFinal "LichenTableModel" "LichenTableModel" "side" "[I") ∈ lw_all := lw_g (lw_at lw_m6 80 rfl) rfl
theorem q1358 : (Jvm.Cond.soleField "LichenTableModel" "side") ∈ lw_all := lw_g (lw_at lw_m6 81 rfl) rfl
theorem q1359 : (Jvm.Cond.laysFinal "LichenTableModel" "LichenTableModel" "belt" "[I") ∈ lw_all := lw_g (lw_at lw_m6 82 rfl) rfl
theorem q1360 : (Jvm.Cond.soleField "LichenTableModel" "belt") ∈ lw_all := lw_g (lw_at lw_m6 83 rfl) rfl
theorem q1361 : (Jvm.Cond.laysFinal "LichenTableModel" "LichenTableModel" "placeOf" "[I") ∈ lw_all := lw_g (lw_at lw_m6 84 rfl) rfl
theorem q1362 : (Jvm.Cond.soleField "LichenTableModel" "placeOf") ∈ lw_all := lw_g (lw_at lw_m6 85 rfl) rfl
theorem q1363 : (Jvm.Cond.laysFinal "LichenTableModel" "LichenTableModel" "yearOf" "[I") ∈ lw_all := lw_g (lw_at lw_m6 86 rfl) rfl
theorem q1364 : (Jvm.Cond.soleField "LichenTableModel" "yearOf") ∈ lw_all := lw_g (lw_at lw_m6 87 rfl) rfl
theorem q1365 : (Jvm.Cond.laysFinal "LichenTableModel" "LichenTableModel" "siteDay" "[I") ∈ lw_all := lw_g (lw_at lw_m6 88 rfl) rfl
theorem q1366 : (Jvm.Cond.soleField "LichenTableModel" "siteDay") ∈ lw_all := lw_g (lw_at lw_m6 89 rfl) rfl
theorem q1367 : (Jvm.Cond.lays "LichenTableModel" "LichenTableModel" "circles" "I") ∈ lw_all := lw_g (lw_at lw_m6 90 rfl) rfl
theorem q1368 : (Jvm.Cond.soleField "LichenTableModel" "circles") ∈ lw_all := lw_g (lw_at lw_m6 91 rfl) rfl
theorem q1369 : (Jvm.Cond.laysFinal "LichenTableModel" "LichenTableModel" "circleSite" "[I") ∈ lw_all := lw_g (lw_at lw_m6 92 rfl) rfl
theorem q1370 : (Jvm.Cond.soleField "LichenTableModel" "circleSite") ∈ lw_all := lw_g (lw_at lw_m6 93 rfl) rfl
theorem q1371 : (Jvm.Cond.laysFinal "LichenTableModel" "LichenTableModel" "kind" "[I") ∈ lw_all := lw_g (lw_at lw_m6 94 rfl) rfl
theorem q1372 : (Jvm.Cond.soleField "LichenTableModel" "kind") ∈ lw_all := lw_g (lw_at lw_m6 95 rfl) rfl
theorem q1373 : (Jvm.Cond.laysFinal "LichenTableModel" "LichenTableModel" "measurer" "[I") ∈ lw_all := lw_g (lw_at lw_m6 96 rfl) rfl
theorem q1374 : (Jvm.Cond.soleField "LichenTableModel" "measurer") ∈ lw_all := lw_g (lw_at lw_m6 97 rfl) rfl
theorem q1375 : (Jvm.Cond.laysFinal "LichenTableModel" "LichenTableModel" "longOf" "[I") ∈ lw_all := lw_g (lw_at lw_m6 98 rfl) rfl
theorem q1376 : (Jvm.Cond.soleField "LichenTableModel" "longOf") ∈ lw_all := lw_g (lw_at lw_m6 99 rfl) rfl
theorem q1377 : (Jvm.Cond.laysFinal "LichenTableModel" "LichenTableModel" "shortOf" "[I") ∈ lw_all := lw_g (lw_at lw_m6 100 rfl) rfl
theorem q1378 : (Jvm.Cond.soleField "LichenTableModel" "shortOf") ∈ lw_all := lw_g (lw_at lw_m6 101 rfl) rfl
theorem q1379 : (Jvm.Cond.laysFinal "LichenTableModel" "LichenTableModel" "measured" "[I") ∈ lw_all := lw_g (lw_at lw_m6 102 rfl) rfl
theorem q1380 : (Jvm.Cond.soleField "LichenTableModel" "measured") ∈ lw_all := lw_g (lw_at lw_m6 103 rfl) rfl
theorem q1381 : (Jvm.Cond.laysFinal "LichenTableModel" "LichenTableModel" "isMerged" "[Z") ∈ lw_all := lw_g (lw_at lw_m6 104 rfl) rfl
theorem q1382 : (Jvm.Cond.soleField "LichenTableModel" "isMerged") ∈ lw_all := lw_g (lw_at lw_m6 105 rfl) rfl
theorem q1383 : (Jvm.Cond.laysFinal "LichenTableModel" "LichenTableModel" "circleDay" "[I") ∈ lw_all := lw_g (lw_at lw_m6 106 rfl) rfl
theorem q1384 : (Jvm.Cond.soleField "LichenTableModel" "circleDay") ∈ lw_all := lw_g (lw_at lw_m6 107 rfl) rfl
theorem q1385 : (Jvm.Cond.lays "LichenTableModel" "LichenTableModel" "looks" "I") ∈ lw_all := lw_g (lw_at lw_m6 108 rfl) rfl
theorem q1386 : (Jvm.Cond.soleField "LichenTableModel" "looks") ∈ lw_all := lw_g (lw_at lw_m6 109 rfl) rfl
theorem q1387 : (Jvm.Cond.laysFinal "LichenTableModel" "LichenTableModel" "lookSite" "[I") ∈ lw_all := lw_g (lw_at lw_m6 110 rfl) rfl
theorem q1388 : (Jvm.Cond.soleField "LichenTableModel" "lookSite") ∈ lw_all := lw_g (lw_at lw_m6 111 rfl) rfl
theorem q1389 : (Jvm.Cond.laysFinal "LichenTableModel" "LichenTableModel" "lookKind" "[I") ∈ lw_all := lw_g (lw_at lw_m6 112 rfl) rfl
theorem q1390 : (Jvm.Cond.soleField "LichenTableModel" "lookKind") ∈ lw_all := lw_g (lw_at lw_m6 113 rfl) rfl
theorem q1391 : (Jvm.Cond.laysFinal "LichenTableModel" "LichenTableModel" "lookMany" "[I") ∈ lw_all := lw_g (lw_at lw_m6 114 rfl) rfl
theorem q1392 : (Jvm.Cond.soleField "LichenTableModel" "lookMany") ∈ lw_all := lw_g (lw_at lw_m6 115 rfl) rfl
theorem q1393 : (Jvm.Cond.laysFinal "LichenTableModel" "LichenTableModel" "lookDay" "[I") ∈ lw_all := lw_g (lw_at lw_m6 116 rfl) rfl
theorem q1394 : (Jvm.Cond.soleField "LichenTableModel" "lookDay") ∈ lw_all := lw_g (lw_at lw_m6 117 rfl) rfl
theorem q1395 : (Jvm.Cond.lays "LichenTableModel" "LichenTableModel" "doubles" "I") ∈ lw_all := lw_g (lw_at lw_m6 118 rfl) rfl
theorem q1396 : (Jvm.Cond.soleField "LichenTableModel" "doubles") ∈ lw_all := lw_g (lw_at lw_m6 119 rfl) rfl
theorem q1397 : (Jvm.Cond.laysFinal "LichenTableModel" "LichenTableModel" "one" "[I") ∈ lw_all := lw_g (lw_at lw_m6 120 rfl) rfl
theorem q1398 : (Jvm.Cond.soleField "LichenTableModel" "one") ∈ lw_all := lw_g (lw_at lw_m6 121 rfl) rfl
theorem q1399 : (Jvm.Cond.laysFinal "LichenTableModel" "LichenTableModel" "two" "[I") ∈ lw_all := lw_g (lw_at lw_m6 122 rfl) rfl
theorem q1400 : (Jvm.Cond.soleField "LichenTableModel" "two") ∈ lw_all := lw_g (lw_at lw_m6 123 rfl) rfl
theorem q1401 : (Jvm.Cond.laysFinal "LichenTableModel" "LichenTableModel" "apart" "[I") ∈ lw_all := lw_g (lw_at lw_m6 124 rfl) rfl
theorem q1402 : (Jvm.Cond.soleField "LichenTableModel" "apart") ∈ lw_all := lw_g (lw_at lw_m6 125 rfl) rfl
theorem q1403 : (Jvm.Cond.laysFinal "LichenTableModel" "LichenTableModel" "doubleDay" "[I") ∈ lw_all := lw_g (lw_at lw_m6 126 rfl) rfl
theorem q1404 : (Jvm.Cond.soleField "LichenTableModel" "doubleDay") ∈ lw_all := lw_g (lw_at lw_m6 127 rfl) rfl
theorem q1405 : (Jvm.Cond.lays "LichenTableModel" "LichenTableModel" "witnesses" "I") ∈ lw_all := lw_g (lw_at lw_m6 128 rfl) rfl
theorem q1406 : (Jvm.Cond.soleField "LichenTableModel" "witnesses") ∈ lw_all := lw_g (lw_at lw_m6 129 rfl) rfl
theorem q1407 : (Jvm.Cond.laysFinal "LichenTableModel" "LichenTableModel" "witnessSite" "[I") ∈ lw_all := lw_g (lw_at lw_m6 130 rfl) rfl
theorem q1408 : (Jvm.Cond.soleField "LichenTableModel" "witnessSite") ∈ lw_all := lw_g (lw_at lw_m6 131 rfl) rfl
theorem q1409 : (Jvm.Cond.laysFinal "LichenTableModel" "LichenTableModel" "witnessFrom" "[I") ∈ lw_all := lw_g (lw_at lw_m6 132 rfl) rfl
theorem q1410 : (Jvm.Cond.soleField "LichenTableModel" "witnessFrom") ∈ lw_all := lw_g (lw_at lw_m6 133 rfl) rfl
theorem q1411 : (Jvm.Cond.laysFinal "LichenTableModel" "LichenTableModel" "witnessTo" "[I") ∈ lw_all := lw_g (lw_at lw_m6 134 rfl) rfl
theorem q1412 : (Jvm.Cond.soleField "LichenTableModel" "witnessTo") ∈ lw_all := lw_g (lw_at lw_m6 135 rfl) rfl
theorem q1413 : (Jvm.Cond.laysFinal "LichenTableModel" "LichenTableModel" "witnessDay" "[I") ∈ lw_all := lw_g (lw_at lw_m6 136 rfl) rfl
theorem q1414 : (Jvm.Cond.soleField "LichenTableModel" "witnessDay") ∈ lw_all := lw_g (lw_at lw_m6 137 rfl) rfl
theorem q1415 : (Jvm.Cond.lays "LichenTableModel" "LichenTableModel" "orders" "I") ∈ lw_all := lw_g (lw_at lw_m6 138 rfl) rfl
theorem q1416 : (Jvm.Cond.soleField "LichenTableModel" "orders") ∈ lw_all := lw_g (lw_at lw_m6 139 rfl) rfl
theorem q1417 : (Jvm.Cond.laysFinal "LichenTableModel" "LichenTableModel" "older" "[I") ∈ lw_all := lw_g (lw_at lw_m6 140 rfl) rfl
theorem q1418 : (Jvm.Cond.soleField "LichenTableModel" "older") ∈ lw_all := lw_g (lw_at lw_m6 141 rfl) rfl
theorem q1419 : (Jvm.Cond.laysFinal "LichenTableModel" "LichenTableModel" "younger" "[I") ∈ lw_all := lw_g (lw_at lw_m6 142 rfl) rfl
theorem q1420 : (Jvm.Cond.soleField "LichenTableModel" "younger") ∈ lw_all := lw_g (lw_at lw_m6 143 rfl) rfl
theorem q1421 : (Jvm.Cond.laysFinal "LichenTableModel" "LichenTableModel" "byYears" "[I") ∈ lw_all := lw_g (lw_at lw_m6 144 rfl) rfl
theorem q1422 : (Jvm.Cond.soleField "LichenTableModel" "byYears") ∈ lw_all := lw_g (lw_at lw_m6 145 rfl) rfl
theorem q1423 : (Jvm.Cond.laysFinal "LichenTableModel" "LichenTableModel" "orderDay" "[I") ∈ lw_all := lw_g (lw_at lw_m6 146 rfl) rfl
theorem q1424 : (Jvm.Cond.soleField "LichenTableModel" "orderDay") ∈ lw_all := lw_g (lw_at lw_m6 147 rfl) rfl
theorem q1425 : (Jvm.Cond.lays "LichenTableModel" "LichenTableModel" "agains" "I") ∈ lw_all := lw_g (lw_at lw_m6 148 rfl) rfl
theorem q1426 : (Jvm.Cond.soleField "LichenTableModel" "agains") ∈ lw_all := lw_g (lw_at lw_m6 149 rfl) rfl
theorem q1427 : (Jvm.Cond.laysFinal "LichenTableModel" "LichenTableModel" "againFirst" "[I") ∈ lw_all := lw_g (lw_at lw_m6 150 rfl) rfl
theorem q1428 : (Jvm.Cond.soleField "LichenTableModel" "againFirst") ∈ lw_all := lw_g (lw_at lw_m6 151 rfl) rfl
theorem q1429 : (Jvm.Cond.laysFinal "LichenTableModel" "LichenTableModel" "againSecond" "[I") ∈ lw_all := lw_g (lw_at lw_m6 152 rfl) rfl
theorem q1430 : (Jvm.Cond.soleField "LichenTableModel" "againSecond") ∈ lw_all := lw_g (lw_at lw_m6 153 rfl) rfl
theorem q1431 : (Jvm.Cond.laysFinal "LichenTableModel" "LichenTableModel" "againDay" "[I") ∈ lw_all := lw_g (lw_at lw_m6 154 rfl) rfl
theorem q1432 : (Jvm.Cond.soleField "LichenTableModel" "againDay") ∈ lw_all := lw_g (lw_at lw_m6 155 rfl) rfl
theorem q1433 : (Jvm.Cond.lays "LichenTableModel" "LichenTableModel" "error" "I") ∈ lw_all := lw_g (lw_at lw_m6 156 rfl) rfl
theorem q1434 : (Jvm.Cond.soleField "LichenTableModel" "error") ∈ lw_all := lw_g (lw_at lw_m6 157 rfl) rfl
theorem q1435 : (Jvm.Cond.lays "LichenTableModel" "LichenTableModel" "rate" "I") ∈ lw_all := lw_g (lw_at lw_m6 158 rfl) rfl
theorem q1436 : (Jvm.Cond.soleField "LichenTableModel" "rate") ∈ lw_all := lw_g (lw_at lw_m6 159 rfl) rfl
theorem q1437 : (Jvm.Cond.lays "LichenTableModel" "LichenTableModel" "needed" "I") ∈ lw_all := lw_g (lw_at lw_m6 160 rfl) rfl
theorem q1438 : (Jvm.Cond.soleField "LichenTableModel" "needed") ∈ lw_all := lw_g (lw_at lw_m6 161 rfl) rfl
theorem q1439 : (Jvm.Cond.laysFinal "LichenTableModel" "LichenTableModel" "delay" "[I") ∈ lw_all := lw_g (lw_at lw_m6 162 rfl) rfl
theorem q1440 : (Jvm.Cond.soleField "LichenTableModel" "delay") ∈ lw_all := lw_g (lw_at lw_m6 163 rfl) rfl
theorem q1441 : (Jvm.Cond.lays "LichenTableModel" "LichenTableModel" "statements" "I") ∈ lw_all := lw_g (lw_at lw_m6 164 rfl) rfl
theorem q1442 : (Jvm.Cond.soleField "LichenTableModel" "statements") ∈ lw_all := lw_g (lw_at lw_m6 165 rfl) rfl
theorem q1443 : (Jvm.Cond.lays "LichenTableModel" "LichenTableModel" "reading" "I") ∈ lw_all := lw_g (lw_at lw_m6 166 rfl) rfl
theorem q1444 : (Jvm.Cond.soleField "LichenTableModel" "reading") ∈ lw_all := lw_g (lw_at lw_m6 167 rfl) rfl
theorem q1445 : (Jvm.Cond.laysFinal "LichenTableModel" "LichenTableModel" "isUse" "[Z") ∈ lw_all := lw_g (lw_at lw_m6 168 rfl) rfl
theorem q1446 : (Jvm.Cond.soleField "LichenTableModel" "isUse") ∈ lw_all := lw_g (lw_at lw_m6 169 rfl) rfl
theorem q1447 : (Jvm.Cond.laysFinal "LichenTableModel" "LichenTableModel" "terms" "[I") ∈ lw_all := lw_g (lw_at lw_m6 170 rfl) rfl
theorem q1448 : (Jvm.Cond.soleField "LichenTableModel" "terms") ∈ lw_all := lw_g (lw_at lw_m6 171 rfl) rfl
theorem q1449 : (Jvm.Cond.laysFinal "LichenTableModel" "LichenTableModel" "termNot" "[Z") ∈ lw_all := lw_g (lw_at lw_m6 172 rfl) rfl
theorem q1450 : (Jvm.Cond.soleField "LichenTableModel" "termNot") ∈ lw_all := lw_g (lw_at lw_m6 173 rfl) rfl
theorem q1451 : (Jvm.Cond.laysFinal "LichenTableModel" "LichenTableModel" "termFact" "[I") ∈ lw_all := lw_g (lw_at lw_m6 174 rfl) rfl
theorem q1452 : (Jvm.Cond.soleField "LichenTableModel" "termFact") ∈ lw_all := lw_g (lw_at lw_m6 175 rfl) rfl
theorem q1453 : (Jvm.Cond.laysFinal "LichenTableModel" "LichenTableModel" "termSign" "[I") ∈ lw_all := lw_g (lw_at lw_m6 176 rfl) rfl
theorem q1454 : (Jvm.Cond.soleField "LichenTableModel" "termSign") ∈ lw_all := lw_g (lw_at lw_m6 177 rfl) rfl
theorem q1455 : (Jvm.Cond.laysFinal "LichenTableModel" "LichenTableModel" "termValue" "[I") ∈ lw_all := lw_g (lw_at lw_m6 178 rfl) rfl
theorem q1456 : (Jvm.Cond.soleField "LichenTableModel" "termValue") ∈ lw_all := lw_g (lw_at lw_m6 179 rfl) rfl
theorem q1457 : (Jvm.Cond.laysFinal "LichenTableModel" "LichenTableModel" "tape" "[B") ∈ lw_all := lw_g (lw_at lw_m6 180 rfl) rfl
theorem q1458 : (Jvm.Cond.soleField "LichenTableModel" "tape") ∈ lw_all := lw_g (lw_at lw_m6 181 rfl) rfl
theorem q1459 : (Jvm.Cond.lays "LichenTableModel" "LichenTableModel" "taped" "I") ∈ lw_all := lw_g (lw_at lw_m6 182 rfl) rfl
theorem q1460 : (Jvm.Cond.soleField "LichenTableModel" "taped") ∈ lw_all := lw_g (lw_at lw_m6 183 rfl) rfl
theorem q1461 : (Jvm.Cond.lays "LichenTableModel" "LichenTableModel" "faultKind" "I") ∈ lw_all := lw_g (lw_at lw_m6 184 rfl) rfl
theorem q1462 : (Jvm.Cond.soleField "LichenTableModel" "faultKind") ∈ lw_all := lw_g (lw_at lw_m6 185 rfl) rfl
theorem q1463 : (Jvm.Cond.lays "LichenTableModel" "LichenTableModel" "faultPlace" "I") ∈ lw_all := lw_g (lw_at lw_m6 186 rfl) rfl
theorem q1464 : (Jvm.Cond.soleField "LichenTableModel" "faultPlace") ∈ lw_all := lw_g (lw_at lw_m6 187 rfl) rfl
theorem q1465 : (Jvm.Cond.lays "LichenTableModel" "LichenTableModel" "from" "I") ∈ lw_all := lw_g (lw_at lw_m6 188 rfl) rfl
theorem q1466 : (Jvm.Cond.soleField "LichenTableModel" "from") ∈ lw_all := lw_g (lw_at lw_m6 189 rfl) rfl
theorem q1467 : (Jvm.Cond.lays "LichenTableModel" "LichenTableModel" "over" "I") ∈ lw_all := lw_g (lw_at lw_m6 190 rfl) rfl
theorem q1468 : (Jvm.Cond.soleField "LichenTableModel" "over") ∈ lw_all := lw_g (lw_at lw_m6 191 rfl) rfl
theorem q1469 : (Jvm.Cond.lays "LichenTableModel" "LichenTableModel" "value" "I") ∈ lw_all := lw_g (lw_at lw_m6 192 rfl) rfl
theorem q1470 : (Jvm.Cond.soleField "LichenTableModel" "value") ∈ lw_all := lw_g (lw_at lw_m6 193 rfl) rfl
theorem q1471 : (Jvm.Cond.lays "LichenTableModel" "LichenTableModel" "token" "I") ∈ lw_all := lw_g (lw_at lw_m6 194 rfl) rfl
theorem q1472 : (Jvm.Cond.soleField "LichenTableModel" "token") ∈ lw_all := lw_g (lw_at lw_m6 195 rfl) rfl
theorem q1473 : (Jvm.Cond.laysFinal "LichenTableModel" "LichenTableModel" "least" "[I") ∈ lw_all := lw_g (lw_at lw_m6 196 rfl) rfl
theorem q1474 : (Jvm.Cond.soleField "LichenTableModel" "least") ∈ lw_all := lw_g (lw_at lw_m6 197 rfl) rfl
theorem q1475 : (Jvm.Cond.laysFinal "LichenTableModel" "LichenTableModel" "greatest" "[I") ∈ lw_all := lw_g (lw_at lw_m6 198 rfl) rfl
theorem q1476 : (Jvm.Cond.soleField "LichenTableModel" "greatest") ∈ lw_all := lw_g (lw_at lw_m6 199 rfl) rfl
theorem q1477 : (Jvm.Cond.laysFinal "LichenTableModel" "LichenTableModel" "isLed" "[Z") ∈ lw_all := lw_g (lw_at lw_m6 200 rfl) rfl
theorem q1478 : (Jvm.Cond.soleField "LichenTableModel" "isLed") ∈ lw_all := lw_g (lw_at lw_m6 201 rfl) rfl
theorem q1479 : (Jvm.Cond.laysFinal "LichenTableModel" "LichenTableModel" "above" "[I") ∈ lw_all := lw_g (lw_at lw_m6 202 rfl) rfl
theorem q1480 : (Jvm.Cond.soleField "LichenTableModel" "above") ∈ lw_all := lw_g (lw_at lw_m6 203 rfl) rfl
theorem q1481 : (Jvm.Cond.lays "LichenTableModel" "LichenTableModel" "quarrels" "Z") ∈ lw_all := lw_g (lw_at lw_m6 204 rfl) rfl
theorem q1482 : (Jvm.Cond.soleField "LichenTableModel" "quarrels") ∈ lw_all := lw_g (lw_at lw_m6 205 rfl) rfl
theorem q1483 : (Jvm.Cond.lays "LichenTableModel" "LichenTableModel" "low" "I") ∈ lw_all := lw_g (lw_at lw_m6 206 rfl) rfl
theorem q1484 : (Jvm.Cond.soleField "LichenTableModel" "low") ∈ lw_all := lw_g (lw_at lw_m6 207 rfl) rfl
theorem q1485 : (Jvm.Cond.lays "LichenTableModel" "LichenTableModel" "high" "I") ∈ lw_all := lw_g (lw_at lw_m6 208 rfl) rfl
theorem q1486 : (Jvm.Cond.soleField "LichenTableModel" "high") ∈ lw_all := lw_g (lw_at lw_m6 209 rfl) rfl
theorem q1487 : (Jvm.Cond.lays "LichenTableModel" "LichenTableModel" "bounds" "I") ∈ lw_all := lw_g (lw_at lw_m6 210 rfl) rfl
theorem q1488 : (Jvm.Cond.soleField "LichenTableModel" "bounds") ∈ lw_all := lw_g (lw_at lw_m6 211 rfl) rfl
theorem q1489 : (Jvm.Cond.laysFinal "LichenTableModel" "LichenTableModel" "boundSite" "[I") ∈ lw_all := lw_g (lw_at lw_m6 212 rfl) rfl
theorem q1490 : (Jvm.Cond.soleField "LichenTableModel" "boundSite") ∈ lw_all := lw_g (lw_at lw_m6 213 rfl) rfl
theorem q1491 : (Jvm.Cond.laysFinal "LichenTableModel" "LichenTableModel" "boundAge" "[I") ∈ lw_all := lw_g (lw_at lw_m6 214 rfl) rfl
theorem q1492 : (Jvm.Cond.soleField "LichenTableModel" "boundAge") ∈ lw_all := lw_g (lw_at lw_m6 215 rfl) rfl
theorem q1493 : (Jvm.Cond.laysFinal "LichenTableModel" "LichenTableModel" "boundSize" "[I") ∈ lw_all := lw_g (lw_at lw_m6 216 rfl) rfl
theorem q1494 : (Jvm.Cond.soleField "LichenTableModel" "boundSize") ∈ lw_all := lw_g (lw_at lw_m6 217 rfl) rfl
theorem q1495 : (Jvm.Cond.laysFinal "LichenTableModel" "LichenTableModel" "isUpper" "[Z") ∈ lw_all := lw_g (lw_at lw_m6 218 rfl) rfl
theorem q1496 : (Jvm.Cond.soleField "LichenTableModel" "isUpper") ∈ lw_all := lw_g (lw_at lw_m6 219 rfl) rfl
theorem q1497 : (Jvm.Cond.lays "LichenTableModel" "LichenTableModel" "strikes" "I") ∈ lw_all := lw_g (lw_at lw_m6 220 rfl) rfl
theorem q1498 : (Jvm.Cond.soleField "LichenTableModel" "strikes") ∈ lw_all := lw_g (lw_at lw_m6 221 rfl) rfl
theorem q1499 : (Jvm.Cond.laysFinal "LichenTableModel" "LichenTableModel" "leastAt" "[I") ∈ lw_all := lw_g (lw_at lw_m6 222 rfl) rfl
theorem q1500 : (Jvm.Cond.soleField "LichenTableModel" "leastAt") ∈ lw_all := lw_g (lw_at lw_m6 223 rfl) rfl
theorem q1501 : (Jvm.Cond.laysFinal "LichenTableModel" "LichenTableModel" "greatestAt" "[I") ∈ lw_all := lw_g (lw_at lw_m6 224 rfl) rfl
theorem q1502 : (Jvm.Cond.soleField "LichenTableModel" "greatestAt") ∈ lw_all := lw_g (lw_at lw_m6 225 rfl) rfl
theorem q1503 : (Jvm.Cond.laysFinal "LichenTableModel" "LichenTableModel" "against" "[I") ∈ lw_all := lw_g (lw_at lw_m6 226 rfl) rfl
theorem q1504 : (Jvm.Cond.soleField "LichenTableModel" "against") ∈ lw_all := lw_g (lw_at lw_m6 227 rfl) rfl
theorem q1505 : (Jvm.Cond.laysFinal "LichenTableModel" "LichenTableModel" "from0" "[I") ∈ lw_all := lw_g (lw_at lw_m6 228 rfl) rfl
theorem q1506 : (Jvm.Cond.soleField "LichenTableModel" "from0") ∈ lw_all := lw_g (lw_at lw_m6 229 rfl) rfl
theorem q1507 : (Jvm.Cond.laysFinal "LichenTableModel" "LichenTableModel" "to0" "[I") ∈ lw_all := lw_g (lw_at lw_m6 230 rfl) rfl
theorem q1508 : (Jvm.Cond.soleField "LichenTableModel" "to0") ∈ lw_all := lw_g (lw_at lw_m6 231 rfl) rfl
theorem q1509 : (Jvm.Cond.laysFinal "LichenTableModel" "LichenTableModel" "sizes" "[I") ∈ lw_all := lw_g (lw_at lw_m6 232 rfl) rfl
theorem q1510 : (Jvm.Cond.soleField "LichenTableModel" "sizes") ∈ lw_all := lw_g (lw_at lw_m6 233 rfl) rfl
theorem q1511 : (Jvm.Cond.superclass "LichenTableModel" "java/lang/Object") ∈ lw_all := lw_g (lw_at lw_m6 234 rfl) rfl
theorem q1514 : (Jvm.Cond.instanceMethod ({ cls := "LichenTableModel", name := "thrown", desc := "()I" } : Jvm.MethodName)) ∈ lw_all := lw_g (lw_at lw_m6 237 rfl) rfl
theorem q1515 : (Jvm.Cond.selects "LichenTableModel" ({ cls := "LichenTableModel", name := "thrown", desc := "()I" } : Jvm.MethodName) ({ cls := "LichenTableModel", name := "thrown", desc := "()I" } : Jvm.MethodName)) ∈ lw_all := lw_g (lw_at lw_m6 238 rfl) rfl
theorem q1516 : (Jvm.Cond.code ({ cls := "LichenTableModel", name := "thrown", desc := "()I" } : Jvm.MethodName) prog_23_method_2_code (1 : Nat) (Option.some Jvm.ClassFile.FieldType.int)) ∈ lw_all := lw_g (lw_at lw_m6 239 rfl) rfl
theorem q1518 : (Jvm.Cond.instanceMethod ({ cls := "LichenTableModel", name := "site", desc := "(IIII)I" } : Jvm.MethodName)) ∈ lw_all := lw_g (lw_at lw_m7 1 rfl) rfl
theorem q1519 : (Jvm.Cond.selects "LichenTableModel" ({ cls := "LichenTableModel", name := "site", desc := "(IIII)I" } : Jvm.MethodName) ({ cls := "LichenTableModel", name := "site", desc := "(IIII)I" } : Jvm.MethodName)) ∈ lw_all := lw_g (lw_at lw_m7 2 rfl) rfl
theorem q1520 : (Jvm.Cond.code ({ cls := "LichenTableModel", name := "site", desc := "(IIII)I" } : Jvm.MethodName) prog_23_method_10_code (5 : Nat) (Option.some Jvm.ClassFile.FieldType.int)) ∈ lw_all := lw_g (lw_at lw_m7 3 rfl) rfl
theorem q1521 : (Jvm.Cond.methodLink "LichenTableModel" (190 : Nat) ({ cls := "LichenTableModel", name := "within", desc := "(III)Z" } : Jvm.MethodName)) ∈ lw_all := lw_g (lw_at lw_m7 4 rfl) rfl
theorem q1522 : (Jvm.Cond.static ({ cls := "LichenTableModel", name := "within", desc := "(III)Z" } : Jvm.MethodName)) ∈ lw_all := lw_g (lw_at lw_m7 5 rfl) rfl
theorem q1523 : (Jvm.Cond.code ({ cls := "LichenTableModel", name := "within", desc := "(III)Z" } : Jvm.MethodName) prog_23_method_3_code (3 : Nat) (Option.some Jvm.ClassFile.FieldType.boolean)) ∈ lw_all := lw_g (lw_at lw_m7 6 rfl) rfl
theorem q1524 : (Jvm.Cond.methodLink "LichenTableModel" (203 : Nat) ({ cls := "LichenTableModel", name := "isYear", desc := "(I)Z" } : Jvm.MethodName)) ∈ lw_all := lw_g (lw_at lw_m7 7 rfl) rfl
theorem q1525 : (Jvm.Cond.static ({ cls := "LichenTableModel", name := "isYear", desc := "(I)Z" } : Jvm.MethodName)) ∈ lw_all := lw_g (lw_at lw_m7 8 rfl) rfl
theorem q1526 : (Jvm.Cond.code ({ cls := "LichenTableModel", name := "isYear", desc := "(I)Z" } : Jvm.MethodName) prog_23_method_4_code (1 : Nat) (Option.some Jvm.ClassFile.FieldType.boolean)) ∈ lw_all := lw_g (lw_at lw_m7 9 rfl) rfl
theorem q1528 : (Jvm.Cond.instanceMethod ({ cls := "LichenTableModel", name := "circle", desc := "(IIIIIIZ)I" } : Jvm.MethodName)) ∈ lw_all := lw_g (lw_at lw_m7 11 rfl) rfl
theorem q1529 : (Jvm.Cond.selects "LichenTableModel" ({ cls := "LichenTableModel", name := "circle", desc := "(IIIIIIZ)I" } : Jvm.MethodName) ({ cls := "LichenTableModel", name := "circle", desc := "(IIIIIIZ)I" } : Jvm.MethodName)) ∈ lw_all := lw_g (lw_at lw_m7 12 rfl) rfl
theorem q1530 : (Jvm.Cond.code ({ cls := "LichenTableModel", name := "circle", desc := "(IIIIIIZ)I" } : Jvm.MethodName) prog_23_method_11_code (8 : Nat) (Option.some Jvm.ClassFile.FieldType.int)) ∈ lw_all := lw_g (lw_at lw_m7 13 rfl) rfl
theorem q1531 : (Jvm.Cond.methodLink "LichenTableModel" (207 : Nat) ({ cls := "LichenTableModel", name := "isSite", desc := "(I)Z" } : Jvm.MethodName)) ∈ lw_all := lw_g (lw_at lw_m7 14 rfl) rfl
theorem q1532 : (Jvm.Cond.privateMethod ({ cls := "LichenTableModel", name := "isSite", desc := "(I)Z" } : Jvm.MethodName)) ∈ lw_tbl := lw_at lw_m7 15 rfl
theorem q1533 : (Jvm.Cond.instanceMethod ({ cls := "LichenTableModel", name := "isSite", desc := "(I)Z" } : Jvm.MethodName)) ∈ lw_all := lw_g (lw_at lw_m7 16 rfl) rfl
theorem q1534 : (Jvm.Cond.code ({ cls := "LichenTableModel", name := "isSite", desc := "(I)Z" } : Jvm.MethodName) prog_23_method_5_code (2 : Nat) (Option.some Jvm.ClassFile.FieldType.boolean)) ∈ lw_all := lw_g (lw_at lw_m7 17 rfl) rfl
theorem q1535 : (Jvm.Cond.methodLink "LichenTableModel" (210 : Nat) ({ cls := "LichenTableModel", name := "isKind", desc := "(I)Z" } : Jvm.MethodName)) ∈ lw_all := lw_g (lw_at lw_m7 18 rfl) rfl
theorem q1536 : (Jvm.Cond.static ({ cls := "LichenTableModel", name := "isKind", desc := "(I)Z" } : Jvm.MethodName)) ∈ lw_all := lw_g (lw_at lw_m7 19 rfl) rfl
theorem q1537 : (Jvm.Cond.code ({ cls := "LichenTableModel", name := "isKind", desc := "(I)Z" } : Jvm.MethodName) prog_23_method_8_code (1 : Nat) (Option.some Jvm.ClassFile.FieldType.boolean)) ∈ lw_all := lw_g (lw_at lw_m7 20 rfl) rfl
theorem q1538 : (Jvm.Cond.methodLink "LichenTableModel" (213 : Nat) ({ cls := "LichenTableModel", name := "isSize", desc := "(I)Z" } : Jvm.MethodName)) ∈ lw_all := lw_g (lw_at lw_m7 21 rfl) rfl
theorem q1539 : (Jvm.Cond.static ({ cls := "LichenTableModel", name := "isSize", desc := "(I)Z" } : Jvm.MethodName)) ∈ lw_all := lw_g (lw_at lw_m7 22 rfl) rfl
theorem q1540 : (Jvm.Cond.code ({ cls := "LichenTableModel", name := "isSize", desc := "(I)Z" } : Jvm.MethodName) prog_23_method_9_code (1 : Nat) (Option.some Jvm.ClassFile.FieldType.boolean)) ∈ lw_all := lw_g (lw_at lw_m7 23 rfl) rfl
theorem q1542 : (Jvm.Cond.instanceMethod ({ cls := "LichenTableModel", name := "looked", desc := "(III)Z" } : Jvm.MethodName)) ∈ lw_all := lw_g (lw_at lw_m7 25 rfl) rfl
theorem q1543 : (Jvm.Cond.selects "LichenTableModel" ({ cls := "LichenTableModel", name := "looked", desc := "(III)Z" } : Jvm.MethodName) ({ cls := "LichenTableModel", name := "looked", desc := "(III)Z" } : Jvm.MethodName)) ∈ lw_all := lw_g (lw_at lw_m7 26 rfl) rfl
theorem q1544 : (Jvm.Cond.code ({ cls := "LichenTableModel", name := "looked", desc := "(III)Z" } : Jvm.MethodName) prog_23_method_12_code (4 : Nat) (Option.some Jvm.ClassFile.FieldType.boolean)) ∈ lw_all := lw_g (lw_at lw_m7 27 rfl) rfl
theorem q1546 : (Jvm.Cond.instanceMethod ({ cls := "LichenTableModel", name := "twice", desc := "(IIII)Z" } : Jvm.MethodName)) ∈ lw_all := lw_g (lw_at lw_m7 29 rfl) rfl
theorem q1547 : (Jvm.Cond.selects "LichenTableModel" ({ cls := "LichenTableModel", name := "twice", desc := "(IIII)Z" } : Jvm.MethodName) ({ cls := "LichenTableModel", name := "twice", desc := "(IIII)Z" } : Jvm.MethodName)) ∈ lw_all := lw_g (lw_at lw_m7 30 rfl) rfl
theorem q1548 : (Jvm.Cond.code ({ cls := "LichenTableModel", name := "twice", desc := "(IIII)Z" } : Jvm.MethodName) prog_23_method_13_code (5 : Nat) (Option.some Jvm.ClassFile.FieldType.boolean)) ∈ lw_all := lw_g (lw_at lw_m7 31 rfl) rfl
theorem q1550 : (Jvm.Cond.instanceMethod ({ cls := "LichenTableModel", name := "witness", desc := "(III)Z" } : Jvm.MethodName)) ∈ lw_all := lw_g (lw_at lw_m7 33 rfl) rfl
theorem q1551 : (Jvm.Cond.selects "LichenTableModel" ({ cls := "LichenTableModel", name := "witness", desc := "(III)Z" } : Jvm.MethodName) ({ cls := "LichenTableModel", name := "witness", desc := "(III)Z" } : Jvm.MethodName)) ∈ lw_all := lw_g (lw_at lw_m7 34 rfl) rfl
theorem q1552 : (Jvm.Cond.code ({ cls := "LichenTableModel", name := "witness", desc := "(III)Z" } : Jvm.MethodName) prog_23_method_14_code (4 : Nat) (Option.some Jvm.ClassFile.FieldType.boolean)) ∈ lw_all := lw_g (lw_at lw_m7 35 rfl) rfl
theorem q1554 : (Jvm.Cond.instanceMethod ({ cls := "LichenTableModel", name := "order", desc := "(III)Z" } : Jvm.MethodName)) ∈ lw_all := lw_g (lw_at lw_m7 37 rfl) rfl
theorem q1555 : (Jvm.Cond.selects "LichenTableModel" ({ cls := "LichenTableModel", name := "order", desc := "(III)Z" } : Jvm.MethodName) ({ cls := "LichenTableModel", name := "order", desc := "(III)Z" } : Jvm.MethodName)) ∈ lw_all := lw_g (lw_at lw_m7 38 rfl) rfl
theorem q1556 : (Jvm.Cond.code ({ cls := "LichenTableModel", name := "order", desc := "(III)Z" } : Jvm.MethodName) prog_23_method_15_code (4 : Nat) (Option.some Jvm.ClassFile.FieldType.boolean)) ∈ lw_all := lw_g (lw_at lw_m7 39 rfl) rfl
theorem q1558 : (Jvm.Cond.instanceMethod ({ cls := "LichenTableModel", name := "again", desc := "(II)I" } : Jvm.MethodName)) ∈ lw_all := lw_g (lw_at lw_m7 41 rfl) rfl
theorem q1559 : (Jvm.Cond.selects "LichenTableModel" ({ cls := "LichenTableModel", name := "again", desc := "(II)I" } : Jvm.MethodName) ({ cls := "LichenTableModel", name := "again", desc := "(II)I" } : Jvm.MethodName)) ∈ lw_all := lw_g (lw_at lw_m7 42 rfl) rfl
theorem q1560 : (Jvm.Cond.code ({ cls := "LichenTableModel", name := "again", desc := "(II)I" } : Jvm.MethodName) prog_23_method_16_code (3 : Nat) (Option.some Jvm.ClassFile.FieldType.int)) ∈ lw_all := lw_g (lw_at lw_m7 43 rfl) rfl
theorem q1561 : (Jvm.Cond.methodLink "LichenTableModel" (228 : Nat) ({ cls := "LichenTableModel", name := "isCircle", desc := "(I)Z" } : Jvm.MethodName)) ∈ lw_all := lw_g (lw_at lw_m7 44 rfl) rfl
theorem q1562 : (Jvm.Cond.privateMethod ({ cls := "LichenTableModel", name := "isCircle", desc := "(I)Z" } : Jvm.MethodName)) ∈ lw_tbl := lw_at lw_m7 45 rfl
theorem q1563 : (Jvm.Cond.instanceMethod ({ cls := "LichenTableModel", name := "isCircle", desc := "(I)Z" } : Jvm.MethodName)) ∈ lw_all := lw_g (lw_at lw_m7 46 rfl) rfl
theorem q1564 : (Jvm.Cond.code ({ cls := "LichenTableModel", name := "isCircle", desc := "(I)Z" } : Jvm.MethodName) prog_23_method_6_code (2 : Nat) (Option.some Jvm.ClassFile.FieldType.boolean)) ∈ lw_all := lw_g (lw_at lw_m7 47 rfl) rfl
theorem q1566 : (Jvm.Cond.instanceMethod ({ cls := "LichenTableModel", name := "house", desc := "(III)Z" } : Jvm.MethodName)) ∈ lw_all := lw_g (lw_at lw_m7 49 rfl) rfl
theorem q1567 : (Jvm.Cond.selects "LichenTableModel" ({ cls := "LichenTableModel", name := "house", desc := "(III)Z" } : Jvm.MethodName) ({ cls := "LichenTableModel", name := "house", desc := "(III)Z" } : Jvm.MethodName)) ∈ lw_all := lw_g (lw_at lw_m7 50 rfl) rfl
theorem q1568 : (Jvm.Cond.code ({ cls := "LichenTableModel", name := "house", desc := "(III)Z" } : Jvm.MethodName) prog_23_method_17_code (4 : Nat) (Option.some Jvm.ClassFile.FieldType.boolean)) ∈ lw_all := lw_g (lw_at lw_m7 51 rfl) rfl
theorem q1570 : (Jvm.Cond.instanceMethod ({ cls := "LichenTableModel", name := "delay", desc := "(II)Z" } : Jvm.MethodName)) ∈ lw_all := lw_g (lw_at lw_m7 53 rfl) rfl
theorem q1571 : (Jvm.Cond.selects "LichenTableModel" ({ cls := "LichenTableModel", name := "delay", desc := "(II)Z" } : Jvm.MethodName) ({ cls := "LichenTableModel", name := "delay", desc := "(II)Z" } : Jvm.MethodName)) ∈ lw_all := lw_g (lw_at lw_m7 54 rfl) rfl
theorem q1572 : (Jvm.Cond.code ({ cls := "LichenTableModel", name := "delay", desc := "(II)Z" } : Jvm.MethodName) prog_23_method_18_code (3 : Nat) (Option.some Jvm.ClassFile.FieldType.boolean)) ∈ lw_all := lw_g (lw_at lw_m7 55 rfl) rfl
theorem q1574 : (Jvm.Cond.instanceMethod ({ cls := "LichenTableModel", name := "day", desc := "(I)I" } : Jvm.MethodName)) ∈ lw_all := lw_g (lw_at lw_m7 57 rfl) rfl
theorem q1575 : (Jvm.Cond.selects "LichenTableModel" ({ cls := "LichenTableModel", name := "day", desc := "(I)I" } : Jvm.MethodName) ({ cls := "LichenTableModel", name := "day", desc := "(I)I" } : Jvm.MethodName)) ∈ lw_all := lw_g (lw_at lw_m7 58 rfl) rfl
theorem q1576 : (Jvm.Cond.code ({ cls := "LichenTableModel", name := "day", desc := "(I)I" } : Jvm.MethodName) prog_23_method_19_code (2 : Nat) (Option.some Jvm.ClassFile.FieldType.int)) ∈ lw_all := lw_g (lw_at lw_m7 59 rfl) rfl
theorem q1577 : (Jvm.Cond.constant "LichenTableModel" (234 : Nat) (100000 : Int32)) ∈ lw_all := lw_g (lw_at lw_m7 60 rfl) rfl
theorem q1579 : (Jvm.Cond.instanceMethod ({ cls := "LichenTableModel", name := "feed", desc := "(IIIII)I" } : Jvm.MethodName)) ∈ lw_all := lw_g (lw_at lw_m7 62 rfl) rfl
theorem q1580 : (Jvm.Cond.selects "LichenTableModel" ({ cls := "LichenTableModel", name := "feed", desc := "(IIIII)I" } : Jvm.MethodName) ({ cls := "LichenTableModel", name := "feed", desc := "(IIIII)I" } : Jvm.MethodName)) ∈ lw_all := lw_g (lw_at lw_m7 63 rfl) rfl
theorem q1581 : (Jvm.Cond.code ({ cls := "LichenTableModel", name := "feed", desc := "(IIIII)I" } : Jvm.MethodName) prog_23_method_20_code (8 : Nat) (Option.some Jvm.ClassFile.FieldType.int)) ∈ lw_all := lw_g (lw_at lw_m7 64 rfl) rfl
theorem q1583 : (Jvm.Cond.instanceMethod ({ cls := "LichenTableModel", name := "end", desc := "(I)I" } : Jvm.MethodName)) ∈ lw_all := lw_g (lw_at lw_m7 66 rfl) rfl
theorem q1584 : (Jvm.Cond.selects "LichenTableModel" ({ cls := "LichenTableModel", name := "end", desc := "(I)I" } : Jvm.MethodName) ({ cls := "LichenTableModel", name := "end", desc := "(I)I" } : Jvm.MethodName)) ∈ lw_all := lw_g (lw_at lw_m7 67 rfl) rfl
theorem q1585 : (Jvm.Cond.code ({ cls := "LichenTableModel", name := "end", desc := "(I)I" } : Jvm.MethodName) prog_23_method_21_code (2 : Nat) (Option.some Jvm.ClassFile.FieldType.int)) ∈ lw_all := lw_g (lw_at lw_m7 68 rfl) rfl
theorem q1587 : (Jvm.Cond.instanceMethod ({ cls := "LichenTableModel", name := "rule", desc := "()I" } : Jvm.MethodName)) ∈ lw_all := lw_g (lw_at lw_m7 70 rfl) rfl
theorem q1588 : (Jvm.Cond.selects "LichenTableModel" ({ cls := "LichenTableModel", name := "rule", desc := "()I" } : Jvm.MethodName) ({ cls := "LichenTableModel", name := "rule", desc := "()I" } : Jvm.MethodName)) ∈ lw_all := lw_g (lw_at lw_m7 71 rfl) rfl
theorem q1589 : (Jvm.Cond.code ({ cls := "LichenTableModel", name := "rule", desc := "()I" } : Jvm.MethodName) prog_23_method_31_code (3 : Nat) (Option.some Jvm.ClassFile.FieldType.int)) ∈ lw_all := lw_g (lw_at lw_m7 72 rfl) rfl
theorem q1590 : (Jvm.Cond.methodLink "LichenTableModel" (299 : Nat) ({ cls := "LichenTableModel", name := "next", desc := "()V" } : Jvm.MethodName)) ∈ lw_all := lw_g (lw_at lw_m7 73 rfl) rfl
theorem q1591 : (Jvm.Cond.privateMethod ({ cls := "LichenTableModel", name := "next", desc := "()V" } : Jvm.MethodName)) ∈ lw_tbl := lw_at lw_m7 74 rfl
theorem q1592 : (Jvm.Cond.instanceMethod ({ cls := "LichenTableModel", name := "next", desc := "()V" } : Jvm.MethodName)) ∈ lw_all := lw_g (lw_at lw_m7 75 rfl) rfl
theorem q1593 : (Jvm.Cond.code ({ cls := "LichenTableModel", name := "next", desc := "()V" } : Jvm.MethodName) prog_23_method_23_code (2 : Nat) (Option.none : Option Jvm.ClassFile.FieldType)) ∈ lw_all := lw_g (lw_at lw_m7 76 rfl) rfl
theorem q1594 : (Jvm.Cond.methodLink "LichenTableModel" (244 : Nat) ({ cls := "LichenTableModel", name := "byteAt", desc := "(I)I" } : Jvm.MethodName)) ∈ lw_all := lw_g (lw_at lw_m7 77 rfl) rfl
theorem q1595 : (Jvm.Cond.privateMethod ({ cls := "LichenTableModel", name := "byteAt", desc := "(I)I" } : Jvm.MethodName)) ∈ lw_tbl := lw_at lw_m7 78 rfl
theorem q1596 : (Jvm.Cond.instanceMethod ({ cls := "LichenTableModel", name := "byteAt", desc := "(I)I" } : Jvm.MethodName)) ∈ lw_all := lw_g (lw_at lw_m7 79 rfl) rfl
theorem q1597 : (Jvm.Cond.code ({ cls := "LichenTableModel", name := "byteAt", desc := "(I)I" } : Jvm.MethodName) prog_23_method_22_code (2 : Nat) (Option.some Jvm.ClassFile.FieldType.int)) ∈ lw_all := lw_g (lw_at lw_m7 80 rfl) rfl
theorem q1598 : (Jvm.Cond.methodLink "LichenTableModel" (317 : Nat) ({ cls := "LichenTableModel", name := "statement", desc := "()Z" } : Jvm.MethodName)) ∈ lw_all := lw_g (lw_at lw_m7 81 rfl) rfl
theorem q1599 : (Jvm.Cond.privateMethod ({ cls := "LichenTableModel", name := "statement", desc := "()Z" } : Jvm.MethodName)) ∈ lw_tbl := lw_at lw_m7 82 rfl
theorem q1600 : (Jvm.Cond.instanceMethod ({ cls := "LichenTableModel", name := "statement", desc := "()Z" } : Jvm.MethodName)) ∈ lw_all := lw_g (lw_at lw_m7 83 rfl) rfl
theorem q1601 : (Jvm.Cond.code ({ cls := "LichenTableModel", name := "statement", desc := "()Z" } : Jvm.MethodName) prog_23_method_30_code (2 : Nat) (Option.some Jvm.ClassFile.FieldType.boolean)) ∈ lw_all := lw_g (lw_at lw_m7 84 rfl) rfl
theorem q1602 : (Jvm.Cond.stringRef "LichenTableModel" (307 : Nat) "use") ∈ lw_tbl := lw_at lw_m7 85 rfl
theorem q1603 : (Jvm.Cond.methodLink "LichenTableModel" (287 : Nat) ({ cls := "LichenTableModel", name := "isWord", desc := "(Ljava/lang/String;)Z" } : Jvm.MethodName)) ∈ lw_all := lw_g (lw_at lw_m7 86 rfl) rfl
theorem q1604 : (Jvm.Cond.privateMethod ({ cls := "LichenTableModel", name := "isWord", desc := "(Ljava/lang/String;)Z" } : Jvm.MethodName)) ∈ lw_tbl := lw_at lw_m7 87 rfl
theorem q1605 : (Jvm.Cond.instanceMethod ({ cls := "LichenTableModel", name := "isWord", desc := "(Ljava/lang/String;)Z" } : Jvm.MethodName)) ∈ lw_all := lw_g (lw_at lw_m7 88 rfl) rfl
theorem q1606 : (Jvm.Cond.code ({ cls := "LichenTableModel", name := "isWord", desc := "(Ljava/lang/String;)Z" } : Jvm.MethodName) prog_23_method_24_code (4 : Nat) (Option.some Jvm.ClassFile.FieldType.boolean)) ∈ lw_all := lw_g (lw_at lw_m7 89 rfl) rfl
theorem q1607 : (Jvm.Cond.methodLink "LichenTableModel" (254 : Nat) ({ cls := "java/lang/String", name := "length", desc := "()I" } : Jvm.MethodName)) ∈ lw_all := lw_g (lw_at lw_m7 90 rfl) rfl
theorem q1608 : (Jvm.Cond.methodLink "LichenTableModel" (260 : Nat) ({ cls := "java/lang/String", name := "charAt", desc := "(I)C" } : Jvm.MethodName)) ∈ lw_all := lw_g (lw_at lw_m7 91 rfl) rfl
theorem q1609 : (Jvm.Cond.stringRef "LichenTableModel" (309 : Nat) "skip") ∈ lw_tbl := lw_at lw_m7 92 rfl
theorem q1610 : (Jvm.Cond.methodLink "LichenTableModel" (296 : Nat) ({ cls := "LichenTableModel", name := "wrong", desc := "(I)Z" } : Jvm.MethodName)) ∈ lw_all := lw_g (lw_at lw_m7 93 rfl) rfl
theorem q1611 : (Jvm.Cond.privateMethod ({ cls := "LichenTableModel", name := "wrong", desc := "(I)Z" } : Jvm.MethodName)) ∈ lw_tbl := lw_at lw_m7 94 rfl
theorem q1612 : (Jvm.Cond.instanceMethod ({ cls := "LichenTableModel", name := "wrong", desc := "(I)Z" } : Jvm.MethodName)) ∈ lw_all := lw_g (lw_at lw_m7 95 rfl) rfl
theorem q1613 : (Jvm.Cond.code ({ cls := "LichenTableModel", name := "wrong", desc := "(I)Z" } : Jvm.MethodName) prog_23_method_26_code (2 : Nat) (Option.some Jvm.ClassFile.FieldType.boolean)) ∈ lw_all := lw_g (lw_at lw_m7 96 rfl) rfl
theorem q1614 : (Jvm.Cond.methodLink "LichenTableModel" (314 : Nat) ({ cls := "LichenTableModel", name := "takesTerms", desc := "(I)Z" } : Jvm.MethodName)) ∈ lw_all := lw_g (lw_at lw_m7 97 rfl) rfl
theorem q1615 : (Jvm.Cond.privateMethod ({ cls := "LichenTableModel", name := "takesTerms", desc := "(I)Z" } : Jvm.MethodName)) ∈ lw_tbl := lw_at lw_m7 98 rfl
theorem q1616 : (Jvm.Cond.instanceMethod ({ cls := "LichenTableModel", name := "takesTerms", desc := "(I)Z" } : Jvm.MethodName)) ∈ lw_all := lw_g (lw_at lw_m7 99 rfl) rfl
theorem q1617 : (Jvm.Cond.code ({ cls := "LichenTableModel", name := "takesTerms", desc := "(I)Z" } : Jvm.MethodName) prog_23_method_29_code (4 : Nat) (Option.some Jvm.ClassFile.FieldType.boolean)) ∈ lw_all := lw_g (lw_at lw_m7 100 rfl) rfl
theorem q1618 : (Jvm.Cond.stringRef "LichenTableModel" (291 : Nat) "not") ∈ lw_tbl := lw_at lw_m7 101 rfl
theorem q1619 : (Jvm.Cond.methodLink "LichenTableModel" (293 : Nat) ({ cls := "LichenTableModel", name := "factHere", desc := "()I" } : Jvm.MethodName)) ∈ lw_all := lw_g (lw_at lw_m7 102 rfl) rfl
theorem q1620 : (Jvm.Cond.privateMethod ({ cls := "LichenTableModel", name := "factHere", desc := "()I" } : Jvm.MethodName)) ∈ lw_tbl := lw_at lw_m7 103 rfl
theorem q1621 : (Jvm.Cond.instanceMethod ({ cls := "LichenTableModel", name := "factHere", desc := "()I" } : Jvm.MethodName)) ∈ lw_all := lw_g (lw_at lw_m7 104 rfl) rfl
theorem q1622 : (Jvm.Cond.code ({ cls := "LichenTableModel", name := "factHere", desc := "()I" } : Jvm.MethodName) prog_23_method_28_code (2 : Nat) (Option.some Jvm.ClassFile.FieldType.int)) ∈ lw_all := lw_g (lw_at lw_m7 105 rfl) rfl
theorem q1623 : (Jvm.Cond.methodLink "LichenTableModel" (283 : Nat) ({ cls := "LichenTableModel", name := "factWord", desc := "(I)Ljava/lang/String;" } : Jvm.MethodName)) ∈ lw_all := lw_g (lw_at lw_m7 106 rfl) rfl
theorem q1624 : (Jvm.Cond.static ({ cls := "LichenTableModel", name := "factWord", desc := "(I)Ljava/lang/String;" } : Jvm.MethodName)) ∈ lw_all := lw_g (lw_at lw_m7 107 rfl) rfl
theorem q1625 : (Jvm.Cond.code ({ cls := "LichenTableModel", name := "factWord", desc := "(I)Ljava/lang/String;" } : Jvm.MethodName) prog_23_method_27_code (1 : Nat) (Option.some (Jvm.ClassFile.FieldType.object "java/lang/String"))) ∈ lw_all := lw_g (lw_at lw_m7 108 rfl) rfl
theorem q1626 : (Jvm.Cond.stringRef "LichenTableModel" (267 : Nat) "site") ∈ lw_tbl := lw_at lw_m7 109 rfl
theorem q1627 : (Jvm.Cond.stringRef "LichenTableModel" (269 : Nat) "kind") ∈ lw_tbl := lw_at lw_m7 110 rfl
theorem q1628 : (Jvm.Cond.stringRef "LichenTableModel" (270 : Nat) "measurer") ∈ lw_tbl := lw_at lw_m7 111 rfl
theorem q1629 : (Jvm.Cond.stringRef "LichenTableModel" (271 : Nat) "long") ∈ lw_tbl := lw_at lw_m7 112 rfl
theorem q1630 : (Jvm.Cond.stringRef "LichenTableModel" (273 : Nat) "short") ∈ lw_tbl := lw_at lw_m7 113 rfl
theorem q1631 : (Jvm.Cond.stringRef "LichenTableModel" (275 : Nat) "year") ∈ lw_tbl := lw_at lw_m7 114 rfl
theorem q1632 : (Jvm.Cond.stringRef "LichenTableModel" (277 : Nat) "merged") ∈ lw_tbl := lw_at lw_m7 115 rfl
theorem q1633 : (Jvm.Cond.stringRef "LichenTableModel" (279 : Nat) "round") ∈ lw_tbl := lw_at lw_m7 116 rfl
theorem q1634 : (Jvm.Cond.stringRef "LichenTableModel" (281 : Nat) "side") ∈ lw_tbl := lw_at lw_m7 117 rfl
theorem q1635 : (Jvm.Cond.stringRef "LichenTableModel" (282 : Nat) "belt") ∈ lw_tbl := lw_at lw_m7 118 rfl
theorem q1636 : (Jvm.Cond.methodLink "LichenTableModel" (302 : Nat) ({ cls := "LichenTableModel", name := "signHere", desc := "()I" } : Jvm.MethodName)) ∈ lw_all := lw_g (lw_at lw_m7 119 rfl) rfl
theorem q1637 : (Jvm.Cond.privateMethod ({ cls := "LichenTableModel", name := "signHere", desc := "()I" } : Jvm.MethodName)) ∈ lw_tbl := lw_at lw_m7 120 rfl
theorem q1638 : (Jvm.Cond.instanceMethod ({ cls := "LichenTableModel", name := "signHere", desc := "()I" } : Jvm.MethodName)) ∈ lw_all := lw_g (lw_at lw_m7 121 rfl) rfl
theorem q1639 : (Jvm.Cond.code ({ cls := "LichenTableModel", name := "signHere", desc := "()I" } : Jvm.MethodName) prog_23_method_25_code (2 : Nat) (Option.some Jvm.ClassFile.FieldType.int)) ∈ lw_all := lw_g (lw_at lw_m7 122 rfl) rfl
theorem q1640 : (Jvm.Cond.stringRef "LichenTableModel" (305 : Nat) "and") ∈ lw_tbl := lw_at lw_m7 123 rfl
theorem q1642 : (Jvm.Cond.instanceMethod ({ cls := "LichenTableModel", name := "place", desc := "()I" } : Jvm.MethodName)) ∈ lw_all := lw_g (lw_at lw_m7 125 rfl) rfl
theorem q1643 : (Jvm.Cond.selects "LichenTableModel" ({ cls := "LichenTableModel", name := "place", desc := "()I" } : Jvm.MethodName) ({ cls := "LichenTableModel", name := "place", desc := "()I" } : Jvm.MethodName)) ∈ lw_all := lw_g (lw_at lw_m7 126 rfl) rfl
theorem q1644 : (Jvm.Cond.code ({ cls := "LichenTableModel", name := "place", desc := "()I" } : Jvm.MethodName) prog_23_method_32_code (1 : Nat) (Option.some Jvm.ClassFile.FieldType.int)) ∈ lw_all := lw_g (lw_at lw_m7 127 rfl) rfl
theorem q1646 : (Jvm.Cond.instanceMethod ({ cls := "LichenTableModel", name := "habit", desc := "(III)I" } : Jvm.MethodName)) ∈ lw_all := lw_g (lw_at lw_m7 129 rfl) rfl
theorem q1647 : (Jvm.Cond.selects "LichenTableModel" ({ cls := "LichenTableModel", name := "habit", desc := "(III)I" } : Jvm.MethodName) ({ cls := "LichenTableModel", name := "habit", desc := "(III)I" } : Jvm.MethodName)) ∈ lw_all := lw_g (lw_at lw_m7 130 rfl) rfl
theorem q1648 : (Jvm.Cond.code ({ cls := "LichenTableModel", name := "habit", desc := "(III)I" } : Jvm.MethodName) prog_23_method_37_code (5 : Nat) (Option.some Jvm.ClassFile.FieldType.int)) ∈ lw_all := lw_g (lw_at lw_m7 131 rfl) rfl
theorem q1649 : (Jvm.Cond.methodLink "LichenTableModel" (337 : Nat) ({ cls := "LichenTableModel", name := "isKnown", desc := "(I)Z" } : Jvm.MethodName)) ∈ lw_all := lw_g (lw_at lw_m7 132 rfl) rfl
theorem q1650 : (Jvm.Cond.privateMethod ({ cls := "LichenTableModel", name := "isKnown", desc := "(I)Z" } : Jvm.MethodName)) ∈ lw_tbl := lw_at lw_m7 133 rfl
theorem q1651 : (Jvm.Cond.instanceMethod ({ cls := "LichenTableModel", name := "isKnown", desc := "(I)Z" } : Jvm.MethodName)) ∈ lw_all := lw_g (lw_at lw_m7 134 rfl) rfl
theorem q1652 : (Jvm.Cond.code ({ cls := "LichenTableModel", name := "isKnown", desc := "(I)Z" } : Jvm.MethodName) prog_23_method_7_code (2 : Nat) (Option.some Jvm.ClassFile.FieldType.boolean)) ∈ lw_all := lw_g (lw_at lw_m7 135 rfl) rfl
theorem q1653 : (Jvm.Cond.methodLink "LichenTableModel" (340 : Nat) ({ cls := "LichenTableModel", name := "habits", desc := "(I)V" } : Jvm.MethodName)) ∈ lw_all := lw_g (lw_at lw_m7 136 rfl) rfl
theorem q1654 : (Jvm.Cond.privateMethod ({ cls := "LichenTableModel", name := "habits", desc := "(I)V" } : Jvm.MethodName)) ∈ lw_tbl := lw_at lw_m7 137 rfl
theorem q1655 : (Jvm.Cond.instanceMethod ({ cls := "LichenTableModel", name := "habits", desc := "(I)V" } : Jvm.MethodName)) ∈ lw_all := lw_g (lw_at lw_m7 138 rfl) rfl
theorem q1656 : (Jvm.Cond.code ({ cls := "LichenTableModel", name := "habits", desc := "(I)V" } : Jvm.MethodName) prog_23_method_35_code (5 : Nat) (Option.none : Option Jvm.ClassFile.FieldType)) ∈ lw_all := lw_g (lw_at lw_m7 139 rfl) rfl
theorem q1657 : (Jvm.Cond.constant "LichenTableModel" (328 : Nat) (1000000 : Int32)) ∈ lw_all := lw_g (lw_at lw_m7 140 rfl) rfl
theorem q1658 : (Jvm.Cond.methodLink "LichenTableModel" (329 : Nat) ({ cls := "LichenTableModel", name := "bounds", desc := "(III)Z" } : Jvm.MethodName)) ∈ lw_all := lw_g (lw_at lw_m7 141 rfl) rfl
theorem q1659 : (Jvm.Cond.privateMethod ({ cls := "LichenTableModel", name := "bounds", desc := "(III)Z" } : Jvm.MethodName)) ∈ lw_tbl := lw_at lw_m7 142 rfl
theorem q1660 : (Jvm.Cond.instanceMethod ({ cls := "LichenTableModel", name := "bounds", desc := "(III)Z" } : Jvm.MethodName)) ∈ lw_all := lw_g (lw_at lw_m7 143 rfl) rfl
theorem q1661 : (Jvm.Cond.code ({ cls := "LichenTableModel", name := "bounds", desc := "(III)Z" } : Jvm.MethodName) prog_23_method_36_code (8 : Nat) (Option.some Jvm.ClassFile.FieldType.boolean)) ∈ lw_all := lw_g (lw_at lw_m7 144 rfl) rfl
theorem q1662 : (Jvm.Cond.constant "LichenTableModel" (336 : Nat) (-1000000 : Int32)) ∈ lw_all := lw_g (lw_at lw_m7 145 rfl) rfl
theorem q1664 : (Jvm.Cond.instanceMethod ({ cls := "LichenTableModel", name := "used", desc := "(II)I" } : Jvm.MethodName)) ∈ lw_all := lw_g (lw_at lw_m7 147 rfl) rfl
theorem q1665 : (Jvm.Cond.selects "LichenTableModel" ({ cls := "LichenTableModel", name := "used", desc := "(II)I" } : Jvm.MethodName) ({ cls := "LichenTableModel", name := "used", desc := "(II)I" } : Jvm.MethodName)) ∈ lw_all := lw_g (lw_at lw_m7 148 rfl) rfl
theorem q1666 : (Jvm.Cond.code ({ cls := "LichenTableModel", name := "used", desc := "(II)I" } : Jvm.MethodName) prog_23_method_41_code (3 : Nat) (Option.some Jvm.ClassFile.FieldType.int)) ∈ lw_all := lw_g (lw_at lw_m7 149 rfl) rfl
theorem q1667 : (Jvm.Cond.methodLink "LichenTableModel" (353 : Nat) ({ cls := "LichenTableModel", name := "isUsed", desc := "(II)Z" } : Jvm.MethodName)) ∈ lw_all := lw_g (lw_at lw_m7 150 rfl) rfl
theorem q1668 : (Jvm.Cond.privateMethod ({ cls := "LichenTableModel", name := "isUsed", desc := "(II)Z" } : Jvm.MethodName)) ∈ lw_tbl := lw_at lw_m7 151 rfl
theorem q1669 : (Jvm.Cond.instanceMethod ({ cls := "LichenTableModel", name := "isUsed", desc := "(II)Z" } : Jvm.MethodName)) ∈ lw_all := lw_g (lw_at lw_m7 152 rfl) rfl
theorem q1670 : (Jvm.Cond.code ({ cls := "LichenTableModel", name := "isUsed", desc := "(II)Z" } : Jvm.MethodName) prog_23_method_38_code (5 : Nat) (Option.some Jvm.ClassFile.FieldType.boolean)) ∈ lw_all := lw_g (lw_at lw_m7 153 rfl) rfl
theorem q1671 : (Jvm.Cond.methodLink "LichenTableModel" (344 : Nat) ({ cls := "LichenTableModel", name := "isMeant", desc := "(II)Z" } : Jvm.MethodName)) ∈ lw_all := lw_g (lw_at lw_m7 154 rfl) rfl
theorem q1672 : (Jvm.Cond.privateMethod ({ cls := "LichenTableModel", name := "isMeant", desc := "(II)Z" } : Jvm.MethodName)) ∈ lw_tbl := lw_at lw_m7 155 rfl
theorem q1673 : (Jvm.Cond.instanceMethod ({ cls := "LichenTableModel", name := "isMeant", desc := "(II)Z" } : Jvm.MethodName)) ∈ lw_all := lw_g (lw_at lw_m7 156 rfl) rfl
theorem q1674 : (Jvm.Cond.code ({ cls := "LichenTableModel", name := "isMeant", desc := "(II)Z" } : Jvm.MethodName) prog_23_method_34_code (6 : Nat) (Option.some Jvm.ClassFile.FieldType.boolean)) ∈ lw_all := lw_g (lw_at lw_m7 157 rfl) rfl
theorem q1675 : (Jvm.Cond.methodLink "LichenTableModel" (324 : Nat) ({ cls := "LichenTableModel", name := "factOf", desc := "(II)I" } : Jvm.MethodName)) ∈ lw_all := lw_g (lw_at lw_m7 158 rfl) rfl
theorem q1676 : (Jvm.Cond.privateMethod ({ cls := "LichenTableModel", name := "factOf", desc := "(II)I" } : Jvm.MethodName)) ∈ lw_tbl := lw_at lw_m7 159 rfl
theorem q1677 : (Jvm.Cond.instanceMethod ({ cls := "LichenTableModel", name := "factOf", desc := "(II)I" } : Jvm.MethodName)) ∈ lw_all := lw_g (lw_at lw_m7 160 rfl) rfl
theorem q1678 : (Jvm.Cond.code ({ cls := "LichenTableModel", name := "factOf", desc := "(II)I" } : Jvm.MethodName) prog_23_method_33_code (3 : Nat) (Option.some Jvm.ClassFile.FieldType.int)) ∈ lw_all := lw_g (lw_at lw_m7 161 rfl) rfl
theorem q1680 : (Jvm.Cond.instanceMethod ({ cls := "LichenTableModel", name := "trueSize", desc := "(III)I" } : Jvm.MethodName)) ∈ lw_all := lw_g (lw_at lw_m7 163 rfl) rfl
theorem q1681 : (Jvm.Cond.selects "LichenTableModel" ({ cls := "LichenTableModel", name := "trueSize", desc := "(III)I" } : Jvm.MethodName) ({ cls := "LichenTableModel", name := "trueSize", desc := "(III)I" } : Jvm.MethodName)) ∈ lw_all := lw_g (lw_at lw_m7 164 rfl) rfl
theorem q1682 : (Jvm.Cond.code ({ cls := "LichenTableModel", name := "trueSize", desc := "(III)I" } : Jvm.MethodName) prog_23_method_42_code (4 : Nat) (Option.some Jvm.ClassFile.FieldType.int)) ∈ lw_all := lw_g (lw_at lw_m7 165 rfl) rfl
theorem q1683 : (Jvm.Cond.methodLink "LichenTableModel" (356 : Nat) ({ cls := "LichenTableModel", name := "lowOf", desc := "(I)I" } : Jvm.MethodName)) ∈ lw_all := lw_g (lw_at lw_m7 166 rfl) rfl
theorem q1684 : (Jvm.Cond.privateMethod ({ cls := "LichenTableModel", name := "lowOf", desc := "(I)I" } : Jvm.MethodName)) ∈ lw_tbl := lw_at lw_m7 167 rfl
theorem q1685 : (Jvm.Cond.instanceMethod ({ cls := "LichenTableModel", name := "lowOf", desc := "(I)I" } : Jvm.MethodName)) ∈ lw_all := lw_g (lw_at lw_m7 168 rfl) rfl
theorem q1686 : (Jvm.Cond.code ({ cls := "LichenTableModel", name := "lowOf", desc := "(I)I" } : Jvm.MethodName) prog_23_method_39_code (2 : Nat) (Option.some Jvm.ClassFile.FieldType.int)) ∈ lw_all := lw_g (lw_at lw_m7 169 rfl) rfl
theorem q1687 : (Jvm.Cond.methodLink "LichenTableModel" (348 : Nat) ({ cls := "java/lang/Math", name := "max", desc := "(II)I" } : Jvm.MethodName)) ∈ lw_all := lw_g (lw_at lw_m7 170 rfl) rfl
theorem q1688 : (Jvm.Cond.methodLink "LichenTableModel" (359 : Nat) ({ cls := "LichenTableModel", name := "highOf", desc := "(I)I" } : Jvm.MethodName)) ∈ lw_all := lw_g (lw_at lw_m7 171 rfl) rfl
theorem q1689 : (Jvm.Cond.privateMethod ({ cls := "LichenTableModel", name := "highOf", desc := "(I)I" } : Jvm.MethodName)) ∈ lw_tbl := lw_at lw_m7 172 rfl
theorem q1690 : (Jvm.Cond.instanceMethod ({ cls := "LichenTableModel", name := "highOf", desc := "(I)I" } : Jvm.MethodName)) ∈ lw_all := lw_g (lw_at lw_m7 173 rfl) rfl
theorem q1691 : (Jvm.Cond.code ({ cls := "LichenTableModel", name := "highOf", desc := "(I)I" } : Jvm.MethodName) prog_23_method_40_code (2 : Nat) (Option.some Jvm.ClassFile.FieldType.int)) ∈ lw_all := lw_g (lw_at lw_m7 174 rfl) rfl
theorem q1693 : (Jvm.Cond.instanceMethod ({ cls := "LichenTableModel", name := "struck", desc := "(IIII)I" } : Jvm.MethodName)) ∈ lw_all := lw_g (lw_at lw_m7 176 rfl) rfl
theorem q1694 : (Jvm.Cond.selects "LichenTableModel" ({ cls := "LichenTableModel", name := "struck", desc := "(IIII)I" } : Jvm.MethodName) ({ cls := "LichenTableModel", name := "struck", desc := "(IIII)I" } : Jvm.MethodName)) ∈ lw_all := lw_g (lw_at lw_m7 177 rfl) rfl
theorem q1695 : (Jvm.Cond.code ({ cls := "LichenTableModel", name := "struck", desc := "(IIII)I" } : Jvm.MethodName) prog_23_method_52_code (5 : Nat) (Option.some Jvm.ClassFile.FieldType.int)) ∈ lw_all := lw_g (lw_at lw_m7 178 rfl) rfl
theorem q1696 : (Jvm.Cond.methodLink "LichenTableModel" (404 : Nat) ({ cls := "LichenTableModel", name := "isCurve", desc := "(IIII)Z" } : Jvm.MethodName)) ∈ lw_all := lw_g (lw_at lw_m7 179 rfl) rfl
theorem q1697 : (Jvm.Cond.privateMethod ({ cls := "LichenTableModel", name := "isCurve", desc := "(IIII)Z" } : Jvm.MethodName)) ∈ lw_tbl := lw_at lw_m7 180 rfl
theorem q1698 : (Jvm.Cond.instanceMethod ({ cls := "LichenTableModel", name := "isCurve", desc := "(IIII)Z" } : Jvm.MethodName)) ∈ lw_all := lw_g (lw_at lw_m7 181 rfl) rfl
theorem q1699 : (Jvm.Cond.code ({ cls := "LichenTableModel", name := "isCurve", desc := "(IIII)Z" } : Jvm.MethodName) prog_23_method_51_code (5 : Nat) (Option.some Jvm.ClassFile.FieldType.boolean)) ∈ lw_all := lw_g (lw_at lw_m7 182 rfl) rfl
theorem q1700 : (Jvm.Cond.methodLink "LichenTableModel" (407 : Nat) ({ cls := "LichenTableModel", name := "curve", desc := "(IIIII)V" } : Jvm.MethodName)) ∈ lw_all := lw_g (lw_at lw_m7 183 rfl) rfl
theorem q1701 : (Jvm.Cond.privateMethod ({ cls := "LichenTableModel", name := "curve", desc := "(IIIII)V" } : Jvm.MethodName)) ∈ lw_tbl := lw_at lw_m7 184 rfl
theorem q1702 : (Jvm.Cond.instanceMethod ({ cls := "LichenTableModel", name := "curve", desc := "(IIIII)V" } : Jvm.MethodName)) ∈ lw_all := lw_g (lw_at lw_m7 185 rfl) rfl
theorem q1703 : (Jvm.Cond.code ({ cls := "LichenTableModel", name := "curve", desc := "(IIIII)V" } : Jvm.MethodName) prog_23_method_48_code (9 : Nat) (Option.none : Option Jvm.ClassFile.FieldType)) ∈ lw_all := lw_g (lw_at lw_m7 186 rfl) rfl
theorem q1704 : (Jvm.Cond.methodLink "LichenTableModel" (370 : Nat) ({ cls := "LichenTableModel", name := "isFirst", desc := "(I)Z" } : Jvm.MethodName)) ∈ lw_all := lw_g (lw_at lw_m7 187 rfl) rfl
theorem q1705 : (Jvm.Cond.privateMethod ({ cls := "LichenTableModel", name := "isFirst", desc := "(I)Z" } : Jvm.MethodName)) ∈ lw_tbl := lw_at lw_m7 188 rfl
theorem q1706 : (Jvm.Cond.instanceMethod ({ cls := "LichenTableModel", name := "isFirst", desc := "(I)Z" } : Jvm.MethodName)) ∈ lw_all := lw_g (lw_at lw_m7 189 rfl) rfl
theorem q1707 : (Jvm.Cond.code ({ cls := "LichenTableModel", name := "isFirst", desc := "(I)Z" } : Jvm.MethodName) prog_23_method_45_code (3 : Nat) (Option.some Jvm.ClassFile.FieldType.boolean)) ∈ lw_all := lw_g (lw_at lw_m7 190 rfl) rfl
theorem q1708 : (Jvm.Cond.methodLink "LichenTableModel" (373 : Nat) ({ cls := "LichenTableModel", name := "gathers", desc := "(IIII)Z" } : Jvm.MethodName)) ∈ lw_all := lw_g (lw_at lw_m7 191 rfl) rfl
theorem q1709 : (Jvm.Cond.privateMethod ({ cls := "LichenTableModel", name := "gathers", desc := "(IIII)Z" } : Jvm.MethodName)) ∈ lw_tbl := lw_at lw_m7 192 rfl
theorem q1710 : (Jvm.Cond.instanceMethod ({ cls := "LichenTableModel", name := "gathers", desc := "(IIII)Z" } : Jvm.MethodName)) ∈ lw_all := lw_g (lw_at lw_m7 193 rfl) rfl
theorem q1711 : (Jvm.Cond.code ({ cls := "LichenTableModel", name := "gathers", desc := "(IIII)Z" } : Jvm.MethodName) prog_23_method_44_code (6 : Nat) (Option.some Jvm.ClassFile.FieldType.boolean)) ∈ lw_all := lw_g (lw_at lw_m7 194 rfl) rfl
theorem q1712 : (Jvm.Cond.methodLink "LichenTableModel" (377 : Nat) ({ cls := "LichenTableModel", name := "adds", desc := "(IIIZ)V" } : Jvm.MethodName)) ∈ lw_all := lw_g (lw_at lw_m7 195 rfl) rfl
theorem q1713 : (Jvm.Cond.privateMethod ({ cls := "LichenTableModel", name := "adds", desc := "(IIIZ)V" } : Jvm.MethodName)) ∈ lw_tbl := lw_at lw_m7 196 rfl
theorem q1714 : (Jvm.Cond.instanceMethod ({ cls := "LichenTableModel", name := "adds", desc := "(IIIZ)V" } : Jvm.MethodName)) ∈ lw_all := lw_g (lw_at lw_m7 197 rfl) rfl
theorem q1715 : (Jvm.Cond.code ({ cls := "LichenTableModel", name := "adds", desc := "(IIIZ)V" } : Jvm.MethodName) prog_23_method_46_code (5 : Nat) (Option.none : Option Jvm.ClassFile.FieldType)) ∈ lw_all := lw_g (lw_at lw_m7 198 rfl) rfl
theorem q1716 : (Jvm.Cond.methodLink "LichenTableModel" (381 : Nat) ({ cls := "LichenTableModel", name := "lookedAt", desc := "(III)I" } : Jvm.MethodName)) ∈ lw_all := lw_g (lw_at lw_m7 199 rfl) rfl
theorem q1717 : (Jvm.Cond.privateMethod ({ cls := "LichenTableModel", name := "lookedAt", desc := "(III)I" } : Jvm.MethodName)) ∈ lw_tbl := lw_at lw_m7 200 rfl
theorem q1718 : (Jvm.Cond.instanceMethod ({ cls := "LichenTableModel", name := "lookedAt", desc := "(III)I" } : Jvm.MethodName)) ∈ lw_all := lw_g (lw_at lw_m7 201 rfl) rfl
theorem q1719 : (Jvm.Cond.code ({ cls := "LichenTableModel", name := "lookedAt", desc := "(III)I" } : Jvm.MethodName) prog_23_method_43_code (6 : Nat) (Option.some Jvm.ClassFile.FieldType.int)) ∈ lw_all := lw_g (lw_at lw_m7 202 rfl) rfl
theorem q1720 : (Jvm.Cond.methodLink "LichenTableModel" (385 : Nat) ({ cls := "LichenTableModel", name := "goTogether", desc := "(II)Z" } : Jvm.MethodName)) ∈ lw_all := lw_g (lw_at lw_m7 203 rfl) rfl
theorem q1721 : (Jvm.Cond.privateMethod ({ cls := "LichenTableModel", name := "goTogether", desc := "(II)Z" } : Jvm.MethodName)) ∈ lw_tbl := lw_at lw_m7 204 rfl
theorem q1722 : (Jvm.Cond.instanceMethod ({ cls := "LichenTableModel", name := "goTogether", desc := "(II)Z" } : Jvm.MethodName)) ∈ lw_all := lw_g (lw_at lw_m7 205 rfl) rfl
theorem q1723 : (Jvm.Cond.code ({ cls := "LichenTableModel", name := "goTogether", desc := "(II)Z" } : Jvm.MethodName) prog_23_method_47_code (4 : Nat) (Option.some Jvm.ClassFile.FieldType.boolean)) ∈ lw_all := lw_g (lw_at lw_m7 206 rfl) rfl
theorem q1724 : (Jvm.Cond.methodLink "LichenTableModel" (391 : Nat) ({ cls := "java/lang/Integer", name := "bitCount", desc := "(I)I" } : Jvm.MethodName)) ∈ lw_all := lw_g (lw_at lw_m7 207 rfl) rfl
theorem q1725 : (Jvm.Cond.methodLink "LichenTableModel" (396 : Nat) ({ cls := "LichenTableModel", name := "isEnough", desc := "(I)Z" } : Jvm.MethodName)) ∈ lw_all := lw_g (lw_at lw_m7 208 rfl) rfl
theorem q1726 : (Jvm.Cond.privateMethod ({ cls := "LichenTableModel", name := "isEnough", desc := "(I)Z" } : Jvm.MethodName)) ∈ lw_tbl := lw_at lw_m7 209 rfl
theorem q1727 : (Jvm.Cond.instanceMethod ({ cls := "LichenTableModel", name := "isEnough", desc := "(I)Z" } : Jvm.MethodName)) ∈ lw_all := lw_g (lw_at lw_m7 210 rfl) rfl
theorem q1728 : (Jvm.Cond.code ({ cls := "LichenTableModel", name := "isEnough", desc := "(I)Z" } : Jvm.MethodName) prog_23_method_49_code (3 : Nat) (Option.some Jvm.ClassFile.FieldType.boolean)) ∈ lw_all := lw_g (lw_at lw_m7 211 rfl) rfl
theorem q1729 : (Jvm.Cond.methodLink "LichenTableModel" (399 : Nat) ({ cls := "LichenTableModel", name := "sizes", desc := "()V" } : Jvm.MethodName)) ∈ lw_all := lw_g (lw_at lw_m7 212 rfl) rfl
theorem q1730 : (Jvm.Cond.privateMethod ({ cls := "LichenTableModel", name := "sizes", desc := "()V" } : Jvm.MethodName)) ∈ lw_tbl := lw_at lw_m7 213 rfl
theorem q1731 : (Jvm.Cond.instanceMethod ({ cls := "LichenTableModel", name := "sizes", desc := "()V" } : Jvm.MethodName)) ∈ lw_all := lw_g (lw_at lw_m7 214 rfl) rfl
theorem q1732 : (Jvm.Cond.code ({ cls := "LichenTableModel", name := "sizes", desc := "()V" } : Jvm.MethodName) prog_23_method_50_code (4 : Nat) (Option.none : Option Jvm.ClassFile.FieldType)) ∈ lw_all := lw_g (lw_at lw_m7 215 rfl) rfl
theorem q1733 : (Jvm.Cond.methodLink "LichenTableModel" (401 : Nat) ({ cls := "java/lang/Math", name := "min", desc := "(II)I" } : Jvm.MethodName)) ∈ lw_all := lw_g (lw_at lw_m7 216 rfl) rfl
theorem q1735 : (Jvm.Cond.instanceMethod ({ cls := "LichenTableModel", name := "size", desc := "(IIIIII)I" } : Jvm.MethodName)) ∈ lw_all := lw_g (lw_at lw_m7 218 rfl) rfl
theorem q1736 : (Jvm.Cond.selects "LichenTableModel" ({ cls := "LichenTableModel", name := "size", desc := "(IIIIII)I" } : Jvm.MethodName) ({ cls := "LichenTableModel", name := "size", desc := "(IIIIII)I" } : Jvm.MethodName)) ∈ lw_all := lw_g (lw_at lw_m7 219 rfl) rfl
theorem q1737 : (Jvm.Cond.code ({ cls := "LichenTableModel", name := "size", desc := "(IIIIII)I" } : Jvm.MethodName) prog_23_method_53_code (7 : Nat) (Option.some Jvm.ClassFile.FieldType.int)) ∈ lw_all := lw_g (lw_at lw_m7 220 rfl) rfl
theorem q1739 : (Jvm.Cond.instanceMethod ({ cls := "LichenTableModel", name := "span", desc := "(III)I" } : Jvm.MethodName)) ∈ lw_all := lw_g (lw_at lw_m7 222 rfl) rfl
theorem q1740 : (Jvm.Cond.selects "LichenTableModel" ({ cls := "LichenTableModel", name := "span", desc := "(III)I" } : Jvm.MethodName) ({ cls := "LichenTableModel", name := "span", desc := "(III)I" } : Jvm.MethodName)) ∈ lw_all := lw_g (lw_at lw_m7 223 rfl) rfl
theorem q1741 : (Jvm.Cond.code ({ cls := "LichenTableModel", name := "span", desc := "(III)I" } : Jvm.MethodName) prog_23_method_59_code (4 : Nat) (Option.some Jvm.ClassFile.FieldType.int)) ∈ lw_all := lw_g (lw_at lw_m7 224 rfl) rfl
theorem q1742 : (Jvm.Cond.methodLink "LichenTableModel" (421 : Nat) ({ cls := "LichenTableModel", name := "isThere", desc := "(II)Z" } : Jvm.MethodName)) ∈ lw_all := lw_g (lw_at lw_m7 225 rfl) rfl
theorem q1743 : (Jvm.Cond.privateMethod ({ cls := "LichenTableModel", name := "isThere", desc := "(II)Z" } : Jvm.MethodName)) ∈ lw_tbl := lw_at lw_m7 226 rfl
theorem q1744 : (Jvm.Cond.instanceMethod ({ cls := "LichenTableModel", name := "isThere", desc := "(II)Z" } : Jvm.MethodName)) ∈ lw_all := lw_g (lw_at lw_m7 227 rfl) rfl
theorem q1745 : (Jvm.Cond.code ({ cls := "LichenTableModel", name := "isThere", desc := "(II)Z" } : Jvm.MethodName) prog_23_method_56_code (3 : Nat) (Option.some Jvm.ClassFile.FieldType.boolean)) ∈ lw_all := lw_g (lw_at lw_m7 228 rfl) rfl
theorem q1746 : (Jvm.Cond.methodLink "LichenTableModel" (424 : Nat) ({ cls := "LichenTableModel", name := "spans", desc := "(II)V" } : Jvm.MethodName)) ∈ lw_all := lw_g (lw_at lw_m7 229 rfl) rfl
theorem q1747 : (Jvm.Cond.privateMethod ({ cls := "LichenTableModel", name := "spans", desc := "(II)V" } : Jvm.MethodName)) ∈ lw_tbl := lw_at lw_m7 230 rfl
theorem q1748 : (Jvm.Cond.instanceMethod ({ cls := "LichenTableModel", name := "spans", desc := "(II)V" } : Jvm.MethodName)) ∈ lw_all := lw_g (lw_at lw_m7 231 rfl) rfl
theorem q1749 : (Jvm.Cond.code ({ cls := "LichenTableModel", name := "spans", desc := "(II)V" } : Jvm.MethodName) prog_23_method_58_code (3 : Nat) (Option.none : Option Jvm.ClassFile.FieldType)) ∈ lw_all := lw_g (lw_at lw_m7 232 rfl) rfl
theorem q1750 : (Jvm.Cond.methodLink "LichenTableModel" (417 : Nat) ({ cls := "LichenTableModel", name := "lays", desc := "(II)V" } : Jvm.MethodName)) ∈ lw_all := lw_g (lw_at lw_m7 233 rfl) rfl
theorem q1751 : (Jvm.Cond.privateMethod ({ cls := "LichenTableModel", name := "lays", desc := "(II)V" } : Jvm.MethodName)) ∈ lw_tbl := lw_at lw_m7 234 rfl
theorem q1752 : (Jvm.Cond.instanceMethod ({ cls := "LichenTableModel", name := "lays", desc := "(II)V" } : Jvm.MethodName)) ∈ lw_all := lw_g (lw_at lw_m7 235 rfl) rfl
theorem q1753 : (Jvm.Cond.code ({ cls := "LichenTableModel", name := "lays", desc := "(II)V" } : Jvm.MethodName) prog_23_method_57_code (7 : Nat) (Option.none : Option Jvm.ClassFile.FieldType)) ∈ lw_all := lw_g (lw_at lw_m7 236 rfl) rfl
theorem q1754 : (Jvm.Cond.methodLink "LichenTableModel" (411 : Nat) ({ cls := "LichenTableModel", name := "ageFrom", desc := "(I)I" } : Jvm.MethodName)) ∈ lw_all := lw_g (lw_at lw_m7 237 rfl) rfl
theorem q1755 : (Jvm.Cond.privateMethod ({ cls := "LichenTableModel", name := "ageFrom", desc := "(I)I" } : Jvm.MethodName)) ∈ lw_tbl := lw_at lw_m7 238 rfl
theorem q1756 : (Jvm.Cond.instanceMethod ({ cls := "LichenTableModel", name := "ageFrom", desc := "(I)I" } : Jvm.MethodName)) ∈ lw_all := lw_g (lw_at lw_m7 239 rfl) rfl
theorem q1757 : (Jvm.Cond.code ({ cls := "LichenTableModel", name := "ageFrom", desc := "(I)I" } : Jvm.MethodName) prog_23_method_54_code (3 : Nat) (Option.some Jvm.ClassFile.FieldType.int)) ∈ lw_all := lw_g (lw_at lw_m8 0 rfl) rfl
theorem q1758 : (Jvm.Cond.methodLink "LichenTableModel" (414 : Nat) ({ cls := "LichenTableModel", name := "ageTo", desc := "(I)I" } : Jvm.MethodName)) ∈ lw_all := lw_g (lw_at lw_m8 1 rfl) rfl
theorem q1759 : (Jvm.Cond.privateMethod ({ cls := "LichenTableModel", name := "ageTo", desc := "(I)I" } : Jvm.MethodName)) ∈ lw_tbl := lw_at lw_m8 2 rfl
theorem q1760 : (Jvm.Cond.instanceMethod ({ cls := "LichenTableModel", name := "ageTo", desc := "(I)I" } : Jvm.MethodName)) ∈ lw_all := lw_g (lw_at lw_m8 3 rfl) rfl
theorem q1761 : (Jvm.Cond.code ({ cls := "LichenTableModel", name := "ageTo", desc := "(I)I" } : Jvm.MethodName) prog_23_method_55_code (3 : Nat) (Option.some Jvm.ClassFile.FieldType.int)) ∈ lw_all := lw_g (lw_at lw_m8 4 rfl) rfl
theorem q1763 : (Jvm.Cond.instanceMethod ({ cls := "LichenTableModel", name := "bound", desc := "(III)I" } : Jvm.MethodName)) ∈ lw_all := lw_g (lw_at lw_m8 6 rfl) rfl
theorem q1764 : (Jvm.Cond.selects "LichenTableModel" ({ cls := "LichenTableModel", name := "bound", desc := "(III)I" } : Jvm.MethodName) ({ cls := "LichenTableModel", name := "bound", desc := "(III)I" } : Jvm.MethodName)) ∈ lw_all := lw_g (lw_at lw_m8 7 rfl) rfl
theorem q1765 : (Jvm.Cond.code ({ cls := "LichenTableModel", name := "bound", desc := "(III)I" } : Jvm.MethodName) prog_23_method_64_code (4 : Nat) (Option.some Jvm.ClassFile.FieldType.int)) ∈ lw_all := lw_g (lw_at lw_m8 8 rfl) rfl
theorem q1766 : (Jvm.Cond.methodLink "LichenTableModel" (436 : Nat) ({ cls := "LichenTableModel", name := "isBound", desc := "(I)Z" } : Jvm.MethodName)) ∈ lw_all := lw_g (lw_at lw_m8 9 rfl) rfl
theorem q1767 : (Jvm.Cond.privateMethod ({ cls := "LichenTableModel", name := "isBound", desc := "(I)Z" } : Jvm.MethodName)) ∈ lw_tbl := lw_at lw_m8 10 rfl
theorem q1768 : (Jvm.Cond.instanceMethod ({ cls := "LichenTableModel", name := "isBound", desc := "(I)Z" } : Jvm.MethodName)) ∈ lw_all := lw_g (lw_at lw_m8 11 rfl) rfl
theorem q1769 : (Jvm.Cond.code ({ cls := "LichenTableModel", name := "isBound", desc := "(I)Z" } : Jvm.MethodName) prog_23_method_63_code (2 : Nat) (Option.some Jvm.ClassFile.FieldType.boolean)) ∈ lw_all := lw_g (lw_at lw_m8 12 rfl) rfl
theorem q1770 : (Jvm.Cond.methodLink "LichenTableModel" (430 : Nat) ({ cls := "LichenTableModel", name := "allSpans", desc := "(I)Z" } : Jvm.MethodName)) ∈ lw_all := lw_g (lw_at lw_m8 13 rfl) rfl
theorem q1771 : (Jvm.Cond.privateMethod ({ cls := "LichenTableModel", name := "allSpans", desc := "(I)Z" } : Jvm.MethodName)) ∈ lw_tbl := lw_at lw_m8 14 rfl
theorem q1772 : (Jvm.Cond.instanceMethod ({ cls := "LichenTableModel", name := "allSpans", desc := "(I)Z" } : Jvm.MethodName)) ∈ lw_all := lw_g (lw_at lw_m8 15 rfl) rfl
theorem q1773 : (Jvm.Cond.code ({ cls := "LichenTableModel", name := "allSpans", desc := "(I)Z" } : Jvm.MethodName) prog_23_method_60_code (4 : Nat) (Option.some Jvm.ClassFile.FieldType.boolean)) ∈ lw_all := lw_g (lw_at lw_m8 16 rfl) rfl
theorem q1774 : (Jvm.Cond.methodLink "LichenTableModel" (433 : Nat) ({ cls := "LichenTableModel", name := "binds", desc := "(III)Z" } : Jvm.MethodName)) ∈ lw_all := lw_g (lw_at lw_m8 17 rfl) rfl
theorem q1775 : (Jvm.Cond.privateMethod ({ cls := "LichenTableModel", name := "binds", desc := "(III)Z" } : Jvm.MethodName)) ∈ lw_tbl := lw_at lw_m8 18 rfl
theorem q1776 : (Jvm.Cond.instanceMethod ({ cls := "LichenTableModel", name := "binds", desc := "(III)Z" } : Jvm.MethodName)) ∈ lw_all := lw_g (lw_at lw_m8 19 rfl) rfl
theorem q1777 : (Jvm.Cond.code ({ cls := "LichenTableModel", name := "binds", desc := "(III)Z" } : Jvm.MethodName) prog_23_method_62_code (6 : Nat) (Option.some Jvm.ClassFile.FieldType.boolean)) ∈ lw_all := lw_g (lw_at lw_m8 20 rfl) rfl
theorem q1778 : (Jvm.Cond.methodLink "LichenTableModel" (427 : Nat) ({ cls := "LichenTableModel", name := "cuts", desc := "(III)Z" } : Jvm.MethodName)) ∈ lw_all := lw_g (lw_at lw_m8 21 rfl) rfl
theorem q1779 : (Jvm.Cond.privateMethod ({ cls := "LichenTableModel", name := "cuts", desc := "(III)Z" } : Jvm.MethodName)) ∈ lw_tbl := lw_at lw_m8 22 rfl
theorem q1780 : (Jvm.Cond.instanceMethod ({ cls := "LichenTableModel", name := "cuts", desc := "(III)Z" } : Jvm.MethodName)) ∈ lw_all := lw_g (lw_at lw_m8 23 rfl) rfl
theorem q1781 : (Jvm.Cond.code ({ cls := "LichenTableModel", name := "cuts", desc := "(III)Z" } : Jvm.MethodName) prog_23_method_61_code (5 : Nat) (Option.some Jvm.ClassFile.FieldType.boolean)) ∈ lw_all := lw_g (lw_at lw_m8 24 rfl) rfl
theorem q1783 : (Jvm.Cond.instanceMethod ({ cls := "LichenTableModel", name := "same", desc := "(III)I" } : Jvm.MethodName)) ∈ lw_all := lw_g (lw_at lw_m8 26 rfl) rfl
theorem q1784 : (Jvm.Cond.selects "LichenTableModel" ({ cls := "LichenTableModel", name := "same", desc := "(III)I" } : Jvm.MethodName) ({ cls := "LichenTableModel", name := "same", desc := "(III)I" } : Jvm.MethodName)) ∈ lw_all := lw_g (lw_at lw_m8 27 rfl) rfl
theorem q1785 : (Jvm.Cond.code ({ cls := "LichenTableModel", name := "same", desc := "(III)I" } : Jvm.MethodName) prog_23_method_65_code (4 : Nat) (Option.some Jvm.ClassFile.FieldType.int)) ∈ lw_all := lw_g (lw_at lw_m8 28 rfl) rfl
theorem q1787 : (Jvm.Cond.instanceMethod ({ cls := "LichenTableModel", name := "claim", desc := "(III)I" } : Jvm.MethodName)) ∈ lw_all := lw_g (lw_at lw_m8 30 rfl) rfl
theorem q1788 : (Jvm.Cond.selects "LichenTableModel" ({ cls := "LichenTableModel", name := "claim", desc := "(III)I" } : Jvm.MethodName) ({ cls := "LichenTableModel", name := "claim", desc := "(III)I" } : Jvm.MethodName)) ∈ lw_all := lw_g (lw_at lw_m8 31 rfl) rfl
theorem q1789 : (Jvm.Cond.code ({ cls := "LichenTableModel", name := "claim", desc := "(III)I" } : Jvm.MethodName) prog_23_method_66_code (4 : Nat) (Option.some Jvm.ClassFile.FieldType.int)) ∈ lw_all := lw_g (lw_at lw_m8 32 rfl) rfl
theorem q1791 : (Jvm.Cond.instanceMethod ({ cls := "LichenTableModel", name := "front", desc := "(III)I" } : Jvm.MethodName)) ∈ lw_all := lw_g (lw_at lw_m8 34 rfl) rfl
theorem q1792 : (Jvm.Cond.selects "LichenTableModel" ({ cls := "LichenTableModel", name := "front", desc := "(III)I" } : Jvm.MethodName) ({ cls := "LichenTableModel", name := "front", desc := "(III)I" } : Jvm.MethodName)) ∈ lw_all := lw_g (lw_at lw_m8 35 rfl) rfl
theorem q1793 : (Jvm.Cond.code ({ cls := "LichenTableModel", name := "front", desc := "(III)I" } : Jvm.MethodName) prog_23_method_67_code (6 : Nat) (Option.some Jvm.ClassFile.FieldType.int)) ∈ lw_all := lw_g (lw_at lw_m8 36 rfl) rfl
theorem q1795 : (Jvm.Cond.instanceMethod ({ cls := "LichenTableModel", name := "out", desc := "(II)I" } : Jvm.MethodName)) ∈ lw_all := lw_g (lw_at lw_m8 38 rfl) rfl
theorem q1796 : (Jvm.Cond.selects "LichenTableModel" ({ cls := "LichenTableModel", name := "out", desc := "(II)I" } : Jvm.MethodName) ({ cls := "LichenTableModel", name := "out", desc := "(II)I" } : Jvm.MethodName)) ∈ lw_all := lw_g (lw_at lw_m8 39 rfl) rfl
theorem q1797 : (Jvm.Cond.code ({ cls := "LichenTableModel", name := "out", desc := "(II)I" } : Jvm.MethodName) prog_23_method_68_code (3 : Nat) (Option.some Jvm.ClassFile.FieldType.int)) ∈ lw_all := lw_g (lw_at lw_m8 40 rfl) rfl
theorem q1799 : (Jvm.Cond.instanceMethod ({ cls := "LichenTableModel", name := "gaps", desc := "(IIIII)I" } : Jvm.MethodName)) ∈ lw_all := lw_g (lw_at lw_m8 42 rfl) rfl
theorem q1800 : (Jvm.Cond.selects "LichenTableModel" ({ cls := "LichenTableModel", name := "gaps", desc := "(IIIII)I" } : Jvm.MethodName) ({ cls := "LichenTableModel", name := "gaps", desc := "(IIIII)I" } : Jvm.MethodName)) ∈ lw_all := lw_g (lw_at lw_m8 43 rfl) rfl
theorem q1801 : (Jvm.Cond.code ({ cls := "LichenTableModel", name := "gaps", desc := "(IIIII)I" } : Jvm.MethodName) prog_23_method_71_code (9 : Nat) (Option.some Jvm.ClassFile.FieldType.int)) ∈ lw_all := lw_g (lw_at lw_m8 44 rfl) rfl
theorem q1802 : (Jvm.Cond.methodLink "LichenTableModel" (439 : Nat) ({ cls := "LichenTableModel", name := "isGap", desc := "(IIIII)Z" } : Jvm.MethodName)) ∈ lw_all := lw_g (lw_at lw_m8 45 rfl) rfl
theorem q1803 : (Jvm.Cond.privateMethod ({ cls := "LichenTableModel", name := "isGap", desc := "(IIIII)Z" } : Jvm.MethodName)) ∈ lw_tbl := lw_at lw_m8 46 rfl
theorem q1804 : (Jvm.Cond.instanceMethod ({ cls := "LichenTableModel", name := "isGap", desc := "(IIIII)Z" } : Jvm.MethodName)) ∈ lw_all := lw_g (lw_at lw_m8 47 rfl) rfl
theorem q1805 : (Jvm.Cond.code ({ cls := "LichenTableModel", name := "isGap", desc := "(IIIII)Z" } : Jvm.MethodName) prog_23_method_70_code (6 : Nat) (Option.some Jvm.ClassFile.FieldType.boolean)) ∈ lw_all := lw_g (lw_at lw_m8 48 rfl) rfl
theorem q1806 : (Jvm.Cond.methodLink "LichenTableModel" (443 : Nat) ({ cls := "LichenTableModel", name := "sorts", desc := "(IIII)I" } : Jvm.MethodName)) ∈ lw_all := lw_g (lw_at lw_m8 49 rfl) rfl
theorem q1807 : (Jvm.Cond.privateMethod ({ cls := "LichenTableModel", name := "sorts", desc := "(IIII)I" } : Jvm.MethodName)) ∈ lw_tbl := lw_at lw_m8 50 rfl
theorem q1808 : (Jvm.Cond.instanceMethod ({ cls := "LichenTableModel", name := "sorts", desc := "(IIII)I" } : Jvm.MethodName)) ∈ lw_all := lw_g (lw_at lw_m8 51 rfl) rfl
theorem q1809 : (Jvm.Cond.code ({ cls := "LichenTableModel", name := "sorts", desc := "(IIII)I" } : Jvm.MethodName) prog_23_method_69_code (8 : Nat) (Option.some Jvm.ClassFile.FieldType.int)) ∈ lw_all := lw_g (lw_at lw_m8 52 rfl) rfl
theorem q1811 : (Jvm.Cond.instanceMethod ({ cls := "LichenTableModel", name := "gap", desc := "(IIIIIII)I" } : Jvm.MethodName)) ∈ lw_all := lw_g (lw_at lw_m8 54 rfl) rfl
theorem q1812 : (Jvm.Cond.selects "LichenTableModel" ({ cls := "LichenTableModel", name := "gap", desc := "(IIIIIII)I" } : Jvm.MethodName) ({ cls := "LichenTableModel", name := "gap", desc := "(IIIIIII)I" } : Jvm.MethodName)) ∈ lw_all := lw_g (lw_at lw_m8 55 rfl) rfl
theorem q1813 : (Jvm.Cond.code ({ cls := "LichenTableModel", name := "gap", desc := "(IIIIIII)I" } : Jvm.MethodName) prog_23_method_72_code (11 : Nat) (Option.some Jvm.ClassFile.FieldType.int)) ∈ lw_all := lw_g (lw_at lw_m8 56 rfl) rfl
theorem q1815 : (Jvm.Cond.instanceMethod ({ cls := "LichenTableModel", name := "grown", desc := "(II)I" } : Jvm.MethodName)) ∈ lw_all := lw_g (lw_at lw_m8 58 rfl) rfl
theorem q1816 : (Jvm.Cond.selects "LichenTableModel" ({ cls := "LichenTableModel", name := "grown", desc := "(II)I" } : Jvm.MethodName) ({ cls := "LichenTableModel", name := "grown", desc := "(II)I" } : Jvm.MethodName)) ∈ lw_all := lw_g (lw_at lw_m8 59 rfl) rfl
theorem q1817 : (Jvm.Cond.code ({ cls := "LichenTableModel", name := "grown", desc := "(II)I" } : Jvm.MethodName) prog_23_method_73_code (5 : Nat) (Option.some Jvm.ClassFile.FieldType.int)) ∈ lw_all := lw_g (lw_at lw_m8 60 rfl) rfl
theorem q1819 : (Jvm.Cond.instanceMethod ({ cls := "LichenTableModel", name := "count", desc := "(I)I" } : Jvm.MethodName)) ∈ lw_all := lw_g (lw_at lw_m8 62 rfl) rfl
theorem q1820 : (Jvm.Cond.selects "LichenTableModel" ({ cls := "LichenTableModel", name := "count", desc := "(I)I" } : Jvm.MethodName) ({ cls := "LichenTableModel", name := "count", desc := "(I)I" } : Jvm.MethodName)) ∈ lw_all := lw_g (lw_at lw_m8 63 rfl) rfl
theorem q1821 : (Jvm.Cond.code ({ cls := "LichenTableModel", name := "count", desc := "(I)I" } : Jvm.MethodName) prog_23_method_74_code (2 : Nat) (Option.some Jvm.ClassFile.FieldType.int)) ∈ lw_all := lw_g (lw_at lw_m8 64 rfl) rfl
theorem q1832 : (Jvm.Cond.castable "LichenTableModel" "java/lang/Object") ∈ lw_tbl := lw_at lw_m8 75 rfl
theorem in_X2 : ∀ w ∈ wsX20, w ∈ lw_all := lw_in wsX20 [1351, 1353, 1355, 1357, 1359, 1361, 1363, 1365, 1367, 1369, 1371, 1373, 1375, 1377, 1379, 1381, 1383, 1385, 1387, 1389, 1391, 1393, 1395, 1397, 1399, 1401, 1403, 1405, 1407, 1409, 1411, 1413, 1415, 1417, 1419, 1421, 1423, 1425, 1427, 1429, 1431, 1433, 1435, 1437, 1439, 1441, 1443, 1445, 1447, 1449, 1451, 1453, 1455, 1457, 1459, 1461, 1463, 1465, 1467, 1469, 1471, 1473, 1475, 1477, 1479, 1481, 1483, 1485, 1487, 1489, 1491, 1493, 1495, 1497, 1499, 1501, 1503, 1505, 1507, 1509] (by decide +kernel) (by decide +kernel)

/-! LichenTable$Told -/
def RX3 : String := "LichenTable$Told"
abbrev cX3_init : ByteArray := prog_16_method_1_code
def yX3_init : MethodName := ⟨RX3, "<init>", "(I)V"⟩
abbrev cX3_isBy : ByteArray := prog_16_method_2_code
def yX3_isBy : MethodName := ⟨RX3, "isBy", "(I)Z"⟩
theorem q83 : (Jvm.Cond.initialized "LichenTable$Told") ∈ lw_all := lw_g (lw_at lw_m1 6 rfl) rfl
theorem q255 : (Jvm.Cond.instanceMethod ({ cls := "LichenTable$Told", name := "<init>", desc := "(I)V" } : Jvm.MethodName)) ∈ lw_all := lw_g (lw_at lw_m1 178 rfl) rfl
theorem q256 : (Jvm.Cond.code ({ cls := "LichenTable$Told", name := "<init>", desc := "(I)V" } : Jvm.MethodName) prog_16_method_1_code (2 : Nat) (Option.none : Option Jvm.ClassFile.FieldType)) ∈ lw_all := lw_g (lw_at lw_m1 179 rfl) rfl
theorem q257 : (Jvm.Cond.methodLink "LichenTable$Told" (1 : Nat) ({ cls := "java/lang/Object", name := "<init>", desc := "()V" } : Jvm.MethodName)) ∈ lw_all := lw_g (lw_at lw_m1 180 rfl) rfl
theorem q270 : (Jvm.Cond.fieldLink "LichenTable$Told" (7 : Nat) "LichenTable$Told" "day" "I") ∈ lw_all := lw_g (lw_at lw_m1 193 rfl) rfl
theorem q282 : (Jvm.Cond.soleField "LichenTable$Told" "day") ∈ lw_all := lw_g (lw_at lw_m1 205 rfl) rfl
theorem q827 : (Jvm.Cond.declares ({ cls := "LichenTable$Told", name := "isBy", desc := "(I)Z" } : Jvm.MethodName)) ∈ lw_tbl := lw_at lw_m4 30 rfl
theorem q829 : (Jvm.Cond.instanceMethod ({ cls := "LichenTable$Told", name := "isBy", desc := "(I)Z" } : Jvm.MethodName)) ∈ lw_all := lw_g (lw_at lw_m4 32 rfl) rfl
theorem q830 : (Jvm.Cond.code ({ cls := "LichenTable$Told", name := "isBy", desc := "(I)Z" } : Jvm.MethodName) prog_16_method_2_code (2 : Nat) (Option.some Jvm.ClassFile.FieldType.boolean)) ∈ lw_all := lw_g (lw_at lw_m4 33 rfl) rfl

/-! LichenTable$Site -/
def RX4 : String := "LichenTable$Site"
def TX4 : u_T := fun k => match k with
  | 0 => ("LichenTable$Told", "day", "I", true)
  | 1 => ("LichenTable$Site", "number", "I", true)
  | 2 => ("LichenTable$Site", "side", "I", true)
  | 3 => ("LichenTable$Site", "belt", "I", true)
  | 4 => ("LichenTable$Site", "place", "I", true)
  | _ => ("LichenTable$Site", "year", "I", true)
def tyX4 : Nat → FieldType := fun k => match k with
  | 0 => .int
  | 1 => .int
  | 2 => .int
  | 3 => .int
  | 4 => .int
  | _ => .int
abbrev wsX40 : List Cond := u_ws RX4 TX4 6
theorem nmX4 : ∀ a, a < 6 → ∀ b, b < 6 → a ≠ b → (TX4 a).2.1 ≠ (TX4 b).2.1 := by decide +kernel
theorem tyX4_ok : ∀ k, k < 6 → parseFieldDescriptor (TX4 k).2.2.1 = some (tyX4 k) := by decide +kernel
abbrev cX4_init : ByteArray := prog_11_method_1_code
def yX4_init : MethodName := ⟨RX4, "<init>", "(IIIIII)V"⟩
abbrev cX4_isDated : ByteArray := prog_11_method_2_code
def yX4_isDated : MethodName := ⟨RX4, "isDated", "()Z"⟩
abbrev cX4_isLike : ByteArray := prog_11_method_3_code
def yX4_isLike : MethodName := ⟨RX4, "isLike", "(II)Z"⟩
theorem q84 : (Jvm.Cond.initialized "LichenTable$Site") ∈ lw_all := lw_g (lw_at lw_m1 7 rfl) rfl
theorem q250 : (Jvm.Cond.instantiable "LichenTable$Site" (6 : Nat)) ∈ lw_all := lw_g (lw_at lw_m1 173 rfl) rfl
theorem q252 : (Jvm.Cond.instanceMethod ({ cls := "LichenTable$Site", name := "<init>", desc := "(IIIIII)V" } : Jvm.MethodName)) ∈ lw_all := lw_g (lw_at lw_m1 175 rfl) rfl
theorem q253 : (Jvm.Cond.code ({ cls := "LichenTable$Site", name := "<init>", desc := "(IIIIII)V" } : Jvm.MethodName) prog_11_method_1_code (7 : Nat) (Option.none : Option Jvm.ClassFile.FieldType)) ∈ lw_all := lw_g (lw_at lw_m1 176 rfl) rfl
theorem q254 : (Jvm.Cond.methodLink "LichenTable$Site" (3 : Nat) ({ cls := "LichenTable$Told", name := "<init>", desc := "(I)V" } : Jvm.MethodName)) ∈ lw_all := lw_g (lw_at lw_m1 177 rfl) rfl
theorem q258 : (Jvm.Cond.fieldLink "LichenTable$Site" (9 : Nat) "LichenTable$Site" "number" "I") ∈ lw_all := lw_g (lw_at lw_m1 181 rfl) rfl
theorem q261 : (Jvm.Cond.fieldLink "LichenTable$Site" (15 : Nat) "LichenTable$Site" "side" "I") ∈ lw_all := lw_g (lw_at lw_m1 184 rfl) rfl
theorem q263 : (Jvm.Cond.fieldLink "LichenTable$Site" (18 : Nat) "LichenTable$Site" "belt" "I") ∈ lw_all := lw_g (lw_at lw_m1 186 rfl) rfl
theorem q265 : (Jvm.Cond.fieldLink "LichenTable$Site" (21 : Nat) "LichenTable$Site" "place" "I") ∈ lw_all := lw_g (lw_at lw_m1 188 rfl) rfl
theorem q267 : (Jvm.Cond.fieldLink "LichenTable$Site" (24 : Nat) "LichenTable$Site" "year" "I") ∈ lw_all := lw_g (lw_at lw_m1 190 rfl) rfl
theorem q271 : (Jvm.Cond.laysFinal "LichenTable$Site" "LichenTable$Site" "number" "I") ∈ lw_all := lw_g (lw_at lw_m1 194 rfl) rfl
theorem q272 : (Jvm.Cond.soleField "LichenTable$Site" "number") ∈ lw_all := lw_g (lw_at lw_m1 195 rfl) rfl
theorem q273 : (Jvm.Cond.laysFinal "LichenTable$Site" "LichenTable$Site" "side" "I") ∈ lw_all := lw_g (lw_at lw_m1 196 rfl) rfl
theorem q274 : (Jvm.Cond.soleField "LichenTable$Site" "side") ∈ lw_all := lw_g (lw_at lw_m1 197 rfl) rfl
theorem q275 : (Jvm.Cond.laysFinal "LichenTable$Site" "LichenTable$Site" "belt" "I") ∈ lw_all := lw_g (lw_at lw_m1 198 rfl) rfl
theorem q276 : (Jvm.Cond.soleField "LichenTable$Site" "belt") ∈ lw_all := lw_g (lw_at lw_m1 199 rfl) rfl
theorem q277 : (Jvm.Cond.laysFinal "LichenTable$Site" "LichenTable$Site" "place" "I") ∈ lw_all := lw_g (lw_at lw_m1 200 rfl) rfl
theorem q278 : (Jvm.Cond.soleField "LichenTable$Site" "place") ∈ lw_all := lw_g (lw_at lw_m1 201 rfl) rfl
theorem q279 : (Jvm.Cond.laysFinal "LichenTable$Site" "LichenTable$Site" "year" "I") ∈ lw_all := lw_g (lw_at lw_m1 202 rfl) rfl
theorem q280 : (Jvm.Cond.soleField "LichenTable$Site" "year") ∈ lw_all := lw_g (lw_at lw_m1 203 rfl) rfl
theorem q281 : (Jvm.Cond.laysFinal "LichenTable$Site" "LichenTable$Told" "day" "I") ∈ lw_all := lw_g (lw_at lw_m1 204 rfl) rfl
theorem q283 : (Jvm.Cond.superclass "LichenTable$Site" "LichenTable$Told") ∈ lw_all := lw_g (lw_at lw_m1 206 rfl) rfl
theorem q325 : (Jvm.Cond.selects "LichenTable$Site" ({ cls := "java/lang/Object", name := "getClass", desc := "()Ljava/lang/Class;" } : Jvm.MethodName) ({ cls := "java/lang/Object", name := "getClass", desc := "()Ljava/lang/Class;" } : Jvm.MethodName)) ∈ lw_all := lw_g (lw_at lw_m2 8 rfl) rfl
theorem q924 : (Jvm.Cond.instanceMethod ({ cls := "LichenTable$Site", name := "isDated", desc := "()Z" } : Jvm.MethodName)) ∈ lw_all := lw_g (lw_at lw_m4 127 rfl) rfl
theorem q925 : (Jvm.Cond.selects "LichenTable$Site" ({ cls := "LichenTable$Site", name := "isDated", desc := "()Z" } : Jvm.MethodName) ({ cls := "LichenTable$Site", name := "isDated", desc := "()Z" } : Jvm.MethodName)) ∈ lw_all := lw_g (lw_at lw_m4 128 rfl) rfl
theorem q926 : (Jvm.Cond.code ({ cls := "LichenTable$Site", name := "isDated", desc := "()Z" } : Jvm.MethodName) prog_11_method_2_code (1 : Nat) (Option.some Jvm.ClassFile.FieldType.boolean)) ∈ lw_all := lw_g (lw_at lw_m4 129 rfl) rfl
theorem q928 : (Jvm.Cond.sameMethod "LichenTable$Site" "LichenTable$Told" "isBy" "(I)Z") ∈ lw_all := lw_g (lw_at lw_m4 131 rfl) rfl
theorem q929 : (Jvm.Cond.selects "LichenTable$Site" ({ cls := "LichenTable$Site", name := "isBy", desc := "(I)Z" } : Jvm.MethodName) ({ cls := "LichenTable$Told", name := "isBy", desc := "(I)Z" } : Jvm.MethodName)) ∈ lw_all := lw_g (lw_at lw_m4 132 rfl) rfl
theorem q931 : (Jvm.Cond.instanceMethod ({ cls := "LichenTable$Site", name := "isLike", desc := "(II)Z" } : Jvm.MethodName)) ∈ lw_all := lw_g (lw_at lw_m4 134 rfl) rfl
theorem q932 : (Jvm.Cond.selects "LichenTable$Site" ({ cls := "LichenTable$Site", name := "isLike", desc := "(II)Z" } : Jvm.MethodName) ({ cls := "LichenTable$Site", name := "isLike", desc := "(II)Z" } : Jvm.MethodName)) ∈ lw_all := lw_g (lw_at lw_m4 135 rfl) rfl
theorem q933 : (Jvm.Cond.code ({ cls := "LichenTable$Site", name := "isLike", desc := "(II)Z" } : Jvm.MethodName) prog_11_method_3_code (3 : Nat) (Option.some Jvm.ClassFile.FieldType.boolean)) ∈ lw_all := lw_g (lw_at lw_m4 136 rfl) rfl
theorem q1833 : (Jvm.Cond.castable "LichenTable$Site" "java/lang/Object") ∈ lw_tbl := lw_at lw_m8 76 rfl
theorem in_X4 : ∀ w ∈ wsX40, w ∈ lw_all := lw_in wsX40 [281, 271, 273, 275, 277, 279] (by decide +kernel) (by decide +kernel)

/-! LichenTable$Circle -/
def RX5 : String := "LichenTable$Circle"
def TX5 : u_T := fun k => match k with
  | 0 => ("LichenTable$Told", "day", "I", true)
  | 1 => ("LichenTable$Circle", "kind", "I", true)
  | 2 => ("LichenTable$Circle", "measurer", "I", true)
  | 3 => ("LichenTable$Circle", "size", "I", true)
  | 4 => ("LichenTable$Circle", "breadth", "I", true)
  | 5 => ("LichenTable$Circle", "year", "I", true)
  | 6 => ("LichenTable$Circle", "site", "LLichenTable$Site;", true)
  | _ => ("LichenTable$Circle", "merged", "Z", true)
def tyX5 : Nat → FieldType := fun k => match k with
  | 0 => .int
  | 1 => .int
  | 2 => .int
  | 3 => .int
  | 4 => .int
  | 5 => .int
  | 6 => .object "LichenTable$Site"
  | _ => .boolean
abbrev wsX50 : List Cond := u_ws RX5 TX5 8
theorem nmX5 : ∀ a, a < 8 → ∀ b, b < 8 → a ≠ b → (TX5 a).2.1 ≠ (TX5 b).2.1 := by decide +kernel
theorem tyX5_ok : ∀ k, k < 8 → parseFieldDescriptor (TX5 k).2.2.1 = some (tyX5 k) := by decide +kernel
abbrev cX5_init : ByteArray := prog_4_method_1_code
def yX5_init : MethodName := ⟨RX5, "<init>", "(ILLichenTable$Site;IIIIIZ)V"⟩
abbrev cX5_round : ByteArray := prog_4_method_2_code
def yX5_round : MethodName := ⟨RX5, "round", "()I"⟩
theorem q89 : (Jvm.Cond.initialized "LichenTable$Circle") ∈ lw_all := lw_g (lw_at lw_m1 12 rfl) rfl
theorem q318 : (Jvm.Cond.selects "LichenTable$Circle" ({ cls := "java/lang/Object", name := "getClass", desc := "()Ljava/lang/Class;" } : Jvm.MethodName) ({ cls := "java/lang/Object", name := "getClass", desc := "()Ljava/lang/Class;" } : Jvm.MethodName)) ∈ lw_all := lw_g (lw_at lw_m2 1 rfl) rfl
theorem q367 : (Jvm.Cond.instantiable "LichenTable$Circle" (8 : Nat)) ∈ lw_all := lw_g (lw_at lw_m2 50 rfl) rfl
theorem q383 : (Jvm.Cond.instanceMethod ({ cls := "LichenTable$Circle", name := "<init>", desc := "(ILLichenTable$Site;IIIIIZ)V" } : Jvm.MethodName)) ∈ lw_all := lw_g (lw_at lw_m2 66 rfl) rfl
theorem q384 : (Jvm.Cond.code ({ cls := "LichenTable$Circle", name := "<init>", desc := "(ILLichenTable$Site;IIIIIZ)V" } : Jvm.MethodName) prog_4_method_1_code (9 : Nat) (Option.none : Option Jvm.ClassFile.FieldType)) ∈ lw_all := lw_g (lw_at lw_m2 67 rfl) rfl
theorem q385 : (Jvm.Cond.methodLink "LichenTable$Circle" (1 : Nat) ({ cls := "LichenTable$Told", name := "<init>", desc := "(I)V" } : Jvm.MethodName)) ∈ lw_all := lw_g (lw_at lw_m2 68 rfl) rfl
theorem q386 : (Jvm.Cond.fieldLink "LichenTable$Circle" (13 : Nat) "LichenTable$Circle" "kind" "I") ∈ lw_all := lw_g (lw_at lw_m2 69 rfl) rfl
theorem q388 : (Jvm.Cond.fieldLink "LichenTable$Circle" (17 : Nat) "LichenTable$Circle" "measurer" "I") ∈ lw_all := lw_g (lw_at lw_m2 71 rfl) rfl
theorem q390 : (Jvm.Cond.fieldLink "LichenTable$Circle" (20 : Nat) "LichenTable$Circle" "size" "I") ∈ lw_all := lw_g (lw_at lw_m2 73 rfl) rfl
theorem q392 : (Jvm.Cond.fieldLink "LichenTable$Circle" (23 : Nat) "LichenTable$Circle" "breadth" "I") ∈ lw_all := lw_g (lw_at lw_m2 75 rfl) rfl
theorem q394 : (Jvm.Cond.fieldLink "LichenTable$Circle" (26 : Nat) "LichenTable$Circle" "year" "I") ∈ lw_all := lw_g (lw_at lw_m2 77 rfl) rfl
theorem q396 : (Jvm.Cond.fieldLink "LichenTable$Circle" (7 : Nat) "LichenTable$Circle" "site" "LLichenTable$Site;") ∈ lw_all := lw_g (lw_at lw_m2 79 rfl) rfl
theorem q398 : (Jvm.Cond.fieldLink "LichenTable$Circle" (29 : Nat) "LichenTable$Circle" "merged" "Z") ∈ lw_all := lw_g (lw_at lw_m2 81 rfl) rfl
theorem q400 : (Jvm.Cond.laysFinal "LichenTable$Circle" "LichenTable$Circle" "kind" "I") ∈ lw_all := lw_g (lw_at lw_m2 83 rfl) rfl
theorem q401 : (Jvm.Cond.soleField "LichenTable$Circle" "kind") ∈ lw_all := lw_g (lw_at lw_m2 84 rfl) rfl
theorem q402 : (Jvm.Cond.laysFinal "LichenTable$Circle" "LichenTable$Circle" "measurer" "I") ∈ lw_all := lw_g (lw_at lw_m2 85 rfl) rfl
theorem q403 : (Jvm.Cond.soleField "LichenTable$Circle" "measurer") ∈ lw_all := lw_g (lw_at lw_m2 86 rfl) rfl
theorem q404 : (Jvm.Cond.laysFinal "LichenTable$Circle" "LichenTable$Circle" "size" "I") ∈ lw_all := lw_g (lw_at lw_m2 87 rfl) rfl
theorem q405 : (Jvm.Cond.soleField "LichenTable$Circle" "size") ∈ lw_all := lw_g (lw_at lw_m2 88 rfl) rfl
theorem q406 : (Jvm.Cond.laysFinal "LichenTable$Circle" "LichenTable$Circle" "breadth" "I") ∈ lw_all := lw_g (lw_at lw_m2 89 rfl) rfl
theorem q407 : (Jvm.Cond.soleField "LichenTable$Circle" "breadth") ∈ lw_all := lw_g (lw_at lw_m2 90 rfl) rfl
theorem q408 : (Jvm.Cond.laysFinal "LichenTable$Circle" "LichenTable$Circle" "year" "I") ∈ lw_all := lw_g (lw_at lw_m2 91 rfl) rfl
theorem q409 : (Jvm.Cond.soleField "LichenTable$Circle" "year") ∈ lw_all := lw_g (lw_at lw_m2 92 rfl) rfl
theorem q410 : (Jvm.Cond.laysFinal "LichenTable$Circle" "LichenTable$Circle" "site" "LLichenTable$Site;") ∈ lw_all := lw_g (lw_at lw_m2 93 rfl) rfl
theorem q411 : (Jvm.Cond.soleField "LichenTable$Circle" "site") ∈ lw_all := lw_g (lw_at lw_m2 94 rfl) rfl
theorem q412 : (Jvm.Cond.laysFinal "LichenTable$Circle" "LichenTable$Circle" "merged" "Z") ∈ lw_all := lw_g (lw_at lw_m2 95 rfl) rfl
theorem q413 : (Jvm.Cond.soleField "LichenTable$Circle" "merged") ∈ lw_all := lw_g (lw_at lw_m2 96 rfl) rfl
theorem q414 : (Jvm.Cond.laysFinal "LichenTable$Circle" "LichenTable$Told" "day" "I") ∈ lw_all := lw_g (lw_at lw_m2 97 rfl) rfl
theorem q415 : (Jvm.Cond.superclass "LichenTable$Circle" "LichenTable$Told") ∈ lw_all := lw_g (lw_at lw_m2 98 rfl) rfl
theorem q854 : (Jvm.Cond.instanceMethod ({ cls := "LichenTable$Circle", name := "round", desc := "()I" } : Jvm.MethodName)) ∈ lw_all := lw_g (lw_at lw_m4 57 rfl) rfl
theorem q855 : (Jvm.Cond.selects "LichenTable$Circle" ({ cls := "LichenTable$Circle", name := "round", desc := "()I" } : Jvm.MethodName) ({ cls := "LichenTable$Circle", name := "round", desc := "()I" } : Jvm.MethodName)) ∈ lw_all := lw_g (lw_at lw_m4 58 rfl) rfl
theorem q856 : (Jvm.Cond.code ({ cls := "LichenTable$Circle", name := "round", desc := "()I" } : Jvm.MethodName) prog_4_method_2_code (1 : Nat) (Option.some Jvm.ClassFile.FieldType.int)) ∈ lw_all := lw_g (lw_at lw_m4 59 rfl) rfl
theorem q867 : (Jvm.Cond.sameMethod "LichenTable$Circle" "LichenTable$Told" "isBy" "(I)Z") ∈ lw_all := lw_g (lw_at lw_m4 70 rfl) rfl
theorem q868 : (Jvm.Cond.selects "LichenTable$Circle" ({ cls := "LichenTable$Circle", name := "isBy", desc := "(I)Z" } : Jvm.MethodName) ({ cls := "LichenTable$Told", name := "isBy", desc := "(I)Z" } : Jvm.MethodName)) ∈ lw_all := lw_g (lw_at lw_m4 71 rfl) rfl
theorem q1834 : (Jvm.Cond.castable "LichenTable$Circle" "java/lang/Object") ∈ lw_tbl := lw_at lw_m8 77 rfl
theorem in_X5 : ∀ w ∈ wsX50, w ∈ lw_all := lw_in wsX50 [414, 400, 402, 404, 406, 408, 410, 412] (by decide +kernel) (by decide +kernel)

/-! LichenTable$Look -/
def RX6 : String := "LichenTable$Look"
def TX6 : u_T := fun k => match k with
  | 0 => ("LichenTable$Told", "day", "I", true)
  | 1 => ("LichenTable$Look", "site", "I", true)
  | 2 => ("LichenTable$Look", "kind", "I", true)
  | _ => ("LichenTable$Look", "n", "I", true)
def tyX6 : Nat → FieldType := fun k => match k with
  | 0 => .int
  | 1 => .int
  | 2 => .int
  | _ => .int
abbrev wsX60 : List Cond := u_ws RX6 TX6 4
theorem nmX6 : ∀ a, a < 4 → ∀ b, b < 4 → a ≠ b → (TX6 a).2.1 ≠ (TX6 b).2.1 := by decide +kernel
theorem tyX6_ok : ∀ k, k < 4 → parseFieldDescriptor (TX6 k).2.2.1 = some (tyX6 k) := by decide +kernel
abbrev cX6_init : ByteArray := prog_7_method_1_code
def yX6_init : MethodName := ⟨RX6, "<init>", "(IIII)V"⟩
theorem q92 : (Jvm.Cond.initialized "LichenTable$Look") ∈ lw_all := lw_g (lw_at lw_m1 15 rfl) rfl
theorem q321 : (Jvm.Cond.selects "LichenTable$Look" ({ cls := "java/lang/Object", name := "getClass", desc := "()Ljava/lang/Class;" } : Jvm.MethodName) ({ cls := "java/lang/Object", name := "getClass", desc := "()Ljava/lang/Class;" } : Jvm.MethodName)) ∈ lw_all := lw_g (lw_at lw_m2 4 rfl) rfl
theorem q421 : (Jvm.Cond.instantiable "LichenTable$Look" (4 : Nat)) ∈ lw_all := lw_g (lw_at lw_m2 104 rfl) rfl
theorem q423 : (Jvm.Cond.instanceMethod ({ cls := "LichenTable$Look", name := "<init>", desc := "(IIII)V" } : Jvm.MethodName)) ∈ lw_all := lw_g (lw_at lw_m2 106 rfl) rfl
theorem q424 : (Jvm.Cond.code ({ cls := "LichenTable$Look", name := "<init>", desc := "(IIII)V" } : Jvm.MethodName) prog_7_method_1_code (5 : Nat) (Option.none : Option Jvm.ClassFile.FieldType)) ∈ lw_all := lw_g (lw_at lw_m2 107 rfl) rfl
theorem q425 : (Jvm.Cond.methodLink "LichenTable$Look" (1 : Nat) ({ cls := "LichenTable$Told", name := "<init>", desc := "(I)V" } : Jvm.MethodName)) ∈ lw_all := lw_g (lw_at lw_m2 108 rfl) rfl
theorem q426 : (Jvm.Cond.fieldLink "LichenTable$Look" (7 : Nat) "LichenTable$Look" "site" "I") ∈ lw_all := lw_g (lw_at lw_m2 109 rfl) rfl
theorem q428 : (Jvm.Cond.fieldLink "LichenTable$Look" (13 : Nat) "LichenTable$Look" "kind" "I") ∈ lw_all := lw_g (lw_at lw_m2 111 rfl) rfl
theorem q430 : (Jvm.Cond.fieldLink "LichenTable$Look" (16 : Nat) "LichenTable$Look" "n" "I") ∈ lw_all := lw_g (lw_at lw_m2 113 rfl) rfl
theorem q432 : (Jvm.Cond.laysFinal "LichenTable$Look" "LichenTable$Look" "site" "I") ∈ lw_all := lw_g (lw_at lw_m2 115 rfl) rfl
theorem q433 : (Jvm.Cond.soleField "LichenTable$Look" "site") ∈ lw_all := lw_g (lw_at lw_m2 116 rfl) rfl
theorem q434 : (Jvm.Cond.laysFinal "LichenTable$Look" "LichenTable$Look" "kind" "I") ∈ lw_all := lw_g (lw_at lw_m2 117 rfl) rfl
theorem q435 : (Jvm.Cond.soleField "LichenTable$Look" "kind") ∈ lw_all := lw_g (lw_at lw_m2 118 rfl) rfl
theorem q436 : (Jvm.Cond.laysFinal "LichenTable$Look" "LichenTable$Look" "n" "I") ∈ lw_all := lw_g (lw_at lw_m2 119 rfl) rfl
theorem q437 : (Jvm.Cond.soleField "LichenTable$Look" "n") ∈ lw_all := lw_g (lw_at lw_m2 120 rfl) rfl
theorem q438 : (Jvm.Cond.laysFinal "LichenTable$Look" "LichenTable$Told" "day" "I") ∈ lw_all := lw_g (lw_at lw_m2 121 rfl) rfl
theorem q439 : (Jvm.Cond.superclass "LichenTable$Look" "LichenTable$Told") ∈ lw_all := lw_g (lw_at lw_m2 122 rfl) rfl
theorem q1013 : (Jvm.Cond.sameMethod "LichenTable$Look" "LichenTable$Told" "isBy" "(I)Z") ∈ lw_all := lw_g (lw_at lw_m4 216 rfl) rfl
theorem q1014 : (Jvm.Cond.selects "LichenTable$Look" ({ cls := "LichenTable$Look", name := "isBy", desc := "(I)Z" } : Jvm.MethodName) ({ cls := "LichenTable$Told", name := "isBy", desc := "(I)Z" } : Jvm.MethodName)) ∈ lw_all := lw_g (lw_at lw_m4 217 rfl) rfl
theorem q1835 : (Jvm.Cond.castable "LichenTable$Look" "java/lang/Object") ∈ lw_tbl := lw_at lw_m8 78 rfl
theorem in_X6 : ∀ w ∈ wsX60, w ∈ lw_all := lw_in wsX60 [438, 432, 434, 436] (by decide +kernel) (by decide +kernel)

/-! LichenTable$Twice -/
def RX7 : String := "LichenTable$Twice"
def TX7 : u_T := fun k => match k with
  | 0 => ("LichenTable$Told", "day", "I", true)
  | 1 => ("LichenTable$Twice", "a", "I", true)
  | 2 => ("LichenTable$Twice", "b", "I", true)
  | _ => ("LichenTable$Twice", "apart", "I", true)
def tyX7 : Nat → FieldType := fun k => match k with
  | 0 => .int
  | 1 => .int
  | 2 => .int
  | _ => .int
abbrev wsX70 : List Cond := u_ws RX7 TX7 4
theorem nmX7 : ∀ a, a < 4 → ∀ b, b < 4 → a ≠ b → (TX7 a).2.1 ≠ (TX7 b).2.1 := by decide +kernel
theorem tyX7_ok : ∀ k, k < 4 → parseFieldDescriptor (TX7 k).2.2.1 = some (tyX7 k) := by decide +kernel
abbrev cX7_init : ByteArray := prog_17_method_1_code
def yX7_init : MethodName := ⟨RX7, "<init>", "(IIII)V"⟩
theorem q93 : (Jvm.Cond.initialized "LichenTable$Twice") ∈ lw_all := lw_g (lw_at lw_m1 16 rfl) rfl
theorem q329 : (Jvm.Cond.selects "LichenTable$Twice" ({ cls := "java/lang/Object", name := "getClass", desc := "()Ljava/lang/Class;" } : Jvm.MethodName) ({ cls := "java/lang/Object", name := "getClass", desc := "()Ljava/lang/Class;" } : Jvm.MethodName)) ∈ lw_all := lw_g (lw_at lw_m2 12 rfl) rfl
theorem q445 : (Jvm.Cond.instantiable "LichenTable$Twice" (4 : Nat)) ∈ lw_all := lw_g (lw_at lw_m2 128 rfl) rfl
theorem q447 : (Jvm.Cond.instanceMethod ({ cls := "LichenTable$Twice", name := "<init>", desc := "(IIII)V" } : Jvm.MethodName)) ∈ lw_all := lw_g (lw_at lw_m2 130 rfl) rfl
theorem q448 : (Jvm.Cond.code ({ cls := "LichenTable$Twice", name := "<init>", desc := "(IIII)V" } : Jvm.MethodName) prog_17_method_1_code (5 : Nat) (Option.none : Option Jvm.ClassFile.FieldType)) ∈ lw_all := lw_g (lw_at lw_m2 131 rfl) rfl
theorem q449 : (Jvm.Cond.methodLink "LichenTable$Twice" (1 : Nat) ({ cls := "LichenTable$Told", name := "<init>", desc := "(I)V" } : Jvm.MethodName)) ∈ lw_all := lw_g (lw_at lw_m2 132 rfl) rfl
theorem q450 : (Jvm.Cond.fieldLink "LichenTable$Twice" (7 : Nat) "LichenTable$Twice" "a" "I") ∈ lw_all := lw_g (lw_at lw_m2 133 rfl) rfl
theorem q452 : (Jvm.Cond.fieldLink "LichenTable$Twice" (13 : Nat) "LichenTable$Twice" "b" "I") ∈ lw_all := lw_g (lw_at lw_m2 135 rfl) rfl
theorem q454 : (Jvm.Cond.fieldLink "LichenTable$Twice" (16 : Nat) "LichenTable$Twice" "apart" "I") ∈ lw_all := lw_g (lw_at lw_m2 137 rfl) rfl
theorem q456 : (Jvm.Cond.laysFinal "LichenTable$Twice" "LichenTable$Twice" "a" "I") ∈ lw_all := lw_g (lw_at lw_m2 139 rfl) rfl
theorem q457 : (Jvm.Cond.soleField "LichenTable$Twice" "a") ∈ lw_all := lw_g (lw_at lw_m2 140 rfl) rfl
theorem q458 : (Jvm.Cond.laysFinal "LichenTable$Twice" "LichenTable$Twice" "b" "I") ∈ lw_all := lw_g (lw_at lw_m2 141 rfl) rfl
theorem q459 : (Jvm.Cond.soleField "LichenTable$Twice" "b") ∈ lw_all := lw_g (lw_at lw_m2 142 rfl) rfl
theorem q460 : (Jvm.Cond.laysFinal "LichenTable$Twice" "LichenTable$Twice" "apart" "I") ∈ lw_all := lw_g (lw_at lw_m2 143 rfl) rfl
theorem q461 : (Jvm.Cond.soleField "LichenTable$Twice" "apart") ∈ lw_all := lw_g (lw_at lw_m2 144 rfl) rfl
theorem q462 : (Jvm.Cond.laysFinal "LichenTable$Twice" "LichenTable$Told" "day" "I") ∈ lw_all := lw_g (lw_at lw_m2 145 rfl) rfl
theorem q463 : (Jvm.Cond.superclass "LichenTable$Twice" "LichenTable$Told") ∈ lw_all := lw_g (lw_at lw_m2 146 rfl) rfl
theorem q826 : (Jvm.Cond.sameMethod "LichenTable$Twice" "LichenTable$Told" "isBy" "(I)Z") ∈ lw_all := lw_g (lw_at lw_m4 29 rfl) rfl
theorem q828 : (Jvm.Cond.selects "LichenTable$Twice" ({ cls := "LichenTable$Twice", name := "isBy", desc := "(I)Z" } : Jvm.MethodName) ({ cls := "LichenTable$Told", name := "isBy", desc := "(I)Z" } : Jvm.MethodName)) ∈ lw_all := lw_g (lw_at lw_m4 31 rfl) rfl
theorem q1836 : (Jvm.Cond.castable "LichenTable$Twice" "java/lang/Object") ∈ lw_tbl := lw_at lw_m8 79 rfl
theorem in_X7 : ∀ w ∈ wsX70, w ∈ lw_all := lw_in wsX70 [462, 456, 458, 460] (by decide +kernel) (by decide +kernel)

/-! LichenTable$Witness -/
def RX8 : String := "LichenTable$Witness"
def TX8 : u_T := fun k => match k with
  | 0 => ("LichenTable$Told", "day", "I", true)
  | 1 => ("LichenTable$Witness", "site", "I", true)
  | 2 => ("LichenTable$Witness", "from", "I", true)
  | _ => ("LichenTable$Witness", "to", "I", true)
def tyX8 : Nat → FieldType := fun k => match k with
  | 0 => .int
  | 1 => .int
  | 2 => .int
  | _ => .int
abbrev wsX80 : List Cond := u_ws RX8 TX8 4
theorem nmX8 : ∀ a, a < 4 → ∀ b, b < 4 → a ≠ b → (TX8 a).2.1 ≠ (TX8 b).2.1 := by decide +kernel
theorem tyX8_ok : ∀ k, k < 4 → parseFieldDescriptor (TX8 k).2.2.1 = some (tyX8 k) := by decide +kernel
abbrev cX8_init : ByteArray := prog_20_method_1_code
def yX8_init : MethodName := ⟨RX8, "<init>", "(IIII)V"⟩
theorem q94 : (Jvm.Cond.initialized "LichenTable$Witness") ∈ lw_all := lw_g (lw_at lw_m1 17 rfl) rfl
theorem q332 : (Jvm.Cond.selects "LichenTable$Witness" ({ cls := "java/lang/Object", name := "getClass", desc := "()Ljava/lang/Class;" } : Jvm.MethodName) ({ cls := "java/lang/Object", name := "getClass", desc := "()Ljava/lang/Class;" } : Jvm.MethodName)) ∈ lw_all := lw_g (lw_at lw_m2 15 rfl) rfl
theorem q469 : (Jvm.Cond.instantiable "LichenTable$Witness" (4 : Nat)) ∈ lw_all := lw_g (lw_at lw_m2 152 rfl) rfl
theorem q471 : (Jvm.Cond.instanceMethod ({ cls := "LichenTable$Witness", name := "<init>", desc := "(IIII)V" } : Jvm.MethodName)) ∈ lw_all := lw_g (lw_at lw_m2 154 rfl) rfl
theorem q472 : (Jvm.Cond.code ({ cls := "LichenTable$Witness", name := "<init>", desc := "(IIII)V" } : Jvm.MethodName) prog_20_method_1_code (5 : Nat) (Option.none : Option Jvm.ClassFile.FieldType)) ∈ lw_all := lw_g (lw_at lw_m2 155 rfl) rfl
theorem q473 : (Jvm.Cond.methodLink "LichenTable$Witness" (1 : Nat) ({ cls := "LichenTable$Told", name := "<init>", desc := "(I)V" } : Jvm.MethodName)) ∈ lw_all := lw_g (lw_at lw_m2 156 rfl) rfl
theorem q474 : (Jvm.Cond.fieldLink "LichenTable$Witness" (7 : Nat) "LichenTable$Witness" "site" "I") ∈ lw_all := lw_g (lw_at lw_m2 157 rfl) rfl
theorem q476 : (Jvm.Cond.fieldLink "LichenTable$Witness" (13 : Nat) "LichenTable$Witness" "from" "I") ∈ lw_all := lw_g (lw_at lw_m2 159 rfl) rfl
theorem q478 : (Jvm.Cond.fieldLink "LichenTable$Witness" (16 : Nat) "LichenTable$Witness" "to" "I") ∈ lw_all := lw_g (lw_at lw_m2 161 rfl) rfl
theorem q480 : (Jvm.Cond.laysFinal "LichenTable$Witness" "LichenTable$Witness" "site" "I") ∈ lw_all := lw_g (lw_at lw_m2 163 rfl) rfl
theorem q481 : (Jvm.Cond.soleField "LichenTable$Witness" "site") ∈ lw_all := lw_g (lw_at lw_m2 164 rfl) rfl
theorem q482 : (Jvm.Cond.laysFinal "LichenTable$Witness" "LichenTable$Witness" "from" "I") ∈ lw_all := lw_g (lw_at lw_m2 165 rfl) rfl
theorem q483 : (Jvm.Cond.soleField "LichenTable$Witness" "from") ∈ lw_all := lw_g (lw_at lw_m2 166 rfl) rfl
theorem q484 : (Jvm.Cond.laysFinal "LichenTable$Witness" "LichenTable$Witness" "to" "I") ∈ lw_all := lw_g (lw_at lw_m2 167 rfl) rfl
theorem q485 : (Jvm.Cond.soleField "LichenTable$Witness" "to") ∈ lw_all := lw_g (lw_at lw_m2 168 rfl) rfl
theorem q486 : (Jvm.Cond.laysFinal "LichenTable$Witness" "LichenTable$Told" "day" "I") ∈ lw_all := lw_g (lw_at lw_m2 169 rfl) rfl
theorem q487 : (Jvm.Cond.superclass "LichenTable$Witness" "LichenTable$Told") ∈ lw_all := lw_g (lw_at lw_m2 170 rfl) rfl
theorem q1120 : (Jvm.Cond.sameMethod "LichenTable$Witness" "LichenTable$Told" "isBy" "(I)Z") ∈ lw_all := lw_g (lw_at lw_m5 83 rfl) rfl
theorem q1121 : (Jvm.Cond.selects "LichenTable$Witness" ({ cls := "LichenTable$Witness", name := "isBy", desc := "(I)Z" } : Jvm.MethodName) ({ cls := "LichenTable$Told", name := "isBy", desc := "(I)Z" } : Jvm.MethodName)) ∈ lw_all := lw_g (lw_at lw_m5 84 rfl) rfl
theorem q1837 : (Jvm.Cond.castable "LichenTable$Witness" "java/lang/Object") ∈ lw_tbl := lw_at lw_m8 80 rfl
theorem in_X8 : ∀ w ∈ wsX80, w ∈ lw_all := lw_in wsX80 [486, 480, 482, 484] (by decide +kernel) (by decide +kernel)

/-! LichenTable$Order -/
def RX9 : String := "LichenTable$Order"
def TX9 : u_T := fun k => match k with
  | 0 => ("LichenTable$Told", "day", "I", true)
  | 1 => ("LichenTable$Order", "a", "I", true)
  | 2 => ("LichenTable$Order", "b", "I", true)
  | _ => ("LichenTable$Order", "n", "I", true)
def tyX9 : Nat → FieldType := fun k => match k with
  | 0 => .int
  | 1 => .int
  | 2 => .int
  | _ => .int
abbrev wsX90 : List Cond := u_ws RX9 TX9 4
theorem nmX9 : ∀ a, a < 4 → ∀ b, b < 4 → a ≠ b → (TX9 a).2.1 ≠ (TX9 b).2.1 := by decide +kernel
theorem tyX9_ok : ∀ k, k < 4 → parseFieldDescriptor (TX9 k).2.2.1 = some (tyX9 k) := by decide +kernel
abbrev cX9_init : ByteArray := prog_9_method_1_code
def yX9_init : MethodName := ⟨RX9, "<init>", "(IIII)V"⟩
theorem q95 : (Jvm.Cond.initialized "LichenTable$Order") ∈ lw_all := lw_g (lw_at lw_m1 18 rfl) rfl
theorem q323 : (Jvm.Cond.selects "LichenTable$Order" ({ cls := "java/lang/Object", name := "getClass", desc := "()Ljava/lang/Class;" } : Jvm.MethodName) ({ cls := "java/lang/Object", name := "getClass", desc := "()Ljava/lang/Class;" } : Jvm.MethodName)) ∈ lw_all := lw_g (lw_at lw_m2 6 rfl) rfl
theorem q493 : (Jvm.Cond.instantiable "LichenTable$Order" (4 : Nat)) ∈ lw_all := lw_g (lw_at lw_m2 176 rfl) rfl
theorem q495 : (Jvm.Cond.instanceMethod ({ cls := "LichenTable$Order", name := "<init>", desc := "(IIII)V" } : Jvm.MethodName)) ∈ lw_all := lw_g (lw_at lw_m2 178 rfl) rfl
theorem q496 : (Jvm.Cond.code ({ cls := "LichenTable$Order", name := "<init>", desc := "(IIII)V" } : Jvm.MethodName) prog_9_method_1_code (5 : Nat) (Option.none : Option Jvm.ClassFile.FieldType)) ∈ lw_all := lw_g (lw_at lw_m2 179 rfl) rfl
theorem q497 : (Jvm.Cond.methodLink "LichenTable$Order" (1 : Nat) ({ cls := "LichenTable$Told", name := "<init>", desc := "(I)V" } : Jvm.MethodName)) ∈ lw_all := lw_g (lw_at lw_m2 180 rfl) rfl
theorem q498 : (Jvm.Cond.fieldLink "LichenTable$Order" (7 : Nat) "LichenTable$Order" "a" "I") ∈ lw_all := lw_g (lw_at lw_m2 181 rfl) rfl
theorem q500 : (Jvm.Cond.fieldLink "LichenTable$Order" (13 : Nat) "LichenTable$Order" "b" "I") ∈ lw_all := lw_g (lw_at lw_m2 183 rfl) rfl
theorem q502 : (Jvm.Cond.fieldLink "LichenTable$Order" (16 : Nat) "LichenTable$Order" "n" "I") ∈ lw_all := lw_g (lw_at lw_m2 185 rfl) rfl
theorem q504 : (Jvm.Cond.laysFinal "LichenTable$Order" "LichenTable$Order" "a" "I") ∈ lw_all := lw_g (lw_at lw_m2 187 rfl) rfl
theorem q505 : (Jvm.Cond.soleField "LichenTable$Order" "a") ∈ lw_all := lw_g (lw_at lw_m2 188 rfl) rfl
theorem q506 : (Jvm.Cond.laysFinal "LichenTable$Order" "LichenTable$Order" "b" "I") ∈ lw_all := lw_g (lw_at lw_m2 189 rfl) rfl
theorem q507 : (Jvm.Cond.soleField "LichenTable$Order" "b") ∈ lw_all := lw_g (lw_at lw_m2 190 rfl) rfl
theorem q508 : (Jvm.Cond.laysFinal "LichenTable$Order" "LichenTable$Order" "n" "I") ∈ lw_all := lw_g (lw_at lw_m2 191 rfl) rfl
theorem q509 : (Jvm.Cond.soleField "LichenTable$Order" "n") ∈ lw_all := lw_g (lw_at lw_m2 192 rfl) rfl
theorem q510 : (Jvm.Cond.laysFinal "LichenTable$Order" "LichenTable$Told" "day" "I") ∈ lw_all := lw_g (lw_at lw_m2 193 rfl) rfl
theorem q511 : (Jvm.Cond.superclass "LichenTable$Order" "LichenTable$Told") ∈ lw_all := lw_g (lw_at lw_m2 194 rfl) rfl
theorem q1139 : (Jvm.Cond.sameMethod "LichenTable$Order" "LichenTable$Told" "isBy" "(I)Z") ∈ lw_all := lw_g (lw_at lw_m5 102 rfl) rfl
theorem q1140 : (Jvm.Cond.selects "LichenTable$Order" ({ cls := "LichenTable$Order", name := "isBy", desc := "(I)Z" } : Jvm.MethodName) ({ cls := "LichenTable$Told", name := "isBy", desc := "(I)Z" } : Jvm.MethodName)) ∈ lw_all := lw_g (lw_at lw_m5 103 rfl) rfl
theorem q1838 : (Jvm.Cond.castable "LichenTable$Order" "java/lang/Object") ∈ lw_tbl := lw_at lw_m8 81 rfl
theorem in_X9 : ∀ w ∈ wsX90, w ∈ lw_all := lw_in wsX90 [510, 504, 506, 508] (by decide +kernel) (by decide +kernel)

/-! LichenTable$Again -/
def RX10 : String := "LichenTable$Again"
def TX10 : u_T := fun k => match k with
  | 0 => ("LichenTable$Told", "day", "I", true)
  | 1 => ("LichenTable$Again", "a", "I", true)
  | _ => ("LichenTable$Again", "b", "I", true)
def tyX10 : Nat → FieldType := fun k => match k with
  | 0 => .int
  | 1 => .int
  | _ => .int
abbrev wsX100 : List Cond := u_ws RX10 TX10 3
theorem nmX10 : ∀ a, a < 3 → ∀ b, b < 3 → a ≠ b → (TX10 a).2.1 ≠ (TX10 b).2.1 := by decide +kernel
theorem tyX10_ok : ∀ k, k < 3 → parseFieldDescriptor (TX10 k).2.2.1 = some (tyX10 k) := by decide +kernel
abbrev cX10_init : ByteArray := prog_2_method_1_code
def yX10_init : MethodName := ⟨RX10, "<init>", "(III)V"⟩
theorem q96 : (Jvm.Cond.initialized "LichenTable$Again") ∈ lw_all := lw_g (lw_at lw_m1 19 rfl) rfl
theorem q317 : (Jvm.Cond.selects "LichenTable$Again" ({ cls := "java/lang/Object", name := "getClass", desc := "()Ljava/lang/Class;" } : Jvm.MethodName) ({ cls := "java/lang/Object", name := "getClass", desc := "()Ljava/lang/Class;" } : Jvm.MethodName)) ∈ lw_all := lw_g (lw_at lw_m2 0 rfl) rfl
theorem q517 : (Jvm.Cond.instantiable "LichenTable$Again" (3 : Nat)) ∈ lw_all := lw_g (lw_at lw_m2 200 rfl) rfl
theorem q519 : (Jvm.Cond.instanceMethod ({ cls := "LichenTable$Again", name := "<init>", desc := "(III)V" } : Jvm.MethodName)) ∈ lw_all := lw_g (lw_at lw_m2 202 rfl) rfl
theorem q520 : (Jvm.Cond.code ({ cls := "LichenTable$Again", name := "<init>", desc := "(III)V" } : Jvm.MethodName) prog_2_method_1_code (4 : Nat) (Option.none : Option Jvm.ClassFile.FieldType)) ∈ lw_all := lw_g (lw_at lw_m2 203 rfl) rfl
theorem q521 : (Jvm.Cond.methodLink "LichenTable$Again" (1 : Nat) ({ cls := "LichenTable$Told", name := "<init>", desc := "(I)V" } : Jvm.MethodName)) ∈ lw_all := lw_g (lw_at lw_m2 204 rfl) rfl
theorem q522 : (Jvm.Cond.fieldLink "LichenTable$Again" (7 : Nat) "LichenTable$Again" "a" "I") ∈ lw_all := lw_g (lw_at lw_m2 205 rfl) rfl
theorem q524 : (Jvm.Cond.fieldLink "LichenTable$Again" (13 : Nat) "LichenTable$Again" "b" "I") ∈ lw_all := lw_g (lw_at lw_m2 207 rfl) rfl
theorem q526 : (Jvm.Cond.laysFinal "LichenTable$Again" "LichenTable$Again" "a" "I") ∈ lw_all := lw_g (lw_at lw_m2 209 rfl) rfl
theorem q527 : (Jvm.Cond.soleField "LichenTable$Again" "a") ∈ lw_all := lw_g (lw_at lw_m2 210 rfl) rfl
theorem q528 : (Jvm.Cond.laysFinal "LichenTable$Again" "LichenTable$Again" "b" "I") ∈ lw_all := lw_g (lw_at lw_m2 211 rfl) rfl
theorem q529 : (Jvm.Cond.soleField "LichenTable$Again" "b") ∈ lw_all := lw_g (lw_at lw_m2 212 rfl) rfl
theorem q530 : (Jvm.Cond.laysFinal "LichenTable$Again" "LichenTable$Told" "day" "I") ∈ lw_all := lw_g (lw_at lw_m2 213 rfl) rfl
theorem q531 : (Jvm.Cond.superclass "LichenTable$Again" "LichenTable$Told") ∈ lw_all := lw_g (lw_at lw_m2 214 rfl) rfl
theorem q1216 : (Jvm.Cond.sameMethod "LichenTable$Again" "LichenTable$Told" "isBy" "(I)Z") ∈ lw_all := lw_g (lw_at lw_m5 179 rfl) rfl
theorem q1217 : (Jvm.Cond.selects "LichenTable$Again" ({ cls := "LichenTable$Again", name := "isBy", desc := "(I)Z" } : Jvm.MethodName) ({ cls := "LichenTable$Told", name := "isBy", desc := "(I)Z" } : Jvm.MethodName)) ∈ lw_all := lw_g (lw_at lw_m5 180 rfl) rfl
theorem q1839 : (Jvm.Cond.castable "LichenTable$Again" "java/lang/Object") ∈ lw_tbl := lw_at lw_m8 82 rfl
theorem in_X10 : ∀ w ∈ wsX100, w ∈ lw_all := lw_in wsX100 [530, 526, 528] (by decide +kernel) (by decide +kernel)

/-! LichenTable$Reader -/
def RX11 : String := "LichenTable$Reader"
def TX11 : u_T := fun k => match k with
  | 0 => ("LichenTable$Reader", "made", "Ljava/util/ArrayList;", true)
  | 1 => ("LichenTable$Reader", "at", "I", false)
  | 2 => ("LichenTable$Reader", "place", "I", false)
  | 3 => ("LichenTable$Reader", "sort", "I", false)
  | 4 => ("LichenTable$Reader", "number", "I", false)
  | _ => ("LichenTable$Reader", "this$0", "LLichenTable;", true)
def tyX11 : Nat → FieldType := fun k => match k with
  | 0 => .object "java/util/ArrayList"
  | 1 => .int
  | 2 => .int
  | 3 => .int
  | 4 => .int
  | _ => .object "LichenTable"
abbrev wsX110 : List Cond := u_ws RX11 TX11 6
theorem nmX11 : ∀ a, a < 6 → ∀ b, b < 6 → a ≠ b → (TX11 a).2.1 ≠ (TX11 b).2.1 := by decide +kernel
theorem tyX11_ok : ∀ k, k < 6 → parseFieldDescriptor (TX11 k).2.2.1 = some (tyX11 k) := by decide +kernel
abbrev cX11_init : ByteArray := prog_10_method_1_code
def yX11_init : MethodName := ⟨RX11, "<init>", "(LLichenTable;)V"⟩
abbrev cX11_read : ByteArray := prog_10_method_12_code
def yX11_read : MethodName := ⟨RX11, "read", "()V"⟩
abbrev cX11_next : ByteArray := prog_10_method_5_code
def yX11_next : MethodName := ⟨RX11, "next", "()V"⟩
abbrev cX11_see : ByteArray := prog_10_method_2_code
def yX11_see : MethodName := ⟨RX11, "see", "(I)I"⟩
abbrev cX11_isDigit : ByteArray := prog_10_method_3_code
def yX11_isDigit : MethodName := ⟨RX11, "isDigit", "(I)Z"⟩
abbrev cX11_isSmall : ByteArray := prog_10_method_4_code
def yX11_isSmall : MethodName := ⟨RX11, "isSmall", "(I)Z"⟩
abbrev cX11_statement : ByteArray := prog_10_method_11_code
def yX11_statement : MethodName := ⟨RX11, "statement", "()V"⟩
abbrev cX11_is : ByteArray := prog_10_method_7_code
def yX11_is : MethodName := ⟨RX11, "is", "(Ljava/lang/String;)Z"⟩
abbrev cX11_need : ByteArray := prog_10_method_6_code
def yX11_need : MethodName := ⟨RX11, "need", "(ZI)V"⟩
abbrev cX11_term : ByteArray := prog_10_method_10_code
def yX11_term : MethodName := ⟨RX11, "term", "(LLichenTable$Statement;)V"⟩
abbrev cX11_word : ByteArray := prog_10_method_9_code
def yX11_word : MethodName := ⟨RX11, "word", "()I"⟩
abbrev cX11_isSigned : ByteArray := prog_10_method_8_code
def yX11_isSigned : MethodName := ⟨RX11, "isSigned", "(I)Z"⟩
theorem q97 : (Jvm.Cond.initialized "LichenTable$Reader") ∈ lw_all := lw_g (lw_at lw_m1 20 rfl) rfl
theorem q173 : (Jvm.Cond.fieldLinkNest "LichenTable$Reader" (26 : Nat) "LichenTable" "tape" "[B" "LichenTable") ∈ lw_tbl := lw_at lw_m1 96 rfl
theorem q175 : (Jvm.Cond.fieldLinkNest "LichenTable$Reader" (22 : Nat) "LichenTable" "taped" "I" "LichenTable") ∈ lw_tbl := lw_at lw_m1 98 rfl
theorem q324 : (Jvm.Cond.selects "LichenTable$Reader" ({ cls := "java/lang/Object", name := "getClass", desc := "()Ljava/lang/Class;" } : Jvm.MethodName) ({ cls := "java/lang/Object", name := "getClass", desc := "()Ljava/lang/Class;" } : Jvm.MethodName)) ∈ lw_all := lw_g (lw_at lw_m2 7 rfl) rfl
theorem q563 : (Jvm.Cond.instantiable "LichenTable$Reader" (6 : Nat)) ∈ lw_all := lw_g (lw_at lw_m3 6 rfl) rfl
theorem q565 : (Jvm.Cond.instanceMethod ({ cls := "LichenTable$Reader", name := "<init>", desc := "(LLichenTable;)V" } : Jvm.MethodName)) ∈ lw_all := lw_g (lw_at lw_m3 8 rfl) rfl
theorem q566 : (Jvm.Cond.code ({ cls := "LichenTable$Reader", name := "<init>", desc := "(LLichenTable;)V" } : Jvm.MethodName) prog_10_method_1_code (2 : Nat) (Option.none : Option Jvm.ClassFile.FieldType)) ∈ lw_all := lw_g (lw_at lw_m3 9 rfl) rfl
theorem q567 : (Jvm.Cond.methodLink "LichenTable$Reader" (9 : Nat) ({ cls := "java/lang/Object", name := "<init>", desc := "()V" } : Jvm.MethodName)) ∈ lw_all := lw_g (lw_at lw_m3 10 rfl) rfl
theorem q568 : (Jvm.Cond.classLink "LichenTable$Reader" (15 : Nat) "java/util/ArrayList") ∈ lw_all := lw_g (lw_at lw_m3 11 rfl) rfl
theorem q569 : (Jvm.Cond.methodLink "LichenTable$Reader" (17 : Nat) ({ cls := "java/util/ArrayList", name := "<init>", desc := "()V" } : Jvm.MethodName)) ∈ lw_all := lw_g (lw_at lw_m3 12 rfl) rfl
theorem q570 : (Jvm.Cond.fieldLink "LichenTable$Reader" (18 : Nat) "LichenTable$Reader" "made" "Ljava/util/ArrayList;") ∈ lw_all := lw_g (lw_at lw_m3 13 rfl) rfl
theorem q572 : (Jvm.Cond.fieldLink "LichenTable$Reader" (30 : Nat) "LichenTable$Reader" "at" "I") ∈ lw_all := lw_g (lw_at lw_m3 15 rfl) rfl
theorem q573 : (Jvm.Cond.fieldLink "LichenTable$Reader" (37 : Nat) "LichenTable$Reader" "place" "I") ∈ lw_all := lw_g (lw_at lw_m3 16 rfl) rfl
theorem q575 : (Jvm.Cond.fieldLink "LichenTable$Reader" (40 : Nat) "LichenTable$Reader" "sort" "I") ∈ lw_all := lw_g (lw_at lw_m3 18 rfl) rfl
theorem q576 : (Jvm.Cond.fieldLink "LichenTable$Reader" (43 : Nat) "LichenTable$Reader" "number" "I") ∈ lw_all := lw_g (lw_at lw_m3 19 rfl) rfl
theorem q577 : (Jvm.Cond.fieldLink "LichenTable$Reader" (3 : Nat) "LichenTable$Reader" "this$0" "LLichenTable;") ∈ lw_all := lw_g (lw_at lw_m3 20 rfl) rfl
theorem q578 : (Jvm.Cond.laysFinal "LichenTable$Reader" "LichenTable$Reader" "made" "Ljava/util/ArrayList;") ∈ lw_all := lw_g (lw_at lw_m3 21 rfl) rfl
theorem q579 : (Jvm.Cond.soleField "LichenTable$Reader" "made") ∈ lw_all := lw_g (lw_at lw_m3 22 rfl) rfl
theorem q580 : (Jvm.Cond.lays "LichenTable$Reader" "LichenTable$Reader" "at" "I") ∈ lw_all := lw_g (lw_at lw_m3 23 rfl) rfl
theorem q581 : (Jvm.Cond.soleField "LichenTable$Reader" "at") ∈ lw_all := lw_g (lw_at lw_m3 24 rfl) rfl
theorem q582 : (Jvm.Cond.lays "LichenTable$Reader" "LichenTable$Reader" "place" "I") ∈ lw_all := lw_g (lw_at lw_m3 25 rfl) rfl
theorem q583 : (Jvm.Cond.soleField "LichenTable$Reader" "place") ∈ lw_all := lw_g (lw_at lw_m3 26 rfl) rfl
theorem q584 : (Jvm.Cond.lays "LichenTable$Reader" "LichenTable$Reader" "sort" "I") ∈ lw_all := lw_g (lw_at lw_m3 27 rfl) rfl
theorem q585 : (Jvm.Cond.soleField "LichenTable$Reader" "sort") ∈ lw_all := lw_g (lw_at lw_m3 28 rfl) rfl
theorem q586 : (Jvm.Cond.lays "LichenTable$Reader" "LichenTable$Reader" "number" "I") ∈ lw_all := lw_g (lw_at lw_m3 29 rfl) rfl
theorem q587 : (Jvm.Cond.soleField "LichenTable$Reader" "number") ∈ lw_all := lw_g (lw_at lw_m3 30 rfl) rfl
theorem q588 : (Jvm.Cond.laysFinal "LichenTable$Reader" "LichenTable$Reader" "this$0" "LLichenTable;") ∈ lw_all := lw_g (lw_at lw_m3 31 rfl) rfl
theorem q589 : (Jvm.Cond.soleField "LichenTable$Reader" "this$0") ∈ lw_all := lw_g (lw_at lw_m3 32 rfl) rfl
theorem q590 : (Jvm.Cond.superclass "LichenTable$Reader" "java/lang/Object") ∈ lw_all := lw_g (lw_at lw_m3 33 rfl) rfl
theorem q592 : (Jvm.Cond.instanceMethod ({ cls := "LichenTable$Reader", name := "read", desc := "()V" } : Jvm.MethodName)) ∈ lw_all := lw_g (lw_at lw_m3 35 rfl) rfl
theorem q593 : (Jvm.Cond.selects "LichenTable$Reader" ({ cls := "LichenTable$Reader", name := "read", desc := "()V" } : Jvm.MethodName) ({ cls := "LichenTable$Reader", name := "read", desc := "()V" } : Jvm.MethodName)) ∈ lw_all := lw_g (lw_at lw_m3 36 rfl) rfl
theorem q594 : (Jvm.Cond.code ({ cls := "LichenTable$Reader", name := "read", desc := "()V" } : Jvm.MethodName) prog_10_method_12_code (1 : Nat) (Option.none : Option Jvm.ClassFile.FieldType)) ∈ lw_all := lw_g (lw_at lw_m3 37 rfl) rfl
theorem q595 : (Jvm.Cond.methodLink "LichenTable$Reader" (109 : Nat) ({ cls := "LichenTable$Reader", name := "next", desc := "()V" } : Jvm.MethodName)) ∈ lw_all := lw_g (lw_at lw_m3 38 rfl) rfl
theorem q596 : (Jvm.Cond.privateMethod ({ cls := "LichenTable$Reader", name := "next", desc := "()V" } : Jvm.MethodName)) ∈ lw_tbl := lw_at lw_m3 39 rfl
theorem q597 : (Jvm.Cond.instanceMethod ({ cls := "LichenTable$Reader", name := "next", desc := "()V" } : Jvm.MethodName)) ∈ lw_all := lw_g (lw_at lw_m3 40 rfl) rfl
theorem q598 : (Jvm.Cond.code ({ cls := "LichenTable$Reader", name := "next", desc := "()V" } : Jvm.MethodName) prog_10_method_5_code (2 : Nat) (Option.none : Option Jvm.ClassFile.FieldType)) ∈ lw_all := lw_g (lw_at lw_m3 41 rfl) rfl
theorem q599 : (Jvm.Cond.methodLink "LichenTable$Reader" (33 : Nat) ({ cls := "LichenTable$Reader", name := "see", desc := "(I)I" } : Jvm.MethodName)) ∈ lw_all := lw_g (lw_at lw_m3 42 rfl) rfl
theorem q600 : (Jvm.Cond.privateMethod ({ cls := "LichenTable$Reader", name := "see", desc := "(I)I" } : Jvm.MethodName)) ∈ lw_tbl := lw_at lw_m3 43 rfl
theorem q601 : (Jvm.Cond.instanceMethod ({ cls := "LichenTable$Reader", name := "see", desc := "(I)I" } : Jvm.MethodName)) ∈ lw_all := lw_g (lw_at lw_m3 44 rfl) rfl
theorem q602 : (Jvm.Cond.code ({ cls := "LichenTable$Reader", name := "see", desc := "(I)I" } : Jvm.MethodName) prog_10_method_2_code (2 : Nat) (Option.some Jvm.ClassFile.FieldType.int)) ∈ lw_all := lw_g (lw_at lw_m3 45 rfl) rfl
theorem q603 : (Jvm.Cond.methodLink "LichenTable$Reader" (46 : Nat) ({ cls := "LichenTable$Reader", name := "isDigit", desc := "(I)Z" } : Jvm.MethodName)) ∈ lw_all := lw_g (lw_at lw_m3 46 rfl) rfl
theorem q604 : (Jvm.Cond.privateMethod ({ cls := "LichenTable$Reader", name := "isDigit", desc := "(I)Z" } : Jvm.MethodName)) ∈ lw_tbl := lw_at lw_m3 47 rfl
theorem q605 : (Jvm.Cond.instanceMethod ({ cls := "LichenTable$Reader", name := "isDigit", desc := "(I)Z" } : Jvm.MethodName)) ∈ lw_all := lw_g (lw_at lw_m3 48 rfl) rfl
theorem q606 : (Jvm.Cond.code ({ cls := "LichenTable$Reader", name := "isDigit", desc := "(I)Z" } : Jvm.MethodName) prog_10_method_3_code (2 : Nat) (Option.some Jvm.ClassFile.FieldType.boolean)) ∈ lw_all := lw_g (lw_at lw_m3 49 rfl) rfl
theorem q607 : (Jvm.Cond.methodLink "LichenTable$Reader" (50 : Nat) ({ cls := "LichenTable$Reader", name := "isSmall", desc := "(I)Z" } : Jvm.MethodName)) ∈ lw_all := lw_g (lw_at lw_m3 50 rfl) rfl
theorem q608 : (Jvm.Cond.privateMethod ({ cls := "LichenTable$Reader", name := "isSmall", desc := "(I)Z" } : Jvm.MethodName)) ∈ lw_tbl := lw_at lw_m3 51 rfl
theorem q609 : (Jvm.Cond.instanceMethod ({ cls := "LichenTable$Reader", name := "isSmall", desc := "(I)Z" } : Jvm.MethodName)) ∈ lw_all := lw_g (lw_at lw_m3 52 rfl) rfl
theorem q610 : (Jvm.Cond.code ({ cls := "LichenTable$Reader", name := "isSmall", desc := "(I)Z" } : Jvm.MethodName) prog_10_method_4_code (2 : Nat) (Option.some Jvm.ClassFile.FieldType.boolean)) ∈ lw_all := lw_g (lw_at lw_m3 53 rfl) rfl
theorem q611 : (Jvm.Cond.methodLink "LichenTable$Reader" (140 : Nat) ({ cls := "LichenTable$Reader", name := "statement", desc := "()V" } : Jvm.MethodName)) ∈ lw_all := lw_g (lw_at lw_m3 54 rfl) rfl
theorem q612 : (Jvm.Cond.privateMethod ({ cls := "LichenTable$Reader", name := "statement", desc := "()V" } : Jvm.MethodName)) ∈ lw_tbl := lw_at lw_m3 55 rfl
theorem q613 : (Jvm.Cond.instanceMethod ({ cls := "LichenTable$Reader", name := "statement", desc := "()V" } : Jvm.MethodName)) ∈ lw_all := lw_g (lw_at lw_m3 56 rfl) rfl
theorem q614 : (Jvm.Cond.code ({ cls := "LichenTable$Reader", name := "statement", desc := "()V" } : Jvm.MethodName) prog_10_method_11_code (2 : Nat) (Option.none : Option Jvm.ClassFile.FieldType)) ∈ lw_all := lw_g (lw_at lw_m3 57 rfl) rfl
theorem q615 : (Jvm.Cond.stringRef "LichenTable$Reader" (124 : Nat) "use") ∈ lw_tbl := lw_at lw_m3 58 rfl
theorem q616 : (Jvm.Cond.methodLink "LichenTable$Reader" (70 : Nat) ({ cls := "LichenTable$Reader", name := "is", desc := "(Ljava/lang/String;)Z" } : Jvm.MethodName)) ∈ lw_all := lw_g (lw_at lw_m3 59 rfl) rfl
theorem q617 : (Jvm.Cond.privateMethod ({ cls := "LichenTable$Reader", name := "is", desc := "(Ljava/lang/String;)Z" } : Jvm.MethodName)) ∈ lw_tbl := lw_at lw_m3 60 rfl
theorem q618 : (Jvm.Cond.instanceMethod ({ cls := "LichenTable$Reader", name := "is", desc := "(Ljava/lang/String;)Z" } : Jvm.MethodName)) ∈ lw_all := lw_g (lw_at lw_m3 61 rfl) rfl
theorem q619 : (Jvm.Cond.code ({ cls := "LichenTable$Reader", name := "is", desc := "(Ljava/lang/String;)Z" } : Jvm.MethodName) prog_10_method_7_code (4 : Nat) (Option.some Jvm.ClassFile.FieldType.boolean)) ∈ lw_all := lw_g (lw_at lw_m3 62 rfl) rfl
theorem q620 : (Jvm.Cond.methodLink "LichenTable$Reader" (58 : Nat) ({ cls := "java/lang/String", name := "length", desc := "()I" } : Jvm.MethodName)) ∈ lw_all := lw_g (lw_at lw_m3 63 rfl) rfl
theorem q630 : (Jvm.Cond.methodLink "LichenTable$Reader" (64 : Nat) ({ cls := "java/lang/String", name := "charAt", desc := "(I)C" } : Jvm.MethodName)) ∈ lw_all := lw_g (lw_at lw_m3 73 rfl) rfl
theorem q666 : (Jvm.Cond.stringRef "LichenTable$Reader" (126 : Nat) "skip") ∈ lw_tbl := lw_at lw_m3 109 rfl
theorem q667 : (Jvm.Cond.methodLink "LichenTable$Reader" (97 : Nat) ({ cls := "LichenTable$Reader", name := "need", desc := "(ZI)V" } : Jvm.MethodName)) ∈ lw_all := lw_g (lw_at lw_m3 110 rfl) rfl
theorem q668 : (Jvm.Cond.privateMethod ({ cls := "LichenTable$Reader", name := "need", desc := "(ZI)V" } : Jvm.MethodName)) ∈ lw_tbl := lw_at lw_m3 111 rfl
theorem q669 : (Jvm.Cond.instanceMethod ({ cls := "LichenTable$Reader", name := "need", desc := "(ZI)V" } : Jvm.MethodName)) ∈ lw_all := lw_g (lw_at lw_m3 112 rfl) rfl
theorem q670 : (Jvm.Cond.code ({ cls := "LichenTable$Reader", name := "need", desc := "(ZI)V" } : Jvm.MethodName) prog_10_method_6_code (3 : Nat) (Option.none : Option Jvm.ClassFile.FieldType)) ∈ lw_all := lw_g (lw_at lw_m3 113 rfl) rfl
theorem q671 : (Jvm.Cond.classLink "LichenTable$Reader" (53 : Nat) "LichenTable$Wrong") ∈ lw_all := lw_g (lw_at lw_m3 114 rfl) rfl
theorem q709 : (Jvm.Cond.methodLink "LichenTable$Reader" (55 : Nat) ({ cls := "LichenTable$Wrong", name := "<init>", desc := "(I)V" } : Jvm.MethodName)) ∈ lw_all := lw_g (lw_at lw_m3 152 rfl) rfl
theorem q735 : (Jvm.Cond.methodLink "LichenTable$Reader" (106 : Nat) ({ cls := "java/util/ArrayList", name := "size", desc := "()I" } : Jvm.MethodName)) ∈ lw_all := lw_g (lw_at lw_m3 178 rfl) rfl
theorem q736 : (Jvm.Cond.classLink "LichenTable$Reader" (128 : Nat) "LichenTable$Use") ∈ lw_all := lw_g (lw_at lw_m3 179 rfl) rfl
theorem q738 : (Jvm.Cond.methodLinkNest "LichenTable$Reader" (130 : Nat) ({ cls := "LichenTable$Use", name := "<init>", desc := "()V" } : Jvm.MethodName) "LichenTable") ∈ lw_tbl := lw_at lw_m3 181 rfl
theorem q748 : (Jvm.Cond.fieldLink "LichenTable$Reader" (101 : Nat) "LichenTable$Statement" "terms" "Ljava/util/ArrayList;") ∈ lw_all := lw_g (lw_at lw_m3 191 rfl) rfl
theorem q752 : (Jvm.Cond.classLink "LichenTable$Reader" (131 : Nat) "LichenTable$Skip") ∈ lw_all := lw_g (lw_at lw_m3 195 rfl) rfl
theorem q754 : (Jvm.Cond.methodLinkNest "LichenTable$Reader" (133 : Nat) ({ cls := "LichenTable$Skip", name := "<init>", desc := "()V" } : Jvm.MethodName) "LichenTable") ∈ lw_tbl := lw_at lw_m3 197 rfl
theorem q760 : (Jvm.Cond.methodLink "LichenTable$Reader" (134 : Nat) ({ cls := "LichenTable$Reader", name := "term", desc := "(LLichenTable$Statement;)V" } : Jvm.MethodName)) ∈ lw_all := lw_g (lw_at lw_m3 203 rfl) rfl
theorem q761 : (Jvm.Cond.privateMethod ({ cls := "LichenTable$Reader", name := "term", desc := "(LLichenTable$Statement;)V" } : Jvm.MethodName)) ∈ lw_tbl := lw_at lw_m3 204 rfl
theorem q762 : (Jvm.Cond.instanceMethod ({ cls := "LichenTable$Reader", name := "term", desc := "(LLichenTable$Statement;)V" } : Jvm.MethodName)) ∈ lw_all := lw_g (lw_at lw_m3 205 rfl) rfl
theorem q763 : (Jvm.Cond.code ({ cls := "LichenTable$Reader", name := "term", desc := "(LLichenTable$Statement;)V" } : Jvm.MethodName) prog_10_method_10_code (5 : Nat) (Option.none : Option Jvm.ClassFile.FieldType)) ∈ lw_all := lw_g (lw_at lw_m3 206 rfl) rfl
theorem q764 : (Jvm.Cond.stringRef "LichenTable$Reader" (92 : Nat) "not") ∈ lw_tbl := lw_at lw_m3 207 rfl
theorem q765 : (Jvm.Cond.methodLink "LichenTable$Reader" (94 : Nat) ({ cls := "LichenTable$Reader", name := "word", desc := "()I" } : Jvm.MethodName)) ∈ lw_all := lw_g (lw_at lw_m3 208 rfl) rfl
theorem q766 : (Jvm.Cond.privateMethod ({ cls := "LichenTable$Reader", name := "word", desc := "()I" } : Jvm.MethodName)) ∈ lw_tbl := lw_at lw_m3 209 rfl
theorem q767 : (Jvm.Cond.instanceMethod ({ cls := "LichenTable$Reader", name := "word", desc := "()I" } : Jvm.MethodName)) ∈ lw_all := lw_g (lw_at lw_m3 210 rfl) rfl
theorem q768 : (Jvm.Cond.code ({ cls := "LichenTable$Reader", name := "word", desc := "()I" } : Jvm.MethodName) prog_10_method_9_code (1 : Nat) (Option.some Jvm.ClassFile.FieldType.int)) ∈ lw_all := lw_g (lw_at lw_m3 211 rfl) rfl
theorem q769 : (Jvm.Cond.stringRef "LichenTable$Reader" (68 : Nat) "site") ∈ lw_tbl := lw_at lw_m3 212 rfl
theorem q770 : (Jvm.Cond.stringRef "LichenTable$Reader" (74 : Nat) "kind") ∈ lw_tbl := lw_at lw_m3 213 rfl
theorem q771 : (Jvm.Cond.stringRef "LichenTable$Reader" (76 : Nat) "measurer") ∈ lw_tbl := lw_at lw_m3 214 rfl
theorem q772 : (Jvm.Cond.stringRef "LichenTable$Reader" (78 : Nat) "long") ∈ lw_tbl := lw_at lw_m3 215 rfl
theorem q773 : (Jvm.Cond.stringRef "LichenTable$Reader" (80 : Nat) "short") ∈ lw_tbl := lw_at lw_m3 216 rfl
theorem q774 : (Jvm.Cond.stringRef "LichenTable$Reader" (82 : Nat) "year") ∈ lw_tbl := lw_at lw_m3 217 rfl
theorem q775 : (Jvm.Cond.stringRef "LichenTable$Reader" (84 : Nat) "merged") ∈ lw_tbl := lw_at lw_m3 218 rfl
theorem q776 : (Jvm.Cond.stringRef "LichenTable$Reader" (86 : Nat) "round") ∈ lw_tbl := lw_at lw_m3 219 rfl
theorem q777 : (Jvm.Cond.stringRef "LichenTable$Reader" (88 : Nat) "side") ∈ lw_tbl := lw_at lw_m3 220 rfl
theorem q778 : (Jvm.Cond.stringRef "LichenTable$Reader" (90 : Nat) "belt") ∈ lw_tbl := lw_at lw_m3 221 rfl
theorem q779 : (Jvm.Cond.methodLink "LichenTable$Reader" (112 : Nat) ({ cls := "LichenTable$Reader", name := "isSigned", desc := "(I)Z" } : Jvm.MethodName)) ∈ lw_all := lw_g (lw_at lw_m3 222 rfl) rfl
theorem q780 : (Jvm.Cond.privateMethod ({ cls := "LichenTable$Reader", name := "isSigned", desc := "(I)Z" } : Jvm.MethodName)) ∈ lw_tbl := lw_at lw_m3 223 rfl
theorem q781 : (Jvm.Cond.instanceMethod ({ cls := "LichenTable$Reader", name := "isSigned", desc := "(I)Z" } : Jvm.MethodName)) ∈ lw_all := lw_g (lw_at lw_m3 224 rfl) rfl
theorem q782 : (Jvm.Cond.code ({ cls := "LichenTable$Reader", name := "isSigned", desc := "(I)Z" } : Jvm.MethodName) prog_10_method_8_code (2 : Nat) (Option.some Jvm.ClassFile.FieldType.boolean)) ∈ lw_all := lw_g (lw_at lw_m3 225 rfl) rfl
theorem q783 : (Jvm.Cond.classLink "LichenTable$Reader" (115 : Nat) "LichenTable$Term") ∈ lw_all := lw_g (lw_at lw_m3 226 rfl) rfl
theorem q785 : (Jvm.Cond.methodLink "LichenTable$Reader" (117 : Nat) ({ cls := "LichenTable$Term", name := "<init>", desc := "(IIIZ)V" } : Jvm.MethodName)) ∈ lw_all := lw_g (lw_at lw_m3 228 rfl) rfl
theorem q802 : (Jvm.Cond.methodLink "LichenTable$Reader" (120 : Nat) ({ cls := "java/util/ArrayList", name := "add", desc := "(Ljava/lang/Object;)Z" } : Jvm.MethodName)) ∈ lw_all := lw_g (lw_at lw_m4 5 rfl) rfl
theorem q803 : (Jvm.Cond.stringRef "LichenTable$Reader" (138 : Nat) "and") ∈ lw_tbl := lw_at lw_m4 6 rfl
theorem q1840 : (Jvm.Cond.castable "LichenTable$Reader" "java/lang/Object") ∈ lw_tbl := lw_at lw_m8 83 rfl
theorem in_X11 : ∀ w ∈ wsX110, w ∈ lw_all := lw_in wsX110 [578, 580, 582, 584, 586, 588] (by decide +kernel) (by decide +kernel)

/-! LichenTable$Wrong -/
def RX12 : String := "LichenTable$Wrong"
def TX12 : u_T := fun k => match k with
  | 0 => ("java/lang/Throwable", "cause", "Ljava/lang/Throwable;", false)
  | 1 => ("java/lang/Throwable", "stackTrace", "[Ljava/lang/StackTraceElement;", false)
  | 2 => ("java/lang/Throwable", "suppressedExceptions", "Ljava/util/List;", false)
  | 3 => ("java/lang/Throwable", "detailMessage", "Ljava/lang/String;", false)
  | 4 => ("java/lang/Throwable", "backtrace", "Ljava/lang/Object;", false)
  | 5 => ("java/lang/Throwable", "depth", "I", false)
  | _ => ("LichenTable$Wrong", "kind", "I", true)
def tyX12 : Nat → FieldType := fun k => match k with
  | 0 => .object "java/lang/Throwable"
  | 1 => .array (.object "java/lang/StackTraceElement")
  | 2 => .object "java/util/List"
  | 3 => .object "java/lang/String"
  | 4 => .object "java/lang/Object"
  | 5 => .int
  | _ => .int
abbrev wsX120 : List Cond := u_ws RX12 TX12 7
theorem nmX12 : ∀ a, a < 7 → ∀ b, b < 7 → a ≠ b → (TX12 a).2.1 ≠ (TX12 b).2.1 := by decide +kernel
theorem tyX12_ok : ∀ k, k < 7 → parseFieldDescriptor (TX12 k).2.2.1 = some (tyX12 k) := by decide +kernel
abbrev cX12_init : ByteArray := prog_21_method_1_code
def yX12_init : MethodName := ⟨RX12, "<init>", "(I)V"⟩
theorem q103 : (Jvm.Cond.initialized "LichenTable$Wrong") ∈ lw_all := lw_g (lw_at lw_m1 26 rfl) rfl
theorem q333 : (Jvm.Cond.selects "LichenTable$Wrong" ({ cls := "java/lang/Object", name := "getClass", desc := "()Ljava/lang/Class;" } : Jvm.MethodName) ({ cls := "java/lang/Object", name := "getClass", desc := "()Ljava/lang/Class;" } : Jvm.MethodName)) ∈ lw_all := lw_g (lw_at lw_m2 16 rfl) rfl
theorem q672 : (Jvm.Cond.instantiable "LichenTable$Wrong" (7 : Nat)) ∈ lw_all := lw_g (lw_at lw_m3 115 rfl) rfl
theorem q673 : (Jvm.Cond.castable "LichenTable$Wrong" "LichenTable$Wrong") ∈ lw_tbl := lw_at lw_m3 116 rfl
theorem q678 : (Jvm.Cond.selects "LichenTable$Wrong" ({ cls := "java/lang/Throwable", name := "fillInStackTrace", desc := "(I)Ljava/lang/Throwable;" } : Jvm.MethodName) ({ cls := "java/lang/Throwable", name := "fillInStackTrace", desc := "(I)Ljava/lang/Throwable;" } : Jvm.MethodName)) ∈ lw_all := lw_g (lw_at lw_m3 121 rfl) rfl
theorem q679 : (Jvm.Cond.selects "LichenTable$Wrong" ({ cls := "java/lang/Throwable", name := "fillInStackTrace", desc := "()Ljava/lang/Throwable;" } : Jvm.MethodName) ({ cls := "java/lang/Throwable", name := "fillInStackTrace", desc := "()Ljava/lang/Throwable;" } : Jvm.MethodName)) ∈ lw_all := lw_g (lw_at lw_m3 122 rfl) rfl
theorem q680 : (Jvm.Cond.lays "LichenTable$Wrong" "java/lang/Throwable" "cause" "Ljava/lang/Throwable;") ∈ lw_all := lw_g (lw_at lw_m3 123 rfl) rfl
theorem q682 : (Jvm.Cond.lays "LichenTable$Wrong" "java/lang/Throwable" "stackTrace" "[Ljava/lang/StackTraceElement;") ∈ lw_all := lw_g (lw_at lw_m3 125 rfl) rfl
theorem q684 : (Jvm.Cond.lays "LichenTable$Wrong" "java/lang/Throwable" "suppressedExceptions" "Ljava/util/List;") ∈ lw_all := lw_g (lw_at lw_m3 127 rfl) rfl
theorem q686 : (Jvm.Cond.lays "LichenTable$Wrong" "java/lang/Throwable" "detailMessage" "Ljava/lang/String;") ∈ lw_all := lw_g (lw_at lw_m3 129 rfl) rfl
theorem q688 : (Jvm.Cond.lays "LichenTable$Wrong" "java/lang/Throwable" "backtrace" "Ljava/lang/Object;") ∈ lw_all := lw_g (lw_at lw_m3 131 rfl) rfl
theorem q710 : (Jvm.Cond.instanceMethod ({ cls := "LichenTable$Wrong", name := "<init>", desc := "(I)V" } : Jvm.MethodName)) ∈ lw_all := lw_g (lw_at lw_m3 153 rfl) rfl
theorem q711 : (Jvm.Cond.code ({ cls := "LichenTable$Wrong", name := "<init>", desc := "(I)V" } : Jvm.MethodName) prog_21_method_1_code (2 : Nat) (Option.none : Option Jvm.ClassFile.FieldType)) ∈ lw_all := lw_g (lw_at lw_m3 154 rfl) rfl
theorem q712 : (Jvm.Cond.methodLink "LichenTable$Wrong" (1 : Nat) ({ cls := "java/lang/Exception", name := "<init>", desc := "(Ljava/lang/String;Ljava/lang/Throwable;ZZ)V" } : Jvm.MethodName)) ∈ lw_all := lw_g (lw_at lw_m3 155 rfl) rfl
theorem q718 : (Jvm.Cond.fieldLink "LichenTable$Wrong" (7 : Nat) "LichenTable$Wrong" "kind" "I") ∈ lw_all := lw_g (lw_at lw_m3 161 rfl) rfl
theorem q725 : (Jvm.Cond.laysFinal "LichenTable$Wrong" "LichenTable$Wrong" "kind" "I") ∈ lw_all := lw_g (lw_at lw_m3 168 rfl) rfl
theorem q726 : (Jvm.Cond.soleField "LichenTable$Wrong" "kind") ∈ lw_all := lw_g (lw_at lw_m3 169 rfl) rfl
theorem q731 : (Jvm.Cond.lays "LichenTable$Wrong" "java/lang/Throwable" "depth" "I") ∈ lw_all := lw_g (lw_at lw_m3 174 rfl) rfl
theorem q734 : (Jvm.Cond.superclass "LichenTable$Wrong" "java/lang/Exception") ∈ lw_all := lw_g (lw_at lw_m3 177 rfl) rfl
theorem q1841 : (Jvm.Cond.castable "LichenTable$Wrong" "java/lang/Object") ∈ lw_tbl := lw_at lw_m8 84 rfl
theorem in_X12 : ∀ w ∈ wsX120, w ∈ lw_all := lw_in wsX120 [680, 682, 684, 686, 688, 731, 725] (by decide +kernel) (by decide +kernel)

/-! LichenTable$Statement -/
def RX13 : String := "LichenTable$Statement"
abbrev cX13_init : ByteArray := prog_14_method_1_code
def yX13_init : MethodName := ⟨RX13, "<init>", "()V"⟩
abbrev cX13_holds : ByteArray := prog_14_method_2_code
def yX13_holds : MethodName := ⟨RX13, "holds", "(LLichenTable$Circle;)Z"⟩
theorem q104 : (Jvm.Cond.initialized "LichenTable$Statement") ∈ lw_all := lw_g (lw_at lw_m1 27 rfl) rfl
theorem q742 : (Jvm.Cond.instanceMethod ({ cls := "LichenTable$Statement", name := "<init>", desc := "()V" } : Jvm.MethodName)) ∈ lw_all := lw_g (lw_at lw_m3 185 rfl) rfl
theorem q743 : (Jvm.Cond.code ({ cls := "LichenTable$Statement", name := "<init>", desc := "()V" } : Jvm.MethodName) prog_14_method_1_code (1 : Nat) (Option.none : Option Jvm.ClassFile.FieldType)) ∈ lw_all := lw_g (lw_at lw_m3 186 rfl) rfl
theorem q744 : (Jvm.Cond.methodLink "LichenTable$Statement" (1 : Nat) ({ cls := "java/lang/Object", name := "<init>", desc := "()V" } : Jvm.MethodName)) ∈ lw_all := lw_g (lw_at lw_m3 187 rfl) rfl
theorem q745 : (Jvm.Cond.classLink "LichenTable$Statement" (7 : Nat) "java/util/ArrayList") ∈ lw_all := lw_g (lw_at lw_m3 188 rfl) rfl
theorem q746 : (Jvm.Cond.methodLink "LichenTable$Statement" (9 : Nat) ({ cls := "java/util/ArrayList", name := "<init>", desc := "()V" } : Jvm.MethodName)) ∈ lw_all := lw_g (lw_at lw_m3 189 rfl) rfl
theorem q747 : (Jvm.Cond.fieldLink "LichenTable$Statement" (10 : Nat) "LichenTable$Statement" "terms" "Ljava/util/ArrayList;") ∈ lw_all := lw_g (lw_at lw_m3 190 rfl) rfl
theorem q750 : (Jvm.Cond.soleField "LichenTable$Statement" "terms") ∈ lw_all := lw_g (lw_at lw_m3 193 rfl) rfl
theorem q838 : (Jvm.Cond.instanceMethod ({ cls := "LichenTable$Statement", name := "holds", desc := "(LLichenTable$Circle;)Z" } : Jvm.MethodName)) ∈ lw_all := lw_g (lw_at lw_m4 41 rfl) rfl
theorem q839 : (Jvm.Cond.sameMethod "LichenTable$Statement" "LichenTable$Statement" "holds" "(LLichenTable$Circle;)Z") ∈ lw_all := lw_g (lw_at lw_m4 42 rfl) rfl
theorem q842 : (Jvm.Cond.code ({ cls := "LichenTable$Statement", name := "holds", desc := "(LLichenTable$Circle;)Z" } : Jvm.MethodName) prog_14_method_2_code (4 : Nat) (Option.some Jvm.ClassFile.FieldType.boolean)) ∈ lw_all := lw_g (lw_at lw_m4 45 rfl) rfl
theorem q843 : (Jvm.Cond.methodLink "LichenTable$Statement" (16 : Nat) ({ cls := "java/util/ArrayList", name := "size", desc := "()I" } : Jvm.MethodName)) ∈ lw_all := lw_g (lw_at lw_m4 46 rfl) rfl
theorem q844 : (Jvm.Cond.methodLink "LichenTable$Statement" (20 : Nat) ({ cls := "java/util/ArrayList", name := "get", desc := "(I)Ljava/lang/Object;" } : Jvm.MethodName)) ∈ lw_all := lw_g (lw_at lw_m4 47 rfl) rfl
theorem q845 : (Jvm.Cond.classLink "LichenTable$Statement" (24 : Nat) "LichenTable$Term") ∈ lw_all := lw_g (lw_at lw_m4 48 rfl) rfl
theorem q846 : (Jvm.Cond.methodLink "LichenTable$Statement" (26 : Nat) ({ cls := "LichenTable$Term", name := "holds", desc := "(LLichenTable$Circle;)Z" } : Jvm.MethodName)) ∈ lw_all := lw_g (lw_at lw_m4 49 rfl) rfl
theorem q858 : (Jvm.Cond.declares ({ cls := "LichenTable$Statement", name := "uses", desc := "()Z" } : Jvm.MethodName)) ∈ lw_tbl := lw_at lw_m4 61 rfl
theorem q859 : (Jvm.Cond.sameMethod "LichenTable$Statement" "LichenTable$Statement" "uses" "()Z") ∈ lw_all := lw_g (lw_at lw_m4 62 rfl) rfl

/-! LichenTable$Use -/
def RX14 : String := "LichenTable$Use"
def TX14 : u_T := fun k => match k with
  | _ => ("LichenTable$Statement", "terms", "Ljava/util/ArrayList;", true)
def tyX14 : Nat → FieldType := fun k => match k with
  | _ => .object "java/util/ArrayList"
abbrev wsX140 : List Cond := u_ws RX14 TX14 1
theorem nmX14 : ∀ a, a < 1 → ∀ b, b < 1 → a ≠ b → (TX14 a).2.1 ≠ (TX14 b).2.1 := by decide +kernel
theorem tyX14_ok : ∀ k, k < 1 → parseFieldDescriptor (TX14 k).2.2.1 = some (tyX14 k) := by decide +kernel
abbrev cX14_init : ByteArray := prog_19_method_1_code
def yX14_init : MethodName := ⟨RX14, "<init>", "()V"⟩
abbrev cX14_uses : ByteArray := prog_19_method_2_code
def yX14_uses : MethodName := ⟨RX14, "uses", "()Z"⟩
theorem q105 : (Jvm.Cond.initialized "LichenTable$Use") ∈ lw_all := lw_g (lw_at lw_m1 28 rfl) rfl
theorem q331 : (Jvm.Cond.selects "LichenTable$Use" ({ cls := "java/lang/Object", name := "getClass", desc := "()Ljava/lang/Class;" } : Jvm.MethodName) ({ cls := "java/lang/Object", name := "getClass", desc := "()Ljava/lang/Class;" } : Jvm.MethodName)) ∈ lw_all := lw_g (lw_at lw_m2 14 rfl) rfl
theorem q737 : (Jvm.Cond.instantiable "LichenTable$Use" (1 : Nat)) ∈ lw_all := lw_g (lw_at lw_m3 180 rfl) rfl
theorem q739 : (Jvm.Cond.instanceMethod ({ cls := "LichenTable$Use", name := "<init>", desc := "()V" } : Jvm.MethodName)) ∈ lw_all := lw_g (lw_at lw_m3 182 rfl) rfl
theorem q740 : (Jvm.Cond.code ({ cls := "LichenTable$Use", name := "<init>", desc := "()V" } : Jvm.MethodName) prog_19_method_1_code (1 : Nat) (Option.none : Option Jvm.ClassFile.FieldType)) ∈ lw_all := lw_g (lw_at lw_m3 183 rfl) rfl
theorem q741 : (Jvm.Cond.methodLinkNest "LichenTable$Use" (1 : Nat) ({ cls := "LichenTable$Statement", name := "<init>", desc := "()V" } : Jvm.MethodName) "LichenTable") ∈ lw_tbl := lw_at lw_m3 184 rfl
theorem q749 : (Jvm.Cond.laysFinal "LichenTable$Use" "LichenTable$Statement" "terms" "Ljava/util/ArrayList;") ∈ lw_all := lw_g (lw_at lw_m3 192 rfl) rfl
theorem q751 : (Jvm.Cond.superclass "LichenTable$Use" "LichenTable$Statement") ∈ lw_all := lw_g (lw_at lw_m3 194 rfl) rfl
theorem q841 : (Jvm.Cond.selects "LichenTable$Use" ({ cls := "LichenTable$Statement", name := "holds", desc := "(LLichenTable$Circle;)Z" } : Jvm.MethodName) ({ cls := "LichenTable$Statement", name := "holds", desc := "(LLichenTable$Circle;)Z" } : Jvm.MethodName)) ∈ lw_all := lw_g (lw_at lw_m4 44 rfl) rfl
theorem q863 : (Jvm.Cond.selects "LichenTable$Use" ({ cls := "LichenTable$Statement", name := "uses", desc := "()Z" } : Jvm.MethodName) ({ cls := "LichenTable$Use", name := "uses", desc := "()Z" } : Jvm.MethodName)) ∈ lw_all := lw_g (lw_at lw_m4 66 rfl) rfl
theorem q864 : (Jvm.Cond.instanceMethod ({ cls := "LichenTable$Use", name := "uses", desc := "()Z" } : Jvm.MethodName)) ∈ lw_all := lw_g (lw_at lw_m4 67 rfl) rfl
theorem q865 : (Jvm.Cond.code ({ cls := "LichenTable$Use", name := "uses", desc := "()Z" } : Jvm.MethodName) prog_19_method_2_code (1 : Nat) (Option.some Jvm.ClassFile.FieldType.boolean)) ∈ lw_all := lw_g (lw_at lw_m4 68 rfl) rfl
theorem q1825 : (Jvm.Cond.castable "LichenTable$Use" "LichenTable$Statement") ∈ lw_tbl := lw_at lw_m8 68 rfl
theorem q1842 : (Jvm.Cond.castable "LichenTable$Use" "java/lang/Object") ∈ lw_tbl := lw_at lw_m8 85 rfl
theorem in_X14 : ∀ w ∈ wsX140, w ∈ lw_all := lw_in wsX140 [749] (by decide +kernel) (by decide +kernel)

/-! LichenTable$Skip -/
def RX15 : String := "LichenTable$Skip"
def TX15 : u_T := fun k => match k with
  | _ => ("LichenTable$Statement", "terms", "Ljava/util/ArrayList;", true)
def tyX15 : Nat → FieldType := fun k => match k with
  | _ => .object "java/util/ArrayList"
abbrev wsX150 : List Cond := u_ws RX15 TX15 1
theorem nmX15 : ∀ a, a < 1 → ∀ b, b < 1 → a ≠ b → (TX15 a).2.1 ≠ (TX15 b).2.1 := by decide +kernel
theorem tyX15_ok : ∀ k, k < 1 → parseFieldDescriptor (TX15 k).2.2.1 = some (tyX15 k) := by decide +kernel
abbrev cX15_init : ByteArray := prog_12_method_1_code
def yX15_init : MethodName := ⟨RX15, "<init>", "()V"⟩
abbrev cX15_uses : ByteArray := prog_12_method_2_code
def yX15_uses : MethodName := ⟨RX15, "uses", "()Z"⟩
theorem q106 : (Jvm.Cond.initialized "LichenTable$Skip") ∈ lw_all := lw_g (lw_at lw_m1 29 rfl) rfl
theorem q326 : (Jvm.Cond.selects "LichenTable$Skip" ({ cls := "java/lang/Object", name := "getClass", desc := "()Ljava/lang/Class;" } : Jvm.MethodName) ({ cls := "java/lang/Object", name := "getClass", desc := "()Ljava/lang/Class;" } : Jvm.MethodName)) ∈ lw_all := lw_g (lw_at lw_m2 9 rfl) rfl
theorem q753 : (Jvm.Cond.instantiable "LichenTable$Skip" (1 : Nat)) ∈ lw_all := lw_g (lw_at lw_m3 196 rfl) rfl
theorem q755 : (Jvm.Cond.instanceMethod ({ cls := "LichenTable$Skip", name := "<init>", desc := "()V" } : Jvm.MethodName)) ∈ lw_all := lw_g (lw_at lw_m3 198 rfl) rfl
theorem q756 : (Jvm.Cond.code ({ cls := "LichenTable$Skip", name := "<init>", desc := "()V" } : Jvm.MethodName) prog_12_method_1_code (1 : Nat) (Option.none : Option Jvm.ClassFile.FieldType)) ∈ lw_all := lw_g (lw_at lw_m3 199 rfl) rfl
theorem q757 : (Jvm.Cond.methodLinkNest "LichenTable$Skip" (1 : Nat) ({ cls := "LichenTable$Statement", name := "<init>", desc := "()V" } : Jvm.MethodName) "LichenTable") ∈ lw_tbl := lw_at lw_m3 200 rfl
theorem q758 : (Jvm.Cond.laysFinal "LichenTable$Skip" "LichenTable$Statement" "terms" "Ljava/util/ArrayList;") ∈ lw_all := lw_g (lw_at lw_m3 201 rfl) rfl
theorem q759 : (Jvm.Cond.superclass "LichenTable$Skip" "LichenTable$Statement") ∈ lw_all := lw_g (lw_at lw_m3 202 rfl) rfl
theorem q840 : (Jvm.Cond.selects "LichenTable$Skip" ({ cls := "LichenTable$Statement", name := "holds", desc := "(LLichenTable$Circle;)Z" } : Jvm.MethodName) ({ cls := "LichenTable$Statement", name := "holds", desc := "(LLichenTable$Circle;)Z" } : Jvm.MethodName)) ∈ lw_all := lw_g (lw_at lw_m4 43 rfl) rfl
theorem q860 : (Jvm.Cond.selects "LichenTable$Skip" ({ cls := "LichenTable$Statement", name := "uses", desc := "()Z" } : Jvm.MethodName) ({ cls := "LichenTable$Skip", name := "uses", desc := "()Z" } : Jvm.MethodName)) ∈ lw_all := lw_g (lw_at lw_m4 63 rfl) rfl
theorem q861 : (Jvm.Cond.instanceMethod ({ cls := "LichenTable$Skip", name := "uses", desc := "()Z" } : Jvm.MethodName)) ∈ lw_all := lw_g (lw_at lw_m4 64 rfl) rfl
theorem q862 : (Jvm.Cond.code ({ cls := "LichenTable$Skip", name := "uses", desc := "()Z" } : Jvm.MethodName) prog_12_method_2_code (1 : Nat) (Option.some Jvm.ClassFile.FieldType.boolean)) ∈ lw_all := lw_g (lw_at lw_m4 65 rfl) rfl
theorem q1824 : (Jvm.Cond.castable "LichenTable$Skip" "LichenTable$Statement") ∈ lw_tbl := lw_at lw_m8 67 rfl
theorem q1843 : (Jvm.Cond.castable "LichenTable$Skip" "java/lang/Object") ∈ lw_tbl := lw_at lw_m8 86 rfl
theorem in_X15 : ∀ w ∈ wsX150, w ∈ lw_all := lw_in wsX150 [758] (by decide +kernel) (by decide +kernel)

/-! LichenTable$Term -/
def RX16 : String := "LichenTable$Term"
def TX16 : u_T := fun k => match k with
  | 0 => ("LichenTable$Term", "word", "I", true)
  | 1 => ("LichenTable$Term", "rel", "I", true)
  | 2 => ("LichenTable$Term", "number", "I", true)
  | _ => ("LichenTable$Term", "isNot", "Z", true)
def tyX16 : Nat → FieldType := fun k => match k with
  | 0 => .int
  | 1 => .int
  | 2 => .int
  | _ => .boolean
abbrev wsX160 : List Cond := u_ws RX16 TX16 4
theorem nmX16 : ∀ a, a < 4 → ∀ b, b < 4 → a ≠ b → (TX16 a).2.1 ≠ (TX16 b).2.1 := by decide +kernel
theorem tyX16_ok : ∀ k, k < 4 → parseFieldDescriptor (TX16 k).2.2.1 = some (tyX16 k) := by decide +kernel
abbrev cX16_init : ByteArray := prog_15_method_1_code
def yX16_init : MethodName := ⟨RX16, "<init>", "(IIIZ)V"⟩
abbrev cX16_holds : ByteArray := prog_15_method_2_code
def yX16_holds : MethodName := ⟨RX16, "holds", "(LLichenTable$Circle;)Z"⟩
theorem q107 : (Jvm.Cond.initialized "LichenTable$Term") ∈ lw_all := lw_g (lw_at lw_m1 30 rfl) rfl
theorem q328 : (Jvm.Cond.selects "LichenTable$Term" ({ cls := "java/lang/Object", name := "getClass", desc := "()Ljava/lang/Class;" } : Jvm.MethodName) ({ cls := "java/lang/Object", name := "getClass", desc := "()Ljava/lang/Class;" } : Jvm.MethodName)) ∈ lw_all := lw_g (lw_at lw_m2 11 rfl) rfl
theorem q784 : (Jvm.Cond.instantiable "LichenTable$Term" (4 : Nat)) ∈ lw_all := lw_g (lw_at lw_m3 227 rfl) rfl
theorem q786 : (Jvm.Cond.instanceMethod ({ cls := "LichenTable$Term", name := "<init>", desc := "(IIIZ)V" } : Jvm.MethodName)) ∈ lw_all := lw_g (lw_at lw_m3 229 rfl) rfl
theorem q787 : (Jvm.Cond.code ({ cls := "LichenTable$Term", name := "<init>", desc := "(IIIZ)V" } : Jvm.MethodName) prog_15_method_1_code (5 : Nat) (Option.none : Option Jvm.ClassFile.FieldType)) ∈ lw_all := lw_g (lw_at lw_m3 230 rfl) rfl
theorem q788 : (Jvm.Cond.methodLink "LichenTable$Term" (1 : Nat) ({ cls := "java/lang/Object", name := "<init>", desc := "()V" } : Jvm.MethodName)) ∈ lw_all := lw_g (lw_at lw_m3 231 rfl) rfl
theorem q789 : (Jvm.Cond.fieldLink "LichenTable$Term" (7 : Nat) "LichenTable$Term" "word" "I") ∈ lw_all := lw_g (lw_at lw_m3 232 rfl) rfl
theorem q790 : (Jvm.Cond.fieldLink "LichenTable$Term" (13 : Nat) "LichenTable$Term" "rel" "I") ∈ lw_all := lw_g (lw_at lw_m3 233 rfl) rfl
theorem q791 : (Jvm.Cond.fieldLink "LichenTable$Term" (16 : Nat) "LichenTable$Term" "number" "I") ∈ lw_all := lw_g (lw_at lw_m3 234 rfl) rfl
theorem q792 : (Jvm.Cond.fieldLink "LichenTable$Term" (19 : Nat) "LichenTable$Term" "isNot" "Z") ∈ lw_all := lw_g (lw_at lw_m3 235 rfl) rfl
theorem q793 : (Jvm.Cond.laysFinal "LichenTable$Term" "LichenTable$Term" "word" "I") ∈ lw_all := lw_g (lw_at lw_m3 236 rfl) rfl
theorem q794 : (Jvm.Cond.soleField "LichenTable$Term" "word") ∈ lw_all := lw_g (lw_at lw_m3 237 rfl) rfl
theorem q795 : (Jvm.Cond.laysFinal "LichenTable$Term" "LichenTable$Term" "rel" "I") ∈ lw_all := lw_g (lw_at lw_m3 238 rfl) rfl
theorem q796 : (Jvm.Cond.soleField "LichenTable$Term" "rel") ∈ lw_all := lw_g (lw_at lw_m3 239 rfl) rfl
theorem q797 : (Jvm.Cond.laysFinal "LichenTable$Term" "LichenTable$Term" "number" "I") ∈ lw_all := lw_g (lw_at lw_m4 0 rfl) rfl
theorem q798 : (Jvm.Cond.soleField "LichenTable$Term" "number") ∈ lw_all := lw_g (lw_at lw_m4 1 rfl) rfl
theorem q799 : (Jvm.Cond.laysFinal "LichenTable$Term" "LichenTable$Term" "isNot" "Z") ∈ lw_all := lw_g (lw_at lw_m4 2 rfl) rfl
theorem q800 : (Jvm.Cond.soleField "LichenTable$Term" "isNot") ∈ lw_all := lw_g (lw_at lw_m4 3 rfl) rfl
theorem q801 : (Jvm.Cond.superclass "LichenTable$Term" "java/lang/Object") ∈ lw_all := lw_g (lw_at lw_m4 4 rfl) rfl
theorem q847 : (Jvm.Cond.instanceMethod ({ cls := "LichenTable$Term", name := "holds", desc := "(LLichenTable$Circle;)Z" } : Jvm.MethodName)) ∈ lw_all := lw_g (lw_at lw_m4 50 rfl) rfl
theorem q848 : (Jvm.Cond.selects "LichenTable$Term" ({ cls := "LichenTable$Term", name := "holds", desc := "(LLichenTable$Circle;)Z" } : Jvm.MethodName) ({ cls := "LichenTable$Term", name := "holds", desc := "(LLichenTable$Circle;)Z" } : Jvm.MethodName)) ∈ lw_all := lw_g (lw_at lw_m4 51 rfl) rfl
theorem q849 : (Jvm.Cond.code ({ cls := "LichenTable$Term", name := "holds", desc := "(LLichenTable$Circle;)Z" } : Jvm.MethodName) prog_15_method_2_code (4 : Nat) (Option.some Jvm.ClassFile.FieldType.boolean)) ∈ lw_all := lw_g (lw_at lw_m4 52 rfl) rfl
theorem q850 : (Jvm.Cond.methodLinkNest "LichenTable$Term" (23 : Nat) ({ cls := "LichenTable", name := "value", desc := "(ILLichenTable$Circle;)I" } : Jvm.MethodName) "LichenTable") ∈ lw_tbl := lw_at lw_m4 53 rfl
theorem q1844 : (Jvm.Cond.castable "LichenTable$Term" "java/lang/Object") ∈ lw_tbl := lw_at lw_m8 87 rfl
theorem in_X16 : ∀ w ∈ wsX160, w ∈ lw_all := lw_in wsX160 [793, 795, 797, 799] (by decide +kernel) (by decide +kernel)

/-! LichenTable$Curve -/
def RX17 : String := "LichenTable$Curve"
def TX17 : u_T := fun k => match k with
  | 0 => ("LichenTable$Curve", "lowers", "Ljava/util/ArrayList;", true)
  | 1 => ("LichenTable$Curve", "uppers", "Ljava/util/ArrayList;", true)
  | 2 => ("LichenTable$Curve", "struck", "I", false)
  | _ => ("LichenTable$Curve", "this$0", "LLichenTable;", true)
def tyX17 : Nat → FieldType := fun k => match k with
  | 0 => .object "java/util/ArrayList"
  | 1 => .object "java/util/ArrayList"
  | 2 => .int
  | _ => .object "LichenTable"
abbrev wsX170 : List Cond := u_ws RX17 TX17 4
theorem nmX17 : ∀ a, a < 4 → ∀ b, b < 4 → a ≠ b → (TX17 a).2.1 ≠ (TX17 b).2.1 := by decide +kernel
theorem tyX17_ok : ∀ k, k < 4 → parseFieldDescriptor (TX17 k).2.2.1 = some (tyX17 k) := by decide +kernel
abbrev cX17_init : ByteArray := prog_5_method_1_code
def yX17_init : MethodName := ⟨RX17, "<init>", "(LLichenTable;)V"⟩
abbrev cX17_asks : ByteArray := prog_5_method_3_code
def yX17_asks : MethodName := ⟨RX17, "asks", "(LLichenTable$Group;II)V"⟩
abbrev cX17_strikes : ByteArray := prog_5_method_4_code
def yX17_strikes : MethodName := ⟨RX17, "strikes", "()V"⟩
abbrev cX17_isBetter : ByteArray := prog_5_method_5_code
def yX17_isBetter : MethodName := ⟨RX17, "isBetter", "(II)Z"⟩
abbrev cX17_parts : ByteArray := prog_5_method_6_code
def yX17_parts : MethodName := ⟨RX17, "parts", "(II[I)Z"⟩
abbrev cX17_least : ByteArray := prog_5_method_7_code
def yX17_least : MethodName := ⟨RX17, "least", "(I)I"⟩
abbrev cX17_stands : ByteArray := prog_5_method_2_code
def yX17_stands : MethodName := ⟨RX17, "stands", "(LLichenTable$Bound;)Z"⟩
abbrev cX17_greatest : ByteArray := prog_5_method_8_code
def yX17_greatest : MethodName := ⟨RX17, "greatest", "(I)I"⟩
abbrev cX17_firstAge : ByteArray := prog_5_method_9_code
def yX17_firstAge : MethodName := ⟨RX17, "firstAge", "(I)I"⟩
abbrev cX17_lastAge : ByteArray := prog_5_method_10_code
def yX17_lastAge : MethodName := ⟨RX17, "lastAge", "(I)I"⟩
theorem q110 : (Jvm.Cond.initialized "LichenTable$Curve") ∈ lw_all := lw_g (lw_at lw_m1 33 rfl) rfl
theorem q165 : (Jvm.Cond.fieldLinkNest "LichenTable$Curve" (60 : Nat) "LichenTable" "delays" "[I" "LichenTable") ∈ lw_tbl := lw_at lw_m1 88 rfl
theorem q170 : (Jvm.Cond.fieldLinkNest "LichenTable$Curve" (85 : Nat) "LichenTable" "rate" "I" "LichenTable") ∈ lw_tbl := lw_at lw_m1 93 rfl
theorem q171 : (Jvm.Cond.fieldLinkNest "LichenTable$Curve" (68 : Nat) "LichenTable" "needed" "I" "LichenTable") ∈ lw_tbl := lw_at lw_m1 94 rfl
theorem q259 : (Jvm.Cond.fieldLinkNest "LichenTable$Curve" (45 : Nat) "LichenTable$Site" "number" "I" "LichenTable") ∈ lw_tbl := lw_at lw_m1 182 rfl
theorem q268 : (Jvm.Cond.fieldLinkNest "LichenTable$Curve" (42 : Nat) "LichenTable$Site" "year" "I" "LichenTable") ∈ lw_tbl := lw_at lw_m1 191 rfl
theorem q319 : (Jvm.Cond.selects "LichenTable$Curve" ({ cls := "java/lang/Object", name := "getClass", desc := "()Ljava/lang/Class;" } : Jvm.MethodName) ({ cls := "java/lang/Object", name := "getClass", desc := "()Ljava/lang/Class;" } : Jvm.MethodName)) ∈ lw_all := lw_g (lw_at lw_m2 2 rfl) rfl
theorem q902 : (Jvm.Cond.instantiable "LichenTable$Curve" (4 : Nat)) ∈ lw_all := lw_g (lw_at lw_m4 105 rfl) rfl
theorem q904 : (Jvm.Cond.instanceMethod ({ cls := "LichenTable$Curve", name := "<init>", desc := "(LLichenTable;)V" } : Jvm.MethodName)) ∈ lw_all := lw_g (lw_at lw_m4 107 rfl) rfl
theorem q905 : (Jvm.Cond.code ({ cls := "LichenTable$Curve", name := "<init>", desc := "(LLichenTable;)V" } : Jvm.MethodName) prog_5_method_1_code (2 : Nat) (Option.none : Option Jvm.ClassFile.FieldType)) ∈ lw_all := lw_g (lw_at lw_m4 108 rfl) rfl
theorem q906 : (Jvm.Cond.methodLink "LichenTable$Curve" (9 : Nat) ({ cls := "java/lang/Object", name := "<init>", desc := "()V" } : Jvm.MethodName)) ∈ lw_all := lw_g (lw_at lw_m4 109 rfl) rfl
theorem q907 : (Jvm.Cond.classLink "LichenTable$Curve" (15 : Nat) "java/util/ArrayList") ∈ lw_all := lw_g (lw_at lw_m4 110 rfl) rfl
theorem q908 : (Jvm.Cond.methodLink "LichenTable$Curve" (17 : Nat) ({ cls := "java/util/ArrayList", name := "<init>", desc := "()V" } : Jvm.MethodName)) ∈ lw_all := lw_g (lw_at lw_m4 111 rfl) rfl
theorem q909 : (Jvm.Cond.fieldLink "LichenTable$Curve" (18 : Nat) "LichenTable$Curve" "lowers" "Ljava/util/ArrayList;") ∈ lw_all := lw_g (lw_at lw_m4 112 rfl) rfl
theorem q910 : (Jvm.Cond.fieldLink "LichenTable$Curve" (22 : Nat) "LichenTable$Curve" "uppers" "Ljava/util/ArrayList;") ∈ lw_all := lw_g (lw_at lw_m4 113 rfl) rfl
theorem q911 : (Jvm.Cond.fieldLink "LichenTable$Curve" (31 : Nat) "LichenTable$Curve" "struck" "I") ∈ lw_all := lw_g (lw_at lw_m4 114 rfl) rfl
theorem q913 : (Jvm.Cond.fieldLink "LichenTable$Curve" (3 : Nat) "LichenTable$Curve" "this$0" "LLichenTable;") ∈ lw_all := lw_g (lw_at lw_m4 116 rfl) rfl
theorem q914 : (Jvm.Cond.laysFinal "LichenTable$Curve" "LichenTable$Curve" "lowers" "Ljava/util/ArrayList;") ∈ lw_all := lw_g (lw_at lw_m4 117 rfl) rfl
theorem q915 : (Jvm.Cond.soleField "LichenTable$Curve" "lowers") ∈ lw_all := lw_g (lw_at lw_m4 118 rfl) rfl
theorem q916 : (Jvm.Cond.laysFinal "LichenTable$Curve" "LichenTable$Curve" "uppers" "Ljava/util/ArrayList;") ∈ lw_all := lw_g (lw_at lw_m4 119 rfl) rfl
theorem q917 : (Jvm.Cond.soleField "LichenTable$Curve" "uppers") ∈ lw_all := lw_g (lw_at lw_m4 120 rfl) rfl
theorem q918 : (Jvm.Cond.lays "LichenTable$Curve" "LichenTable$Curve" "struck" "I") ∈ lw_all := lw_g (lw_at lw_m4 121 rfl) rfl
theorem q919 : (Jvm.Cond.soleField "LichenTable$Curve" "struck") ∈ lw_all := lw_g (lw_at lw_m4 122 rfl) rfl
theorem q920 : (Jvm.Cond.laysFinal "LichenTable$Curve" "LichenTable$Curve" "this$0" "LLichenTable;") ∈ lw_all := lw_g (lw_at lw_m4 123 rfl) rfl
theorem q921 : (Jvm.Cond.soleField "LichenTable$Curve" "this$0") ∈ lw_all := lw_g (lw_at lw_m4 124 rfl) rfl
theorem q922 : (Jvm.Cond.superclass "LichenTable$Curve" "java/lang/Object") ∈ lw_all := lw_g (lw_at lw_m4 125 rfl) rfl
theorem q945 : (Jvm.Cond.fieldLinkNest "LichenTable$Curve" (39 : Nat) "LichenTable$Group" "site" "LLichenTable$Site;" "LichenTable") ∈ lw_tbl := lw_at lw_m4 148 rfl
theorem q947 : (Jvm.Cond.fieldLinkNest "LichenTable$Curve" (34 : Nat) "LichenTable$Group" "year" "I" "LichenTable") ∈ lw_tbl := lw_at lw_m4 150 rfl
theorem q950 : (Jvm.Cond.fieldLinkNest "LichenTable$Curve" (50 : Nat) "LichenTable$Group" "least" "I" "LichenTable") ∈ lw_tbl := lw_at lw_m4 153 rfl
theorem q953 : (Jvm.Cond.fieldLinkNest "LichenTable$Curve" (73 : Nat) "LichenTable$Group" "most" "I" "LichenTable") ∈ lw_tbl := lw_at lw_m4 156 rfl
theorem q970 : (Jvm.Cond.instanceMethod ({ cls := "LichenTable$Curve", name := "asks", desc := "(LLichenTable$Group;II)V" } : Jvm.MethodName)) ∈ lw_all := lw_g (lw_at lw_m4 173 rfl) rfl
theorem q971 : (Jvm.Cond.selects "LichenTable$Curve" ({ cls := "LichenTable$Curve", name := "asks", desc := "(LLichenTable$Group;II)V" } : Jvm.MethodName) ({ cls := "LichenTable$Curve", name := "asks", desc := "(LLichenTable$Group;II)V" } : Jvm.MethodName)) ∈ lw_all := lw_g (lw_at lw_m4 174 rfl) rfl
theorem q972 : (Jvm.Cond.code ({ cls := "LichenTable$Curve", name := "asks", desc := "(LLichenTable$Group;II)V" } : Jvm.MethodName) prog_5_method_3_code (7 : Nat) (Option.none : Option Jvm.ClassFile.FieldType)) ∈ lw_all := lw_g (lw_at lw_m4 175 rfl) rfl
theorem q973 : (Jvm.Cond.classLink "LichenTable$Curve" (48 : Nat) "LichenTable$Lower") ∈ lw_all := lw_g (lw_at lw_m4 176 rfl) rfl
theorem q975 : (Jvm.Cond.methodLink "LichenTable$Curve" (53 : Nat) ({ cls := "LichenTable$Lower", name := "<init>", desc := "(III)V" } : Jvm.MethodName)) ∈ lw_all := lw_g (lw_at lw_m4 178 rfl) rfl
theorem q983 : (Jvm.Cond.fieldLink "LichenTable$Curve" (25 : Nat) "LichenTable$Bound" "site" "I") ∈ lw_all := lw_g (lw_at lw_m4 186 rfl) rfl
theorem q984 : (Jvm.Cond.fieldLink "LichenTable$Curve" (92 : Nat) "LichenTable$Lower" "site" "I") ∈ lw_all := lw_g (lw_at lw_m4 187 rfl) rfl
theorem q986 : (Jvm.Cond.fieldLink "LichenTable$Curve" (98 : Nat) "LichenTable$Upper" "site" "I") ∈ lw_all := lw_g (lw_at lw_m4 189 rfl) rfl
theorem q993 : (Jvm.Cond.fieldLink "LichenTable$Curve" (93 : Nat) "LichenTable$Upper" "age" "I") ∈ lw_all := lw_g (lw_at lw_m4 196 rfl) rfl
theorem q999 : (Jvm.Cond.fieldLink "LichenTable$Curve" (96 : Nat) "LichenTable$Upper" "size" "I") ∈ lw_all := lw_g (lw_at lw_m4 202 rfl) rfl
theorem q1007 : (Jvm.Cond.methodLink "LichenTable$Curve" (56 : Nat) ({ cls := "java/util/ArrayList", name := "add", desc := "(Ljava/lang/Object;)Z" } : Jvm.MethodName)) ∈ lw_all := lw_g (lw_at lw_m4 210 rfl) rfl
theorem q1008 : (Jvm.Cond.methodLinkNest "LichenTable$Curve" (64 : Nat) ({ cls := "LichenTable", name := "lookedAt", desc := "(III)I" } : Jvm.MethodName) "LichenTable") ∈ lw_tbl := lw_at lw_m4 211 rfl
theorem q1015 : (Jvm.Cond.classLink "LichenTable$Curve" (71 : Nat) "LichenTable$Upper") ∈ lw_all := lw_g (lw_at lw_m4 218 rfl) rfl
theorem q1017 : (Jvm.Cond.methodLink "LichenTable$Curve" (76 : Nat) ({ cls := "LichenTable$Upper", name := "<init>", desc := "(III)V" } : Jvm.MethodName)) ∈ lw_all := lw_g (lw_at lw_m4 220 rfl) rfl
theorem q1026 : (Jvm.Cond.instanceMethod ({ cls := "LichenTable$Curve", name := "strikes", desc := "()V" } : Jvm.MethodName)) ∈ lw_all := lw_g (lw_at lw_m4 229 rfl) rfl
theorem q1027 : (Jvm.Cond.selects "LichenTable$Curve" ({ cls := "LichenTable$Curve", name := "strikes", desc := "()V" } : Jvm.MethodName) ({ cls := "LichenTable$Curve", name := "strikes", desc := "()V" } : Jvm.MethodName)) ∈ lw_all := lw_g (lw_at lw_m4 230 rfl) rfl
theorem q1028 : (Jvm.Cond.code ({ cls := "LichenTable$Curve", name := "strikes", desc := "()V" } : Jvm.MethodName) prog_5_method_4_code (8 : Nat) (Option.none : Option Jvm.ClassFile.FieldType)) ∈ lw_all := lw_g (lw_at lw_m4 231 rfl) rfl
theorem q1029 : (Jvm.Cond.methodLink "LichenTable$Curve" (77 : Nat) ({ cls := "java/util/ArrayList", name := "size", desc := "()I" } : Jvm.MethodName)) ∈ lw_all := lw_g (lw_at lw_m4 232 rfl) rfl
theorem q1030 : (Jvm.Cond.methodLink "LichenTable$Curve" (81 : Nat) ({ cls := "java/util/ArrayList", name := "get", desc := "(I)Ljava/lang/Object;" } : Jvm.MethodName)) ∈ lw_all := lw_g (lw_at lw_m4 233 rfl) rfl
theorem q1031 : (Jvm.Cond.methodLink "LichenTable$Curve" (88 : Nat) ({ cls := "LichenTable$Lower", name := "at", desc := "(II)I" } : Jvm.MethodName)) ∈ lw_all := lw_g (lw_at lw_m4 234 rfl) rfl
theorem q1035 : (Jvm.Cond.methodLink "LichenTable$Curve" (99 : Nat) ({ cls := "LichenTable$Curve", name := "isBetter", desc := "(II)Z" } : Jvm.MethodName)) ∈ lw_all := lw_g (lw_at lw_m4 238 rfl) rfl
theorem q1036 : (Jvm.Cond.privateMethod ({ cls := "LichenTable$Curve", name := "isBetter", desc := "(II)Z" } : Jvm.MethodName)) ∈ lw_tbl := lw_at lw_m4 239 rfl
theorem q1037 : (Jvm.Cond.instanceMethod ({ cls := "LichenTable$Curve", name := "isBetter", desc := "(II)Z" } : Jvm.MethodName)) ∈ lw_all := lw_g (lw_at lw_m5 0 rfl) rfl
theorem q1038 : (Jvm.Cond.code ({ cls := "LichenTable$Curve", name := "isBetter", desc := "(II)Z" } : Jvm.MethodName) prog_5_method_5_code (5 : Nat) (Option.some Jvm.ClassFile.FieldType.boolean)) ∈ lw_all := lw_g (lw_at lw_m5 1 rfl) rfl
theorem q1039 : (Jvm.Cond.methodLink "LichenTable$Curve" (107 : Nat) ({ cls := "java/lang/Integer", name := "bitCount", desc := "(I)I" } : Jvm.MethodName)) ∈ lw_all := lw_g (lw_at lw_m5 2 rfl) rfl
theorem q1045 : (Jvm.Cond.methodLink "LichenTable$Curve" (103 : Nat) ({ cls := "LichenTable$Curve", name := "parts", desc := "(II[I)Z" } : Jvm.MethodName)) ∈ lw_all := lw_g (lw_at lw_m5 8 rfl) rfl
theorem q1046 : (Jvm.Cond.privateMethod ({ cls := "LichenTable$Curve", name := "parts", desc := "(II[I)Z" } : Jvm.MethodName)) ∈ lw_tbl := lw_at lw_m5 9 rfl
theorem q1047 : (Jvm.Cond.instanceMethod ({ cls := "LichenTable$Curve", name := "parts", desc := "(II[I)Z" } : Jvm.MethodName)) ∈ lw_all := lw_g (lw_at lw_m5 10 rfl) rfl
theorem q1048 : (Jvm.Cond.code ({ cls := "LichenTable$Curve", name := "parts", desc := "(II[I)Z" } : Jvm.MethodName) prog_5_method_6_code (6 : Nat) (Option.some Jvm.ClassFile.FieldType.boolean)) ∈ lw_all := lw_g (lw_at lw_m5 11 rfl) rfl
theorem q1054 : (Jvm.Cond.instanceMethod ({ cls := "LichenTable$Curve", name := "least", desc := "(I)I" } : Jvm.MethodName)) ∈ lw_all := lw_g (lw_at lw_m5 17 rfl) rfl
theorem q1055 : (Jvm.Cond.selects "LichenTable$Curve" ({ cls := "LichenTable$Curve", name := "least", desc := "(I)I" } : Jvm.MethodName) ({ cls := "LichenTable$Curve", name := "least", desc := "(I)I" } : Jvm.MethodName)) ∈ lw_all := lw_g (lw_at lw_m5 18 rfl) rfl
theorem q1056 : (Jvm.Cond.code ({ cls := "LichenTable$Curve", name := "least", desc := "(I)I" } : Jvm.MethodName) prog_5_method_7_code (4 : Nat) (Option.some Jvm.ClassFile.FieldType.int)) ∈ lw_all := lw_g (lw_at lw_m5 19 rfl) rfl
theorem q1057 : (Jvm.Cond.classLink "LichenTable$Curve" (26 : Nat) "LichenTable$Bound") ∈ lw_all := lw_g (lw_at lw_m5 20 rfl) rfl
theorem q1058 : (Jvm.Cond.methodLink "LichenTable$Curve" (113 : Nat) ({ cls := "LichenTable$Curve", name := "stands", desc := "(LLichenTable$Bound;)Z" } : Jvm.MethodName)) ∈ lw_all := lw_g (lw_at lw_m5 21 rfl) rfl
theorem q1059 : (Jvm.Cond.privateMethod ({ cls := "LichenTable$Curve", name := "stands", desc := "(LLichenTable$Bound;)Z" } : Jvm.MethodName)) ∈ lw_tbl := lw_at lw_m5 22 rfl
theorem q1060 : (Jvm.Cond.instanceMethod ({ cls := "LichenTable$Curve", name := "stands", desc := "(LLichenTable$Bound;)Z" } : Jvm.MethodName)) ∈ lw_all := lw_g (lw_at lw_m5 23 rfl) rfl
theorem q1061 : (Jvm.Cond.code ({ cls := "LichenTable$Curve", name := "stands", desc := "(LLichenTable$Bound;)Z" } : Jvm.MethodName) prog_5_method_2_code (2 : Nat) (Option.some Jvm.ClassFile.FieldType.boolean)) ∈ lw_all := lw_g (lw_at lw_m5 24 rfl) rfl
theorem q1062 : (Jvm.Cond.methodLink "LichenTable$Curve" (117 : Nat) ({ cls := "java/lang/Math", name := "max", desc := "(II)I" } : Jvm.MethodName)) ∈ lw_all := lw_g (lw_at lw_m5 25 rfl) rfl
theorem q1064 : (Jvm.Cond.instanceMethod ({ cls := "LichenTable$Curve", name := "greatest", desc := "(I)I" } : Jvm.MethodName)) ∈ lw_all := lw_g (lw_at lw_m5 27 rfl) rfl
theorem q1065 : (Jvm.Cond.selects "LichenTable$Curve" ({ cls := "LichenTable$Curve", name := "greatest", desc := "(I)I" } : Jvm.MethodName) ({ cls := "LichenTable$Curve", name := "greatest", desc := "(I)I" } : Jvm.MethodName)) ∈ lw_all := lw_g (lw_at lw_m5 28 rfl) rfl
theorem q1066 : (Jvm.Cond.code ({ cls := "LichenTable$Curve", name := "greatest", desc := "(I)I" } : Jvm.MethodName) prog_5_method_8_code (4 : Nat) (Option.some Jvm.ClassFile.FieldType.int)) ∈ lw_all := lw_g (lw_at lw_m5 29 rfl) rfl
theorem q1067 : (Jvm.Cond.methodLink "LichenTable$Curve" (122 : Nat) ({ cls := "LichenTable$Upper", name := "at", desc := "(II)I" } : Jvm.MethodName)) ∈ lw_all := lw_g (lw_at lw_m5 30 rfl) rfl
theorem q1071 : (Jvm.Cond.methodLink "LichenTable$Curve" (123 : Nat) ({ cls := "java/lang/Math", name := "min", desc := "(II)I" } : Jvm.MethodName)) ∈ lw_all := lw_g (lw_at lw_m5 34 rfl) rfl
theorem q1103 : (Jvm.Cond.instanceMethod ({ cls := "LichenTable$Curve", name := "firstAge", desc := "(I)I" } : Jvm.MethodName)) ∈ lw_all := lw_g (lw_at lw_m5 66 rfl) rfl
theorem q1104 : (Jvm.Cond.selects "LichenTable$Curve" ({ cls := "LichenTable$Curve", name := "firstAge", desc := "(I)I" } : Jvm.MethodName) ({ cls := "LichenTable$Curve", name := "firstAge", desc := "(I)I" } : Jvm.MethodName)) ∈ lw_all := lw_g (lw_at lw_m5 67 rfl) rfl
theorem q1105 : (Jvm.Cond.code ({ cls := "LichenTable$Curve", name := "firstAge", desc := "(I)I" } : Jvm.MethodName) prog_5_method_9_code (5 : Nat) (Option.some Jvm.ClassFile.FieldType.int)) ∈ lw_all := lw_g (lw_at lw_m5 68 rfl) rfl
theorem q1106 : (Jvm.Cond.methodLink "LichenTable$Curve" (126 : Nat) ({ cls := "LichenTable$Curve", name := "greatest", desc := "(I)I" } : Jvm.MethodName)) ∈ lw_all := lw_g (lw_at lw_m5 69 rfl) rfl
theorem q1115 : (Jvm.Cond.instanceMethod ({ cls := "LichenTable$Curve", name := "lastAge", desc := "(I)I" } : Jvm.MethodName)) ∈ lw_all := lw_g (lw_at lw_m5 78 rfl) rfl
theorem q1116 : (Jvm.Cond.selects "LichenTable$Curve" ({ cls := "LichenTable$Curve", name := "lastAge", desc := "(I)I" } : Jvm.MethodName) ({ cls := "LichenTable$Curve", name := "lastAge", desc := "(I)I" } : Jvm.MethodName)) ∈ lw_all := lw_g (lw_at lw_m5 79 rfl) rfl
theorem q1117 : (Jvm.Cond.code ({ cls := "LichenTable$Curve", name := "lastAge", desc := "(I)I" } : Jvm.MethodName) prog_5_method_10_code (5 : Nat) (Option.some Jvm.ClassFile.FieldType.int)) ∈ lw_all := lw_g (lw_at lw_m5 80 rfl) rfl
theorem q1118 : (Jvm.Cond.methodLink "LichenTable$Curve" (129 : Nat) ({ cls := "LichenTable$Curve", name := "least", desc := "(I)I" } : Jvm.MethodName)) ∈ lw_all := lw_g (lw_at lw_m5 81 rfl) rfl
theorem q1828 : (Jvm.Cond.castable "LichenTable$Curve" "java/lang/Object") ∈ lw_tbl := lw_at lw_m8 71 rfl
theorem in_X17 : ∀ w ∈ wsX170, w ∈ lw_all := lw_in wsX170 [914, 916, 918, 920] (by decide +kernel) (by decide +kernel)

/-! LichenTable$Group -/
def RX18 : String := "LichenTable$Group"
def TX18 : u_T := fun k => match k with
  | 0 => ("LichenTable$Group", "site", "LLichenTable$Site;", true)
  | 1 => ("LichenTable$Group", "year", "I", true)
  | 2 => ("LichenTable$Group", "least", "I", false)
  | _ => ("LichenTable$Group", "most", "I", false)
def tyX18 : Nat → FieldType := fun k => match k with
  | 0 => .object "LichenTable$Site"
  | 1 => .int
  | 2 => .int
  | _ => .int
abbrev wsX180 : List Cond := u_ws RX18 TX18 4
theorem nmX18 : ∀ a, a < 4 → ∀ b, b < 4 → a ≠ b → (TX18 a).2.1 ≠ (TX18 b).2.1 := by decide +kernel
theorem tyX18_ok : ∀ k, k < 4 → parseFieldDescriptor (TX18 k).2.2.1 = some (tyX18 k) := by decide +kernel
abbrev cX18_init : ByteArray := prog_6_method_1_code
def yX18_init : MethodName := ⟨RX18, "<init>", "(LLichenTable$Site;I)V"⟩
abbrev cX18_has : ByteArray := prog_6_method_2_code
def yX18_has : MethodName := ⟨RX18, "has", "(II)V"⟩
theorem q111 : (Jvm.Cond.initialized "LichenTable$Group") ∈ lw_all := lw_g (lw_at lw_m1 34 rfl) rfl
theorem q320 : (Jvm.Cond.selects "LichenTable$Group" ({ cls := "java/lang/Object", name := "getClass", desc := "()Ljava/lang/Class;" } : Jvm.MethodName) ({ cls := "java/lang/Object", name := "getClass", desc := "()Ljava/lang/Class;" } : Jvm.MethodName)) ∈ lw_all := lw_g (lw_at lw_m2 3 rfl) rfl
theorem q939 : (Jvm.Cond.instantiable "LichenTable$Group" (4 : Nat)) ∈ lw_all := lw_g (lw_at lw_m4 142 rfl) rfl
theorem q941 : (Jvm.Cond.instanceMethod ({ cls := "LichenTable$Group", name := "<init>", desc := "(LLichenTable$Site;I)V" } : Jvm.MethodName)) ∈ lw_all := lw_g (lw_at lw_m4 144 rfl) rfl
theorem q942 : (Jvm.Cond.code ({ cls := "LichenTable$Group", name := "<init>", desc := "(LLichenTable$Site;I)V" } : Jvm.MethodName) prog_6_method_1_code (3 : Nat) (Option.none : Option Jvm.ClassFile.FieldType)) ∈ lw_all := lw_g (lw_at lw_m4 145 rfl) rfl
theorem q943 : (Jvm.Cond.methodLink "LichenTable$Group" (1 : Nat) ({ cls := "java/lang/Object", name := "<init>", desc := "()V" } : Jvm.MethodName)) ∈ lw_all := lw_g (lw_at lw_m4 146 rfl) rfl
theorem q944 : (Jvm.Cond.fieldLink "LichenTable$Group" (7 : Nat) "LichenTable$Group" "site" "LLichenTable$Site;") ∈ lw_all := lw_g (lw_at lw_m4 147 rfl) rfl
theorem q946 : (Jvm.Cond.fieldLink "LichenTable$Group" (13 : Nat) "LichenTable$Group" "year" "I") ∈ lw_all := lw_g (lw_at lw_m4 149 rfl) rfl
theorem q949 : (Jvm.Cond.fieldLink "LichenTable$Group" (17 : Nat) "LichenTable$Group" "least" "I") ∈ lw_all := lw_g (lw_at lw_m4 152 rfl) rfl
theorem q952 : (Jvm.Cond.fieldLink "LichenTable$Group" (26 : Nat) "LichenTable$Group" "most" "I") ∈ lw_all := lw_g (lw_at lw_m4 155 rfl) rfl
theorem q955 : (Jvm.Cond.laysFinal "LichenTable$Group" "LichenTable$Group" "site" "LLichenTable$Site;") ∈ lw_all := lw_g (lw_at lw_m4 158 rfl) rfl
theorem q956 : (Jvm.Cond.soleField "LichenTable$Group" "site") ∈ lw_all := lw_g (lw_at lw_m4 159 rfl) rfl
theorem q957 : (Jvm.Cond.laysFinal "LichenTable$Group" "LichenTable$Group" "year" "I") ∈ lw_all := lw_g (lw_at lw_m4 160 rfl) rfl
theorem q958 : (Jvm.Cond.soleField "LichenTable$Group" "year") ∈ lw_all := lw_g (lw_at lw_m4 161 rfl) rfl
theorem q959 : (Jvm.Cond.lays "LichenTable$Group" "LichenTable$Group" "least" "I") ∈ lw_all := lw_g (lw_at lw_m4 162 rfl) rfl
theorem q960 : (Jvm.Cond.soleField "LichenTable$Group" "least") ∈ lw_all := lw_g (lw_at lw_m4 163 rfl) rfl
theorem q961 : (Jvm.Cond.lays "LichenTable$Group" "LichenTable$Group" "most" "I") ∈ lw_all := lw_g (lw_at lw_m4 164 rfl) rfl
theorem q962 : (Jvm.Cond.soleField "LichenTable$Group" "most") ∈ lw_all := lw_g (lw_at lw_m4 165 rfl) rfl
theorem q963 : (Jvm.Cond.superclass "LichenTable$Group" "java/lang/Object") ∈ lw_all := lw_g (lw_at lw_m4 166 rfl) rfl
theorem q965 : (Jvm.Cond.instanceMethod ({ cls := "LichenTable$Group", name := "has", desc := "(II)V" } : Jvm.MethodName)) ∈ lw_all := lw_g (lw_at lw_m4 168 rfl) rfl
theorem q966 : (Jvm.Cond.selects "LichenTable$Group" ({ cls := "LichenTable$Group", name := "has", desc := "(II)V" } : Jvm.MethodName) ({ cls := "LichenTable$Group", name := "has", desc := "(II)V" } : Jvm.MethodName)) ∈ lw_all := lw_g (lw_at lw_m4 169 rfl) rfl
theorem q967 : (Jvm.Cond.code ({ cls := "LichenTable$Group", name := "has", desc := "(II)V" } : Jvm.MethodName) prog_6_method_2_code (3 : Nat) (Option.none : Option Jvm.ClassFile.FieldType)) ∈ lw_all := lw_g (lw_at lw_m4 170 rfl) rfl
theorem q968 : (Jvm.Cond.methodLink "LichenTable$Group" (20 : Nat) ({ cls := "java/lang/Math", name := "max", desc := "(II)I" } : Jvm.MethodName)) ∈ lw_all := lw_g (lw_at lw_m4 171 rfl) rfl
theorem q1846 : (Jvm.Cond.castable "LichenTable$Group" "java/lang/Object") ∈ lw_tbl := lw_at lw_m8 89 rfl
theorem in_X18 : ∀ w ∈ wsX180, w ∈ lw_all := lw_in wsX180 [955, 957, 959, 961] (by decide +kernel) (by decide +kernel)

/-! LichenTable$Bound -/
def RX19 : String := "LichenTable$Bound"
abbrev cX19_init : ByteArray := prog_3_method_1_code
def yX19_init : MethodName := ⟨RX19, "<init>", "(III)V"⟩
theorem q112 : (Jvm.Cond.initialized "LichenTable$Bound") ∈ lw_all := lw_g (lw_at lw_m1 35 rfl) rfl
theorem q979 : (Jvm.Cond.instanceMethod ({ cls := "LichenTable$Bound", name := "<init>", desc := "(III)V" } : Jvm.MethodName)) ∈ lw_all := lw_g (lw_at lw_m4 182 rfl) rfl
theorem q980 : (Jvm.Cond.code ({ cls := "LichenTable$Bound", name := "<init>", desc := "(III)V" } : Jvm.MethodName) prog_3_method_1_code (4 : Nat) (Option.none : Option Jvm.ClassFile.FieldType)) ∈ lw_all := lw_g (lw_at lw_m4 183 rfl) rfl
theorem q981 : (Jvm.Cond.methodLink "LichenTable$Bound" (1 : Nat) ({ cls := "java/lang/Object", name := "<init>", desc := "()V" } : Jvm.MethodName)) ∈ lw_all := lw_g (lw_at lw_m4 184 rfl) rfl
theorem q982 : (Jvm.Cond.fieldLink "LichenTable$Bound" (7 : Nat) "LichenTable$Bound" "site" "I") ∈ lw_all := lw_g (lw_at lw_m4 185 rfl) rfl
theorem q988 : (Jvm.Cond.fieldLink "LichenTable$Bound" (13 : Nat) "LichenTable$Bound" "age" "I") ∈ lw_all := lw_g (lw_at lw_m4 191 rfl) rfl
theorem q994 : (Jvm.Cond.fieldLink "LichenTable$Bound" (16 : Nat) "LichenTable$Bound" "size" "I") ∈ lw_all := lw_g (lw_at lw_m4 197 rfl) rfl
theorem q1001 : (Jvm.Cond.soleField "LichenTable$Bound" "site") ∈ lw_all := lw_g (lw_at lw_m4 204 rfl) rfl
theorem q1003 : (Jvm.Cond.soleField "LichenTable$Bound" "age") ∈ lw_all := lw_g (lw_at lw_m4 206 rfl) rfl
theorem q1005 : (Jvm.Cond.soleField "LichenTable$Bound" "size") ∈ lw_all := lw_g (lw_at lw_m4 208 rfl) rfl

/-! LichenTable$Lower -/
def RX20 : String := "LichenTable$Lower"
def TX20 : u_T := fun k => match k with
  | 0 => ("LichenTable$Bound", "site", "I", true)
  | 1 => ("LichenTable$Bound", "age", "I", true)
  | _ => ("LichenTable$Bound", "size", "I", true)
def tyX20 : Nat → FieldType := fun k => match k with
  | 0 => .int
  | 1 => .int
  | _ => .int
abbrev wsX200 : List Cond := u_ws RX20 TX20 3
theorem nmX20 : ∀ a, a < 3 → ∀ b, b < 3 → a ≠ b → (TX20 a).2.1 ≠ (TX20 b).2.1 := by decide +kernel
theorem tyX20_ok : ∀ k, k < 3 → parseFieldDescriptor (TX20 k).2.2.1 = some (tyX20 k) := by decide +kernel
abbrev cX20_init : ByteArray := prog_8_method_1_code
def yX20_init : MethodName := ⟨RX20, "<init>", "(III)V"⟩
abbrev cX20_at : ByteArray := prog_8_method_2_code
def yX20_at : MethodName := ⟨RX20, "at", "(II)I"⟩
theorem q113 : (Jvm.Cond.initialized "LichenTable$Lower") ∈ lw_all := lw_g (lw_at lw_m1 36 rfl) rfl
theorem q322 : (Jvm.Cond.selects "LichenTable$Lower" ({ cls := "java/lang/Object", name := "getClass", desc := "()Ljava/lang/Class;" } : Jvm.MethodName) ({ cls := "java/lang/Object", name := "getClass", desc := "()Ljava/lang/Class;" } : Jvm.MethodName)) ∈ lw_all := lw_g (lw_at lw_m2 5 rfl) rfl
theorem q974 : (Jvm.Cond.instantiable "LichenTable$Lower" (3 : Nat)) ∈ lw_all := lw_g (lw_at lw_m4 177 rfl) rfl
theorem q976 : (Jvm.Cond.instanceMethod ({ cls := "LichenTable$Lower", name := "<init>", desc := "(III)V" } : Jvm.MethodName)) ∈ lw_all := lw_g (lw_at lw_m4 179 rfl) rfl
theorem q977 : (Jvm.Cond.code ({ cls := "LichenTable$Lower", name := "<init>", desc := "(III)V" } : Jvm.MethodName) prog_8_method_1_code (4 : Nat) (Option.none : Option Jvm.ClassFile.FieldType)) ∈ lw_all := lw_g (lw_at lw_m4 180 rfl) rfl
theorem q978 : (Jvm.Cond.methodLink "LichenTable$Lower" (1 : Nat) ({ cls := "LichenTable$Bound", name := "<init>", desc := "(III)V" } : Jvm.MethodName)) ∈ lw_all := lw_g (lw_at lw_m4 181 rfl) rfl
theorem q985 : (Jvm.Cond.sameField "LichenTable$Lower" "LichenTable$Bound" "site" "I") ∈ lw_all := lw_g (lw_at lw_m4 188 rfl) rfl
theorem q989 : (Jvm.Cond.fieldLink "LichenTable$Lower" (7 : Nat) "LichenTable$Lower" "age" "I") ∈ lw_all := lw_g (lw_at lw_m4 192 rfl) rfl
theorem q990 : (Jvm.Cond.sameField "LichenTable$Lower" "LichenTable$Bound" "age" "I") ∈ lw_all := lw_g (lw_at lw_m4 193 rfl) rfl
theorem q995 : (Jvm.Cond.fieldLink "LichenTable$Lower" (13 : Nat) "LichenTable$Lower" "size" "I") ∈ lw_all := lw_g (lw_at lw_m4 198 rfl) rfl
theorem q996 : (Jvm.Cond.sameField "LichenTable$Lower" "LichenTable$Bound" "size" "I") ∈ lw_all := lw_g (lw_at lw_m4 199 rfl) rfl
theorem q1000 : (Jvm.Cond.laysFinal "LichenTable$Lower" "LichenTable$Bound" "site" "I") ∈ lw_all := lw_g (lw_at lw_m4 203 rfl) rfl
theorem q1002 : (Jvm.Cond.laysFinal "LichenTable$Lower" "LichenTable$Bound" "age" "I") ∈ lw_all := lw_g (lw_at lw_m4 205 rfl) rfl
theorem q1004 : (Jvm.Cond.laysFinal "LichenTable$Lower" "LichenTable$Bound" "size" "I") ∈ lw_all := lw_g (lw_at lw_m4 207 rfl) rfl
theorem q1006 : (Jvm.Cond.superclass "LichenTable$Lower" "LichenTable$Bound") ∈ lw_all := lw_g (lw_at lw_m4 209 rfl) rfl
theorem q1032 : (Jvm.Cond.instanceMethod ({ cls := "LichenTable$Lower", name := "at", desc := "(II)I" } : Jvm.MethodName)) ∈ lw_all := lw_g (lw_at lw_m4 235 rfl) rfl
theorem q1033 : (Jvm.Cond.selects "LichenTable$Lower" ({ cls := "LichenTable$Lower", name := "at", desc := "(II)I" } : Jvm.MethodName) ({ cls := "LichenTable$Lower", name := "at", desc := "(II)I" } : Jvm.MethodName)) ∈ lw_all := lw_g (lw_at lw_m4 236 rfl) rfl
theorem q1034 : (Jvm.Cond.code ({ cls := "LichenTable$Lower", name := "at", desc := "(II)I" } : Jvm.MethodName) prog_8_method_2_code (3 : Nat) (Option.some Jvm.ClassFile.FieldType.int)) ∈ lw_all := lw_g (lw_at lw_m4 237 rfl) rfl
theorem q1826 : (Jvm.Cond.castable "LichenTable$Lower" "LichenTable$Bound") ∈ lw_tbl := lw_at lw_m8 69 rfl
theorem q1847 : (Jvm.Cond.castable "LichenTable$Lower" "java/lang/Object") ∈ lw_tbl := lw_at lw_m8 90 rfl
theorem in_X20 : ∀ w ∈ wsX200, w ∈ lw_all := lw_in wsX200 [1000, 1002, 1004] (by decide +kernel) (by decide +kernel)

/-! LichenTable$Upper -/
def RX21 : String := "LichenTable$Upper"
def TX21 : u_T := fun k => match k with
  | 0 => ("LichenTable$Bound", "site", "I", true)
  | 1 => ("LichenTable$Bound", "age", "I", true)
  | _ => ("LichenTable$Bound", "size", "I", true)
def tyX21 : Nat → FieldType := fun k => match k with
  | 0 => .int
  | 1 => .int
  | _ => .int
abbrev wsX210 : List Cond := u_ws RX21 TX21 3
theorem nmX21 : ∀ a, a < 3 → ∀ b, b < 3 → a ≠ b → (TX21 a).2.1 ≠ (TX21 b).2.1 := by decide +kernel
theorem tyX21_ok : ∀ k, k < 3 → parseFieldDescriptor (TX21 k).2.2.1 = some (tyX21 k) := by decide +kernel
abbrev cX21_init : ByteArray := prog_18_method_1_code
def yX21_init : MethodName := ⟨RX21, "<init>", "(III)V"⟩
abbrev cX21_at : ByteArray := prog_18_method_2_code
def yX21_at : MethodName := ⟨RX21, "at", "(II)I"⟩
theorem q114 : (Jvm.Cond.initialized "LichenTable$Upper") ∈ lw_all := lw_g (lw_at lw_m1 37 rfl) rfl
theorem q330 : (Jvm.Cond.selects "LichenTable$Upper" ({ cls := "java/lang/Object", name := "getClass", desc := "()Ljava/lang/Class;" } : Jvm.MethodName) ({ cls := "java/lang/Object", name := "getClass", desc := "()Ljava/lang/Class;" } : Jvm.MethodName)) ∈ lw_all := lw_g (lw_at lw_m2 13 rfl) rfl
theorem q987 : (Jvm.Cond.sameField "LichenTable$Upper" "LichenTable$Bound" "site" "I") ∈ lw_all := lw_g (lw_at lw_m4 190 rfl) rfl
theorem q991 : (Jvm.Cond.fieldLink "LichenTable$Upper" (7 : Nat) "LichenTable$Upper" "age" "I") ∈ lw_all := lw_g (lw_at lw_m4 194 rfl) rfl
theorem q992 : (Jvm.Cond.sameField "LichenTable$Upper" "LichenTable$Bound" "age" "I") ∈ lw_all := lw_g (lw_at lw_m4 195 rfl) rfl
theorem q997 : (Jvm.Cond.fieldLink "LichenTable$Upper" (13 : Nat) "LichenTable$Upper" "size" "I") ∈ lw_all := lw_g (lw_at lw_m4 200 rfl) rfl
theorem q998 : (Jvm.Cond.sameField "LichenTable$Upper" "LichenTable$Bound" "size" "I") ∈ lw_all := lw_g (lw_at lw_m4 201 rfl) rfl
theorem q1016 : (Jvm.Cond.instantiable "LichenTable$Upper" (3 : Nat)) ∈ lw_all := lw_g (lw_at lw_m4 219 rfl) rfl
theorem q1018 : (Jvm.Cond.instanceMethod ({ cls := "LichenTable$Upper", name := "<init>", desc := "(III)V" } : Jvm.MethodName)) ∈ lw_all := lw_g (lw_at lw_m4 221 rfl) rfl
theorem q1019 : (Jvm.Cond.code ({ cls := "LichenTable$Upper", name := "<init>", desc := "(III)V" } : Jvm.MethodName) prog_18_method_1_code (4 : Nat) (Option.none : Option Jvm.ClassFile.FieldType)) ∈ lw_all := lw_g (lw_at lw_m4 222 rfl) rfl
theorem q1020 : (Jvm.Cond.methodLink "LichenTable$Upper" (1 : Nat) ({ cls := "LichenTable$Bound", name := "<init>", desc := "(III)V" } : Jvm.MethodName)) ∈ lw_all := lw_g (lw_at lw_m4 223 rfl) rfl
theorem q1021 : (Jvm.Cond.laysFinal "LichenTable$Upper" "LichenTable$Bound" "site" "I") ∈ lw_all := lw_g (lw_at lw_m4 224 rfl) rfl
theorem q1022 : (Jvm.Cond.laysFinal "LichenTable$Upper" "LichenTable$Bound" "age" "I") ∈ lw_all := lw_g (lw_at lw_m4 225 rfl) rfl
theorem q1023 : (Jvm.Cond.laysFinal "LichenTable$Upper" "LichenTable$Bound" "size" "I") ∈ lw_all := lw_g (lw_at lw_m4 226 rfl) rfl
theorem q1024 : (Jvm.Cond.superclass "LichenTable$Upper" "LichenTable$Bound") ∈ lw_all := lw_g (lw_at lw_m4 227 rfl) rfl
theorem q1068 : (Jvm.Cond.instanceMethod ({ cls := "LichenTable$Upper", name := "at", desc := "(II)I" } : Jvm.MethodName)) ∈ lw_all := lw_g (lw_at lw_m5 31 rfl) rfl
theorem q1069 : (Jvm.Cond.selects "LichenTable$Upper" ({ cls := "LichenTable$Upper", name := "at", desc := "(II)I" } : Jvm.MethodName) ({ cls := "LichenTable$Upper", name := "at", desc := "(II)I" } : Jvm.MethodName)) ∈ lw_all := lw_g (lw_at lw_m5 32 rfl) rfl
theorem q1070 : (Jvm.Cond.code ({ cls := "LichenTable$Upper", name := "at", desc := "(II)I" } : Jvm.MethodName) prog_18_method_2_code (3 : Nat) (Option.some Jvm.ClassFile.FieldType.int)) ∈ lw_all := lw_g (lw_at lw_m5 33 rfl) rfl
theorem q1827 : (Jvm.Cond.castable "LichenTable$Upper" "LichenTable$Bound") ∈ lw_tbl := lw_at lw_m8 70 rfl
theorem q1848 : (Jvm.Cond.castable "LichenTable$Upper" "java/lang/Object") ∈ lw_tbl := lw_at lw_m8 91 rfl
theorem in_X21 : ∀ w ∈ wsX210, w ∈ lw_all := lw_in wsX210 [1021, 1022, 1023] (by decide +kernel) (by decide +kernel)

/-! LichenTable$Span -/
def RX22 : String := "LichenTable$Span"
def TX22 : u_T := fun k => match k with
  | 0 => ("LichenTable$Span", "from", "I", false)
  | _ => ("LichenTable$Span", "to", "I", false)
def tyX22 : Nat → FieldType := fun k => match k with
  | 0 => .int
  | _ => .int
abbrev wsX220 : List Cond := u_ws RX22 TX22 2
theorem nmX22 : ∀ a, a < 2 → ∀ b, b < 2 → a ≠ b → (TX22 a).2.1 ≠ (TX22 b).2.1 := by decide +kernel
theorem tyX22_ok : ∀ k, k < 2 → parseFieldDescriptor (TX22 k).2.2.1 = some (tyX22 k) := by decide +kernel
abbrev cX22_init : ByteArray := prog_13_method_1_code
def yX22_init : MethodName := ⟨RX22, "<init>", "()V"⟩
abbrev cX22_within : ByteArray := prog_13_method_3_code
def yX22_within : MethodName := ⟨RX22, "within", "(II)V"⟩
abbrev cX22_isNone : ByteArray := prog_13_method_2_code
def yX22_isNone : MethodName := ⟨RX22, "isNone", "()Z"⟩
abbrev cX22_has : ByteArray := prog_13_method_4_code
def yX22_has : MethodName := ⟨RX22, "has", "(I)Z"⟩
theorem q116 : (Jvm.Cond.initialized "LichenTable$Span") ∈ lw_all := lw_g (lw_at lw_m1 39 rfl) rfl
theorem q327 : (Jvm.Cond.selects "LichenTable$Span" ({ cls := "java/lang/Object", name := "getClass", desc := "()Ljava/lang/Class;" } : Jvm.MethodName) ({ cls := "java/lang/Object", name := "getClass", desc := "()Ljava/lang/Class;" } : Jvm.MethodName)) ∈ lw_all := lw_g (lw_at lw_m2 10 rfl) rfl
theorem q1088 : (Jvm.Cond.instantiable "LichenTable$Span" (2 : Nat)) ∈ lw_all := lw_g (lw_at lw_m5 51 rfl) rfl
theorem q1090 : (Jvm.Cond.instanceMethod ({ cls := "LichenTable$Span", name := "<init>", desc := "()V" } : Jvm.MethodName)) ∈ lw_all := lw_g (lw_at lw_m5 53 rfl) rfl
theorem q1091 : (Jvm.Cond.code ({ cls := "LichenTable$Span", name := "<init>", desc := "()V" } : Jvm.MethodName) prog_13_method_1_code (1 : Nat) (Option.none : Option Jvm.ClassFile.FieldType)) ∈ lw_all := lw_g (lw_at lw_m5 54 rfl) rfl
theorem q1092 : (Jvm.Cond.methodLink "LichenTable$Span" (3 : Nat) ({ cls := "java/lang/Object", name := "<init>", desc := "()V" } : Jvm.MethodName)) ∈ lw_all := lw_g (lw_at lw_m5 55 rfl) rfl
theorem q1093 : (Jvm.Cond.fieldLink "LichenTable$Span" (9 : Nat) "LichenTable$Span" "from" "I") ∈ lw_all := lw_g (lw_at lw_m5 56 rfl) rfl
theorem q1095 : (Jvm.Cond.fieldLink "LichenTable$Span" (15 : Nat) "LichenTable$Span" "to" "I") ∈ lw_all := lw_g (lw_at lw_m5 58 rfl) rfl
theorem q1097 : (Jvm.Cond.lays "LichenTable$Span" "LichenTable$Span" "from" "I") ∈ lw_all := lw_g (lw_at lw_m5 60 rfl) rfl
theorem q1098 : (Jvm.Cond.soleField "LichenTable$Span" "from") ∈ lw_all := lw_g (lw_at lw_m5 61 rfl) rfl
theorem q1099 : (Jvm.Cond.lays "LichenTable$Span" "LichenTable$Span" "to" "I") ∈ lw_all := lw_g (lw_at lw_m5 62 rfl) rfl
theorem q1100 : (Jvm.Cond.soleField "LichenTable$Span" "to") ∈ lw_all := lw_g (lw_at lw_m5 63 rfl) rfl
theorem q1101 : (Jvm.Cond.superclass "LichenTable$Span" "java/lang/Object") ∈ lw_all := lw_g (lw_at lw_m5 64 rfl) rfl
theorem q1108 : (Jvm.Cond.instanceMethod ({ cls := "LichenTable$Span", name := "within", desc := "(II)V" } : Jvm.MethodName)) ∈ lw_all := lw_g (lw_at lw_m5 71 rfl) rfl
theorem q1109 : (Jvm.Cond.selects "LichenTable$Span" ({ cls := "LichenTable$Span", name := "within", desc := "(II)V" } : Jvm.MethodName) ({ cls := "LichenTable$Span", name := "within", desc := "(II)V" } : Jvm.MethodName)) ∈ lw_all := lw_g (lw_at lw_m5 72 rfl) rfl
theorem q1110 : (Jvm.Cond.code ({ cls := "LichenTable$Span", name := "within", desc := "(II)V" } : Jvm.MethodName) prog_13_method_3_code (3 : Nat) (Option.none : Option Jvm.ClassFile.FieldType)) ∈ lw_all := lw_g (lw_at lw_m5 73 rfl) rfl
theorem q1111 : (Jvm.Cond.methodLink "LichenTable$Span" (18 : Nat) ({ cls := "java/lang/Math", name := "max", desc := "(II)I" } : Jvm.MethodName)) ∈ lw_all := lw_g (lw_at lw_m5 74 rfl) rfl
theorem q1112 : (Jvm.Cond.methodLink "LichenTable$Span" (24 : Nat) ({ cls := "java/lang/Math", name := "min", desc := "(II)I" } : Jvm.MethodName)) ∈ lw_all := lw_g (lw_at lw_m5 75 rfl) rfl
theorem q1123 : (Jvm.Cond.instanceMethod ({ cls := "LichenTable$Span", name := "isNone", desc := "()Z" } : Jvm.MethodName)) ∈ lw_all := lw_g (lw_at lw_m5 86 rfl) rfl
theorem q1124 : (Jvm.Cond.selects "LichenTable$Span" ({ cls := "LichenTable$Span", name := "isNone", desc := "()Z" } : Jvm.MethodName) ({ cls := "LichenTable$Span", name := "isNone", desc := "()Z" } : Jvm.MethodName)) ∈ lw_all := lw_g (lw_at lw_m5 87 rfl) rfl
theorem q1125 : (Jvm.Cond.code ({ cls := "LichenTable$Span", name := "isNone", desc := "()Z" } : Jvm.MethodName) prog_13_method_2_code (1 : Nat) (Option.some Jvm.ClassFile.FieldType.boolean)) ∈ lw_all := lw_g (lw_at lw_m5 88 rfl) rfl
theorem q1227 : (Jvm.Cond.instanceMethod ({ cls := "LichenTable$Span", name := "has", desc := "(I)Z" } : Jvm.MethodName)) ∈ lw_all := lw_g (lw_at lw_m5 190 rfl) rfl
theorem q1228 : (Jvm.Cond.selects "LichenTable$Span" ({ cls := "LichenTable$Span", name := "has", desc := "(I)Z" } : Jvm.MethodName) ({ cls := "LichenTable$Span", name := "has", desc := "(I)Z" } : Jvm.MethodName)) ∈ lw_all := lw_g (lw_at lw_m5 191 rfl) rfl
theorem q1229 : (Jvm.Cond.code ({ cls := "LichenTable$Span", name := "has", desc := "(I)Z" } : Jvm.MethodName) prog_13_method_4_code (2 : Nat) (Option.some Jvm.ClassFile.FieldType.boolean)) ∈ lw_all := lw_g (lw_at lw_m5 192 rfl) rfl
theorem q1829 : (Jvm.Cond.castable "LichenTable$Span" "java/lang/Object") ∈ lw_tbl := lw_at lw_m8 72 rfl
theorem in_X22 : ∀ w ∈ wsX220, w ∈ lw_all := lw_in wsX220 [1097, 1099] (by decide +kernel) (by decide +kernel)

/-! java/util/AbstractCollection -/
def RJ0 : String := "java/util/AbstractCollection"
abbrev cJ0_init : ByteArray := prog_40_method_1_code
def yJ0_init : MethodName := ⟨RJ0, "<init>", "()V"⟩
theorem q79 : (Jvm.Cond.initialized "java/util/AbstractCollection") ∈ lw_all := lw_g (lw_at lw_m1 2 rfl) rfl
theorem q135 : (Jvm.Cond.instanceMethod ({ cls := "java/util/AbstractCollection", name := "<init>", desc := "()V" } : Jvm.MethodName)) ∈ lw_all := lw_g (lw_at lw_m1 58 rfl) rfl
theorem q136 : (Jvm.Cond.code ({ cls := "java/util/AbstractCollection", name := "<init>", desc := "()V" } : Jvm.MethodName) prog_40_method_1_code (1 : Nat) (Option.none : Option Jvm.ClassFile.FieldType)) ∈ lw_all := lw_g (lw_at lw_m1 59 rfl) rfl
theorem q137 : (Jvm.Cond.methodLink "java/util/AbstractCollection" (1 : Nat) ({ cls := "java/lang/Object", name := "<init>", desc := "()V" } : Jvm.MethodName)) ∈ lw_all := lw_g (lw_at lw_m1 60 rfl) rfl

/-! java/util/AbstractList -/
def RJ1 : String := "java/util/AbstractList"
abbrev cJ1_init : ByteArray := prog_41_method_1_code
def yJ1_init : MethodName := ⟨RJ1, "<init>", "()V"⟩
theorem q80 : (Jvm.Cond.initialized "java/util/AbstractList") ∈ lw_all := lw_g (lw_at lw_m1 3 rfl) rfl
theorem q132 : (Jvm.Cond.instanceMethod ({ cls := "java/util/AbstractList", name := "<init>", desc := "()V" } : Jvm.MethodName)) ∈ lw_all := lw_g (lw_at lw_m1 55 rfl) rfl
theorem q133 : (Jvm.Cond.code ({ cls := "java/util/AbstractList", name := "<init>", desc := "()V" } : Jvm.MethodName) prog_41_method_1_code (1 : Nat) (Option.none : Option Jvm.ClassFile.FieldType)) ∈ lw_all := lw_g (lw_at lw_m1 56 rfl) rfl
theorem q134 : (Jvm.Cond.methodLink "java/util/AbstractList" (1 : Nat) ({ cls := "java/util/AbstractCollection", name := "<init>", desc := "()V" } : Jvm.MethodName)) ∈ lw_all := lw_g (lw_at lw_m1 57 rfl) rfl
theorem q142 : (Jvm.Cond.fieldLink "java/util/AbstractList" (7 : Nat) "java/util/AbstractList" "modCount" "I") ∈ lw_all := lw_g (lw_at lw_m1 65 rfl) rfl
theorem q150 : (Jvm.Cond.soleField "java/util/AbstractList" "modCount") ∈ lw_all := lw_g (lw_at lw_m1 73 rfl) rfl

/-! java/util/ArrayList -/
def RJ2 : String := "java/util/ArrayList"
def TJ2 : u_T := fun k => match k with
  | 0 => ("java/util/AbstractList", "modCount", "I", false)
  | 1 => ("java/util/ArrayList", "elementData", "[Ljava/lang/Object;", false)
  | _ => ("java/util/ArrayList", "size", "I", false)
def tyJ2 : Nat → FieldType := fun k => match k with
  | 0 => .int
  | 1 => .array (.object "java/lang/Object")
  | _ => .int
abbrev wsJ20 : List Cond := u_ws RJ2 TJ2 3
theorem nmJ2 : ∀ a, a < 3 → ∀ b, b < 3 → a ≠ b → (TJ2 a).2.1 ≠ (TJ2 b).2.1 := by decide +kernel
theorem tyJ2_ok : ∀ k, k < 3 → parseFieldDescriptor (TJ2 k).2.2.1 = some (tyJ2 k) := by decide +kernel
abbrev cJ2_init : ByteArray := prog_42_method_2_code
def yJ2_init : MethodName := ⟨RJ2, "<init>", "()V"⟩
abbrev cJ2_size : ByteArray := prog_42_method_8_code
def yJ2_size : MethodName := ⟨RJ2, "size", "()I"⟩
abbrev cJ2_add : ByteArray := prog_42_method_25_code
def yJ2_add : MethodName := ⟨RJ2, "add", "(Ljava/lang/Object;)Z"⟩
abbrev cJ2_add_2 : ByteArray := prog_42_method_24_code
def yJ2_add_2 : MethodName := ⟨RJ2, "add", "(Ljava/lang/Object;[Ljava/lang/Object;I)V"⟩
abbrev cJ2_grow : ByteArray := prog_42_method_7_code
def yJ2_grow : MethodName := ⟨RJ2, "grow", "()[Ljava/lang/Object;"⟩
abbrev cJ2_grow_2 : ByteArray := prog_42_method_6_code
def yJ2_grow_2 : MethodName := ⟨RJ2, "grow", "(I)[Ljava/lang/Object;"⟩
abbrev cJ2_get : ByteArray := prog_42_method_20_code
def yJ2_get : MethodName := ⟨RJ2, "get", "(I)Ljava/lang/Object;"⟩
abbrev cJ2_elementData : ByteArray := prog_42_method_18_code
def yJ2_elementData : MethodName := ⟨RJ2, "elementData", "(I)Ljava/lang/Object;"⟩
theorem q81 : (Jvm.Cond.initialized "java/util/ArrayList") ∈ lw_all := lw_g (lw_at lw_m1 4 rfl) rfl
theorem q127 : (Jvm.Cond.instantiable "java/util/ArrayList" (3 : Nat)) ∈ lw_all := lw_g (lw_at lw_m1 50 rfl) rfl
theorem q129 : (Jvm.Cond.instanceMethod ({ cls := "java/util/ArrayList", name := "<init>", desc := "()V" } : Jvm.MethodName)) ∈ lw_all := lw_g (lw_at lw_m1 52 rfl) rfl
theorem q130 : (Jvm.Cond.code ({ cls := "java/util/ArrayList", name := "<init>", desc := "()V" } : Jvm.MethodName) prog_42_method_2_code (1 : Nat) (Option.none : Option Jvm.ClassFile.FieldType)) ∈ lw_all := lw_g (lw_at lw_m1 53 rfl) rfl
theorem q131 : (Jvm.Cond.methodLink "java/util/ArrayList" (1 : Nat) ({ cls := "java/util/AbstractList", name := "<init>", desc := "()V" } : Jvm.MethodName)) ∈ lw_all := lw_g (lw_at lw_m1 54 rfl) rfl
theorem q138 : (Jvm.Cond.fieldLink "java/util/ArrayList" (39 : Nat) "java/util/ArrayList" "DEFAULTCAPACITY_EMPTY_ELEMENTDATA" "[Ljava/lang/Object;") ∈ lw_all := lw_g (lw_at lw_m1 61 rfl) rfl
theorem q139 : (Jvm.Cond.laysStatic "java/util/ArrayList" "DEFAULTCAPACITY_EMPTY_ELEMENTDATA" "[Ljava/lang/Object;") ∈ lw_tbl := lw_at lw_m1 62 rfl
theorem q140 : (Jvm.Cond.fieldLink "java/util/ArrayList" (9 : Nat) "java/util/ArrayList" "elementData" "[Ljava/lang/Object;") ∈ lw_all := lw_g (lw_at lw_m1 63 rfl) rfl
theorem q141 : (Jvm.Cond.fieldLink "java/util/ArrayList" (48 : Nat) "java/util/ArrayList" "size" "I") ∈ lw_all := lw_g (lw_at lw_m1 64 rfl) rfl
theorem q143 : (Jvm.Cond.fieldLink "java/util/ArrayList" (63 : Nat) "java/util/ArrayList" "modCount" "I") ∈ lw_all := lw_g (lw_at lw_m1 66 rfl) rfl
theorem q144 : (Jvm.Cond.sameField "java/util/ArrayList" "java/util/AbstractList" "modCount" "I") ∈ lw_all := lw_g (lw_at lw_m1 67 rfl) rfl
theorem q145 : (Jvm.Cond.lays "java/util/ArrayList" "java/util/ArrayList" "elementData" "[Ljava/lang/Object;") ∈ lw_all := lw_g (lw_at lw_m1 68 rfl) rfl
theorem q146 : (Jvm.Cond.soleField "java/util/ArrayList" "elementData") ∈ lw_all := lw_g (lw_at lw_m1 69 rfl) rfl
theorem q147 : (Jvm.Cond.lays "java/util/ArrayList" "java/util/ArrayList" "size" "I") ∈ lw_all := lw_g (lw_at lw_m1 70 rfl) rfl
theorem q148 : (Jvm.Cond.soleField "java/util/ArrayList" "size") ∈ lw_all := lw_g (lw_at lw_m1 71 rfl) rfl
theorem q149 : (Jvm.Cond.lays "java/util/ArrayList" "java/util/AbstractList" "modCount" "I") ∈ lw_all := lw_g (lw_at lw_m1 72 rfl) rfl
theorem q151 : (Jvm.Cond.superclass "java/util/ArrayList" "java/util/AbstractList") ∈ lw_all := lw_g (lw_at lw_m1 74 rfl) rfl
theorem q246 : (Jvm.Cond.instanceMethod ({ cls := "java/util/ArrayList", name := "size", desc := "()I" } : Jvm.MethodName)) ∈ lw_all := lw_g (lw_at lw_m1 169 rfl) rfl
theorem q247 : (Jvm.Cond.selects "java/util/ArrayList" ({ cls := "java/util/ArrayList", name := "size", desc := "()I" } : Jvm.MethodName) ({ cls := "java/util/ArrayList", name := "size", desc := "()I" } : Jvm.MethodName)) ∈ lw_all := lw_g (lw_at lw_m1 170 rfl) rfl
theorem q248 : (Jvm.Cond.code ({ cls := "java/util/ArrayList", name := "size", desc := "()I" } : Jvm.MethodName) prog_42_method_8_code (1 : Nat) (Option.some Jvm.ClassFile.FieldType.int)) ∈ lw_all := lw_g (lw_at lw_m1 171 rfl) rfl
theorem q285 : (Jvm.Cond.instanceMethod ({ cls := "java/util/ArrayList", name := "add", desc := "(Ljava/lang/Object;)Z" } : Jvm.MethodName)) ∈ lw_all := lw_g (lw_at lw_m1 208 rfl) rfl
theorem q286 : (Jvm.Cond.selects "java/util/ArrayList" ({ cls := "java/util/ArrayList", name := "add", desc := "(Ljava/lang/Object;)Z" } : Jvm.MethodName) ({ cls := "java/util/ArrayList", name := "add", desc := "(Ljava/lang/Object;)Z" } : Jvm.MethodName)) ∈ lw_all := lw_g (lw_at lw_m1 209 rfl) rfl
theorem q287 : (Jvm.Cond.code ({ cls := "java/util/ArrayList", name := "add", desc := "(Ljava/lang/Object;)Z" } : Jvm.MethodName) prog_42_method_25_code (2 : Nat) (Option.some Jvm.ClassFile.FieldType.boolean)) ∈ lw_all := lw_g (lw_at lw_m1 210 rfl) rfl
theorem q288 : (Jvm.Cond.methodLink "java/util/ArrayList" (131 : Nat) ({ cls := "java/util/ArrayList", name := "add", desc := "(Ljava/lang/Object;[Ljava/lang/Object;I)V" } : Jvm.MethodName)) ∈ lw_all := lw_g (lw_at lw_m1 211 rfl) rfl
theorem q289 : (Jvm.Cond.privateMethod ({ cls := "java/util/ArrayList", name := "add", desc := "(Ljava/lang/Object;[Ljava/lang/Object;I)V" } : Jvm.MethodName)) ∈ lw_tbl := lw_at lw_m1 212 rfl
theorem q290 : (Jvm.Cond.instanceMethod ({ cls := "java/util/ArrayList", name := "add", desc := "(Ljava/lang/Object;[Ljava/lang/Object;I)V" } : Jvm.MethodName)) ∈ lw_all := lw_g (lw_at lw_m1 213 rfl) rfl
theorem q291 : (Jvm.Cond.code ({ cls := "java/util/ArrayList", name := "add", desc := "(Ljava/lang/Object;[Ljava/lang/Object;I)V" } : Jvm.MethodName) prog_42_method_24_code (4 : Nat) (Option.none : Option Jvm.ClassFile.FieldType)) ∈ lw_all := lw_g (lw_at lw_m1 214 rfl) rfl
theorem q292 : (Jvm.Cond.methodLink "java/util/ArrayList" (129 : Nat) ({ cls := "java/util/ArrayList", name := "grow", desc := "()[Ljava/lang/Object;" } : Jvm.MethodName)) ∈ lw_all := lw_g (lw_at lw_m1 215 rfl) rfl
theorem q293 : (Jvm.Cond.privateMethod ({ cls := "java/util/ArrayList", name := "grow", desc := "()[Ljava/lang/Object;" } : Jvm.MethodName)) ∈ lw_tbl := lw_at lw_m1 216 rfl
theorem q294 : (Jvm.Cond.instanceMethod ({ cls := "java/util/ArrayList", name := "grow", desc := "()[Ljava/lang/Object;" } : Jvm.MethodName)) ∈ lw_all := lw_g (lw_at lw_m1 217 rfl) rfl
theorem q295 : (Jvm.Cond.code ({ cls := "java/util/ArrayList", name := "grow", desc := "()[Ljava/lang/Object;" } : Jvm.MethodName) prog_42_method_7_code (1 : Nat) (Option.some (Jvm.ClassFile.FieldType.array (Jvm.ClassFile.FieldType.object "java/lang/Object")))) ∈ lw_all := lw_g (lw_at lw_m1 218 rfl) rfl
theorem q296 : (Jvm.Cond.methodLink "java/util/ArrayList" (69 : Nat) ({ cls := "java/util/ArrayList", name := "grow", desc := "(I)[Ljava/lang/Object;" } : Jvm.MethodName)) ∈ lw_all := lw_g (lw_at lw_m1 219 rfl) rfl
theorem q297 : (Jvm.Cond.privateMethod ({ cls := "java/util/ArrayList", name := "grow", desc := "(I)[Ljava/lang/Object;" } : Jvm.MethodName)) ∈ lw_tbl := lw_at lw_m1 220 rfl
theorem q298 : (Jvm.Cond.instanceMethod ({ cls := "java/util/ArrayList", name := "grow", desc := "(I)[Ljava/lang/Object;" } : Jvm.MethodName)) ∈ lw_all := lw_g (lw_at lw_m1 221 rfl) rfl
theorem q299 : (Jvm.Cond.code ({ cls := "java/util/ArrayList", name := "grow", desc := "(I)[Ljava/lang/Object;" } : Jvm.MethodName) prog_42_method_6_code (4 : Nat) (Option.some (Jvm.ClassFile.FieldType.array (Jvm.ClassFile.FieldType.object "java/lang/Object")))) ∈ lw_all := lw_g (lw_at lw_m1 222 rfl) rfl
theorem q300 : (Jvm.Cond.methodLink "java/util/ArrayList" (73 : Nat) ({ cls := "jdk/internal/util/ArraysSupport", name := "newLength", desc := "(III)I" } : Jvm.MethodName)) ∈ lw_all := lw_g (lw_at lw_m1 223 rfl) rfl
theorem q310 : (Jvm.Cond.methodLink "java/util/ArrayList" (66 : Nat) ({ cls := "java/util/Arrays", name := "copyOf", desc := "([Ljava/lang/Object;I)[Ljava/lang/Object;" } : Jvm.MethodName)) ∈ lw_all := lw_g (lw_at lw_m1 233 rfl) rfl
theorem q335 : (Jvm.Cond.selects "java/util/ArrayList" ({ cls := "java/lang/Object", name := "getClass", desc := "()Ljava/lang/Class;" } : Jvm.MethodName) ({ cls := "java/lang/Object", name := "getClass", desc := "()Ljava/lang/Class;" } : Jvm.MethodName)) ∈ lw_all := lw_g (lw_at lw_m2 18 rfl) rfl
theorem q350 : (Jvm.Cond.methodLink "java/util/ArrayList" (79 : Nat) ({ cls := "java/lang/Math", name := "max", desc := "(II)I" } : Jvm.MethodName)) ∈ lw_all := lw_g (lw_at lw_m2 33 rfl) rfl
theorem q351 : (Jvm.Cond.classLink "java/util/ArrayList" (7 : Nat) "java/lang/Object") ∈ lw_all := lw_g (lw_at lw_m2 34 rfl) rfl
theorem q369 : (Jvm.Cond.instanceMethod ({ cls := "java/util/ArrayList", name := "get", desc := "(I)Ljava/lang/Object;" } : Jvm.MethodName)) ∈ lw_all := lw_g (lw_at lw_m2 52 rfl) rfl
theorem q370 : (Jvm.Cond.selects "java/util/ArrayList" ({ cls := "java/util/ArrayList", name := "get", desc := "(I)Ljava/lang/Object;" } : Jvm.MethodName) ({ cls := "java/util/ArrayList", name := "get", desc := "(I)Ljava/lang/Object;" } : Jvm.MethodName)) ∈ lw_all := lw_g (lw_at lw_m2 53 rfl) rfl
theorem q371 : (Jvm.Cond.code ({ cls := "java/util/ArrayList", name := "get", desc := "(I)Ljava/lang/Object;" } : Jvm.MethodName) prog_42_method_20_code (2 : Nat) (Option.some (Jvm.ClassFile.FieldType.object "java/lang/Object"))) ∈ lw_all := lw_g (lw_at lw_m2 54 rfl) rfl
theorem q372 : (Jvm.Cond.methodLink "java/util/ArrayList" (118 : Nat) ({ cls := "java/util/Objects", name := "checkIndex", desc := "(II)I" } : Jvm.MethodName)) ∈ lw_all := lw_g (lw_at lw_m2 55 rfl) rfl
theorem q378 : (Jvm.Cond.methodLink "java/util/ArrayList" (123 : Nat) ({ cls := "java/util/ArrayList", name := "elementData", desc := "(I)Ljava/lang/Object;" } : Jvm.MethodName)) ∈ lw_all := lw_g (lw_at lw_m2 61 rfl) rfl
theorem q379 : (Jvm.Cond.instanceMethod ({ cls := "java/util/ArrayList", name := "elementData", desc := "(I)Ljava/lang/Object;" } : Jvm.MethodName)) ∈ lw_all := lw_g (lw_at lw_m2 62 rfl) rfl
theorem q380 : (Jvm.Cond.selects "java/util/ArrayList" ({ cls := "java/util/ArrayList", name := "elementData", desc := "(I)Ljava/lang/Object;" } : Jvm.MethodName) ({ cls := "java/util/ArrayList", name := "elementData", desc := "(I)Ljava/lang/Object;" } : Jvm.MethodName)) ∈ lw_all := lw_g (lw_at lw_m2 63 rfl) rfl
theorem q381 : (Jvm.Cond.code ({ cls := "java/util/ArrayList", name := "elementData", desc := "(I)Ljava/lang/Object;" } : Jvm.MethodName) prog_42_method_18_code (2 : Nat) (Option.some (Jvm.ClassFile.FieldType.object "java/lang/Object"))) ∈ lw_all := lw_g (lw_at lw_m2 64 rfl) rfl
theorem q1831 : (Jvm.Cond.castable "java/util/ArrayList" "java/lang/Object") ∈ lw_tbl := lw_at lw_m8 74 rfl
theorem in_J2 : ∀ w ∈ wsJ20, w ∈ lw_all := lw_in wsJ20 [149, 145, 147] (by decide +kernel) (by decide +kernel)

/-! jdk/internal/util/ArraysSupport -/
def RJ3 : String := "jdk/internal/util/ArraysSupport"
abbrev cJ3_newLength : ByteArray := prog_51_method_27_code
def yJ3_newLength : MethodName := ⟨RJ3, "newLength", "(III)I"⟩
abbrev cJ3_hugeLength : ByteArray := prog_51_method_28_code
def yJ3_hugeLength : MethodName := ⟨RJ3, "hugeLength", "(II)I"⟩
theorem q85 : (Jvm.Cond.initialized "jdk/internal/util/ArraysSupport") ∈ lw_all := lw_g (lw_at lw_m1 8 rfl) rfl
theorem q301 : (Jvm.Cond.static ({ cls := "jdk/internal/util/ArraysSupport", name := "newLength", desc := "(III)I" } : Jvm.MethodName)) ∈ lw_all := lw_g (lw_at lw_m1 224 rfl) rfl
theorem q302 : (Jvm.Cond.code ({ cls := "jdk/internal/util/ArraysSupport", name := "newLength", desc := "(III)I" } : Jvm.MethodName) prog_51_method_27_code (4 : Nat) (Option.some Jvm.ClassFile.FieldType.int)) ∈ lw_all := lw_g (lw_at lw_m1 225 rfl) rfl
theorem q303 : (Jvm.Cond.methodLink "jdk/internal/util/ArraysSupport" (194 : Nat) ({ cls := "java/lang/Math", name := "max", desc := "(II)I" } : Jvm.MethodName)) ∈ lw_all := lw_g (lw_at lw_m1 226 rfl) rfl
theorem q306 : (Jvm.Cond.constant "jdk/internal/util/ArraysSupport" (200 : Nat) (2147483639 : Int32)) ∈ lw_all := lw_g (lw_at lw_m1 229 rfl) rfl
theorem q307 : (Jvm.Cond.methodLink "jdk/internal/util/ArraysSupport" (201 : Nat) ({ cls := "jdk/internal/util/ArraysSupport", name := "hugeLength", desc := "(II)I" } : Jvm.MethodName)) ∈ lw_all := lw_g (lw_at lw_m1 230 rfl) rfl
theorem q308 : (Jvm.Cond.static ({ cls := "jdk/internal/util/ArraysSupport", name := "hugeLength", desc := "(II)I" } : Jvm.MethodName)) ∈ lw_all := lw_g (lw_at lw_m1 231 rfl) rfl
theorem q309 : (Jvm.Cond.code ({ cls := "jdk/internal/util/ArraysSupport", name := "hugeLength", desc := "(II)I" } : Jvm.MethodName) prog_51_method_28_code (3 : Nat) (Option.some Jvm.ClassFile.FieldType.int)) ∈ lw_all := lw_g (lw_at lw_m1 232 rfl) rfl

/-! java/lang/Math -/
def RJ4 : String := "java/lang/Math"
abbrev cJ4_max : ByteArray := prog_31_method_65_code
def yJ4_max : MethodName := ⟨RJ4, "max", "(II)I"⟩
abbrev cJ4_min : ByteArray := prog_31_method_69_code
def yJ4_min : MethodName := ⟨RJ4, "min", "(II)I"⟩
theorem q86 : (Jvm.Cond.initialized "java/lang/Math") ∈ lw_all := lw_g (lw_at lw_m1 9 rfl) rfl
theorem q304 : (Jvm.Cond.static ({ cls := "java/lang/Math", name := "max", desc := "(II)I" } : Jvm.MethodName)) ∈ lw_all := lw_g (lw_at lw_m1 227 rfl) rfl
theorem q305 : (Jvm.Cond.code ({ cls := "java/lang/Math", name := "max", desc := "(II)I" } : Jvm.MethodName) prog_31_method_65_code (2 : Nat) (Option.some Jvm.ClassFile.FieldType.int)) ∈ lw_all := lw_g (lw_at lw_m1 228 rfl) rfl
theorem q345 : (Jvm.Cond.static ({ cls := "java/lang/Math", name := "min", desc := "(II)I" } : Jvm.MethodName)) ∈ lw_all := lw_g (lw_at lw_m2 28 rfl) rfl
theorem q346 : (Jvm.Cond.code ({ cls := "java/lang/Math", name := "min", desc := "(II)I" } : Jvm.MethodName) prog_31_method_69_code (2 : Nat) (Option.some Jvm.ClassFile.FieldType.int)) ∈ lw_all := lw_g (lw_at lw_m2 29 rfl) rfl

/-! java/util/Arrays -/
def RJ5 : String := "java/util/Arrays"
abbrev cJ5_copyOf : ByteArray := prog_43_method_119_code
def yJ5_copyOf : MethodName := ⟨RJ5, "copyOf", "([Ljava/lang/Object;I)[Ljava/lang/Object;"⟩
abbrev cJ5_copyOf_2 : ByteArray := prog_43_method_120_code
def yJ5_copyOf_2 : MethodName := ⟨RJ5, "copyOf", "([Ljava/lang/Object;ILjava/lang/Class;)[Ljava/lang/Object;"⟩
abbrev cJ5_sort : ByteArray := prog_43_method_2_code
def yJ5_sort : MethodName := ⟨RJ5, "sort", "([I)V"⟩
abbrev cJ5_copyOf_3 : ByteArray := prog_43_method_123_code
def yJ5_copyOf_3 : MethodName := ⟨RJ5, "copyOf", "([II)[I"⟩
theorem q87 : (Jvm.Cond.initialized "java/util/Arrays") ∈ lw_all := lw_g (lw_at lw_m1 10 rfl) rfl
theorem q311 : (Jvm.Cond.static ({ cls := "java/util/Arrays", name := "copyOf", desc := "([Ljava/lang/Object;I)[Ljava/lang/Object;" } : Jvm.MethodName)) ∈ lw_all := lw_g (lw_at lw_m1 234 rfl) rfl
theorem q312 : (Jvm.Cond.code ({ cls := "java/util/Arrays", name := "copyOf", desc := "([Ljava/lang/Object;I)[Ljava/lang/Object;" } : Jvm.MethodName) prog_43_method_119_code (2 : Nat) (Option.some (Jvm.ClassFile.FieldType.array (Jvm.ClassFile.FieldType.object "java/lang/Object")))) ∈ lw_all := lw_g (lw_at lw_m1 235 rfl) rfl
theorem q313 : (Jvm.Cond.methodLink "java/util/Arrays" (86 : Nat) ({ cls := "java/lang/Object", name := "getClass", desc := "()Ljava/lang/Class;" } : Jvm.MethodName)) ∈ lw_all := lw_g (lw_at lw_m1 236 rfl) rfl
theorem q338 : (Jvm.Cond.methodLink "java/util/Arrays" (300 : Nat) ({ cls := "java/util/Arrays", name := "copyOf", desc := "([Ljava/lang/Object;ILjava/lang/Class;)[Ljava/lang/Object;" } : Jvm.MethodName)) ∈ lw_all := lw_g (lw_at lw_m2 21 rfl) rfl
theorem q339 : (Jvm.Cond.static ({ cls := "java/util/Arrays", name := "copyOf", desc := "([Ljava/lang/Object;ILjava/lang/Class;)[Ljava/lang/Object;" } : Jvm.MethodName)) ∈ lw_all := lw_g (lw_at lw_m2 22 rfl) rfl
theorem q340 : (Jvm.Cond.code ({ cls := "java/util/Arrays", name := "copyOf", desc := "([Ljava/lang/Object;ILjava/lang/Class;)[Ljava/lang/Object;" } : Jvm.MethodName) prog_43_method_120_code (4 : Nat) (Option.some (Jvm.ClassFile.FieldType.array (Jvm.ClassFile.FieldType.object "java/lang/Object")))) ∈ lw_all := lw_g (lw_at lw_m2 23 rfl) rfl
theorem q341 : (Jvm.Cond.classLink "java/util/Arrays" (110 : Nat) "[Ljava/lang/Object;") ∈ lw_all := lw_g (lw_at lw_m2 24 rfl) rfl
theorem q343 : (Jvm.Cond.classLink "java/util/Arrays" (2 : Nat) "java/lang/Object") ∈ lw_all := lw_g (lw_at lw_m2 26 rfl) rfl
theorem q344 : (Jvm.Cond.methodLink "java/util/Arrays" (304 : Nat) ({ cls := "java/lang/Math", name := "min", desc := "(II)I" } : Jvm.MethodName)) ∈ lw_all := lw_g (lw_at lw_m2 27 rfl) rfl
theorem q347 : (Jvm.Cond.methodLink "java/util/Arrays" (150 : Nat) ({ cls := "java/lang/System", name := "arraycopy", desc := "(Ljava/lang/Object;ILjava/lang/Object;II)V" } : Jvm.MethodName)) ∈ lw_all := lw_g (lw_at lw_m2 30 rfl) rfl
theorem q1163 : (Jvm.Cond.static ({ cls := "java/util/Arrays", name := "sort", desc := "([I)V" } : Jvm.MethodName)) ∈ lw_all := lw_g (lw_at lw_m5 126 rfl) rfl
theorem q1164 : (Jvm.Cond.code ({ cls := "java/util/Arrays", name := "sort", desc := "([I)V" } : Jvm.MethodName) prog_43_method_2_code (1 : Nat) (Option.none : Option Jvm.ClassFile.FieldType)) ∈ lw_all := lw_g (lw_at lw_m5 127 rfl) rfl
theorem q1165 : (Jvm.Cond.methodLink "java/util/Arrays" (7 : Nat) ({ cls := "java/util/DualPivotQuicksort", name := "sort", desc := "([IIII)V" } : Jvm.MethodName)) ∈ lw_all := lw_g (lw_at lw_m5 128 rfl) rfl
theorem q1181 : (Jvm.Cond.static ({ cls := "java/util/Arrays", name := "copyOf", desc := "([II)[I" } : Jvm.MethodName)) ∈ lw_all := lw_g (lw_at lw_m5 144 rfl) rfl
theorem q1182 : (Jvm.Cond.code ({ cls := "java/util/Arrays", name := "copyOf", desc := "([II)[I" } : Jvm.MethodName) prog_43_method_123_code (3 : Nat) (Option.some (Jvm.ClassFile.FieldType.array Jvm.ClassFile.FieldType.int))) ∈ lw_all := lw_g (lw_at lw_m5 145 rfl) rfl
theorem q1183 : (Jvm.Cond.methodLink "java/util/Arrays" (316 : Nat) ({ cls := "[I", name := "clone", desc := "()Ljava/lang/Object;" } : Jvm.MethodName)) ∈ lw_all := lw_g (lw_at lw_m5 146 rfl) rfl
theorem q1189 : (Jvm.Cond.classLink "java/util/Arrays" (317 : Nat) "[I") ∈ lw_all := lw_g (lw_at lw_m5 152 rfl) rfl

/-! java/util/Objects -/
def RJ6 : String := "java/util/Objects"
abbrev cJ6_checkIndex : ByteArray := prog_48_method_17_code
def yJ6_checkIndex : MethodName := ⟨RJ6, "checkIndex", "(II)I"⟩
theorem q90 : (Jvm.Cond.initialized "java/util/Objects") ∈ lw_all := lw_g (lw_at lw_m1 13 rfl) rfl
theorem q373 : (Jvm.Cond.static ({ cls := "java/util/Objects", name := "checkIndex", desc := "(II)I" } : Jvm.MethodName)) ∈ lw_all := lw_g (lw_at lw_m2 56 rfl) rfl
theorem q374 : (Jvm.Cond.code ({ cls := "java/util/Objects", name := "checkIndex", desc := "(II)I" } : Jvm.MethodName) prog_48_method_17_code (2 : Nat) (Option.some Jvm.ClassFile.FieldType.int)) ∈ lw_all := lw_g (lw_at lw_m2 57 rfl) rfl
theorem q375 : (Jvm.Cond.methodLink "java/util/Objects" (105 : Nat) ({ cls := "jdk/internal/util/Preconditions", name := "checkIndex", desc := "(IILjava/util/function/BiFunction;)I" } : Jvm.MethodName)) ∈ lw_all := lw_g (lw_at lw_m2 58 rfl) rfl

/-! jdk/internal/util/Preconditions -/
def RJ7 : String := "jdk/internal/util/Preconditions"
abbrev cJ7_checkIndex : ByteArray := prog_52_method_11_code
def yJ7_checkIndex : MethodName := ⟨RJ7, "checkIndex", "(IILjava/util/function/BiFunction;)I"⟩
theorem q91 : (Jvm.Cond.initialized "jdk/internal/util/Preconditions") ∈ lw_all := lw_g (lw_at lw_m1 14 rfl) rfl
theorem q376 : (Jvm.Cond.static ({ cls := "jdk/internal/util/Preconditions", name := "checkIndex", desc := "(IILjava/util/function/BiFunction;)I" } : Jvm.MethodName)) ∈ lw_all := lw_g (lw_at lw_m2 59 rfl) rfl
theorem q377 : (Jvm.Cond.code ({ cls := "jdk/internal/util/Preconditions", name := "checkIndex", desc := "(IILjava/util/function/BiFunction;)I" } : Jvm.MethodName) prog_52_method_11_code (3 : Nat) (Option.some Jvm.ClassFile.FieldType.int)) ∈ lw_all := lw_g (lw_at lw_m2 60 rfl) rfl
theorem q645 : (Jvm.Cond.laysStatic "jdk/internal/util/Preconditions" "SIOOBE_FORMATTER" "Ljava/util/function/BiFunction;") ∈ lw_tbl := lw_at lw_m3 88 rfl

/-! java/lang/String -/
def RJ8 : String := "java/lang/String"
abbrev cJ8_length : ByteArray := prog_33_method_54_code
def yJ8_length : MethodName := ⟨RJ8, "length", "()I"⟩
abbrev cJ8_coder : ByteArray := prog_33_method_152_code
def yJ8_coder : MethodName := ⟨RJ8, "coder", "()B"⟩
abbrev cJ8_charAt : ByteArray := prog_33_method_56_code
def yJ8_charAt : MethodName := ⟨RJ8, "charAt", "(I)C"⟩
abbrev cJ8_isLatin1 : ByteArray := prog_33_method_154_code
def yJ8_isLatin1 : MethodName := ⟨RJ8, "isLatin1", "()Z"⟩
abbrev cJ8_checkIndex : ByteArray := prog_33_method_155_code
def yJ8_checkIndex : MethodName := ⟨RJ8, "checkIndex", "(II)V"⟩
theorem q98 : (Jvm.Cond.initialized "java/lang/String") ∈ lw_all := lw_g (lw_at lw_m1 21 rfl) rfl
theorem q621 : (Jvm.Cond.instanceMethod ({ cls := "java/lang/String", name := "length", desc := "()I" } : Jvm.MethodName)) ∈ lw_all := lw_g (lw_at lw_m3 64 rfl) rfl
theorem q622 : (Jvm.Cond.selects "java/lang/String" ({ cls := "java/lang/String", name := "length", desc := "()I" } : Jvm.MethodName) ({ cls := "java/lang/String", name := "length", desc := "()I" } : Jvm.MethodName)) ∈ lw_all := lw_g (lw_at lw_m3 65 rfl) rfl
theorem q623 : (Jvm.Cond.code ({ cls := "java/lang/String", name := "length", desc := "()I" } : Jvm.MethodName) prog_33_method_54_code (1 : Nat) (Option.some Jvm.ClassFile.FieldType.int)) ∈ lw_all := lw_g (lw_at lw_m3 66 rfl) rfl
theorem q624 : (Jvm.Cond.methodLink "java/lang/String" (335 : Nat) ({ cls := "java/lang/String", name := "coder", desc := "()B" } : Jvm.MethodName)) ∈ lw_all := lw_g (lw_at lw_m3 67 rfl) rfl
theorem q625 : (Jvm.Cond.instanceMethod ({ cls := "java/lang/String", name := "coder", desc := "()B" } : Jvm.MethodName)) ∈ lw_all := lw_g (lw_at lw_m3 68 rfl) rfl
theorem q626 : (Jvm.Cond.selects "java/lang/String" ({ cls := "java/lang/String", name := "coder", desc := "()B" } : Jvm.MethodName) ({ cls := "java/lang/String", name := "coder", desc := "()B" } : Jvm.MethodName)) ∈ lw_all := lw_g (lw_at lw_m3 69 rfl) rfl
theorem q627 : (Jvm.Cond.code ({ cls := "java/lang/String", name := "coder", desc := "()B" } : Jvm.MethodName) prog_33_method_152_code (1 : Nat) (Option.some Jvm.ClassFile.FieldType.byte)) ∈ lw_all := lw_g (lw_at lw_m3 70 rfl) rfl
theorem q628 : (Jvm.Cond.fieldLink "java/lang/String" (38 : Nat) "java/lang/String" "COMPACT_STRINGS" "Z") ∈ lw_all := lw_g (lw_at lw_m3 71 rfl) rfl
theorem q629 : (Jvm.Cond.laysStatic "java/lang/String" "COMPACT_STRINGS" "Z") ∈ lw_tbl := lw_at lw_m3 72 rfl
theorem q631 : (Jvm.Cond.instanceMethod ({ cls := "java/lang/String", name := "charAt", desc := "(I)C" } : Jvm.MethodName)) ∈ lw_all := lw_g (lw_at lw_m3 74 rfl) rfl
theorem q632 : (Jvm.Cond.selects "java/lang/String" ({ cls := "java/lang/String", name := "charAt", desc := "(I)C" } : Jvm.MethodName) ({ cls := "java/lang/String", name := "charAt", desc := "(I)C" } : Jvm.MethodName)) ∈ lw_all := lw_g (lw_at lw_m3 75 rfl) rfl
theorem q633 : (Jvm.Cond.code ({ cls := "java/lang/String", name := "charAt", desc := "(I)C" } : Jvm.MethodName) prog_33_method_56_code (2 : Nat) (Option.some Jvm.ClassFile.FieldType.char)) ∈ lw_all := lw_g (lw_at lw_m3 76 rfl) rfl
theorem q634 : (Jvm.Cond.methodLink "java/lang/String" (492 : Nat) ({ cls := "java/lang/String", name := "isLatin1", desc := "()Z" } : Jvm.MethodName)) ∈ lw_all := lw_g (lw_at lw_m3 77 rfl) rfl
theorem q635 : (Jvm.Cond.instanceMethod ({ cls := "java/lang/String", name := "isLatin1", desc := "()Z" } : Jvm.MethodName)) ∈ lw_all := lw_g (lw_at lw_m3 78 rfl) rfl
theorem q636 : (Jvm.Cond.selects "java/lang/String" ({ cls := "java/lang/String", name := "isLatin1", desc := "()Z" } : Jvm.MethodName) ({ cls := "java/lang/String", name := "isLatin1", desc := "()Z" } : Jvm.MethodName)) ∈ lw_all := lw_g (lw_at lw_m3 79 rfl) rfl
theorem q637 : (Jvm.Cond.code ({ cls := "java/lang/String", name := "isLatin1", desc := "()Z" } : Jvm.MethodName) prog_33_method_154_code (1 : Nat) (Option.some Jvm.ClassFile.FieldType.boolean)) ∈ lw_all := lw_g (lw_at lw_m3 80 rfl) rfl
theorem q638 : (Jvm.Cond.methodLink "java/lang/String" (495 : Nat) ({ cls := "java/lang/StringLatin1", name := "charAt", desc := "([BI)C" } : Jvm.MethodName)) ∈ lw_all := lw_g (lw_at lw_m3 81 rfl) rfl
theorem q642 : (Jvm.Cond.static ({ cls := "java/lang/String", name := "checkIndex", desc := "(II)V" } : Jvm.MethodName)) ∈ lw_all := lw_g (lw_at lw_m3 85 rfl) rfl
theorem q643 : (Jvm.Cond.code ({ cls := "java/lang/String", name := "checkIndex", desc := "(II)V" } : Jvm.MethodName) prog_33_method_155_code (2 : Nat) (Option.none : Option Jvm.ClassFile.FieldType)) ∈ lw_all := lw_g (lw_at lw_m3 86 rfl) rfl
theorem q644 : (Jvm.Cond.fieldLink "java/lang/String" (1053 : Nat) "jdk/internal/util/Preconditions" "SIOOBE_FORMATTER" "Ljava/util/function/BiFunction;") ∈ lw_all := lw_g (lw_at lw_m3 87 rfl) rfl
theorem q646 : (Jvm.Cond.methodLink "java/lang/String" (1059 : Nat) ({ cls := "jdk/internal/util/Preconditions", name := "checkIndex", desc := "(IILjava/util/function/BiFunction;)I" } : Jvm.MethodName)) ∈ lw_all := lw_g (lw_at lw_m3 89 rfl) rfl
theorem q647 : (Jvm.Cond.methodLink "java/lang/String" (498 : Nat) ({ cls := "java/lang/StringUTF16", name := "charAt", desc := "([BI)C" } : Jvm.MethodName)) ∈ lw_all := lw_g (lw_at lw_m3 90 rfl) rfl
theorem q1850 : (Jvm.Cond.castable "java/lang/String" "java/lang/Object") ∈ lw_tbl := lw_at lw_m8 93 rfl
theorem q1862 : (Jvm.Cond.fieldLink "java/lang/String" (9 : Nat) "java/lang/String" "value" "[B") ∈ lw_all := lw_g (lw_at lw_m8 105 rfl) rfl
theorem q1863 : (Jvm.Cond.fieldLink "java/lang/String" (15 : Nat) "java/lang/String" "coder" "B") ∈ lw_all := lw_g (lw_at lw_m8 106 rfl) rfl

/-! java/lang/StringLatin1 -/
def RJ9 : String := "java/lang/StringLatin1"
abbrev cJ9_charAt : ByteArray := prog_34_method_2_code
def yJ9_charAt : MethodName := ⟨RJ9, "charAt", "([BI)C"⟩
theorem q99 : (Jvm.Cond.initialized "java/lang/StringLatin1") ∈ lw_all := lw_g (lw_at lw_m1 22 rfl) rfl
theorem q639 : (Jvm.Cond.static ({ cls := "java/lang/StringLatin1", name := "charAt", desc := "([BI)C" } : Jvm.MethodName)) ∈ lw_all := lw_g (lw_at lw_m3 82 rfl) rfl
theorem q640 : (Jvm.Cond.code ({ cls := "java/lang/StringLatin1", name := "charAt", desc := "([BI)C" } : Jvm.MethodName) prog_34_method_2_code (2 : Nat) (Option.some Jvm.ClassFile.FieldType.char)) ∈ lw_all := lw_g (lw_at lw_m3 83 rfl) rfl
theorem q641 : (Jvm.Cond.methodLink "java/lang/StringLatin1" (9 : Nat) ({ cls := "java/lang/String", name := "checkIndex", desc := "(II)V" } : Jvm.MethodName)) ∈ lw_all := lw_g (lw_at lw_m3 84 rfl) rfl

/-! java/lang/StringUTF16 -/
def RJ10 : String := "java/lang/StringUTF16"
abbrev cJ10_charAt : ByteArray := prog_35_method_83_code
def yJ10_charAt : MethodName := ⟨RJ10, "charAt", "([BI)C"⟩
abbrev cJ10_checkIndex : ByteArray := prog_35_method_91_code
def yJ10_checkIndex : MethodName := ⟨RJ10, "checkIndex", "(I[B)V"⟩
abbrev cJ10_length : ByteArray := prog_35_method_6_code
def yJ10_length : MethodName := ⟨RJ10, "length", "([B)I"⟩
abbrev cJ10_getChar : ByteArray := prog_35_method_5_code
def yJ10_getChar : MethodName := ⟨RJ10, "getChar", "([BI)C"⟩
theorem q100 : (Jvm.Cond.initialized "java/lang/StringUTF16") ∈ lw_all := lw_g (lw_at lw_m1 23 rfl) rfl
theorem q648 : (Jvm.Cond.static ({ cls := "java/lang/StringUTF16", name := "charAt", desc := "([BI)C" } : Jvm.MethodName)) ∈ lw_all := lw_g (lw_at lw_m3 91 rfl) rfl
theorem q649 : (Jvm.Cond.code ({ cls := "java/lang/StringUTF16", name := "charAt", desc := "([BI)C" } : Jvm.MethodName) prog_35_method_83_code (2 : Nat) (Option.some Jvm.ClassFile.FieldType.char)) ∈ lw_all := lw_g (lw_at lw_m3 92 rfl) rfl
theorem q650 : (Jvm.Cond.methodLink "java/lang/StringUTF16" (67 : Nat) ({ cls := "java/lang/StringUTF16", name := "checkIndex", desc := "(I[B)V" } : Jvm.MethodName)) ∈ lw_all := lw_g (lw_at lw_m3 93 rfl) rfl
theorem q651 : (Jvm.Cond.static ({ cls := "java/lang/StringUTF16", name := "checkIndex", desc := "(I[B)V" } : Jvm.MethodName)) ∈ lw_all := lw_g (lw_at lw_m3 94 rfl) rfl
theorem q652 : (Jvm.Cond.code ({ cls := "java/lang/StringUTF16", name := "checkIndex", desc := "(I[B)V" } : Jvm.MethodName) prog_35_method_91_code (2 : Nat) (Option.none : Option Jvm.ClassFile.FieldType)) ∈ lw_all := lw_g (lw_at lw_m3 95 rfl) rfl
theorem q653 : (Jvm.Cond.methodLink "java/lang/StringUTF16" (48 : Nat) ({ cls := "java/lang/StringUTF16", name := "length", desc := "([B)I" } : Jvm.MethodName)) ∈ lw_all := lw_g (lw_at lw_m3 96 rfl) rfl
theorem q654 : (Jvm.Cond.static ({ cls := "java/lang/StringUTF16", name := "length", desc := "([B)I" } : Jvm.MethodName)) ∈ lw_all := lw_g (lw_at lw_m3 97 rfl) rfl
theorem q655 : (Jvm.Cond.code ({ cls := "java/lang/StringUTF16", name := "length", desc := "([B)I" } : Jvm.MethodName) prog_35_method_6_code (1 : Nat) (Option.some Jvm.ClassFile.FieldType.int)) ∈ lw_all := lw_g (lw_at lw_m3 98 rfl) rfl
theorem q656 : (Jvm.Cond.methodLink "java/lang/StringUTF16" (414 : Nat) ({ cls := "java/lang/String", name := "checkIndex", desc := "(II)V" } : Jvm.MethodName)) ∈ lw_all := lw_g (lw_at lw_m3 99 rfl) rfl
theorem q657 : (Jvm.Cond.methodLink "java/lang/StringUTF16" (71 : Nat) ({ cls := "java/lang/StringUTF16", name := "getChar", desc := "([BI)C" } : Jvm.MethodName)) ∈ lw_all := lw_g (lw_at lw_m3 100 rfl) rfl
theorem q658 : (Jvm.Cond.static ({ cls := "java/lang/StringUTF16", name := "getChar", desc := "([BI)C" } : Jvm.MethodName)) ∈ lw_all := lw_g (lw_at lw_m3 101 rfl) rfl
theorem q659 : (Jvm.Cond.code ({ cls := "java/lang/StringUTF16", name := "getChar", desc := "([BI)C" } : Jvm.MethodName) prog_35_method_5_code (2 : Nat) (Option.some Jvm.ClassFile.FieldType.char)) ∈ lw_all := lw_g (lw_at lw_m3 102 rfl) rfl
theorem q660 : (Jvm.Cond.fieldLink "java/lang/StringUTF16" (44 : Nat) "java/lang/StringUTF16" "$assertionsDisabled" "Z") ∈ lw_all := lw_g (lw_at lw_m3 103 rfl) rfl
theorem q661 : (Jvm.Cond.laysStatic "java/lang/StringUTF16" "$assertionsDisabled" "Z") ∈ lw_tbl := lw_at lw_m3 104 rfl
theorem q662 : (Jvm.Cond.fieldLink "java/lang/StringUTF16" (59 : Nat) "java/lang/StringUTF16" "HI_BYTE_SHIFT" "I") ∈ lw_all := lw_g (lw_at lw_m3 105 rfl) rfl
theorem q663 : (Jvm.Cond.laysStatic "java/lang/StringUTF16" "HI_BYTE_SHIFT" "I") ∈ lw_tbl := lw_at lw_m3 106 rfl
theorem q664 : (Jvm.Cond.fieldLink "java/lang/StringUTF16" (63 : Nat) "java/lang/StringUTF16" "LO_BYTE_SHIFT" "I") ∈ lw_all := lw_g (lw_at lw_m3 107 rfl) rfl
theorem q665 : (Jvm.Cond.laysStatic "java/lang/StringUTF16" "LO_BYTE_SHIFT" "I") ∈ lw_tbl := lw_at lw_m3 108 rfl

/-! java/lang/Throwable -/
def RJ11 : String := "java/lang/Throwable"
def TJ11 : u_T := fun k => match k with
  | 0 => ("java/lang/Throwable", "cause", "Ljava/lang/Throwable;", false)
  | 1 => ("java/lang/Throwable", "stackTrace", "[Ljava/lang/StackTraceElement;", false)
  | 2 => ("java/lang/Throwable", "suppressedExceptions", "Ljava/util/List;", false)
  | 3 => ("java/lang/Throwable", "detailMessage", "Ljava/lang/String;", false)
  | _ => ("java/lang/Throwable", "backtrace", "Ljava/lang/Object;", false)
def tyJ11 : Nat → FieldType := fun k => match k with
  | 0 => .object "java/lang/Throwable"
  | 1 => .array (.object "java/lang/StackTraceElement")
  | 2 => .object "java/util/List"
  | 3 => .object "java/lang/String"
  | _ => .object "java/lang/Object"
abbrev wsJ110 : List Cond := u_ws RJ11 TJ11 5
theorem nmJ11 : ∀ a, a < 5 → ∀ b, b < 5 → a ≠ b → (TJ11 a).2.1 ≠ (TJ11 b).2.1 := by decide +kernel
theorem tyJ11_ok : ∀ k, k < 5 → parseFieldDescriptor (TJ11 k).2.2.1 = some (tyJ11 k) := by decide +kernel
abbrev cJ11_init : ByteArray := prog_37_method_1_code
def yJ11_init : MethodName := ⟨RJ11, "<init>", "()V"⟩
abbrev cJ11_init_2 : ByteArray := prog_37_method_5_code
def yJ11_init_2 : MethodName := ⟨RJ11, "<init>", "(Ljava/lang/String;Ljava/lang/Throwable;ZZ)V"⟩
theorem q101 : (Jvm.Cond.initialized "java/lang/Throwable") ∈ lw_all := lw_g (lw_at lw_m1 24 rfl) rfl
theorem q676 : (Jvm.Cond.declares ({ cls := "java/lang/Throwable", name := "<init>", desc := "()V" } : Jvm.MethodName)) ∈ lw_tbl := lw_at lw_m3 119 rfl
theorem q677 : (Jvm.Cond.declares ({ cls := "java/lang/Throwable", name := "<init>", desc := "(Ljava/lang/String;)V" } : Jvm.MethodName)) ∈ lw_tbl := lw_at lw_m3 120 rfl
theorem q681 : (Jvm.Cond.lays "java/lang/Throwable" "java/lang/Throwable" "cause" "Ljava/lang/Throwable;") ∈ lw_all := lw_g (lw_at lw_m3 124 rfl) rfl
theorem q683 : (Jvm.Cond.lays "java/lang/Throwable" "java/lang/Throwable" "stackTrace" "[Ljava/lang/StackTraceElement;") ∈ lw_all := lw_g (lw_at lw_m3 126 rfl) rfl
theorem q685 : (Jvm.Cond.lays "java/lang/Throwable" "java/lang/Throwable" "suppressedExceptions" "Ljava/util/List;") ∈ lw_all := lw_g (lw_at lw_m3 128 rfl) rfl
theorem q687 : (Jvm.Cond.lays "java/lang/Throwable" "java/lang/Throwable" "detailMessage" "Ljava/lang/String;") ∈ lw_all := lw_g (lw_at lw_m3 130 rfl) rfl
theorem q689 : (Jvm.Cond.lays "java/lang/Throwable" "java/lang/Throwable" "backtrace" "Ljava/lang/Object;") ∈ lw_all := lw_g (lw_at lw_m3 132 rfl) rfl
theorem q690 : (Jvm.Cond.fieldLink "java/lang/Throwable" (198 : Nat) "java/lang/Throwable" "backtrace" "Ljava/lang/Object;") ∈ lw_all := lw_g (lw_at lw_m3 133 rfl) rfl
theorem q691 : (Jvm.Cond.superclass "java/lang/Throwable" "java/lang/Object") ∈ lw_all := lw_g (lw_at lw_m3 134 rfl) rfl
theorem q692 : (Jvm.Cond.instanceMethod ({ cls := "java/lang/Throwable", name := "<init>", desc := "()V" } : Jvm.MethodName)) ∈ lw_all := lw_g (lw_at lw_m3 135 rfl) rfl
theorem q693 : (Jvm.Cond.code ({ cls := "java/lang/Throwable", name := "<init>", desc := "()V" } : Jvm.MethodName) prog_37_method_1_code (1 : Nat) (Option.none : Option Jvm.ClassFile.FieldType)) ∈ lw_all := lw_g (lw_at lw_m3 136 rfl) rfl
theorem q694 : (Jvm.Cond.methodLink "java/lang/Throwable" (1 : Nat) ({ cls := "java/lang/Object", name := "<init>", desc := "()V" } : Jvm.MethodName)) ∈ lw_all := lw_g (lw_at lw_m3 137 rfl) rfl
theorem q695 : (Jvm.Cond.fieldLink "java/lang/Throwable" (13 : Nat) "java/lang/Throwable" "UNASSIGNED_STACK" "[Ljava/lang/StackTraceElement;") ∈ lw_all := lw_g (lw_at lw_m3 138 rfl) rfl
theorem q696 : (Jvm.Cond.laysStatic "java/lang/Throwable" "UNASSIGNED_STACK" "[Ljava/lang/StackTraceElement;") ∈ lw_tbl := lw_at lw_m3 139 rfl
theorem q697 : (Jvm.Cond.fieldLink "java/lang/Throwable" (20 : Nat) "java/lang/Throwable" "SUPPRESSED_SENTINEL" "Ljava/util/List;") ∈ lw_all := lw_g (lw_at lw_m3 140 rfl) rfl
theorem q698 : (Jvm.Cond.laysStatic "java/lang/Throwable" "SUPPRESSED_SENTINEL" "Ljava/util/List;") ∈ lw_tbl := lw_at lw_m3 141 rfl
theorem q699 : (Jvm.Cond.methodLink "java/lang/Throwable" (27 : Nat) ({ cls := "java/lang/Throwable", name := "fillInStackTrace", desc := "()Ljava/lang/Throwable;" } : Jvm.MethodName)) ∈ lw_all := lw_g (lw_at lw_m3 142 rfl) rfl
theorem q700 : (Jvm.Cond.instanceMethod ({ cls := "java/lang/Throwable", name := "fillInStackTrace", desc := "()Ljava/lang/Throwable;" } : Jvm.MethodName)) ∈ lw_all := lw_g (lw_at lw_m3 143 rfl) rfl
theorem q701 : (Jvm.Cond.sameMethod "java/lang/Throwable" "java/lang/Throwable" "fillInStackTrace" "()Ljava/lang/Throwable;") ∈ lw_all := lw_g (lw_at lw_m3 144 rfl) rfl
theorem q703 : (Jvm.Cond.codeSync ({ cls := "java/lang/Throwable", name := "fillInStackTrace", desc := "()Ljava/lang/Throwable;" } : Jvm.MethodName) prog_37_method_18_code (1 : Nat) (Option.some (Jvm.ClassFile.FieldType.object "java/lang/Throwable"))) ∈ lw_all := lw_g (lw_at lw_m3 146 rfl) rfl
theorem q704 : (Jvm.Cond.methodLink "java/lang/Throwable" (202 : Nat) ({ cls := "java/lang/Throwable", name := "fillInStackTrace", desc := "(I)Ljava/lang/Throwable;" } : Jvm.MethodName)) ∈ lw_all := lw_g (lw_at lw_m3 147 rfl) rfl
theorem q705 : (Jvm.Cond.privateMethod ({ cls := "java/lang/Throwable", name := "fillInStackTrace", desc := "(I)Ljava/lang/Throwable;" } : Jvm.MethodName)) ∈ lw_tbl := lw_at lw_m3 148 rfl
theorem q706 : (Jvm.Cond.instanceMethod ({ cls := "java/lang/Throwable", name := "fillInStackTrace", desc := "(I)Ljava/lang/Throwable;" } : Jvm.MethodName)) ∈ lw_all := lw_g (lw_at lw_m3 149 rfl) rfl
theorem q707 : (Jvm.Cond.instantiable "java/lang/Throwable" (6 : Nat)) ∈ lw_all := lw_g (lw_at lw_m3 150 rfl) rfl
theorem q708 : (Jvm.Cond.native ({ cls := "java/lang/Throwable", name := "fillInStackTrace", desc := "(I)Ljava/lang/Throwable;" } : Jvm.MethodName)) ∈ lw_all := lw_g (lw_at lw_m3 151 rfl) rfl
theorem q716 : (Jvm.Cond.instanceMethod ({ cls := "java/lang/Throwable", name := "<init>", desc := "(Ljava/lang/String;Ljava/lang/Throwable;ZZ)V" } : Jvm.MethodName)) ∈ lw_all := lw_g (lw_at lw_m3 159 rfl) rfl
theorem q717 : (Jvm.Cond.code ({ cls := "java/lang/Throwable", name := "<init>", desc := "(Ljava/lang/String;Ljava/lang/Throwable;ZZ)V" } : Jvm.MethodName) prog_37_method_5_code (5 : Nat) (Option.none : Option Jvm.ClassFile.FieldType)) ∈ lw_all := lw_g (lw_at lw_m3 160 rfl) rfl
theorem q720 : (Jvm.Cond.fieldLink "java/lang/Throwable" (198 : Nat) "java/lang/Throwable" "backtrace" "Ljava/lang/Object;") ∈ lw_all := lw_g (lw_at lw_m3 163 rfl) rfl
theorem q721 : (Jvm.Cond.fieldLink "java/lang/Throwable" (31 : Nat) "java/lang/Throwable" "detailMessage" "Ljava/lang/String;") ∈ lw_all := lw_g (lw_at lw_m3 164 rfl) rfl
theorem q722 : (Jvm.Cond.fieldLink "java/lang/Throwable" (7 : Nat) "java/lang/Throwable" "cause" "Ljava/lang/Throwable;") ∈ lw_all := lw_g (lw_at lw_m3 165 rfl) rfl
theorem q723 : (Jvm.Cond.fieldLink "java/lang/Throwable" (17 : Nat) "java/lang/Throwable" "stackTrace" "[Ljava/lang/StackTraceElement;") ∈ lw_all := lw_g (lw_at lw_m3 166 rfl) rfl
theorem q724 : (Jvm.Cond.fieldLink "java/lang/Throwable" (24 : Nat) "java/lang/Throwable" "suppressedExceptions" "Ljava/util/List;") ∈ lw_all := lw_g (lw_at lw_m3 167 rfl) rfl
theorem q727 : (Jvm.Cond.soleField "java/lang/Throwable" "backtrace") ∈ lw_all := lw_g (lw_at lw_m3 170 rfl) rfl
theorem q728 : (Jvm.Cond.soleField "java/lang/Throwable" "detailMessage") ∈ lw_all := lw_g (lw_at lw_m3 171 rfl) rfl
theorem q729 : (Jvm.Cond.soleField "java/lang/Throwable" "cause") ∈ lw_all := lw_g (lw_at lw_m3 172 rfl) rfl
theorem q730 : (Jvm.Cond.soleField "java/lang/Throwable" "stackTrace") ∈ lw_all := lw_g (lw_at lw_m3 173 rfl) rfl
theorem q732 : (Jvm.Cond.soleField "java/lang/Throwable" "depth") ∈ lw_all := lw_g (lw_at lw_m3 175 rfl) rfl
theorem q733 : (Jvm.Cond.soleField "java/lang/Throwable" "suppressedExceptions") ∈ lw_all := lw_g (lw_at lw_m3 176 rfl) rfl
theorem q1823 : (Jvm.Cond.sameMethod "java/lang/Throwable" "java/lang/Throwable" "fillInStackTrace" "(I)Ljava/lang/Throwable;") ∈ lw_all := lw_g (lw_at lw_m8 66 rfl) rfl
theorem q1849 : (Jvm.Cond.castable "java/lang/Throwable" "java/lang/Object") ∈ lw_tbl := lw_at lw_m8 92 rfl
theorem in_J11 : ∀ w ∈ wsJ110, w ∈ lw_all := lw_in wsJ110 [681, 683, 685, 687, 689] (by decide +kernel) (by decide +kernel)

/-! java/lang/Exception -/
def RJ12 : String := "java/lang/Exception"
abbrev cJ12_init : ByteArray := prog_28_method_5_code
def yJ12_init : MethodName := ⟨RJ12, "<init>", "(Ljava/lang/String;Ljava/lang/Throwable;ZZ)V"⟩
abbrev cJ12_init_2 : ByteArray := prog_28_method_1_code
def yJ12_init_2 : MethodName := ⟨RJ12, "<init>", "()V"⟩
theorem q102 : (Jvm.Cond.initialized "java/lang/Exception") ∈ lw_all := lw_g (lw_at lw_m1 25 rfl) rfl
theorem q674 : (Jvm.Cond.declares ({ cls := "java/lang/Exception", name := "<init>", desc := "()V" } : Jvm.MethodName)) ∈ lw_tbl := lw_at lw_m3 117 rfl
theorem q675 : (Jvm.Cond.declares ({ cls := "java/lang/Exception", name := "<init>", desc := "(Ljava/lang/String;)V" } : Jvm.MethodName)) ∈ lw_tbl := lw_at lw_m3 118 rfl
theorem q713 : (Jvm.Cond.instanceMethod ({ cls := "java/lang/Exception", name := "<init>", desc := "(Ljava/lang/String;Ljava/lang/Throwable;ZZ)V" } : Jvm.MethodName)) ∈ lw_all := lw_g (lw_at lw_m3 156 rfl) rfl
theorem q714 : (Jvm.Cond.code ({ cls := "java/lang/Exception", name := "<init>", desc := "(Ljava/lang/String;Ljava/lang/Throwable;ZZ)V" } : Jvm.MethodName) prog_28_method_5_code (5 : Nat) (Option.none : Option Jvm.ClassFile.FieldType)) ∈ lw_all := lw_g (lw_at lw_m3 157 rfl) rfl
theorem q715 : (Jvm.Cond.methodLink "java/lang/Exception" (16 : Nat) ({ cls := "java/lang/Throwable", name := "<init>", desc := "(Ljava/lang/String;Ljava/lang/Throwable;ZZ)V" } : Jvm.MethodName)) ∈ lw_all := lw_g (lw_at lw_m3 158 rfl) rfl
theorem q1260 : (Jvm.Cond.instanceMethod ({ cls := "java/lang/Exception", name := "<init>", desc := "()V" } : Jvm.MethodName)) ∈ lw_all := lw_g (lw_at lw_m5 223 rfl) rfl
theorem q1261 : (Jvm.Cond.code ({ cls := "java/lang/Exception", name := "<init>", desc := "()V" } : Jvm.MethodName) prog_28_method_1_code (1 : Nat) (Option.none : Option Jvm.ClassFile.FieldType)) ∈ lw_all := lw_g (lw_at lw_m5 224 rfl) rfl
theorem q1262 : (Jvm.Cond.methodLink "java/lang/Exception" (1 : Nat) ({ cls := "java/lang/Throwable", name := "<init>", desc := "()V" } : Jvm.MethodName)) ∈ lw_all := lw_g (lw_at lw_m5 225 rfl) rfl

/-! java/lang/RuntimeException -/
def RJ13 : String := "java/lang/RuntimeException"
abbrev cJ13_init : ByteArray := prog_32_method_1_code
def yJ13_init : MethodName := ⟨RJ13, "<init>", "()V"⟩
theorem q108 : (Jvm.Cond.initialized "java/lang/RuntimeException") ∈ lw_all := lw_g (lw_at lw_m1 31 rfl) rfl
theorem q1245 : (Jvm.Cond.declares ({ cls := "java/lang/RuntimeException", name := "<init>", desc := "()V" } : Jvm.MethodName)) ∈ lw_tbl := lw_at lw_m5 208 rfl
theorem q1246 : (Jvm.Cond.declares ({ cls := "java/lang/RuntimeException", name := "<init>", desc := "(Ljava/lang/String;)V" } : Jvm.MethodName)) ∈ lw_tbl := lw_at lw_m5 209 rfl
theorem q1257 : (Jvm.Cond.instanceMethod ({ cls := "java/lang/RuntimeException", name := "<init>", desc := "()V" } : Jvm.MethodName)) ∈ lw_all := lw_g (lw_at lw_m5 220 rfl) rfl
theorem q1258 : (Jvm.Cond.code ({ cls := "java/lang/RuntimeException", name := "<init>", desc := "()V" } : Jvm.MethodName) prog_32_method_1_code (1 : Nat) (Option.none : Option Jvm.ClassFile.FieldType)) ∈ lw_all := lw_g (lw_at lw_m5 221 rfl) rfl
theorem q1259 : (Jvm.Cond.methodLink "java/lang/RuntimeException" (1 : Nat) ({ cls := "java/lang/Exception", name := "<init>", desc := "()V" } : Jvm.MethodName)) ∈ lw_all := lw_g (lw_at lw_m5 222 rfl) rfl

/-! java/util/NoSuchElementException -/
def RJ14 : String := "java/util/NoSuchElementException"
def TJ14 : u_T := fun k => match k with
  | 0 => ("java/lang/Throwable", "cause", "Ljava/lang/Throwable;", false)
  | 1 => ("java/lang/Throwable", "stackTrace", "[Ljava/lang/StackTraceElement;", false)
  | 2 => ("java/lang/Throwable", "suppressedExceptions", "Ljava/util/List;", false)
  | 3 => ("java/lang/Throwable", "detailMessage", "Ljava/lang/String;", false)
  | 4 => ("java/lang/Throwable", "backtrace", "Ljava/lang/Object;", false)
  | _ => ("java/lang/Throwable", "depth", "I", false)
def tyJ14 : Nat → FieldType := fun k => match k with
  | 0 => .object "java/lang/Throwable"
  | 1 => .array (.object "java/lang/StackTraceElement")
  | 2 => .object "java/util/List"
  | 3 => .object "java/lang/String"
  | 4 => .object "java/lang/Object"
  | _ => .int
abbrev wsJ140 : List Cond := u_ws RJ14 TJ14 6
theorem nmJ14 : ∀ a, a < 6 → ∀ b, b < 6 → a ≠ b → (TJ14 a).2.1 ≠ (TJ14 b).2.1 := by decide +kernel
theorem tyJ14_ok : ∀ k, k < 6 → parseFieldDescriptor (TJ14 k).2.2.1 = some (tyJ14 k) := by decide +kernel
abbrev cJ14_init : ByteArray := prog_47_method_1_code
def yJ14_init : MethodName := ⟨RJ14, "<init>", "()V"⟩
theorem q109 : (Jvm.Cond.initialized "java/util/NoSuchElementException") ∈ lw_all := lw_g (lw_at lw_m1 32 rfl) rfl
theorem q336 : (Jvm.Cond.selects "java/util/NoSuchElementException" ({ cls := "java/lang/Object", name := "getClass", desc := "()Ljava/lang/Class;" } : Jvm.MethodName) ({ cls := "java/lang/Object", name := "getClass", desc := "()Ljava/lang/Class;" } : Jvm.MethodName)) ∈ lw_all := lw_g (lw_at lw_m2 19 rfl) rfl
theorem q702 : (Jvm.Cond.selects "java/util/NoSuchElementException" ({ cls := "java/lang/Throwable", name := "fillInStackTrace", desc := "()Ljava/lang/Throwable;" } : Jvm.MethodName) ({ cls := "java/lang/Throwable", name := "fillInStackTrace", desc := "()Ljava/lang/Throwable;" } : Jvm.MethodName)) ∈ lw_all := lw_g (lw_at lw_m3 145 rfl) rfl
theorem q1243 : (Jvm.Cond.instantiable "java/util/NoSuchElementException" (6 : Nat)) ∈ lw_all := lw_g (lw_at lw_m5 206 rfl) rfl
theorem q1244 : (Jvm.Cond.castable "java/util/NoSuchElementException" "java/util/NoSuchElementException") ∈ lw_tbl := lw_at lw_m5 207 rfl
theorem q1247 : (Jvm.Cond.selects "java/util/NoSuchElementException" ({ cls := "java/lang/Throwable", name := "fillInStackTrace", desc := "(I)Ljava/lang/Throwable;" } : Jvm.MethodName) ({ cls := "java/lang/Throwable", name := "fillInStackTrace", desc := "(I)Ljava/lang/Throwable;" } : Jvm.MethodName)) ∈ lw_all := lw_g (lw_at lw_m5 210 rfl) rfl
theorem q1248 : (Jvm.Cond.lays "java/util/NoSuchElementException" "java/lang/Throwable" "cause" "Ljava/lang/Throwable;") ∈ lw_all := lw_g (lw_at lw_m5 211 rfl) rfl
theorem q1249 : (Jvm.Cond.lays "java/util/NoSuchElementException" "java/lang/Throwable" "stackTrace" "[Ljava/lang/StackTraceElement;") ∈ lw_all := lw_g (lw_at lw_m5 212 rfl) rfl
theorem q1250 : (Jvm.Cond.lays "java/util/NoSuchElementException" "java/lang/Throwable" "suppressedExceptions" "Ljava/util/List;") ∈ lw_all := lw_g (lw_at lw_m5 213 rfl) rfl
theorem q1251 : (Jvm.Cond.lays "java/util/NoSuchElementException" "java/lang/Throwable" "detailMessage" "Ljava/lang/String;") ∈ lw_all := lw_g (lw_at lw_m5 214 rfl) rfl
theorem q1252 : (Jvm.Cond.lays "java/util/NoSuchElementException" "java/lang/Throwable" "backtrace" "Ljava/lang/Object;") ∈ lw_all := lw_g (lw_at lw_m5 215 rfl) rfl
theorem q1254 : (Jvm.Cond.instanceMethod ({ cls := "java/util/NoSuchElementException", name := "<init>", desc := "()V" } : Jvm.MethodName)) ∈ lw_all := lw_g (lw_at lw_m5 217 rfl) rfl
theorem q1255 : (Jvm.Cond.code ({ cls := "java/util/NoSuchElementException", name := "<init>", desc := "()V" } : Jvm.MethodName) prog_47_method_1_code (1 : Nat) (Option.none : Option Jvm.ClassFile.FieldType)) ∈ lw_all := lw_g (lw_at lw_m5 218 rfl) rfl
theorem q1256 : (Jvm.Cond.methodLink "java/util/NoSuchElementException" (1 : Nat) ({ cls := "java/lang/RuntimeException", name := "<init>", desc := "()V" } : Jvm.MethodName)) ∈ lw_all := lw_g (lw_at lw_m5 219 rfl) rfl
theorem q1263 : (Jvm.Cond.lays "java/util/NoSuchElementException" "java/lang/Throwable" "depth" "I") ∈ lw_all := lw_g (lw_at lw_m5 226 rfl) rfl
theorem q1264 : (Jvm.Cond.superclass "java/util/NoSuchElementException" "java/lang/RuntimeException") ∈ lw_all := lw_g (lw_at lw_m5 227 rfl) rfl
theorem q1845 : (Jvm.Cond.castable "java/util/NoSuchElementException" "java/lang/Object") ∈ lw_tbl := lw_at lw_m8 88 rfl
theorem in_J14 : ∀ w ∈ wsJ140, w ∈ lw_all := lw_in wsJ140 [1248, 1249, 1250, 1251, 1252, 1263] (by decide +kernel) (by decide +kernel)

/-! java/lang/Integer -/
def RJ15 : String := "java/lang/Integer"
abbrev cJ15_bitCount : ByteArray := prog_29_method_49_code
def yJ15_bitCount : MethodName := ⟨RJ15, "bitCount", "(I)I"⟩
theorem q115 : (Jvm.Cond.initialized "java/lang/Integer") ∈ lw_all := lw_g (lw_at lw_m1 38 rfl) rfl
theorem q1040 : (Jvm.Cond.static ({ cls := "java/lang/Integer", name := "bitCount", desc := "(I)I" } : Jvm.MethodName)) ∈ lw_all := lw_g (lw_at lw_m5 3 rfl) rfl
theorem q1041 : (Jvm.Cond.code ({ cls := "java/lang/Integer", name := "bitCount", desc := "(I)I" } : Jvm.MethodName) prog_29_method_49_code (1 : Nat) (Option.some Jvm.ClassFile.FieldType.int)) ∈ lw_all := lw_g (lw_at lw_m5 4 rfl) rfl
theorem q1042 : (Jvm.Cond.constant "java/lang/Integer" (265 : Nat) (1431655765 : Int32)) ∈ lw_all := lw_g (lw_at lw_m5 5 rfl) rfl
theorem q1043 : (Jvm.Cond.constant "java/lang/Integer" (266 : Nat) (858993459 : Int32)) ∈ lw_all := lw_g (lw_at lw_m5 6 rfl) rfl
theorem q1044 : (Jvm.Cond.constant "java/lang/Integer" (267 : Nat) (252645135 : Int32)) ∈ lw_all := lw_g (lw_at lw_m5 7 rfl) rfl

/-! java/util/DualPivotQuicksort -/
def RJ16 : String := "java/util/DualPivotQuicksort"
abbrev cJ16_sort : ByteArray := prog_45_method_3_code
def yJ16_sort : MethodName := ⟨RJ16, "sort", "([IIII)V"⟩
abbrev cJ16_sort_2 : ByteArray := prog_45_method_4_code
def yJ16_sort_2 : MethodName := ⟨RJ16, "sort", "(Ljava/util/DualPivotQuicksort$Sorter;[IIII)V"⟩
abbrev cJ16_mixedInsertionSort : ByteArray := prog_45_method_5_code
def yJ16_mixedInsertionSort : MethodName := ⟨RJ16, "mixedInsertionSort", "([IIII)V"⟩
abbrev cJ16_insertionSort : ByteArray := prog_45_method_6_code
def yJ16_insertionSort : MethodName := ⟨RJ16, "insertionSort", "([III)V"⟩
abbrev cJ16_tryMergeRuns : ByteArray := prog_45_method_9_code
def yJ16_tryMergeRuns : MethodName := ⟨RJ16, "tryMergeRuns", "(Ljava/util/DualPivotQuicksort$Sorter;[III)Z"⟩
abbrev cJ16_mergeRuns : ByteArray := prog_45_method_10_code
def yJ16_mergeRuns : MethodName := ⟨RJ16, "mergeRuns", "([I[IIIZ[III)[I"⟩
abbrev cJ16_mergeParts : ByteArray := prog_45_method_11_code
def yJ16_mergeParts : MethodName := ⟨RJ16, "mergeParts", "(Ljava/util/DualPivotQuicksort$Merger;[II[III[III)V"⟩
abbrev cJ16_heapSort : ByteArray := prog_45_method_7_code
def yJ16_heapSort : MethodName := ⟨RJ16, "heapSort", "([III)V"⟩
abbrev cJ16_pushDown : ByteArray := prog_45_method_8_code
def yJ16_pushDown : MethodName := ⟨RJ16, "pushDown", "([IIIII)V"⟩
theorem q117 : (Jvm.Cond.initialized "java/util/DualPivotQuicksort") ∈ lw_all := lw_g (lw_at lw_m1 40 rfl) rfl
theorem q1166 : (Jvm.Cond.static ({ cls := "java/util/DualPivotQuicksort", name := "sort", desc := "([IIII)V" } : Jvm.MethodName)) ∈ lw_all := lw_g (lw_at lw_m5 129 rfl) rfl
theorem q1167 : (Jvm.Cond.code ({ cls := "java/util/DualPivotQuicksort", name := "sort", desc := "([IIII)V" } : Jvm.MethodName) prog_45_method_3_code (7 : Nat) (Option.none : Option Jvm.ClassFile.FieldType)) ∈ lw_all := lw_g (lw_at lw_m5 130 rfl) rfl
theorem q1168 : (Jvm.Cond.methodLink "java/util/DualPivotQuicksort" (26 : Nat) ({ cls := "java/util/DualPivotQuicksort", name := "sort", desc := "(Ljava/util/DualPivotQuicksort$Sorter;[IIII)V" } : Jvm.MethodName)) ∈ lw_all := lw_g (lw_at lw_m5 131 rfl) rfl
theorem q1169 : (Jvm.Cond.static ({ cls := "java/util/DualPivotQuicksort", name := "sort", desc := "(Ljava/util/DualPivotQuicksort$Sorter;[IIII)V" } : Jvm.MethodName)) ∈ lw_all := lw_g (lw_at lw_m5 132 rfl) rfl
theorem q1170 : (Jvm.Cond.code ({ cls := "java/util/DualPivotQuicksort", name := "sort", desc := "(Ljava/util/DualPivotQuicksort$Sorter;[IIII)V" } : Jvm.MethodName) prog_45_method_4_code (21 : Nat) (Option.none : Option Jvm.ClassFile.FieldType)) ∈ lw_all := lw_g (lw_at lw_m5 133 rfl) rfl
theorem q1171 : (Jvm.Cond.methodLink "java/util/DualPivotQuicksort" (30 : Nat) ({ cls := "java/util/DualPivotQuicksort", name := "mixedInsertionSort", desc := "([IIII)V" } : Jvm.MethodName)) ∈ lw_all := lw_g (lw_at lw_m5 134 rfl) rfl
theorem q1172 : (Jvm.Cond.static ({ cls := "java/util/DualPivotQuicksort", name := "mixedInsertionSort", desc := "([IIII)V" } : Jvm.MethodName)) ∈ lw_all := lw_g (lw_at lw_m5 135 rfl) rfl
theorem q1173 : (Jvm.Cond.code ({ cls := "java/util/DualPivotQuicksort", name := "mixedInsertionSort", desc := "([IIII)V" } : Jvm.MethodName) prog_45_method_5_code (8 : Nat) (Option.none : Option Jvm.ClassFile.FieldType)) ∈ lw_all := lw_g (lw_at lw_m5 136 rfl) rfl
theorem q1174 : (Jvm.Cond.methodLink "java/util/DualPivotQuicksort" (34 : Nat) ({ cls := "java/util/DualPivotQuicksort", name := "insertionSort", desc := "([III)V" } : Jvm.MethodName)) ∈ lw_all := lw_g (lw_at lw_m5 137 rfl) rfl
theorem q1175 : (Jvm.Cond.static ({ cls := "java/util/DualPivotQuicksort", name := "insertionSort", desc := "([III)V" } : Jvm.MethodName)) ∈ lw_all := lw_g (lw_at lw_m5 138 rfl) rfl
theorem q1176 : (Jvm.Cond.code ({ cls := "java/util/DualPivotQuicksort", name := "insertionSort", desc := "([III)V" } : Jvm.MethodName) prog_45_method_6_code (6 : Nat) (Option.none : Option Jvm.ClassFile.FieldType)) ∈ lw_all := lw_g (lw_at lw_m5 139 rfl) rfl
theorem q1177 : (Jvm.Cond.methodLink "java/util/DualPivotQuicksort" (38 : Nat) ({ cls := "java/util/DualPivotQuicksort", name := "tryMergeRuns", desc := "(Ljava/util/DualPivotQuicksort$Sorter;[III)Z" } : Jvm.MethodName)) ∈ lw_all := lw_g (lw_at lw_m5 140 rfl) rfl
theorem q1178 : (Jvm.Cond.static ({ cls := "java/util/DualPivotQuicksort", name := "tryMergeRuns", desc := "(Ljava/util/DualPivotQuicksort$Sorter;[III)Z" } : Jvm.MethodName)) ∈ lw_all := lw_g (lw_at lw_m5 141 rfl) rfl
theorem q1179 : (Jvm.Cond.code ({ cls := "java/util/DualPivotQuicksort", name := "tryMergeRuns", desc := "(Ljava/util/DualPivotQuicksort$Sorter;[III)Z" } : Jvm.MethodName) prog_45_method_9_code (12 : Nat) (Option.some Jvm.ClassFile.FieldType.boolean)) ∈ lw_all := lw_g (lw_at lw_m5 142 rfl) rfl
theorem q1180 : (Jvm.Cond.methodLink "java/util/DualPivotQuicksort" (53 : Nat) ({ cls := "java/util/Arrays", name := "copyOf", desc := "([II)[I" } : Jvm.MethodName)) ∈ lw_all := lw_g (lw_at lw_m5 143 rfl) rfl
theorem q1190 : (Jvm.Cond.classLink "java/util/DualPivotQuicksort" (63 : Nat) "[I") ∈ lw_all := lw_g (lw_at lw_m5 153 rfl) rfl
theorem q1191 : (Jvm.Cond.methodLink "java/util/DualPivotQuicksort" (69 : Nat) ({ cls := "java/util/DualPivotQuicksort", name := "mergeRuns", desc := "([I[IIIZ[III)[I" } : Jvm.MethodName)) ∈ lw_all := lw_g (lw_at lw_m5 154 rfl) rfl
theorem q1192 : (Jvm.Cond.static ({ cls := "java/util/DualPivotQuicksort", name := "mergeRuns", desc := "([I[IIIZ[III)[I" } : Jvm.MethodName)) ∈ lw_all := lw_g (lw_at lw_m5 155 rfl) rfl
theorem q1193 : (Jvm.Cond.code ({ cls := "java/util/DualPivotQuicksort", name := "mergeRuns", desc := "([I[IIIZ[III)[I" } : Jvm.MethodName) prog_45_method_10_code (18 : Nat) (Option.some (Jvm.ClassFile.FieldType.array Jvm.ClassFile.FieldType.int))) ∈ lw_all := lw_g (lw_at lw_m5 156 rfl) rfl
theorem q1194 : (Jvm.Cond.methodLink "java/util/DualPivotQuicksort" (91 : Nat) ({ cls := "java/util/DualPivotQuicksort", name := "mergeParts", desc := "(Ljava/util/DualPivotQuicksort$Merger;[II[III[III)V" } : Jvm.MethodName)) ∈ lw_all := lw_g (lw_at lw_m5 157 rfl) rfl
theorem q1195 : (Jvm.Cond.static ({ cls := "java/util/DualPivotQuicksort", name := "mergeParts", desc := "(Ljava/util/DualPivotQuicksort$Merger;[II[III[III)V" } : Jvm.MethodName)) ∈ lw_all := lw_g (lw_at lw_m5 158 rfl) rfl
theorem q1196 : (Jvm.Cond.code ({ cls := "java/util/DualPivotQuicksort", name := "mergeParts", desc := "(Ljava/util/DualPivotQuicksort$Merger;[II[III[III)V" } : Jvm.MethodName) prog_45_method_11_code (14 : Nat) (Option.none : Option Jvm.ClassFile.FieldType)) ∈ lw_all := lw_g (lw_at lw_m5 159 rfl) rfl
theorem q1197 : (Jvm.Cond.methodLink "java/util/DualPivotQuicksort" (42 : Nat) ({ cls := "java/util/DualPivotQuicksort", name := "heapSort", desc := "([III)V" } : Jvm.MethodName)) ∈ lw_all := lw_g (lw_at lw_m5 160 rfl) rfl
theorem q1198 : (Jvm.Cond.static ({ cls := "java/util/DualPivotQuicksort", name := "heapSort", desc := "([III)V" } : Jvm.MethodName)) ∈ lw_all := lw_g (lw_at lw_m5 161 rfl) rfl
theorem q1199 : (Jvm.Cond.code ({ cls := "java/util/DualPivotQuicksort", name := "heapSort", desc := "([III)V" } : Jvm.MethodName) prog_45_method_7_code (4 : Nat) (Option.none : Option Jvm.ClassFile.FieldType)) ∈ lw_all := lw_g (lw_at lw_m5 162 rfl) rfl
theorem q1200 : (Jvm.Cond.methodLink "java/util/DualPivotQuicksort" (49 : Nat) ({ cls := "java/util/DualPivotQuicksort", name := "pushDown", desc := "([IIIII)V" } : Jvm.MethodName)) ∈ lw_all := lw_g (lw_at lw_m5 163 rfl) rfl
theorem q1201 : (Jvm.Cond.static ({ cls := "java/util/DualPivotQuicksort", name := "pushDown", desc := "([IIIII)V" } : Jvm.MethodName)) ∈ lw_all := lw_g (lw_at lw_m5 164 rfl) rfl
theorem q1202 : (Jvm.Cond.code ({ cls := "java/util/DualPivotQuicksort", name := "pushDown", desc := "([IIIII)V" } : Jvm.MethodName) prog_45_method_8_code (6 : Nat) (Option.none : Option Jvm.ClassFile.FieldType)) ∈ lw_all := lw_g (lw_at lw_m5 165 rfl) rfl

/-! java/lang/Object -/
def RJ17 : String := "java/lang/Object"
abbrev cJ17_init : ByteArray := object_method_1_code
def yJ17_init : MethodName := ⟨RJ17, "<init>", "()V"⟩
theorem q124 : (Jvm.Cond.instanceMethod ({ cls := "java/lang/Object", name := "<init>", desc := "()V" } : Jvm.MethodName)) ∈ lw_all := lw_g (lw_at lw_m1 47 rfl) rfl
theorem q125 : (Jvm.Cond.code ({ cls := "java/lang/Object", name := "<init>", desc := "()V" } : Jvm.MethodName) object_method_1_code (1 : Nat) (Option.none : Option Jvm.ClassFile.FieldType)) ∈ lw_all := lw_g (lw_at lw_m1 48 rfl) rfl
theorem q314 : (Jvm.Cond.instanceMethod ({ cls := "java/lang/Object", name := "getClass", desc := "()Ljava/lang/Class;" } : Jvm.MethodName)) ∈ lw_all := lw_g (lw_at lw_m1 237 rfl) rfl
theorem q315 : (Jvm.Cond.sameMethod "java/lang/Object" "java/lang/Object" "getClass" "()Ljava/lang/Class;") ∈ lw_all := lw_g (lw_at lw_m1 238 rfl) rfl
theorem q337 : (Jvm.Cond.native ({ cls := "java/lang/Object", name := "getClass", desc := "()Ljava/lang/Class;" } : Jvm.MethodName)) ∈ lw_all := lw_g (lw_at lw_m2 20 rfl) rfl
theorem q1185 : (Jvm.Cond.native ({ cls := "java/lang/Object", name := "clone", desc := "()Ljava/lang/Object;" } : Jvm.MethodName)) ∈ lw_all := lw_g (lw_at lw_m5 148 rfl) rfl
theorem q1186 : (Jvm.Cond.instanceMethod ({ cls := "java/lang/Object", name := "clone", desc := "()Ljava/lang/Object;" } : Jvm.MethodName)) ∈ lw_all := lw_g (lw_at lw_m5 149 rfl) rfl
theorem q1853 : (Jvm.Cond.declares ({ cls := "java/lang/Object", name := "getClass", desc := "()Ljava/lang/Class;" } : Jvm.MethodName)) ∈ lw_tbl := lw_at lw_m8 96 rfl

/-! the law's own entry -/
abbrev cL_law : ByteArray := code

theorem q1858 : (Jvm.Cond.castable "[B" "java/lang/Object") ∈ lw_tbl := lw_at lw_m8 101 rfl

theorem q1184 : (Jvm.Cond.sameMethod "[I" "java/lang/Object" "clone" "()Ljava/lang/Object;") ∈ lw_all := lw_g (lw_at lw_m5 147 rfl) rfl
theorem q1187 : (Jvm.Cond.selects "[I" ({ cls := "[I", name := "clone", desc := "()Ljava/lang/Object;" } : Jvm.MethodName) ({ cls := "java/lang/Object", name := "clone", desc := "()Ljava/lang/Object;" } : Jvm.MethodName)) ∈ lw_all := lw_g (lw_at lw_m5 150 rfl) rfl
theorem q1188 : (Jvm.Cond.castable "[I" "java/lang/Cloneable") ∈ lw_tbl := lw_at lw_m5 151 rfl
theorem q1857 : (Jvm.Cond.castable "[I" "java/lang/Object") ∈ lw_tbl := lw_at lw_m8 100 rfl

theorem q1861 : (Jvm.Cond.castable "[J" "java/lang/Object") ∈ lw_tbl := lw_at lw_m8 104 rfl

theorem q1855 : (Jvm.Cond.castable "[LLichenTable$Curve;" "java/lang/Object") ∈ lw_tbl := lw_at lw_m8 98 rfl

theorem q1856 : (Jvm.Cond.castable "[LLichenTable$Span;" "java/lang/Object") ∈ lw_tbl := lw_at lw_m8 99 rfl

theorem q1851 : (Jvm.Cond.sameMethod "[Ljava/lang/Object;" "java/lang/Object" "getClass" "()Ljava/lang/Class;") ∈ lw_all := lw_g (lw_at lw_m8 94 rfl) rfl
theorem q1852 : (Jvm.Cond.selects "[Ljava/lang/Object;" ({ cls := "java/lang/Object", name := "getClass", desc := "()Ljava/lang/Class;" } : Jvm.MethodName) ({ cls := "java/lang/Object", name := "getClass", desc := "()Ljava/lang/Class;" } : Jvm.MethodName)) ∈ lw_all := lw_g (lw_at lw_m8 95 rfl) rfl
theorem q1859 : (Jvm.Cond.castable "[Ljava/lang/Object;" "java/lang/Object") ∈ lw_tbl := lw_at lw_m8 102 rfl

theorem q1860 : (Jvm.Cond.castable "[Z" "java/lang/Object") ∈ lw_tbl := lw_at lw_m8 103 rfl

theorem q1854 : (Jvm.Cond.castable "[[I" "java/lang/Object") ∈ lw_tbl := lw_at lw_m8 97 rfl

theorem q88 : (Jvm.Cond.initialized "java/lang/System") ∈ lw_all := lw_g (lw_at lw_m1 11 rfl) rfl
theorem q348 : (Jvm.Cond.static ({ cls := "java/lang/System", name := "arraycopy", desc := "(Ljava/lang/Object;ILjava/lang/Object;II)V" } : Jvm.MethodName)) ∈ lw_all := lw_g (lw_at lw_m2 31 rfl) rfl
theorem q349 : (Jvm.Cond.native ({ cls := "java/lang/System", name := "arraycopy", desc := "(Ljava/lang/Object;ILjava/lang/Object;II)V" } : Jvm.MethodName)) ∈ lw_all := lw_g (lw_at lw_m2 32 rfl) rfl

theorem q153 : (Jvm.Cond.arrayOver (Jvm.ClassFile.FieldType.array Jvm.ClassFile.FieldType.int)) ∈ lw_tbl := lw_at lw_m1 76 rfl
theorem q155 : (Jvm.Cond.arrayOver (Jvm.ClassFile.FieldType.object "LichenTable$Curve")) ∈ lw_tbl := lw_at lw_m1 78 rfl
theorem q157 : (Jvm.Cond.arrayOver (Jvm.ClassFile.FieldType.object "LichenTable$Span")) ∈ lw_tbl := lw_at lw_m1 80 rfl
theorem q233 : (Jvm.Cond.arrayClass Jvm.ClassFile.FieldType.int) ∈ lw_all := lw_g (lw_at lw_m1 156 rfl) rfl
theorem q234 : (Jvm.Cond.arrayClass Jvm.ClassFile.FieldType.byte) ∈ lw_all := lw_g (lw_at lw_m1 157 rfl) rfl
theorem q342 : (Jvm.Cond.arrayOver (Jvm.ClassFile.FieldType.object "java/lang/Object")) ∈ lw_tbl := lw_at lw_m2 25 rfl
theorem q1512 : (Jvm.Cond.arrayClass Jvm.ClassFile.FieldType.boolean) ∈ lw_all := lw_g (lw_at lw_m6 235 rfl) rfl
theorem q1822 : (Jvm.Cond.arrayClass Jvm.ClassFile.FieldType.long) ∈ lw_all := lw_g (lw_at lw_m8 65 rfl) rfl

