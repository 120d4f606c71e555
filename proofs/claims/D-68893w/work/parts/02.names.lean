/-! CircuitCyclesLaw -/
set_option maxRecDepth 100000
def RX0 : String := "CircuitCyclesLaw"
abbrev cX0_feed : ByteArray := method_3_code
def yX0_feed : MethodName := ⟨RX0, "feed", "(LCircuitCycles;IIIII[J)I"⟩
abbrev cX0_end : ByteArray := method_4_code
def yX0_end : MethodName := ⟨RX0, "end", "(LCircuitCycles;I)I"⟩
abbrev cX0_count : ByteArray := method_5_code
def yX0_count : MethodName := ⟨RX0, "count", "(LCircuitCycles;I[J)I"⟩
abbrev cX0_find : ByteArray := method_6_code
def yX0_find : MethodName := ⟨RX0, "find", "(LCircuitCycles;[J)I"⟩
abbrev cX0_signal : ByteArray := method_7_code
def yX0_signal : MethodName := ⟨RX0, "signal", "(LCircuitCycles;II[J)I"⟩
abbrev cX0_reset : ByteArray := method_8_code
def yX0_reset : MethodName := ⟨RX0, "reset", "(LCircuitCycles;)I"⟩
abbrev cX0_set : ByteArray := method_9_code
def yX0_set : MethodName := ⟨RX0, "set", "(LCircuitCycles;II)I"⟩
abbrev cX0_step : ByteArray := method_10_code
def yX0_step : MethodName := ⟨RX0, "step", "(LCircuitCycles;[J)I"⟩
abbrev cX0_value : ByteArray := method_11_code
def yX0_value : MethodName := ⟨RX0, "value", "(LCircuitCycles;I[J)I"⟩
abbrev cX0_failing : ByteArray := method_12_code
def yX0_failing : MethodName := ⟨RX0, "failing", "(LCircuitCycles;[J)I"⟩
theorem q167 : (Jvm.Cond.initialized "CircuitCyclesLaw") ∈ lw_all := lw_g (lw_at lw_m1 0 rfl) rfl
theorem q192 : (Jvm.Cond.classLink "CircuitCyclesLaw" (8 : Nat) "CircuitCycles") ∈ lw_all := lw_g (lw_at lw_m1 25 rfl) rfl
theorem q194 : (Jvm.Cond.methodLink "CircuitCyclesLaw" (54 : Nat) ({ cls := "CircuitCycles", name := "<init>", desc := "()V" } : Jvm.MethodName)) ∈ lw_all := lw_g (lw_at lw_m1 27 rfl) rfl
theorem q632 : (Jvm.Cond.methodLink "CircuitCyclesLaw" (71 : Nat) ({ cls := "CircuitCycles", name := "read", desc := "()I" } : Jvm.MethodName)) ∈ lw_all := lw_g (lw_at lw_m2 225 rfl) rfl
theorem q1289 : (Jvm.Cond.methodLink "CircuitCyclesLaw" (75 : Nat) ({ cls := "CircuitCycles", name := "fault", desc := "()I" } : Jvm.MethodName)) ∈ lw_all := lw_g (lw_at lw_m5 162 rfl) rfl
theorem q1293 : (Jvm.Cond.methodLink "CircuitCyclesLaw" (58 : Nat) ({ cls := "CircuitCyclesLaw", name := "feed", desc := "(LCircuitCycles;IIIII[J)I" } : Jvm.MethodName)) ∈ lw_all := lw_g (lw_at lw_m5 166 rfl) rfl
theorem q1294 : (Jvm.Cond.static ({ cls := "CircuitCyclesLaw", name := "feed", desc := "(LCircuitCycles;IIIII[J)I" } : Jvm.MethodName)) ∈ lw_all := lw_g (lw_at lw_m5 167 rfl) rfl
theorem q1295 : (Jvm.Cond.codeWith ({ cls := "CircuitCyclesLaw", name := "feed", desc := "(LCircuitCycles;IIIII[J)I" } : Jvm.MethodName) method_3_code (8 : Nat) (Option.some Jvm.ClassFile.FieldType.int) [((0 : Nat), (16 : Nat), (19 : Nat), (13 : Nat))]) ∈ lw_all := lw_g (lw_at lw_m5 168 rfl) rfl
theorem q1296 : (Jvm.Cond.classLink "CircuitCyclesLaw" (13 : Nat) "java/lang/UnsupportedOperationException") ∈ lw_all := lw_g (lw_at lw_m5 169 rfl) rfl
theorem q1297 : (Jvm.Cond.methodLink "CircuitCyclesLaw" (7 : Nat) ({ cls := "CircuitCycles", name := "feed", desc := "(IIIII)I" } : Jvm.MethodName)) ∈ lw_all := lw_g (lw_at lw_m5 170 rfl) rfl
theorem q1318 : (Jvm.Cond.methodLink "CircuitCyclesLaw" (67 : Nat) ({ cls := "CircuitCyclesLaw", name := "end", desc := "(LCircuitCycles;I)I" } : Jvm.MethodName)) ∈ lw_all := lw_g (lw_at lw_m5 191 rfl) rfl
theorem q1319 : (Jvm.Cond.static ({ cls := "CircuitCyclesLaw", name := "end", desc := "(LCircuitCycles;I)I" } : Jvm.MethodName)) ∈ lw_all := lw_g (lw_at lw_m5 192 rfl) rfl
theorem q1320 : (Jvm.Cond.codeWith ({ cls := "CircuitCyclesLaw", name := "end", desc := "(LCircuitCycles;I)I" } : Jvm.MethodName) method_4_code (3 : Nat) (Option.some Jvm.ClassFile.FieldType.int) [((0 : Nat), (5 : Nat), (8 : Nat), (19 : Nat))]) ∈ lw_all := lw_g (lw_at lw_m5 193 rfl) rfl
theorem q1321 : (Jvm.Cond.classLink "CircuitCyclesLaw" (19 : Nat) "java/lang/IllegalArgumentException") ∈ lw_all := lw_g (lw_at lw_m5 194 rfl) rfl
theorem q1322 : (Jvm.Cond.methodLink "CircuitCyclesLaw" (15 : Nat) ({ cls := "CircuitCycles", name := "end", desc := "(I)V" } : Jvm.MethodName)) ∈ lw_all := lw_g (lw_at lw_m5 195 rfl) rfl
theorem q1345 : (Jvm.Cond.methodLink "CircuitCyclesLaw" (79 : Nat) ({ cls := "CircuitCyclesLaw", name := "count", desc := "(LCircuitCycles;I[J)I" } : Jvm.MethodName)) ∈ lw_all := lw_g (lw_at lw_m5 218 rfl) rfl
theorem q1346 : (Jvm.Cond.static ({ cls := "CircuitCyclesLaw", name := "count", desc := "(LCircuitCycles;I[J)I" } : Jvm.MethodName)) ∈ lw_all := lw_g (lw_at lw_m5 219 rfl) rfl
theorem q1347 : (Jvm.Cond.codeWith ({ cls := "CircuitCyclesLaw", name := "count", desc := "(LCircuitCycles;I[J)I" } : Jvm.MethodName) method_5_code (4 : Nat) (Option.some Jvm.ClassFile.FieldType.int) [((0 : Nat), (9 : Nat), (12 : Nat), (25 : Nat)), ((0 : Nat), (9 : Nat), (15 : Nat), (19 : Nat))]) ∈ lw_all := lw_g (lw_at lw_m5 220 rfl) rfl
theorem q1348 : (Jvm.Cond.classLink "CircuitCyclesLaw" (25 : Nat) "java/lang/IllegalStateException") ∈ lw_all := lw_g (lw_at lw_m5 221 rfl) rfl
theorem q1349 : (Jvm.Cond.methodLink "CircuitCyclesLaw" (21 : Nat) ({ cls := "CircuitCycles", name := "count", desc := "(I)I" } : Jvm.MethodName)) ∈ lw_all := lw_g (lw_at lw_m5 222 rfl) rfl
theorem q1362 : (Jvm.Cond.methodLink "CircuitCyclesLaw" (83 : Nat) ({ cls := "CircuitCyclesLaw", name := "find", desc := "(LCircuitCycles;[J)I" } : Jvm.MethodName)) ∈ lw_all := lw_g (lw_at lw_m5 235 rfl) rfl
theorem q1363 : (Jvm.Cond.static ({ cls := "CircuitCyclesLaw", name := "find", desc := "(LCircuitCycles;[J)I" } : Jvm.MethodName)) ∈ lw_all := lw_g (lw_at lw_m5 236 rfl) rfl
theorem q1364 : (Jvm.Cond.codeWith ({ cls := "CircuitCyclesLaw", name := "find", desc := "(LCircuitCycles;[J)I" } : Jvm.MethodName) method_6_code (3 : Nat) (Option.some Jvm.ClassFile.FieldType.int) [((0 : Nat), (8 : Nat), (11 : Nat), (25 : Nat))]) ∈ lw_all := lw_g (lw_at lw_m5 237 rfl) rfl
theorem q1365 : (Jvm.Cond.methodLink "CircuitCyclesLaw" (27 : Nat) ({ cls := "CircuitCycles", name := "find", desc := "()I" } : Jvm.MethodName)) ∈ lw_all := lw_g (lw_at lw_m5 238 rfl) rfl
theorem q1374 : (Jvm.Cond.methodLink "CircuitCyclesLaw" (87 : Nat) ({ cls := "CircuitCyclesLaw", name := "signal", desc := "(LCircuitCycles;II[J)I" } : Jvm.MethodName)) ∈ lw_all := lw_g (lw_at lw_m6 7 rfl) rfl
theorem q1375 : (Jvm.Cond.static ({ cls := "CircuitCyclesLaw", name := "signal", desc := "(LCircuitCycles;II[J)I" } : Jvm.MethodName)) ∈ lw_all := lw_g (lw_at lw_m6 8 rfl) rfl
theorem q1376 : (Jvm.Cond.codeWith ({ cls := "CircuitCyclesLaw", name := "signal", desc := "(LCircuitCycles;II[J)I" } : Jvm.MethodName) method_7_code (5 : Nat) (Option.some Jvm.ClassFile.FieldType.int) [((0 : Nat), (10 : Nat), (13 : Nat), (25 : Nat)), ((0 : Nat), (10 : Nat), (17 : Nat), (35 : Nat)), ((0 : Nat), (10 : Nat), (21 : Nat), (19 : Nat))]) ∈ lw_all := lw_g (lw_at lw_m6 9 rfl) rfl
theorem q1377 : (Jvm.Cond.classLink "CircuitCyclesLaw" (35 : Nat) "java/lang/IndexOutOfBoundsException") ∈ lw_all := lw_g (lw_at lw_m6 10 rfl) rfl
theorem q1401 : (Jvm.Cond.methodLink "CircuitCyclesLaw" (31 : Nat) ({ cls := "CircuitCycles", name := "signal", desc := "(II)I" } : Jvm.MethodName)) ∈ lw_all := lw_g (lw_at lw_m6 34 rfl) rfl
theorem q1427 : (Jvm.Cond.methodLink "CircuitCyclesLaw" (91 : Nat) ({ cls := "CircuitCyclesLaw", name := "reset", desc := "(LCircuitCycles;)I" } : Jvm.MethodName)) ∈ lw_all := lw_g (lw_at lw_m6 60 rfl) rfl
theorem q1428 : (Jvm.Cond.static ({ cls := "CircuitCyclesLaw", name := "reset", desc := "(LCircuitCycles;)I" } : Jvm.MethodName)) ∈ lw_all := lw_g (lw_at lw_m6 61 rfl) rfl
theorem q1429 : (Jvm.Cond.codeWith ({ cls := "CircuitCyclesLaw", name := "reset", desc := "(LCircuitCycles;)I" } : Jvm.MethodName) method_8_code (2 : Nat) (Option.some Jvm.ClassFile.FieldType.int) [((0 : Nat), (4 : Nat), (7 : Nat), (25 : Nat))]) ∈ lw_all := lw_g (lw_at lw_m6 62 rfl) rfl
theorem q1430 : (Jvm.Cond.methodLink "CircuitCyclesLaw" (37 : Nat) ({ cls := "CircuitCycles", name := "reset", desc := "()V" } : Jvm.MethodName)) ∈ lw_all := lw_g (lw_at lw_m6 63 rfl) rfl
theorem q1434 : (Jvm.Cond.methodLink "CircuitCyclesLaw" (95 : Nat) ({ cls := "CircuitCyclesLaw", name := "set", desc := "(LCircuitCycles;II)I" } : Jvm.MethodName)) ∈ lw_all := lw_g (lw_at lw_m6 67 rfl) rfl
theorem q1435 : (Jvm.Cond.static ({ cls := "CircuitCyclesLaw", name := "set", desc := "(LCircuitCycles;II)I" } : Jvm.MethodName)) ∈ lw_all := lw_g (lw_at lw_m6 68 rfl) rfl
theorem q1436 : (Jvm.Cond.codeWith ({ cls := "CircuitCyclesLaw", name := "set", desc := "(LCircuitCycles;II)I" } : Jvm.MethodName) method_9_code (4 : Nat) (Option.some Jvm.ClassFile.FieldType.int) [((0 : Nat), (6 : Nat), (9 : Nat), (25 : Nat)), ((0 : Nat), (6 : Nat), (12 : Nat), (35 : Nat)), ((0 : Nat), (6 : Nat), (15 : Nat), (19 : Nat))]) ∈ lw_all := lw_g (lw_at lw_m6 69 rfl) rfl
theorem q1437 : (Jvm.Cond.methodLink "CircuitCyclesLaw" (40 : Nat) ({ cls := "CircuitCycles", name := "set", desc := "(II)V" } : Jvm.MethodName)) ∈ lw_all := lw_g (lw_at lw_m6 70 rfl) rfl
theorem q1443 : (Jvm.Cond.methodLink "CircuitCyclesLaw" (99 : Nat) ({ cls := "CircuitCyclesLaw", name := "step", desc := "(LCircuitCycles;[J)I" } : Jvm.MethodName)) ∈ lw_all := lw_g (lw_at lw_m6 76 rfl) rfl
theorem q1444 : (Jvm.Cond.static ({ cls := "CircuitCyclesLaw", name := "step", desc := "(LCircuitCycles;[J)I" } : Jvm.MethodName)) ∈ lw_all := lw_g (lw_at lw_m6 77 rfl) rfl
theorem q1445 : (Jvm.Cond.codeWith ({ cls := "CircuitCyclesLaw", name := "step", desc := "(LCircuitCycles;[J)I" } : Jvm.MethodName) method_10_code (3 : Nat) (Option.some Jvm.ClassFile.FieldType.int) [((0 : Nat), (8 : Nat), (11 : Nat), (25 : Nat))]) ∈ lw_all := lw_g (lw_at lw_m6 78 rfl) rfl
theorem q1446 : (Jvm.Cond.methodLink "CircuitCyclesLaw" (44 : Nat) ({ cls := "CircuitCycles", name := "step", desc := "()I" } : Jvm.MethodName)) ∈ lw_all := lw_g (lw_at lw_m6 79 rfl) rfl
theorem q1471 : (Jvm.Cond.methodLink "CircuitCyclesLaw" (102 : Nat) ({ cls := "CircuitCyclesLaw", name := "value", desc := "(LCircuitCycles;I[J)I" } : Jvm.MethodName)) ∈ lw_all := lw_g (lw_at lw_m6 104 rfl) rfl
theorem q1472 : (Jvm.Cond.static ({ cls := "CircuitCyclesLaw", name := "value", desc := "(LCircuitCycles;I[J)I" } : Jvm.MethodName)) ∈ lw_all := lw_g (lw_at lw_m6 105 rfl) rfl
theorem q1473 : (Jvm.Cond.codeWith ({ cls := "CircuitCyclesLaw", name := "value", desc := "(LCircuitCycles;I[J)I" } : Jvm.MethodName) method_11_code (4 : Nat) (Option.some Jvm.ClassFile.FieldType.int) [((0 : Nat), (8 : Nat), (11 : Nat), (25 : Nat)), ((0 : Nat), (8 : Nat), (14 : Nat), (35 : Nat))]) ∈ lw_all := lw_g (lw_at lw_m6 106 rfl) rfl
theorem q1474 : (Jvm.Cond.methodLink "CircuitCyclesLaw" (47 : Nat) ({ cls := "CircuitCycles", name := "value", desc := "(I)J" } : Jvm.MethodName)) ∈ lw_all := lw_g (lw_at lw_m6 107 rfl) rfl
theorem q1484 : (Jvm.Cond.methodLink "CircuitCyclesLaw" (105 : Nat) ({ cls := "CircuitCyclesLaw", name := "failing", desc := "(LCircuitCycles;[J)I" } : Jvm.MethodName)) ∈ lw_all := lw_g (lw_at lw_m6 117 rfl) rfl
theorem q1485 : (Jvm.Cond.static ({ cls := "CircuitCyclesLaw", name := "failing", desc := "(LCircuitCycles;[J)I" } : Jvm.MethodName)) ∈ lw_all := lw_g (lw_at lw_m6 118 rfl) rfl
theorem q1486 : (Jvm.Cond.codeWith ({ cls := "CircuitCyclesLaw", name := "failing", desc := "(LCircuitCycles;[J)I" } : Jvm.MethodName) method_12_code (3 : Nat) (Option.some Jvm.ClassFile.FieldType.int) [((0 : Nat), (8 : Nat), (11 : Nat), (25 : Nat))]) ∈ lw_all := lw_g (lw_at lw_m6 119 rfl) rfl
theorem q1487 : (Jvm.Cond.methodLink "CircuitCyclesLaw" (51 : Nat) ({ cls := "CircuitCycles", name := "failing", desc := "()I" } : Jvm.MethodName)) ∈ lw_all := lw_g (lw_at lw_m6 120 rfl) rfl
theorem q1492 : (Jvm.Cond.classLink "CircuitCyclesLaw" (55 : Nat) "CircuitCyclesModel") ∈ lw_all := lw_g (lw_at lw_m6 125 rfl) rfl
theorem q1494 : (Jvm.Cond.methodLink "CircuitCyclesLaw" (57 : Nat) ({ cls := "CircuitCyclesModel", name := "<init>", desc := "()V" } : Jvm.MethodName)) ∈ lw_all := lw_g (lw_at lw_m6 127 rfl) rfl
theorem q1776 : (Jvm.Cond.methodLink "CircuitCyclesLaw" (64 : Nat) ({ cls := "CircuitCyclesModel", name := "thrown", desc := "()I" } : Jvm.MethodName)) ∈ lw_all := lw_g (lw_at lw_m7 169 rfl) rfl
theorem q1780 : (Jvm.Cond.methodLink "CircuitCyclesLaw" (74 : Nat) ({ cls := "CircuitCyclesModel", name := "read", desc := "()I" } : Jvm.MethodName)) ∈ lw_all := lw_g (lw_at lw_m7 173 rfl) rfl
theorem q2147 : (Jvm.Cond.methodLink "CircuitCyclesLaw" (63 : Nat) ({ cls := "CircuitCyclesModel", name := "feed", desc := "(IIIII)I" } : Jvm.MethodName)) ∈ lw_all := lw_g (lw_at lw_m9 60 rfl) rfl
theorem q2151 : (Jvm.Cond.methodLink "CircuitCyclesLaw" (70 : Nat) ({ cls := "CircuitCyclesModel", name := "end", desc := "(I)V" } : Jvm.MethodName)) ∈ lw_all := lw_g (lw_at lw_m9 64 rfl) rfl
theorem q2155 : (Jvm.Cond.methodLink "CircuitCyclesLaw" (78 : Nat) ({ cls := "CircuitCyclesModel", name := "fault", desc := "()I" } : Jvm.MethodName)) ∈ lw_all := lw_g (lw_at lw_m9 68 rfl) rfl
theorem q2159 : (Jvm.Cond.methodLink "CircuitCyclesLaw" (82 : Nat) ({ cls := "CircuitCyclesModel", name := "count", desc := "(I)I" } : Jvm.MethodName)) ∈ lw_all := lw_g (lw_at lw_m9 72 rfl) rfl
theorem q2163 : (Jvm.Cond.methodLink "CircuitCyclesLaw" (86 : Nat) ({ cls := "CircuitCyclesModel", name := "find", desc := "()I" } : Jvm.MethodName)) ∈ lw_all := lw_g (lw_at lw_m9 76 rfl) rfl
theorem q2175 : (Jvm.Cond.methodLink "CircuitCyclesLaw" (90 : Nat) ({ cls := "CircuitCyclesModel", name := "signal", desc := "(II)I" } : Jvm.MethodName)) ∈ lw_all := lw_g (lw_at lw_m9 88 rfl) rfl
theorem q2187 : (Jvm.Cond.methodLink "CircuitCyclesLaw" (94 : Nat) ({ cls := "CircuitCyclesModel", name := "reset", desc := "()V" } : Jvm.MethodName)) ∈ lw_all := lw_g (lw_at lw_m9 100 rfl) rfl
theorem q2191 : (Jvm.Cond.methodLink "CircuitCyclesLaw" (98 : Nat) ({ cls := "CircuitCyclesModel", name := "set", desc := "(II)V" } : Jvm.MethodName)) ∈ lw_all := lw_g (lw_at lw_m9 104 rfl) rfl
theorem q2195 : (Jvm.Cond.methodLink "CircuitCyclesLaw" (101 : Nat) ({ cls := "CircuitCyclesModel", name := "step", desc := "()I" } : Jvm.MethodName)) ∈ lw_all := lw_g (lw_at lw_m9 108 rfl) rfl
theorem q2203 : (Jvm.Cond.methodLink "CircuitCyclesLaw" (104 : Nat) ({ cls := "CircuitCyclesModel", name := "value", desc := "(I)J" } : Jvm.MethodName)) ∈ lw_all := lw_g (lw_at lw_m9 116 rfl) rfl
theorem q2207 : (Jvm.Cond.methodLink "CircuitCyclesLaw" (107 : Nat) ({ cls := "CircuitCyclesModel", name := "failing", desc := "()I" } : Jvm.MethodName)) ∈ lw_all := lw_g (lw_at lw_m9 120 rfl) rfl
/-! CircuitCycles -/
set_option maxRecDepth 100000
def RX1 : String := "CircuitCycles"
def TX1 : u_T := fun k => match k with
  | 0 => ("CircuitCycles", "lexer", "LCircuitCycles$Lexer;", true)
  | 1 => ("CircuitCycles", "parser", "LCircuitCycles$Parser;", true)
  | 2 => ("CircuitCycles", "circuit", "LCircuitCycles$Circuit;", false)
  | 3 => ("CircuitCycles", "spare", "LCircuitCycles$Circuit;", false)
  | 4 => ("CircuitCycles", "isThere", "Z", false)
  | 5 => ("CircuitCycles", "cycle", "LCircuitCycles$Cycle;", true)
  | _ => ("CircuitCycles", "reckoned", "Z", false)
def tyX1 : Nat → FieldType := fun k => match k with
  | 0 => .object "CircuitCycles$Lexer"
  | 1 => .object "CircuitCycles$Parser"
  | 2 => .object "CircuitCycles$Circuit"
  | 3 => .object "CircuitCycles$Circuit"
  | 4 => .boolean
  | 5 => .object "CircuitCycles$Cycle"
  | _ => .boolean
abbrev wsX10 : List Cond := u_ws RX1 TX1 7
theorem nmX1 : ∀ a, a < 7 → ∀ b, b < 7 → a ≠ b → (TX1 a).2.1 ≠ (TX1 b).2.1 := by decide +kernel
theorem tyX1_ok : ∀ k, k < 7 → parseFieldDescriptor (TX1 k).2.2.1 = some (tyX1 k) := by decide +kernel
abbrev cX1_init : ByteArray := prog_1_method_1_code
def yX1_init : MethodName := ⟨RX1, "<init>", "()V"⟩
abbrev cX1_read : ByteArray := prog_1_method_8_code
def yX1_read : MethodName := ⟨RX1, "read", "()I"⟩
abbrev cX1_make : ByteArray := prog_1_method_7_code
def yX1_make : MethodName := ⟨RX1, "make", "()V"⟩
abbrev cX1_fault : ByteArray := prog_1_method_9_code
def yX1_fault : MethodName := ⟨RX1, "fault", "()I"⟩
abbrev cX1_feed : ByteArray := prog_1_method_5_code
def yX1_feed : MethodName := ⟨RX1, "feed", "(IIIII)I"⟩
abbrev cX1_end : ByteArray := prog_1_method_6_code
def yX1_end : MethodName := ⟨RX1, "end", "(I)V"⟩
abbrev cX1_needs : ByteArray := prog_1_method_3_code
def yX1_needs : MethodName := ⟨RX1, "needs", "(Z)V"⟩
abbrev cX1_count : ByteArray := prog_1_method_10_code
def yX1_count : MethodName := ⟨RX1, "count", "(I)I"⟩
abbrev cX1_need : ByteArray := prog_1_method_2_code
def yX1_need : MethodName := ⟨RX1, "need", "()V"⟩
abbrev cX1_find : ByteArray := prog_1_method_11_code
def yX1_find : MethodName := ⟨RX1, "find", "()I"⟩
abbrev cX1_signal : ByteArray := prog_1_method_12_code
def yX1_signal : MethodName := ⟨RX1, "signal", "(II)I"⟩
abbrev cX1_signal_2 : ByteArray := prog_1_method_4_code
def yX1_signal_2 : MethodName := ⟨RX1, "signal", "(I)V"⟩
abbrev cX1_reset : ByteArray := prog_1_method_14_code
def yX1_reset : MethodName := ⟨RX1, "reset", "()V"⟩
abbrev cX1_set : ByteArray := prog_1_method_15_code
def yX1_set : MethodName := ⟨RX1, "set", "(II)V"⟩
abbrev cX1_step : ByteArray := prog_1_method_16_code
def yX1_step : MethodName := ⟨RX1, "step", "()I"⟩
abbrev cX1_reckon : ByteArray := prog_1_method_13_code
def yX1_reckon : MethodName := ⟨RX1, "reckon", "()V"⟩
abbrev cX1_value : ByteArray := prog_1_method_17_code
def yX1_value : MethodName := ⟨RX1, "value", "(I)J"⟩
abbrev cX1_failing : ByteArray := prog_1_method_18_code
def yX1_failing : MethodName := ⟨RX1, "failing", "()I"⟩
theorem q168 : (Jvm.Cond.initialized "CircuitCycles") ∈ lw_all := lw_g (lw_at lw_m1 1 rfl) rfl
theorem q193 : (Jvm.Cond.instantiable "CircuitCycles" (7 : Nat)) ∈ lw_all := lw_g (lw_at lw_m1 26 rfl) rfl
theorem q195 : (Jvm.Cond.instanceMethod ({ cls := "CircuitCycles", name := "<init>", desc := "()V" } : Jvm.MethodName)) ∈ lw_all := lw_g (lw_at lw_m1 28 rfl) rfl
theorem q196 : (Jvm.Cond.code ({ cls := "CircuitCycles", name := "<init>", desc := "()V" } : Jvm.MethodName) prog_1_method_1_code (1 : Nat) (Option.none : Option Jvm.ClassFile.FieldType)) ∈ lw_all := lw_g (lw_at lw_m1 29 rfl) rfl
theorem q197 : (Jvm.Cond.methodLink "CircuitCycles" (1 : Nat) ({ cls := "java/lang/Object", name := "<init>", desc := "()V" } : Jvm.MethodName)) ∈ lw_all := lw_g (lw_at lw_m1 30 rfl) rfl
theorem q200 : (Jvm.Cond.classLink "CircuitCycles" (7 : Nat) "CircuitCycles$Lexer") ∈ lw_all := lw_g (lw_at lw_m1 33 rfl) rfl
theorem q202 : (Jvm.Cond.methodLinkNest "CircuitCycles" (9 : Nat) ({ cls := "CircuitCycles$Lexer", name := "<init>", desc := "()V" } : Jvm.MethodName) "CircuitCycles") ∈ lw_tbl := lw_at lw_m1 35 rfl
theorem q300 : (Jvm.Cond.fieldLinkNest "CircuitCycles" (85 : Nat) "CircuitCycles$Lexer" "text" "[B" "CircuitCycles") ∈ lw_tbl := lw_at lw_m1 133 rfl
theorem q303 : (Jvm.Cond.fieldLinkNest "CircuitCycles" (76 : Nat) "CircuitCycles$Lexer" "length" "I" "CircuitCycles") ∈ lw_tbl := lw_at lw_m1 136 rfl
theorem q306 : (Jvm.Cond.fieldLinkNest "CircuitCycles" (104 : Nat) "CircuitCycles$Lexer" "code" "I" "CircuitCycles") ∈ lw_tbl := lw_at lw_m1 139 rfl
theorem q308 : (Jvm.Cond.fieldLinkNest "CircuitCycles" (107 : Nat) "CircuitCycles$Lexer" "place" "I" "CircuitCycles") ∈ lw_tbl := lw_at lw_m1 141 rfl
theorem q342 : (Jvm.Cond.classLink "CircuitCycles" (16 : Nat) "CircuitCycles$Parser") ∈ lw_all := lw_g (lw_at lw_m1 175 rfl) rfl
theorem q344 : (Jvm.Cond.methodLink "CircuitCycles" (18 : Nat) ({ cls := "CircuitCycles$Parser", name := "<init>", desc := "(LCircuitCycles$Lexer;)V" } : Jvm.MethodName)) ∈ lw_all := lw_g (lw_at lw_m1 177 rfl) rfl
theorem q360 : (Jvm.Cond.fieldLinkNest "CircuitCycles" (65 : Nat) "CircuitCycles$Row" "size" "I" "CircuitCycles") ∈ lw_tbl := lw_at lw_m1 193 rfl
theorem q402 : (Jvm.Cond.classLink "CircuitCycles" (25 : Nat) "CircuitCycles$Circuit") ∈ lw_all := lw_g (lw_at lw_m1 235 rfl) rfl
theorem q404 : (Jvm.Cond.methodLink "CircuitCycles" (27 : Nat) ({ cls := "CircuitCycles$Circuit", name := "<init>", desc := "(LCircuitCycles$Lexer;)V" } : Jvm.MethodName)) ∈ lw_all := lw_g (lw_at lw_m1 237 rfl) rfl
theorem q502 : (Jvm.Cond.fieldLinkNest "CircuitCycles" (93 : Nat) "CircuitCycles$Circuit" "d" "LCircuitCycles$Design;" "CircuitCycles") ∈ lw_tbl := lw_at lw_m2 95 rfl
theorem q507 : (Jvm.Cond.fieldLinkNest "CircuitCycles" (124 : Nat) "CircuitCycles$Circuit" "instances" "LCircuitCycles$Row;" "CircuitCycles") ∈ lw_tbl := lw_at lw_m2 100 rfl
theorem q509 : (Jvm.Cond.fieldLinkNest "CircuitCycles" (61 : Nat) "CircuitCycles$Circuit" "signals" "LCircuitCycles$Row;" "CircuitCycles") ∈ lw_tbl := lw_at lw_m2 102 rfl
theorem q512 : (Jvm.Cond.fieldLinkNest "CircuitCycles" (172 : Nat) "CircuitCycles$Circuit" "bits" "LCircuitCycles$Row;" "CircuitCycles") ∈ lw_tbl := lw_at lw_m2 105 rfl
theorem q518 : (Jvm.Cond.fieldLinkNest "CircuitCycles" (130 : Nat) "CircuitCycles$Circuit" "inputs" "LCircuitCycles$Row;" "CircuitCycles") ∈ lw_tbl := lw_at lw_m2 111 rfl
theorem q521 : (Jvm.Cond.fieldLinkNest "CircuitCycles" (127 : Nat) "CircuitCycles$Circuit" "states" "LCircuitCycles$Row;" "CircuitCycles") ∈ lw_tbl := lw_at lw_m2 114 rfl
theorem q527 : (Jvm.Cond.fieldLinkNest "CircuitCycles" (133 : Nat) "CircuitCycles$Circuit" "asserts" "LCircuitCycles$Row;" "CircuitCycles") ∈ lw_tbl := lw_at lw_m2 120 rfl
theorem q589 : (Jvm.Cond.classLink "CircuitCycles" (35 : Nat) "CircuitCycles$Cycle") ∈ lw_all := lw_g (lw_at lw_m2 182 rfl) rfl
theorem q591 : (Jvm.Cond.methodLinkNest "CircuitCycles" (37 : Nat) ({ cls := "CircuitCycles$Cycle", name := "<init>", desc := "()V" } : Jvm.MethodName) "CircuitCycles") ∈ lw_tbl := lw_at lw_m2 184 rfl
theorem q598 : (Jvm.Cond.fieldLinkNest "CircuitCycles" (178 : Nat) "CircuitCycles$Cycle" "input" "I" "CircuitCycles") ∈ lw_tbl := lw_at lw_m2 191 rfl
theorem q600 : (Jvm.Cond.fieldLinkNest "CircuitCycles" (186 : Nat) "CircuitCycles$Cycle" "number" "I" "CircuitCycles") ∈ lw_tbl := lw_at lw_m2 193 rfl
theorem q610 : (Jvm.Cond.fieldLink "CircuitCycles" (10 : Nat) "CircuitCycles" "lexer" "LCircuitCycles$Lexer;") ∈ lw_all := lw_g (lw_at lw_m2 203 rfl) rfl
theorem q611 : (Jvm.Cond.fieldLink "CircuitCycles" (21 : Nat) "CircuitCycles" "parser" "LCircuitCycles$Parser;") ∈ lw_all := lw_g (lw_at lw_m2 204 rfl) rfl
theorem q612 : (Jvm.Cond.fieldLink "CircuitCycles" (28 : Nat) "CircuitCycles" "circuit" "LCircuitCycles$Circuit;") ∈ lw_all := lw_g (lw_at lw_m2 205 rfl) rfl
theorem q613 : (Jvm.Cond.fieldLink "CircuitCycles" (32 : Nat) "CircuitCycles" "spare" "LCircuitCycles$Circuit;") ∈ lw_all := lw_g (lw_at lw_m2 206 rfl) rfl
theorem q614 : (Jvm.Cond.fieldLink "CircuitCycles" (42 : Nat) "CircuitCycles" "isThere" "Z") ∈ lw_all := lw_g (lw_at lw_m2 207 rfl) rfl
theorem q615 : (Jvm.Cond.fieldLink "CircuitCycles" (38 : Nat) "CircuitCycles" "cycle" "LCircuitCycles$Cycle;") ∈ lw_all := lw_g (lw_at lw_m2 208 rfl) rfl
theorem q616 : (Jvm.Cond.fieldLink "CircuitCycles" (115 : Nat) "CircuitCycles" "reckoned" "Z") ∈ lw_all := lw_g (lw_at lw_m2 209 rfl) rfl
theorem q617 : (Jvm.Cond.laysFinal "CircuitCycles" "CircuitCycles" "lexer" "LCircuitCycles$Lexer;") ∈ lw_all := lw_g (lw_at lw_m2 210 rfl) rfl
theorem q618 : (Jvm.Cond.soleField "CircuitCycles" "lexer") ∈ lw_all := lw_g (lw_at lw_m2 211 rfl) rfl
theorem q619 : (Jvm.Cond.laysFinal "CircuitCycles" "CircuitCycles" "parser" "LCircuitCycles$Parser;") ∈ lw_all := lw_g (lw_at lw_m2 212 rfl) rfl
theorem q620 : (Jvm.Cond.soleField "CircuitCycles" "parser") ∈ lw_all := lw_g (lw_at lw_m2 213 rfl) rfl
theorem q621 : (Jvm.Cond.lays "CircuitCycles" "CircuitCycles" "circuit" "LCircuitCycles$Circuit;") ∈ lw_all := lw_g (lw_at lw_m2 214 rfl) rfl
theorem q622 : (Jvm.Cond.soleField "CircuitCycles" "circuit") ∈ lw_all := lw_g (lw_at lw_m2 215 rfl) rfl
theorem q623 : (Jvm.Cond.lays "CircuitCycles" "CircuitCycles" "spare" "LCircuitCycles$Circuit;") ∈ lw_all := lw_g (lw_at lw_m2 216 rfl) rfl
theorem q624 : (Jvm.Cond.soleField "CircuitCycles" "spare") ∈ lw_all := lw_g (lw_at lw_m2 217 rfl) rfl
theorem q625 : (Jvm.Cond.lays "CircuitCycles" "CircuitCycles" "isThere" "Z") ∈ lw_all := lw_g (lw_at lw_m2 218 rfl) rfl
theorem q626 : (Jvm.Cond.soleField "CircuitCycles" "isThere") ∈ lw_all := lw_g (lw_at lw_m2 219 rfl) rfl
theorem q627 : (Jvm.Cond.laysFinal "CircuitCycles" "CircuitCycles" "cycle" "LCircuitCycles$Cycle;") ∈ lw_all := lw_g (lw_at lw_m2 220 rfl) rfl
theorem q628 : (Jvm.Cond.soleField "CircuitCycles" "cycle") ∈ lw_all := lw_g (lw_at lw_m2 221 rfl) rfl
theorem q629 : (Jvm.Cond.lays "CircuitCycles" "CircuitCycles" "reckoned" "Z") ∈ lw_all := lw_g (lw_at lw_m2 222 rfl) rfl
theorem q630 : (Jvm.Cond.soleField "CircuitCycles" "reckoned") ∈ lw_all := lw_g (lw_at lw_m2 223 rfl) rfl
theorem q631 : (Jvm.Cond.superclass "CircuitCycles" "java/lang/Object") ∈ lw_all := lw_g (lw_at lw_m2 224 rfl) rfl
theorem q633 : (Jvm.Cond.instanceMethod ({ cls := "CircuitCycles", name := "read", desc := "()I" } : Jvm.MethodName)) ∈ lw_all := lw_g (lw_at lw_m2 226 rfl) rfl
theorem q634 : (Jvm.Cond.selects "CircuitCycles" ({ cls := "CircuitCycles", name := "read", desc := "()I" } : Jvm.MethodName) ({ cls := "CircuitCycles", name := "read", desc := "()I" } : Jvm.MethodName)) ∈ lw_all := lw_g (lw_at lw_m2 227 rfl) rfl
theorem q635 : (Jvm.Cond.codeWith ({ cls := "CircuitCycles", name := "read", desc := "()I" } : Jvm.MethodName) prog_1_method_8_code (2 : Nat) (Option.some Jvm.ClassFile.FieldType.int) [((16 : Nat), (20 : Nat), (23 : Nat), (46 : Nat))]) ∈ lw_all := lw_g (lw_at lw_m2 228 rfl) rfl
theorem q636 : (Jvm.Cond.classLink "CircuitCycles" (46 : Nat) "java/lang/IllegalStateException") ∈ lw_all := lw_g (lw_at lw_m2 229 rfl) rfl
theorem q637 : (Jvm.Cond.methodLink "CircuitCycles" (110 : Nat) ({ cls := "CircuitCycles", name := "make", desc := "()V" } : Jvm.MethodName)) ∈ lw_all := lw_g (lw_at lw_m2 230 rfl) rfl
theorem q638 : (Jvm.Cond.privateMethod ({ cls := "CircuitCycles", name := "make", desc := "()V" } : Jvm.MethodName)) ∈ lw_tbl := lw_at lw_m2 231 rfl
theorem q639 : (Jvm.Cond.instanceMethod ({ cls := "CircuitCycles", name := "make", desc := "()V" } : Jvm.MethodName)) ∈ lw_all := lw_g (lw_at lw_m2 232 rfl) rfl
theorem q640 : (Jvm.Cond.code ({ cls := "CircuitCycles", name := "make", desc := "()V" } : Jvm.MethodName) prog_1_method_7_code (1 : Nat) (Option.none : Option Jvm.ClassFile.FieldType)) ∈ lw_all := lw_g (lw_at lw_m2 233 rfl) rfl
theorem q641 : (Jvm.Cond.methodLink "CircuitCycles" (97 : Nat) ({ cls := "CircuitCycles$Parser", name := "parse", desc := "(LCircuitCycles$Design;)V" } : Jvm.MethodName)) ∈ lw_all := lw_g (lw_at lw_m2 234 rfl) rfl
theorem q1004 : (Jvm.Cond.methodLink "CircuitCycles" (101 : Nat) ({ cls := "CircuitCycles$Circuit", name := "make", desc := "()V" } : Jvm.MethodName)) ∈ lw_all := lw_g (lw_at lw_m4 117 rfl) rfl
theorem q1285 : (Jvm.Cond.methodLink "CircuitCycles" (111 : Nat) ({ cls := "CircuitCycles$Cycle", name := "begin", desc := "(LCircuitCycles$Circuit;)V" } : Jvm.MethodName)) ∈ lw_all := lw_g (lw_at lw_m5 158 rfl) rfl
theorem q1290 : (Jvm.Cond.instanceMethod ({ cls := "CircuitCycles", name := "fault", desc := "()I" } : Jvm.MethodName)) ∈ lw_all := lw_g (lw_at lw_m5 163 rfl) rfl
theorem q1291 : (Jvm.Cond.selects "CircuitCycles" ({ cls := "CircuitCycles", name := "fault", desc := "()I" } : Jvm.MethodName) ({ cls := "CircuitCycles", name := "fault", desc := "()I" } : Jvm.MethodName)) ∈ lw_all := lw_g (lw_at lw_m5 164 rfl) rfl
theorem q1292 : (Jvm.Cond.code ({ cls := "CircuitCycles", name := "fault", desc := "()I" } : Jvm.MethodName) prog_1_method_9_code (1 : Nat) (Option.some Jvm.ClassFile.FieldType.int)) ∈ lw_all := lw_g (lw_at lw_m5 165 rfl) rfl
theorem q1298 : (Jvm.Cond.instanceMethod ({ cls := "CircuitCycles", name := "feed", desc := "(IIIII)I" } : Jvm.MethodName)) ∈ lw_all := lw_g (lw_at lw_m5 171 rfl) rfl
theorem q1299 : (Jvm.Cond.selects "CircuitCycles" ({ cls := "CircuitCycles", name := "feed", desc := "(IIIII)I" } : Jvm.MethodName) ({ cls := "CircuitCycles", name := "feed", desc := "(IIIII)I" } : Jvm.MethodName)) ∈ lw_all := lw_g (lw_at lw_m5 172 rfl) rfl
theorem q1300 : (Jvm.Cond.code ({ cls := "CircuitCycles", name := "feed", desc := "(IIIII)I" } : Jvm.MethodName) prog_1_method_5_code (8 : Nat) (Option.some Jvm.ClassFile.FieldType.int)) ∈ lw_all := lw_g (lw_at lw_m5 173 rfl) rfl
theorem q1301 : (Jvm.Cond.constant "CircuitCycles" (79 : Nat) (65536 : Int32)) ∈ lw_all := lw_g (lw_at lw_m5 174 rfl) rfl
theorem q1302 : (Jvm.Cond.classLink "CircuitCycles" (80 : Nat) "java/lang/UnsupportedOperationException") ∈ lw_all := lw_g (lw_at lw_m5 175 rfl) rfl
theorem q1311 : (Jvm.Cond.stringRef "CircuitCycles" (82 : Nat) "too long") ∈ lw_tbl := lw_at lw_m5 184 rfl
theorem q1312 : (Jvm.Cond.methodLink "CircuitCycles" (84 : Nat) ({ cls := "java/lang/UnsupportedOperationException", name := "<init>", desc := "(Ljava/lang/String;)V" } : Jvm.MethodName)) ∈ lw_all := lw_g (lw_at lw_m5 185 rfl) rfl
theorem q1323 : (Jvm.Cond.instanceMethod ({ cls := "CircuitCycles", name := "end", desc := "(I)V" } : Jvm.MethodName)) ∈ lw_all := lw_g (lw_at lw_m5 196 rfl) rfl
theorem q1324 : (Jvm.Cond.selects "CircuitCycles" ({ cls := "CircuitCycles", name := "end", desc := "(I)V" } : Jvm.MethodName) ({ cls := "CircuitCycles", name := "end", desc := "(I)V" } : Jvm.MethodName)) ∈ lw_all := lw_g (lw_at lw_m5 197 rfl) rfl
theorem q1325 : (Jvm.Cond.code ({ cls := "CircuitCycles", name := "end", desc := "(I)V" } : Jvm.MethodName) prog_1_method_6_code (2 : Nat) (Option.none : Option Jvm.ClassFile.FieldType)) ∈ lw_all := lw_g (lw_at lw_m5 198 rfl) rfl
theorem q1326 : (Jvm.Cond.methodLink "CircuitCycles" (89 : Nat) ({ cls := "CircuitCycles", name := "needs", desc := "(Z)V" } : Jvm.MethodName)) ∈ lw_all := lw_g (lw_at lw_m5 199 rfl) rfl
theorem q1327 : (Jvm.Cond.static ({ cls := "CircuitCycles", name := "needs", desc := "(Z)V" } : Jvm.MethodName)) ∈ lw_all := lw_g (lw_at lw_m5 200 rfl) rfl
theorem q1328 : (Jvm.Cond.code ({ cls := "CircuitCycles", name := "needs", desc := "(Z)V" } : Jvm.MethodName) prog_1_method_3_code (1 : Nat) (Option.none : Option Jvm.ClassFile.FieldType)) ∈ lw_all := lw_g (lw_at lw_m5 201 rfl) rfl
theorem q1329 : (Jvm.Cond.classLink "CircuitCycles" (53 : Nat) "java/lang/IllegalArgumentException") ∈ lw_all := lw_g (lw_at lw_m5 202 rfl) rfl
theorem q1338 : (Jvm.Cond.stringRef "CircuitCycles" (55 : Nat) "not as said") ∈ lw_tbl := lw_at lw_m5 211 rfl
theorem q1339 : (Jvm.Cond.methodLink "CircuitCycles" (57 : Nat) ({ cls := "java/lang/IllegalArgumentException", name := "<init>", desc := "(Ljava/lang/String;)V" } : Jvm.MethodName)) ∈ lw_all := lw_g (lw_at lw_m5 212 rfl) rfl
theorem q1350 : (Jvm.Cond.instanceMethod ({ cls := "CircuitCycles", name := "count", desc := "(I)I" } : Jvm.MethodName)) ∈ lw_all := lw_g (lw_at lw_m5 223 rfl) rfl
theorem q1351 : (Jvm.Cond.selects "CircuitCycles" ({ cls := "CircuitCycles", name := "count", desc := "(I)I" } : Jvm.MethodName) ({ cls := "CircuitCycles", name := "count", desc := "(I)I" } : Jvm.MethodName)) ∈ lw_all := lw_g (lw_at lw_m5 224 rfl) rfl
theorem q1352 : (Jvm.Cond.code ({ cls := "CircuitCycles", name := "count", desc := "(I)I" } : Jvm.MethodName) prog_1_method_10_code (2 : Nat) (Option.some Jvm.ClassFile.FieldType.int)) ∈ lw_all := lw_g (lw_at lw_m5 225 rfl) rfl
theorem q1353 : (Jvm.Cond.methodLink "CircuitCycles" (58 : Nat) ({ cls := "CircuitCycles", name := "need", desc := "()V" } : Jvm.MethodName)) ∈ lw_all := lw_g (lw_at lw_m5 226 rfl) rfl
theorem q1354 : (Jvm.Cond.privateMethod ({ cls := "CircuitCycles", name := "need", desc := "()V" } : Jvm.MethodName)) ∈ lw_tbl := lw_at lw_m5 227 rfl
theorem q1355 : (Jvm.Cond.instanceMethod ({ cls := "CircuitCycles", name := "need", desc := "()V" } : Jvm.MethodName)) ∈ lw_all := lw_g (lw_at lw_m5 228 rfl) rfl
theorem q1356 : (Jvm.Cond.code ({ cls := "CircuitCycles", name := "need", desc := "()V" } : Jvm.MethodName) prog_1_method_2_code (1 : Nat) (Option.none : Option Jvm.ClassFile.FieldType)) ∈ lw_all := lw_g (lw_at lw_m5 229 rfl) rfl
theorem q1357 : (Jvm.Cond.stringRef "CircuitCycles" (48 : Nat) "no circuit") ∈ lw_tbl := lw_at lw_m5 230 rfl
theorem q1358 : (Jvm.Cond.methodLink "CircuitCycles" (50 : Nat) ({ cls := "java/lang/IllegalStateException", name := "<init>", desc := "(Ljava/lang/String;)V" } : Jvm.MethodName)) ∈ lw_all := lw_g (lw_at lw_m5 231 rfl) rfl
theorem q1359 : (Jvm.Cond.methodLink "CircuitCycles" (118 : Nat) ({ cls := "CircuitCycles$Design", name := "count", desc := "()I" } : Jvm.MethodName)) ∈ lw_all := lw_g (lw_at lw_m5 232 rfl) rfl
theorem q1360 : (Jvm.Cond.methodLinkNest "CircuitCycles" (136 : Nat) ({ cls := "CircuitCycles$Circuit", name := "total", desc := "(I)I" } : Jvm.MethodName) "CircuitCycles") ∈ lw_tbl := lw_at lw_m5 233 rfl
theorem q1361 : (Jvm.Cond.stringRef "CircuitCycles" (140 : Nat) "no such what") ∈ lw_tbl := lw_at lw_m5 234 rfl
theorem q1366 : (Jvm.Cond.instanceMethod ({ cls := "CircuitCycles", name := "find", desc := "()I" } : Jvm.MethodName)) ∈ lw_all := lw_g (lw_at lw_m5 239 rfl) rfl
theorem q1367 : (Jvm.Cond.selects "CircuitCycles" ({ cls := "CircuitCycles", name := "find", desc := "()I" } : Jvm.MethodName) ({ cls := "CircuitCycles", name := "find", desc := "()I" } : Jvm.MethodName)) ∈ lw_all := lw_g (lw_at lw_m6 0 rfl) rfl
theorem q1368 : (Jvm.Cond.code ({ cls := "CircuitCycles", name := "find", desc := "()I" } : Jvm.MethodName) prog_1_method_11_code (2 : Nat) (Option.some Jvm.ClassFile.FieldType.int)) ∈ lw_all := lw_g (lw_at lw_m6 1 rfl) rfl
theorem q1369 : (Jvm.Cond.methodLink "CircuitCycles" (142 : Nat) ({ cls := "CircuitCycles$Circuit", name := "find", desc := "([BI)I" } : Jvm.MethodName)) ∈ lw_all := lw_g (lw_at lw_m6 2 rfl) rfl
theorem q1402 : (Jvm.Cond.instanceMethod ({ cls := "CircuitCycles", name := "signal", desc := "(II)I" } : Jvm.MethodName)) ∈ lw_all := lw_g (lw_at lw_m6 35 rfl) rfl
theorem q1403 : (Jvm.Cond.selects "CircuitCycles" ({ cls := "CircuitCycles", name := "signal", desc := "(II)I" } : Jvm.MethodName) ({ cls := "CircuitCycles", name := "signal", desc := "(II)I" } : Jvm.MethodName)) ∈ lw_all := lw_g (lw_at lw_m6 36 rfl) rfl
theorem q1404 : (Jvm.Cond.code ({ cls := "CircuitCycles", name := "signal", desc := "(II)I" } : Jvm.MethodName) prog_1_method_12_code (3 : Nat) (Option.some Jvm.ClassFile.FieldType.int)) ∈ lw_all := lw_g (lw_at lw_m6 37 rfl) rfl
theorem q1405 : (Jvm.Cond.methodLink "CircuitCycles" (146 : Nat) ({ cls := "CircuitCycles", name := "signal", desc := "(I)V" } : Jvm.MethodName)) ∈ lw_all := lw_g (lw_at lw_m6 38 rfl) rfl
theorem q1406 : (Jvm.Cond.privateMethod ({ cls := "CircuitCycles", name := "signal", desc := "(I)V" } : Jvm.MethodName)) ∈ lw_tbl := lw_at lw_m6 39 rfl
theorem q1407 : (Jvm.Cond.instanceMethod ({ cls := "CircuitCycles", name := "signal", desc := "(I)V" } : Jvm.MethodName)) ∈ lw_all := lw_g (lw_at lw_m6 40 rfl) rfl
theorem q1408 : (Jvm.Cond.code ({ cls := "CircuitCycles", name := "signal", desc := "(I)V" } : Jvm.MethodName) prog_1_method_4_code (2 : Nat) (Option.none : Option Jvm.ClassFile.FieldType)) ∈ lw_all := lw_g (lw_at lw_m6 41 rfl) rfl
theorem q1409 : (Jvm.Cond.classLink "CircuitCycles" (71 : Nat) "java/lang/IndexOutOfBoundsException") ∈ lw_all := lw_g (lw_at lw_m6 42 rfl) rfl
theorem q1418 : (Jvm.Cond.stringRef "CircuitCycles" (73 : Nat) "no such signal") ∈ lw_tbl := lw_at lw_m6 51 rfl
theorem q1419 : (Jvm.Cond.methodLink "CircuitCycles" (75 : Nat) ({ cls := "java/lang/IndexOutOfBoundsException", name := "<init>", desc := "(Ljava/lang/String;)V" } : Jvm.MethodName)) ∈ lw_all := lw_g (lw_at lw_m6 52 rfl) rfl
theorem q1422 : (Jvm.Cond.methodLink "CircuitCycles" (150 : Nat) ({ cls := "CircuitCycles$Circuit", name := "width", desc := "(I)I" } : Jvm.MethodName)) ∈ lw_all := lw_g (lw_at lw_m6 55 rfl) rfl
theorem q1423 : (Jvm.Cond.methodLink "CircuitCycles" (153 : Nat) ({ cls := "CircuitCycles$Circuit", name := "symbol", desc := "(I)I" } : Jvm.MethodName)) ∈ lw_all := lw_g (lw_at lw_m6 56 rfl) rfl
theorem q1424 : (Jvm.Cond.methodLink "CircuitCycles" (156 : Nat) ({ cls := "CircuitCycles$Design", name := "symbol", desc := "(II)I" } : Jvm.MethodName)) ∈ lw_all := lw_g (lw_at lw_m6 57 rfl) rfl
theorem q1425 : (Jvm.Cond.methodLink "CircuitCycles" (159 : Nat) ({ cls := "CircuitCycles$Circuit", name := "isInput", desc := "(I)Z" } : Jvm.MethodName)) ∈ lw_all := lw_g (lw_at lw_m6 58 rfl) rfl
theorem q1426 : (Jvm.Cond.methodLink "CircuitCycles" (163 : Nat) ({ cls := "CircuitCycles$Circuit", name := "isRegister", desc := "(I)Z" } : Jvm.MethodName)) ∈ lw_all := lw_g (lw_at lw_m6 59 rfl) rfl
theorem q1431 : (Jvm.Cond.instanceMethod ({ cls := "CircuitCycles", name := "reset", desc := "()V" } : Jvm.MethodName)) ∈ lw_all := lw_g (lw_at lw_m6 64 rfl) rfl
theorem q1432 : (Jvm.Cond.selects "CircuitCycles" ({ cls := "CircuitCycles", name := "reset", desc := "()V" } : Jvm.MethodName) ({ cls := "CircuitCycles", name := "reset", desc := "()V" } : Jvm.MethodName)) ∈ lw_all := lw_g (lw_at lw_m6 65 rfl) rfl
theorem q1433 : (Jvm.Cond.code ({ cls := "CircuitCycles", name := "reset", desc := "()V" } : Jvm.MethodName) prog_1_method_14_code (1 : Nat) (Option.none : Option Jvm.ClassFile.FieldType)) ∈ lw_all := lw_g (lw_at lw_m6 66 rfl) rfl
theorem q1438 : (Jvm.Cond.instanceMethod ({ cls := "CircuitCycles", name := "set", desc := "(II)V" } : Jvm.MethodName)) ∈ lw_all := lw_g (lw_at lw_m6 71 rfl) rfl
theorem q1439 : (Jvm.Cond.selects "CircuitCycles" ({ cls := "CircuitCycles", name := "set", desc := "(II)V" } : Jvm.MethodName) ({ cls := "CircuitCycles", name := "set", desc := "(II)V" } : Jvm.MethodName)) ∈ lw_all := lw_g (lw_at lw_m6 72 rfl) rfl
theorem q1440 : (Jvm.Cond.code ({ cls := "CircuitCycles", name := "set", desc := "(II)V" } : Jvm.MethodName) prog_1_method_15_code (4 : Nat) (Option.none : Option Jvm.ClassFile.FieldType)) ∈ lw_all := lw_g (lw_at lw_m6 73 rfl) rfl
theorem q1441 : (Jvm.Cond.methodLink "CircuitCycles" (169 : Nat) ({ cls := "CircuitCycles$Row", name := "at", desc := "(I)I" } : Jvm.MethodName)) ∈ lw_all := lw_g (lw_at lw_m6 74 rfl) rfl
theorem q1442 : (Jvm.Cond.methodLink "CircuitCycles" (175 : Nat) ({ cls := "CircuitCycles$Circuit", name := "first", desc := "(I)I" } : Jvm.MethodName)) ∈ lw_all := lw_g (lw_at lw_m6 75 rfl) rfl
theorem q1447 : (Jvm.Cond.instanceMethod ({ cls := "CircuitCycles", name := "step", desc := "()I" } : Jvm.MethodName)) ∈ lw_all := lw_g (lw_at lw_m6 80 rfl) rfl
theorem q1448 : (Jvm.Cond.selects "CircuitCycles" ({ cls := "CircuitCycles", name := "step", desc := "()I" } : Jvm.MethodName) ({ cls := "CircuitCycles", name := "step", desc := "()I" } : Jvm.MethodName)) ∈ lw_all := lw_g (lw_at lw_m6 81 rfl) rfl
theorem q1449 : (Jvm.Cond.code ({ cls := "CircuitCycles", name := "step", desc := "()I" } : Jvm.MethodName) prog_1_method_16_code (1 : Nat) (Option.some Jvm.ClassFile.FieldType.int)) ∈ lw_all := lw_g (lw_at lw_m6 82 rfl) rfl
theorem q1450 : (Jvm.Cond.methodLink "CircuitCycles" (181 : Nat) ({ cls := "CircuitCycles", name := "reckon", desc := "()V" } : Jvm.MethodName)) ∈ lw_all := lw_g (lw_at lw_m6 83 rfl) rfl
theorem q1451 : (Jvm.Cond.privateMethod ({ cls := "CircuitCycles", name := "reckon", desc := "()V" } : Jvm.MethodName)) ∈ lw_tbl := lw_at lw_m6 84 rfl
theorem q1452 : (Jvm.Cond.instanceMethod ({ cls := "CircuitCycles", name := "reckon", desc := "()V" } : Jvm.MethodName)) ∈ lw_all := lw_g (lw_at lw_m6 85 rfl) rfl
theorem q1453 : (Jvm.Cond.code ({ cls := "CircuitCycles", name := "reckon", desc := "()V" } : Jvm.MethodName) prog_1_method_13_code (1 : Nat) (Option.none : Option Jvm.ClassFile.FieldType)) ∈ lw_all := lw_g (lw_at lw_m6 86 rfl) rfl
theorem q1454 : (Jvm.Cond.methodLink "CircuitCycles" (166 : Nat) ({ cls := "CircuitCycles$Cycle", name := "reckon", desc := "(LCircuitCycles$Circuit;)V" } : Jvm.MethodName)) ∈ lw_all := lw_g (lw_at lw_m6 87 rfl) rfl
theorem q1467 : (Jvm.Cond.methodLink "CircuitCycles" (183 : Nat) ({ cls := "CircuitCycles$Cycle", name := "next", desc := "(LCircuitCycles$Circuit;)V" } : Jvm.MethodName)) ∈ lw_all := lw_g (lw_at lw_m6 100 rfl) rfl
theorem q1475 : (Jvm.Cond.instanceMethod ({ cls := "CircuitCycles", name := "value", desc := "(I)J" } : Jvm.MethodName)) ∈ lw_all := lw_g (lw_at lw_m6 108 rfl) rfl
theorem q1476 : (Jvm.Cond.selects "CircuitCycles" ({ cls := "CircuitCycles", name := "value", desc := "(I)J" } : Jvm.MethodName) ({ cls := "CircuitCycles", name := "value", desc := "(I)J" } : Jvm.MethodName)) ∈ lw_all := lw_g (lw_at lw_m6 109 rfl) rfl
theorem q1477 : (Jvm.Cond.code ({ cls := "CircuitCycles", name := "value", desc := "(I)J" } : Jvm.MethodName) prog_1_method_17_code (2 : Nat) (Option.some Jvm.ClassFile.FieldType.long)) ∈ lw_all := lw_g (lw_at lw_m6 110 rfl) rfl
theorem q1478 : (Jvm.Cond.methodLink "CircuitCycles" (189 : Nat) ({ cls := "CircuitCycles$Cycle", name := "value", desc := "(LCircuitCycles$Circuit;I)J" } : Jvm.MethodName)) ∈ lw_all := lw_g (lw_at lw_m6 111 rfl) rfl
theorem q1488 : (Jvm.Cond.instanceMethod ({ cls := "CircuitCycles", name := "failing", desc := "()I" } : Jvm.MethodName)) ∈ lw_all := lw_g (lw_at lw_m6 121 rfl) rfl
theorem q1489 : (Jvm.Cond.selects "CircuitCycles" ({ cls := "CircuitCycles", name := "failing", desc := "()I" } : Jvm.MethodName) ({ cls := "CircuitCycles", name := "failing", desc := "()I" } : Jvm.MethodName)) ∈ lw_all := lw_g (lw_at lw_m6 122 rfl) rfl
theorem q1490 : (Jvm.Cond.code ({ cls := "CircuitCycles", name := "failing", desc := "()I" } : Jvm.MethodName) prog_1_method_18_code (3 : Nat) (Option.some Jvm.ClassFile.FieldType.int)) ∈ lw_all := lw_g (lw_at lw_m6 123 rfl) rfl
theorem q1491 : (Jvm.Cond.methodLink "CircuitCycles" (193 : Nat) ({ cls := "CircuitCycles$Cycle", name := "bit", desc := "(I)I" } : Jvm.MethodName)) ∈ lw_all := lw_g (lw_at lw_m6 124 rfl) rfl
theorem in_X1 : ∀ w ∈ wsX10, w ∈ lw_all := lw_in wsX10 [617, 619, 621, 623, 625, 627, 629] (by decide +kernel) (by decide +kernel)
/-! CircuitCycles$Lexer -/
set_option maxRecDepth 100000
def RX2 : String := "CircuitCycles$Lexer"
def TX2 : u_T := fun k => match k with
  | 0 => ("CircuitCycles$Lexer", "keywords", "[Ljava/lang/String;", true)
  | 1 => ("CircuitCycles$Lexer", "thrown", "Ljava/lang/IllegalStateException;", true)
  | 2 => ("CircuitCycles$Lexer", "text", "[B", true)
  | 3 => ("CircuitCycles$Lexer", "length", "I", false)
  | 4 => ("CircuitCycles$Lexer", "code", "I", false)
  | 5 => ("CircuitCycles$Lexer", "place", "I", false)
  | 6 => ("CircuitCycles$Lexer", "kind", "I", false)
  | 7 => ("CircuitCycles$Lexer", "from", "I", false)
  | 8 => ("CircuitCycles$Lexer", "to", "I", false)
  | 9 => ("CircuitCycles$Lexer", "value", "J", false)
  | _ => ("CircuitCycles$Lexer", "width", "I", false)
def tyX2 : Nat → FieldType := fun k => match k with
  | 0 => .array (.object "java/lang/String")
  | 1 => .object "java/lang/IllegalStateException"
  | 2 => .array .byte
  | 3 => .int
  | 4 => .int
  | 5 => .int
  | 6 => .int
  | 7 => .int
  | 8 => .int
  | 9 => .long
  | _ => .int
abbrev wsX20 : List Cond := u_ws RX2 TX2 11
theorem nmX2 : ∀ a, a < 11 → ∀ b, b < 11 → a ≠ b → (TX2 a).2.1 ≠ (TX2 b).2.1 := by decide +kernel
theorem tyX2_ok : ∀ k, k < 11 → parseFieldDescriptor (TX2 k).2.2.1 = some (tyX2 k) := by decide +kernel
abbrev cX2_init : ByteArray := prog_6_method_1_code
def yX2_init : MethodName := ⟨RX2, "<init>", "()V"⟩
abbrev cX2_begin : ByteArray := prog_6_method_3_code
def yX2_begin : MethodName := ⟨RX2, "begin", "()V"⟩
abbrev cX2_next : ByteArray := prog_6_method_9_code
def yX2_next : MethodName := ⟨RX2, "next", "()V"⟩
abbrev cX2_blanks : ByteArray := prog_6_method_8_code
def yX2_blanks : MethodName := ⟨RX2, "blanks", "()V"⟩
abbrev cX2_at : ByteArray := prog_6_method_4_code
def yX2_at : MethodName := ⟨RX2, "at", "(I)I"⟩
abbrev cX2_flaw : ByteArray := prog_6_method_2_code
def yX2_flaw : MethodName := ⟨RX2, "flaw", "(II)Ljava/lang/IllegalStateException;"⟩
abbrev cX2_isLetter : ByteArray := prog_6_method_6_code
def yX2_isLetter : MethodName := ⟨RX2, "isLetter", "(I)Z"⟩
abbrev cX2_isWord : ByteArray := prog_6_method_7_code
def yX2_isWord : MethodName := ⟨RX2, "isWord", "(I)Z"⟩
abbrev cX2_isDigit : ByteArray := prog_6_method_5_code
def yX2_isDigit : MethodName := ⟨RX2, "isDigit", "(I)Z"⟩
abbrev cX2_keyword : ByteArray := prog_6_method_11_code
def yX2_keyword : MethodName := ⟨RX2, "keyword", "()I"⟩
abbrev cX2_isSized : ByteArray := prog_6_method_10_code
def yX2_isSized : MethodName := ⟨RX2, "isSized", "()Z"⟩
abbrev cX2_number : ByteArray := prog_6_method_13_code
def yX2_number : MethodName := ⟨RX2, "number", "()V"⟩
abbrev cX2_digit : ByteArray := prog_6_method_12_code
def yX2_digit : MethodName := ⟨RX2, "digit", "(I)I"⟩
abbrev cX2_isFar : ByteArray := prog_6_method_14_code
def yX2_isFar : MethodName := ⟨RX2, "isFar", "(II)Z"⟩
abbrev cX2_sign : ByteArray := prog_6_method_15_code
def yX2_sign : MethodName := ⟨RX2, "sign", "(I)V"⟩
abbrev cX2_isSign : ByteArray := prog_6_method_16_code
def yX2_isSign : MethodName := ⟨RX2, "isSign", "(I)Z"⟩
abbrev cX2_need : ByteArray := prog_6_method_17_code
def yX2_need : MethodName := ⟨RX2, "need", "(I)V"⟩
abbrev cX2_isHere : ByteArray := prog_6_method_18_code
def yX2_isHere : MethodName := ⟨RX2, "isHere", "(I)Z"⟩
theorem q169 : (Jvm.Cond.initialized "CircuitCycles$Lexer") ∈ lw_all := lw_g (lw_at lw_m1 2 rfl) rfl
theorem q201 : (Jvm.Cond.instantiable "CircuitCycles$Lexer" (11 : Nat)) ∈ lw_all := lw_g (lw_at lw_m1 34 rfl) rfl
theorem q203 : (Jvm.Cond.instanceMethod ({ cls := "CircuitCycles$Lexer", name := "<init>", desc := "()V" } : Jvm.MethodName)) ∈ lw_all := lw_g (lw_at lw_m1 36 rfl) rfl
theorem q204 : (Jvm.Cond.code ({ cls := "CircuitCycles$Lexer", name := "<init>", desc := "()V" } : Jvm.MethodName) prog_6_method_1_code (1 : Nat) (Option.none : Option Jvm.ClassFile.FieldType)) ∈ lw_all := lw_g (lw_at lw_m1 37 rfl) rfl
theorem q205 : (Jvm.Cond.methodLink "CircuitCycles$Lexer" (3 : Nat) ({ cls := "java/lang/Object", name := "<init>", desc := "()V" } : Jvm.MethodName)) ∈ lw_all := lw_g (lw_at lw_m1 38 rfl) rfl
theorem q206 : (Jvm.Cond.classLink "CircuitCycles$Lexer" (9 : Nat) "java/lang/String") ∈ lw_all := lw_g (lw_at lw_m1 39 rfl) rfl
theorem q208 : (Jvm.Cond.stringRef "CircuitCycles$Lexer" (11 : Nat) "module") ∈ lw_tbl := lw_at lw_m1 41 rfl
theorem q209 : (Jvm.Cond.stringRef "CircuitCycles$Lexer" (13 : Nat) "endmodule") ∈ lw_tbl := lw_at lw_m1 42 rfl
theorem q210 : (Jvm.Cond.stringRef "CircuitCycles$Lexer" (15 : Nat) "input") ∈ lw_tbl := lw_at lw_m1 43 rfl
theorem q211 : (Jvm.Cond.stringRef "CircuitCycles$Lexer" (17 : Nat) "output") ∈ lw_tbl := lw_at lw_m1 44 rfl
theorem q212 : (Jvm.Cond.stringRef "CircuitCycles$Lexer" (19 : Nat) "wire") ∈ lw_tbl := lw_at lw_m1 45 rfl
theorem q213 : (Jvm.Cond.stringRef "CircuitCycles$Lexer" (21 : Nat) "reg") ∈ lw_tbl := lw_at lw_m1 46 rfl
theorem q214 : (Jvm.Cond.stringRef "CircuitCycles$Lexer" (23 : Nat) "assign") ∈ lw_tbl := lw_at lw_m1 47 rfl
theorem q215 : (Jvm.Cond.stringRef "CircuitCycles$Lexer" (25 : Nat) "always") ∈ lw_tbl := lw_at lw_m1 48 rfl
theorem q216 : (Jvm.Cond.stringRef "CircuitCycles$Lexer" (27 : Nat) "posedge") ∈ lw_tbl := lw_at lw_m1 49 rfl
theorem q217 : (Jvm.Cond.stringRef "CircuitCycles$Lexer" (29 : Nat) "clock") ∈ lw_tbl := lw_at lw_m1 50 rfl
theorem q218 : (Jvm.Cond.stringRef "CircuitCycles$Lexer" (31 : Nat) "begin") ∈ lw_tbl := lw_at lw_m1 51 rfl
theorem q219 : (Jvm.Cond.stringRef "CircuitCycles$Lexer" (33 : Nat) "end") ∈ lw_tbl := lw_at lw_m1 52 rfl
theorem q220 : (Jvm.Cond.stringRef "CircuitCycles$Lexer" (35 : Nat) "if") ∈ lw_tbl := lw_at lw_m1 53 rfl
theorem q221 : (Jvm.Cond.stringRef "CircuitCycles$Lexer" (37 : Nat) "else") ∈ lw_tbl := lw_at lw_m1 54 rfl
theorem q222 : (Jvm.Cond.stringRef "CircuitCycles$Lexer" (39 : Nat) "case") ∈ lw_tbl := lw_at lw_m1 55 rfl
theorem q223 : (Jvm.Cond.stringRef "CircuitCycles$Lexer" (41 : Nat) "endcase") ∈ lw_tbl := lw_at lw_m1 56 rfl
theorem q224 : (Jvm.Cond.stringRef "CircuitCycles$Lexer" (43 : Nat) "default") ∈ lw_tbl := lw_at lw_m1 57 rfl
theorem q225 : (Jvm.Cond.stringRef "CircuitCycles$Lexer" (45 : Nat) "assert") ∈ lw_tbl := lw_at lw_m1 58 rfl
theorem q226 : (Jvm.Cond.classLink "CircuitCycles$Lexer" (53 : Nat) "java/lang/IllegalStateException") ∈ lw_all := lw_g (lw_at lw_m1 59 rfl) rfl
theorem q269 : (Jvm.Cond.stringRef "CircuitCycles$Lexer" (55 : Nat) "a fault") ∈ lw_tbl := lw_at lw_m1 102 rfl
theorem q270 : (Jvm.Cond.methodLink "CircuitCycles$Lexer" (57 : Nat) ({ cls := "java/lang/IllegalStateException", name := "<init>", desc := "(Ljava/lang/String;)V" } : Jvm.MethodName)) ∈ lw_all := lw_g (lw_at lw_m1 103 rfl) rfl
theorem q296 : (Jvm.Cond.constant "CircuitCycles$Lexer" (64 : Nat) (65536 : Int32)) ∈ lw_all := lw_g (lw_at lw_m1 129 rfl) rfl
theorem q297 : (Jvm.Cond.fieldLink "CircuitCycles$Lexer" (47 : Nat) "CircuitCycles$Lexer" "keywords" "[Ljava/lang/String;") ∈ lw_all := lw_g (lw_at lw_m1 130 rfl) rfl
theorem q298 : (Jvm.Cond.fieldLink "CircuitCycles$Lexer" (60 : Nat) "CircuitCycles$Lexer" "thrown" "Ljava/lang/IllegalStateException;") ∈ lw_all := lw_g (lw_at lw_m1 131 rfl) rfl
theorem q299 : (Jvm.Cond.fieldLink "CircuitCycles$Lexer" (65 : Nat) "CircuitCycles$Lexer" "text" "[B") ∈ lw_all := lw_g (lw_at lw_m1 132 rfl) rfl
theorem q302 : (Jvm.Cond.fieldLink "CircuitCycles$Lexer" (82 : Nat) "CircuitCycles$Lexer" "length" "I") ∈ lw_all := lw_g (lw_at lw_m1 135 rfl) rfl
theorem q305 : (Jvm.Cond.fieldLink "CircuitCycles$Lexer" (69 : Nat) "CircuitCycles$Lexer" "code" "I") ∈ lw_all := lw_g (lw_at lw_m1 138 rfl) rfl
theorem q307 : (Jvm.Cond.fieldLink "CircuitCycles$Lexer" (73 : Nat) "CircuitCycles$Lexer" "place" "I") ∈ lw_all := lw_g (lw_at lw_m1 140 rfl) rfl
theorem q310 : (Jvm.Cond.fieldLink "CircuitCycles$Lexer" (106 : Nat) "CircuitCycles$Lexer" "kind" "I") ∈ lw_all := lw_g (lw_at lw_m1 143 rfl) rfl
theorem q312 : (Jvm.Cond.fieldLink "CircuitCycles$Lexer" (103 : Nat) "CircuitCycles$Lexer" "from" "I") ∈ lw_all := lw_g (lw_at lw_m1 145 rfl) rfl
theorem q313 : (Jvm.Cond.fieldLink "CircuitCycles$Lexer" (76 : Nat) "CircuitCycles$Lexer" "to" "I") ∈ lw_all := lw_g (lw_at lw_m1 146 rfl) rfl
theorem q316 : (Jvm.Cond.fieldLink "CircuitCycles$Lexer" (134 : Nat) "CircuitCycles$Lexer" "value" "J") ∈ lw_all := lw_g (lw_at lw_m1 149 rfl) rfl
theorem q318 : (Jvm.Cond.fieldLink "CircuitCycles$Lexer" (138 : Nat) "CircuitCycles$Lexer" "width" "I") ∈ lw_all := lw_g (lw_at lw_m1 151 rfl) rfl
theorem q319 : (Jvm.Cond.laysFinal "CircuitCycles$Lexer" "CircuitCycles$Lexer" "keywords" "[Ljava/lang/String;") ∈ lw_all := lw_g (lw_at lw_m1 152 rfl) rfl
theorem q320 : (Jvm.Cond.soleField "CircuitCycles$Lexer" "keywords") ∈ lw_all := lw_g (lw_at lw_m1 153 rfl) rfl
theorem q321 : (Jvm.Cond.laysFinal "CircuitCycles$Lexer" "CircuitCycles$Lexer" "thrown" "Ljava/lang/IllegalStateException;") ∈ lw_all := lw_g (lw_at lw_m1 154 rfl) rfl
theorem q322 : (Jvm.Cond.soleField "CircuitCycles$Lexer" "thrown") ∈ lw_all := lw_g (lw_at lw_m1 155 rfl) rfl
theorem q323 : (Jvm.Cond.laysFinal "CircuitCycles$Lexer" "CircuitCycles$Lexer" "text" "[B") ∈ lw_all := lw_g (lw_at lw_m1 156 rfl) rfl
theorem q324 : (Jvm.Cond.soleField "CircuitCycles$Lexer" "text") ∈ lw_all := lw_g (lw_at lw_m1 157 rfl) rfl
theorem q325 : (Jvm.Cond.lays "CircuitCycles$Lexer" "CircuitCycles$Lexer" "length" "I") ∈ lw_all := lw_g (lw_at lw_m1 158 rfl) rfl
theorem q326 : (Jvm.Cond.soleField "CircuitCycles$Lexer" "length") ∈ lw_all := lw_g (lw_at lw_m1 159 rfl) rfl
theorem q327 : (Jvm.Cond.lays "CircuitCycles$Lexer" "CircuitCycles$Lexer" "code" "I") ∈ lw_all := lw_g (lw_at lw_m1 160 rfl) rfl
theorem q328 : (Jvm.Cond.soleField "CircuitCycles$Lexer" "code") ∈ lw_all := lw_g (lw_at lw_m1 161 rfl) rfl
theorem q329 : (Jvm.Cond.lays "CircuitCycles$Lexer" "CircuitCycles$Lexer" "place" "I") ∈ lw_all := lw_g (lw_at lw_m1 162 rfl) rfl
theorem q330 : (Jvm.Cond.soleField "CircuitCycles$Lexer" "place") ∈ lw_all := lw_g (lw_at lw_m1 163 rfl) rfl
theorem q331 : (Jvm.Cond.lays "CircuitCycles$Lexer" "CircuitCycles$Lexer" "kind" "I") ∈ lw_all := lw_g (lw_at lw_m1 164 rfl) rfl
theorem q332 : (Jvm.Cond.soleField "CircuitCycles$Lexer" "kind") ∈ lw_all := lw_g (lw_at lw_m1 165 rfl) rfl
theorem q333 : (Jvm.Cond.lays "CircuitCycles$Lexer" "CircuitCycles$Lexer" "from" "I") ∈ lw_all := lw_g (lw_at lw_m1 166 rfl) rfl
theorem q334 : (Jvm.Cond.soleField "CircuitCycles$Lexer" "from") ∈ lw_all := lw_g (lw_at lw_m1 167 rfl) rfl
theorem q335 : (Jvm.Cond.lays "CircuitCycles$Lexer" "CircuitCycles$Lexer" "to" "I") ∈ lw_all := lw_g (lw_at lw_m1 168 rfl) rfl
theorem q336 : (Jvm.Cond.soleField "CircuitCycles$Lexer" "to") ∈ lw_all := lw_g (lw_at lw_m1 169 rfl) rfl
theorem q337 : (Jvm.Cond.lays "CircuitCycles$Lexer" "CircuitCycles$Lexer" "value" "J") ∈ lw_all := lw_g (lw_at lw_m1 170 rfl) rfl
theorem q338 : (Jvm.Cond.soleField "CircuitCycles$Lexer" "value") ∈ lw_all := lw_g (lw_at lw_m1 171 rfl) rfl
theorem q339 : (Jvm.Cond.lays "CircuitCycles$Lexer" "CircuitCycles$Lexer" "width" "I") ∈ lw_all := lw_g (lw_at lw_m1 172 rfl) rfl
theorem q340 : (Jvm.Cond.soleField "CircuitCycles$Lexer" "width") ∈ lw_all := lw_g (lw_at lw_m1 173 rfl) rfl
theorem q341 : (Jvm.Cond.superclass "CircuitCycles$Lexer" "java/lang/Object") ∈ lw_all := lw_g (lw_at lw_m1 174 rfl) rfl
theorem q654 : (Jvm.Cond.instanceMethod ({ cls := "CircuitCycles$Lexer", name := "begin", desc := "()V" } : Jvm.MethodName)) ∈ lw_all := lw_g (lw_at lw_m3 7 rfl) rfl
theorem q655 : (Jvm.Cond.selects "CircuitCycles$Lexer" ({ cls := "CircuitCycles$Lexer", name := "begin", desc := "()V" } : Jvm.MethodName) ({ cls := "CircuitCycles$Lexer", name := "begin", desc := "()V" } : Jvm.MethodName)) ∈ lw_all := lw_g (lw_at lw_m3 8 rfl) rfl
theorem q656 : (Jvm.Cond.code ({ cls := "CircuitCycles$Lexer", name := "begin", desc := "()V" } : Jvm.MethodName) prog_6_method_3_code (1 : Nat) (Option.none : Option Jvm.ClassFile.FieldType)) ∈ lw_all := lw_g (lw_at lw_m3 9 rfl) rfl
theorem q657 : (Jvm.Cond.methodLink "CircuitCycles$Lexer" (79 : Nat) ({ cls := "CircuitCycles$Lexer", name := "next", desc := "()V" } : Jvm.MethodName)) ∈ lw_all := lw_g (lw_at lw_m3 10 rfl) rfl
theorem q658 : (Jvm.Cond.instanceMethod ({ cls := "CircuitCycles$Lexer", name := "next", desc := "()V" } : Jvm.MethodName)) ∈ lw_all := lw_g (lw_at lw_m3 11 rfl) rfl
theorem q659 : (Jvm.Cond.selects "CircuitCycles$Lexer" ({ cls := "CircuitCycles$Lexer", name := "next", desc := "()V" } : Jvm.MethodName) ({ cls := "CircuitCycles$Lexer", name := "next", desc := "()V" } : Jvm.MethodName)) ∈ lw_all := lw_g (lw_at lw_m3 12 rfl) rfl
theorem q660 : (Jvm.Cond.code ({ cls := "CircuitCycles$Lexer", name := "next", desc := "()V" } : Jvm.MethodName) prog_6_method_9_code (2 : Nat) (Option.none : Option Jvm.ClassFile.FieldType)) ∈ lw_all := lw_g (lw_at lw_m3 13 rfl) rfl
theorem q661 : (Jvm.Cond.methodLink "CircuitCycles$Lexer" (100 : Nat) ({ cls := "CircuitCycles$Lexer", name := "blanks", desc := "()V" } : Jvm.MethodName)) ∈ lw_all := lw_g (lw_at lw_m3 14 rfl) rfl
theorem q662 : (Jvm.Cond.privateMethod ({ cls := "CircuitCycles$Lexer", name := "blanks", desc := "()V" } : Jvm.MethodName)) ∈ lw_tbl := lw_at lw_m3 15 rfl
theorem q663 : (Jvm.Cond.instanceMethod ({ cls := "CircuitCycles$Lexer", name := "blanks", desc := "()V" } : Jvm.MethodName)) ∈ lw_all := lw_g (lw_at lw_m3 16 rfl) rfl
theorem q664 : (Jvm.Cond.code ({ cls := "CircuitCycles$Lexer", name := "blanks", desc := "()V" } : Jvm.MethodName) prog_6_method_8_code (4 : Nat) (Option.none : Option Jvm.ClassFile.FieldType)) ∈ lw_all := lw_g (lw_at lw_m3 17 rfl) rfl
theorem q665 : (Jvm.Cond.methodLink "CircuitCycles$Lexer" (92 : Nat) ({ cls := "CircuitCycles$Lexer", name := "at", desc := "(I)I" } : Jvm.MethodName)) ∈ lw_all := lw_g (lw_at lw_m3 18 rfl) rfl
theorem q666 : (Jvm.Cond.privateMethod ({ cls := "CircuitCycles$Lexer", name := "at", desc := "(I)I" } : Jvm.MethodName)) ∈ lw_tbl := lw_at lw_m3 19 rfl
theorem q667 : (Jvm.Cond.instanceMethod ({ cls := "CircuitCycles$Lexer", name := "at", desc := "(I)I" } : Jvm.MethodName)) ∈ lw_all := lw_g (lw_at lw_m3 20 rfl) rfl
theorem q668 : (Jvm.Cond.code ({ cls := "CircuitCycles$Lexer", name := "at", desc := "(I)I" } : Jvm.MethodName) prog_6_method_4_code (2 : Nat) (Option.some Jvm.ClassFile.FieldType.int)) ∈ lw_all := lw_g (lw_at lw_m3 21 rfl) rfl
theorem q669 : (Jvm.Cond.methodLink "CircuitCycles$Lexer" (96 : Nat) ({ cls := "CircuitCycles$Lexer", name := "flaw", desc := "(II)Ljava/lang/IllegalStateException;" } : Jvm.MethodName)) ∈ lw_all := lw_g (lw_at lw_m3 22 rfl) rfl
theorem q670 : (Jvm.Cond.instanceMethod ({ cls := "CircuitCycles$Lexer", name := "flaw", desc := "(II)Ljava/lang/IllegalStateException;" } : Jvm.MethodName)) ∈ lw_all := lw_g (lw_at lw_m3 23 rfl) rfl
theorem q671 : (Jvm.Cond.selects "CircuitCycles$Lexer" ({ cls := "CircuitCycles$Lexer", name := "flaw", desc := "(II)Ljava/lang/IllegalStateException;" } : Jvm.MethodName) ({ cls := "CircuitCycles$Lexer", name := "flaw", desc := "(II)Ljava/lang/IllegalStateException;" } : Jvm.MethodName)) ∈ lw_all := lw_g (lw_at lw_m3 24 rfl) rfl
theorem q672 : (Jvm.Cond.code ({ cls := "CircuitCycles$Lexer", name := "flaw", desc := "(II)Ljava/lang/IllegalStateException;" } : Jvm.MethodName) prog_6_method_2_code (3 : Nat) (Option.some (Jvm.ClassFile.FieldType.object "java/lang/IllegalStateException"))) ∈ lw_all := lw_g (lw_at lw_m3 25 rfl) rfl
theorem q673 : (Jvm.Cond.methodLink "CircuitCycles$Lexer" (85 : Nat) ({ cls := "CircuitCycles$Lexer", name := "isLetter", desc := "(I)Z" } : Jvm.MethodName)) ∈ lw_all := lw_g (lw_at lw_m3 26 rfl) rfl
theorem q674 : (Jvm.Cond.static ({ cls := "CircuitCycles$Lexer", name := "isLetter", desc := "(I)Z" } : Jvm.MethodName)) ∈ lw_all := lw_g (lw_at lw_m3 27 rfl) rfl
theorem q675 : (Jvm.Cond.code ({ cls := "CircuitCycles$Lexer", name := "isLetter", desc := "(I)Z" } : Jvm.MethodName) prog_6_method_6_code (1 : Nat) (Option.some Jvm.ClassFile.FieldType.boolean)) ∈ lw_all := lw_g (lw_at lw_m3 28 rfl) rfl
theorem q676 : (Jvm.Cond.methodLink "CircuitCycles$Lexer" (109 : Nat) ({ cls := "CircuitCycles$Lexer", name := "isWord", desc := "(I)Z" } : Jvm.MethodName)) ∈ lw_all := lw_g (lw_at lw_m3 29 rfl) rfl
theorem q677 : (Jvm.Cond.static ({ cls := "CircuitCycles$Lexer", name := "isWord", desc := "(I)Z" } : Jvm.MethodName)) ∈ lw_all := lw_g (lw_at lw_m3 30 rfl) rfl
theorem q678 : (Jvm.Cond.code ({ cls := "CircuitCycles$Lexer", name := "isWord", desc := "(I)Z" } : Jvm.MethodName) prog_6_method_7_code (1 : Nat) (Option.some Jvm.ClassFile.FieldType.boolean)) ∈ lw_all := lw_g (lw_at lw_m3 31 rfl) rfl
theorem q679 : (Jvm.Cond.methodLink "CircuitCycles$Lexer" (89 : Nat) ({ cls := "CircuitCycles$Lexer", name := "isDigit", desc := "(I)Z" } : Jvm.MethodName)) ∈ lw_all := lw_g (lw_at lw_m3 32 rfl) rfl
theorem q680 : (Jvm.Cond.static ({ cls := "CircuitCycles$Lexer", name := "isDigit", desc := "(I)Z" } : Jvm.MethodName)) ∈ lw_all := lw_g (lw_at lw_m3 33 rfl) rfl
theorem q681 : (Jvm.Cond.code ({ cls := "CircuitCycles$Lexer", name := "isDigit", desc := "(I)Z" } : Jvm.MethodName) prog_6_method_5_code (1 : Nat) (Option.some Jvm.ClassFile.FieldType.boolean)) ∈ lw_all := lw_g (lw_at lw_m3 34 rfl) rfl
theorem q682 : (Jvm.Cond.methodLink "CircuitCycles$Lexer" (112 : Nat) ({ cls := "CircuitCycles$Lexer", name := "keyword", desc := "()I" } : Jvm.MethodName)) ∈ lw_all := lw_g (lw_at lw_m3 35 rfl) rfl
theorem q683 : (Jvm.Cond.privateMethod ({ cls := "CircuitCycles$Lexer", name := "keyword", desc := "()I" } : Jvm.MethodName)) ∈ lw_tbl := lw_at lw_m3 36 rfl
theorem q684 : (Jvm.Cond.instanceMethod ({ cls := "CircuitCycles$Lexer", name := "keyword", desc := "()I" } : Jvm.MethodName)) ∈ lw_all := lw_g (lw_at lw_m3 37 rfl) rfl
theorem q685 : (Jvm.Cond.code ({ cls := "CircuitCycles$Lexer", name := "keyword", desc := "()I" } : Jvm.MethodName) prog_6_method_11_code (4 : Nat) (Option.some Jvm.ClassFile.FieldType.int)) ∈ lw_all := lw_g (lw_at lw_m3 38 rfl) rfl
theorem q686 : (Jvm.Cond.methodLink "CircuitCycles$Lexer" (127 : Nat) ({ cls := "java/lang/String", name := "length", desc := "()I" } : Jvm.MethodName)) ∈ lw_all := lw_g (lw_at lw_m3 39 rfl) rfl
theorem q696 : (Jvm.Cond.methodLink "CircuitCycles$Lexer" (129 : Nat) ({ cls := "java/lang/String", name := "charAt", desc := "(I)C" } : Jvm.MethodName)) ∈ lw_all := lw_g (lw_at lw_m3 49 rfl) rfl
theorem q734 : (Jvm.Cond.methodLink "CircuitCycles$Lexer" (116 : Nat) ({ cls := "CircuitCycles$Lexer", name := "isSized", desc := "()Z" } : Jvm.MethodName)) ∈ lw_all := lw_g (lw_at lw_m3 87 rfl) rfl
theorem q735 : (Jvm.Cond.privateMethod ({ cls := "CircuitCycles$Lexer", name := "isSized", desc := "()Z" } : Jvm.MethodName)) ∈ lw_tbl := lw_at lw_m3 88 rfl
theorem q736 : (Jvm.Cond.instanceMethod ({ cls := "CircuitCycles$Lexer", name := "isSized", desc := "()Z" } : Jvm.MethodName)) ∈ lw_all := lw_g (lw_at lw_m3 89 rfl) rfl
theorem q737 : (Jvm.Cond.code ({ cls := "CircuitCycles$Lexer", name := "isSized", desc := "()Z" } : Jvm.MethodName) prog_6_method_10_code (3 : Nat) (Option.some Jvm.ClassFile.FieldType.boolean)) ∈ lw_all := lw_g (lw_at lw_m3 90 rfl) rfl
theorem q738 : (Jvm.Cond.methodLink "CircuitCycles$Lexer" (120 : Nat) ({ cls := "CircuitCycles$Lexer", name := "number", desc := "()V" } : Jvm.MethodName)) ∈ lw_all := lw_g (lw_at lw_m3 91 rfl) rfl
theorem q739 : (Jvm.Cond.privateMethod ({ cls := "CircuitCycles$Lexer", name := "number", desc := "()V" } : Jvm.MethodName)) ∈ lw_tbl := lw_at lw_m3 92 rfl
theorem q740 : (Jvm.Cond.instanceMethod ({ cls := "CircuitCycles$Lexer", name := "number", desc := "()V" } : Jvm.MethodName)) ∈ lw_all := lw_g (lw_at lw_m3 93 rfl) rfl
theorem q741 : (Jvm.Cond.code ({ cls := "CircuitCycles$Lexer", name := "number", desc := "()V" } : Jvm.MethodName) prog_6_method_13_code (6 : Nat) (Option.none : Option Jvm.ClassFile.FieldType)) ∈ lw_all := lw_g (lw_at lw_m3 94 rfl) rfl
theorem q742 : (Jvm.Cond.constant "CircuitCycles$Lexer" (133 : Nat) (65535 : Int32)) ∈ lw_all := lw_g (lw_at lw_m3 95 rfl) rfl
theorem q743 : (Jvm.Cond.methodLink "CircuitCycles$Lexer" (141 : Nat) ({ cls := "CircuitCycles$Lexer", name := "digit", desc := "(I)I" } : Jvm.MethodName)) ∈ lw_all := lw_g (lw_at lw_m3 96 rfl) rfl
theorem q744 : (Jvm.Cond.static ({ cls := "CircuitCycles$Lexer", name := "digit", desc := "(I)I" } : Jvm.MethodName)) ∈ lw_all := lw_g (lw_at lw_m3 97 rfl) rfl
theorem q745 : (Jvm.Cond.code ({ cls := "CircuitCycles$Lexer", name := "digit", desc := "(I)I" } : Jvm.MethodName) prog_6_method_12_code (1 : Nat) (Option.some Jvm.ClassFile.FieldType.int)) ∈ lw_all := lw_g (lw_at lw_m3 98 rfl) rfl
theorem q746 : (Jvm.Cond.methodLink "CircuitCycles$Lexer" (144 : Nat) ({ cls := "CircuitCycles$Lexer", name := "isFar", desc := "(II)Z" } : Jvm.MethodName)) ∈ lw_all := lw_g (lw_at lw_m3 99 rfl) rfl
theorem q747 : (Jvm.Cond.privateMethod ({ cls := "CircuitCycles$Lexer", name := "isFar", desc := "(II)Z" } : Jvm.MethodName)) ∈ lw_tbl := lw_at lw_m3 100 rfl
theorem q748 : (Jvm.Cond.instanceMethod ({ cls := "CircuitCycles$Lexer", name := "isFar", desc := "(II)Z" } : Jvm.MethodName)) ∈ lw_all := lw_g (lw_at lw_m3 101 rfl) rfl
theorem q749 : (Jvm.Cond.code ({ cls := "CircuitCycles$Lexer", name := "isFar", desc := "(II)Z" } : Jvm.MethodName) prog_6_method_14_code (5 : Nat) (Option.some Jvm.ClassFile.FieldType.boolean)) ∈ lw_all := lw_g (lw_at lw_m3 102 rfl) rfl
theorem q750 : (Jvm.Cond.constantLong "CircuitCycles$Lexer" (148 : Nat) (1844674407370955161 : Int64)) ∈ lw_all := lw_g (lw_at lw_m3 103 rfl) rfl
theorem q751 : (Jvm.Cond.methodLink "CircuitCycles$Lexer" (123 : Nat) ({ cls := "CircuitCycles$Lexer", name := "sign", desc := "(I)V" } : Jvm.MethodName)) ∈ lw_all := lw_g (lw_at lw_m3 104 rfl) rfl
theorem q752 : (Jvm.Cond.privateMethod ({ cls := "CircuitCycles$Lexer", name := "sign", desc := "(I)V" } : Jvm.MethodName)) ∈ lw_tbl := lw_at lw_m3 105 rfl
theorem q753 : (Jvm.Cond.instanceMethod ({ cls := "CircuitCycles$Lexer", name := "sign", desc := "(I)V" } : Jvm.MethodName)) ∈ lw_all := lw_g (lw_at lw_m3 106 rfl) rfl
theorem q754 : (Jvm.Cond.code ({ cls := "CircuitCycles$Lexer", name := "sign", desc := "(I)V" } : Jvm.MethodName) prog_6_method_15_code (4 : Nat) (Option.none : Option Jvm.ClassFile.FieldType)) ∈ lw_all := lw_g (lw_at lw_m3 107 rfl) rfl
theorem q755 : (Jvm.Cond.methodLink "CircuitCycles$Lexer" (150 : Nat) ({ cls := "CircuitCycles$Lexer", name := "isSign", desc := "(I)Z" } : Jvm.MethodName)) ∈ lw_all := lw_g (lw_at lw_m3 108 rfl) rfl
theorem q756 : (Jvm.Cond.static ({ cls := "CircuitCycles$Lexer", name := "isSign", desc := "(I)Z" } : Jvm.MethodName)) ∈ lw_all := lw_g (lw_at lw_m3 109 rfl) rfl
theorem q757 : (Jvm.Cond.code ({ cls := "CircuitCycles$Lexer", name := "isSign", desc := "(I)Z" } : Jvm.MethodName) prog_6_method_16_code (1 : Nat) (Option.some Jvm.ClassFile.FieldType.boolean)) ∈ lw_all := lw_g (lw_at lw_m3 110 rfl) rfl
theorem q772 : (Jvm.Cond.instanceMethod ({ cls := "CircuitCycles$Lexer", name := "need", desc := "(I)V" } : Jvm.MethodName)) ∈ lw_all := lw_g (lw_at lw_m3 125 rfl) rfl
theorem q773 : (Jvm.Cond.selects "CircuitCycles$Lexer" ({ cls := "CircuitCycles$Lexer", name := "need", desc := "(I)V" } : Jvm.MethodName) ({ cls := "CircuitCycles$Lexer", name := "need", desc := "(I)V" } : Jvm.MethodName)) ∈ lw_all := lw_g (lw_at lw_m3 126 rfl) rfl
theorem q774 : (Jvm.Cond.code ({ cls := "CircuitCycles$Lexer", name := "need", desc := "(I)V" } : Jvm.MethodName) prog_6_method_17_code (2 : Nat) (Option.none : Option Jvm.ClassFile.FieldType)) ∈ lw_all := lw_g (lw_at lw_m3 127 rfl) rfl
theorem q805 : (Jvm.Cond.instanceMethod ({ cls := "CircuitCycles$Lexer", name := "isHere", desc := "(I)Z" } : Jvm.MethodName)) ∈ lw_all := lw_g (lw_at lw_m3 158 rfl) rfl
theorem q806 : (Jvm.Cond.selects "CircuitCycles$Lexer" ({ cls := "CircuitCycles$Lexer", name := "isHere", desc := "(I)Z" } : Jvm.MethodName) ({ cls := "CircuitCycles$Lexer", name := "isHere", desc := "(I)Z" } : Jvm.MethodName)) ∈ lw_all := lw_g (lw_at lw_m3 159 rfl) rfl
theorem q807 : (Jvm.Cond.code ({ cls := "CircuitCycles$Lexer", name := "isHere", desc := "(I)Z" } : Jvm.MethodName) prog_6_method_18_code (2 : Nat) (Option.some Jvm.ClassFile.FieldType.boolean)) ∈ lw_all := lw_g (lw_at lw_m3 160 rfl) rfl
theorem in_X2 : ∀ w ∈ wsX20, w ∈ lw_all := lw_in wsX20 [319, 321, 323, 325, 327, 329, 331, 333, 335, 337, 339] (by decide +kernel) (by decide +kernel)
/-! CircuitCycles$Parser -/
set_option maxRecDepth 100000
def RX3 : String := "CircuitCycles$Parser"
def TX3 : u_T := fun k => match k with
  | 0 => ("CircuitCycles$Parser", "lexer", "LCircuitCycles$Lexer;", true)
  | 1 => ("CircuitCycles$Parser", "design", "LCircuitCycles$Design;", false)
  | 2 => ("CircuitCycles$Parser", "means", "Z", false)
  | 3 => ("CircuitCycles$Parser", "module", "I", false)
  | 4 => ("CircuitCycles$Parser", "open", "I", false)
  | 5 => ("CircuitCycles$Parser", "signs", "LCircuitCycles$Row;", true)
  | 6 => ("CircuitCycles$Parser", "places", "LCircuitCycles$Row;", true)
  | 7 => ("CircuitCycles$Parser", "widths", "LCircuitCycles$Row;", true)
  | 8 => ("CircuitCycles$Parser", "uses", "LCircuitCycles$Row;", true)
  | 9 => ("CircuitCycles$Parser", "always", "I", false)
  | _ => ("CircuitCycles$Parser", "alone", "Z", false)
def tyX3 : Nat → FieldType := fun k => match k with
  | 0 => .object "CircuitCycles$Lexer"
  | 1 => .object "CircuitCycles$Design"
  | 2 => .boolean
  | 3 => .int
  | 4 => .int
  | 5 => .object "CircuitCycles$Row"
  | 6 => .object "CircuitCycles$Row"
  | 7 => .object "CircuitCycles$Row"
  | 8 => .object "CircuitCycles$Row"
  | 9 => .int
  | _ => .boolean
abbrev wsX30 : List Cond := u_ws RX3 TX3 11
theorem nmX3 : ∀ a, a < 11 → ∀ b, b < 11 → a ≠ b → (TX3 a).2.1 ≠ (TX3 b).2.1 := by decide +kernel
theorem tyX3_ok : ∀ k, k < 11 → parseFieldDescriptor (TX3 k).2.2.1 = some (tyX3 k) := by decide +kernel
abbrev cX3_init : ByteArray := prog_7_method_1_code
def yX3_init : MethodName := ⟨RX3, "<init>", "(LCircuitCycles$Lexer;)V"⟩
abbrev cX3_parse : ByteArray := prog_7_method_7_code
def yX3_parse : MethodName := ⟨RX3, "parse", "(LCircuitCycles$Design;)V"⟩
abbrev cX3_design : ByteArray := prog_7_method_8_code
def yX3_design : MethodName := ⟨RX3, "design", "()V"⟩
abbrev cX3_need : ByteArray := prog_7_method_3_code
def yX3_need : MethodName := ⟨RX3, "need", "(ZII)V"⟩
abbrev cX3_flaw : ByteArray := prog_7_method_2_code
def yX3_flaw : MethodName := ⟨RX3, "flaw", "(II)Ljava/lang/IllegalStateException;"⟩
abbrev cX3_module : ByteArray := prog_7_method_13_code
def yX3_module : MethodName := ⟨RX3, "module", "()V"⟩
abbrev cX3_port : ByteArray := prog_7_method_12_code
def yX3_port : MethodName := ⟨RX3, "port", "()V"⟩
abbrev cX3_range : ByteArray := prog_7_method_10_code
def yX3_range : MethodName := ⟨RX3, "range", "()I"⟩
abbrev cX3_plain : ByteArray := prog_7_method_6_code
def yX3_plain : MethodName := ⟨RX3, "plain", "()I"⟩
abbrev cX3_declare : ByteArray := prog_7_method_9_code
def yX3_declare : MethodName := ⟨RX3, "declare", "(II)I"⟩
abbrev cX3_beginning : ByteArray := prog_7_method_11_code
def yX3_beginning : MethodName := ⟨RX3, "beginning", "(I)V"⟩
abbrev cX3_item : ByteArray := prog_7_method_16_code
def yX3_item : MethodName := ⟨RX3, "item", "()V"⟩
abbrev cX3_assign : ByteArray := prog_7_method_19_code
def yX3_assign : MethodName := ⟨RX3, "assign", "()V"⟩
abbrev cX3_used : ByteArray := prog_7_method_17_code
def yX3_used : MethodName := ⟨RX3, "used", "(I)I"⟩
abbrev cX3_drive : ByteArray := prog_7_method_18_code
def yX3_drive : MethodName := ⟨RX3, "drive", "(II)V"⟩
abbrev cX3_exp : ByteArray := prog_7_method_35_code
def yX3_exp : MethodName := ⟨RX3, "exp", "()V"⟩
abbrev cX3_isUnary : ByteArray := prog_7_method_38_code
def yX3_isUnary : MethodName := ⟨RX3, "isUnary", "(I)Z"⟩
abbrev cX3_wait : ByteArray := prog_7_method_36_code
def yX3_wait : MethodName := ⟨RX3, "wait", "(II)V"⟩
abbrev cX3_primary : ByteArray := prog_7_method_40_code
def yX3_primary : MethodName := ⟨RX3, "primary", "()V"⟩
abbrev cX3_code : ByteArray := prog_7_method_32_code
def yX3_code : MethodName := ⟨RX3, "code", "(II)V"⟩
abbrev cX3_code_2 : ByteArray := prog_7_method_31_code
def yX3_code_2 : MethodName := ⟨RX3, "code", "(I)V"⟩
abbrev cX3_wide : ByteArray := prog_7_method_33_code
def yX3_wide : MethodName := ⟨RX3, "wide", "(I)V"⟩
abbrev cX3_name : ByteArray := prog_7_method_41_code
def yX3_name : MethodName := ⟨RX3, "name", "()V"⟩
abbrev cX3_opens : ByteArray := prog_7_method_4_code
def yX3_opens : MethodName := ⟨RX3, "opens", "()V"⟩
abbrev cX3_cost : ByteArray := prog_7_method_5_code
def yX3_cost : MethodName := ⟨RX3, "cost", "(I)V"⟩
abbrev cX3_bracketed : ByteArray := prog_7_method_27_code
def yX3_bracketed : MethodName := ⟨RX3, "bracketed", "()V"⟩
abbrev cX3_braces : ByteArray := prog_7_method_42_code
def yX3_braces : MethodName := ⟨RX3, "braces", "()V"⟩
abbrev cX3_done : ByteArray := prog_7_method_39_code
def yX3_done : MethodName := ⟨RX3, "done", "()V"⟩
abbrev cX3_rank : ByteArray := prog_7_method_34_code
def yX3_rank : MethodName := ⟨RX3, "rank", "(I)I"⟩
abbrev cX3_choice : ByteArray := prog_7_method_37_code
def yX3_choice : MethodName := ⟨RX3, "choice", "()V"⟩
abbrev cX3_item_2 : ByteArray := prog_7_method_15_code
def yX3_item_2 : MethodName := ⟨RX3, "item", "(IIII)V"⟩
abbrev cX3_every : ByteArray := prog_7_method_23_code
def yX3_every : MethodName := ⟨RX3, "every", "()V"⟩
abbrev cX3_statement : ByteArray := prog_7_method_26_code
def yX3_statement : MethodName := ⟨RX3, "statement", "()V"⟩
abbrev cX3_act : ByteArray := prog_7_method_25_code
def yX3_act : MethodName := ⟨RX3, "act", "(III)V"⟩
abbrev cX3_act_2 : ByteArray := prog_7_method_24_code
def yX3_act_2 : MethodName := ⟨RX3, "act", "(I)V"⟩
abbrev cX3_among : ByteArray := prog_7_method_28_code
def yX3_among : MethodName := ⟨RX3, "among", "()V"⟩
abbrev cX3_label : ByteArray := prog_7_method_29_code
def yX3_label : MethodName := ⟨RX3, "label", "(I)V"⟩
abbrev cX3_set : ByteArray := prog_7_method_30_code
def yX3_set : MethodName := ⟨RX3, "set", "()V"⟩
abbrev cX3_instance : ByteArray := prog_7_method_20_code
def yX3_instance : MethodName := ⟨RX3, "instance", "()V"⟩
abbrev cX3_link : ByteArray := prog_7_method_21_code
def yX3_link : MethodName := ⟨RX3, "link", "(II)V"⟩
abbrev cX3_linked : ByteArray := prog_7_method_22_code
def yX3_linked : MethodName := ⟨RX3, "linked", "()I"⟩
abbrev cX3_ended : ByteArray := prog_7_method_14_code
def yX3_ended : MethodName := ⟨RX3, "ended", "()V"⟩
theorem q174 : (Jvm.Cond.initialized "CircuitCycles$Parser") ∈ lw_all := lw_g (lw_at lw_m1 7 rfl) rfl
theorem q301 : (Jvm.Cond.fieldLinkNest "CircuitCycles$Parser" (95 : Nat) "CircuitCycles$Lexer" "text" "[B" "CircuitCycles") ∈ lw_tbl := lw_at lw_m1 134 rfl
theorem q304 : (Jvm.Cond.fieldLinkNest "CircuitCycles$Parser" (88 : Nat) "CircuitCycles$Lexer" "length" "I" "CircuitCycles") ∈ lw_tbl := lw_at lw_m1 137 rfl
theorem q309 : (Jvm.Cond.fieldLinkNest "CircuitCycles$Parser" (75 : Nat) "CircuitCycles$Lexer" "kind" "I" "CircuitCycles") ∈ lw_tbl := lw_at lw_m1 142 rfl
theorem q311 : (Jvm.Cond.fieldLinkNest "CircuitCycles$Parser" (42 : Nat) "CircuitCycles$Lexer" "from" "I" "CircuitCycles") ∈ lw_tbl := lw_at lw_m1 144 rfl
theorem q314 : (Jvm.Cond.fieldLinkNest "CircuitCycles$Parser" (113 : Nat) "CircuitCycles$Lexer" "to" "I" "CircuitCycles") ∈ lw_tbl := lw_at lw_m1 147 rfl
theorem q315 : (Jvm.Cond.fieldLinkNest "CircuitCycles$Parser" (78 : Nat) "CircuitCycles$Lexer" "value" "J" "CircuitCycles") ∈ lw_tbl := lw_at lw_m1 148 rfl
theorem q317 : (Jvm.Cond.fieldLinkNest "CircuitCycles$Parser" (134 : Nat) "CircuitCycles$Lexer" "width" "I" "CircuitCycles") ∈ lw_tbl := lw_at lw_m1 150 rfl
theorem q343 : (Jvm.Cond.instantiable "CircuitCycles$Parser" (11 : Nat)) ∈ lw_all := lw_g (lw_at lw_m1 176 rfl) rfl
theorem q345 : (Jvm.Cond.instanceMethod ({ cls := "CircuitCycles$Parser", name := "<init>", desc := "(LCircuitCycles$Lexer;)V" } : Jvm.MethodName)) ∈ lw_all := lw_g (lw_at lw_m1 178 rfl) rfl
theorem q346 : (Jvm.Cond.code ({ cls := "CircuitCycles$Parser", name := "<init>", desc := "(LCircuitCycles$Lexer;)V" } : Jvm.MethodName) prog_7_method_1_code (2 : Nat) (Option.none : Option Jvm.ClassFile.FieldType)) ∈ lw_all := lw_g (lw_at lw_m1 179 rfl) rfl
theorem q347 : (Jvm.Cond.methodLink "CircuitCycles$Parser" (3 : Nat) ({ cls := "java/lang/Object", name := "<init>", desc := "()V" } : Jvm.MethodName)) ∈ lw_all := lw_g (lw_at lw_m1 180 rfl) rfl
theorem q348 : (Jvm.Cond.classLink "CircuitCycles$Parser" (9 : Nat) "CircuitCycles$Row") ∈ lw_all := lw_g (lw_at lw_m1 181 rfl) rfl
theorem q350 : (Jvm.Cond.methodLinkNest "CircuitCycles$Parser" (11 : Nat) ({ cls := "CircuitCycles$Row", name := "<init>", desc := "()V" } : Jvm.MethodName) "CircuitCycles") ∈ lw_tbl := lw_at lw_m1 183 rfl
theorem q361 : (Jvm.Cond.fieldLinkNest "CircuitCycles$Parser" (110 : Nat) "CircuitCycles$Row" "size" "I" "CircuitCycles") ∈ lw_tbl := lw_at lw_m1 194 rfl
theorem q368 : (Jvm.Cond.fieldLink "CircuitCycles$Parser" (27 : Nat) "CircuitCycles$Parser" "lexer" "LCircuitCycles$Lexer;") ∈ lw_all := lw_g (lw_at lw_m1 201 rfl) rfl
theorem q369 : (Jvm.Cond.fieldLink "CircuitCycles$Parser" (52 : Nat) "CircuitCycles$Parser" "design" "LCircuitCycles$Design;") ∈ lw_all := lw_g (lw_at lw_m1 202 rfl) rfl
theorem q370 : (Jvm.Cond.fieldLink "CircuitCycles$Parser" (96 : Nat) "CircuitCycles$Parser" "means" "Z") ∈ lw_all := lw_g (lw_at lw_m1 203 rfl) rfl
theorem q371 : (Jvm.Cond.fieldLink "CircuitCycles$Parser" (49 : Nat) "CircuitCycles$Parser" "module" "I") ∈ lw_all := lw_g (lw_at lw_m1 204 rfl) rfl
theorem q372 : (Jvm.Cond.fieldLink "CircuitCycles$Parser" (38 : Nat) "CircuitCycles$Parser" "open" "I") ∈ lw_all := lw_g (lw_at lw_m1 205 rfl) rfl
theorem q373 : (Jvm.Cond.fieldLink "CircuitCycles$Parser" (12 : Nat) "CircuitCycles$Parser" "signs" "LCircuitCycles$Row;") ∈ lw_all := lw_g (lw_at lw_m1 206 rfl) rfl
theorem q374 : (Jvm.Cond.fieldLink "CircuitCycles$Parser" (18 : Nat) "CircuitCycles$Parser" "places" "LCircuitCycles$Row;") ∈ lw_all := lw_g (lw_at lw_m1 207 rfl) rfl
theorem q375 : (Jvm.Cond.fieldLink "CircuitCycles$Parser" (21 : Nat) "CircuitCycles$Parser" "widths" "LCircuitCycles$Row;") ∈ lw_all := lw_g (lw_at lw_m1 208 rfl) rfl
theorem q376 : (Jvm.Cond.fieldLink "CircuitCycles$Parser" (24 : Nat) "CircuitCycles$Parser" "uses" "LCircuitCycles$Row;") ∈ lw_all := lw_g (lw_at lw_m1 209 rfl) rfl
theorem q377 : (Jvm.Cond.fieldLink "CircuitCycles$Parser" (158 : Nat) "CircuitCycles$Parser" "always" "I") ∈ lw_all := lw_g (lw_at lw_m1 210 rfl) rfl
theorem q378 : (Jvm.Cond.fieldLink "CircuitCycles$Parser" (232 : Nat) "CircuitCycles$Parser" "alone" "Z") ∈ lw_all := lw_g (lw_at lw_m1 211 rfl) rfl
theorem q379 : (Jvm.Cond.laysFinal "CircuitCycles$Parser" "CircuitCycles$Parser" "lexer" "LCircuitCycles$Lexer;") ∈ lw_all := lw_g (lw_at lw_m1 212 rfl) rfl
theorem q380 : (Jvm.Cond.soleField "CircuitCycles$Parser" "lexer") ∈ lw_all := lw_g (lw_at lw_m1 213 rfl) rfl
theorem q381 : (Jvm.Cond.lays "CircuitCycles$Parser" "CircuitCycles$Parser" "design" "LCircuitCycles$Design;") ∈ lw_all := lw_g (lw_at lw_m1 214 rfl) rfl
theorem q382 : (Jvm.Cond.soleField "CircuitCycles$Parser" "design") ∈ lw_all := lw_g (lw_at lw_m1 215 rfl) rfl
theorem q383 : (Jvm.Cond.lays "CircuitCycles$Parser" "CircuitCycles$Parser" "means" "Z") ∈ lw_all := lw_g (lw_at lw_m1 216 rfl) rfl
theorem q384 : (Jvm.Cond.soleField "CircuitCycles$Parser" "means") ∈ lw_all := lw_g (lw_at lw_m1 217 rfl) rfl
theorem q385 : (Jvm.Cond.lays "CircuitCycles$Parser" "CircuitCycles$Parser" "module" "I") ∈ lw_all := lw_g (lw_at lw_m1 218 rfl) rfl
theorem q386 : (Jvm.Cond.soleField "CircuitCycles$Parser" "module") ∈ lw_all := lw_g (lw_at lw_m1 219 rfl) rfl
theorem q387 : (Jvm.Cond.lays "CircuitCycles$Parser" "CircuitCycles$Parser" "open" "I") ∈ lw_all := lw_g (lw_at lw_m1 220 rfl) rfl
theorem q388 : (Jvm.Cond.soleField "CircuitCycles$Parser" "open") ∈ lw_all := lw_g (lw_at lw_m1 221 rfl) rfl
theorem q389 : (Jvm.Cond.laysFinal "CircuitCycles$Parser" "CircuitCycles$Parser" "signs" "LCircuitCycles$Row;") ∈ lw_all := lw_g (lw_at lw_m1 222 rfl) rfl
theorem q390 : (Jvm.Cond.soleField "CircuitCycles$Parser" "signs") ∈ lw_all := lw_g (lw_at lw_m1 223 rfl) rfl
theorem q391 : (Jvm.Cond.laysFinal "CircuitCycles$Parser" "CircuitCycles$Parser" "places" "LCircuitCycles$Row;") ∈ lw_all := lw_g (lw_at lw_m1 224 rfl) rfl
theorem q392 : (Jvm.Cond.soleField "CircuitCycles$Parser" "places") ∈ lw_all := lw_g (lw_at lw_m1 225 rfl) rfl
theorem q393 : (Jvm.Cond.laysFinal "CircuitCycles$Parser" "CircuitCycles$Parser" "widths" "LCircuitCycles$Row;") ∈ lw_all := lw_g (lw_at lw_m1 226 rfl) rfl
theorem q394 : (Jvm.Cond.soleField "CircuitCycles$Parser" "widths") ∈ lw_all := lw_g (lw_at lw_m1 227 rfl) rfl
theorem q395 : (Jvm.Cond.laysFinal "CircuitCycles$Parser" "CircuitCycles$Parser" "uses" "LCircuitCycles$Row;") ∈ lw_all := lw_g (lw_at lw_m1 228 rfl) rfl
theorem q396 : (Jvm.Cond.soleField "CircuitCycles$Parser" "uses") ∈ lw_all := lw_g (lw_at lw_m1 229 rfl) rfl
theorem q397 : (Jvm.Cond.lays "CircuitCycles$Parser" "CircuitCycles$Parser" "always" "I") ∈ lw_all := lw_g (lw_at lw_m1 230 rfl) rfl
theorem q398 : (Jvm.Cond.soleField "CircuitCycles$Parser" "always") ∈ lw_all := lw_g (lw_at lw_m1 231 rfl) rfl
theorem q399 : (Jvm.Cond.lays "CircuitCycles$Parser" "CircuitCycles$Parser" "alone" "Z") ∈ lw_all := lw_g (lw_at lw_m1 232 rfl) rfl
theorem q400 : (Jvm.Cond.soleField "CircuitCycles$Parser" "alone") ∈ lw_all := lw_g (lw_at lw_m1 233 rfl) rfl
theorem q401 : (Jvm.Cond.superclass "CircuitCycles$Parser" "java/lang/Object") ∈ lw_all := lw_g (lw_at lw_m1 234 rfl) rfl
theorem q419 : (Jvm.Cond.fieldLinkNest "CircuitCycles$Parser" (107 : Nat) "CircuitCycles$Design" "symbols" "LCircuitCycles$Row;" "CircuitCycles") ∈ lw_tbl := lw_at lw_m2 12 rfl
theorem q422 : (Jvm.Cond.fieldLinkNest "CircuitCycles$Parser" (56 : Nat) "CircuitCycles$Design" "modules" "LCircuitCycles$Row;" "CircuitCycles") ∈ lw_tbl := lw_at lw_m2 15 rfl
theorem q425 : (Jvm.Cond.fieldLinkNest "CircuitCycles$Parser" (155 : Nat) "CircuitCycles$Design" "items" "LCircuitCycles$Row;" "CircuitCycles") ∈ lw_tbl := lw_at lw_m2 18 rfl
theorem q428 : (Jvm.Cond.fieldLinkNest "CircuitCycles$Parser" (217 : Nat) "CircuitCycles$Design" "links" "LCircuitCycles$Row;" "CircuitCycles") ∈ lw_tbl := lw_at lw_m2 21 rfl
theorem q430 : (Jvm.Cond.fieldLinkNest "CircuitCycles$Parser" (185 : Nat) "CircuitCycles$Design" "codes" "LCircuitCycles$Row;" "CircuitCycles") ∈ lw_tbl := lw_at lw_m2 23 rfl
theorem q433 : (Jvm.Cond.fieldLinkNest "CircuitCycles$Parser" (235 : Nat) "CircuitCycles$Design" "acts" "LCircuitCycles$Row;" "CircuitCycles") ∈ lw_tbl := lw_at lw_m2 26 rfl
theorem q436 : (Jvm.Cond.fieldLinkNest "CircuitCycles$Parser" (91 : Nat) "CircuitCycles$Design" "text" "[B" "CircuitCycles") ∈ lw_tbl := lw_at lw_m2 29 rfl
theorem q642 : (Jvm.Cond.instanceMethod ({ cls := "CircuitCycles$Parser", name := "parse", desc := "(LCircuitCycles$Design;)V" } : Jvm.MethodName)) ∈ lw_all := lw_g (lw_at lw_m2 235 rfl) rfl
theorem q643 : (Jvm.Cond.selects "CircuitCycles$Parser" ({ cls := "CircuitCycles$Parser", name := "parse", desc := "(LCircuitCycles$Design;)V" } : Jvm.MethodName) ({ cls := "CircuitCycles$Parser", name := "parse", desc := "(LCircuitCycles$Design;)V" } : Jvm.MethodName)) ∈ lw_all := lw_g (lw_at lw_m2 236 rfl) rfl
theorem q644 : (Jvm.Cond.code ({ cls := "CircuitCycles$Parser", name := "parse", desc := "(LCircuitCycles$Design;)V" } : Jvm.MethodName) prog_7_method_7_code (3 : Nat) (Option.none : Option Jvm.ClassFile.FieldType)) ∈ lw_all := lw_g (lw_at lw_m2 237 rfl) rfl
theorem q645 : (Jvm.Cond.methodLink "CircuitCycles$Parser" (85 : Nat) ({ cls := "CircuitCycles$Design", name := "clear", desc := "()V" } : Jvm.MethodName)) ∈ lw_all := lw_g (lw_at lw_m2 238 rfl) rfl
theorem q649 : (Jvm.Cond.methodLink "CircuitCycles$Parser" (100 : Nat) ({ cls := "CircuitCycles$Parser", name := "design", desc := "()V" } : Jvm.MethodName)) ∈ lw_all := lw_g (lw_at lw_m3 2 rfl) rfl
theorem q650 : (Jvm.Cond.privateMethod ({ cls := "CircuitCycles$Parser", name := "design", desc := "()V" } : Jvm.MethodName)) ∈ lw_tbl := lw_at lw_m3 3 rfl
theorem q651 : (Jvm.Cond.instanceMethod ({ cls := "CircuitCycles$Parser", name := "design", desc := "()V" } : Jvm.MethodName)) ∈ lw_all := lw_g (lw_at lw_m3 4 rfl) rfl
theorem q652 : (Jvm.Cond.code ({ cls := "CircuitCycles$Parser", name := "design", desc := "()V" } : Jvm.MethodName) prog_7_method_8_code (1 : Nat) (Option.none : Option Jvm.ClassFile.FieldType)) ∈ lw_all := lw_g (lw_at lw_m3 5 rfl) rfl
theorem q653 : (Jvm.Cond.methodLink "CircuitCycles$Parser" (102 : Nat) ({ cls := "CircuitCycles$Lexer", name := "begin", desc := "()V" } : Jvm.MethodName)) ∈ lw_all := lw_g (lw_at lw_m3 6 rfl) rfl
theorem q758 : (Jvm.Cond.methodLink "CircuitCycles$Parser" (45 : Nat) ({ cls := "CircuitCycles$Parser", name := "need", desc := "(ZII)V" } : Jvm.MethodName)) ∈ lw_all := lw_g (lw_at lw_m3 111 rfl) rfl
theorem q759 : (Jvm.Cond.privateMethod ({ cls := "CircuitCycles$Parser", name := "need", desc := "(ZII)V" } : Jvm.MethodName)) ∈ lw_tbl := lw_at lw_m3 112 rfl
theorem q760 : (Jvm.Cond.instanceMethod ({ cls := "CircuitCycles$Parser", name := "need", desc := "(ZII)V" } : Jvm.MethodName)) ∈ lw_all := lw_g (lw_at lw_m3 113 rfl) rfl
theorem q761 : (Jvm.Cond.code ({ cls := "CircuitCycles$Parser", name := "need", desc := "(ZII)V" } : Jvm.MethodName) prog_7_method_3_code (4 : Nat) (Option.none : Option Jvm.ClassFile.FieldType)) ∈ lw_all := lw_g (lw_at lw_m3 114 rfl) rfl
theorem q762 : (Jvm.Cond.methodLink "CircuitCycles$Parser" (37 : Nat) ({ cls := "CircuitCycles$Parser", name := "flaw", desc := "(II)Ljava/lang/IllegalStateException;" } : Jvm.MethodName)) ∈ lw_all := lw_g (lw_at lw_m3 115 rfl) rfl
theorem q763 : (Jvm.Cond.privateMethod ({ cls := "CircuitCycles$Parser", name := "flaw", desc := "(II)Ljava/lang/IllegalStateException;" } : Jvm.MethodName)) ∈ lw_tbl := lw_at lw_m3 116 rfl
theorem q764 : (Jvm.Cond.instanceMethod ({ cls := "CircuitCycles$Parser", name := "flaw", desc := "(II)Ljava/lang/IllegalStateException;" } : Jvm.MethodName)) ∈ lw_all := lw_g (lw_at lw_m3 117 rfl) rfl
theorem q765 : (Jvm.Cond.code ({ cls := "CircuitCycles$Parser", name := "flaw", desc := "(II)Ljava/lang/IllegalStateException;" } : Jvm.MethodName) prog_7_method_2_code (3 : Nat) (Option.some (Jvm.ClassFile.FieldType.object "java/lang/IllegalStateException"))) ∈ lw_all := lw_g (lw_at lw_m3 118 rfl) rfl
theorem q766 : (Jvm.Cond.methodLink "CircuitCycles$Parser" (31 : Nat) ({ cls := "CircuitCycles$Lexer", name := "flaw", desc := "(II)Ljava/lang/IllegalStateException;" } : Jvm.MethodName)) ∈ lw_all := lw_g (lw_at lw_m3 119 rfl) rfl
theorem q767 : (Jvm.Cond.methodLink "CircuitCycles$Parser" (105 : Nat) ({ cls := "CircuitCycles$Parser", name := "module", desc := "()V" } : Jvm.MethodName)) ∈ lw_all := lw_g (lw_at lw_m3 120 rfl) rfl
theorem q768 : (Jvm.Cond.privateMethod ({ cls := "CircuitCycles$Parser", name := "module", desc := "()V" } : Jvm.MethodName)) ∈ lw_tbl := lw_at lw_m3 121 rfl
theorem q769 : (Jvm.Cond.instanceMethod ({ cls := "CircuitCycles$Parser", name := "module", desc := "()V" } : Jvm.MethodName)) ∈ lw_all := lw_g (lw_at lw_m3 122 rfl) rfl
theorem q770 : (Jvm.Cond.code ({ cls := "CircuitCycles$Parser", name := "module", desc := "()V" } : Jvm.MethodName) prog_7_method_13_code (5 : Nat) (Option.none : Option Jvm.ClassFile.FieldType)) ∈ lw_all := lw_g (lw_at lw_m3 123 rfl) rfl
theorem q771 : (Jvm.Cond.methodLink "CircuitCycles$Parser" (131 : Nat) ({ cls := "CircuitCycles$Lexer", name := "need", desc := "(I)V" } : Jvm.MethodName)) ∈ lw_all := lw_g (lw_at lw_m3 124 rfl) rfl
theorem q775 : (Jvm.Cond.methodLink "CircuitCycles$Parser" (148 : Nat) ({ cls := "CircuitCycles$Design", name := "count", desc := "()I" } : Jvm.MethodName)) ∈ lw_all := lw_g (lw_at lw_m3 128 rfl) rfl
theorem q779 : (Jvm.Cond.methodLink "CircuitCycles$Parser" (151 : Nat) ({ cls := "CircuitCycles$Design", name := "findModule", desc := "([BII)I" } : Jvm.MethodName)) ∈ lw_all := lw_g (lw_at lw_m3 132 rfl) rfl
theorem q792 : (Jvm.Cond.methodLink "CircuitCycles$Parser" (120 : Nat) ({ cls := "CircuitCycles$Row", name := "add", desc := "(I)I" } : Jvm.MethodName)) ∈ lw_all := lw_g (lw_at lw_m3 145 rfl) rfl
theorem q799 : (Jvm.Cond.methodLink "CircuitCycles$Parser" (82 : Nat) ({ cls := "CircuitCycles$Lexer", name := "next", desc := "()V" } : Jvm.MethodName)) ∈ lw_all := lw_g (lw_at lw_m3 152 rfl) rfl
theorem q800 : (Jvm.Cond.methodLink "CircuitCycles$Parser" (161 : Nat) ({ cls := "CircuitCycles$Parser", name := "port", desc := "()V" } : Jvm.MethodName)) ∈ lw_all := lw_g (lw_at lw_m3 153 rfl) rfl
theorem q801 : (Jvm.Cond.privateMethod ({ cls := "CircuitCycles$Parser", name := "port", desc := "()V" } : Jvm.MethodName)) ∈ lw_tbl := lw_at lw_m3 154 rfl
theorem q802 : (Jvm.Cond.instanceMethod ({ cls := "CircuitCycles$Parser", name := "port", desc := "()V" } : Jvm.MethodName)) ∈ lw_all := lw_g (lw_at lw_m3 155 rfl) rfl
theorem q803 : (Jvm.Cond.code ({ cls := "CircuitCycles$Parser", name := "port", desc := "()V" } : Jvm.MethodName) prog_7_method_12_code (5 : Nat) (Option.none : Option Jvm.ClassFile.FieldType)) ∈ lw_all := lw_g (lw_at lw_m3 156 rfl) rfl
theorem q804 : (Jvm.Cond.methodLink "CircuitCycles$Parser" (123 : Nat) ({ cls := "CircuitCycles$Lexer", name := "isHere", desc := "(I)Z" } : Jvm.MethodName)) ∈ lw_all := lw_g (lw_at lw_m3 157 rfl) rfl
theorem q808 : (Jvm.Cond.methodLink "CircuitCycles$Parser" (139 : Nat) ({ cls := "CircuitCycles$Parser", name := "range", desc := "()I" } : Jvm.MethodName)) ∈ lw_all := lw_g (lw_at lw_m3 161 rfl) rfl
theorem q809 : (Jvm.Cond.privateMethod ({ cls := "CircuitCycles$Parser", name := "range", desc := "()I" } : Jvm.MethodName)) ∈ lw_tbl := lw_at lw_m3 162 rfl
theorem q810 : (Jvm.Cond.instanceMethod ({ cls := "CircuitCycles$Parser", name := "range", desc := "()I" } : Jvm.MethodName)) ∈ lw_all := lw_g (lw_at lw_m3 163 rfl) rfl
theorem q811 : (Jvm.Cond.code ({ cls := "CircuitCycles$Parser", name := "range", desc := "()I" } : Jvm.MethodName) prog_7_method_10_code (4 : Nat) (Option.some Jvm.ClassFile.FieldType.int)) ∈ lw_all := lw_g (lw_at lw_m3 164 rfl) rfl
theorem q812 : (Jvm.Cond.methodLink "CircuitCycles$Parser" (127 : Nat) ({ cls := "CircuitCycles$Parser", name := "plain", desc := "()I" } : Jvm.MethodName)) ∈ lw_all := lw_g (lw_at lw_m3 165 rfl) rfl
theorem q813 : (Jvm.Cond.privateMethod ({ cls := "CircuitCycles$Parser", name := "plain", desc := "()I" } : Jvm.MethodName)) ∈ lw_tbl := lw_at lw_m3 166 rfl
theorem q814 : (Jvm.Cond.instanceMethod ({ cls := "CircuitCycles$Parser", name := "plain", desc := "()I" } : Jvm.MethodName)) ∈ lw_all := lw_g (lw_at lw_m3 167 rfl) rfl
theorem q815 : (Jvm.Cond.code ({ cls := "CircuitCycles$Parser", name := "plain", desc := "()I" } : Jvm.MethodName) prog_7_method_6_code (2 : Nat) (Option.some Jvm.ClassFile.FieldType.int)) ∈ lw_all := lw_g (lw_at lw_m3 168 rfl) rfl
theorem q816 : (Jvm.Cond.methodLink "CircuitCycles$Parser" (142 : Nat) ({ cls := "CircuitCycles$Parser", name := "declare", desc := "(II)I" } : Jvm.MethodName)) ∈ lw_all := lw_g (lw_at lw_m3 169 rfl) rfl
theorem q817 : (Jvm.Cond.privateMethod ({ cls := "CircuitCycles$Parser", name := "declare", desc := "(II)I" } : Jvm.MethodName)) ∈ lw_tbl := lw_at lw_m3 170 rfl
theorem q818 : (Jvm.Cond.instanceMethod ({ cls := "CircuitCycles$Parser", name := "declare", desc := "(II)I" } : Jvm.MethodName)) ∈ lw_all := lw_g (lw_at lw_m3 171 rfl) rfl
theorem q819 : (Jvm.Cond.code ({ cls := "CircuitCycles$Parser", name := "declare", desc := "(II)I" } : Jvm.MethodName) prog_7_method_9_code (6 : Nat) (Option.some Jvm.ClassFile.FieldType.int)) ∈ lw_all := lw_g (lw_at lw_m3 172 rfl) rfl
theorem q820 : (Jvm.Cond.methodLink "CircuitCycles$Parser" (116 : Nat) ({ cls := "CircuitCycles$Design", name := "find", desc := "(I[BII)I" } : Jvm.MethodName)) ∈ lw_all := lw_g (lw_at lw_m3 173 rfl) rfl
theorem q836 : (Jvm.Cond.methodLink "CircuitCycles$Parser" (145 : Nat) ({ cls := "CircuitCycles$Parser", name := "beginning", desc := "(I)V" } : Jvm.MethodName)) ∈ lw_all := lw_g (lw_at lw_m3 189 rfl) rfl
theorem q837 : (Jvm.Cond.privateMethod ({ cls := "CircuitCycles$Parser", name := "beginning", desc := "(I)V" } : Jvm.MethodName)) ∈ lw_tbl := lw_at lw_m3 190 rfl
theorem q838 : (Jvm.Cond.instanceMethod ({ cls := "CircuitCycles$Parser", name := "beginning", desc := "(I)V" } : Jvm.MethodName)) ∈ lw_all := lw_g (lw_at lw_m3 191 rfl) rfl
theorem q839 : (Jvm.Cond.code ({ cls := "CircuitCycles$Parser", name := "beginning", desc := "(I)V" } : Jvm.MethodName) prog_7_method_11_code (2 : Nat) (Option.none : Option Jvm.ClassFile.FieldType)) ∈ lw_all := lw_g (lw_at lw_m3 192 rfl) rfl
theorem q840 : (Jvm.Cond.methodLink "CircuitCycles$Parser" (137 : Nat) ({ cls := "CircuitCycles$Design", name := "width", desc := "(I)I" } : Jvm.MethodName)) ∈ lw_all := lw_g (lw_at lw_m3 193 rfl) rfl
theorem q844 : (Jvm.Cond.methodLink "CircuitCycles$Parser" (71 : Nat) ({ cls := "CircuitCycles$Row", name := "set", desc := "(II)V" } : Jvm.MethodName)) ∈ lw_all := lw_g (lw_at lw_m3 197 rfl) rfl
theorem q848 : (Jvm.Cond.methodLink "CircuitCycles$Parser" (164 : Nat) ({ cls := "CircuitCycles$Parser", name := "item", desc := "()V" } : Jvm.MethodName)) ∈ lw_all := lw_g (lw_at lw_m3 201 rfl) rfl
theorem q849 : (Jvm.Cond.privateMethod ({ cls := "CircuitCycles$Parser", name := "item", desc := "()V" } : Jvm.MethodName)) ∈ lw_tbl := lw_at lw_m3 202 rfl
theorem q850 : (Jvm.Cond.instanceMethod ({ cls := "CircuitCycles$Parser", name := "item", desc := "()V" } : Jvm.MethodName)) ∈ lw_all := lw_g (lw_at lw_m3 203 rfl) rfl
theorem q851 : (Jvm.Cond.code ({ cls := "CircuitCycles$Parser", name := "item", desc := "()V" } : Jvm.MethodName) prog_7_method_16_code (2 : Nat) (Option.none : Option Jvm.ClassFile.FieldType)) ∈ lw_all := lw_g (lw_at lw_m3 204 rfl) rfl
theorem q852 : (Jvm.Cond.methodLink "CircuitCycles$Parser" (179 : Nat) ({ cls := "CircuitCycles$Parser", name := "assign", desc := "()V" } : Jvm.MethodName)) ∈ lw_all := lw_g (lw_at lw_m3 205 rfl) rfl
theorem q853 : (Jvm.Cond.privateMethod ({ cls := "CircuitCycles$Parser", name := "assign", desc := "()V" } : Jvm.MethodName)) ∈ lw_tbl := lw_at lw_m3 206 rfl
theorem q854 : (Jvm.Cond.instanceMethod ({ cls := "CircuitCycles$Parser", name := "assign", desc := "()V" } : Jvm.MethodName)) ∈ lw_all := lw_g (lw_at lw_m3 207 rfl) rfl
theorem q855 : (Jvm.Cond.code ({ cls := "CircuitCycles$Parser", name := "assign", desc := "()V" } : Jvm.MethodName) prog_7_method_19_code (4 : Nat) (Option.none : Option Jvm.ClassFile.FieldType)) ∈ lw_all := lw_g (lw_at lw_m3 208 rfl) rfl
theorem q856 : (Jvm.Cond.methodLink "CircuitCycles$Parser" (208 : Nat) ({ cls := "CircuitCycles$Parser", name := "used", desc := "(I)I" } : Jvm.MethodName)) ∈ lw_all := lw_g (lw_at lw_m3 209 rfl) rfl
theorem q857 : (Jvm.Cond.privateMethod ({ cls := "CircuitCycles$Parser", name := "used", desc := "(I)I" } : Jvm.MethodName)) ∈ lw_tbl := lw_at lw_m3 210 rfl
theorem q858 : (Jvm.Cond.instanceMethod ({ cls := "CircuitCycles$Parser", name := "used", desc := "(I)I" } : Jvm.MethodName)) ∈ lw_all := lw_g (lw_at lw_m3 211 rfl) rfl
theorem q859 : (Jvm.Cond.code ({ cls := "CircuitCycles$Parser", name := "used", desc := "(I)I" } : Jvm.MethodName) prog_7_method_17_code (4 : Nat) (Option.some Jvm.ClassFile.FieldType.int)) ∈ lw_all := lw_g (lw_at lw_m3 212 rfl) rfl
theorem q860 : (Jvm.Cond.methodLink "CircuitCycles$Parser" (203 : Nat) ({ cls := "CircuitCycles$Design", name := "kind", desc := "(I)I" } : Jvm.MethodName)) ∈ lw_all := lw_g (lw_at lw_m3 213 rfl) rfl
theorem q864 : (Jvm.Cond.methodLink "CircuitCycles$Parser" (173 : Nat) ({ cls := "CircuitCycles$Design", name := "isDriven", desc := "(I)Z" } : Jvm.MethodName)) ∈ lw_all := lw_g (lw_at lw_m3 217 rfl) rfl
theorem q869 : (Jvm.Cond.methodLink "CircuitCycles$Parser" (205 : Nat) ({ cls := "CircuitCycles$Design", name := "isRegister", desc := "(I)Z" } : Jvm.MethodName)) ∈ lw_all := lw_g (lw_at lw_m3 222 rfl) rfl
theorem q873 : (Jvm.Cond.methodLink "CircuitCycles$Parser" (211 : Nat) ({ cls := "CircuitCycles$Parser", name := "drive", desc := "(II)V" } : Jvm.MethodName)) ∈ lw_all := lw_g (lw_at lw_m3 226 rfl) rfl
theorem q874 : (Jvm.Cond.privateMethod ({ cls := "CircuitCycles$Parser", name := "drive", desc := "(II)V" } : Jvm.MethodName)) ∈ lw_tbl := lw_at lw_m3 227 rfl
theorem q875 : (Jvm.Cond.instanceMethod ({ cls := "CircuitCycles$Parser", name := "drive", desc := "(II)V" } : Jvm.MethodName)) ∈ lw_all := lw_g (lw_at lw_m3 228 rfl) rfl
theorem q876 : (Jvm.Cond.code ({ cls := "CircuitCycles$Parser", name := "drive", desc := "(II)V" } : Jvm.MethodName) prog_7_method_18_code (4 : Nat) (Option.none : Option Jvm.ClassFile.FieldType)) ∈ lw_all := lw_g (lw_at lw_m3 229 rfl) rfl
theorem q877 : (Jvm.Cond.methodLink "CircuitCycles$Parser" (170 : Nat) ({ cls := "CircuitCycles$Design", name := "firstSymbol", desc := "(I)I" } : Jvm.MethodName)) ∈ lw_all := lw_g (lw_at lw_m3 230 rfl) rfl
theorem q878 : (Jvm.Cond.methodLink "CircuitCycles$Parser" (61 : Nat) ({ cls := "CircuitCycles$Row", name := "at", desc := "(I)I" } : Jvm.MethodName)) ∈ lw_all := lw_g (lw_at lw_m3 231 rfl) rfl
theorem q879 : (Jvm.Cond.methodLink "CircuitCycles$Parser" (214 : Nat) ({ cls := "CircuitCycles$Parser", name := "exp", desc := "()V" } : Jvm.MethodName)) ∈ lw_all := lw_g (lw_at lw_m3 232 rfl) rfl
theorem q880 : (Jvm.Cond.privateMethod ({ cls := "CircuitCycles$Parser", name := "exp", desc := "()V" } : Jvm.MethodName)) ∈ lw_tbl := lw_at lw_m3 233 rfl
theorem q881 : (Jvm.Cond.instanceMethod ({ cls := "CircuitCycles$Parser", name := "exp", desc := "()V" } : Jvm.MethodName)) ∈ lw_all := lw_g (lw_at lw_m3 234 rfl) rfl
theorem q882 : (Jvm.Cond.code ({ cls := "CircuitCycles$Parser", name := "exp", desc := "()V" } : Jvm.MethodName) prog_7_method_35_code (4 : Nat) (Option.none : Option Jvm.ClassFile.FieldType)) ∈ lw_all := lw_g (lw_at lw_m3 235 rfl) rfl
theorem q883 : (Jvm.Cond.methodLink "CircuitCycles$Parser" (258 : Nat) ({ cls := "CircuitCycles$Parser", name := "isUnary", desc := "(I)Z" } : Jvm.MethodName)) ∈ lw_all := lw_g (lw_at lw_m3 236 rfl) rfl
theorem q884 : (Jvm.Cond.static ({ cls := "CircuitCycles$Parser", name := "isUnary", desc := "(I)Z" } : Jvm.MethodName)) ∈ lw_all := lw_g (lw_at lw_m3 237 rfl) rfl
theorem q885 : (Jvm.Cond.code ({ cls := "CircuitCycles$Parser", name := "isUnary", desc := "(I)Z" } : Jvm.MethodName) prog_7_method_38_code (1 : Nat) (Option.some Jvm.ClassFile.FieldType.boolean)) ∈ lw_all := lw_g (lw_at lw_m3 238 rfl) rfl
theorem q886 : (Jvm.Cond.methodLink "CircuitCycles$Parser" (261 : Nat) ({ cls := "CircuitCycles$Parser", name := "wait", desc := "(II)V" } : Jvm.MethodName)) ∈ lw_all := lw_g (lw_at lw_m3 239 rfl) rfl
theorem q887 : (Jvm.Cond.privateMethod ({ cls := "CircuitCycles$Parser", name := "wait", desc := "(II)V" } : Jvm.MethodName)) ∈ lw_tbl := lw_at lw_m4 0 rfl
theorem q888 : (Jvm.Cond.instanceMethod ({ cls := "CircuitCycles$Parser", name := "wait", desc := "(II)V" } : Jvm.MethodName)) ∈ lw_all := lw_g (lw_at lw_m4 1 rfl) rfl
theorem q889 : (Jvm.Cond.code ({ cls := "CircuitCycles$Parser", name := "wait", desc := "(II)V" } : Jvm.MethodName) prog_7_method_36_code (3 : Nat) (Option.none : Option Jvm.ClassFile.FieldType)) ∈ lw_all := lw_g (lw_at lw_m4 2 rfl) rfl
theorem q890 : (Jvm.Cond.methodLink "CircuitCycles$Parser" (264 : Nat) ({ cls := "CircuitCycles$Parser", name := "primary", desc := "()V" } : Jvm.MethodName)) ∈ lw_all := lw_g (lw_at lw_m4 3 rfl) rfl
theorem q891 : (Jvm.Cond.privateMethod ({ cls := "CircuitCycles$Parser", name := "primary", desc := "()V" } : Jvm.MethodName)) ∈ lw_tbl := lw_at lw_m4 4 rfl
theorem q892 : (Jvm.Cond.instanceMethod ({ cls := "CircuitCycles$Parser", name := "primary", desc := "()V" } : Jvm.MethodName)) ∈ lw_all := lw_g (lw_at lw_m4 5 rfl) rfl
theorem q893 : (Jvm.Cond.code ({ cls := "CircuitCycles$Parser", name := "primary", desc := "()V" } : Jvm.MethodName) prog_7_method_40_code (1 : Nat) (Option.none : Option Jvm.ClassFile.FieldType)) ∈ lw_all := lw_g (lw_at lw_m4 6 rfl) rfl
theorem q894 : (Jvm.Cond.methodLink "CircuitCycles$Parser" (282 : Nat) ({ cls := "CircuitCycles$Parser", name := "code", desc := "(II)V" } : Jvm.MethodName)) ∈ lw_all := lw_g (lw_at lw_m4 7 rfl) rfl
theorem q895 : (Jvm.Cond.privateMethod ({ cls := "CircuitCycles$Parser", name := "code", desc := "(II)V" } : Jvm.MethodName)) ∈ lw_tbl := lw_at lw_m4 8 rfl
theorem q896 : (Jvm.Cond.instanceMethod ({ cls := "CircuitCycles$Parser", name := "code", desc := "(II)V" } : Jvm.MethodName)) ∈ lw_all := lw_g (lw_at lw_m4 9 rfl) rfl
theorem q897 : (Jvm.Cond.code ({ cls := "CircuitCycles$Parser", name := "code", desc := "(II)V" } : Jvm.MethodName) prog_7_method_32_code (3 : Nat) (Option.none : Option Jvm.ClassFile.FieldType)) ∈ lw_all := lw_g (lw_at lw_m4 10 rfl) rfl
theorem q898 : (Jvm.Cond.methodLink "CircuitCycles$Parser" (255 : Nat) ({ cls := "CircuitCycles$Parser", name := "code", desc := "(I)V" } : Jvm.MethodName)) ∈ lw_all := lw_g (lw_at lw_m4 11 rfl) rfl
theorem q899 : (Jvm.Cond.privateMethod ({ cls := "CircuitCycles$Parser", name := "code", desc := "(I)V" } : Jvm.MethodName)) ∈ lw_tbl := lw_at lw_m4 12 rfl
theorem q900 : (Jvm.Cond.instanceMethod ({ cls := "CircuitCycles$Parser", name := "code", desc := "(I)V" } : Jvm.MethodName)) ∈ lw_all := lw_g (lw_at lw_m4 13 rfl) rfl
theorem q901 : (Jvm.Cond.code ({ cls := "CircuitCycles$Parser", name := "code", desc := "(I)V" } : Jvm.MethodName) prog_7_method_31_code (2 : Nat) (Option.none : Option Jvm.ClassFile.FieldType)) ∈ lw_all := lw_g (lw_at lw_m4 14 rfl) rfl
theorem q902 : (Jvm.Cond.methodLink "CircuitCycles$Parser" (284 : Nat) ({ cls := "CircuitCycles$Parser", name := "wide", desc := "(I)V" } : Jvm.MethodName)) ∈ lw_all := lw_g (lw_at lw_m4 15 rfl) rfl
theorem q903 : (Jvm.Cond.privateMethod ({ cls := "CircuitCycles$Parser", name := "wide", desc := "(I)V" } : Jvm.MethodName)) ∈ lw_tbl := lw_at lw_m4 16 rfl
theorem q904 : (Jvm.Cond.instanceMethod ({ cls := "CircuitCycles$Parser", name := "wide", desc := "(I)V" } : Jvm.MethodName)) ∈ lw_all := lw_g (lw_at lw_m4 17 rfl) rfl
theorem q905 : (Jvm.Cond.code ({ cls := "CircuitCycles$Parser", name := "wide", desc := "(I)V" } : Jvm.MethodName) prog_7_method_33_code (2 : Nat) (Option.none : Option Jvm.ClassFile.FieldType)) ∈ lw_all := lw_g (lw_at lw_m4 18 rfl) rfl
theorem q906 : (Jvm.Cond.methodLink "CircuitCycles$Parser" (287 : Nat) ({ cls := "CircuitCycles$Parser", name := "name", desc := "()V" } : Jvm.MethodName)) ∈ lw_all := lw_g (lw_at lw_m4 19 rfl) rfl
theorem q907 : (Jvm.Cond.privateMethod ({ cls := "CircuitCycles$Parser", name := "name", desc := "()V" } : Jvm.MethodName)) ∈ lw_tbl := lw_at lw_m4 20 rfl
theorem q908 : (Jvm.Cond.instanceMethod ({ cls := "CircuitCycles$Parser", name := "name", desc := "()V" } : Jvm.MethodName)) ∈ lw_all := lw_g (lw_at lw_m4 21 rfl) rfl
theorem q909 : (Jvm.Cond.code ({ cls := "CircuitCycles$Parser", name := "name", desc := "()V" } : Jvm.MethodName) prog_7_method_41_code (6 : Nat) (Option.none : Option Jvm.ClassFile.FieldType)) ∈ lw_all := lw_g (lw_at lw_m4 22 rfl) rfl
theorem q910 : (Jvm.Cond.methodLink "CircuitCycles$Parser" (223 : Nat) ({ cls := "CircuitCycles$Parser", name := "opens", desc := "()V" } : Jvm.MethodName)) ∈ lw_all := lw_g (lw_at lw_m4 23 rfl) rfl
theorem q911 : (Jvm.Cond.privateMethod ({ cls := "CircuitCycles$Parser", name := "opens", desc := "()V" } : Jvm.MethodName)) ∈ lw_tbl := lw_at lw_m4 24 rfl
theorem q912 : (Jvm.Cond.instanceMethod ({ cls := "CircuitCycles$Parser", name := "opens", desc := "()V" } : Jvm.MethodName)) ∈ lw_all := lw_g (lw_at lw_m4 25 rfl) rfl
theorem q913 : (Jvm.Cond.code ({ cls := "CircuitCycles$Parser", name := "opens", desc := "()V" } : Jvm.MethodName) prog_7_method_4_code (1 : Nat) (Option.none : Option Jvm.ClassFile.FieldType)) ∈ lw_all := lw_g (lw_at lw_m4 26 rfl) rfl
theorem q914 : (Jvm.Cond.methodLink "CircuitCycles$Parser" (191 : Nat) ({ cls := "CircuitCycles$Row", name := "take", desc := "()I" } : Jvm.MethodName)) ∈ lw_all := lw_g (lw_at lw_m4 27 rfl) rfl
theorem q918 : (Jvm.Cond.methodLink "CircuitCycles$Parser" (279 : Nat) ({ cls := "java/lang/Math", name := "max", desc := "(II)I" } : Jvm.MethodName)) ∈ lw_all := lw_g (lw_at lw_m4 31 rfl) rfl
theorem q921 : (Jvm.Cond.methodLink "CircuitCycles$Parser" (194 : Nat) ({ cls := "CircuitCycles$Parser", name := "cost", desc := "(I)V" } : Jvm.MethodName)) ∈ lw_all := lw_g (lw_at lw_m4 34 rfl) rfl
theorem q922 : (Jvm.Cond.privateMethod ({ cls := "CircuitCycles$Parser", name := "cost", desc := "(I)V" } : Jvm.MethodName)) ∈ lw_tbl := lw_at lw_m4 35 rfl
theorem q923 : (Jvm.Cond.instanceMethod ({ cls := "CircuitCycles$Parser", name := "cost", desc := "(I)V" } : Jvm.MethodName)) ∈ lw_all := lw_g (lw_at lw_m4 36 rfl) rfl
theorem q924 : (Jvm.Cond.code ({ cls := "CircuitCycles$Parser", name := "cost", desc := "(I)V" } : Jvm.MethodName) prog_7_method_5_code (3 : Nat) (Option.none : Option Jvm.ClassFile.FieldType)) ∈ lw_all := lw_g (lw_at lw_m4 37 rfl) rfl
theorem q925 : (Jvm.Cond.methodLink "CircuitCycles$Parser" (65 : Nat) ({ cls := "java/lang/Math", name := "min", desc := "(II)I" } : Jvm.MethodName)) ∈ lw_all := lw_g (lw_at lw_m4 38 rfl) rfl
theorem q928 : (Jvm.Cond.methodLink "CircuitCycles$Parser" (188 : Nat) ({ cls := "CircuitCycles$Parser", name := "bracketed", desc := "()V" } : Jvm.MethodName)) ∈ lw_all := lw_g (lw_at lw_m4 41 rfl) rfl
theorem q929 : (Jvm.Cond.privateMethod ({ cls := "CircuitCycles$Parser", name := "bracketed", desc := "()V" } : Jvm.MethodName)) ∈ lw_tbl := lw_at lw_m4 42 rfl
theorem q930 : (Jvm.Cond.instanceMethod ({ cls := "CircuitCycles$Parser", name := "bracketed", desc := "()V" } : Jvm.MethodName)) ∈ lw_all := lw_g (lw_at lw_m4 43 rfl) rfl
theorem q931 : (Jvm.Cond.code ({ cls := "CircuitCycles$Parser", name := "bracketed", desc := "()V" } : Jvm.MethodName) prog_7_method_27_code (1 : Nat) (Option.none : Option Jvm.ClassFile.FieldType)) ∈ lw_all := lw_g (lw_at lw_m4 44 rfl) rfl
theorem q932 : (Jvm.Cond.methodLink "CircuitCycles$Parser" (290 : Nat) ({ cls := "CircuitCycles$Parser", name := "braces", desc := "()V" } : Jvm.MethodName)) ∈ lw_all := lw_g (lw_at lw_m4 45 rfl) rfl
theorem q933 : (Jvm.Cond.privateMethod ({ cls := "CircuitCycles$Parser", name := "braces", desc := "()V" } : Jvm.MethodName)) ∈ lw_tbl := lw_at lw_m4 46 rfl
theorem q934 : (Jvm.Cond.instanceMethod ({ cls := "CircuitCycles$Parser", name := "braces", desc := "()V" } : Jvm.MethodName)) ∈ lw_all := lw_g (lw_at lw_m4 47 rfl) rfl
theorem q935 : (Jvm.Cond.code ({ cls := "CircuitCycles$Parser", name := "braces", desc := "()V" } : Jvm.MethodName) prog_7_method_42_code (5 : Nat) (Option.none : Option Jvm.ClassFile.FieldType)) ∈ lw_all := lw_g (lw_at lw_m4 48 rfl) rfl
theorem q936 : (Jvm.Cond.methodLink "CircuitCycles$Parser" (267 : Nat) ({ cls := "CircuitCycles$Row", name := "top", desc := "()I" } : Jvm.MethodName)) ∈ lw_all := lw_g (lw_at lw_m4 49 rfl) rfl
theorem q940 : (Jvm.Cond.methodLink "CircuitCycles$Parser" (270 : Nat) ({ cls := "CircuitCycles$Parser", name := "done", desc := "()V" } : Jvm.MethodName)) ∈ lw_all := lw_g (lw_at lw_m4 53 rfl) rfl
theorem q941 : (Jvm.Cond.privateMethod ({ cls := "CircuitCycles$Parser", name := "done", desc := "()V" } : Jvm.MethodName)) ∈ lw_tbl := lw_at lw_m4 54 rfl
theorem q942 : (Jvm.Cond.instanceMethod ({ cls := "CircuitCycles$Parser", name := "done", desc := "()V" } : Jvm.MethodName)) ∈ lw_all := lw_g (lw_at lw_m4 55 rfl) rfl
theorem q943 : (Jvm.Cond.code ({ cls := "CircuitCycles$Parser", name := "done", desc := "()V" } : Jvm.MethodName) prog_7_method_39_code (9 : Nat) (Option.none : Option Jvm.ClassFile.FieldType)) ∈ lw_all := lw_g (lw_at lw_m4 56 rfl) rfl
theorem q944 : (Jvm.Cond.methodLink "CircuitCycles$Parser" (273 : Nat) ({ cls := "CircuitCycles$Parser", name := "rank", desc := "(I)I" } : Jvm.MethodName)) ∈ lw_all := lw_g (lw_at lw_m4 57 rfl) rfl
theorem q945 : (Jvm.Cond.static ({ cls := "CircuitCycles$Parser", name := "rank", desc := "(I)I" } : Jvm.MethodName)) ∈ lw_all := lw_g (lw_at lw_m4 58 rfl) rfl
theorem q946 : (Jvm.Cond.code ({ cls := "CircuitCycles$Parser", name := "rank", desc := "(I)I" } : Jvm.MethodName) prog_7_method_34_code (1 : Nat) (Option.some Jvm.ClassFile.FieldType.int)) ∈ lw_all := lw_g (lw_at lw_m4 59 rfl) rfl
theorem q947 : (Jvm.Cond.methodLink "CircuitCycles$Parser" (276 : Nat) ({ cls := "CircuitCycles$Parser", name := "choice", desc := "()V" } : Jvm.MethodName)) ∈ lw_all := lw_g (lw_at lw_m4 60 rfl) rfl
theorem q948 : (Jvm.Cond.privateMethod ({ cls := "CircuitCycles$Parser", name := "choice", desc := "()V" } : Jvm.MethodName)) ∈ lw_tbl := lw_at lw_m4 61 rfl
theorem q949 : (Jvm.Cond.instanceMethod ({ cls := "CircuitCycles$Parser", name := "choice", desc := "()V" } : Jvm.MethodName)) ∈ lw_all := lw_g (lw_at lw_m4 62 rfl) rfl
theorem q950 : (Jvm.Cond.code ({ cls := "CircuitCycles$Parser", name := "choice", desc := "()V" } : Jvm.MethodName) prog_7_method_37_code (5 : Nat) (Option.none : Option Jvm.ClassFile.FieldType)) ∈ lw_all := lw_g (lw_at lw_m4 63 rfl) rfl
theorem q951 : (Jvm.Cond.methodLink "CircuitCycles$Parser" (197 : Nat) ({ cls := "CircuitCycles$Parser", name := "item", desc := "(IIII)V" } : Jvm.MethodName)) ∈ lw_all := lw_g (lw_at lw_m4 64 rfl) rfl
theorem q952 : (Jvm.Cond.privateMethod ({ cls := "CircuitCycles$Parser", name := "item", desc := "(IIII)V" } : Jvm.MethodName)) ∈ lw_tbl := lw_at lw_m4 65 rfl
theorem q953 : (Jvm.Cond.instanceMethod ({ cls := "CircuitCycles$Parser", name := "item", desc := "(IIII)V" } : Jvm.MethodName)) ∈ lw_all := lw_g (lw_at lw_m4 66 rfl) rfl
theorem q954 : (Jvm.Cond.code ({ cls := "CircuitCycles$Parser", name := "item", desc := "(IIII)V" } : Jvm.MethodName) prog_7_method_15_code (5 : Nat) (Option.none : Option Jvm.ClassFile.FieldType)) ∈ lw_all := lw_g (lw_at lw_m4 67 rfl) rfl
theorem q955 : (Jvm.Cond.methodLink "CircuitCycles$Parser" (182 : Nat) ({ cls := "CircuitCycles$Parser", name := "every", desc := "()V" } : Jvm.MethodName)) ∈ lw_all := lw_g (lw_at lw_m4 68 rfl) rfl
theorem q956 : (Jvm.Cond.privateMethod ({ cls := "CircuitCycles$Parser", name := "every", desc := "()V" } : Jvm.MethodName)) ∈ lw_tbl := lw_at lw_m4 69 rfl
theorem q957 : (Jvm.Cond.instanceMethod ({ cls := "CircuitCycles$Parser", name := "every", desc := "()V" } : Jvm.MethodName)) ∈ lw_all := lw_g (lw_at lw_m4 70 rfl) rfl
theorem q958 : (Jvm.Cond.code ({ cls := "CircuitCycles$Parser", name := "every", desc := "()V" } : Jvm.MethodName) prog_7_method_23_code (2 : Nat) (Option.none : Option Jvm.ClassFile.FieldType)) ∈ lw_all := lw_g (lw_at lw_m4 71 rfl) rfl
theorem q959 : (Jvm.Cond.methodLink "CircuitCycles$Parser" (238 : Nat) ({ cls := "CircuitCycles$Parser", name := "statement", desc := "()V" } : Jvm.MethodName)) ∈ lw_all := lw_g (lw_at lw_m4 72 rfl) rfl
theorem q960 : (Jvm.Cond.privateMethod ({ cls := "CircuitCycles$Parser", name := "statement", desc := "()V" } : Jvm.MethodName)) ∈ lw_tbl := lw_at lw_m4 73 rfl
theorem q961 : (Jvm.Cond.instanceMethod ({ cls := "CircuitCycles$Parser", name := "statement", desc := "()V" } : Jvm.MethodName)) ∈ lw_all := lw_g (lw_at lw_m4 74 rfl) rfl
theorem q962 : (Jvm.Cond.code ({ cls := "CircuitCycles$Parser", name := "statement", desc := "()V" } : Jvm.MethodName) prog_7_method_26_code (2 : Nat) (Option.none : Option Jvm.ClassFile.FieldType)) ∈ lw_all := lw_g (lw_at lw_m4 75 rfl) rfl
theorem q963 : (Jvm.Cond.methodLink "CircuitCycles$Parser" (244 : Nat) ({ cls := "CircuitCycles$Parser", name := "act", desc := "(III)V" } : Jvm.MethodName)) ∈ lw_all := lw_g (lw_at lw_m4 76 rfl) rfl
theorem q964 : (Jvm.Cond.privateMethod ({ cls := "CircuitCycles$Parser", name := "act", desc := "(III)V" } : Jvm.MethodName)) ∈ lw_tbl := lw_at lw_m4 77 rfl
theorem q965 : (Jvm.Cond.instanceMethod ({ cls := "CircuitCycles$Parser", name := "act", desc := "(III)V" } : Jvm.MethodName)) ∈ lw_all := lw_g (lw_at lw_m4 78 rfl) rfl
theorem q966 : (Jvm.Cond.code ({ cls := "CircuitCycles$Parser", name := "act", desc := "(III)V" } : Jvm.MethodName) prog_7_method_25_code (4 : Nat) (Option.none : Option Jvm.ClassFile.FieldType)) ∈ lw_all := lw_g (lw_at lw_m4 79 rfl) rfl
theorem q967 : (Jvm.Cond.methodLink "CircuitCycles$Parser" (241 : Nat) ({ cls := "CircuitCycles$Parser", name := "act", desc := "(I)V" } : Jvm.MethodName)) ∈ lw_all := lw_g (lw_at lw_m4 80 rfl) rfl
theorem q968 : (Jvm.Cond.privateMethod ({ cls := "CircuitCycles$Parser", name := "act", desc := "(I)V" } : Jvm.MethodName)) ∈ lw_tbl := lw_at lw_m4 81 rfl
theorem q969 : (Jvm.Cond.instanceMethod ({ cls := "CircuitCycles$Parser", name := "act", desc := "(I)V" } : Jvm.MethodName)) ∈ lw_all := lw_g (lw_at lw_m4 82 rfl) rfl
theorem q970 : (Jvm.Cond.code ({ cls := "CircuitCycles$Parser", name := "act", desc := "(I)V" } : Jvm.MethodName) prog_7_method_24_code (2 : Nat) (Option.none : Option Jvm.ClassFile.FieldType)) ∈ lw_all := lw_g (lw_at lw_m4 83 rfl) rfl
theorem q971 : (Jvm.Cond.methodLink "CircuitCycles$Parser" (247 : Nat) ({ cls := "CircuitCycles$Parser", name := "among", desc := "()V" } : Jvm.MethodName)) ∈ lw_all := lw_g (lw_at lw_m4 84 rfl) rfl
theorem q972 : (Jvm.Cond.privateMethod ({ cls := "CircuitCycles$Parser", name := "among", desc := "()V" } : Jvm.MethodName)) ∈ lw_tbl := lw_at lw_m4 85 rfl
theorem q973 : (Jvm.Cond.instanceMethod ({ cls := "CircuitCycles$Parser", name := "among", desc := "()V" } : Jvm.MethodName)) ∈ lw_all := lw_g (lw_at lw_m4 86 rfl) rfl
theorem q974 : (Jvm.Cond.code ({ cls := "CircuitCycles$Parser", name := "among", desc := "()V" } : Jvm.MethodName) prog_7_method_28_code (5 : Nat) (Option.none : Option Jvm.ClassFile.FieldType)) ∈ lw_all := lw_g (lw_at lw_m4 87 rfl) rfl
theorem q975 : (Jvm.Cond.methodLink "CircuitCycles$Parser" (252 : Nat) ({ cls := "CircuitCycles$Parser", name := "label", desc := "(I)V" } : Jvm.MethodName)) ∈ lw_all := lw_g (lw_at lw_m4 88 rfl) rfl
theorem q976 : (Jvm.Cond.privateMethod ({ cls := "CircuitCycles$Parser", name := "label", desc := "(I)V" } : Jvm.MethodName)) ∈ lw_tbl := lw_at lw_m4 89 rfl
theorem q977 : (Jvm.Cond.instanceMethod ({ cls := "CircuitCycles$Parser", name := "label", desc := "(I)V" } : Jvm.MethodName)) ∈ lw_all := lw_g (lw_at lw_m4 90 rfl) rfl
theorem q978 : (Jvm.Cond.code ({ cls := "CircuitCycles$Parser", name := "label", desc := "(I)V" } : Jvm.MethodName) prog_7_method_29_code (2 : Nat) (Option.none : Option Jvm.ClassFile.FieldType)) ∈ lw_all := lw_g (lw_at lw_m4 91 rfl) rfl
theorem q979 : (Jvm.Cond.methodLink "CircuitCycles$Parser" (250 : Nat) ({ cls := "CircuitCycles$Parser", name := "set", desc := "()V" } : Jvm.MethodName)) ∈ lw_all := lw_g (lw_at lw_m4 92 rfl) rfl
theorem q980 : (Jvm.Cond.privateMethod ({ cls := "CircuitCycles$Parser", name := "set", desc := "()V" } : Jvm.MethodName)) ∈ lw_tbl := lw_at lw_m4 93 rfl
theorem q981 : (Jvm.Cond.instanceMethod ({ cls := "CircuitCycles$Parser", name := "set", desc := "()V" } : Jvm.MethodName)) ∈ lw_all := lw_g (lw_at lw_m4 94 rfl) rfl
theorem q982 : (Jvm.Cond.code ({ cls := "CircuitCycles$Parser", name := "set", desc := "()V" } : Jvm.MethodName) prog_7_method_30_code (6 : Nat) (Option.none : Option Jvm.ClassFile.FieldType)) ∈ lw_all := lw_g (lw_at lw_m4 95 rfl) rfl
theorem q983 : (Jvm.Cond.methodLink "CircuitCycles$Parser" (200 : Nat) ({ cls := "CircuitCycles$Parser", name := "instance", desc := "()V" } : Jvm.MethodName)) ∈ lw_all := lw_g (lw_at lw_m4 96 rfl) rfl
theorem q984 : (Jvm.Cond.privateMethod ({ cls := "CircuitCycles$Parser", name := "instance", desc := "()V" } : Jvm.MethodName)) ∈ lw_tbl := lw_at lw_m4 97 rfl
theorem q985 : (Jvm.Cond.instanceMethod ({ cls := "CircuitCycles$Parser", name := "instance", desc := "()V" } : Jvm.MethodName)) ∈ lw_all := lw_g (lw_at lw_m4 98 rfl) rfl
theorem q986 : (Jvm.Cond.code ({ cls := "CircuitCycles$Parser", name := "instance", desc := "()V" } : Jvm.MethodName) prog_7_method_20_code (7 : Nat) (Option.none : Option Jvm.ClassFile.FieldType)) ∈ lw_all := lw_g (lw_at lw_m4 99 rfl) rfl
theorem q987 : (Jvm.Cond.methodLink "CircuitCycles$Parser" (220 : Nat) ({ cls := "CircuitCycles$Design", name := "ports", desc := "(I)I" } : Jvm.MethodName)) ∈ lw_all := lw_g (lw_at lw_m4 100 rfl) rfl
theorem q991 : (Jvm.Cond.methodLink "CircuitCycles$Parser" (226 : Nat) ({ cls := "CircuitCycles$Parser", name := "link", desc := "(II)V" } : Jvm.MethodName)) ∈ lw_all := lw_g (lw_at lw_m4 104 rfl) rfl
theorem q992 : (Jvm.Cond.privateMethod ({ cls := "CircuitCycles$Parser", name := "link", desc := "(II)V" } : Jvm.MethodName)) ∈ lw_tbl := lw_at lw_m4 105 rfl
theorem q993 : (Jvm.Cond.instanceMethod ({ cls := "CircuitCycles$Parser", name := "link", desc := "(II)V" } : Jvm.MethodName)) ∈ lw_all := lw_g (lw_at lw_m4 106 rfl) rfl
theorem q994 : (Jvm.Cond.code ({ cls := "CircuitCycles$Parser", name := "link", desc := "(II)V" } : Jvm.MethodName) prog_7_method_21_code (11 : Nat) (Option.none : Option Jvm.ClassFile.FieldType)) ∈ lw_all := lw_g (lw_at lw_m4 107 rfl) rfl
theorem q995 : (Jvm.Cond.methodLink "CircuitCycles$Parser" (229 : Nat) ({ cls := "CircuitCycles$Parser", name := "linked", desc := "()I" } : Jvm.MethodName)) ∈ lw_all := lw_g (lw_at lw_m4 108 rfl) rfl
theorem q996 : (Jvm.Cond.privateMethod ({ cls := "CircuitCycles$Parser", name := "linked", desc := "()I" } : Jvm.MethodName)) ∈ lw_tbl := lw_at lw_m4 109 rfl
theorem q997 : (Jvm.Cond.instanceMethod ({ cls := "CircuitCycles$Parser", name := "linked", desc := "()I" } : Jvm.MethodName)) ∈ lw_all := lw_g (lw_at lw_m4 110 rfl) rfl
theorem q998 : (Jvm.Cond.code ({ cls := "CircuitCycles$Parser", name := "linked", desc := "()I" } : Jvm.MethodName) prog_7_method_22_code (3 : Nat) (Option.some Jvm.ClassFile.FieldType.int)) ∈ lw_all := lw_g (lw_at lw_m4 111 rfl) rfl
theorem q999 : (Jvm.Cond.methodLink "CircuitCycles$Parser" (167 : Nat) ({ cls := "CircuitCycles$Parser", name := "ended", desc := "()V" } : Jvm.MethodName)) ∈ lw_all := lw_g (lw_at lw_m4 112 rfl) rfl
theorem q1000 : (Jvm.Cond.privateMethod ({ cls := "CircuitCycles$Parser", name := "ended", desc := "()V" } : Jvm.MethodName)) ∈ lw_tbl := lw_at lw_m4 113 rfl
theorem q1001 : (Jvm.Cond.instanceMethod ({ cls := "CircuitCycles$Parser", name := "ended", desc := "()V" } : Jvm.MethodName)) ∈ lw_all := lw_g (lw_at lw_m4 114 rfl) rfl
theorem q1002 : (Jvm.Cond.code ({ cls := "CircuitCycles$Parser", name := "ended", desc := "()V" } : Jvm.MethodName) prog_7_method_14_code (3 : Nat) (Option.none : Option Jvm.ClassFile.FieldType)) ∈ lw_all := lw_g (lw_at lw_m4 115 rfl) rfl
theorem q1003 : (Jvm.Cond.methodLink "CircuitCycles$Parser" (176 : Nat) ({ cls := "CircuitCycles$Design", name := "symbol", desc := "(II)I" } : Jvm.MethodName)) ∈ lw_all := lw_g (lw_at lw_m4 116 rfl) rfl
theorem in_X3 : ∀ w ∈ wsX30, w ∈ lw_all := lw_in wsX30 [379, 381, 383, 385, 387, 389, 391, 393, 395, 397, 399] (by decide +kernel) (by decide +kernel)
/-! CircuitCycles$Row -/
set_option maxRecDepth 100000
def RX4 : String := "CircuitCycles$Row"
def TX4 : u_T := fun k => match k with
  | 0 => ("CircuitCycles$Row", "cells", "[I", false)
  | _ => ("CircuitCycles$Row", "size", "I", false)
def tyX4 : Nat → FieldType := fun k => match k with
  | 0 => .array .int
  | _ => .int
abbrev wsX40 : List Cond := u_ws RX4 TX4 2
theorem nmX4 : ∀ a, a < 2 → ∀ b, b < 2 → a ≠ b → (TX4 a).2.1 ≠ (TX4 b).2.1 := by decide +kernel
theorem tyX4_ok : ∀ k, k < 2 → parseFieldDescriptor (TX4 k).2.2.1 = some (tyX4 k) := by decide +kernel
abbrev cX4_init : ByteArray := prog_9_method_1_code
def yX4_init : MethodName := ⟨RX4, "<init>", "()V"⟩
abbrev cX4_at : ByteArray := prog_9_method_3_code
def yX4_at : MethodName := ⟨RX4, "at", "(I)I"⟩
abbrev cX4_add : ByteArray := prog_9_method_2_code
def yX4_add : MethodName := ⟨RX4, "add", "(I)I"⟩
abbrev cX4_set : ByteArray := prog_9_method_4_code
def yX4_set : MethodName := ⟨RX4, "set", "(II)V"⟩
abbrev cX4_take : ByteArray := prog_9_method_5_code
def yX4_take : MethodName := ⟨RX4, "take", "()I"⟩
abbrev cX4_top : ByteArray := prog_9_method_6_code
def yX4_top : MethodName := ⟨RX4, "top", "()I"⟩
theorem q175 : (Jvm.Cond.initialized "CircuitCycles$Row") ∈ lw_all := lw_g (lw_at lw_m1 8 rfl) rfl
theorem q349 : (Jvm.Cond.instantiable "CircuitCycles$Row" (2 : Nat)) ∈ lw_all := lw_g (lw_at lw_m1 182 rfl) rfl
theorem q351 : (Jvm.Cond.instanceMethod ({ cls := "CircuitCycles$Row", name := "<init>", desc := "()V" } : Jvm.MethodName)) ∈ lw_all := lw_g (lw_at lw_m1 184 rfl) rfl
theorem q352 : (Jvm.Cond.code ({ cls := "CircuitCycles$Row", name := "<init>", desc := "()V" } : Jvm.MethodName) prog_9_method_1_code (1 : Nat) (Option.none : Option Jvm.ClassFile.FieldType)) ∈ lw_all := lw_g (lw_at lw_m1 185 rfl) rfl
theorem q353 : (Jvm.Cond.methodLink "CircuitCycles$Row" (1 : Nat) ({ cls := "java/lang/Object", name := "<init>", desc := "()V" } : Jvm.MethodName)) ∈ lw_all := lw_g (lw_at lw_m1 186 rfl) rfl
theorem q354 : (Jvm.Cond.fieldLink "CircuitCycles$Row" (7 : Nat) "CircuitCycles$Row" "cells" "[I") ∈ lw_all := lw_g (lw_at lw_m1 187 rfl) rfl
theorem q355 : (Jvm.Cond.fieldLink "CircuitCycles$Row" (13 : Nat) "CircuitCycles$Row" "size" "I") ∈ lw_all := lw_g (lw_at lw_m1 188 rfl) rfl
theorem q362 : (Jvm.Cond.lays "CircuitCycles$Row" "CircuitCycles$Row" "cells" "[I") ∈ lw_all := lw_g (lw_at lw_m1 195 rfl) rfl
theorem q363 : (Jvm.Cond.soleField "CircuitCycles$Row" "cells") ∈ lw_all := lw_g (lw_at lw_m1 196 rfl) rfl
theorem q364 : (Jvm.Cond.lays "CircuitCycles$Row" "CircuitCycles$Row" "size" "I") ∈ lw_all := lw_g (lw_at lw_m1 197 rfl) rfl
theorem q365 : (Jvm.Cond.soleField "CircuitCycles$Row" "size") ∈ lw_all := lw_g (lw_at lw_m1 198 rfl) rfl
theorem q366 : (Jvm.Cond.superclass "CircuitCycles$Row" "java/lang/Object") ∈ lw_all := lw_g (lw_at lw_m1 199 rfl) rfl
theorem q785 : (Jvm.Cond.instanceMethod ({ cls := "CircuitCycles$Row", name := "at", desc := "(I)I" } : Jvm.MethodName)) ∈ lw_all := lw_g (lw_at lw_m3 138 rfl) rfl
theorem q786 : (Jvm.Cond.selects "CircuitCycles$Row" ({ cls := "CircuitCycles$Row", name := "at", desc := "(I)I" } : Jvm.MethodName) ({ cls := "CircuitCycles$Row", name := "at", desc := "(I)I" } : Jvm.MethodName)) ∈ lw_all := lw_g (lw_at lw_m3 139 rfl) rfl
theorem q787 : (Jvm.Cond.code ({ cls := "CircuitCycles$Row", name := "at", desc := "(I)I" } : Jvm.MethodName) prog_9_method_3_code (2 : Nat) (Option.some Jvm.ClassFile.FieldType.int)) ∈ lw_all := lw_g (lw_at lw_m3 140 rfl) rfl
theorem q793 : (Jvm.Cond.instanceMethod ({ cls := "CircuitCycles$Row", name := "add", desc := "(I)I" } : Jvm.MethodName)) ∈ lw_all := lw_g (lw_at lw_m3 146 rfl) rfl
theorem q794 : (Jvm.Cond.selects "CircuitCycles$Row" ({ cls := "CircuitCycles$Row", name := "add", desc := "(I)I" } : Jvm.MethodName) ({ cls := "CircuitCycles$Row", name := "add", desc := "(I)I" } : Jvm.MethodName)) ∈ lw_all := lw_g (lw_at lw_m3 147 rfl) rfl
theorem q795 : (Jvm.Cond.code ({ cls := "CircuitCycles$Row", name := "add", desc := "(I)I" } : Jvm.MethodName) prog_9_method_2_code (3 : Nat) (Option.some Jvm.ClassFile.FieldType.int)) ∈ lw_all := lw_g (lw_at lw_m3 148 rfl) rfl
theorem q796 : (Jvm.Cond.methodLink "CircuitCycles$Row" (17 : Nat) ({ cls := "java/lang/System", name := "arraycopy", desc := "(Ljava/lang/Object;ILjava/lang/Object;II)V" } : Jvm.MethodName)) ∈ lw_all := lw_g (lw_at lw_m3 149 rfl) rfl
theorem q845 : (Jvm.Cond.instanceMethod ({ cls := "CircuitCycles$Row", name := "set", desc := "(II)V" } : Jvm.MethodName)) ∈ lw_all := lw_g (lw_at lw_m3 198 rfl) rfl
theorem q846 : (Jvm.Cond.selects "CircuitCycles$Row" ({ cls := "CircuitCycles$Row", name := "set", desc := "(II)V" } : Jvm.MethodName) ({ cls := "CircuitCycles$Row", name := "set", desc := "(II)V" } : Jvm.MethodName)) ∈ lw_all := lw_g (lw_at lw_m3 199 rfl) rfl
theorem q847 : (Jvm.Cond.code ({ cls := "CircuitCycles$Row", name := "set", desc := "(II)V" } : Jvm.MethodName) prog_9_method_4_code (3 : Nat) (Option.none : Option Jvm.ClassFile.FieldType)) ∈ lw_all := lw_g (lw_at lw_m3 200 rfl) rfl
theorem q915 : (Jvm.Cond.instanceMethod ({ cls := "CircuitCycles$Row", name := "take", desc := "()I" } : Jvm.MethodName)) ∈ lw_all := lw_g (lw_at lw_m4 28 rfl) rfl
theorem q916 : (Jvm.Cond.selects "CircuitCycles$Row" ({ cls := "CircuitCycles$Row", name := "take", desc := "()I" } : Jvm.MethodName) ({ cls := "CircuitCycles$Row", name := "take", desc := "()I" } : Jvm.MethodName)) ∈ lw_all := lw_g (lw_at lw_m4 29 rfl) rfl
theorem q917 : (Jvm.Cond.code ({ cls := "CircuitCycles$Row", name := "take", desc := "()I" } : Jvm.MethodName) prog_9_method_5_code (1 : Nat) (Option.some Jvm.ClassFile.FieldType.int)) ∈ lw_all := lw_g (lw_at lw_m4 30 rfl) rfl
theorem q937 : (Jvm.Cond.instanceMethod ({ cls := "CircuitCycles$Row", name := "top", desc := "()I" } : Jvm.MethodName)) ∈ lw_all := lw_g (lw_at lw_m4 50 rfl) rfl
theorem q938 : (Jvm.Cond.selects "CircuitCycles$Row" ({ cls := "CircuitCycles$Row", name := "top", desc := "()I" } : Jvm.MethodName) ({ cls := "CircuitCycles$Row", name := "top", desc := "()I" } : Jvm.MethodName)) ∈ lw_all := lw_g (lw_at lw_m4 51 rfl) rfl
theorem q939 : (Jvm.Cond.code ({ cls := "CircuitCycles$Row", name := "top", desc := "()I" } : Jvm.MethodName) prog_9_method_6_code (1 : Nat) (Option.some Jvm.ClassFile.FieldType.int)) ∈ lw_all := lw_g (lw_at lw_m4 52 rfl) rfl
theorem in_X4 : ∀ w ∈ wsX40, w ∈ lw_all := lw_in wsX40 [362, 364] (by decide +kernel) (by decide +kernel)
/-! CircuitCycles$Circuit -/
set_option maxRecDepth 100000
def RX5 : String := "CircuitCycles$Circuit"
def TX5 : u_T := fun k => match k with
  | 0 => ("CircuitCycles$Circuit", "lexer", "LCircuitCycles$Lexer;", true)
  | 1 => ("CircuitCycles$Circuit", "d", "LCircuitCycles$Design;", true)
  | 2 => ("CircuitCycles$Circuit", "g", "LCircuitCycles$Gates;", true)
  | 3 => ("CircuitCycles$Circuit", "pile", "LCircuitCycles$Pile;", true)
  | 4 => ("CircuitCycles$Circuit", "instances", "LCircuitCycles$Row;", true)
  | 5 => ("CircuitCycles$Circuit", "signals", "LCircuitCycles$Row;", true)
  | 6 => ("CircuitCycles$Circuit", "bits", "LCircuitCycles$Row;", true)
  | 7 => ("CircuitCycles$Circuit", "edges", "LCircuitCycles$Row;", true)
  | 8 => ("CircuitCycles$Circuit", "edgeStarts", "LCircuitCycles$Row;", true)
  | 9 => ("CircuitCycles$Circuit", "totals", "LCircuitCycles$Row;", true)
  | 10 => ("CircuitCycles$Circuit", "inputs", "LCircuitCycles$Row;", true)
  | 11 => ("CircuitCycles$Circuit", "states", "LCircuitCycles$Row;", true)
  | 12 => ("CircuitCycles$Circuit", "nexts", "LCircuitCycles$Row;", true)
  | 13 => ("CircuitCycles$Circuit", "begins", "I", false)
  | 14 => ("CircuitCycles$Circuit", "asserts", "LCircuitCycles$Row;", true)
  | 15 => ("CircuitCycles$Circuit", "bad", "I", false)
  | 16 => ("CircuitCycles$Circuit", "size", "I", false)
  | 17 => ("CircuitCycles$Circuit", "marks", "[I", true)
  | 18 => ("CircuitCycles$Circuit", "work", "LCircuitCycles$Row;", true)
  | 19 => ("CircuitCycles$Circuit", "paths", "LCircuitCycles$Row;", true)
  | 20 => ("CircuitCycles$Circuit", "subjects", "LCircuitCycles$Row;", true)
  | 21 => ("CircuitCycles$Circuit", "driver", "I", false)
  | 22 => ("CircuitCycles$Circuit", "spanFrom", "I", false)
  | 23 => ("CircuitCycles$Circuit", "spanTo", "I", false)
  | _ => ("CircuitCycles$Circuit", "now", "I", false)
def tyX5 : Nat → FieldType := fun k => match k with
  | 0 => .object "CircuitCycles$Lexer"
  | 1 => .object "CircuitCycles$Design"
  | 2 => .object "CircuitCycles$Gates"
  | 3 => .object "CircuitCycles$Pile"
  | 4 => .object "CircuitCycles$Row"
  | 5 => .object "CircuitCycles$Row"
  | 6 => .object "CircuitCycles$Row"
  | 7 => .object "CircuitCycles$Row"
  | 8 => .object "CircuitCycles$Row"
  | 9 => .object "CircuitCycles$Row"
  | 10 => .object "CircuitCycles$Row"
  | 11 => .object "CircuitCycles$Row"
  | 12 => .object "CircuitCycles$Row"
  | 13 => .int
  | 14 => .object "CircuitCycles$Row"
  | 15 => .int
  | 16 => .int
  | 17 => .array .int
  | 18 => .object "CircuitCycles$Row"
  | 19 => .object "CircuitCycles$Row"
  | 20 => .object "CircuitCycles$Row"
  | 21 => .int
  | 22 => .int
  | 23 => .int
  | _ => .int
abbrev wsX50 : List Cond := u_ws RX5 TX5 25
set_option maxRecDepth 100000 in
theorem nmX5 : ∀ a, a < 25 → ∀ b, b < 25 → a ≠ b → (TX5 a).2.1 ≠ (TX5 b).2.1 := by decide +kernel
set_option maxRecDepth 100000 in
theorem tyX5_ok : ∀ k, k < 25 → parseFieldDescriptor (TX5 k).2.2.1 = some (tyX5 k) := by decide +kernel
abbrev cX5_init : ByteArray := prog_2_method_1_code
def yX5_init : MethodName := ⟨RX5, "<init>", "(LCircuitCycles$Lexer;)V"⟩
abbrev cX5_make : ByteArray := prog_2_method_33_code
def yX5_make : MethodName := ⟨RX5, "make", "()V"⟩
abbrev cX5_add : ByteArray := prog_2_method_4_code
def yX5_add : MethodName := ⟨RX5, "add", "()V"⟩
abbrev cX5_sum : ByteArray := prog_2_method_3_code
def yX5_sum : MethodName := ⟨RX5, "sum", "(II)I"⟩
abbrev cX5_bounds : ByteArray := prog_2_method_6_code
def yX5_bounds : MethodName := ⟨RX5, "bounds", "()V"⟩
abbrev cX5_total : ByteArray := prog_2_method_5_code
def yX5_total : MethodName := ⟨RX5, "total", "(I)I"⟩
abbrev cX5_need : ByteArray := prog_2_method_2_code
def yX5_need : MethodName := ⟨RX5, "need", "(ZI)V"⟩
abbrev cX5_instances : ByteArray := prog_2_method_8_code
def yX5_instances : MethodName := ⟨RX5, "instances", "()V"⟩
abbrev cX5_instance : ByteArray := prog_2_method_7_code
def yX5_instance : MethodName := ⟨RX5, "instance", "(III)I"⟩
abbrev cX5_edges : ByteArray := prog_2_method_18_code
def yX5_edges : MethodName := ⟨RX5, "edges", "()V"⟩
abbrev cX5_drivenBy : ByteArray := prog_2_method_16_code
def yX5_drivenBy : MethodName := ⟨RX5, "drivenBy", "(I)V"⟩
abbrev cX5_symbol : ByteArray := prog_2_method_10_code
def yX5_symbol : MethodName := ⟨RX5, "symbol", "(I)I"⟩
abbrev cX5_isInput : ByteArray := prog_2_method_13_code
def yX5_isInput : MethodName := ⟨RX5, "isInput", "(I)Z"⟩
abbrev cX5_span : ByteArray := prog_2_method_15_code
def yX5_span : MethodName := ⟨RX5, "span", "(III)V"⟩
abbrev cX5_linked : ByteArray := prog_2_method_17_code
def yX5_linked : MethodName := ⟨RX5, "linked", "(III)V"⟩
abbrev cX5_signal : ByteArray := prog_2_method_9_code
def yX5_signal : MethodName := ⟨RX5, "signal", "(II)I"⟩
abbrev cX5_length : ByteArray := prog_2_method_19_code
def yX5_length : MethodName := ⟨RX5, "length", "(I)I"⟩
abbrev cX5_rounds : ByteArray := prog_2_method_21_code
def yX5_rounds : MethodName := ⟨RX5, "rounds", "()V"⟩
abbrev cX5_isRegister : ByteArray := prog_2_method_14_code
def yX5_isRegister : MethodName := ⟨RX5, "isRegister", "(I)Z"⟩
abbrev cX5_isRound : ByteArray := prog_2_method_20_code
def yX5_isRound : MethodName := ⟨RX5, "isRound", "(I)Z"⟩
abbrev cX5_leaves : ByteArray := prog_2_method_24_code
def yX5_leaves : MethodName := ⟨RX5, "leaves", "()V"⟩
abbrev cX5_width : ByteArray := prog_2_method_11_code
def yX5_width : MethodName := ⟨RX5, "width", "(I)I"⟩
abbrev cX5_first : ByteArray := prog_2_method_12_code
def yX5_first : MethodName := ⟨RX5, "first", "(I)I"⟩
abbrev cX5_signals : ByteArray := prog_2_method_26_code
def yX5_signals : MethodName := ⟨RX5, "signals", "()V"⟩
abbrev cX5_lay : ByteArray := prog_2_method_25_code
def yX5_lay : MethodName := ⟨RX5, "lay", "(I)V"⟩
abbrev cX5_work : ByteArray := prog_2_method_23_code
def yX5_work : MethodName := ⟨RX5, "work", "(III)V"⟩
abbrev cX5_value : ByteArray := prog_2_method_22_code
def yX5_value : MethodName := ⟨RX5, "value", "(I)J"⟩
abbrev cX5_nexts : ByteArray := prog_2_method_28_code
def yX5_nexts : MethodName := ⟨RX5, "nexts", "()V"⟩
abbrev cX5_acts : ByteArray := prog_2_method_29_code
def yX5_acts : MethodName := ⟨RX5, "acts", "(III)V"⟩
abbrev cX5_set : ByteArray := prog_2_method_31_code
def yX5_set : MethodName := ⟨RX5, "set", "(II)V"⟩
abbrev cX5_stateOf : ByteArray := prog_2_method_32_code
def yX5_stateOf : MethodName := ⟨RX5, "stateOf", "(I)I"⟩
abbrev cX5_truth : ByteArray := prog_2_method_27_code
def yX5_truth : MethodName := ⟨RX5, "truth", "(III)I"⟩
abbrev cX5_labels : ByteArray := prog_2_method_30_code
def yX5_labels : MethodName := ⟨RX5, "labels", "(I)I"⟩
abbrev cX5_find : ByteArray := prog_2_method_34_code
def yX5_find : MethodName := ⟨RX5, "find", "([BI)I"⟩
theorem q176 : (Jvm.Cond.initialized "CircuitCycles$Circuit") ∈ lw_all := lw_g (lw_at lw_m1 9 rfl) rfl
theorem q359 : (Jvm.Cond.fieldLinkNest "CircuitCycles$Circuit" (109 : Nat) "CircuitCycles$Row" "size" "I" "CircuitCycles") ∈ lw_tbl := lw_at lw_m1 192 rfl
theorem q403 : (Jvm.Cond.instantiable "CircuitCycles$Circuit" (25 : Nat)) ∈ lw_all := lw_g (lw_at lw_m1 236 rfl) rfl
theorem q405 : (Jvm.Cond.instanceMethod ({ cls := "CircuitCycles$Circuit", name := "<init>", desc := "(LCircuitCycles$Lexer;)V" } : Jvm.MethodName)) ∈ lw_all := lw_g (lw_at lw_m1 238 rfl) rfl
theorem q406 : (Jvm.Cond.code ({ cls := "CircuitCycles$Circuit", name := "<init>", desc := "(LCircuitCycles$Lexer;)V" } : Jvm.MethodName) prog_2_method_1_code (2 : Nat) (Option.none : Option Jvm.ClassFile.FieldType)) ∈ lw_all := lw_g (lw_at lw_m1 239 rfl) rfl
theorem q407 : (Jvm.Cond.methodLink "CircuitCycles$Circuit" (3 : Nat) ({ cls := "java/lang/Object", name := "<init>", desc := "()V" } : Jvm.MethodName)) ∈ lw_all := lw_g (lw_at lw_m2 0 rfl) rfl
theorem q408 : (Jvm.Cond.classLink "CircuitCycles$Circuit" (9 : Nat) "CircuitCycles$Design") ∈ lw_all := lw_g (lw_at lw_m2 1 rfl) rfl
theorem q410 : (Jvm.Cond.methodLinkNest "CircuitCycles$Circuit" (11 : Nat) ({ cls := "CircuitCycles$Design", name := "<init>", desc := "()V" } : Jvm.MethodName) "CircuitCycles") ∈ lw_tbl := lw_at lw_m2 3 rfl
theorem q418 : (Jvm.Cond.fieldLinkNest "CircuitCycles$Circuit" (122 : Nat) "CircuitCycles$Design" "symbols" "LCircuitCycles$Row;" "CircuitCycles") ∈ lw_tbl := lw_at lw_m2 11 rfl
theorem q421 : (Jvm.Cond.fieldLinkNest "CircuitCycles$Circuit" (85 : Nat) "CircuitCycles$Design" "modules" "LCircuitCycles$Row;" "CircuitCycles") ∈ lw_tbl := lw_at lw_m2 14 rfl
theorem q424 : (Jvm.Cond.fieldLinkNest "CircuitCycles$Circuit" (145 : Nat) "CircuitCycles$Design" "items" "LCircuitCycles$Row;" "CircuitCycles") ∈ lw_tbl := lw_at lw_m2 17 rfl
theorem q427 : (Jvm.Cond.fieldLinkNest "CircuitCycles$Circuit" (187 : Nat) "CircuitCycles$Design" "links" "LCircuitCycles$Row;" "CircuitCycles") ∈ lw_tbl := lw_at lw_m2 20 rfl
theorem q431 : (Jvm.Cond.fieldLinkNest "CircuitCycles$Circuit" (207 : Nat) "CircuitCycles$Design" "codes" "LCircuitCycles$Row;" "CircuitCycles") ∈ lw_tbl := lw_at lw_m2 24 rfl
theorem q434 : (Jvm.Cond.fieldLinkNest "CircuitCycles$Circuit" (294 : Nat) "CircuitCycles$Design" "acts" "LCircuitCycles$Row;" "CircuitCycles") ∈ lw_tbl := lw_at lw_m2 27 rfl
theorem q452 : (Jvm.Cond.classLink "CircuitCycles$Circuit" (18 : Nat) "CircuitCycles$Gates") ∈ lw_all := lw_g (lw_at lw_m2 45 rfl) rfl
theorem q454 : (Jvm.Cond.methodLinkNest "CircuitCycles$Circuit" (20 : Nat) ({ cls := "CircuitCycles$Gates", name := "<init>", desc := "()V" } : Jvm.MethodName) "CircuitCycles") ∈ lw_tbl := lw_at lw_m2 47 rfl
theorem q467 : (Jvm.Cond.fieldLinkNest "CircuitCycles$Circuit" (289 : Nat) "CircuitCycles$Gates" "size" "I" "CircuitCycles") ∈ lw_tbl := lw_at lw_m2 60 rfl
theorem q479 : (Jvm.Cond.classLink "CircuitCycles$Circuit" (25 : Nat) "CircuitCycles$Pile") ∈ lw_all := lw_g (lw_at lw_m2 72 rfl) rfl
theorem q481 : (Jvm.Cond.methodLink "CircuitCycles$Circuit" (27 : Nat) ({ cls := "CircuitCycles$Pile", name := "<init>", desc := "(LCircuitCycles$Gates;)V" } : Jvm.MethodName)) ∈ lw_all := lw_g (lw_at lw_m2 74 rfl) rfl
theorem q489 : (Jvm.Cond.fieldLinkNest "CircuitCycles$Circuit" (268 : Nat) "CircuitCycles$Pile" "bits" "LCircuitCycles$Row;" "CircuitCycles") ∈ lw_tbl := lw_at lw_m2 82 rfl
theorem q498 : (Jvm.Cond.classLink "CircuitCycles$Circuit" (34 : Nat) "CircuitCycles$Row") ∈ lw_all := lw_g (lw_at lw_m2 91 rfl) rfl
theorem q499 : (Jvm.Cond.methodLinkNest "CircuitCycles$Circuit" (36 : Nat) ({ cls := "CircuitCycles$Row", name := "<init>", desc := "()V" } : Jvm.MethodName) "CircuitCycles") ∈ lw_tbl := lw_at lw_m2 92 rfl
theorem q500 : (Jvm.Cond.fieldLink "CircuitCycles$Circuit" (81 : Nat) "CircuitCycles$Circuit" "lexer" "LCircuitCycles$Lexer;") ∈ lw_all := lw_g (lw_at lw_m2 93 rfl) rfl
theorem q501 : (Jvm.Cond.fieldLink "CircuitCycles$Circuit" (12 : Nat) "CircuitCycles$Circuit" "d" "LCircuitCycles$Design;") ∈ lw_all := lw_g (lw_at lw_m2 94 rfl) rfl
theorem q503 : (Jvm.Cond.fieldLink "CircuitCycles$Circuit" (21 : Nat) "CircuitCycles$Circuit" "g" "LCircuitCycles$Gates;") ∈ lw_all := lw_g (lw_at lw_m2 96 rfl) rfl
theorem q505 : (Jvm.Cond.fieldLink "CircuitCycles$Circuit" (30 : Nat) "CircuitCycles$Circuit" "pile" "LCircuitCycles$Pile;") ∈ lw_all := lw_g (lw_at lw_m2 98 rfl) rfl
theorem q506 : (Jvm.Cond.fieldLink "CircuitCycles$Circuit" (37 : Nat) "CircuitCycles$Circuit" "instances" "LCircuitCycles$Row;") ∈ lw_all := lw_g (lw_at lw_m2 99 rfl) rfl
theorem q508 : (Jvm.Cond.fieldLink "CircuitCycles$Circuit" (41 : Nat) "CircuitCycles$Circuit" "signals" "LCircuitCycles$Row;") ∈ lw_all := lw_g (lw_at lw_m2 101 rfl) rfl
theorem q510 : (Jvm.Cond.fieldLink "CircuitCycles$Circuit" (44 : Nat) "CircuitCycles$Circuit" "bits" "LCircuitCycles$Row;") ∈ lw_all := lw_g (lw_at lw_m2 103 rfl) rfl
theorem q513 : (Jvm.Cond.fieldLink "CircuitCycles$Circuit" (47 : Nat) "CircuitCycles$Circuit" "edges" "LCircuitCycles$Row;") ∈ lw_all := lw_g (lw_at lw_m2 106 rfl) rfl
theorem q514 : (Jvm.Cond.fieldLink "CircuitCycles$Circuit" (50 : Nat) "CircuitCycles$Circuit" "edgeStarts" "LCircuitCycles$Row;") ∈ lw_all := lw_g (lw_at lw_m2 107 rfl) rfl
theorem q515 : (Jvm.Cond.fieldLink "CircuitCycles$Circuit" (53 : Nat) "CircuitCycles$Circuit" "totals" "LCircuitCycles$Row;") ∈ lw_all := lw_g (lw_at lw_m2 108 rfl) rfl
theorem q516 : (Jvm.Cond.fieldLink "CircuitCycles$Circuit" (56 : Nat) "CircuitCycles$Circuit" "inputs" "LCircuitCycles$Row;") ∈ lw_all := lw_g (lw_at lw_m2 109 rfl) rfl
theorem q519 : (Jvm.Cond.fieldLink "CircuitCycles$Circuit" (59 : Nat) "CircuitCycles$Circuit" "states" "LCircuitCycles$Row;") ∈ lw_all := lw_g (lw_at lw_m2 112 rfl) rfl
theorem q522 : (Jvm.Cond.fieldLink "CircuitCycles$Circuit" (62 : Nat) "CircuitCycles$Circuit" "nexts" "LCircuitCycles$Row;") ∈ lw_all := lw_g (lw_at lw_m2 115 rfl) rfl
theorem q525 : (Jvm.Cond.fieldLink "CircuitCycles$Circuit" (259 : Nat) "CircuitCycles$Circuit" "begins" "I") ∈ lw_all := lw_g (lw_at lw_m2 118 rfl) rfl
theorem q526 : (Jvm.Cond.fieldLink "CircuitCycles$Circuit" (65 : Nat) "CircuitCycles$Circuit" "asserts" "LCircuitCycles$Row;") ∈ lw_all := lw_g (lw_at lw_m2 119 rfl) rfl
theorem q528 : (Jvm.Cond.fieldLink "CircuitCycles$Circuit" (278 : Nat) "CircuitCycles$Circuit" "bad" "I") ∈ lw_all := lw_g (lw_at lw_m2 121 rfl) rfl
theorem q529 : (Jvm.Cond.fieldLink "CircuitCycles$Circuit" (290 : Nat) "CircuitCycles$Circuit" "size" "I") ∈ lw_all := lw_g (lw_at lw_m2 122 rfl) rfl
theorem q530 : (Jvm.Cond.fieldLink "CircuitCycles$Circuit" (68 : Nat) "CircuitCycles$Circuit" "marks" "[I") ∈ lw_all := lw_g (lw_at lw_m2 123 rfl) rfl
theorem q531 : (Jvm.Cond.fieldLink "CircuitCycles$Circuit" (72 : Nat) "CircuitCycles$Circuit" "work" "LCircuitCycles$Row;") ∈ lw_all := lw_g (lw_at lw_m2 124 rfl) rfl
theorem q532 : (Jvm.Cond.fieldLink "CircuitCycles$Circuit" (75 : Nat) "CircuitCycles$Circuit" "paths" "LCircuitCycles$Row;") ∈ lw_all := lw_g (lw_at lw_m2 125 rfl) rfl
theorem q533 : (Jvm.Cond.fieldLink "CircuitCycles$Circuit" (78 : Nat) "CircuitCycles$Circuit" "subjects" "LCircuitCycles$Row;") ∈ lw_all := lw_g (lw_at lw_m2 126 rfl) rfl
theorem q534 : (Jvm.Cond.fieldLink "CircuitCycles$Circuit" (175 : Nat) "CircuitCycles$Circuit" "driver" "I") ∈ lw_all := lw_g (lw_at lw_m2 127 rfl) rfl
theorem q535 : (Jvm.Cond.fieldLink "CircuitCycles$Circuit" (178 : Nat) "CircuitCycles$Circuit" "spanFrom" "I") ∈ lw_all := lw_g (lw_at lw_m2 128 rfl) rfl
theorem q536 : (Jvm.Cond.fieldLink "CircuitCycles$Circuit" (181 : Nat) "CircuitCycles$Circuit" "spanTo" "I") ∈ lw_all := lw_g (lw_at lw_m2 129 rfl) rfl
theorem q537 : (Jvm.Cond.fieldLink "CircuitCycles$Circuit" (291 : Nat) "CircuitCycles$Circuit" "now" "I") ∈ lw_all := lw_g (lw_at lw_m2 130 rfl) rfl
theorem q538 : (Jvm.Cond.laysFinal "CircuitCycles$Circuit" "CircuitCycles$Circuit" "lexer" "LCircuitCycles$Lexer;") ∈ lw_all := lw_g (lw_at lw_m2 131 rfl) rfl
theorem q539 : (Jvm.Cond.soleField "CircuitCycles$Circuit" "lexer") ∈ lw_all := lw_g (lw_at lw_m2 132 rfl) rfl
theorem q540 : (Jvm.Cond.laysFinal "CircuitCycles$Circuit" "CircuitCycles$Circuit" "d" "LCircuitCycles$Design;") ∈ lw_all := lw_g (lw_at lw_m2 133 rfl) rfl
theorem q541 : (Jvm.Cond.soleField "CircuitCycles$Circuit" "d") ∈ lw_all := lw_g (lw_at lw_m2 134 rfl) rfl
theorem q542 : (Jvm.Cond.laysFinal "CircuitCycles$Circuit" "CircuitCycles$Circuit" "g" "LCircuitCycles$Gates;") ∈ lw_all := lw_g (lw_at lw_m2 135 rfl) rfl
theorem q543 : (Jvm.Cond.soleField "CircuitCycles$Circuit" "g") ∈ lw_all := lw_g (lw_at lw_m2 136 rfl) rfl
theorem q544 : (Jvm.Cond.laysFinal "CircuitCycles$Circuit" "CircuitCycles$Circuit" "pile" "LCircuitCycles$Pile;") ∈ lw_all := lw_g (lw_at lw_m2 137 rfl) rfl
theorem q545 : (Jvm.Cond.soleField "CircuitCycles$Circuit" "pile") ∈ lw_all := lw_g (lw_at lw_m2 138 rfl) rfl
theorem q546 : (Jvm.Cond.laysFinal "CircuitCycles$Circuit" "CircuitCycles$Circuit" "instances" "LCircuitCycles$Row;") ∈ lw_all := lw_g (lw_at lw_m2 139 rfl) rfl
theorem q547 : (Jvm.Cond.soleField "CircuitCycles$Circuit" "instances") ∈ lw_all := lw_g (lw_at lw_m2 140 rfl) rfl
theorem q548 : (Jvm.Cond.laysFinal "CircuitCycles$Circuit" "CircuitCycles$Circuit" "signals" "LCircuitCycles$Row;") ∈ lw_all := lw_g (lw_at lw_m2 141 rfl) rfl
theorem q549 : (Jvm.Cond.soleField "CircuitCycles$Circuit" "signals") ∈ lw_all := lw_g (lw_at lw_m2 142 rfl) rfl
theorem q550 : (Jvm.Cond.laysFinal "CircuitCycles$Circuit" "CircuitCycles$Circuit" "bits" "LCircuitCycles$Row;") ∈ lw_all := lw_g (lw_at lw_m2 143 rfl) rfl
theorem q551 : (Jvm.Cond.soleField "CircuitCycles$Circuit" "bits") ∈ lw_all := lw_g (lw_at lw_m2 144 rfl) rfl
theorem q552 : (Jvm.Cond.laysFinal "CircuitCycles$Circuit" "CircuitCycles$Circuit" "edges" "LCircuitCycles$Row;") ∈ lw_all := lw_g (lw_at lw_m2 145 rfl) rfl
theorem q553 : (Jvm.Cond.soleField "CircuitCycles$Circuit" "edges") ∈ lw_all := lw_g (lw_at lw_m2 146 rfl) rfl
theorem q554 : (Jvm.Cond.laysFinal "CircuitCycles$Circuit" "CircuitCycles$Circuit" "edgeStarts" "LCircuitCycles$Row;") ∈ lw_all := lw_g (lw_at lw_m2 147 rfl) rfl
theorem q555 : (Jvm.Cond.soleField "CircuitCycles$Circuit" "edgeStarts") ∈ lw_all := lw_g (lw_at lw_m2 148 rfl) rfl
theorem q556 : (Jvm.Cond.laysFinal "CircuitCycles$Circuit" "CircuitCycles$Circuit" "totals" "LCircuitCycles$Row;") ∈ lw_all := lw_g (lw_at lw_m2 149 rfl) rfl
theorem q557 : (Jvm.Cond.soleField "CircuitCycles$Circuit" "totals") ∈ lw_all := lw_g (lw_at lw_m2 150 rfl) rfl
theorem q558 : (Jvm.Cond.laysFinal "CircuitCycles$Circuit" "CircuitCycles$Circuit" "inputs" "LCircuitCycles$Row;") ∈ lw_all := lw_g (lw_at lw_m2 151 rfl) rfl
theorem q559 : (Jvm.Cond.soleField "CircuitCycles$Circuit" "inputs") ∈ lw_all := lw_g (lw_at lw_m2 152 rfl) rfl
theorem q560 : (Jvm.Cond.laysFinal "CircuitCycles$Circuit" "CircuitCycles$Circuit" "states" "LCircuitCycles$Row;") ∈ lw_all := lw_g (lw_at lw_m2 153 rfl) rfl
theorem q561 : (Jvm.Cond.soleField "CircuitCycles$Circuit" "states") ∈ lw_all := lw_g (lw_at lw_m2 154 rfl) rfl
theorem q562 : (Jvm.Cond.laysFinal "CircuitCycles$Circuit" "CircuitCycles$Circuit" "nexts" "LCircuitCycles$Row;") ∈ lw_all := lw_g (lw_at lw_m2 155 rfl) rfl
theorem q563 : (Jvm.Cond.soleField "CircuitCycles$Circuit" "nexts") ∈ lw_all := lw_g (lw_at lw_m2 156 rfl) rfl
theorem q564 : (Jvm.Cond.lays "CircuitCycles$Circuit" "CircuitCycles$Circuit" "begins" "I") ∈ lw_all := lw_g (lw_at lw_m2 157 rfl) rfl
theorem q565 : (Jvm.Cond.soleField "CircuitCycles$Circuit" "begins") ∈ lw_all := lw_g (lw_at lw_m2 158 rfl) rfl
theorem q566 : (Jvm.Cond.laysFinal "CircuitCycles$Circuit" "CircuitCycles$Circuit" "asserts" "LCircuitCycles$Row;") ∈ lw_all := lw_g (lw_at lw_m2 159 rfl) rfl
theorem q567 : (Jvm.Cond.soleField "CircuitCycles$Circuit" "asserts") ∈ lw_all := lw_g (lw_at lw_m2 160 rfl) rfl
theorem q568 : (Jvm.Cond.lays "CircuitCycles$Circuit" "CircuitCycles$Circuit" "bad" "I") ∈ lw_all := lw_g (lw_at lw_m2 161 rfl) rfl
theorem q569 : (Jvm.Cond.soleField "CircuitCycles$Circuit" "bad") ∈ lw_all := lw_g (lw_at lw_m2 162 rfl) rfl
theorem q570 : (Jvm.Cond.lays "CircuitCycles$Circuit" "CircuitCycles$Circuit" "size" "I") ∈ lw_all := lw_g (lw_at lw_m2 163 rfl) rfl
theorem q571 : (Jvm.Cond.soleField "CircuitCycles$Circuit" "size") ∈ lw_all := lw_g (lw_at lw_m2 164 rfl) rfl
theorem q572 : (Jvm.Cond.laysFinal "CircuitCycles$Circuit" "CircuitCycles$Circuit" "marks" "[I") ∈ lw_all := lw_g (lw_at lw_m2 165 rfl) rfl
theorem q573 : (Jvm.Cond.soleField "CircuitCycles$Circuit" "marks") ∈ lw_all := lw_g (lw_at lw_m2 166 rfl) rfl
theorem q574 : (Jvm.Cond.laysFinal "CircuitCycles$Circuit" "CircuitCycles$Circuit" "work" "LCircuitCycles$Row;") ∈ lw_all := lw_g (lw_at lw_m2 167 rfl) rfl
theorem q575 : (Jvm.Cond.soleField "CircuitCycles$Circuit" "work") ∈ lw_all := lw_g (lw_at lw_m2 168 rfl) rfl
theorem q576 : (Jvm.Cond.laysFinal "CircuitCycles$Circuit" "CircuitCycles$Circuit" "paths" "LCircuitCycles$Row;") ∈ lw_all := lw_g (lw_at lw_m2 169 rfl) rfl
theorem q577 : (Jvm.Cond.soleField "CircuitCycles$Circuit" "paths") ∈ lw_all := lw_g (lw_at lw_m2 170 rfl) rfl
theorem q578 : (Jvm.Cond.laysFinal "CircuitCycles$Circuit" "CircuitCycles$Circuit" "subjects" "LCircuitCycles$Row;") ∈ lw_all := lw_g (lw_at lw_m2 171 rfl) rfl
theorem q579 : (Jvm.Cond.soleField "CircuitCycles$Circuit" "subjects") ∈ lw_all := lw_g (lw_at lw_m2 172 rfl) rfl
theorem q580 : (Jvm.Cond.lays "CircuitCycles$Circuit" "CircuitCycles$Circuit" "driver" "I") ∈ lw_all := lw_g (lw_at lw_m2 173 rfl) rfl
theorem q581 : (Jvm.Cond.soleField "CircuitCycles$Circuit" "driver") ∈ lw_all := lw_g (lw_at lw_m2 174 rfl) rfl
theorem q582 : (Jvm.Cond.lays "CircuitCycles$Circuit" "CircuitCycles$Circuit" "spanFrom" "I") ∈ lw_all := lw_g (lw_at lw_m2 175 rfl) rfl
theorem q583 : (Jvm.Cond.soleField "CircuitCycles$Circuit" "spanFrom") ∈ lw_all := lw_g (lw_at lw_m2 176 rfl) rfl
theorem q584 : (Jvm.Cond.lays "CircuitCycles$Circuit" "CircuitCycles$Circuit" "spanTo" "I") ∈ lw_all := lw_g (lw_at lw_m2 177 rfl) rfl
theorem q585 : (Jvm.Cond.soleField "CircuitCycles$Circuit" "spanTo") ∈ lw_all := lw_g (lw_at lw_m2 178 rfl) rfl
theorem q586 : (Jvm.Cond.lays "CircuitCycles$Circuit" "CircuitCycles$Circuit" "now" "I") ∈ lw_all := lw_g (lw_at lw_m2 179 rfl) rfl
theorem q587 : (Jvm.Cond.soleField "CircuitCycles$Circuit" "now") ∈ lw_all := lw_g (lw_at lw_m2 180 rfl) rfl
theorem q588 : (Jvm.Cond.superclass "CircuitCycles$Circuit" "java/lang/Object") ∈ lw_all := lw_g (lw_at lw_m2 181 rfl) rfl
theorem q1005 : (Jvm.Cond.instanceMethod ({ cls := "CircuitCycles$Circuit", name := "make", desc := "()V" } : Jvm.MethodName)) ∈ lw_all := lw_g (lw_at lw_m4 118 rfl) rfl
theorem q1006 : (Jvm.Cond.selects "CircuitCycles$Circuit" ({ cls := "CircuitCycles$Circuit", name := "make", desc := "()V" } : Jvm.MethodName) ({ cls := "CircuitCycles$Circuit", name := "make", desc := "()V" } : Jvm.MethodName)) ∈ lw_all := lw_g (lw_at lw_m4 119 rfl) rfl
theorem q1007 : (Jvm.Cond.code ({ cls := "CircuitCycles$Circuit", name := "make", desc := "()V" } : Jvm.MethodName) prog_2_method_33_code (1 : Nat) (Option.none : Option Jvm.ClassFile.FieldType)) ∈ lw_all := lw_g (lw_at lw_m4 120 rfl) rfl
theorem q1008 : (Jvm.Cond.methodLink "CircuitCycles$Circuit" (309 : Nat) ({ cls := "CircuitCycles$Circuit", name := "add", desc := "()V" } : Jvm.MethodName)) ∈ lw_all := lw_g (lw_at lw_m4 121 rfl) rfl
theorem q1009 : (Jvm.Cond.privateMethod ({ cls := "CircuitCycles$Circuit", name := "add", desc := "()V" } : Jvm.MethodName)) ∈ lw_tbl := lw_at lw_m4 122 rfl
theorem q1010 : (Jvm.Cond.instanceMethod ({ cls := "CircuitCycles$Circuit", name := "add", desc := "()V" } : Jvm.MethodName)) ∈ lw_all := lw_g (lw_at lw_m4 123 rfl) rfl
theorem q1011 : (Jvm.Cond.code ({ cls := "CircuitCycles$Circuit", name := "add", desc := "()V" } : Jvm.MethodName) prog_2_method_4_code (8 : Nat) (Option.none : Option Jvm.ClassFile.FieldType)) ∈ lw_all := lw_g (lw_at lw_m4 124 rfl) rfl
theorem q1012 : (Jvm.Cond.methodLink "CircuitCycles$Circuit" (88 : Nat) ({ cls := "CircuitCycles$Design", name := "count", desc := "()I" } : Jvm.MethodName)) ∈ lw_all := lw_g (lw_at lw_m4 125 rfl) rfl
theorem q1013 : (Jvm.Cond.methodLink "CircuitCycles$Circuit" (113 : Nat) ({ cls := "CircuitCycles$Design", name := "firstSymbol", desc := "(I)I" } : Jvm.MethodName)) ∈ lw_all := lw_g (lw_at lw_m4 126 rfl) rfl
theorem q1014 : (Jvm.Cond.methodLink "CircuitCycles$Circuit" (116 : Nat) ({ cls := "CircuitCycles$Design", name := "lastSymbol", desc := "(I)I" } : Jvm.MethodName)) ∈ lw_all := lw_g (lw_at lw_m4 127 rfl) rfl
theorem q1015 : (Jvm.Cond.methodLink "CircuitCycles$Circuit" (119 : Nat) ({ cls := "CircuitCycles$Design", name := "kind", desc := "(I)I" } : Jvm.MethodName)) ∈ lw_all := lw_g (lw_at lw_m4 128 rfl) rfl
theorem q1016 : (Jvm.Cond.methodLink "CircuitCycles$Circuit" (125 : Nat) ({ cls := "CircuitCycles$Row", name := "set", desc := "(II)V" } : Jvm.MethodName)) ∈ lw_all := lw_g (lw_at lw_m4 129 rfl) rfl
theorem q1017 : (Jvm.Cond.methodLink "CircuitCycles$Circuit" (129 : Nat) ({ cls := "CircuitCycles$Design", name := "isRegister", desc := "(I)Z" } : Jvm.MethodName)) ∈ lw_all := lw_g (lw_at lw_m4 130 rfl) rfl
theorem q1018 : (Jvm.Cond.methodLink "CircuitCycles$Circuit" (133 : Nat) ({ cls := "CircuitCycles$Design", name := "width", desc := "(I)I" } : Jvm.MethodName)) ∈ lw_all := lw_g (lw_at lw_m4 131 rfl) rfl
theorem q1019 : (Jvm.Cond.methodLink "CircuitCycles$Circuit" (136 : Nat) ({ cls := "CircuitCycles$Circuit", name := "sum", desc := "(II)I" } : Jvm.MethodName)) ∈ lw_all := lw_g (lw_at lw_m4 132 rfl) rfl
theorem q1020 : (Jvm.Cond.static ({ cls := "CircuitCycles$Circuit", name := "sum", desc := "(II)I" } : Jvm.MethodName)) ∈ lw_all := lw_g (lw_at lw_m4 133 rfl) rfl
theorem q1021 : (Jvm.Cond.code ({ cls := "CircuitCycles$Circuit", name := "sum", desc := "(II)I" } : Jvm.MethodName) prog_2_method_3_code (2 : Nat) (Option.some Jvm.ClassFile.FieldType.int)) ∈ lw_all := lw_g (lw_at lw_m4 134 rfl) rfl
theorem q1022 : (Jvm.Cond.constant "CircuitCycles$Circuit" (102 : Nat) (100000 : Int32)) ∈ lw_all := lw_g (lw_at lw_m4 135 rfl) rfl
theorem q1023 : (Jvm.Cond.methodLink "CircuitCycles$Circuit" (103 : Nat) ({ cls := "java/lang/Math", name := "min", desc := "(II)I" } : Jvm.MethodName)) ∈ lw_all := lw_g (lw_at lw_m4 136 rfl) rfl
theorem q1024 : (Jvm.Cond.methodLink "CircuitCycles$Circuit" (92 : Nat) ({ cls := "CircuitCycles$Row", name := "at", desc := "(I)I" } : Jvm.MethodName)) ∈ lw_all := lw_g (lw_at lw_m4 137 rfl) rfl
theorem q1025 : (Jvm.Cond.methodLink "CircuitCycles$Circuit" (139 : Nat) ({ cls := "CircuitCycles$Design", name := "firstItem", desc := "(I)I" } : Jvm.MethodName)) ∈ lw_all := lw_g (lw_at lw_m4 138 rfl) rfl
theorem q1029 : (Jvm.Cond.methodLink "CircuitCycles$Circuit" (142 : Nat) ({ cls := "CircuitCycles$Design", name := "lastItem", desc := "(I)I" } : Jvm.MethodName)) ∈ lw_all := lw_g (lw_at lw_m4 142 rfl) rfl
theorem q1033 : (Jvm.Cond.methodLink "CircuitCycles$Circuit" (148 : Nat) ({ cls := "CircuitCycles$Design", name := "symbol", desc := "(II)I" } : Jvm.MethodName)) ∈ lw_all := lw_g (lw_at lw_m4 146 rfl) rfl
theorem q1034 : (Jvm.Cond.methodLink "CircuitCycles$Circuit" (151 : Nat) ({ cls := "CircuitCycles$Row", name := "add", desc := "(I)I" } : Jvm.MethodName)) ∈ lw_all := lw_g (lw_at lw_m4 147 rfl) rfl
theorem q1035 : (Jvm.Cond.methodLink "CircuitCycles$Circuit" (311 : Nat) ({ cls := "CircuitCycles$Circuit", name := "bounds", desc := "()V" } : Jvm.MethodName)) ∈ lw_all := lw_g (lw_at lw_m4 148 rfl) rfl
theorem q1036 : (Jvm.Cond.privateMethod ({ cls := "CircuitCycles$Circuit", name := "bounds", desc := "()V" } : Jvm.MethodName)) ∈ lw_tbl := lw_at lw_m4 149 rfl
theorem q1037 : (Jvm.Cond.instanceMethod ({ cls := "CircuitCycles$Circuit", name := "bounds", desc := "()V" } : Jvm.MethodName)) ∈ lw_all := lw_g (lw_at lw_m4 150 rfl) rfl
theorem q1038 : (Jvm.Cond.code ({ cls := "CircuitCycles$Circuit", name := "bounds", desc := "()V" } : Jvm.MethodName) prog_2_method_6_code (4 : Nat) (Option.none : Option Jvm.ClassFile.FieldType)) ∈ lw_all := lw_g (lw_at lw_m4 151 rfl) rfl
theorem q1039 : (Jvm.Cond.methodLink "CircuitCycles$Circuit" (154 : Nat) ({ cls := "CircuitCycles$Circuit", name := "total", desc := "(I)I" } : Jvm.MethodName)) ∈ lw_all := lw_g (lw_at lw_m4 152 rfl) rfl
theorem q1040 : (Jvm.Cond.privateMethod ({ cls := "CircuitCycles$Circuit", name := "total", desc := "(I)I" } : Jvm.MethodName)) ∈ lw_tbl := lw_at lw_m4 153 rfl
theorem q1041 : (Jvm.Cond.instanceMethod ({ cls := "CircuitCycles$Circuit", name := "total", desc := "(I)I" } : Jvm.MethodName)) ∈ lw_all := lw_g (lw_at lw_m4 154 rfl) rfl
theorem q1042 : (Jvm.Cond.code ({ cls := "CircuitCycles$Circuit", name := "total", desc := "(I)I" } : Jvm.MethodName) prog_2_method_5_code (2 : Nat) (Option.some Jvm.ClassFile.FieldType.int)) ∈ lw_all := lw_g (lw_at lw_m4 155 rfl) rfl
theorem q1043 : (Jvm.Cond.methodLink "CircuitCycles$Circuit" (157 : Nat) ({ cls := "CircuitCycles$Circuit", name := "need", desc := "(ZI)V" } : Jvm.MethodName)) ∈ lw_all := lw_g (lw_at lw_m4 156 rfl) rfl
theorem q1044 : (Jvm.Cond.privateMethod ({ cls := "CircuitCycles$Circuit", name := "need", desc := "(ZI)V" } : Jvm.MethodName)) ∈ lw_tbl := lw_at lw_m4 157 rfl
theorem q1045 : (Jvm.Cond.instanceMethod ({ cls := "CircuitCycles$Circuit", name := "need", desc := "(ZI)V" } : Jvm.MethodName)) ∈ lw_all := lw_g (lw_at lw_m4 158 rfl) rfl
theorem q1046 : (Jvm.Cond.code ({ cls := "CircuitCycles$Circuit", name := "need", desc := "(ZI)V" } : Jvm.MethodName) prog_2_method_2_code (3 : Nat) (Option.none : Option Jvm.ClassFile.FieldType)) ∈ lw_all := lw_g (lw_at lw_m4 159 rfl) rfl
theorem q1047 : (Jvm.Cond.methodLink "CircuitCycles$Circuit" (96 : Nat) ({ cls := "CircuitCycles$Lexer", name := "flaw", desc := "(II)Ljava/lang/IllegalStateException;" } : Jvm.MethodName)) ∈ lw_all := lw_g (lw_at lw_m4 160 rfl) rfl
theorem q1048 : (Jvm.Cond.methodLink "CircuitCycles$Circuit" (161 : Nat) ({ cls := "java/lang/Math", name := "max", desc := "(II)I" } : Jvm.MethodName)) ∈ lw_all := lw_g (lw_at lw_m4 161 rfl) rfl
theorem q1049 : (Jvm.Cond.constantLong "CircuitCycles$Circuit" (164 : Nat) (16777216 : Int64)) ∈ lw_all := lw_g (lw_at lw_m4 162 rfl) rfl
theorem q1050 : (Jvm.Cond.methodLink "CircuitCycles$Circuit" (314 : Nat) ({ cls := "CircuitCycles$Circuit", name := "instances", desc := "()V" } : Jvm.MethodName)) ∈ lw_all := lw_g (lw_at lw_m4 163 rfl) rfl
theorem q1051 : (Jvm.Cond.privateMethod ({ cls := "CircuitCycles$Circuit", name := "instances", desc := "()V" } : Jvm.MethodName)) ∈ lw_tbl := lw_at lw_m4 164 rfl
theorem q1052 : (Jvm.Cond.instanceMethod ({ cls := "CircuitCycles$Circuit", name := "instances", desc := "()V" } : Jvm.MethodName)) ∈ lw_all := lw_g (lw_at lw_m4 165 rfl) rfl
theorem q1053 : (Jvm.Cond.code ({ cls := "CircuitCycles$Circuit", name := "instances", desc := "()V" } : Jvm.MethodName) prog_2_method_8_code (5 : Nat) (Option.none : Option Jvm.ClassFile.FieldType)) ∈ lw_all := lw_g (lw_at lw_m4 166 rfl) rfl
theorem q1054 : (Jvm.Cond.methodLink "CircuitCycles$Circuit" (166 : Nat) ({ cls := "CircuitCycles$Circuit", name := "instance", desc := "(III)I" } : Jvm.MethodName)) ∈ lw_all := lw_g (lw_at lw_m4 167 rfl) rfl
theorem q1055 : (Jvm.Cond.privateMethod ({ cls := "CircuitCycles$Circuit", name := "instance", desc := "(III)I" } : Jvm.MethodName)) ∈ lw_tbl := lw_at lw_m4 168 rfl
theorem q1056 : (Jvm.Cond.instanceMethod ({ cls := "CircuitCycles$Circuit", name := "instance", desc := "(III)I" } : Jvm.MethodName)) ∈ lw_all := lw_g (lw_at lw_m4 169 rfl) rfl
theorem q1057 : (Jvm.Cond.code ({ cls := "CircuitCycles$Circuit", name := "instance", desc := "(III)I" } : Jvm.MethodName) prog_2_method_7_code (7 : Nat) (Option.some Jvm.ClassFile.FieldType.int)) ∈ lw_all := lw_g (lw_at lw_m4 170 rfl) rfl
theorem q1058 : (Jvm.Cond.methodLink "CircuitCycles$Circuit" (170 : Nat) ({ cls := "CircuitCycles$Row", name := "take", desc := "()I" } : Jvm.MethodName)) ∈ lw_all := lw_g (lw_at lw_m4 171 rfl) rfl
theorem q1059 : (Jvm.Cond.methodLink "CircuitCycles$Circuit" (316 : Nat) ({ cls := "CircuitCycles$Circuit", name := "edges", desc := "()V" } : Jvm.MethodName)) ∈ lw_all := lw_g (lw_at lw_m4 172 rfl) rfl
theorem q1060 : (Jvm.Cond.privateMethod ({ cls := "CircuitCycles$Circuit", name := "edges", desc := "()V" } : Jvm.MethodName)) ∈ lw_tbl := lw_at lw_m4 173 rfl
theorem q1061 : (Jvm.Cond.instanceMethod ({ cls := "CircuitCycles$Circuit", name := "edges", desc := "()V" } : Jvm.MethodName)) ∈ lw_all := lw_g (lw_at lw_m4 174 rfl) rfl
theorem q1062 : (Jvm.Cond.code ({ cls := "CircuitCycles$Circuit", name := "edges", desc := "()V" } : Jvm.MethodName) prog_2_method_18_code (3 : Nat) (Option.none : Option Jvm.ClassFile.FieldType)) ∈ lw_all := lw_g (lw_at lw_m4 175 rfl) rfl
theorem q1063 : (Jvm.Cond.methodLink "CircuitCycles$Circuit" (203 : Nat) ({ cls := "CircuitCycles$Circuit", name := "drivenBy", desc := "(I)V" } : Jvm.MethodName)) ∈ lw_all := lw_g (lw_at lw_m4 176 rfl) rfl
theorem q1064 : (Jvm.Cond.privateMethod ({ cls := "CircuitCycles$Circuit", name := "drivenBy", desc := "(I)V" } : Jvm.MethodName)) ∈ lw_tbl := lw_at lw_m4 177 rfl
theorem q1065 : (Jvm.Cond.instanceMethod ({ cls := "CircuitCycles$Circuit", name := "drivenBy", desc := "(I)V" } : Jvm.MethodName)) ∈ lw_all := lw_g (lw_at lw_m4 178 rfl) rfl
theorem q1066 : (Jvm.Cond.code ({ cls := "CircuitCycles$Circuit", name := "drivenBy", desc := "(I)V" } : Jvm.MethodName) prog_2_method_16_code (6 : Nat) (Option.none : Option Jvm.ClassFile.FieldType)) ∈ lw_all := lw_g (lw_at lw_m4 179 rfl) rfl
theorem q1067 : (Jvm.Cond.methodLink "CircuitCycles$Circuit" (173 : Nat) ({ cls := "CircuitCycles$Circuit", name := "symbol", desc := "(I)I" } : Jvm.MethodName)) ∈ lw_all := lw_g (lw_at lw_m4 180 rfl) rfl
theorem q1068 : (Jvm.Cond.instanceMethod ({ cls := "CircuitCycles$Circuit", name := "symbol", desc := "(I)I" } : Jvm.MethodName)) ∈ lw_all := lw_g (lw_at lw_m4 181 rfl) rfl
theorem q1069 : (Jvm.Cond.selects "CircuitCycles$Circuit" ({ cls := "CircuitCycles$Circuit", name := "symbol", desc := "(I)I" } : Jvm.MethodName) ({ cls := "CircuitCycles$Circuit", name := "symbol", desc := "(I)I" } : Jvm.MethodName)) ∈ lw_all := lw_g (lw_at lw_m4 182 rfl) rfl
theorem q1070 : (Jvm.Cond.code ({ cls := "CircuitCycles$Circuit", name := "symbol", desc := "(I)I" } : Jvm.MethodName) prog_2_method_10_code (2 : Nat) (Option.some Jvm.ClassFile.FieldType.int)) ∈ lw_all := lw_g (lw_at lw_m4 183 rfl) rfl
theorem q1071 : (Jvm.Cond.methodLink "CircuitCycles$Circuit" (184 : Nat) ({ cls := "CircuitCycles$Circuit", name := "isInput", desc := "(I)Z" } : Jvm.MethodName)) ∈ lw_all := lw_g (lw_at lw_m4 184 rfl) rfl
theorem q1072 : (Jvm.Cond.instanceMethod ({ cls := "CircuitCycles$Circuit", name := "isInput", desc := "(I)Z" } : Jvm.MethodName)) ∈ lw_all := lw_g (lw_at lw_m4 185 rfl) rfl
theorem q1073 : (Jvm.Cond.selects "CircuitCycles$Circuit" ({ cls := "CircuitCycles$Circuit", name := "isInput", desc := "(I)Z" } : Jvm.MethodName) ({ cls := "CircuitCycles$Circuit", name := "isInput", desc := "(I)Z" } : Jvm.MethodName)) ∈ lw_all := lw_g (lw_at lw_m4 186 rfl) rfl
theorem q1074 : (Jvm.Cond.code ({ cls := "CircuitCycles$Circuit", name := "isInput", desc := "(I)Z" } : Jvm.MethodName) prog_2_method_13_code (2 : Nat) (Option.some Jvm.ClassFile.FieldType.boolean)) ∈ lw_all := lw_g (lw_at lw_m4 187 rfl) rfl
theorem q1075 : (Jvm.Cond.methodLink "CircuitCycles$Circuit" (190 : Nat) ({ cls := "CircuitCycles$Circuit", name := "span", desc := "(III)V" } : Jvm.MethodName)) ∈ lw_all := lw_g (lw_at lw_m4 188 rfl) rfl
theorem q1076 : (Jvm.Cond.privateMethod ({ cls := "CircuitCycles$Circuit", name := "span", desc := "(III)V" } : Jvm.MethodName)) ∈ lw_tbl := lw_at lw_m4 189 rfl
theorem q1077 : (Jvm.Cond.instanceMethod ({ cls := "CircuitCycles$Circuit", name := "span", desc := "(III)V" } : Jvm.MethodName)) ∈ lw_all := lw_g (lw_at lw_m4 190 rfl) rfl
theorem q1078 : (Jvm.Cond.code ({ cls := "CircuitCycles$Circuit", name := "span", desc := "(III)V" } : Jvm.MethodName) prog_2_method_15_code (4 : Nat) (Option.none : Option Jvm.ClassFile.FieldType)) ∈ lw_all := lw_g (lw_at lw_m4 191 rfl) rfl
theorem q1079 : (Jvm.Cond.methodLink "CircuitCycles$Circuit" (194 : Nat) ({ cls := "CircuitCycles$Circuit", name := "linked", desc := "(III)V" } : Jvm.MethodName)) ∈ lw_all := lw_g (lw_at lw_m4 192 rfl) rfl
theorem q1080 : (Jvm.Cond.privateMethod ({ cls := "CircuitCycles$Circuit", name := "linked", desc := "(III)V" } : Jvm.MethodName)) ∈ lw_tbl := lw_at lw_m4 193 rfl
theorem q1081 : (Jvm.Cond.instanceMethod ({ cls := "CircuitCycles$Circuit", name := "linked", desc := "(III)V" } : Jvm.MethodName)) ∈ lw_all := lw_g (lw_at lw_m4 194 rfl) rfl
theorem q1082 : (Jvm.Cond.code ({ cls := "CircuitCycles$Circuit", name := "linked", desc := "(III)V" } : Jvm.MethodName) prog_2_method_17_code (8 : Nat) (Option.none : Option Jvm.ClassFile.FieldType)) ∈ lw_all := lw_g (lw_at lw_m4 195 rfl) rfl
theorem q1083 : (Jvm.Cond.methodLink "CircuitCycles$Circuit" (197 : Nat) ({ cls := "CircuitCycles$Design", name := "ports", desc := "(I)I" } : Jvm.MethodName)) ∈ lw_all := lw_g (lw_at lw_m4 196 rfl) rfl
theorem q1084 : (Jvm.Cond.methodLink "CircuitCycles$Circuit" (200 : Nat) ({ cls := "CircuitCycles$Circuit", name := "signal", desc := "(II)I" } : Jvm.MethodName)) ∈ lw_all := lw_g (lw_at lw_m4 197 rfl) rfl
theorem q1085 : (Jvm.Cond.instanceMethod ({ cls := "CircuitCycles$Circuit", name := "signal", desc := "(II)I" } : Jvm.MethodName)) ∈ lw_all := lw_g (lw_at lw_m4 198 rfl) rfl
theorem q1086 : (Jvm.Cond.selects "CircuitCycles$Circuit" ({ cls := "CircuitCycles$Circuit", name := "signal", desc := "(II)I" } : Jvm.MethodName) ({ cls := "CircuitCycles$Circuit", name := "signal", desc := "(II)I" } : Jvm.MethodName)) ∈ lw_all := lw_g (lw_at lw_m4 199 rfl) rfl
theorem q1087 : (Jvm.Cond.code ({ cls := "CircuitCycles$Circuit", name := "signal", desc := "(II)I" } : Jvm.MethodName) prog_2_method_9_code (3 : Nat) (Option.some Jvm.ClassFile.FieldType.int)) ∈ lw_all := lw_g (lw_at lw_m4 200 rfl) rfl
theorem q1088 : (Jvm.Cond.methodLink "CircuitCycles$Circuit" (210 : Nat) ({ cls := "CircuitCycles$Circuit", name := "length", desc := "(I)I" } : Jvm.MethodName)) ∈ lw_all := lw_g (lw_at lw_m4 201 rfl) rfl
theorem q1089 : (Jvm.Cond.privateMethod ({ cls := "CircuitCycles$Circuit", name := "length", desc := "(I)I" } : Jvm.MethodName)) ∈ lw_tbl := lw_at lw_m4 202 rfl
theorem q1090 : (Jvm.Cond.instanceMethod ({ cls := "CircuitCycles$Circuit", name := "length", desc := "(I)I" } : Jvm.MethodName)) ∈ lw_all := lw_g (lw_at lw_m4 203 rfl) rfl
theorem q1091 : (Jvm.Cond.code ({ cls := "CircuitCycles$Circuit", name := "length", desc := "(I)I" } : Jvm.MethodName) prog_2_method_19_code (2 : Nat) (Option.some Jvm.ClassFile.FieldType.int)) ∈ lw_all := lw_g (lw_at lw_m4 204 rfl) rfl
theorem q1092 : (Jvm.Cond.methodLink "CircuitCycles$Circuit" (318 : Nat) ({ cls := "CircuitCycles$Circuit", name := "rounds", desc := "()V" } : Jvm.MethodName)) ∈ lw_all := lw_g (lw_at lw_m4 205 rfl) rfl
theorem q1093 : (Jvm.Cond.privateMethod ({ cls := "CircuitCycles$Circuit", name := "rounds", desc := "()V" } : Jvm.MethodName)) ∈ lw_tbl := lw_at lw_m4 206 rfl
theorem q1094 : (Jvm.Cond.instanceMethod ({ cls := "CircuitCycles$Circuit", name := "rounds", desc := "()V" } : Jvm.MethodName)) ∈ lw_all := lw_g (lw_at lw_m4 207 rfl) rfl
theorem q1095 : (Jvm.Cond.code ({ cls := "CircuitCycles$Circuit", name := "rounds", desc := "()V" } : Jvm.MethodName) prog_2_method_21_code (2 : Nat) (Option.none : Option Jvm.ClassFile.FieldType)) ∈ lw_all := lw_g (lw_at lw_m4 208 rfl) rfl
theorem q1096 : (Jvm.Cond.methodLink "CircuitCycles$Circuit" (213 : Nat) ({ cls := "CircuitCycles$Circuit", name := "isRegister", desc := "(I)Z" } : Jvm.MethodName)) ∈ lw_all := lw_g (lw_at lw_m4 209 rfl) rfl
theorem q1097 : (Jvm.Cond.instanceMethod ({ cls := "CircuitCycles$Circuit", name := "isRegister", desc := "(I)Z" } : Jvm.MethodName)) ∈ lw_all := lw_g (lw_at lw_m4 210 rfl) rfl
theorem q1098 : (Jvm.Cond.selects "CircuitCycles$Circuit" ({ cls := "CircuitCycles$Circuit", name := "isRegister", desc := "(I)Z" } : Jvm.MethodName) ({ cls := "CircuitCycles$Circuit", name := "isRegister", desc := "(I)Z" } : Jvm.MethodName)) ∈ lw_all := lw_g (lw_at lw_m4 211 rfl) rfl
theorem q1099 : (Jvm.Cond.code ({ cls := "CircuitCycles$Circuit", name := "isRegister", desc := "(I)Z" } : Jvm.MethodName) prog_2_method_14_code (2 : Nat) (Option.some Jvm.ClassFile.FieldType.boolean)) ∈ lw_all := lw_g (lw_at lw_m4 212 rfl) rfl
theorem q1100 : (Jvm.Cond.methodLink "CircuitCycles$Circuit" (214 : Nat) ({ cls := "CircuitCycles$Circuit", name := "isRound", desc := "(I)Z" } : Jvm.MethodName)) ∈ lw_all := lw_g (lw_at lw_m4 213 rfl) rfl
theorem q1101 : (Jvm.Cond.privateMethod ({ cls := "CircuitCycles$Circuit", name := "isRound", desc := "(I)Z" } : Jvm.MethodName)) ∈ lw_tbl := lw_at lw_m4 214 rfl
theorem q1102 : (Jvm.Cond.instanceMethod ({ cls := "CircuitCycles$Circuit", name := "isRound", desc := "(I)Z" } : Jvm.MethodName)) ∈ lw_all := lw_g (lw_at lw_m4 215 rfl) rfl
theorem q1103 : (Jvm.Cond.code ({ cls := "CircuitCycles$Circuit", name := "isRound", desc := "(I)Z" } : Jvm.MethodName) prog_2_method_20_code (5 : Nat) (Option.some Jvm.ClassFile.FieldType.boolean)) ∈ lw_all := lw_g (lw_at lw_m4 216 rfl) rfl
theorem q1104 : (Jvm.Cond.methodLink "CircuitCycles$Circuit" (321 : Nat) ({ cls := "CircuitCycles$Circuit", name := "leaves", desc := "()V" } : Jvm.MethodName)) ∈ lw_all := lw_g (lw_at lw_m4 217 rfl) rfl
theorem q1105 : (Jvm.Cond.privateMethod ({ cls := "CircuitCycles$Circuit", name := "leaves", desc := "()V" } : Jvm.MethodName)) ∈ lw_tbl := lw_at lw_m4 218 rfl
theorem q1106 : (Jvm.Cond.instanceMethod ({ cls := "CircuitCycles$Circuit", name := "leaves", desc := "()V" } : Jvm.MethodName)) ∈ lw_all := lw_g (lw_at lw_m4 219 rfl) rfl
theorem q1107 : (Jvm.Cond.code ({ cls := "CircuitCycles$Circuit", name := "leaves", desc := "()V" } : Jvm.MethodName) prog_2_method_24_code (6 : Nat) (Option.none : Option Jvm.ClassFile.FieldType)) ∈ lw_all := lw_g (lw_at lw_m4 220 rfl) rfl
theorem q1108 : (Jvm.Cond.methodLink "CircuitCycles$Circuit" (256 : Nat) ({ cls := "CircuitCycles$Gates", name := "clear", desc := "()V" } : Jvm.MethodName)) ∈ lw_all := lw_g (lw_at lw_m4 221 rfl) rfl
theorem q1112 : (Jvm.Cond.constantLong "CircuitCycles$Circuit" (217 : Nat) (4294967295 : Int64)) ∈ lw_all := lw_g (lw_at lw_m4 225 rfl) rfl
theorem q1113 : (Jvm.Cond.methodLink "CircuitCycles$Circuit" (230 : Nat) ({ cls := "CircuitCycles$Circuit", name := "width", desc := "(I)I" } : Jvm.MethodName)) ∈ lw_all := lw_g (lw_at lw_m4 226 rfl) rfl
theorem q1114 : (Jvm.Cond.instanceMethod ({ cls := "CircuitCycles$Circuit", name := "width", desc := "(I)I" } : Jvm.MethodName)) ∈ lw_all := lw_g (lw_at lw_m4 227 rfl) rfl
theorem q1115 : (Jvm.Cond.selects "CircuitCycles$Circuit" ({ cls := "CircuitCycles$Circuit", name := "width", desc := "(I)I" } : Jvm.MethodName) ({ cls := "CircuitCycles$Circuit", name := "width", desc := "(I)I" } : Jvm.MethodName)) ∈ lw_all := lw_g (lw_at lw_m4 228 rfl) rfl
theorem q1116 : (Jvm.Cond.code ({ cls := "CircuitCycles$Circuit", name := "width", desc := "(I)I" } : Jvm.MethodName) prog_2_method_11_code (2 : Nat) (Option.some Jvm.ClassFile.FieldType.int)) ∈ lw_all := lw_g (lw_at lw_m4 229 rfl) rfl
theorem q1117 : (Jvm.Cond.methodLink "CircuitCycles$Circuit" (262 : Nat) ({ cls := "CircuitCycles$Gates", name := "free", desc := "()I" } : Jvm.MethodName)) ∈ lw_all := lw_g (lw_at lw_m4 230 rfl) rfl
theorem q1121 : (Jvm.Cond.methodLink "CircuitCycles$Circuit" (227 : Nat) ({ cls := "CircuitCycles$Circuit", name := "first", desc := "(I)I" } : Jvm.MethodName)) ∈ lw_all := lw_g (lw_at lw_m4 234 rfl) rfl
theorem q1122 : (Jvm.Cond.instanceMethod ({ cls := "CircuitCycles$Circuit", name := "first", desc := "(I)I" } : Jvm.MethodName)) ∈ lw_all := lw_g (lw_at lw_m4 235 rfl) rfl
theorem q1123 : (Jvm.Cond.selects "CircuitCycles$Circuit" ({ cls := "CircuitCycles$Circuit", name := "first", desc := "(I)I" } : Jvm.MethodName) ({ cls := "CircuitCycles$Circuit", name := "first", desc := "(I)I" } : Jvm.MethodName)) ∈ lw_all := lw_g (lw_at lw_m4 236 rfl) rfl
theorem q1124 : (Jvm.Cond.code ({ cls := "CircuitCycles$Circuit", name := "first", desc := "(I)I" } : Jvm.MethodName) prog_2_method_12_code (2 : Nat) (Option.some Jvm.ClassFile.FieldType.int)) ∈ lw_all := lw_g (lw_at lw_m4 237 rfl) rfl
theorem q1125 : (Jvm.Cond.methodLink "CircuitCycles$Circuit" (324 : Nat) ({ cls := "CircuitCycles$Circuit", name := "signals", desc := "()V" } : Jvm.MethodName)) ∈ lw_all := lw_g (lw_at lw_m4 238 rfl) rfl
theorem q1126 : (Jvm.Cond.privateMethod ({ cls := "CircuitCycles$Circuit", name := "signals", desc := "()V" } : Jvm.MethodName)) ∈ lw_tbl := lw_at lw_m4 239 rfl
theorem q1127 : (Jvm.Cond.instanceMethod ({ cls := "CircuitCycles$Circuit", name := "signals", desc := "()V" } : Jvm.MethodName)) ∈ lw_all := lw_g (lw_at lw_m5 0 rfl) rfl
theorem q1128 : (Jvm.Cond.code ({ cls := "CircuitCycles$Circuit", name := "signals", desc := "()V" } : Jvm.MethodName) prog_2_method_26_code (4 : Nat) (Option.none : Option Jvm.ClassFile.FieldType)) ∈ lw_all := lw_g (lw_at lw_m5 1 rfl) rfl
theorem q1129 : (Jvm.Cond.methodLink "CircuitCycles$Circuit" (269 : Nat) ({ cls := "CircuitCycles$Row", name := "top", desc := "()I" } : Jvm.MethodName)) ∈ lw_all := lw_g (lw_at lw_m5 2 rfl) rfl
theorem q1130 : (Jvm.Cond.methodLink "CircuitCycles$Circuit" (272 : Nat) ({ cls := "CircuitCycles$Circuit", name := "lay", desc := "(I)V" } : Jvm.MethodName)) ∈ lw_all := lw_g (lw_at lw_m5 3 rfl) rfl
theorem q1131 : (Jvm.Cond.privateMethod ({ cls := "CircuitCycles$Circuit", name := "lay", desc := "(I)V" } : Jvm.MethodName)) ∈ lw_tbl := lw_at lw_m5 4 rfl
theorem q1132 : (Jvm.Cond.instanceMethod ({ cls := "CircuitCycles$Circuit", name := "lay", desc := "(I)V" } : Jvm.MethodName)) ∈ lw_all := lw_g (lw_at lw_m5 5 rfl) rfl
theorem q1133 : (Jvm.Cond.code ({ cls := "CircuitCycles$Circuit", name := "lay", desc := "(I)V" } : Jvm.MethodName) prog_2_method_25_code (3 : Nat) (Option.none : Option Jvm.ClassFile.FieldType)) ∈ lw_all := lw_g (lw_at lw_m5 6 rfl) rfl
theorem q1134 : (Jvm.Cond.methodLink "CircuitCycles$Circuit" (265 : Nat) ({ cls := "CircuitCycles$Pile", name := "clear", desc := "()V" } : Jvm.MethodName)) ∈ lw_all := lw_g (lw_at lw_m5 7 rfl) rfl
theorem q1138 : (Jvm.Cond.methodLink "CircuitCycles$Circuit" (266 : Nat) ({ cls := "CircuitCycles$Circuit", name := "work", desc := "(III)V" } : Jvm.MethodName)) ∈ lw_all := lw_g (lw_at lw_m5 11 rfl) rfl
theorem q1139 : (Jvm.Cond.privateMethod ({ cls := "CircuitCycles$Circuit", name := "work", desc := "(III)V" } : Jvm.MethodName)) ∈ lw_tbl := lw_at lw_m5 12 rfl
theorem q1140 : (Jvm.Cond.instanceMethod ({ cls := "CircuitCycles$Circuit", name := "work", desc := "(III)V" } : Jvm.MethodName)) ∈ lw_all := lw_g (lw_at lw_m5 13 rfl) rfl
theorem q1141 : (Jvm.Cond.code ({ cls := "CircuitCycles$Circuit", name := "work", desc := "(III)V" } : Jvm.MethodName) prog_2_method_23_code (7 : Nat) (Option.none : Option Jvm.ClassFile.FieldType)) ∈ lw_all := lw_g (lw_at lw_m5 14 rfl) rfl
theorem q1142 : (Jvm.Cond.methodLink "CircuitCycles$Circuit" (219 : Nat) ({ cls := "CircuitCycles$Circuit", name := "value", desc := "(I)J" } : Jvm.MethodName)) ∈ lw_all := lw_g (lw_at lw_m5 15 rfl) rfl
theorem q1143 : (Jvm.Cond.privateMethod ({ cls := "CircuitCycles$Circuit", name := "value", desc := "(I)J" } : Jvm.MethodName)) ∈ lw_tbl := lw_at lw_m5 16 rfl
theorem q1144 : (Jvm.Cond.instanceMethod ({ cls := "CircuitCycles$Circuit", name := "value", desc := "(I)J" } : Jvm.MethodName)) ∈ lw_all := lw_g (lw_at lw_m5 17 rfl) rfl
theorem q1145 : (Jvm.Cond.code ({ cls := "CircuitCycles$Circuit", name := "value", desc := "(I)J" } : Jvm.MethodName) prog_2_method_22_code (2 : Nat) (Option.some Jvm.ClassFile.FieldType.long)) ∈ lw_all := lw_g (lw_at lw_m5 18 rfl) rfl
theorem q1146 : (Jvm.Cond.methodLink "CircuitCycles$Circuit" (223 : Nat) ({ cls := "CircuitCycles$Pile", name := "constant", desc := "(IJ)V" } : Jvm.MethodName)) ∈ lw_all := lw_g (lw_at lw_m5 19 rfl) rfl
theorem q1151 : (Jvm.Cond.methodLink "CircuitCycles$Circuit" (231 : Nat) ({ cls := "CircuitCycles$Pile", name := "vector", desc := "(LCircuitCycles$Row;II)V" } : Jvm.MethodName)) ∈ lw_all := lw_g (lw_at lw_m5 24 rfl) rfl
theorem q1156 : (Jvm.Cond.methodLink "CircuitCycles$Circuit" (235 : Nat) ({ cls := "CircuitCycles$Pile", name := "part", desc := "(II)V" } : Jvm.MethodName)) ∈ lw_all := lw_g (lw_at lw_m5 29 rfl) rfl
theorem q1170 : (Jvm.Cond.methodLink "CircuitCycles$Circuit" (238 : Nat) ({ cls := "CircuitCycles$Pile", name := "pick", desc := "()V" } : Jvm.MethodName)) ∈ lw_all := lw_g (lw_at lw_m5 43 rfl) rfl
theorem q1194 : (Jvm.Cond.methodLink "CircuitCycles$Circuit" (241 : Nat) ({ cls := "CircuitCycles$Pile", name := "unary", desc := "(I)V" } : Jvm.MethodName)) ∈ lw_all := lw_g (lw_at lw_m5 67 rfl) rfl
theorem q1217 : (Jvm.Cond.methodLink "CircuitCycles$Circuit" (244 : Nat) ({ cls := "CircuitCycles$Pile", name := "binary", desc := "(I)V" } : Jvm.MethodName)) ∈ lw_all := lw_g (lw_at lw_m5 90 rfl) rfl
theorem q1245 : (Jvm.Cond.methodLink "CircuitCycles$Circuit" (247 : Nat) ({ cls := "CircuitCycles$Pile", name := "choice", desc := "()V" } : Jvm.MethodName)) ∈ lw_all := lw_g (lw_at lw_m5 118 rfl) rfl
theorem q1249 : (Jvm.Cond.methodLink "CircuitCycles$Circuit" (250 : Nat) ({ cls := "CircuitCycles$Pile", name := "together", desc := "(I)V" } : Jvm.MethodName)) ∈ lw_all := lw_g (lw_at lw_m5 122 rfl) rfl
theorem q1253 : (Jvm.Cond.methodLink "CircuitCycles$Circuit" (253 : Nat) ({ cls := "CircuitCycles$Pile", name := "times", desc := "(I)V" } : Jvm.MethodName)) ∈ lw_all := lw_g (lw_at lw_m5 126 rfl) rfl
theorem q1257 : (Jvm.Cond.methodLink "CircuitCycles$Circuit" (326 : Nat) ({ cls := "CircuitCycles$Circuit", name := "nexts", desc := "()V" } : Jvm.MethodName)) ∈ lw_all := lw_g (lw_at lw_m5 130 rfl) rfl
theorem q1258 : (Jvm.Cond.privateMethod ({ cls := "CircuitCycles$Circuit", name := "nexts", desc := "()V" } : Jvm.MethodName)) ∈ lw_tbl := lw_at lw_m5 131 rfl
theorem q1259 : (Jvm.Cond.instanceMethod ({ cls := "CircuitCycles$Circuit", name := "nexts", desc := "()V" } : Jvm.MethodName)) ∈ lw_all := lw_g (lw_at lw_m5 132 rfl) rfl
theorem q1260 : (Jvm.Cond.code ({ cls := "CircuitCycles$Circuit", name := "nexts", desc := "()V" } : Jvm.MethodName) prog_2_method_28_code (6 : Nat) (Option.none : Option Jvm.ClassFile.FieldType)) ∈ lw_all := lw_g (lw_at lw_m5 133 rfl) rfl
theorem q1261 : (Jvm.Cond.methodLink "CircuitCycles$Circuit" (281 : Nat) ({ cls := "CircuitCycles$Circuit", name := "acts", desc := "(III)V" } : Jvm.MethodName)) ∈ lw_all := lw_g (lw_at lw_m5 134 rfl) rfl
theorem q1262 : (Jvm.Cond.privateMethod ({ cls := "CircuitCycles$Circuit", name := "acts", desc := "(III)V" } : Jvm.MethodName)) ∈ lw_tbl := lw_at lw_m5 135 rfl
theorem q1263 : (Jvm.Cond.instanceMethod ({ cls := "CircuitCycles$Circuit", name := "acts", desc := "(III)V" } : Jvm.MethodName)) ∈ lw_all := lw_g (lw_at lw_m5 136 rfl) rfl
theorem q1264 : (Jvm.Cond.code ({ cls := "CircuitCycles$Circuit", name := "acts", desc := "(III)V" } : Jvm.MethodName) prog_2_method_29_code (7 : Nat) (Option.none : Option Jvm.ClassFile.FieldType)) ∈ lw_all := lw_g (lw_at lw_m5 137 rfl) rfl
theorem q1265 : (Jvm.Cond.methodLink "CircuitCycles$Circuit" (296 : Nat) ({ cls := "CircuitCycles$Circuit", name := "set", desc := "(II)V" } : Jvm.MethodName)) ∈ lw_all := lw_g (lw_at lw_m5 138 rfl) rfl
theorem q1266 : (Jvm.Cond.privateMethod ({ cls := "CircuitCycles$Circuit", name := "set", desc := "(II)V" } : Jvm.MethodName)) ∈ lw_tbl := lw_at lw_m5 139 rfl
theorem q1267 : (Jvm.Cond.instanceMethod ({ cls := "CircuitCycles$Circuit", name := "set", desc := "(II)V" } : Jvm.MethodName)) ∈ lw_all := lw_g (lw_at lw_m5 140 rfl) rfl
theorem q1268 : (Jvm.Cond.code ({ cls := "CircuitCycles$Circuit", name := "set", desc := "(II)V" } : Jvm.MethodName) prog_2_method_31_code (8 : Nat) (Option.none : Option Jvm.ClassFile.FieldType)) ∈ lw_all := lw_g (lw_at lw_m5 141 rfl) rfl
theorem q1269 : (Jvm.Cond.methodLink "CircuitCycles$Circuit" (303 : Nat) ({ cls := "CircuitCycles$Circuit", name := "stateOf", desc := "(I)I" } : Jvm.MethodName)) ∈ lw_all := lw_g (lw_at lw_m5 142 rfl) rfl
theorem q1270 : (Jvm.Cond.privateMethod ({ cls := "CircuitCycles$Circuit", name := "stateOf", desc := "(I)I" } : Jvm.MethodName)) ∈ lw_tbl := lw_at lw_m5 143 rfl
theorem q1271 : (Jvm.Cond.instanceMethod ({ cls := "CircuitCycles$Circuit", name := "stateOf", desc := "(I)I" } : Jvm.MethodName)) ∈ lw_all := lw_g (lw_at lw_m5 144 rfl) rfl
theorem q1272 : (Jvm.Cond.code ({ cls := "CircuitCycles$Circuit", name := "stateOf", desc := "(I)I" } : Jvm.MethodName) prog_2_method_32_code (3 : Nat) (Option.some Jvm.ClassFile.FieldType.int)) ∈ lw_all := lw_g (lw_at lw_m5 145 rfl) rfl
theorem q1273 : (Jvm.Cond.methodLink "CircuitCycles$Circuit" (306 : Nat) ({ cls := "CircuitCycles$Gates", name := "mux", desc := "(III)I" } : Jvm.MethodName)) ∈ lw_all := lw_g (lw_at lw_m5 146 rfl) rfl
theorem q1274 : (Jvm.Cond.methodLink "CircuitCycles$Circuit" (284 : Nat) ({ cls := "CircuitCycles$Circuit", name := "truth", desc := "(III)I" } : Jvm.MethodName)) ∈ lw_all := lw_g (lw_at lw_m5 147 rfl) rfl
theorem q1275 : (Jvm.Cond.privateMethod ({ cls := "CircuitCycles$Circuit", name := "truth", desc := "(III)I" } : Jvm.MethodName)) ∈ lw_tbl := lw_at lw_m5 148 rfl
theorem q1276 : (Jvm.Cond.instanceMethod ({ cls := "CircuitCycles$Circuit", name := "truth", desc := "(III)I" } : Jvm.MethodName)) ∈ lw_all := lw_g (lw_at lw_m5 149 rfl) rfl
theorem q1277 : (Jvm.Cond.code ({ cls := "CircuitCycles$Circuit", name := "truth", desc := "(III)I" } : Jvm.MethodName) prog_2_method_27_code (4 : Nat) (Option.some Jvm.ClassFile.FieldType.int)) ∈ lw_all := lw_g (lw_at lw_m5 150 rfl) rfl
theorem q1278 : (Jvm.Cond.methodLink "CircuitCycles$Circuit" (275 : Nat) ({ cls := "CircuitCycles$Pile", name := "truth", desc := "()I" } : Jvm.MethodName)) ∈ lw_all := lw_g (lw_at lw_m5 151 rfl) rfl
theorem q1279 : (Jvm.Cond.methodLink "CircuitCycles$Circuit" (297 : Nat) ({ cls := "CircuitCycles$Gates", name := "and", desc := "(II)I" } : Jvm.MethodName)) ∈ lw_all := lw_g (lw_at lw_m5 152 rfl) rfl
theorem q1280 : (Jvm.Cond.methodLink "CircuitCycles$Circuit" (300 : Nat) ({ cls := "CircuitCycles$Circuit", name := "labels", desc := "(I)I" } : Jvm.MethodName)) ∈ lw_all := lw_g (lw_at lw_m5 153 rfl) rfl
theorem q1281 : (Jvm.Cond.privateMethod ({ cls := "CircuitCycles$Circuit", name := "labels", desc := "(I)I" } : Jvm.MethodName)) ∈ lw_tbl := lw_at lw_m5 154 rfl
theorem q1282 : (Jvm.Cond.instanceMethod ({ cls := "CircuitCycles$Circuit", name := "labels", desc := "(I)I" } : Jvm.MethodName)) ∈ lw_all := lw_g (lw_at lw_m5 155 rfl) rfl
theorem q1283 : (Jvm.Cond.code ({ cls := "CircuitCycles$Circuit", name := "labels", desc := "(I)I" } : Jvm.MethodName) prog_2_method_30_code (11 : Nat) (Option.some Jvm.ClassFile.FieldType.int)) ∈ lw_all := lw_g (lw_at lw_m5 156 rfl) rfl
theorem q1284 : (Jvm.Cond.methodLink "CircuitCycles$Circuit" (286 : Nat) ({ cls := "CircuitCycles$Gates", name := "or", desc := "(II)I" } : Jvm.MethodName)) ∈ lw_all := lw_g (lw_at lw_m5 157 rfl) rfl
theorem q1370 : (Jvm.Cond.instanceMethod ({ cls := "CircuitCycles$Circuit", name := "find", desc := "([BI)I" } : Jvm.MethodName)) ∈ lw_all := lw_g (lw_at lw_m6 3 rfl) rfl
theorem q1371 : (Jvm.Cond.selects "CircuitCycles$Circuit" ({ cls := "CircuitCycles$Circuit", name := "find", desc := "([BI)I" } : Jvm.MethodName) ({ cls := "CircuitCycles$Circuit", name := "find", desc := "([BI)I" } : Jvm.MethodName)) ∈ lw_all := lw_g (lw_at lw_m6 4 rfl) rfl
theorem q1372 : (Jvm.Cond.code ({ cls := "CircuitCycles$Circuit", name := "find", desc := "([BI)I" } : Jvm.MethodName) prog_2_method_34_code (8 : Nat) (Option.some Jvm.ClassFile.FieldType.int)) ∈ lw_all := lw_g (lw_at lw_m6 5 rfl) rfl
theorem q1373 : (Jvm.Cond.methodLink "CircuitCycles$Circuit" (328 : Nat) ({ cls := "CircuitCycles$Design", name := "find", desc := "(I[BII)I" } : Jvm.MethodName)) ∈ lw_all := lw_g (lw_at lw_m6 6 rfl) rfl
theorem in_X5 : ∀ w ∈ wsX50, w ∈ lw_all := lw_in wsX50 [538, 540, 542, 544, 546, 548, 550, 552, 554, 556, 558, 560, 562, 564, 566, 568, 570, 572, 574, 576, 578, 580, 582, 584, 586] (by decide +kernel) (by decide +kernel)
/-! CircuitCycles$Design -/
set_option maxRecDepth 100000
def RX6 : String := "CircuitCycles$Design"
def TX6 : u_T := fun k => match k with
  | 0 => ("CircuitCycles$Design", "symbols", "LCircuitCycles$Row;", true)
  | 1 => ("CircuitCycles$Design", "modules", "LCircuitCycles$Row;", true)
  | 2 => ("CircuitCycles$Design", "items", "LCircuitCycles$Row;", true)
  | 3 => ("CircuitCycles$Design", "links", "LCircuitCycles$Row;", true)
  | 4 => ("CircuitCycles$Design", "codes", "LCircuitCycles$Row;", true)
  | 5 => ("CircuitCycles$Design", "acts", "LCircuitCycles$Row;", true)
  | _ => ("CircuitCycles$Design", "text", "[B", true)
def tyX6 : Nat → FieldType := fun k => match k with
  | 0 => .object "CircuitCycles$Row"
  | 1 => .object "CircuitCycles$Row"
  | 2 => .object "CircuitCycles$Row"
  | 3 => .object "CircuitCycles$Row"
  | 4 => .object "CircuitCycles$Row"
  | 5 => .object "CircuitCycles$Row"
  | _ => .array .byte
abbrev wsX60 : List Cond := u_ws RX6 TX6 7
theorem nmX6 : ∀ a, a < 7 → ∀ b, b < 7 → a ≠ b → (TX6 a).2.1 ≠ (TX6 b).2.1 := by decide +kernel
theorem tyX6_ok : ∀ k, k < 7 → parseFieldDescriptor (TX6 k).2.2.1 = some (tyX6 k) := by decide +kernel
abbrev cX6_init : ByteArray := prog_4_method_1_code
def yX6_init : MethodName := ⟨RX6, "<init>", "()V"⟩
abbrev cX6_clear : ByteArray := prog_4_method_2_code
def yX6_clear : MethodName := ⟨RX6, "clear", "()V"⟩
abbrev cX6_count : ByteArray := prog_4_method_3_code
def yX6_count : MethodName := ⟨RX6, "count", "()I"⟩
abbrev cX6_findModule : ByteArray := prog_4_method_16_code
def yX6_findModule : MethodName := ⟨RX6, "findModule", "([BII)I"⟩
abbrev cX6_isText : ByteArray := prog_4_method_14_code
def yX6_isText : MethodName := ⟨RX6, "isText", "(II[BI)Z"⟩
abbrev cX6_find : ByteArray := prog_4_method_15_code
def yX6_find : MethodName := ⟨RX6, "find", "(I[BII)I"⟩
abbrev cX6_firstSymbol : ByteArray := prog_4_method_4_code
def yX6_firstSymbol : MethodName := ⟨RX6, "firstSymbol", "(I)I"⟩
abbrev cX6_lastSymbol : ByteArray := prog_4_method_5_code
def yX6_lastSymbol : MethodName := ⟨RX6, "lastSymbol", "(I)I"⟩
abbrev cX6_symbol : ByteArray := prog_4_method_9_code
def yX6_symbol : MethodName := ⟨RX6, "symbol", "(II)I"⟩
abbrev cX6_width : ByteArray := prog_4_method_11_code
def yX6_width : MethodName := ⟨RX6, "width", "(I)I"⟩
abbrev cX6_kind : ByteArray := prog_4_method_10_code
def yX6_kind : MethodName := ⟨RX6, "kind", "(I)I"⟩
abbrev cX6_isDriven : ByteArray := prog_4_method_13_code
def yX6_isDriven : MethodName := ⟨RX6, "isDriven", "(I)Z"⟩
abbrev cX6_isRegister : ByteArray := prog_4_method_12_code
def yX6_isRegister : MethodName := ⟨RX6, "isRegister", "(I)Z"⟩
abbrev cX6_ports : ByteArray := prog_4_method_8_code
def yX6_ports : MethodName := ⟨RX6, "ports", "(I)I"⟩
abbrev cX6_firstItem : ByteArray := prog_4_method_6_code
def yX6_firstItem : MethodName := ⟨RX6, "firstItem", "(I)I"⟩
abbrev cX6_lastItem : ByteArray := prog_4_method_7_code
def yX6_lastItem : MethodName := ⟨RX6, "lastItem", "(I)I"⟩
theorem q177 : (Jvm.Cond.initialized "CircuitCycles$Design") ∈ lw_all := lw_g (lw_at lw_m1 10 rfl) rfl
theorem q356 : (Jvm.Cond.fieldLinkNest "CircuitCycles$Design" (38 : Nat) "CircuitCycles$Row" "size" "I" "CircuitCycles") ∈ lw_tbl := lw_at lw_m1 189 rfl
theorem q409 : (Jvm.Cond.instantiable "CircuitCycles$Design" (7 : Nat)) ∈ lw_all := lw_g (lw_at lw_m2 2 rfl) rfl
theorem q411 : (Jvm.Cond.instanceMethod ({ cls := "CircuitCycles$Design", name := "<init>", desc := "()V" } : Jvm.MethodName)) ∈ lw_all := lw_g (lw_at lw_m2 4 rfl) rfl
theorem q412 : (Jvm.Cond.code ({ cls := "CircuitCycles$Design", name := "<init>", desc := "()V" } : Jvm.MethodName) prog_4_method_1_code (1 : Nat) (Option.none : Option Jvm.ClassFile.FieldType)) ∈ lw_all := lw_g (lw_at lw_m2 5 rfl) rfl
theorem q413 : (Jvm.Cond.methodLink "CircuitCycles$Design" (3 : Nat) ({ cls := "java/lang/Object", name := "<init>", desc := "()V" } : Jvm.MethodName)) ∈ lw_all := lw_g (lw_at lw_m2 6 rfl) rfl
theorem q414 : (Jvm.Cond.classLink "CircuitCycles$Design" (9 : Nat) "CircuitCycles$Row") ∈ lw_all := lw_g (lw_at lw_m2 7 rfl) rfl
theorem q415 : (Jvm.Cond.methodLinkNest "CircuitCycles$Design" (11 : Nat) ({ cls := "CircuitCycles$Row", name := "<init>", desc := "()V" } : Jvm.MethodName) "CircuitCycles") ∈ lw_tbl := lw_at lw_m2 8 rfl
theorem q416 : (Jvm.Cond.constant "CircuitCycles$Design" (33 : Nat) (65536 : Int32)) ∈ lw_all := lw_g (lw_at lw_m2 9 rfl) rfl
theorem q417 : (Jvm.Cond.fieldLink "CircuitCycles$Design" (12 : Nat) "CircuitCycles$Design" "symbols" "LCircuitCycles$Row;") ∈ lw_all := lw_g (lw_at lw_m2 10 rfl) rfl
theorem q420 : (Jvm.Cond.fieldLink "CircuitCycles$Design" (18 : Nat) "CircuitCycles$Design" "modules" "LCircuitCycles$Row;") ∈ lw_all := lw_g (lw_at lw_m2 13 rfl) rfl
theorem q423 : (Jvm.Cond.fieldLink "CircuitCycles$Design" (21 : Nat) "CircuitCycles$Design" "items" "LCircuitCycles$Row;") ∈ lw_all := lw_g (lw_at lw_m2 16 rfl) rfl
theorem q426 : (Jvm.Cond.fieldLink "CircuitCycles$Design" (24 : Nat) "CircuitCycles$Design" "links" "LCircuitCycles$Row;") ∈ lw_all := lw_g (lw_at lw_m2 19 rfl) rfl
theorem q429 : (Jvm.Cond.fieldLink "CircuitCycles$Design" (27 : Nat) "CircuitCycles$Design" "codes" "LCircuitCycles$Row;") ∈ lw_all := lw_g (lw_at lw_m2 22 rfl) rfl
theorem q432 : (Jvm.Cond.fieldLink "CircuitCycles$Design" (30 : Nat) "CircuitCycles$Design" "acts" "LCircuitCycles$Row;") ∈ lw_all := lw_g (lw_at lw_m2 25 rfl) rfl
theorem q435 : (Jvm.Cond.fieldLink "CircuitCycles$Design" (34 : Nat) "CircuitCycles$Design" "text" "[B") ∈ lw_all := lw_g (lw_at lw_m2 28 rfl) rfl
theorem q437 : (Jvm.Cond.laysFinal "CircuitCycles$Design" "CircuitCycles$Design" "symbols" "LCircuitCycles$Row;") ∈ lw_all := lw_g (lw_at lw_m2 30 rfl) rfl
theorem q438 : (Jvm.Cond.soleField "CircuitCycles$Design" "symbols") ∈ lw_all := lw_g (lw_at lw_m2 31 rfl) rfl
theorem q439 : (Jvm.Cond.laysFinal "CircuitCycles$Design" "CircuitCycles$Design" "modules" "LCircuitCycles$Row;") ∈ lw_all := lw_g (lw_at lw_m2 32 rfl) rfl
theorem q440 : (Jvm.Cond.soleField "CircuitCycles$Design" "modules") ∈ lw_all := lw_g (lw_at lw_m2 33 rfl) rfl
theorem q441 : (Jvm.Cond.laysFinal "CircuitCycles$Design" "CircuitCycles$Design" "items" "LCircuitCycles$Row;") ∈ lw_all := lw_g (lw_at lw_m2 34 rfl) rfl
theorem q442 : (Jvm.Cond.soleField "CircuitCycles$Design" "items") ∈ lw_all := lw_g (lw_at lw_m2 35 rfl) rfl
theorem q443 : (Jvm.Cond.laysFinal "CircuitCycles$Design" "CircuitCycles$Design" "links" "LCircuitCycles$Row;") ∈ lw_all := lw_g (lw_at lw_m2 36 rfl) rfl
theorem q444 : (Jvm.Cond.soleField "CircuitCycles$Design" "links") ∈ lw_all := lw_g (lw_at lw_m2 37 rfl) rfl
theorem q445 : (Jvm.Cond.laysFinal "CircuitCycles$Design" "CircuitCycles$Design" "codes" "LCircuitCycles$Row;") ∈ lw_all := lw_g (lw_at lw_m2 38 rfl) rfl
theorem q446 : (Jvm.Cond.soleField "CircuitCycles$Design" "codes") ∈ lw_all := lw_g (lw_at lw_m2 39 rfl) rfl
theorem q447 : (Jvm.Cond.laysFinal "CircuitCycles$Design" "CircuitCycles$Design" "acts" "LCircuitCycles$Row;") ∈ lw_all := lw_g (lw_at lw_m2 40 rfl) rfl
theorem q448 : (Jvm.Cond.soleField "CircuitCycles$Design" "acts") ∈ lw_all := lw_g (lw_at lw_m2 41 rfl) rfl
theorem q449 : (Jvm.Cond.laysFinal "CircuitCycles$Design" "CircuitCycles$Design" "text" "[B") ∈ lw_all := lw_g (lw_at lw_m2 42 rfl) rfl
theorem q450 : (Jvm.Cond.soleField "CircuitCycles$Design" "text") ∈ lw_all := lw_g (lw_at lw_m2 43 rfl) rfl
theorem q451 : (Jvm.Cond.superclass "CircuitCycles$Design" "java/lang/Object") ∈ lw_all := lw_g (lw_at lw_m2 44 rfl) rfl
theorem q646 : (Jvm.Cond.instanceMethod ({ cls := "CircuitCycles$Design", name := "clear", desc := "()V" } : Jvm.MethodName)) ∈ lw_all := lw_g (lw_at lw_m2 239 rfl) rfl
theorem q647 : (Jvm.Cond.selects "CircuitCycles$Design" ({ cls := "CircuitCycles$Design", name := "clear", desc := "()V" } : Jvm.MethodName) ({ cls := "CircuitCycles$Design", name := "clear", desc := "()V" } : Jvm.MethodName)) ∈ lw_all := lw_g (lw_at lw_m3 0 rfl) rfl
theorem q648 : (Jvm.Cond.code ({ cls := "CircuitCycles$Design", name := "clear", desc := "()V" } : Jvm.MethodName) prog_4_method_2_code (1 : Nat) (Option.none : Option Jvm.ClassFile.FieldType)) ∈ lw_all := lw_g (lw_at lw_m3 1 rfl) rfl
theorem q776 : (Jvm.Cond.instanceMethod ({ cls := "CircuitCycles$Design", name := "count", desc := "()I" } : Jvm.MethodName)) ∈ lw_all := lw_g (lw_at lw_m3 129 rfl) rfl
theorem q777 : (Jvm.Cond.selects "CircuitCycles$Design" ({ cls := "CircuitCycles$Design", name := "count", desc := "()I" } : Jvm.MethodName) ({ cls := "CircuitCycles$Design", name := "count", desc := "()I" } : Jvm.MethodName)) ∈ lw_all := lw_g (lw_at lw_m3 130 rfl) rfl
theorem q778 : (Jvm.Cond.code ({ cls := "CircuitCycles$Design", name := "count", desc := "()I" } : Jvm.MethodName) prog_4_method_3_code (1 : Nat) (Option.some Jvm.ClassFile.FieldType.int)) ∈ lw_all := lw_g (lw_at lw_m3 131 rfl) rfl
theorem q780 : (Jvm.Cond.instanceMethod ({ cls := "CircuitCycles$Design", name := "findModule", desc := "([BII)I" } : Jvm.MethodName)) ∈ lw_all := lw_g (lw_at lw_m3 133 rfl) rfl
theorem q781 : (Jvm.Cond.selects "CircuitCycles$Design" ({ cls := "CircuitCycles$Design", name := "findModule", desc := "([BII)I" } : Jvm.MethodName) ({ cls := "CircuitCycles$Design", name := "findModule", desc := "([BII)I" } : Jvm.MethodName)) ∈ lw_all := lw_g (lw_at lw_m3 134 rfl) rfl
theorem q782 : (Jvm.Cond.code ({ cls := "CircuitCycles$Design", name := "findModule", desc := "([BII)I" } : Jvm.MethodName) prog_4_method_16_code (5 : Nat) (Option.some Jvm.ClassFile.FieldType.int)) ∈ lw_all := lw_g (lw_at lw_m3 135 rfl) rfl
theorem q783 : (Jvm.Cond.methodLink "CircuitCycles$Design" (46 : Nat) ({ cls := "CircuitCycles$Design", name := "count", desc := "()I" } : Jvm.MethodName)) ∈ lw_all := lw_g (lw_at lw_m3 136 rfl) rfl
theorem q784 : (Jvm.Cond.methodLink "CircuitCycles$Design" (42 : Nat) ({ cls := "CircuitCycles$Row", name := "at", desc := "(I)I" } : Jvm.MethodName)) ∈ lw_all := lw_g (lw_at lw_m3 137 rfl) rfl
theorem q788 : (Jvm.Cond.methodLink "CircuitCycles$Design" (63 : Nat) ({ cls := "CircuitCycles$Design", name := "isText", desc := "(II[BI)Z" } : Jvm.MethodName)) ∈ lw_all := lw_g (lw_at lw_m3 141 rfl) rfl
theorem q789 : (Jvm.Cond.privateMethod ({ cls := "CircuitCycles$Design", name := "isText", desc := "(II[BI)Z" } : Jvm.MethodName)) ∈ lw_tbl := lw_at lw_m3 142 rfl
theorem q790 : (Jvm.Cond.instanceMethod ({ cls := "CircuitCycles$Design", name := "isText", desc := "(II[BI)Z" } : Jvm.MethodName)) ∈ lw_all := lw_g (lw_at lw_m3 143 rfl) rfl
theorem q791 : (Jvm.Cond.code ({ cls := "CircuitCycles$Design", name := "isText", desc := "(II[BI)Z" } : Jvm.MethodName) prog_4_method_14_code (7 : Nat) (Option.some Jvm.ClassFile.FieldType.boolean)) ∈ lw_all := lw_g (lw_at lw_m3 144 rfl) rfl
theorem q821 : (Jvm.Cond.instanceMethod ({ cls := "CircuitCycles$Design", name := "find", desc := "(I[BII)I" } : Jvm.MethodName)) ∈ lw_all := lw_g (lw_at lw_m3 174 rfl) rfl
theorem q822 : (Jvm.Cond.selects "CircuitCycles$Design" ({ cls := "CircuitCycles$Design", name := "find", desc := "(I[BII)I" } : Jvm.MethodName) ({ cls := "CircuitCycles$Design", name := "find", desc := "(I[BII)I" } : Jvm.MethodName)) ∈ lw_all := lw_g (lw_at lw_m3 175 rfl) rfl
theorem q823 : (Jvm.Cond.code ({ cls := "CircuitCycles$Design", name := "find", desc := "(I[BII)I" } : Jvm.MethodName) prog_4_method_15_code (6 : Nat) (Option.some Jvm.ClassFile.FieldType.int)) ∈ lw_all := lw_g (lw_at lw_m3 176 rfl) rfl
theorem q824 : (Jvm.Cond.methodLink "CircuitCycles$Design" (50 : Nat) ({ cls := "CircuitCycles$Design", name := "firstSymbol", desc := "(I)I" } : Jvm.MethodName)) ∈ lw_all := lw_g (lw_at lw_m3 177 rfl) rfl
theorem q825 : (Jvm.Cond.instanceMethod ({ cls := "CircuitCycles$Design", name := "firstSymbol", desc := "(I)I" } : Jvm.MethodName)) ∈ lw_all := lw_g (lw_at lw_m3 178 rfl) rfl
theorem q826 : (Jvm.Cond.selects "CircuitCycles$Design" ({ cls := "CircuitCycles$Design", name := "firstSymbol", desc := "(I)I" } : Jvm.MethodName) ({ cls := "CircuitCycles$Design", name := "firstSymbol", desc := "(I)I" } : Jvm.MethodName)) ∈ lw_all := lw_g (lw_at lw_m3 179 rfl) rfl
theorem q827 : (Jvm.Cond.code ({ cls := "CircuitCycles$Design", name := "firstSymbol", desc := "(I)I" } : Jvm.MethodName) prog_4_method_4_code (2 : Nat) (Option.some Jvm.ClassFile.FieldType.int)) ∈ lw_all := lw_g (lw_at lw_m3 180 rfl) rfl
theorem q828 : (Jvm.Cond.methodLink "CircuitCycles$Design" (60 : Nat) ({ cls := "CircuitCycles$Design", name := "lastSymbol", desc := "(I)I" } : Jvm.MethodName)) ∈ lw_all := lw_g (lw_at lw_m3 181 rfl) rfl
theorem q829 : (Jvm.Cond.instanceMethod ({ cls := "CircuitCycles$Design", name := "lastSymbol", desc := "(I)I" } : Jvm.MethodName)) ∈ lw_all := lw_g (lw_at lw_m3 182 rfl) rfl
theorem q830 : (Jvm.Cond.selects "CircuitCycles$Design" ({ cls := "CircuitCycles$Design", name := "lastSymbol", desc := "(I)I" } : Jvm.MethodName) ({ cls := "CircuitCycles$Design", name := "lastSymbol", desc := "(I)I" } : Jvm.MethodName)) ∈ lw_all := lw_g (lw_at lw_m3 183 rfl) rfl
theorem q831 : (Jvm.Cond.code ({ cls := "CircuitCycles$Design", name := "lastSymbol", desc := "(I)I" } : Jvm.MethodName) prog_4_method_5_code (2 : Nat) (Option.some Jvm.ClassFile.FieldType.int)) ∈ lw_all := lw_g (lw_at lw_m3 184 rfl) rfl
theorem q832 : (Jvm.Cond.methodLink "CircuitCycles$Design" (53 : Nat) ({ cls := "CircuitCycles$Design", name := "symbol", desc := "(II)I" } : Jvm.MethodName)) ∈ lw_all := lw_g (lw_at lw_m3 185 rfl) rfl
theorem q833 : (Jvm.Cond.instanceMethod ({ cls := "CircuitCycles$Design", name := "symbol", desc := "(II)I" } : Jvm.MethodName)) ∈ lw_all := lw_g (lw_at lw_m3 186 rfl) rfl
theorem q834 : (Jvm.Cond.selects "CircuitCycles$Design" ({ cls := "CircuitCycles$Design", name := "symbol", desc := "(II)I" } : Jvm.MethodName) ({ cls := "CircuitCycles$Design", name := "symbol", desc := "(II)I" } : Jvm.MethodName)) ∈ lw_all := lw_g (lw_at lw_m3 187 rfl) rfl
theorem q835 : (Jvm.Cond.code ({ cls := "CircuitCycles$Design", name := "symbol", desc := "(II)I" } : Jvm.MethodName) prog_4_method_9_code (3 : Nat) (Option.some Jvm.ClassFile.FieldType.int)) ∈ lw_all := lw_g (lw_at lw_m3 188 rfl) rfl
theorem q841 : (Jvm.Cond.instanceMethod ({ cls := "CircuitCycles$Design", name := "width", desc := "(I)I" } : Jvm.MethodName)) ∈ lw_all := lw_g (lw_at lw_m3 194 rfl) rfl
theorem q842 : (Jvm.Cond.selects "CircuitCycles$Design" ({ cls := "CircuitCycles$Design", name := "width", desc := "(I)I" } : Jvm.MethodName) ({ cls := "CircuitCycles$Design", name := "width", desc := "(I)I" } : Jvm.MethodName)) ∈ lw_all := lw_g (lw_at lw_m3 195 rfl) rfl
theorem q843 : (Jvm.Cond.code ({ cls := "CircuitCycles$Design", name := "width", desc := "(I)I" } : Jvm.MethodName) prog_4_method_11_code (2 : Nat) (Option.some Jvm.ClassFile.FieldType.int)) ∈ lw_all := lw_g (lw_at lw_m3 196 rfl) rfl
theorem q861 : (Jvm.Cond.instanceMethod ({ cls := "CircuitCycles$Design", name := "kind", desc := "(I)I" } : Jvm.MethodName)) ∈ lw_all := lw_g (lw_at lw_m3 214 rfl) rfl
theorem q862 : (Jvm.Cond.selects "CircuitCycles$Design" ({ cls := "CircuitCycles$Design", name := "kind", desc := "(I)I" } : Jvm.MethodName) ({ cls := "CircuitCycles$Design", name := "kind", desc := "(I)I" } : Jvm.MethodName)) ∈ lw_all := lw_g (lw_at lw_m3 215 rfl) rfl
theorem q863 : (Jvm.Cond.code ({ cls := "CircuitCycles$Design", name := "kind", desc := "(I)I" } : Jvm.MethodName) prog_4_method_10_code (2 : Nat) (Option.some Jvm.ClassFile.FieldType.int)) ∈ lw_all := lw_g (lw_at lw_m3 216 rfl) rfl
theorem q865 : (Jvm.Cond.instanceMethod ({ cls := "CircuitCycles$Design", name := "isDriven", desc := "(I)Z" } : Jvm.MethodName)) ∈ lw_all := lw_g (lw_at lw_m3 218 rfl) rfl
theorem q866 : (Jvm.Cond.selects "CircuitCycles$Design" ({ cls := "CircuitCycles$Design", name := "isDriven", desc := "(I)Z" } : Jvm.MethodName) ({ cls := "CircuitCycles$Design", name := "isDriven", desc := "(I)Z" } : Jvm.MethodName)) ∈ lw_all := lw_g (lw_at lw_m3 219 rfl) rfl
theorem q867 : (Jvm.Cond.code ({ cls := "CircuitCycles$Design", name := "isDriven", desc := "(I)Z" } : Jvm.MethodName) prog_4_method_13_code (2 : Nat) (Option.some Jvm.ClassFile.FieldType.boolean)) ∈ lw_all := lw_g (lw_at lw_m3 220 rfl) rfl
theorem q868 : (Jvm.Cond.methodLink "CircuitCycles$Design" (57 : Nat) ({ cls := "CircuitCycles$Design", name := "kind", desc := "(I)I" } : Jvm.MethodName)) ∈ lw_all := lw_g (lw_at lw_m3 221 rfl) rfl
theorem q870 : (Jvm.Cond.instanceMethod ({ cls := "CircuitCycles$Design", name := "isRegister", desc := "(I)Z" } : Jvm.MethodName)) ∈ lw_all := lw_g (lw_at lw_m3 223 rfl) rfl
theorem q871 : (Jvm.Cond.selects "CircuitCycles$Design" ({ cls := "CircuitCycles$Design", name := "isRegister", desc := "(I)Z" } : Jvm.MethodName) ({ cls := "CircuitCycles$Design", name := "isRegister", desc := "(I)Z" } : Jvm.MethodName)) ∈ lw_all := lw_g (lw_at lw_m3 224 rfl) rfl
theorem q872 : (Jvm.Cond.code ({ cls := "CircuitCycles$Design", name := "isRegister", desc := "(I)Z" } : Jvm.MethodName) prog_4_method_12_code (2 : Nat) (Option.some Jvm.ClassFile.FieldType.boolean)) ∈ lw_all := lw_g (lw_at lw_m3 225 rfl) rfl
theorem q988 : (Jvm.Cond.instanceMethod ({ cls := "CircuitCycles$Design", name := "ports", desc := "(I)I" } : Jvm.MethodName)) ∈ lw_all := lw_g (lw_at lw_m4 101 rfl) rfl
theorem q989 : (Jvm.Cond.selects "CircuitCycles$Design" ({ cls := "CircuitCycles$Design", name := "ports", desc := "(I)I" } : Jvm.MethodName) ({ cls := "CircuitCycles$Design", name := "ports", desc := "(I)I" } : Jvm.MethodName)) ∈ lw_all := lw_g (lw_at lw_m4 102 rfl) rfl
theorem q990 : (Jvm.Cond.code ({ cls := "CircuitCycles$Design", name := "ports", desc := "(I)I" } : Jvm.MethodName) prog_4_method_8_code (2 : Nat) (Option.some Jvm.ClassFile.FieldType.int)) ∈ lw_all := lw_g (lw_at lw_m4 103 rfl) rfl
theorem q1026 : (Jvm.Cond.instanceMethod ({ cls := "CircuitCycles$Design", name := "firstItem", desc := "(I)I" } : Jvm.MethodName)) ∈ lw_all := lw_g (lw_at lw_m4 139 rfl) rfl
theorem q1027 : (Jvm.Cond.selects "CircuitCycles$Design" ({ cls := "CircuitCycles$Design", name := "firstItem", desc := "(I)I" } : Jvm.MethodName) ({ cls := "CircuitCycles$Design", name := "firstItem", desc := "(I)I" } : Jvm.MethodName)) ∈ lw_all := lw_g (lw_at lw_m4 140 rfl) rfl
theorem q1028 : (Jvm.Cond.code ({ cls := "CircuitCycles$Design", name := "firstItem", desc := "(I)I" } : Jvm.MethodName) prog_4_method_6_code (2 : Nat) (Option.some Jvm.ClassFile.FieldType.int)) ∈ lw_all := lw_g (lw_at lw_m4 141 rfl) rfl
theorem q1030 : (Jvm.Cond.instanceMethod ({ cls := "CircuitCycles$Design", name := "lastItem", desc := "(I)I" } : Jvm.MethodName)) ∈ lw_all := lw_g (lw_at lw_m4 143 rfl) rfl
theorem q1031 : (Jvm.Cond.selects "CircuitCycles$Design" ({ cls := "CircuitCycles$Design", name := "lastItem", desc := "(I)I" } : Jvm.MethodName) ({ cls := "CircuitCycles$Design", name := "lastItem", desc := "(I)I" } : Jvm.MethodName)) ∈ lw_all := lw_g (lw_at lw_m4 144 rfl) rfl
theorem q1032 : (Jvm.Cond.code ({ cls := "CircuitCycles$Design", name := "lastItem", desc := "(I)I" } : Jvm.MethodName) prog_4_method_7_code (2 : Nat) (Option.some Jvm.ClassFile.FieldType.int)) ∈ lw_all := lw_g (lw_at lw_m4 145 rfl) rfl
theorem in_X6 : ∀ w ∈ wsX60, w ∈ lw_all := lw_in wsX60 [437, 439, 441, 443, 445, 447, 449] (by decide +kernel) (by decide +kernel)
/-! CircuitCycles$Gates -/
set_option maxRecDepth 100000
def RX7 : String := "CircuitCycles$Gates"
def TX7 : u_T := fun k => match k with
  | 0 => ("CircuitCycles$Gates", "a", "[I", true)
  | 1 => ("CircuitCycles$Gates", "b", "[I", true)
  | 2 => ("CircuitCycles$Gates", "older", "[I", true)
  | 3 => ("CircuitCycles$Gates", "latest", "[I", true)
  | _ => ("CircuitCycles$Gates", "size", "I", false)
def tyX7 : Nat → FieldType := fun k => match k with
  | 0 => .array .int
  | 1 => .array .int
  | 2 => .array .int
  | 3 => .array .int
  | _ => .int
abbrev wsX70 : List Cond := u_ws RX7 TX7 5
theorem nmX7 : ∀ a, a < 5 → ∀ b, b < 5 → a ≠ b → (TX7 a).2.1 ≠ (TX7 b).2.1 := by decide +kernel
theorem tyX7_ok : ∀ k, k < 5 → parseFieldDescriptor (TX7 k).2.2.1 = some (tyX7 k) := by decide +kernel
abbrev cX7_init : ByteArray := prog_5_method_1_code
def yX7_init : MethodName := ⟨RX7, "<init>", "()V"⟩
abbrev cX7_clear : ByteArray := prog_5_method_2_code
def yX7_clear : MethodName := ⟨RX7, "clear", "()V"⟩
abbrev cX7_free : ByteArray := prog_5_method_3_code
def yX7_free : MethodName := ⟨RX7, "free", "()I"⟩
abbrev cX7_mux : ByteArray := prog_5_method_9_code
def yX7_mux : MethodName := ⟨RX7, "mux", "(III)I"⟩
abbrev cX7_and : ByteArray := prog_5_method_6_code
def yX7_and : MethodName := ⟨RX7, "and", "(II)I"⟩
abbrev cX7_bucket : ByteArray := prog_5_method_5_code
def yX7_bucket : MethodName := ⟨RX7, "bucket", "(II)I"⟩
abbrev cX7_or : ByteArray := prog_5_method_8_code
def yX7_or : MethodName := ⟨RX7, "or", "(II)I"⟩
abbrev cX7_xor : ByteArray := prog_5_method_10_code
def yX7_xor : MethodName := ⟨RX7, "xor", "(II)I"⟩
abbrev cX7_isFree : ByteArray := prog_5_method_4_code
def yX7_isFree : MethodName := ⟨RX7, "isFree", "(I)Z"⟩
theorem q178 : (Jvm.Cond.initialized "CircuitCycles$Gates") ∈ lw_all := lw_g (lw_at lw_m1 11 rfl) rfl
theorem q453 : (Jvm.Cond.instantiable "CircuitCycles$Gates" (5 : Nat)) ∈ lw_all := lw_g (lw_at lw_m2 46 rfl) rfl
theorem q455 : (Jvm.Cond.instanceMethod ({ cls := "CircuitCycles$Gates", name := "<init>", desc := "()V" } : Jvm.MethodName)) ∈ lw_all := lw_g (lw_at lw_m2 48 rfl) rfl
theorem q456 : (Jvm.Cond.code ({ cls := "CircuitCycles$Gates", name := "<init>", desc := "()V" } : Jvm.MethodName) prog_5_method_1_code (1 : Nat) (Option.none : Option Jvm.ClassFile.FieldType)) ∈ lw_all := lw_g (lw_at lw_m2 49 rfl) rfl
theorem q457 : (Jvm.Cond.methodLink "CircuitCycles$Gates" (3 : Nat) ({ cls := "java/lang/Object", name := "<init>", desc := "()V" } : Jvm.MethodName)) ∈ lw_all := lw_g (lw_at lw_m2 50 rfl) rfl
theorem q458 : (Jvm.Cond.constant "CircuitCycles$Gates" (21 : Nat) (32768 : Int32)) ∈ lw_all := lw_g (lw_at lw_m2 51 rfl) rfl
theorem q459 : (Jvm.Cond.fieldLink "CircuitCycles$Gates" (9 : Nat) "CircuitCycles$Gates" "a" "[I") ∈ lw_all := lw_g (lw_at lw_m2 52 rfl) rfl
theorem q461 : (Jvm.Cond.fieldLink "CircuitCycles$Gates" (15 : Nat) "CircuitCycles$Gates" "b" "[I") ∈ lw_all := lw_g (lw_at lw_m2 54 rfl) rfl
theorem q463 : (Jvm.Cond.fieldLink "CircuitCycles$Gates" (18 : Nat) "CircuitCycles$Gates" "older" "[I") ∈ lw_all := lw_g (lw_at lw_m2 56 rfl) rfl
theorem q464 : (Jvm.Cond.fieldLink "CircuitCycles$Gates" (22 : Nat) "CircuitCycles$Gates" "latest" "[I") ∈ lw_all := lw_g (lw_at lw_m2 57 rfl) rfl
theorem q465 : (Jvm.Cond.fieldLink "CircuitCycles$Gates" (25 : Nat) "CircuitCycles$Gates" "size" "I") ∈ lw_all := lw_g (lw_at lw_m2 58 rfl) rfl
theorem q468 : (Jvm.Cond.laysFinal "CircuitCycles$Gates" "CircuitCycles$Gates" "a" "[I") ∈ lw_all := lw_g (lw_at lw_m2 61 rfl) rfl
theorem q469 : (Jvm.Cond.soleField "CircuitCycles$Gates" "a") ∈ lw_all := lw_g (lw_at lw_m2 62 rfl) rfl
theorem q470 : (Jvm.Cond.laysFinal "CircuitCycles$Gates" "CircuitCycles$Gates" "b" "[I") ∈ lw_all := lw_g (lw_at lw_m2 63 rfl) rfl
theorem q471 : (Jvm.Cond.soleField "CircuitCycles$Gates" "b") ∈ lw_all := lw_g (lw_at lw_m2 64 rfl) rfl
theorem q472 : (Jvm.Cond.laysFinal "CircuitCycles$Gates" "CircuitCycles$Gates" "older" "[I") ∈ lw_all := lw_g (lw_at lw_m2 65 rfl) rfl
theorem q473 : (Jvm.Cond.soleField "CircuitCycles$Gates" "older") ∈ lw_all := lw_g (lw_at lw_m2 66 rfl) rfl
theorem q474 : (Jvm.Cond.laysFinal "CircuitCycles$Gates" "CircuitCycles$Gates" "latest" "[I") ∈ lw_all := lw_g (lw_at lw_m2 67 rfl) rfl
theorem q475 : (Jvm.Cond.soleField "CircuitCycles$Gates" "latest") ∈ lw_all := lw_g (lw_at lw_m2 68 rfl) rfl
theorem q476 : (Jvm.Cond.lays "CircuitCycles$Gates" "CircuitCycles$Gates" "size" "I") ∈ lw_all := lw_g (lw_at lw_m2 69 rfl) rfl
theorem q477 : (Jvm.Cond.soleField "CircuitCycles$Gates" "size") ∈ lw_all := lw_g (lw_at lw_m2 70 rfl) rfl
theorem q478 : (Jvm.Cond.superclass "CircuitCycles$Gates" "java/lang/Object") ∈ lw_all := lw_g (lw_at lw_m2 71 rfl) rfl
theorem q1109 : (Jvm.Cond.instanceMethod ({ cls := "CircuitCycles$Gates", name := "clear", desc := "()V" } : Jvm.MethodName)) ∈ lw_all := lw_g (lw_at lw_m4 222 rfl) rfl
theorem q1110 : (Jvm.Cond.selects "CircuitCycles$Gates" ({ cls := "CircuitCycles$Gates", name := "clear", desc := "()V" } : Jvm.MethodName) ({ cls := "CircuitCycles$Gates", name := "clear", desc := "()V" } : Jvm.MethodName)) ∈ lw_all := lw_g (lw_at lw_m4 223 rfl) rfl
theorem q1111 : (Jvm.Cond.code ({ cls := "CircuitCycles$Gates", name := "clear", desc := "()V" } : Jvm.MethodName) prog_5_method_2_code (2 : Nat) (Option.none : Option Jvm.ClassFile.FieldType)) ∈ lw_all := lw_g (lw_at lw_m4 224 rfl) rfl
theorem q1118 : (Jvm.Cond.instanceMethod ({ cls := "CircuitCycles$Gates", name := "free", desc := "()I" } : Jvm.MethodName)) ∈ lw_all := lw_g (lw_at lw_m4 231 rfl) rfl
theorem q1119 : (Jvm.Cond.selects "CircuitCycles$Gates" ({ cls := "CircuitCycles$Gates", name := "free", desc := "()I" } : Jvm.MethodName) ({ cls := "CircuitCycles$Gates", name := "free", desc := "()I" } : Jvm.MethodName)) ∈ lw_all := lw_g (lw_at lw_m4 232 rfl) rfl
theorem q1120 : (Jvm.Cond.code ({ cls := "CircuitCycles$Gates", name := "free", desc := "()I" } : Jvm.MethodName) prog_5_method_3_code (1 : Nat) (Option.some Jvm.ClassFile.FieldType.int)) ∈ lw_all := lw_g (lw_at lw_m4 233 rfl) rfl
theorem q1180 : (Jvm.Cond.instanceMethod ({ cls := "CircuitCycles$Gates", name := "mux", desc := "(III)I" } : Jvm.MethodName)) ∈ lw_all := lw_g (lw_at lw_m5 53 rfl) rfl
theorem q1181 : (Jvm.Cond.selects "CircuitCycles$Gates" ({ cls := "CircuitCycles$Gates", name := "mux", desc := "(III)I" } : Jvm.MethodName) ({ cls := "CircuitCycles$Gates", name := "mux", desc := "(III)I" } : Jvm.MethodName)) ∈ lw_all := lw_g (lw_at lw_m5 54 rfl) rfl
theorem q1182 : (Jvm.Cond.code ({ cls := "CircuitCycles$Gates", name := "mux", desc := "(III)I" } : Jvm.MethodName) prog_5_method_9_code (4 : Nat) (Option.some Jvm.ClassFile.FieldType.int)) ∈ lw_all := lw_g (lw_at lw_m5 55 rfl) rfl
theorem q1183 : (Jvm.Cond.methodLink "CircuitCycles$Gates" (29 : Nat) ({ cls := "CircuitCycles$Gates", name := "and", desc := "(II)I" } : Jvm.MethodName)) ∈ lw_all := lw_g (lw_at lw_m5 56 rfl) rfl
theorem q1184 : (Jvm.Cond.instanceMethod ({ cls := "CircuitCycles$Gates", name := "and", desc := "(II)I" } : Jvm.MethodName)) ∈ lw_all := lw_g (lw_at lw_m5 57 rfl) rfl
theorem q1185 : (Jvm.Cond.selects "CircuitCycles$Gates" ({ cls := "CircuitCycles$Gates", name := "and", desc := "(II)I" } : Jvm.MethodName) ({ cls := "CircuitCycles$Gates", name := "and", desc := "(II)I" } : Jvm.MethodName)) ∈ lw_all := lw_g (lw_at lw_m5 58 rfl) rfl
theorem q1186 : (Jvm.Cond.code ({ cls := "CircuitCycles$Gates", name := "and", desc := "(II)I" } : Jvm.MethodName) prog_5_method_6_code (5 : Nat) (Option.some Jvm.ClassFile.FieldType.int)) ∈ lw_all := lw_g (lw_at lw_m5 59 rfl) rfl
theorem q1187 : (Jvm.Cond.methodLink "CircuitCycles$Gates" (33 : Nat) ({ cls := "CircuitCycles$Gates", name := "bucket", desc := "(II)I" } : Jvm.MethodName)) ∈ lw_all := lw_g (lw_at lw_m5 60 rfl) rfl
theorem q1188 : (Jvm.Cond.static ({ cls := "CircuitCycles$Gates", name := "bucket", desc := "(II)I" } : Jvm.MethodName)) ∈ lw_all := lw_g (lw_at lw_m5 61 rfl) rfl
theorem q1189 : (Jvm.Cond.code ({ cls := "CircuitCycles$Gates", name := "bucket", desc := "(II)I" } : Jvm.MethodName) prog_5_method_5_code (2 : Nat) (Option.some Jvm.ClassFile.FieldType.int)) ∈ lw_all := lw_g (lw_at lw_m5 62 rfl) rfl
theorem q1190 : (Jvm.Cond.methodLink "CircuitCycles$Gates" (36 : Nat) ({ cls := "CircuitCycles$Gates", name := "or", desc := "(II)I" } : Jvm.MethodName)) ∈ lw_all := lw_g (lw_at lw_m5 63 rfl) rfl
theorem q1191 : (Jvm.Cond.instanceMethod ({ cls := "CircuitCycles$Gates", name := "or", desc := "(II)I" } : Jvm.MethodName)) ∈ lw_all := lw_g (lw_at lw_m5 64 rfl) rfl
theorem q1192 : (Jvm.Cond.selects "CircuitCycles$Gates" ({ cls := "CircuitCycles$Gates", name := "or", desc := "(II)I" } : Jvm.MethodName) ({ cls := "CircuitCycles$Gates", name := "or", desc := "(II)I" } : Jvm.MethodName)) ∈ lw_all := lw_g (lw_at lw_m5 65 rfl) rfl
theorem q1193 : (Jvm.Cond.code ({ cls := "CircuitCycles$Gates", name := "or", desc := "(II)I" } : Jvm.MethodName) prog_5_method_8_code (3 : Nat) (Option.some Jvm.ClassFile.FieldType.int)) ∈ lw_all := lw_g (lw_at lw_m5 66 rfl) rfl
theorem q1199 : (Jvm.Cond.instanceMethod ({ cls := "CircuitCycles$Gates", name := "xor", desc := "(II)I" } : Jvm.MethodName)) ∈ lw_all := lw_g (lw_at lw_m5 72 rfl) rfl
theorem q1200 : (Jvm.Cond.selects "CircuitCycles$Gates" ({ cls := "CircuitCycles$Gates", name := "xor", desc := "(II)I" } : Jvm.MethodName) ({ cls := "CircuitCycles$Gates", name := "xor", desc := "(II)I" } : Jvm.MethodName)) ∈ lw_all := lw_g (lw_at lw_m5 73 rfl) rfl
theorem q1201 : (Jvm.Cond.code ({ cls := "CircuitCycles$Gates", name := "xor", desc := "(II)I" } : Jvm.MethodName) prog_5_method_10_code (3 : Nat) (Option.some Jvm.ClassFile.FieldType.int)) ∈ lw_all := lw_g (lw_at lw_m5 74 rfl) rfl
theorem q1202 : (Jvm.Cond.methodLink "CircuitCycles$Gates" (39 : Nat) ({ cls := "CircuitCycles$Gates", name := "mux", desc := "(III)I" } : Jvm.MethodName)) ∈ lw_all := lw_g (lw_at lw_m5 75 rfl) rfl
theorem q1460 : (Jvm.Cond.instanceMethod ({ cls := "CircuitCycles$Gates", name := "isFree", desc := "(I)Z" } : Jvm.MethodName)) ∈ lw_all := lw_g (lw_at lw_m6 93 rfl) rfl
theorem q1461 : (Jvm.Cond.selects "CircuitCycles$Gates" ({ cls := "CircuitCycles$Gates", name := "isFree", desc := "(I)Z" } : Jvm.MethodName) ({ cls := "CircuitCycles$Gates", name := "isFree", desc := "(I)Z" } : Jvm.MethodName)) ∈ lw_all := lw_g (lw_at lw_m6 94 rfl) rfl
theorem q1462 : (Jvm.Cond.code ({ cls := "CircuitCycles$Gates", name := "isFree", desc := "(I)Z" } : Jvm.MethodName) prog_5_method_4_code (2 : Nat) (Option.some Jvm.ClassFile.FieldType.boolean)) ∈ lw_all := lw_g (lw_at lw_m6 95 rfl) rfl
theorem in_X7 : ∀ w ∈ wsX70, w ∈ lw_all := lw_in wsX70 [468, 470, 472, 474, 476] (by decide +kernel) (by decide +kernel)
/-! CircuitCycles$Pile -/
set_option maxRecDepth 100000
def RX8 : String := "CircuitCycles$Pile"
def TX8 : u_T := fun k => match k with
  | 0 => ("CircuitCycles$Pile", "g", "LCircuitCycles$Gates;", true)
  | 1 => ("CircuitCycles$Pile", "bits", "LCircuitCycles$Row;", true)
  | _ => ("CircuitCycles$Pile", "sizes", "LCircuitCycles$Row;", true)
def tyX8 : Nat → FieldType := fun k => match k with
  | 0 => .object "CircuitCycles$Gates"
  | 1 => .object "CircuitCycles$Row"
  | _ => .object "CircuitCycles$Row"
abbrev wsX80 : List Cond := u_ws RX8 TX8 3
theorem nmX8 : ∀ a, a < 3 → ∀ b, b < 3 → a ≠ b → (TX8 a).2.1 ≠ (TX8 b).2.1 := by decide +kernel
theorem tyX8_ok : ∀ k, k < 3 → parseFieldDescriptor (TX8 k).2.2.1 = some (tyX8 k) := by decide +kernel
abbrev cX8_init : ByteArray := prog_8_method_1_code
def yX8_init : MethodName := ⟨RX8, "<init>", "(LCircuitCycles$Gates;)V"⟩
abbrev cX8_clear : ByteArray := prog_8_method_2_code
def yX8_clear : MethodName := ⟨RX8, "clear", "()V"⟩
abbrev cX8_constant : ByteArray := prog_8_method_7_code
def yX8_constant : MethodName := ⟨RX8, "constant", "(IJ)V"⟩
abbrev cX8_vector : ByteArray := prog_8_method_8_code
def yX8_vector : MethodName := ⟨RX8, "vector", "(LCircuitCycles$Row;II)V"⟩
abbrev cX8_part : ByteArray := prog_8_method_9_code
def yX8_part : MethodName := ⟨RX8, "part", "(II)V"⟩
abbrev cX8_from : ByteArray := prog_8_method_4_code
def yX8_from : MethodName := ⟨RX8, "from", "(I)I"⟩
abbrev cX8_result : ByteArray := prog_8_method_6_code
def yX8_result : MethodName := ⟨RX8, "result", "(II)V"⟩
abbrev cX8_pick : ByteArray := prog_8_method_16_code
def yX8_pick : MethodName := ⟨RX8, "pick", "()V"⟩
abbrev cX8_width : ByteArray := prog_8_method_3_code
def yX8_width : MethodName := ⟨RX8, "width", "()I"⟩
abbrev cX8_unary : ByteArray := prog_8_method_12_code
def yX8_unary : MethodName := ⟨RX8, "unary", "(I)V"⟩
abbrev cX8_truth : ByteArray := prog_8_method_10_code
def yX8_truth : MethodName := ⟨RX8, "truth", "()I"⟩
abbrev cX8_drop : ByteArray := prog_8_method_5_code
def yX8_drop : MethodName := ⟨RX8, "drop", "()V"⟩
abbrev cX8_one : ByteArray := prog_8_method_11_code
def yX8_one : MethodName := ⟨RX8, "one", "(I)V"⟩
abbrev cX8_binary : ByteArray := prog_8_method_19_code
def yX8_binary : MethodName := ⟨RX8, "binary", "(I)V"⟩
abbrev cX8_same : ByteArray := prog_8_method_17_code
def yX8_same : MethodName := ⟨RX8, "same", "()I"⟩
abbrev cX8_answer : ByteArray := prog_8_method_18_code
def yX8_answer : MethodName := ⟨RX8, "answer", "(I)V"⟩
abbrev cX8_compared : ByteArray := prog_8_method_20_code
def yX8_compared : MethodName := ⟨RX8, "compared", "(I)V"⟩
abbrev cX8_sum : ByteArray := prog_8_method_13_code
def yX8_sum : MethodName := ⟨RX8, "sum", "(I)I"⟩
abbrev cX8_moved : ByteArray := prog_8_method_15_code
def yX8_moved : MethodName := ⟨RX8, "moved", "(Z)V"⟩
abbrev cX8_product : ByteArray := prog_8_method_14_code
def yX8_product : MethodName := ⟨RX8, "product", "()V"⟩
abbrev cX8_choice : ByteArray := prog_8_method_21_code
def yX8_choice : MethodName := ⟨RX8, "choice", "()V"⟩
abbrev cX8_together : ByteArray := prog_8_method_22_code
def yX8_together : MethodName := ⟨RX8, "together", "(I)V"⟩
abbrev cX8_times : ByteArray := prog_8_method_23_code
def yX8_times : MethodName := ⟨RX8, "times", "(I)V"⟩
theorem q179 : (Jvm.Cond.initialized "CircuitCycles$Pile") ∈ lw_all := lw_g (lw_at lw_m1 12 rfl) rfl
theorem q357 : (Jvm.Cond.fieldLinkNest "CircuitCycles$Pile" (25 : Nat) "CircuitCycles$Row" "size" "I" "CircuitCycles") ∈ lw_tbl := lw_at lw_m1 190 rfl
theorem q480 : (Jvm.Cond.instantiable "CircuitCycles$Pile" (3 : Nat)) ∈ lw_all := lw_g (lw_at lw_m2 73 rfl) rfl
theorem q482 : (Jvm.Cond.instanceMethod ({ cls := "CircuitCycles$Pile", name := "<init>", desc := "(LCircuitCycles$Gates;)V" } : Jvm.MethodName)) ∈ lw_all := lw_g (lw_at lw_m2 75 rfl) rfl
theorem q483 : (Jvm.Cond.code ({ cls := "CircuitCycles$Pile", name := "<init>", desc := "(LCircuitCycles$Gates;)V" } : Jvm.MethodName) prog_8_method_1_code (2 : Nat) (Option.none : Option Jvm.ClassFile.FieldType)) ∈ lw_all := lw_g (lw_at lw_m2 76 rfl) rfl
theorem q484 : (Jvm.Cond.methodLink "CircuitCycles$Pile" (3 : Nat) ({ cls := "java/lang/Object", name := "<init>", desc := "()V" } : Jvm.MethodName)) ∈ lw_all := lw_g (lw_at lw_m2 77 rfl) rfl
theorem q485 : (Jvm.Cond.classLink "CircuitCycles$Pile" (9 : Nat) "CircuitCycles$Row") ∈ lw_all := lw_g (lw_at lw_m2 78 rfl) rfl
theorem q486 : (Jvm.Cond.methodLinkNest "CircuitCycles$Pile" (11 : Nat) ({ cls := "CircuitCycles$Row", name := "<init>", desc := "()V" } : Jvm.MethodName) "CircuitCycles") ∈ lw_tbl := lw_at lw_m2 79 rfl
theorem q487 : (Jvm.Cond.fieldLink "CircuitCycles$Pile" (21 : Nat) "CircuitCycles$Pile" "g" "LCircuitCycles$Gates;") ∈ lw_all := lw_g (lw_at lw_m2 80 rfl) rfl
theorem q488 : (Jvm.Cond.fieldLink "CircuitCycles$Pile" (12 : Nat) "CircuitCycles$Pile" "bits" "LCircuitCycles$Row;") ∈ lw_all := lw_g (lw_at lw_m2 81 rfl) rfl
theorem q490 : (Jvm.Cond.fieldLink "CircuitCycles$Pile" (18 : Nat) "CircuitCycles$Pile" "sizes" "LCircuitCycles$Row;") ∈ lw_all := lw_g (lw_at lw_m2 83 rfl) rfl
theorem q491 : (Jvm.Cond.laysFinal "CircuitCycles$Pile" "CircuitCycles$Pile" "g" "LCircuitCycles$Gates;") ∈ lw_all := lw_g (lw_at lw_m2 84 rfl) rfl
theorem q492 : (Jvm.Cond.soleField "CircuitCycles$Pile" "g") ∈ lw_all := lw_g (lw_at lw_m2 85 rfl) rfl
theorem q493 : (Jvm.Cond.laysFinal "CircuitCycles$Pile" "CircuitCycles$Pile" "bits" "LCircuitCycles$Row;") ∈ lw_all := lw_g (lw_at lw_m2 86 rfl) rfl
theorem q494 : (Jvm.Cond.soleField "CircuitCycles$Pile" "bits") ∈ lw_all := lw_g (lw_at lw_m2 87 rfl) rfl
theorem q495 : (Jvm.Cond.laysFinal "CircuitCycles$Pile" "CircuitCycles$Pile" "sizes" "LCircuitCycles$Row;") ∈ lw_all := lw_g (lw_at lw_m2 88 rfl) rfl
theorem q496 : (Jvm.Cond.soleField "CircuitCycles$Pile" "sizes") ∈ lw_all := lw_g (lw_at lw_m2 89 rfl) rfl
theorem q497 : (Jvm.Cond.superclass "CircuitCycles$Pile" "java/lang/Object") ∈ lw_all := lw_g (lw_at lw_m2 90 rfl) rfl
theorem q1135 : (Jvm.Cond.instanceMethod ({ cls := "CircuitCycles$Pile", name := "clear", desc := "()V" } : Jvm.MethodName)) ∈ lw_all := lw_g (lw_at lw_m5 8 rfl) rfl
theorem q1136 : (Jvm.Cond.selects "CircuitCycles$Pile" ({ cls := "CircuitCycles$Pile", name := "clear", desc := "()V" } : Jvm.MethodName) ({ cls := "CircuitCycles$Pile", name := "clear", desc := "()V" } : Jvm.MethodName)) ∈ lw_all := lw_g (lw_at lw_m5 9 rfl) rfl
theorem q1137 : (Jvm.Cond.code ({ cls := "CircuitCycles$Pile", name := "clear", desc := "()V" } : Jvm.MethodName) prog_8_method_2_code (1 : Nat) (Option.none : Option Jvm.ClassFile.FieldType)) ∈ lw_all := lw_g (lw_at lw_m5 10 rfl) rfl
theorem q1147 : (Jvm.Cond.instanceMethod ({ cls := "CircuitCycles$Pile", name := "constant", desc := "(IJ)V" } : Jvm.MethodName)) ∈ lw_all := lw_g (lw_at lw_m5 20 rfl) rfl
theorem q1148 : (Jvm.Cond.selects "CircuitCycles$Pile" ({ cls := "CircuitCycles$Pile", name := "constant", desc := "(IJ)V" } : Jvm.MethodName) ({ cls := "CircuitCycles$Pile", name := "constant", desc := "(IJ)V" } : Jvm.MethodName)) ∈ lw_all := lw_g (lw_at lw_m5 21 rfl) rfl
theorem q1149 : (Jvm.Cond.code ({ cls := "CircuitCycles$Pile", name := "constant", desc := "(IJ)V" } : Jvm.MethodName) prog_8_method_7_code (5 : Nat) (Option.none : Option Jvm.ClassFile.FieldType)) ∈ lw_all := lw_g (lw_at lw_m5 22 rfl) rfl
theorem q1150 : (Jvm.Cond.methodLink "CircuitCycles$Pile" (44 : Nat) ({ cls := "CircuitCycles$Row", name := "add", desc := "(I)I" } : Jvm.MethodName)) ∈ lw_all := lw_g (lw_at lw_m5 23 rfl) rfl
theorem q1152 : (Jvm.Cond.instanceMethod ({ cls := "CircuitCycles$Pile", name := "vector", desc := "(LCircuitCycles$Row;II)V" } : Jvm.MethodName)) ∈ lw_all := lw_g (lw_at lw_m5 25 rfl) rfl
theorem q1153 : (Jvm.Cond.selects "CircuitCycles$Pile" ({ cls := "CircuitCycles$Pile", name := "vector", desc := "(LCircuitCycles$Row;II)V" } : Jvm.MethodName) ({ cls := "CircuitCycles$Pile", name := "vector", desc := "(LCircuitCycles$Row;II)V" } : Jvm.MethodName)) ∈ lw_all := lw_g (lw_at lw_m5 26 rfl) rfl
theorem q1154 : (Jvm.Cond.code ({ cls := "CircuitCycles$Pile", name := "vector", desc := "(LCircuitCycles$Row;II)V" } : Jvm.MethodName) prog_8_method_8_code (5 : Nat) (Option.none : Option Jvm.ClassFile.FieldType)) ∈ lw_all := lw_g (lw_at lw_m5 27 rfl) rfl
theorem q1155 : (Jvm.Cond.methodLink "CircuitCycles$Pile" (33 : Nat) ({ cls := "CircuitCycles$Row", name := "at", desc := "(I)I" } : Jvm.MethodName)) ∈ lw_all := lw_g (lw_at lw_m5 28 rfl) rfl
theorem q1157 : (Jvm.Cond.instanceMethod ({ cls := "CircuitCycles$Pile", name := "part", desc := "(II)V" } : Jvm.MethodName)) ∈ lw_all := lw_g (lw_at lw_m5 30 rfl) rfl
theorem q1158 : (Jvm.Cond.selects "CircuitCycles$Pile" ({ cls := "CircuitCycles$Pile", name := "part", desc := "(II)V" } : Jvm.MethodName) ({ cls := "CircuitCycles$Pile", name := "part", desc := "(II)V" } : Jvm.MethodName)) ∈ lw_all := lw_g (lw_at lw_m5 31 rfl) rfl
theorem q1159 : (Jvm.Cond.code ({ cls := "CircuitCycles$Pile", name := "part", desc := "(II)V" } : Jvm.MethodName) prog_8_method_9_code (5 : Nat) (Option.none : Option Jvm.ClassFile.FieldType)) ∈ lw_all := lw_g (lw_at lw_m5 32 rfl) rfl
theorem q1160 : (Jvm.Cond.methodLink "CircuitCycles$Pile" (47 : Nat) ({ cls := "CircuitCycles$Pile", name := "from", desc := "(I)I" } : Jvm.MethodName)) ∈ lw_all := lw_g (lw_at lw_m5 33 rfl) rfl
theorem q1161 : (Jvm.Cond.privateMethod ({ cls := "CircuitCycles$Pile", name := "from", desc := "(I)I" } : Jvm.MethodName)) ∈ lw_tbl := lw_at lw_m5 34 rfl
theorem q1162 : (Jvm.Cond.instanceMethod ({ cls := "CircuitCycles$Pile", name := "from", desc := "(I)I" } : Jvm.MethodName)) ∈ lw_all := lw_g (lw_at lw_m5 35 rfl) rfl
theorem q1163 : (Jvm.Cond.code ({ cls := "CircuitCycles$Pile", name := "from", desc := "(I)I" } : Jvm.MethodName) prog_8_method_4_code (4 : Nat) (Option.some Jvm.ClassFile.FieldType.int)) ∈ lw_all := lw_g (lw_at lw_m5 36 rfl) rfl
theorem q1164 : (Jvm.Cond.methodLink "CircuitCycles$Pile" (50 : Nat) ({ cls := "CircuitCycles$Pile", name := "result", desc := "(II)V" } : Jvm.MethodName)) ∈ lw_all := lw_g (lw_at lw_m5 37 rfl) rfl
theorem q1165 : (Jvm.Cond.privateMethod ({ cls := "CircuitCycles$Pile", name := "result", desc := "(II)V" } : Jvm.MethodName)) ∈ lw_tbl := lw_at lw_m5 38 rfl
theorem q1166 : (Jvm.Cond.instanceMethod ({ cls := "CircuitCycles$Pile", name := "result", desc := "(II)V" } : Jvm.MethodName)) ∈ lw_all := lw_g (lw_at lw_m5 39 rfl) rfl
theorem q1167 : (Jvm.Cond.code ({ cls := "CircuitCycles$Pile", name := "result", desc := "(II)V" } : Jvm.MethodName) prog_8_method_6_code (6 : Nat) (Option.none : Option Jvm.ClassFile.FieldType)) ∈ lw_all := lw_g (lw_at lw_m5 40 rfl) rfl
theorem q1168 : (Jvm.Cond.methodLink "CircuitCycles$Pile" (37 : Nat) ({ cls := "CircuitCycles$Row", name := "take", desc := "()I" } : Jvm.MethodName)) ∈ lw_all := lw_g (lw_at lw_m5 41 rfl) rfl
theorem q1169 : (Jvm.Cond.methodLink "CircuitCycles$Pile" (40 : Nat) ({ cls := "CircuitCycles$Row", name := "set", desc := "(II)V" } : Jvm.MethodName)) ∈ lw_all := lw_g (lw_at lw_m5 42 rfl) rfl
theorem q1171 : (Jvm.Cond.instanceMethod ({ cls := "CircuitCycles$Pile", name := "pick", desc := "()V" } : Jvm.MethodName)) ∈ lw_all := lw_g (lw_at lw_m5 44 rfl) rfl
theorem q1172 : (Jvm.Cond.selects "CircuitCycles$Pile" ({ cls := "CircuitCycles$Pile", name := "pick", desc := "()V" } : Jvm.MethodName) ({ cls := "CircuitCycles$Pile", name := "pick", desc := "()V" } : Jvm.MethodName)) ∈ lw_all := lw_g (lw_at lw_m5 45 rfl) rfl
theorem q1173 : (Jvm.Cond.code ({ cls := "CircuitCycles$Pile", name := "pick", desc := "()V" } : Jvm.MethodName) prog_8_method_16_code (8 : Nat) (Option.none : Option Jvm.ClassFile.FieldType)) ∈ lw_all := lw_g (lw_at lw_m5 46 rfl) rfl
theorem q1174 : (Jvm.Cond.methodLink "CircuitCycles$Pile" (53 : Nat) ({ cls := "CircuitCycles$Pile", name := "width", desc := "()I" } : Jvm.MethodName)) ∈ lw_all := lw_g (lw_at lw_m5 47 rfl) rfl
theorem q1175 : (Jvm.Cond.instanceMethod ({ cls := "CircuitCycles$Pile", name := "width", desc := "()I" } : Jvm.MethodName)) ∈ lw_all := lw_g (lw_at lw_m5 48 rfl) rfl
theorem q1176 : (Jvm.Cond.selects "CircuitCycles$Pile" ({ cls := "CircuitCycles$Pile", name := "width", desc := "()I" } : Jvm.MethodName) ({ cls := "CircuitCycles$Pile", name := "width", desc := "()I" } : Jvm.MethodName)) ∈ lw_all := lw_g (lw_at lw_m5 49 rfl) rfl
theorem q1177 : (Jvm.Cond.code ({ cls := "CircuitCycles$Pile", name := "width", desc := "()I" } : Jvm.MethodName) prog_8_method_3_code (1 : Nat) (Option.some Jvm.ClassFile.FieldType.int)) ∈ lw_all := lw_g (lw_at lw_m5 50 rfl) rfl
theorem q1178 : (Jvm.Cond.methodLink "CircuitCycles$Pile" (29 : Nat) ({ cls := "CircuitCycles$Row", name := "top", desc := "()I" } : Jvm.MethodName)) ∈ lw_all := lw_g (lw_at lw_m5 51 rfl) rfl
theorem q1179 : (Jvm.Cond.methodLink "CircuitCycles$Pile" (78 : Nat) ({ cls := "CircuitCycles$Gates", name := "mux", desc := "(III)I" } : Jvm.MethodName)) ∈ lw_all := lw_g (lw_at lw_m5 52 rfl) rfl
theorem q1195 : (Jvm.Cond.instanceMethod ({ cls := "CircuitCycles$Pile", name := "unary", desc := "(I)V" } : Jvm.MethodName)) ∈ lw_all := lw_g (lw_at lw_m5 68 rfl) rfl
theorem q1196 : (Jvm.Cond.selects "CircuitCycles$Pile" ({ cls := "CircuitCycles$Pile", name := "unary", desc := "(I)V" } : Jvm.MethodName) ({ cls := "CircuitCycles$Pile", name := "unary", desc := "(I)V" } : Jvm.MethodName)) ∈ lw_all := lw_g (lw_at lw_m5 69 rfl) rfl
theorem q1197 : (Jvm.Cond.code ({ cls := "CircuitCycles$Pile", name := "unary", desc := "(I)V" } : Jvm.MethodName) prog_8_method_12_code (7 : Nat) (Option.none : Option Jvm.ClassFile.FieldType)) ∈ lw_all := lw_g (lw_at lw_m5 70 rfl) rfl
theorem q1198 : (Jvm.Cond.methodLink "CircuitCycles$Pile" (65 : Nat) ({ cls := "CircuitCycles$Gates", name := "xor", desc := "(II)I" } : Jvm.MethodName)) ∈ lw_all := lw_g (lw_at lw_m5 71 rfl) rfl
theorem q1203 : (Jvm.Cond.methodLink "CircuitCycles$Pile" (68 : Nat) ({ cls := "CircuitCycles$Gates", name := "and", desc := "(II)I" } : Jvm.MethodName)) ∈ lw_all := lw_g (lw_at lw_m5 76 rfl) rfl
theorem q1204 : (Jvm.Cond.methodLink "CircuitCycles$Pile" (71 : Nat) ({ cls := "CircuitCycles$Pile", name := "truth", desc := "()I" } : Jvm.MethodName)) ∈ lw_all := lw_g (lw_at lw_m5 77 rfl) rfl
theorem q1205 : (Jvm.Cond.instanceMethod ({ cls := "CircuitCycles$Pile", name := "truth", desc := "()I" } : Jvm.MethodName)) ∈ lw_all := lw_g (lw_at lw_m5 78 rfl) rfl
theorem q1206 : (Jvm.Cond.selects "CircuitCycles$Pile" ({ cls := "CircuitCycles$Pile", name := "truth", desc := "()I" } : Jvm.MethodName) ({ cls := "CircuitCycles$Pile", name := "truth", desc := "()I" } : Jvm.MethodName)) ∈ lw_all := lw_g (lw_at lw_m5 79 rfl) rfl
theorem q1207 : (Jvm.Cond.code ({ cls := "CircuitCycles$Pile", name := "truth", desc := "()I" } : Jvm.MethodName) prog_8_method_10_code (4 : Nat) (Option.some Jvm.ClassFile.FieldType.int)) ∈ lw_all := lw_g (lw_at lw_m5 80 rfl) rfl
theorem q1208 : (Jvm.Cond.methodLink "CircuitCycles$Pile" (56 : Nat) ({ cls := "CircuitCycles$Gates", name := "or", desc := "(II)I" } : Jvm.MethodName)) ∈ lw_all := lw_g (lw_at lw_m5 81 rfl) rfl
theorem q1209 : (Jvm.Cond.methodLink "CircuitCycles$Pile" (62 : Nat) ({ cls := "CircuitCycles$Pile", name := "drop", desc := "()V" } : Jvm.MethodName)) ∈ lw_all := lw_g (lw_at lw_m5 82 rfl) rfl
theorem q1210 : (Jvm.Cond.privateMethod ({ cls := "CircuitCycles$Pile", name := "drop", desc := "()V" } : Jvm.MethodName)) ∈ lw_tbl := lw_at lw_m5 83 rfl
theorem q1211 : (Jvm.Cond.instanceMethod ({ cls := "CircuitCycles$Pile", name := "drop", desc := "()V" } : Jvm.MethodName)) ∈ lw_all := lw_g (lw_at lw_m5 84 rfl) rfl
theorem q1212 : (Jvm.Cond.code ({ cls := "CircuitCycles$Pile", name := "drop", desc := "()V" } : Jvm.MethodName) prog_8_method_5_code (1 : Nat) (Option.none : Option Jvm.ClassFile.FieldType)) ∈ lw_all := lw_g (lw_at lw_m5 85 rfl) rfl
theorem q1213 : (Jvm.Cond.methodLink "CircuitCycles$Pile" (74 : Nat) ({ cls := "CircuitCycles$Pile", name := "one", desc := "(I)V" } : Jvm.MethodName)) ∈ lw_all := lw_g (lw_at lw_m5 86 rfl) rfl
theorem q1214 : (Jvm.Cond.instanceMethod ({ cls := "CircuitCycles$Pile", name := "one", desc := "(I)V" } : Jvm.MethodName)) ∈ lw_all := lw_g (lw_at lw_m5 87 rfl) rfl
theorem q1215 : (Jvm.Cond.selects "CircuitCycles$Pile" ({ cls := "CircuitCycles$Pile", name := "one", desc := "(I)V" } : Jvm.MethodName) ({ cls := "CircuitCycles$Pile", name := "one", desc := "(I)V" } : Jvm.MethodName)) ∈ lw_all := lw_g (lw_at lw_m5 88 rfl) rfl
theorem q1216 : (Jvm.Cond.code ({ cls := "CircuitCycles$Pile", name := "one", desc := "(I)V" } : Jvm.MethodName) prog_8_method_11_code (2 : Nat) (Option.none : Option Jvm.ClassFile.FieldType)) ∈ lw_all := lw_g (lw_at lw_m5 89 rfl) rfl
theorem q1218 : (Jvm.Cond.instanceMethod ({ cls := "CircuitCycles$Pile", name := "binary", desc := "(I)V" } : Jvm.MethodName)) ∈ lw_all := lw_g (lw_at lw_m5 91 rfl) rfl
theorem q1219 : (Jvm.Cond.selects "CircuitCycles$Pile" ({ cls := "CircuitCycles$Pile", name := "binary", desc := "(I)V" } : Jvm.MethodName) ({ cls := "CircuitCycles$Pile", name := "binary", desc := "(I)V" } : Jvm.MethodName)) ∈ lw_all := lw_g (lw_at lw_m5 92 rfl) rfl
theorem q1220 : (Jvm.Cond.code ({ cls := "CircuitCycles$Pile", name := "binary", desc := "(I)V" } : Jvm.MethodName) prog_8_method_19_code (6 : Nat) (Option.none : Option Jvm.ClassFile.FieldType)) ∈ lw_all := lw_g (lw_at lw_m5 93 rfl) rfl
theorem q1221 : (Jvm.Cond.methodLink "CircuitCycles$Pile" (82 : Nat) ({ cls := "CircuitCycles$Pile", name := "same", desc := "()I" } : Jvm.MethodName)) ∈ lw_all := lw_g (lw_at lw_m5 94 rfl) rfl
theorem q1222 : (Jvm.Cond.privateMethod ({ cls := "CircuitCycles$Pile", name := "same", desc := "()I" } : Jvm.MethodName)) ∈ lw_tbl := lw_at lw_m5 95 rfl
theorem q1223 : (Jvm.Cond.instanceMethod ({ cls := "CircuitCycles$Pile", name := "same", desc := "()I" } : Jvm.MethodName)) ∈ lw_all := lw_g (lw_at lw_m5 96 rfl) rfl
theorem q1224 : (Jvm.Cond.code ({ cls := "CircuitCycles$Pile", name := "same", desc := "()I" } : Jvm.MethodName) prog_8_method_17_code (5 : Nat) (Option.some Jvm.ClassFile.FieldType.int)) ∈ lw_all := lw_g (lw_at lw_m5 97 rfl) rfl
theorem q1225 : (Jvm.Cond.methodLink "CircuitCycles$Pile" (85 : Nat) ({ cls := "CircuitCycles$Pile", name := "answer", desc := "(I)V" } : Jvm.MethodName)) ∈ lw_all := lw_g (lw_at lw_m5 98 rfl) rfl
theorem q1226 : (Jvm.Cond.privateMethod ({ cls := "CircuitCycles$Pile", name := "answer", desc := "(I)V" } : Jvm.MethodName)) ∈ lw_tbl := lw_at lw_m5 99 rfl
theorem q1227 : (Jvm.Cond.instanceMethod ({ cls := "CircuitCycles$Pile", name := "answer", desc := "(I)V" } : Jvm.MethodName)) ∈ lw_all := lw_g (lw_at lw_m5 100 rfl) rfl
theorem q1228 : (Jvm.Cond.code ({ cls := "CircuitCycles$Pile", name := "answer", desc := "(I)V" } : Jvm.MethodName) prog_8_method_18_code (2 : Nat) (Option.none : Option Jvm.ClassFile.FieldType)) ∈ lw_all := lw_g (lw_at lw_m5 101 rfl) rfl
theorem q1229 : (Jvm.Cond.methodLink "CircuitCycles$Pile" (88 : Nat) ({ cls := "CircuitCycles$Pile", name := "compared", desc := "(I)V" } : Jvm.MethodName)) ∈ lw_all := lw_g (lw_at lw_m5 102 rfl) rfl
theorem q1230 : (Jvm.Cond.privateMethod ({ cls := "CircuitCycles$Pile", name := "compared", desc := "(I)V" } : Jvm.MethodName)) ∈ lw_tbl := lw_at lw_m5 103 rfl
theorem q1231 : (Jvm.Cond.instanceMethod ({ cls := "CircuitCycles$Pile", name := "compared", desc := "(I)V" } : Jvm.MethodName)) ∈ lw_all := lw_g (lw_at lw_m5 104 rfl) rfl
theorem q1232 : (Jvm.Cond.code ({ cls := "CircuitCycles$Pile", name := "compared", desc := "(I)V" } : Jvm.MethodName) prog_8_method_20_code (8 : Nat) (Option.none : Option Jvm.ClassFile.FieldType)) ∈ lw_all := lw_g (lw_at lw_m5 105 rfl) rfl
theorem q1233 : (Jvm.Cond.methodLink "CircuitCycles$Pile" (95 : Nat) ({ cls := "CircuitCycles$Pile", name := "sum", desc := "(I)I" } : Jvm.MethodName)) ∈ lw_all := lw_g (lw_at lw_m5 106 rfl) rfl
theorem q1234 : (Jvm.Cond.privateMethod ({ cls := "CircuitCycles$Pile", name := "sum", desc := "(I)I" } : Jvm.MethodName)) ∈ lw_tbl := lw_at lw_m5 107 rfl
theorem q1235 : (Jvm.Cond.instanceMethod ({ cls := "CircuitCycles$Pile", name := "sum", desc := "(I)I" } : Jvm.MethodName)) ∈ lw_all := lw_g (lw_at lw_m5 108 rfl) rfl
theorem q1236 : (Jvm.Cond.code ({ cls := "CircuitCycles$Pile", name := "sum", desc := "(I)I" } : Jvm.MethodName) prog_8_method_13_code (10 : Nat) (Option.some Jvm.ClassFile.FieldType.int)) ∈ lw_all := lw_g (lw_at lw_m5 109 rfl) rfl
theorem q1237 : (Jvm.Cond.methodLink "CircuitCycles$Pile" (91 : Nat) ({ cls := "CircuitCycles$Pile", name := "moved", desc := "(Z)V" } : Jvm.MethodName)) ∈ lw_all := lw_g (lw_at lw_m5 110 rfl) rfl
theorem q1238 : (Jvm.Cond.privateMethod ({ cls := "CircuitCycles$Pile", name := "moved", desc := "(Z)V" } : Jvm.MethodName)) ∈ lw_tbl := lw_at lw_m5 111 rfl
theorem q1239 : (Jvm.Cond.instanceMethod ({ cls := "CircuitCycles$Pile", name := "moved", desc := "(Z)V" } : Jvm.MethodName)) ∈ lw_all := lw_g (lw_at lw_m5 112 rfl) rfl
theorem q1240 : (Jvm.Cond.code ({ cls := "CircuitCycles$Pile", name := "moved", desc := "(Z)V" } : Jvm.MethodName) prog_8_method_15_code (14 : Nat) (Option.none : Option Jvm.ClassFile.FieldType)) ∈ lw_all := lw_g (lw_at lw_m5 113 rfl) rfl
theorem q1241 : (Jvm.Cond.methodLink "CircuitCycles$Pile" (98 : Nat) ({ cls := "CircuitCycles$Pile", name := "product", desc := "()V" } : Jvm.MethodName)) ∈ lw_all := lw_g (lw_at lw_m5 114 rfl) rfl
theorem q1242 : (Jvm.Cond.privateMethod ({ cls := "CircuitCycles$Pile", name := "product", desc := "()V" } : Jvm.MethodName)) ∈ lw_tbl := lw_at lw_m5 115 rfl
theorem q1243 : (Jvm.Cond.instanceMethod ({ cls := "CircuitCycles$Pile", name := "product", desc := "()V" } : Jvm.MethodName)) ∈ lw_all := lw_g (lw_at lw_m5 116 rfl) rfl
theorem q1244 : (Jvm.Cond.code ({ cls := "CircuitCycles$Pile", name := "product", desc := "()V" } : Jvm.MethodName) prog_8_method_14_code (11 : Nat) (Option.none : Option Jvm.ClassFile.FieldType)) ∈ lw_all := lw_g (lw_at lw_m5 117 rfl) rfl
theorem q1246 : (Jvm.Cond.instanceMethod ({ cls := "CircuitCycles$Pile", name := "choice", desc := "()V" } : Jvm.MethodName)) ∈ lw_all := lw_g (lw_at lw_m5 119 rfl) rfl
theorem q1247 : (Jvm.Cond.selects "CircuitCycles$Pile" ({ cls := "CircuitCycles$Pile", name := "choice", desc := "()V" } : Jvm.MethodName) ({ cls := "CircuitCycles$Pile", name := "choice", desc := "()V" } : Jvm.MethodName)) ∈ lw_all := lw_g (lw_at lw_m5 120 rfl) rfl
theorem q1248 : (Jvm.Cond.code ({ cls := "CircuitCycles$Pile", name := "choice", desc := "()V" } : Jvm.MethodName) prog_8_method_21_code (7 : Nat) (Option.none : Option Jvm.ClassFile.FieldType)) ∈ lw_all := lw_g (lw_at lw_m5 121 rfl) rfl
theorem q1250 : (Jvm.Cond.instanceMethod ({ cls := "CircuitCycles$Pile", name := "together", desc := "(I)V" } : Jvm.MethodName)) ∈ lw_all := lw_g (lw_at lw_m5 123 rfl) rfl
theorem q1251 : (Jvm.Cond.selects "CircuitCycles$Pile" ({ cls := "CircuitCycles$Pile", name := "together", desc := "(I)V" } : Jvm.MethodName) ({ cls := "CircuitCycles$Pile", name := "together", desc := "(I)V" } : Jvm.MethodName)) ∈ lw_all := lw_g (lw_at lw_m5 124 rfl) rfl
theorem q1252 : (Jvm.Cond.code ({ cls := "CircuitCycles$Pile", name := "together", desc := "(I)V" } : Jvm.MethodName) prog_8_method_22_code (7 : Nat) (Option.none : Option Jvm.ClassFile.FieldType)) ∈ lw_all := lw_g (lw_at lw_m5 125 rfl) rfl
theorem q1254 : (Jvm.Cond.instanceMethod ({ cls := "CircuitCycles$Pile", name := "times", desc := "(I)V" } : Jvm.MethodName)) ∈ lw_all := lw_g (lw_at lw_m5 127 rfl) rfl
theorem q1255 : (Jvm.Cond.selects "CircuitCycles$Pile" ({ cls := "CircuitCycles$Pile", name := "times", desc := "(I)V" } : Jvm.MethodName) ({ cls := "CircuitCycles$Pile", name := "times", desc := "(I)V" } : Jvm.MethodName)) ∈ lw_all := lw_g (lw_at lw_m5 128 rfl) rfl
theorem q1256 : (Jvm.Cond.code ({ cls := "CircuitCycles$Pile", name := "times", desc := "(I)V" } : Jvm.MethodName) prog_8_method_23_code (5 : Nat) (Option.none : Option Jvm.ClassFile.FieldType)) ∈ lw_all := lw_g (lw_at lw_m5 129 rfl) rfl
theorem in_X8 : ∀ w ∈ wsX80, w ∈ lw_all := lw_in wsX80 [491, 493, 495] (by decide +kernel) (by decide +kernel)
/-! CircuitCycles$Cycle -/
set_option maxRecDepth 100000
def RX9 : String := "CircuitCycles$Cycle"
def TX9 : u_T := fun k => match k with
  | 0 => ("CircuitCycles$Cycle", "values", "[B", true)
  | 1 => ("CircuitCycles$Cycle", "state", "I", false)
  | 2 => ("CircuitCycles$Cycle", "input", "I", false)
  | _ => ("CircuitCycles$Cycle", "number", "I", false)
def tyX9 : Nat → FieldType := fun k => match k with
  | 0 => .array .byte
  | 1 => .int
  | 2 => .int
  | _ => .int
abbrev wsX90 : List Cond := u_ws RX9 TX9 4
theorem nmX9 : ∀ a, a < 4 → ∀ b, b < 4 → a ≠ b → (TX9 a).2.1 ≠ (TX9 b).2.1 := by decide +kernel
theorem tyX9_ok : ∀ k, k < 4 → parseFieldDescriptor (TX9 k).2.2.1 = some (tyX9 k) := by decide +kernel
abbrev cX9_init : ByteArray := prog_3_method_1_code
def yX9_init : MethodName := ⟨RX9, "<init>", "()V"⟩
abbrev cX9_begin : ByteArray := prog_3_method_5_code
def yX9_begin : MethodName := ⟨RX9, "begin", "(LCircuitCycles$Circuit;)V"⟩
abbrev cX9_reckon : ByteArray := prog_3_method_2_code
def yX9_reckon : MethodName := ⟨RX9, "reckon", "(LCircuitCycles$Circuit;)V"⟩
abbrev cX9_bit : ByteArray := prog_3_method_3_code
def yX9_bit : MethodName := ⟨RX9, "bit", "(I)I"⟩
abbrev cX9_next : ByteArray := prog_3_method_4_code
def yX9_next : MethodName := ⟨RX9, "next", "(LCircuitCycles$Circuit;)V"⟩
abbrev cX9_value : ByteArray := prog_3_method_6_code
def yX9_value : MethodName := ⟨RX9, "value", "(LCircuitCycles$Circuit;I)J"⟩
theorem q180 : (Jvm.Cond.initialized "CircuitCycles$Cycle") ∈ lw_all := lw_g (lw_at lw_m1 13 rfl) rfl
theorem q358 : (Jvm.Cond.fieldLinkNest "CircuitCycles$Cycle" (21 : Nat) "CircuitCycles$Row" "size" "I" "CircuitCycles") ∈ lw_tbl := lw_at lw_m1 191 rfl
theorem q460 : (Jvm.Cond.fieldLinkNest "CircuitCycles$Cycle" (51 : Nat) "CircuitCycles$Gates" "a" "[I" "CircuitCycles") ∈ lw_tbl := lw_at lw_m2 53 rfl
theorem q462 : (Jvm.Cond.fieldLinkNest "CircuitCycles$Cycle" (58 : Nat) "CircuitCycles$Gates" "b" "[I" "CircuitCycles") ∈ lw_tbl := lw_at lw_m2 55 rfl
theorem q466 : (Jvm.Cond.fieldLinkNest "CircuitCycles$Cycle" (44 : Nat) "CircuitCycles$Gates" "size" "I" "CircuitCycles") ∈ lw_tbl := lw_at lw_m2 59 rfl
theorem q504 : (Jvm.Cond.fieldLinkNest "CircuitCycles$Cycle" (40 : Nat) "CircuitCycles$Circuit" "g" "LCircuitCycles$Gates;" "CircuitCycles") ∈ lw_tbl := lw_at lw_m2 97 rfl
theorem q511 : (Jvm.Cond.fieldLinkNest "CircuitCycles$Cycle" (73 : Nat) "CircuitCycles$Circuit" "bits" "LCircuitCycles$Row;" "CircuitCycles") ∈ lw_tbl := lw_at lw_m2 104 rfl
theorem q517 : (Jvm.Cond.fieldLinkNest "CircuitCycles$Cycle" (15 : Nat) "CircuitCycles$Circuit" "inputs" "LCircuitCycles$Row;" "CircuitCycles") ∈ lw_tbl := lw_at lw_m2 110 rfl
theorem q520 : (Jvm.Cond.fieldLinkNest "CircuitCycles$Cycle" (34 : Nat) "CircuitCycles$Circuit" "states" "LCircuitCycles$Row;" "CircuitCycles") ∈ lw_tbl := lw_at lw_m2 113 rfl
theorem q523 : (Jvm.Cond.fieldLinkNest "CircuitCycles$Cycle" (61 : Nat) "CircuitCycles$Circuit" "nexts" "LCircuitCycles$Row;" "CircuitCycles") ∈ lw_tbl := lw_at lw_m2 116 rfl
theorem q524 : (Jvm.Cond.fieldLinkNest "CircuitCycles$Cycle" (67 : Nat) "CircuitCycles$Circuit" "begins" "I" "CircuitCycles") ∈ lw_tbl := lw_at lw_m2 117 rfl
theorem q590 : (Jvm.Cond.instantiable "CircuitCycles$Cycle" (4 : Nat)) ∈ lw_all := lw_g (lw_at lw_m2 183 rfl) rfl
theorem q592 : (Jvm.Cond.instanceMethod ({ cls := "CircuitCycles$Cycle", name := "<init>", desc := "()V" } : Jvm.MethodName)) ∈ lw_all := lw_g (lw_at lw_m2 185 rfl) rfl
theorem q593 : (Jvm.Cond.code ({ cls := "CircuitCycles$Cycle", name := "<init>", desc := "()V" } : Jvm.MethodName) prog_3_method_1_code (1 : Nat) (Option.none : Option Jvm.ClassFile.FieldType)) ∈ lw_all := lw_g (lw_at lw_m2 186 rfl) rfl
theorem q594 : (Jvm.Cond.methodLink "CircuitCycles$Cycle" (3 : Nat) ({ cls := "java/lang/Object", name := "<init>", desc := "()V" } : Jvm.MethodName)) ∈ lw_all := lw_g (lw_at lw_m2 187 rfl) rfl
theorem q595 : (Jvm.Cond.fieldLink "CircuitCycles$Cycle" (9 : Nat) "CircuitCycles$Cycle" "values" "[B") ∈ lw_all := lw_g (lw_at lw_m2 188 rfl) rfl
theorem q596 : (Jvm.Cond.fieldLink "CircuitCycles$Cycle" (37 : Nat) "CircuitCycles$Cycle" "state" "I") ∈ lw_all := lw_g (lw_at lw_m2 189 rfl) rfl
theorem q597 : (Jvm.Cond.fieldLink "CircuitCycles$Cycle" (31 : Nat) "CircuitCycles$Cycle" "input" "I") ∈ lw_all := lw_g (lw_at lw_m2 190 rfl) rfl
theorem q599 : (Jvm.Cond.fieldLink "CircuitCycles$Cycle" (64 : Nat) "CircuitCycles$Cycle" "number" "I") ∈ lw_all := lw_g (lw_at lw_m2 192 rfl) rfl
theorem q601 : (Jvm.Cond.laysFinal "CircuitCycles$Cycle" "CircuitCycles$Cycle" "values" "[B") ∈ lw_all := lw_g (lw_at lw_m2 194 rfl) rfl
theorem q602 : (Jvm.Cond.soleField "CircuitCycles$Cycle" "values") ∈ lw_all := lw_g (lw_at lw_m2 195 rfl) rfl
theorem q603 : (Jvm.Cond.lays "CircuitCycles$Cycle" "CircuitCycles$Cycle" "state" "I") ∈ lw_all := lw_g (lw_at lw_m2 196 rfl) rfl
theorem q604 : (Jvm.Cond.soleField "CircuitCycles$Cycle" "state") ∈ lw_all := lw_g (lw_at lw_m2 197 rfl) rfl
theorem q605 : (Jvm.Cond.lays "CircuitCycles$Cycle" "CircuitCycles$Cycle" "input" "I") ∈ lw_all := lw_g (lw_at lw_m2 198 rfl) rfl
theorem q606 : (Jvm.Cond.soleField "CircuitCycles$Cycle" "input") ∈ lw_all := lw_g (lw_at lw_m2 199 rfl) rfl
theorem q607 : (Jvm.Cond.lays "CircuitCycles$Cycle" "CircuitCycles$Cycle" "number" "I") ∈ lw_all := lw_g (lw_at lw_m2 200 rfl) rfl
theorem q608 : (Jvm.Cond.soleField "CircuitCycles$Cycle" "number") ∈ lw_all := lw_g (lw_at lw_m2 201 rfl) rfl
theorem q609 : (Jvm.Cond.superclass "CircuitCycles$Cycle" "java/lang/Object") ∈ lw_all := lw_g (lw_at lw_m2 202 rfl) rfl
theorem q1286 : (Jvm.Cond.instanceMethod ({ cls := "CircuitCycles$Cycle", name := "begin", desc := "(LCircuitCycles$Circuit;)V" } : Jvm.MethodName)) ∈ lw_all := lw_g (lw_at lw_m5 159 rfl) rfl
theorem q1287 : (Jvm.Cond.selects "CircuitCycles$Cycle" ({ cls := "CircuitCycles$Cycle", name := "begin", desc := "(LCircuitCycles$Circuit;)V" } : Jvm.MethodName) ({ cls := "CircuitCycles$Cycle", name := "begin", desc := "(LCircuitCycles$Circuit;)V" } : Jvm.MethodName)) ∈ lw_all := lw_g (lw_at lw_m5 160 rfl) rfl
theorem q1288 : (Jvm.Cond.code ({ cls := "CircuitCycles$Cycle", name := "begin", desc := "(LCircuitCycles$Circuit;)V" } : Jvm.MethodName) prog_3_method_5_code (2 : Nat) (Option.none : Option Jvm.ClassFile.FieldType)) ∈ lw_all := lw_g (lw_at lw_m5 161 rfl) rfl
theorem q1455 : (Jvm.Cond.instanceMethod ({ cls := "CircuitCycles$Cycle", name := "reckon", desc := "(LCircuitCycles$Circuit;)V" } : Jvm.MethodName)) ∈ lw_all := lw_g (lw_at lw_m6 88 rfl) rfl
theorem q1456 : (Jvm.Cond.selects "CircuitCycles$Cycle" ({ cls := "CircuitCycles$Cycle", name := "reckon", desc := "(LCircuitCycles$Circuit;)V" } : Jvm.MethodName) ({ cls := "CircuitCycles$Cycle", name := "reckon", desc := "(LCircuitCycles$Circuit;)V" } : Jvm.MethodName)) ∈ lw_all := lw_g (lw_at lw_m6 89 rfl) rfl
theorem q1457 : (Jvm.Cond.code ({ cls := "CircuitCycles$Cycle", name := "reckon", desc := "(LCircuitCycles$Circuit;)V" } : Jvm.MethodName) prog_3_method_2_code (3 : Nat) (Option.none : Option Jvm.ClassFile.FieldType)) ∈ lw_all := lw_g (lw_at lw_m6 90 rfl) rfl
theorem q1458 : (Jvm.Cond.methodLink "CircuitCycles$Cycle" (27 : Nat) ({ cls := "CircuitCycles$Row", name := "at", desc := "(I)I" } : Jvm.MethodName)) ∈ lw_all := lw_g (lw_at lw_m6 91 rfl) rfl
theorem q1459 : (Jvm.Cond.methodLink "CircuitCycles$Cycle" (47 : Nat) ({ cls := "CircuitCycles$Gates", name := "isFree", desc := "(I)Z" } : Jvm.MethodName)) ∈ lw_all := lw_g (lw_at lw_m6 92 rfl) rfl
theorem q1463 : (Jvm.Cond.methodLink "CircuitCycles$Cycle" (55 : Nat) ({ cls := "CircuitCycles$Cycle", name := "bit", desc := "(I)I" } : Jvm.MethodName)) ∈ lw_all := lw_g (lw_at lw_m6 96 rfl) rfl
theorem q1464 : (Jvm.Cond.instanceMethod ({ cls := "CircuitCycles$Cycle", name := "bit", desc := "(I)I" } : Jvm.MethodName)) ∈ lw_all := lw_g (lw_at lw_m6 97 rfl) rfl
theorem q1465 : (Jvm.Cond.selects "CircuitCycles$Cycle" ({ cls := "CircuitCycles$Cycle", name := "bit", desc := "(I)I" } : Jvm.MethodName) ({ cls := "CircuitCycles$Cycle", name := "bit", desc := "(I)I" } : Jvm.MethodName)) ∈ lw_all := lw_g (lw_at lw_m6 98 rfl) rfl
theorem q1466 : (Jvm.Cond.code ({ cls := "CircuitCycles$Cycle", name := "bit", desc := "(I)I" } : Jvm.MethodName) prog_3_method_3_code (2 : Nat) (Option.some Jvm.ClassFile.FieldType.int)) ∈ lw_all := lw_g (lw_at lw_m6 99 rfl) rfl
theorem q1468 : (Jvm.Cond.instanceMethod ({ cls := "CircuitCycles$Cycle", name := "next", desc := "(LCircuitCycles$Circuit;)V" } : Jvm.MethodName)) ∈ lw_all := lw_g (lw_at lw_m6 101 rfl) rfl
theorem q1469 : (Jvm.Cond.selects "CircuitCycles$Cycle" ({ cls := "CircuitCycles$Cycle", name := "next", desc := "(LCircuitCycles$Circuit;)V" } : Jvm.MethodName) ({ cls := "CircuitCycles$Cycle", name := "next", desc := "(LCircuitCycles$Circuit;)V" } : Jvm.MethodName)) ∈ lw_all := lw_g (lw_at lw_m6 102 rfl) rfl
theorem q1470 : (Jvm.Cond.code ({ cls := "CircuitCycles$Cycle", name := "next", desc := "(LCircuitCycles$Circuit;)V" } : Jvm.MethodName) prog_3_method_4_code (4 : Nat) (Option.none : Option Jvm.ClassFile.FieldType)) ∈ lw_all := lw_g (lw_at lw_m6 103 rfl) rfl
theorem q1479 : (Jvm.Cond.instanceMethod ({ cls := "CircuitCycles$Cycle", name := "value", desc := "(LCircuitCycles$Circuit;I)J" } : Jvm.MethodName)) ∈ lw_all := lw_g (lw_at lw_m6 112 rfl) rfl
theorem q1480 : (Jvm.Cond.selects "CircuitCycles$Cycle" ({ cls := "CircuitCycles$Cycle", name := "value", desc := "(LCircuitCycles$Circuit;I)J" } : Jvm.MethodName) ({ cls := "CircuitCycles$Cycle", name := "value", desc := "(LCircuitCycles$Circuit;I)J" } : Jvm.MethodName)) ∈ lw_all := lw_g (lw_at lw_m6 113 rfl) rfl
theorem q1481 : (Jvm.Cond.code ({ cls := "CircuitCycles$Cycle", name := "value", desc := "(LCircuitCycles$Circuit;I)J" } : Jvm.MethodName) prog_3_method_6_code (6 : Nat) (Option.some Jvm.ClassFile.FieldType.long)) ∈ lw_all := lw_g (lw_at lw_m6 114 rfl) rfl
theorem q1482 : (Jvm.Cond.methodLink "CircuitCycles$Cycle" (70 : Nat) ({ cls := "CircuitCycles$Circuit", name := "width", desc := "(I)I" } : Jvm.MethodName)) ∈ lw_all := lw_g (lw_at lw_m6 115 rfl) rfl
theorem q1483 : (Jvm.Cond.methodLink "CircuitCycles$Cycle" (76 : Nat) ({ cls := "CircuitCycles$Circuit", name := "first", desc := "(I)I" } : Jvm.MethodName)) ∈ lw_all := lw_g (lw_at lw_m6 116 rfl) rfl
theorem in_X9 : ∀ w ∈ wsX90, w ∈ lw_all := lw_in wsX90 [601, 603, 605, 607] (by decide +kernel) (by decide +kernel)
/-! CircuitCyclesModel -/
set_option maxRecDepth 100000
def RX10 : String := "CircuitCyclesModel"
def TX10 : u_T := fun k => match k with
  | 0 => ("CircuitCyclesModel", "thrown", "I", false)
  | 1 => ("CircuitCyclesModel", "tape", "[B", true)
  | 2 => ("CircuitCyclesModel", "size", "I", false)
  | 3 => ("CircuitCyclesModel", "fault", "I", false)
  | 4 => ("CircuitCyclesModel", "kinds", "[I", true)
  | 5 => ("CircuitCyclesModel", "begins", "[I", true)
  | 6 => ("CircuitCyclesModel", "ends", "[I", true)
  | 7 => ("CircuitCyclesModel", "tokens", "I", false)
  | 8 => ("CircuitCyclesModel", "t", "I", false)
  | 9 => ("CircuitCyclesModel", "wrong", "I", false)
  | 10 => ("CircuitCyclesModel", "wrongAt", "I", false)
  | 11 => ("CircuitCyclesModel", "deep", "I", false)
  | 12 => ("CircuitCyclesModel", "modules", "I", false)
  | 13 => ("CircuitCyclesModel", "moduleName", "[I", true)
  | 14 => ("CircuitCyclesModel", "firstSignal", "[I", true)
  | 15 => ("CircuitCyclesModel", "firstInstance", "[I", true)
  | 16 => ("CircuitCyclesModel", "firstAssert", "[I", true)
  | 17 => ("CircuitCyclesModel", "firstAlways", "[I", true)
  | 18 => ("CircuitCyclesModel", "locals", "I", false)
  | 19 => ("CircuitCyclesModel", "localName", "[I", true)
  | 20 => ("CircuitCyclesModel", "localWidth", "[I", true)
  | 21 => ("CircuitCyclesModel", "localKind", "[I", true)
  | 22 => ("CircuitCyclesModel", "localFirst", "[J", true)
  | 23 => ("CircuitCyclesModel", "driverKind", "[I", true)
  | 24 => ("CircuitCyclesModel", "driverFrom", "[I", true)
  | 25 => ("CircuitCyclesModel", "driverTo", "[I", true)
  | 26 => ("CircuitCyclesModel", "setIn", "[I", true)
  | 27 => ("CircuitCyclesModel", "items", "I", false)
  | 28 => ("CircuitCyclesModel", "itemModule", "[I", true)
  | 29 => ("CircuitCyclesModel", "itemName", "[I", true)
  | 30 => ("CircuitCyclesModel", "firstLink", "[I", true)
  | 31 => ("CircuitCyclesModel", "links", "I", false)
  | 32 => ("CircuitCyclesModel", "linkPort", "[I", true)
  | 33 => ("CircuitCyclesModel", "linkFrom", "[I", true)
  | 34 => ("CircuitCyclesModel", "linkTo", "[I", true)
  | 35 => ("CircuitCyclesModel", "asserts", "I", false)
  | 36 => ("CircuitCyclesModel", "assertFrom", "[I", true)
  | 37 => ("CircuitCyclesModel", "assertTo", "[I", true)
  | 38 => ("CircuitCyclesModel", "always", "I", false)
  | 39 => ("CircuitCyclesModel", "alwaysFrom", "[I", true)
  | 40 => ("CircuitCyclesModel", "alwaysTo", "[I", true)
  | 41 => ("CircuitCyclesModel", "code", "[I", false)
  | 42 => ("CircuitCyclesModel", "laid", "I", false)
  | 43 => ("CircuitCyclesModel", "numbers", "[J", false)
  | 44 => ("CircuitCyclesModel", "numberCount", "I", false)
  | 45 => ("CircuitCyclesModel", "moduleCost", "[J", true)
  | 46 => ("CircuitCyclesModel", "moduleInstances", "[J", true)
  | 47 => ("CircuitCyclesModel", "moduleSignals", "[J", true)
  | 48 => ("CircuitCyclesModel", "moduleBits", "[J", true)
  | 49 => ("CircuitCyclesModel", "waitOp", "[I", true)
  | 50 => ("CircuitCyclesModel", "waitAt", "[I", true)
  | 51 => ("CircuitCyclesModel", "waits", "I", false)
  | 52 => ("CircuitCyclesModel", "widths", "[I", true)
  | 53 => ("CircuitCyclesModel", "widthCount", "I", false)
  | 54 => ("CircuitCyclesModel", "there", "Z", false)
  | 55 => ("CircuitCyclesModel", "text", "[B", true)
  | 56 => ("CircuitCyclesModel", "instances", "I", false)
  | 57 => ("CircuitCyclesModel", "instanceModule", "[I", true)
  | 58 => ("CircuitCyclesModel", "instanceBase", "[I", true)
  | 59 => ("CircuitCyclesModel", "instanceUp", "[I", true)
  | 60 => ("CircuitCyclesModel", "instanceItem", "[I", true)
  | 61 => ("CircuitCyclesModel", "stack", "[I", true)
  | 62 => ("CircuitCyclesModel", "stackNext", "[I", true)
  | 63 => ("CircuitCyclesModel", "signals", "I", false)
  | 64 => ("CircuitCyclesModel", "signalLocal", "[I", true)
  | 65 => ("CircuitCyclesModel", "signalInstance", "[I", true)
  | 66 => ("CircuitCyclesModel", "ruleKind", "[I", true)
  | 67 => ("CircuitCyclesModel", "ruleFrom", "[I", true)
  | 68 => ("CircuitCyclesModel", "ruleTo", "[I", true)
  | 69 => ("CircuitCyclesModel", "ruleFor", "[I", true)
  | 70 => ("CircuitCyclesModel", "order", "[I", true)
  | 71 => ("CircuitCyclesModel", "ordered", "I", false)
  | 72 => ("CircuitCyclesModel", "ready", "[Z", true)
  | 73 => ("CircuitCyclesModel", "met", "[Z", true)
  | 74 => ("CircuitCyclesModel", "queue", "[I", true)
  | 75 => ("CircuitCyclesModel", "modulesThere", "I", false)
  | 76 => ("CircuitCyclesModel", "registerBits", "I", false)
  | 77 => ("CircuitCyclesModel", "inputBits", "I", false)
  | 78 => ("CircuitCyclesModel", "assertsThere", "I", false)
  | 79 => ("CircuitCyclesModel", "costThere", "J", false)
  | 80 => ("CircuitCyclesModel", "values", "[J", true)
  | 81 => ("CircuitCyclesModel", "nexts", "[J", true)
  | 82 => ("CircuitCyclesModel", "registers", "[J", true)
  | 83 => ("CircuitCyclesModel", "inputs", "[J", true)
  | 84 => ("CircuitCyclesModel", "pile", "[J", true)
  | 85 => ("CircuitCyclesModel", "high", "I", false)
  | 86 => ("CircuitCyclesModel", "cycle", "I", false)
  | 87 => ("CircuitCyclesModel", "valueFits", "Z", false)
  | 88 => ("CircuitCyclesModel", "tapeSize", "I", false)
  | 89 => ("CircuitCyclesModel", "textSize", "I", false)
  | _ => ("CircuitCyclesModel", "src", "[B", true)
def tyX10 : Nat → FieldType := fun k => match k with
  | 0 => .int
  | 1 => .array .byte
  | 2 => .int
  | 3 => .int
  | 4 => .array .int
  | 5 => .array .int
  | 6 => .array .int
  | 7 => .int
  | 8 => .int
  | 9 => .int
  | 10 => .int
  | 11 => .int
  | 12 => .int
  | 13 => .array .int
  | 14 => .array .int
  | 15 => .array .int
  | 16 => .array .int
  | 17 => .array .int
  | 18 => .int
  | 19 => .array .int
  | 20 => .array .int
  | 21 => .array .int
  | 22 => .array .long
  | 23 => .array .int
  | 24 => .array .int
  | 25 => .array .int
  | 26 => .array .int
  | 27 => .int
  | 28 => .array .int
  | 29 => .array .int
  | 30 => .array .int
  | 31 => .int
  | 32 => .array .int
  | 33 => .array .int
  | 34 => .array .int
  | 35 => .int
  | 36 => .array .int
  | 37 => .array .int
  | 38 => .int
  | 39 => .array .int
  | 40 => .array .int
  | 41 => .array .int
  | 42 => .int
  | 43 => .array .long
  | 44 => .int
  | 45 => .array .long
  | 46 => .array .long
  | 47 => .array .long
  | 48 => .array .long
  | 49 => .array .int
  | 50 => .array .int
  | 51 => .int
  | 52 => .array .int
  | 53 => .int
  | 54 => .boolean
  | 55 => .array .byte
  | 56 => .int
  | 57 => .array .int
  | 58 => .array .int
  | 59 => .array .int
  | 60 => .array .int
  | 61 => .array .int
  | 62 => .array .int
  | 63 => .int
  | 64 => .array .int
  | 65 => .array .int
  | 66 => .array .int
  | 67 => .array .int
  | 68 => .array .int
  | 69 => .array .int
  | 70 => .array .int
  | 71 => .int
  | 72 => .array .boolean
  | 73 => .array .boolean
  | 74 => .array .int
  | 75 => .int
  | 76 => .int
  | 77 => .int
  | 78 => .int
  | 79 => .long
  | 80 => .array .long
  | 81 => .array .long
  | 82 => .array .long
  | 83 => .array .long
  | 84 => .array .long
  | 85 => .int
  | 86 => .int
  | 87 => .boolean
  | 88 => .int
  | 89 => .int
  | _ => .array .byte
abbrev wsX100 : List Cond := u_ws RX10 TX10 91
set_option maxRecDepth 100000 in
theorem nmX10 : ∀ a, a < 91 → ∀ b, b < 91 → a ≠ b → (TX10 a).2.1 ≠ (TX10 b).2.1 := by decide +kernel
set_option maxRecDepth 100000 in
theorem tyX10_ok : ∀ k, k < 91 → parseFieldDescriptor (TX10 k).2.2.1 = some (tyX10 k) := by decide +kernel
abbrev cX10_init : ByteArray := prog_11_method_1_code
def yX10_init : MethodName := ⟨RX10, "<init>", "()V"⟩
abbrev cX10_thrown : ByteArray := prog_11_method_2_code
def yX10_thrown : MethodName := ⟨RX10, "thrown", "()I"⟩
abbrev cX10_read : ByteArray := prog_11_method_83_code
def yX10_read : MethodName := ⟨RX10, "read", "()I"⟩
abbrev cX10_readSource : ByteArray := prog_11_method_82_code
def yX10_readSource : MethodName := ⟨RX10, "readSource", "()V"⟩
abbrev cX10_cutTokens : ByteArray := prog_11_method_16_code
def yX10_cutTokens : MethodName := ⟨RX10, "cutTokens", "()V"⟩
abbrev cX10_skip : ByteArray := prog_11_method_7_code
def yX10_skip : MethodName := ⟨RX10, "skip", "(I)I"⟩
abbrev cX10_at : ByteArray := prog_11_method_3_code
def yX10_at : MethodName := ⟨RX10, "at", "(I)I"⟩
abbrev cX10_token : ByteArray := prog_11_method_15_code
def yX10_token : MethodName := ⟨RX10, "token", "(III)V"⟩
abbrev cX10_isLetter : ByteArray := prog_11_method_5_code
def yX10_isLetter : MethodName := ⟨RX10, "isLetter", "(I)Z"⟩
abbrev cX10_isIn : ByteArray := prog_11_method_6_code
def yX10_isIn : MethodName := ⟨RX10, "isIn", "(I)Z"⟩
abbrev cX10_isDigit : ByteArray := prog_11_method_4_code
def yX10_isDigit : MethodName := ⟨RX10, "isDigit", "(I)Z"⟩
abbrev cX10_wordKind : ByteArray := prog_11_method_8_code
def yX10_wordKind : MethodName := ⟨RX10, "wordKind", "(II)I"⟩
abbrev cX10_numberEnd : ByteArray := prog_11_method_12_code
def yX10_numberEnd : MethodName := ⟨RX10, "numberEnd", "(I)I"⟩
abbrev cX10_numberKind : ByteArray := prog_11_method_11_code
def yX10_numberKind : MethodName := ⟨RX10, "numberKind", "(II)I"⟩
abbrev cX10_read_2 : ByteArray := prog_11_method_10_code
def yX10_read_2 : MethodName := ⟨RX10, "read", "(IIII)J"⟩
abbrev cX10_digit : ByteArray := prog_11_method_9_code
def yX10_digit : MethodName := ⟨RX10, "digit", "(I)I"⟩
abbrev cX10_pair : ByteArray := prog_11_method_13_code
def yX10_pair : MethodName := ⟨RX10, "pair", "(II)I"⟩
abbrev cX10_isSign : ByteArray := prog_11_method_14_code
def yX10_isSign : MethodName := ⟨RX10, "isSign", "(I)Z"⟩
abbrev cX10_designGrammar : ByteArray := prog_11_method_39_code
def yX10_designGrammar : MethodName := ⟨RX10, "designGrammar", "()V"⟩
abbrev cX10_take : ByteArray := prog_11_method_23_code
def yX10_take : MethodName := ⟨RX10, "take", "(I)V"⟩
abbrev cX10_no : ByteArray := prog_11_method_22_code
def yX10_no : MethodName := ⟨RX10, "no", "()V"⟩
abbrev cX10_fail : ByteArray := prog_11_method_19_code
def yX10_fail : MethodName := ⟨RX10, "fail", "(II)V"⟩
abbrev cX10_open : ByteArray := prog_11_method_24_code
def yX10_open : MethodName := ⟨RX10, "open", "(I)V"⟩
abbrev cX10_is : ByteArray := prog_11_method_21_code
def yX10_is : MethodName := ⟨RX10, "is", "(I)Z"⟩
abbrev cX10_portGrammar : ByteArray := prog_11_method_34_code
def yX10_portGrammar : MethodName := ⟨RX10, "portGrammar", "()V"⟩
abbrev cX10_rangeGrammar : ByteArray := prog_11_method_32_code
def yX10_rangeGrammar : MethodName := ⟨RX10, "rangeGrammar", "()V"⟩
abbrev cX10_shut : ByteArray := prog_11_method_25_code
def yX10_shut : MethodName := ⟨RX10, "shut", "(I)V"⟩
abbrev cX10_beginGrammar : ByteArray := prog_11_method_33_code
def yX10_beginGrammar : MethodName := ⟨RX10, "beginGrammar", "()V"⟩
abbrev cX10_kind : ByteArray := prog_11_method_20_code
def yX10_kind : MethodName := ⟨RX10, "kind", "()I"⟩
abbrev cX10_itemGrammar : ByteArray := prog_11_method_37_code
def yX10_itemGrammar : MethodName := ⟨RX10, "itemGrammar", "()V"⟩
abbrev cX10_expGrammar : ByteArray := prog_11_method_28_code
def yX10_expGrammar : MethodName := ⟨RX10, "expGrammar", "()V"⟩
abbrev cX10_operandGrammar : ByteArray := prog_11_method_29_code
def yX10_operandGrammar : MethodName := ⟨RX10, "operandGrammar", "()V"⟩
abbrev cX10_isUnary : ByteArray := prog_11_method_26_code
def yX10_isUnary : MethodName := ⟨RX10, "isUnary", "(I)Z"⟩
abbrev cX10_partGrammar : ByteArray := prog_11_method_30_code
def yX10_partGrammar : MethodName := ⟨RX10, "partGrammar", "()V"⟩
abbrev cX10_bracesGrammar : ByteArray := prog_11_method_31_code
def yX10_bracesGrammar : MethodName := ⟨RX10, "bracesGrammar", "()V"⟩
abbrev cX10_rank : ByteArray := prog_11_method_27_code
def yX10_rank : MethodName := ⟨RX10, "rank", "(I)I"⟩
abbrev cX10_statementGrammar : ByteArray := prog_11_method_35_code
def yX10_statementGrammar : MethodName := ⟨RX10, "statementGrammar", "()V"⟩
abbrev cX10_caseGrammar : ByteArray := prog_11_method_36_code
def yX10_caseGrammar : MethodName := ⟨RX10, "caseGrammar", "()V"⟩
abbrev cX10_linkGrammar : ByteArray := prog_11_method_38_code
def yX10_linkGrammar : MethodName := ⟨RX10, "linkGrammar", "()V"⟩
abbrev cX10_design : ByteArray := prog_11_method_72_code
def yX10_design : MethodName := ⟨RX10, "design", "()V"⟩
abbrev cX10_module : ByteArray := prog_11_method_71_code
def yX10_module : MethodName := ⟨RX10, "module", "()V"⟩
abbrev cX10_moduleNamed : ByteArray := prog_11_method_41_code
def yX10_moduleNamed : MethodName := ⟨RX10, "moduleNamed", "(II)I"⟩
abbrev cX10_sameToken : ByteArray := prog_11_method_40_code
def yX10_sameToken : MethodName := ⟨RX10, "sameToken", "(II)Z"⟩
abbrev cX10_port : ByteArray := prog_11_method_58_code
def yX10_port : MethodName := ⟨RX10, "port", "()V"⟩
abbrev cX10_range : ByteArray := prog_11_method_56_code
def yX10_range : MethodName := ⟨RX10, "range", "()I"⟩
abbrev cX10_numberOf : ByteArray := prog_11_method_17_code
def yX10_numberOf : MethodName := ⟨RX10, "numberOf", "(I)J"⟩
abbrev cX10_declare : ByteArray := prog_11_method_57_code
def yX10_declare : MethodName := ⟨RX10, "declare", "(II)V"⟩
abbrev cX10_here : ByteArray := prog_11_method_43_code
def yX10_here : MethodName := ⟨RX10, "here", "(I)I"⟩
abbrev cX10_signalNamed : ByteArray := prog_11_method_42_code
def yX10_signalNamed : MethodName := ⟨RX10, "signalNamed", "(III)I"⟩
abbrev cX10_isInstanceName : ByteArray := prog_11_method_44_code
def yX10_isInstanceName : MethodName := ⟨RX10, "isInstanceName", "(I)Z"⟩
abbrev cX10_widthOfNumber : ByteArray := prog_11_method_18_code
def yX10_widthOfNumber : MethodName := ⟨RX10, "widthOfNumber", "(I)I"⟩
abbrev cX10_item : ByteArray := prog_11_method_69_code
def yX10_item : MethodName := ⟨RX10, "item", "()V"⟩
abbrev cX10_assign : ByteArray := prog_11_method_61_code
def yX10_assign : MethodName := ⟨RX10, "assign", "()V"⟩
abbrev cX10_isDriven : ByteArray := prog_11_method_59_code
def yX10_isDriven : MethodName := ⟨RX10, "isDriven", "(I)Z"⟩
abbrev cX10_exp : ByteArray := prog_11_method_48_code
def yX10_exp : MethodName := ⟨RX10, "exp", "()I"⟩
abbrev cX10_binary : ByteArray := prog_11_method_49_code
def yX10_binary : MethodName := ⟨RX10, "binary", "()I"⟩
abbrev cX10_operand : ByteArray := prog_11_method_52_code
def yX10_operand : MethodName := ⟨RX10, "operand", "()I"⟩
abbrev cX10_primary : ByteArray := prog_11_method_53_code
def yX10_primary : MethodName := ⟨RX10, "primary", "()I"⟩
abbrev cX10_keepNumber : ByteArray := prog_11_method_47_code
def yX10_keepNumber : MethodName := ⟨RX10, "keepNumber", "(J)I"⟩
abbrev cX10_lay : ByteArray := prog_11_method_46_code
def yX10_lay : MethodName := ⟨RX10, "lay", "(III)V"⟩
abbrev cX10_braces : ByteArray := prog_11_method_55_code
def yX10_braces : MethodName := ⟨RX10, "braces", "(I)I"⟩
abbrev cX10_part : ByteArray := prog_11_method_54_code
def yX10_part : MethodName := ⟨RX10, "part", "(I)I"⟩
abbrev cX10_cost : ByteArray := prog_11_method_45_code
def yX10_cost : MethodName := ⟨RX10, "cost", "(J)V"⟩
abbrev cX10_pushWidth : ByteArray := prog_11_method_50_code
def yX10_pushWidth : MethodName := ⟨RX10, "pushWidth", "(I)V"⟩
abbrev cX10_reckon : ByteArray := prog_11_method_51_code
def yX10_reckon : MethodName := ⟨RX10, "reckon", "()V"⟩
abbrev cX10_statement : ByteArray := prog_11_method_62_code
def yX10_statement : MethodName := ⟨RX10, "statement", "()V"⟩
abbrev cX10_caseOf : ByteArray := prog_11_method_63_code
def yX10_caseOf : MethodName := ⟨RX10, "caseOf", "()V"⟩
abbrev cX10_patch : ByteArray := prog_11_method_64_code
def yX10_patch : MethodName := ⟨RX10, "patch", "(I)V"⟩
abbrev cX10_setting : ByteArray := prog_11_method_65_code
def yX10_setting : MethodName := ⟨RX10, "setting", "()V"⟩
abbrev cX10_isRegister : ByteArray := prog_11_method_60_code
def yX10_isRegister : MethodName := ⟨RX10, "isRegister", "(I)Z"⟩
abbrev cX10_instance : ByteArray := prog_11_method_66_code
def yX10_instance : MethodName := ⟨RX10, "instance", "()V"⟩
abbrev cX10_link : ByteArray := prog_11_method_68_code
def yX10_link : MethodName := ⟨RX10, "link", "(I)V"⟩
abbrev cX10_linkOf : ByteArray := prog_11_method_67_code
def yX10_linkOf : MethodName := ⟨RX10, "linkOf", "(III)I"⟩
abbrev cX10_most : ByteArray := prog_11_method_70_code
def yX10_most : MethodName := ⟨RX10, "most", "(J)J"⟩
abbrev cX10_limits : ByteArray := prog_11_method_73_code
def yX10_limits : MethodName := ⟨RX10, "limits", "()V"⟩
abbrev cX10_bound : ByteArray := prog_11_method_74_code
def yX10_bound : MethodName := ⟨RX10, "bound", "(ZII)V"⟩
abbrev cX10_writeOut : ByteArray := prog_11_method_75_code
def yX10_writeOut : MethodName := ⟨RX10, "writeOut", "()V"⟩
abbrev cX10_begin : ByteArray := prog_11_method_76_code
def yX10_begin : MethodName := ⟨RX10, "begin", "(III)V"⟩
abbrev cX10_findRule : ByteArray := prog_11_method_78_code
def yX10_findRule : MethodName := ⟨RX10, "findRule", "(I)V"⟩
abbrev cX10_signalOf : ByteArray := prog_11_method_77_code
def yX10_signalOf : MethodName := ⟨RX10, "signalOf", "(II)I"⟩
abbrev cX10_putInOrder : ByteArray := prog_11_method_80_code
def yX10_putInOrder : MethodName := ⟨RX10, "putInOrder", "()V"⟩
abbrev cX10_canBe : ByteArray := prog_11_method_79_code
def yX10_canBe : MethodName := ⟨RX10, "canBe", "(I)Z"⟩
abbrev cX10_dependsOnItself : ByteArray := prog_11_method_81_code
def yX10_dependsOnItself : MethodName := ⟨RX10, "dependsOnItself", "(I)Z"⟩
abbrev cX10_sumUp : ByteArray := prog_11_method_84_code
def yX10_sumUp : MethodName := ⟨RX10, "sumUp", "()V"⟩
abbrev cX10_begin0 : ByteArray := prog_11_method_95_code
def yX10_begin0 : MethodName := ⟨RX10, "begin0", "()V"⟩
abbrev cX10_settle : ByteArray := prog_11_method_92_code
def yX10_settle : MethodName := ⟨RX10, "settle", "([J[J)V"⟩
abbrev cX10_run : ByteArray := prog_11_method_91_code
def yX10_run : MethodName := ⟨RX10, "run", "(III)V"⟩
abbrev cX10_push : ByteArray := prog_11_method_90_code
def yX10_push : MethodName := ⟨RX10, "push", "(J)V"⟩
abbrev cX10_pop : ByteArray := prog_11_method_89_code
def yX10_pop : MethodName := ⟨RX10, "pop", "()J"⟩
abbrev cX10_mask : ByteArray := prog_11_method_85_code
def yX10_mask : MethodName := ⟨RX10, "mask", "(I)J"⟩
abbrev cX10_one : ByteArray := prog_11_method_88_code
def yX10_one : MethodName := ⟨RX10, "one", "(IIJ)J"⟩
abbrev cX10_two : ByteArray := prog_11_method_87_code
def yX10_two : MethodName := ⟨RX10, "two", "(IIJJ)J"⟩
abbrev cX10_below : ByteArray := prog_11_method_86_code
def yX10_below : MethodName := ⟨RX10, "below", "(JJ)Z"⟩
abbrev cX10_feed : ByteArray := prog_11_method_97_code
def yX10_feed : MethodName := ⟨RX10, "feed", "(IIIII)I"⟩
abbrev cX10_end : ByteArray := prog_11_method_98_code
def yX10_end : MethodName := ⟨RX10, "end", "(I)V"⟩
abbrev cX10_fault : ByteArray := prog_11_method_99_code
def yX10_fault : MethodName := ⟨RX10, "fault", "()I"⟩
abbrev cX10_count : ByteArray := prog_11_method_100_code
def yX10_count : MethodName := ⟨RX10, "count", "(I)I"⟩
abbrev cX10_find : ByteArray := prog_11_method_103_code
def yX10_find : MethodName := ⟨RX10, "find", "()I"⟩
abbrev cX10_isNamed : ByteArray := prog_11_method_102_code
def yX10_isNamed : MethodName := ⟨RX10, "isNamed", "(I)Z"⟩
abbrev cX10_goesOn : ByteArray := prog_11_method_101_code
def yX10_goesOn : MethodName := ⟨RX10, "goesOn", "(II)Z"⟩
abbrev cX10_signal : ByteArray := prog_11_method_105_code
def yX10_signal : MethodName := ⟨RX10, "signal", "(II)I"⟩
abbrev cX10_isSignal : ByteArray := prog_11_method_96_code
def yX10_isSignal : MethodName := ⟨RX10, "isSignal", "(I)Z"⟩
abbrev cX10_kindOf : ByteArray := prog_11_method_104_code
def yX10_kindOf : MethodName := ⟨RX10, "kindOf", "(I)I"⟩
abbrev cX10_reset : ByteArray := prog_11_method_106_code
def yX10_reset : MethodName := ⟨RX10, "reset", "()V"⟩
abbrev cX10_set : ByteArray := prog_11_method_107_code
def yX10_set : MethodName := ⟨RX10, "set", "(II)V"⟩
abbrev cX10_step : ByteArray := prog_11_method_108_code
def yX10_step : MethodName := ⟨RX10, "step", "()I"⟩
abbrev cX10_goOn : ByteArray := prog_11_method_93_code
def yX10_goOn : MethodName := ⟨RX10, "goOn", "([J)V"⟩
abbrev cX10_value : ByteArray := prog_11_method_109_code
def yX10_value : MethodName := ⟨RX10, "value", "(I)J"⟩
abbrev cX10_failing : ByteArray := prog_11_method_110_code
def yX10_failing : MethodName := ⟨RX10, "failing", "()I"⟩
abbrev cX10_failingNow : ByteArray := prog_11_method_94_code
def yX10_failingNow : MethodName := ⟨RX10, "failingNow", "()I"⟩
theorem q181 : (Jvm.Cond.initialized "CircuitCyclesModel") ∈ lw_all := lw_g (lw_at lw_m1 14 rfl) rfl
theorem q1493 : (Jvm.Cond.instantiable "CircuitCyclesModel" (91 : Nat)) ∈ lw_all := lw_g (lw_at lw_m6 126 rfl) rfl
theorem q1495 : (Jvm.Cond.instanceMethod ({ cls := "CircuitCyclesModel", name := "<init>", desc := "()V" } : Jvm.MethodName)) ∈ lw_all := lw_g (lw_at lw_m6 128 rfl) rfl
theorem q1496 : (Jvm.Cond.code ({ cls := "CircuitCyclesModel", name := "<init>", desc := "()V" } : Jvm.MethodName) prog_11_method_1_code (1 : Nat) (Option.none : Option Jvm.ClassFile.FieldType)) ∈ lw_all := lw_g (lw_at lw_m6 129 rfl) rfl
theorem q1497 : (Jvm.Cond.methodLink "CircuitCyclesModel" (1 : Nat) ({ cls := "java/lang/Object", name := "<init>", desc := "()V" } : Jvm.MethodName)) ∈ lw_all := lw_g (lw_at lw_m6 130 rfl) rfl
theorem q1498 : (Jvm.Cond.constant "CircuitCyclesModel" (7 : Nat) (65536 : Int32)) ∈ lw_all := lw_g (lw_at lw_m6 131 rfl) rfl
theorem q1499 : (Jvm.Cond.constant "CircuitCyclesModel" (14 : Nat) (65540 : Int32)) ∈ lw_all := lw_g (lw_at lw_m6 132 rfl) rfl
theorem q1500 : (Jvm.Cond.fieldLink "CircuitCyclesModel" (192 : Nat) "CircuitCyclesModel" "thrown" "I") ∈ lw_all := lw_g (lw_at lw_m6 133 rfl) rfl
theorem q1501 : (Jvm.Cond.fieldLink "CircuitCyclesModel" (8 : Nat) "CircuitCyclesModel" "tape" "[B") ∈ lw_all := lw_g (lw_at lw_m6 134 rfl) rfl
theorem q1502 : (Jvm.Cond.fieldLink "CircuitCyclesModel" (196 : Nat) "CircuitCyclesModel" "size" "I") ∈ lw_all := lw_g (lw_at lw_m6 135 rfl) rfl
theorem q1503 : (Jvm.Cond.fieldLink "CircuitCyclesModel" (542 : Nat) "CircuitCyclesModel" "fault" "I") ∈ lw_all := lw_g (lw_at lw_m6 136 rfl) rfl
theorem q1504 : (Jvm.Cond.fieldLink "CircuitCyclesModel" (15 : Nat) "CircuitCyclesModel" "kinds" "[I") ∈ lw_all := lw_g (lw_at lw_m6 137 rfl) rfl
theorem q1505 : (Jvm.Cond.fieldLink "CircuitCyclesModel" (19 : Nat) "CircuitCyclesModel" "begins" "[I") ∈ lw_all := lw_g (lw_at lw_m6 138 rfl) rfl
theorem q1506 : (Jvm.Cond.fieldLink "CircuitCyclesModel" (22 : Nat) "CircuitCyclesModel" "ends" "[I") ∈ lw_all := lw_g (lw_at lw_m6 139 rfl) rfl
theorem q1507 : (Jvm.Cond.fieldLink "CircuitCyclesModel" (231 : Nat) "CircuitCyclesModel" "tokens" "I") ∈ lw_all := lw_g (lw_at lw_m6 140 rfl) rfl
theorem q1508 : (Jvm.Cond.fieldLink "CircuitCyclesModel" (263 : Nat) "CircuitCyclesModel" "t" "I") ∈ lw_all := lw_g (lw_at lw_m6 141 rfl) rfl
theorem q1509 : (Jvm.Cond.fieldLink "CircuitCyclesModel" (257 : Nat) "CircuitCyclesModel" "wrong" "I") ∈ lw_all := lw_g (lw_at lw_m6 142 rfl) rfl
theorem q1510 : (Jvm.Cond.fieldLink "CircuitCyclesModel" (260 : Nat) "CircuitCyclesModel" "wrongAt" "I") ∈ lw_all := lw_g (lw_at lw_m6 143 rfl) rfl
theorem q1511 : (Jvm.Cond.fieldLink "CircuitCyclesModel" (276 : Nat) "CircuitCyclesModel" "deep" "I") ∈ lw_all := lw_g (lw_at lw_m6 144 rfl) rfl
theorem q1512 : (Jvm.Cond.fieldLink "CircuitCyclesModel" (336 : Nat) "CircuitCyclesModel" "modules" "I") ∈ lw_all := lw_g (lw_at lw_m6 145 rfl) rfl
theorem q1513 : (Jvm.Cond.fieldLink "CircuitCyclesModel" (25 : Nat) "CircuitCyclesModel" "moduleName" "[I") ∈ lw_all := lw_g (lw_at lw_m6 146 rfl) rfl
theorem q1514 : (Jvm.Cond.fieldLink "CircuitCyclesModel" (28 : Nat) "CircuitCyclesModel" "firstSignal" "[I") ∈ lw_all := lw_g (lw_at lw_m6 147 rfl) rfl
theorem q1515 : (Jvm.Cond.fieldLink "CircuitCyclesModel" (31 : Nat) "CircuitCyclesModel" "firstInstance" "[I") ∈ lw_all := lw_g (lw_at lw_m6 148 rfl) rfl
theorem q1516 : (Jvm.Cond.fieldLink "CircuitCyclesModel" (34 : Nat) "CircuitCyclesModel" "firstAssert" "[I") ∈ lw_all := lw_g (lw_at lw_m6 149 rfl) rfl
theorem q1517 : (Jvm.Cond.fieldLink "CircuitCyclesModel" (37 : Nat) "CircuitCyclesModel" "firstAlways" "[I") ∈ lw_all := lw_g (lw_at lw_m6 150 rfl) rfl
theorem q1518 : (Jvm.Cond.fieldLink "CircuitCyclesModel" (339 : Nat) "CircuitCyclesModel" "locals" "I") ∈ lw_all := lw_g (lw_at lw_m6 151 rfl) rfl
theorem q1519 : (Jvm.Cond.fieldLink "CircuitCyclesModel" (40 : Nat) "CircuitCyclesModel" "localName" "[I") ∈ lw_all := lw_g (lw_at lw_m6 152 rfl) rfl
theorem q1520 : (Jvm.Cond.fieldLink "CircuitCyclesModel" (43 : Nat) "CircuitCyclesModel" "localWidth" "[I") ∈ lw_all := lw_g (lw_at lw_m6 153 rfl) rfl
theorem q1521 : (Jvm.Cond.fieldLink "CircuitCyclesModel" (46 : Nat) "CircuitCyclesModel" "localKind" "[I") ∈ lw_all := lw_g (lw_at lw_m6 154 rfl) rfl
theorem q1522 : (Jvm.Cond.fieldLink "CircuitCyclesModel" (49 : Nat) "CircuitCyclesModel" "localFirst" "[J") ∈ lw_all := lw_g (lw_at lw_m6 155 rfl) rfl
theorem q1523 : (Jvm.Cond.fieldLink "CircuitCyclesModel" (53 : Nat) "CircuitCyclesModel" "driverKind" "[I") ∈ lw_all := lw_g (lw_at lw_m6 156 rfl) rfl
theorem q1524 : (Jvm.Cond.fieldLink "CircuitCyclesModel" (56 : Nat) "CircuitCyclesModel" "driverFrom" "[I") ∈ lw_all := lw_g (lw_at lw_m6 157 rfl) rfl
theorem q1525 : (Jvm.Cond.fieldLink "CircuitCyclesModel" (59 : Nat) "CircuitCyclesModel" "driverTo" "[I") ∈ lw_all := lw_g (lw_at lw_m6 158 rfl) rfl
theorem q1526 : (Jvm.Cond.fieldLink "CircuitCyclesModel" (62 : Nat) "CircuitCyclesModel" "setIn" "[I") ∈ lw_all := lw_g (lw_at lw_m6 159 rfl) rfl
theorem q1527 : (Jvm.Cond.fieldLink "CircuitCyclesModel" (346 : Nat) "CircuitCyclesModel" "items" "I") ∈ lw_all := lw_g (lw_at lw_m6 160 rfl) rfl
theorem q1528 : (Jvm.Cond.fieldLink "CircuitCyclesModel" (65 : Nat) "CircuitCyclesModel" "itemModule" "[I") ∈ lw_all := lw_g (lw_at lw_m6 161 rfl) rfl
theorem q1529 : (Jvm.Cond.fieldLink "CircuitCyclesModel" (68 : Nat) "CircuitCyclesModel" "itemName" "[I") ∈ lw_all := lw_g (lw_at lw_m6 162 rfl) rfl
theorem q1530 : (Jvm.Cond.fieldLink "CircuitCyclesModel" (71 : Nat) "CircuitCyclesModel" "firstLink" "[I") ∈ lw_all := lw_g (lw_at lw_m6 163 rfl) rfl
theorem q1531 : (Jvm.Cond.fieldLink "CircuitCyclesModel" (441 : Nat) "CircuitCyclesModel" "links" "I") ∈ lw_all := lw_g (lw_at lw_m6 164 rfl) rfl
theorem q1532 : (Jvm.Cond.fieldLink "CircuitCyclesModel" (74 : Nat) "CircuitCyclesModel" "linkPort" "[I") ∈ lw_all := lw_g (lw_at lw_m6 165 rfl) rfl
theorem q1533 : (Jvm.Cond.fieldLink "CircuitCyclesModel" (77 : Nat) "CircuitCyclesModel" "linkFrom" "[I") ∈ lw_all := lw_g (lw_at lw_m6 166 rfl) rfl
theorem q1534 : (Jvm.Cond.fieldLink "CircuitCyclesModel" (80 : Nat) "CircuitCyclesModel" "linkTo" "[I") ∈ lw_all := lw_g (lw_at lw_m6 167 rfl) rfl
theorem q1535 : (Jvm.Cond.fieldLink "CircuitCyclesModel" (453 : Nat) "CircuitCyclesModel" "asserts" "I") ∈ lw_all := lw_g (lw_at lw_m6 168 rfl) rfl
theorem q1536 : (Jvm.Cond.fieldLink "CircuitCyclesModel" (83 : Nat) "CircuitCyclesModel" "assertFrom" "[I") ∈ lw_all := lw_g (lw_at lw_m6 169 rfl) rfl
theorem q1537 : (Jvm.Cond.fieldLink "CircuitCyclesModel" (86 : Nat) "CircuitCyclesModel" "assertTo" "[I") ∈ lw_all := lw_g (lw_at lw_m6 170 rfl) rfl
theorem q1538 : (Jvm.Cond.fieldLink "CircuitCyclesModel" (435 : Nat) "CircuitCyclesModel" "always" "I") ∈ lw_all := lw_g (lw_at lw_m6 171 rfl) rfl
theorem q1539 : (Jvm.Cond.fieldLink "CircuitCyclesModel" (89 : Nat) "CircuitCyclesModel" "alwaysFrom" "[I") ∈ lw_all := lw_g (lw_at lw_m6 172 rfl) rfl
theorem q1540 : (Jvm.Cond.fieldLink "CircuitCyclesModel" (92 : Nat) "CircuitCyclesModel" "alwaysTo" "[I") ∈ lw_all := lw_g (lw_at lw_m6 173 rfl) rfl
theorem q1541 : (Jvm.Cond.fieldLink "CircuitCyclesModel" (95 : Nat) "CircuitCyclesModel" "code" "[I") ∈ lw_all := lw_g (lw_at lw_m6 174 rfl) rfl
theorem q1542 : (Jvm.Cond.fieldLink "CircuitCyclesModel" (349 : Nat) "CircuitCyclesModel" "laid" "I") ∈ lw_all := lw_g (lw_at lw_m6 175 rfl) rfl
theorem q1543 : (Jvm.Cond.fieldLink "CircuitCyclesModel" (98 : Nat) "CircuitCyclesModel" "numbers" "[J") ∈ lw_all := lw_g (lw_at lw_m6 176 rfl) rfl
theorem q1544 : (Jvm.Cond.fieldLink "CircuitCyclesModel" (352 : Nat) "CircuitCyclesModel" "numberCount" "I") ∈ lw_all := lw_g (lw_at lw_m6 177 rfl) rfl
theorem q1545 : (Jvm.Cond.fieldLink "CircuitCyclesModel" (101 : Nat) "CircuitCyclesModel" "moduleCost" "[J") ∈ lw_all := lw_g (lw_at lw_m6 178 rfl) rfl
theorem q1546 : (Jvm.Cond.fieldLink "CircuitCyclesModel" (104 : Nat) "CircuitCyclesModel" "moduleInstances" "[J") ∈ lw_all := lw_g (lw_at lw_m6 179 rfl) rfl
theorem q1547 : (Jvm.Cond.fieldLink "CircuitCyclesModel" (107 : Nat) "CircuitCyclesModel" "moduleSignals" "[J") ∈ lw_all := lw_g (lw_at lw_m6 180 rfl) rfl
theorem q1548 : (Jvm.Cond.fieldLink "CircuitCyclesModel" (110 : Nat) "CircuitCyclesModel" "moduleBits" "[J") ∈ lw_all := lw_g (lw_at lw_m6 181 rfl) rfl
theorem q1549 : (Jvm.Cond.fieldLink "CircuitCyclesModel" (113 : Nat) "CircuitCyclesModel" "waitOp" "[I") ∈ lw_all := lw_g (lw_at lw_m6 182 rfl) rfl
theorem q1550 : (Jvm.Cond.fieldLink "CircuitCyclesModel" (116 : Nat) "CircuitCyclesModel" "waitAt" "[I") ∈ lw_all := lw_g (lw_at lw_m6 183 rfl) rfl
theorem q1551 : (Jvm.Cond.fieldLink "CircuitCyclesModel" (368 : Nat) "CircuitCyclesModel" "waits" "I") ∈ lw_all := lw_g (lw_at lw_m6 184 rfl) rfl
theorem q1552 : (Jvm.Cond.fieldLink "CircuitCyclesModel" (119 : Nat) "CircuitCyclesModel" "widths" "[I") ∈ lw_all := lw_g (lw_at lw_m6 185 rfl) rfl
theorem q1553 : (Jvm.Cond.fieldLink "CircuitCyclesModel" (380 : Nat) "CircuitCyclesModel" "widthCount" "I") ∈ lw_all := lw_g (lw_at lw_m6 186 rfl) rfl
theorem q1554 : (Jvm.Cond.fieldLink "CircuitCyclesModel" (545 : Nat) "CircuitCyclesModel" "there" "Z") ∈ lw_all := lw_g (lw_at lw_m6 187 rfl) rfl
theorem q1555 : (Jvm.Cond.fieldLink "CircuitCyclesModel" (122 : Nat) "CircuitCyclesModel" "text" "[B") ∈ lw_all := lw_g (lw_at lw_m6 188 rfl) rfl
theorem q1556 : (Jvm.Cond.fieldLink "CircuitCyclesModel" (494 : Nat) "CircuitCyclesModel" "instances" "I") ∈ lw_all := lw_g (lw_at lw_m6 189 rfl) rfl
theorem q1557 : (Jvm.Cond.fieldLink "CircuitCyclesModel" (125 : Nat) "CircuitCyclesModel" "instanceModule" "[I") ∈ lw_all := lw_g (lw_at lw_m6 190 rfl) rfl
theorem q1558 : (Jvm.Cond.fieldLink "CircuitCyclesModel" (128 : Nat) "CircuitCyclesModel" "instanceBase" "[I") ∈ lw_all := lw_g (lw_at lw_m6 191 rfl) rfl
theorem q1559 : (Jvm.Cond.fieldLink "CircuitCyclesModel" (131 : Nat) "CircuitCyclesModel" "instanceUp" "[I") ∈ lw_all := lw_g (lw_at lw_m6 192 rfl) rfl
theorem q1560 : (Jvm.Cond.fieldLink "CircuitCyclesModel" (134 : Nat) "CircuitCyclesModel" "instanceItem" "[I") ∈ lw_all := lw_g (lw_at lw_m6 193 rfl) rfl
theorem q1561 : (Jvm.Cond.fieldLink "CircuitCyclesModel" (137 : Nat) "CircuitCyclesModel" "stack" "[I") ∈ lw_all := lw_g (lw_at lw_m6 194 rfl) rfl
theorem q1562 : (Jvm.Cond.fieldLink "CircuitCyclesModel" (140 : Nat) "CircuitCyclesModel" "stackNext" "[I") ∈ lw_all := lw_g (lw_at lw_m6 195 rfl) rfl
theorem q1563 : (Jvm.Cond.fieldLink "CircuitCyclesModel" (497 : Nat) "CircuitCyclesModel" "signals" "I") ∈ lw_all := lw_g (lw_at lw_m6 196 rfl) rfl
theorem q1564 : (Jvm.Cond.fieldLink "CircuitCyclesModel" (143 : Nat) "CircuitCyclesModel" "signalLocal" "[I") ∈ lw_all := lw_g (lw_at lw_m6 197 rfl) rfl
theorem q1565 : (Jvm.Cond.fieldLink "CircuitCyclesModel" (146 : Nat) "CircuitCyclesModel" "signalInstance" "[I") ∈ lw_all := lw_g (lw_at lw_m6 198 rfl) rfl
theorem q1566 : (Jvm.Cond.fieldLink "CircuitCyclesModel" (149 : Nat) "CircuitCyclesModel" "ruleKind" "[I") ∈ lw_all := lw_g (lw_at lw_m6 199 rfl) rfl
theorem q1567 : (Jvm.Cond.fieldLink "CircuitCyclesModel" (152 : Nat) "CircuitCyclesModel" "ruleFrom" "[I") ∈ lw_all := lw_g (lw_at lw_m6 200 rfl) rfl
theorem q1568 : (Jvm.Cond.fieldLink "CircuitCyclesModel" (155 : Nat) "CircuitCyclesModel" "ruleTo" "[I") ∈ lw_all := lw_g (lw_at lw_m6 201 rfl) rfl
theorem q1569 : (Jvm.Cond.fieldLink "CircuitCyclesModel" (158 : Nat) "CircuitCyclesModel" "ruleFor" "[I") ∈ lw_all := lw_g (lw_at lw_m6 202 rfl) rfl
theorem q1570 : (Jvm.Cond.fieldLink "CircuitCyclesModel" (161 : Nat) "CircuitCyclesModel" "order" "[I") ∈ lw_all := lw_g (lw_at lw_m6 203 rfl) rfl
theorem q1571 : (Jvm.Cond.fieldLink "CircuitCyclesModel" (509 : Nat) "CircuitCyclesModel" "ordered" "I") ∈ lw_all := lw_g (lw_at lw_m6 204 rfl) rfl
theorem q1572 : (Jvm.Cond.fieldLink "CircuitCyclesModel" (164 : Nat) "CircuitCyclesModel" "ready" "[Z") ∈ lw_all := lw_g (lw_at lw_m6 205 rfl) rfl
theorem q1573 : (Jvm.Cond.fieldLink "CircuitCyclesModel" (168 : Nat) "CircuitCyclesModel" "met" "[Z") ∈ lw_all := lw_g (lw_at lw_m6 206 rfl) rfl
theorem q1574 : (Jvm.Cond.fieldLink "CircuitCyclesModel" (171 : Nat) "CircuitCyclesModel" "queue" "[I") ∈ lw_all := lw_g (lw_at lw_m6 207 rfl) rfl
theorem q1575 : (Jvm.Cond.fieldLink "CircuitCyclesModel" (557 : Nat) "CircuitCyclesModel" "modulesThere" "I") ∈ lw_all := lw_g (lw_at lw_m6 208 rfl) rfl
theorem q1576 : (Jvm.Cond.fieldLink "CircuitCyclesModel" (560 : Nat) "CircuitCyclesModel" "registerBits" "I") ∈ lw_all := lw_g (lw_at lw_m6 209 rfl) rfl
theorem q1577 : (Jvm.Cond.fieldLink "CircuitCyclesModel" (567 : Nat) "CircuitCyclesModel" "inputBits" "I") ∈ lw_all := lw_g (lw_at lw_m6 210 rfl) rfl
theorem q1578 : (Jvm.Cond.fieldLink "CircuitCyclesModel" (570 : Nat) "CircuitCyclesModel" "assertsThere" "I") ∈ lw_all := lw_g (lw_at lw_m6 211 rfl) rfl
theorem q1579 : (Jvm.Cond.fieldLink "CircuitCyclesModel" (563 : Nat) "CircuitCyclesModel" "costThere" "J") ∈ lw_all := lw_g (lw_at lw_m6 212 rfl) rfl
theorem q1580 : (Jvm.Cond.fieldLink "CircuitCyclesModel" (174 : Nat) "CircuitCyclesModel" "values" "[J") ∈ lw_all := lw_g (lw_at lw_m6 213 rfl) rfl
theorem q1581 : (Jvm.Cond.fieldLink "CircuitCyclesModel" (177 : Nat) "CircuitCyclesModel" "nexts" "[J") ∈ lw_all := lw_g (lw_at lw_m6 214 rfl) rfl
theorem q1582 : (Jvm.Cond.fieldLink "CircuitCyclesModel" (180 : Nat) "CircuitCyclesModel" "registers" "[J") ∈ lw_all := lw_g (lw_at lw_m6 215 rfl) rfl
theorem q1583 : (Jvm.Cond.fieldLink "CircuitCyclesModel" (183 : Nat) "CircuitCyclesModel" "inputs" "[J") ∈ lw_all := lw_g (lw_at lw_m6 216 rfl) rfl
theorem q1584 : (Jvm.Cond.fieldLink "CircuitCyclesModel" (186 : Nat) "CircuitCyclesModel" "pile" "[J") ∈ lw_all := lw_g (lw_at lw_m6 217 rfl) rfl
theorem q1585 : (Jvm.Cond.fieldLink "CircuitCyclesModel" (584 : Nat) "CircuitCyclesModel" "high" "I") ∈ lw_all := lw_g (lw_at lw_m6 218 rfl) rfl
theorem q1586 : (Jvm.Cond.fieldLink "CircuitCyclesModel" (605 : Nat) "CircuitCyclesModel" "cycle" "I") ∈ lw_all := lw_g (lw_at lw_m6 219 rfl) rfl
theorem q1587 : (Jvm.Cond.fieldLink "CircuitCyclesModel" (218 : Nat) "CircuitCyclesModel" "valueFits" "Z") ∈ lw_all := lw_g (lw_at lw_m6 220 rfl) rfl
theorem q1588 : (Jvm.Cond.fieldLink "CircuitCyclesModel" (536 : Nat) "CircuitCyclesModel" "tapeSize" "I") ∈ lw_all := lw_g (lw_at lw_m6 221 rfl) rfl
theorem q1589 : (Jvm.Cond.fieldLink "CircuitCyclesModel" (548 : Nat) "CircuitCyclesModel" "textSize" "I") ∈ lw_all := lw_g (lw_at lw_m6 222 rfl) rfl
theorem q1590 : (Jvm.Cond.fieldLink "CircuitCyclesModel" (189 : Nat) "CircuitCyclesModel" "src" "[B") ∈ lw_all := lw_g (lw_at lw_m6 223 rfl) rfl
theorem q1591 : (Jvm.Cond.lays "CircuitCyclesModel" "CircuitCyclesModel" "thrown" "I") ∈ lw_all := lw_g (lw_at lw_m6 224 rfl) rfl
theorem q1592 : (Jvm.Cond.soleField "CircuitCyclesModel" "thrown") ∈ lw_all := lw_g (lw_at lw_m6 225 rfl) rfl
theorem q1593 : (Jvm.Cond.laysFinal "CircuitCyclesModel" "CircuitCyclesModel" "tape" "[B") ∈ lw_all := lw_g (lw_at lw_m6 226 rfl) rfl
theorem q1594 : (Jvm.Cond.soleField "CircuitCyclesModel" "tape") ∈ lw_all := lw_g (lw_at lw_m6 227 rfl) rfl
theorem q1595 : (Jvm.Cond.lays "CircuitCyclesModel" "CircuitCyclesModel" "size" "I") ∈ lw_all := lw_g (lw_at lw_m6 228 rfl) rfl
theorem q1596 : (Jvm.Cond.soleField "CircuitCyclesModel" "size") ∈ lw_all := lw_g (lw_at lw_m6 229 rfl) rfl
theorem q1597 : (Jvm.Cond.lays "CircuitCyclesModel" "CircuitCyclesModel" "fault" "I") ∈ lw_all := lw_g (lw_at lw_m6 230 rfl) rfl
theorem q1598 : (Jvm.Cond.soleField "CircuitCyclesModel" "fault") ∈ lw_all := lw_g (lw_at lw_m6 231 rfl) rfl
theorem q1599 : (Jvm.Cond.laysFinal "CircuitCyclesModel" "CircuitCyclesModel" "kinds" "[I") ∈ lw_all := lw_g (lw_at lw_m6 232 rfl) rfl
theorem q1600 : (Jvm.Cond.soleField "CircuitCyclesModel" "kinds") ∈ lw_all := lw_g (lw_at lw_m6 233 rfl) rfl
theorem q1601 : (Jvm.Cond.laysFinal "CircuitCyclesModel" "CircuitCyclesModel" "begins" "[I") ∈ lw_all := lw_g (lw_at lw_m6 234 rfl) rfl
theorem q1602 : (Jvm.Cond.soleField "CircuitCyclesModel" "begins") ∈ lw_all := lw_g (lw_at lw_m6 235 rfl) rfl
theorem q1603 : (Jvm.Cond.laysFinal "CircuitCyclesModel" "CircuitCyclesModel" "ends" "[I") ∈ lw_all := lw_g (lw_at lw_m6 236 rfl) rfl
theorem q1604 : (Jvm.Cond.soleField "CircuitCyclesModel" "ends") ∈ lw_all := lw_g (lw_at lw_m6 237 rfl) rfl
theorem q1605 : (Jvm.Cond.lays "CircuitCyclesModel" "CircuitCyclesModel" "tokens" "I") ∈ lw_all := lw_g (lw_at lw_m6 238 rfl) rfl
theorem q1606 : (Jvm.Cond.soleField "CircuitCyclesModel" "tokens") ∈ lw_all := lw_g (lw_at lw_m6 239 rfl) rfl
theorem q1607 : (Jvm.Cond.lays "CircuitCyclesModel" "CircuitCyclesModel" "t" "I") ∈ lw_all := lw_g (lw_at lw_m7 0 rfl) rfl
theorem q1608 : (Jvm.Cond.soleField "CircuitCyclesModel" "t") ∈ lw_all := lw_g (lw_at lw_m7 1 rfl) rfl
theorem q1609 : (Jvm.Cond.lays "CircuitCyclesModel" "CircuitCyclesModel" "wrong" "I") ∈ lw_all := lw_g (lw_at lw_m7 2 rfl) rfl
theorem q1610 : (Jvm.Cond.soleField "CircuitCyclesModel" "wrong") ∈ lw_all := lw_g (lw_at lw_m7 3 rfl) rfl
theorem q1611 : (Jvm.Cond.lays "CircuitCyclesModel" "CircuitCyclesModel" "wrongAt" "I") ∈ lw_all := lw_g (lw_at lw_m7 4 rfl) rfl
theorem q1612 : (Jvm.Cond.soleField "CircuitCyclesModel" "wrongAt") ∈ lw_all := lw_g (lw_at lw_m7 5 rfl) rfl
theorem q1613 : (Jvm.Cond.lays "CircuitCyclesModel" "CircuitCyclesModel" "deep" "I") ∈ lw_all := lw_g (lw_at lw_m7 6 rfl) rfl
theorem q1614 : (Jvm.Cond.soleField "CircuitCyclesModel" "deep") ∈ lw_all := lw_g (lw_at lw_m7 7 rfl) rfl
theorem q1615 : (Jvm.Cond.lays "CircuitCyclesModel" "CircuitCyclesModel" "modules" "I") ∈ lw_all := lw_g (lw_at lw_m7 8 rfl) rfl
theorem q1616 : (Jvm.Cond.soleField "CircuitCyclesModel" "modules") ∈ lw_all := lw_g (lw_at lw_m7 9 rfl) rfl
theorem q1617 : (Jvm.Cond.laysFinal "CircuitCyclesModel" "CircuitCyclesModel" "moduleName" "[I") ∈ lw_all := lw_g (lw_at lw_m7 10 rfl) rfl
theorem q1618 : (Jvm.Cond.soleField "CircuitCyclesModel" "moduleName") ∈ lw_all := lw_g (lw_at lw_m7 11 rfl) rfl
theorem q1619 : (Jvm.Cond.laysFinal "CircuitCyclesModel" "CircuitCyclesModel" "firstSignal" "[I") ∈ lw_all := lw_g (lw_at lw_m7 12 rfl) rfl
theorem q1620 : (Jvm.Cond.soleField "CircuitCyclesModel" "firstSignal") ∈ lw_all := lw_g (lw_at lw_m7 13 rfl) rfl
theorem q1621 : (Jvm.Cond.laysFinal "CircuitCyclesModel" "CircuitCyclesModel" "firstInstance" "[I") ∈ lw_all := lw_g (lw_at lw_m7 14 rfl) rfl
theorem q1622 : (Jvm.Cond.soleField "CircuitCyclesModel" "firstInstance") ∈ lw_all := lw_g (lw_at lw_m7 15 rfl) rfl
theorem q1623 : (Jvm.Cond.laysFinal "CircuitCyclesModel" "CircuitCyclesModel" "firstAssert" "[I") ∈ lw_all := lw_g (lw_at lw_m7 16 rfl) rfl
theorem q1624 : (Jvm.Cond.soleField "CircuitCyclesModel" "firstAssert") ∈ lw_all := lw_g (lw_at lw_m7 17 rfl) rfl
theorem q1625 : (Jvm.Cond.laysFinal "CircuitCyclesModel" "CircuitCyclesModel" "firstAlways" "[I") ∈ lw_all := lw_g (lw_at lw_m7 18 rfl) rfl
theorem q1626 : (Jvm.Cond.soleField "CircuitCyclesModel" "firstAlways") ∈ lw_all := lw_g (lw_at lw_m7 19 rfl) rfl
theorem q1627 : (Jvm.Cond.lays "CircuitCyclesModel" "CircuitCyclesModel" "locals" "I") ∈ lw_all := lw_g (lw_at lw_m7 20 rfl) rfl
theorem q1628 : (Jvm.Cond.soleField "CircuitCyclesModel" "locals") ∈ lw_all := lw_g (lw_at lw_m7 21 rfl) rfl
theorem q1629 : (Jvm.Cond.laysFinal "CircuitCyclesModel" "CircuitCyclesModel" "localName" "[I") ∈ lw_all := lw_g (lw_at lw_m7 22 rfl) rfl
theorem q1630 : (Jvm.Cond.soleField "CircuitCyclesModel" "localName") ∈ lw_all := lw_g (lw_at lw_m7 23 rfl) rfl
theorem q1631 : (Jvm.Cond.laysFinal "CircuitCyclesModel" "CircuitCyclesModel" "localWidth" "[I") ∈ lw_all := lw_g (lw_at lw_m7 24 rfl) rfl
theorem q1632 : (Jvm.Cond.soleField "CircuitCyclesModel" "localWidth") ∈ lw_all := lw_g (lw_at lw_m7 25 rfl) rfl
theorem q1633 : (Jvm.Cond.laysFinal "CircuitCyclesModel" "CircuitCyclesModel" "localKind" "[I") ∈ lw_all := lw_g (lw_at lw_m7 26 rfl) rfl
theorem q1634 : (Jvm.Cond.soleField "CircuitCyclesModel" "localKind") ∈ lw_all := lw_g (lw_at lw_m7 27 rfl) rfl
theorem q1635 : (Jvm.Cond.laysFinal "CircuitCyclesModel" "CircuitCyclesModel" "localFirst" "[J") ∈ lw_all := lw_g (lw_at lw_m7 28 rfl) rfl
theorem q1636 : (Jvm.Cond.soleField "CircuitCyclesModel" "localFirst") ∈ lw_all := lw_g (lw_at lw_m7 29 rfl) rfl
theorem q1637 : (Jvm.Cond.laysFinal "CircuitCyclesModel" "CircuitCyclesModel" "driverKind" "[I") ∈ lw_all := lw_g (lw_at lw_m7 30 rfl) rfl
theorem q1638 : (Jvm.Cond.soleField "CircuitCyclesModel" "driverKind") ∈ lw_all := lw_g (lw_at lw_m7 31 rfl) rfl
theorem q1639 : (Jvm.Cond.laysFinal "CircuitCyclesModel" "CircuitCyclesModel" "driverFrom" "[I") ∈ lw_all := lw_g (lw_at lw_m7 32 rfl) rfl
theorem q1640 : (Jvm.Cond.soleField "CircuitCyclesModel" "driverFrom") ∈ lw_all := lw_g (lw_at lw_m7 33 rfl) rfl
theorem q1641 : (Jvm.Cond.laysFinal "CircuitCyclesModel" "CircuitCyclesModel" "driverTo" "[I") ∈ lw_all := lw_g (lw_at lw_m7 34 rfl) rfl
theorem q1642 : (Jvm.Cond.soleField "CircuitCyclesModel" "driverTo") ∈ lw_all := lw_g (lw_at lw_m7 35 rfl) rfl
theorem q1643 : (Jvm.Cond.laysFinal "CircuitCyclesModel" "CircuitCyclesModel" "setIn" "[I") ∈ lw_all := lw_g (lw_at lw_m7 36 rfl) rfl
theorem q1644 : (Jvm.Cond.soleField "CircuitCyclesModel" "setIn") ∈ lw_all := lw_g (lw_at lw_m7 37 rfl) rfl
theorem q1645 : (Jvm.Cond.lays "CircuitCyclesModel" "CircuitCyclesModel" "items" "I") ∈ lw_all := lw_g (lw_at lw_m7 38 rfl) rfl
theorem q1646 : (Jvm.Cond.soleField "CircuitCyclesModel" "items") ∈ lw_all := lw_g (lw_at lw_m7 39 rfl) rfl
theorem q1647 : (Jvm.Cond.laysFinal "CircuitCyclesModel" "CircuitCyclesModel" "itemModule" "[I") ∈ lw_all := lw_g (lw_at lw_m7 40 rfl) rfl
theorem q1648 : (Jvm.Cond.soleField "CircuitCyclesModel" "itemModule") ∈ lw_all := lw_g (lw_at lw_m7 41 rfl) rfl
theorem q1649 : (Jvm.Cond.laysFinal "CircuitCyclesModel" "CircuitCyclesModel" "itemName" "[I") ∈ lw_all := lw_g (lw_at lw_m7 42 rfl) rfl
theorem q1650 : (Jvm.Cond.soleField "CircuitCyclesModel" "itemName") ∈ lw_all := lw_g (lw_at lw_m7 43 rfl) rfl
theorem q1651 : (Jvm.Cond.laysFinal "CircuitCyclesModel" "CircuitCyclesModel" "firstLink" "[I") ∈ lw_all := lw_g (lw_at lw_m7 44 rfl) rfl
theorem q1652 : (Jvm.Cond.soleField "CircuitCyclesModel" "firstLink") ∈ lw_all := lw_g (lw_at lw_m7 45 rfl) rfl
theorem q1653 : (Jvm.Cond.lays "CircuitCyclesModel" "CircuitCyclesModel" "links" "I") ∈ lw_all := lw_g (lw_at lw_m7 46 rfl) rfl
theorem q1654 : (Jvm.Cond.soleField "CircuitCyclesModel" "links") ∈ lw_all := lw_g (lw_at lw_m7 47 rfl) rfl
theorem q1655 : (Jvm.Cond.laysFinal "CircuitCyclesModel" "CircuitCyclesModel" "linkPort" "[I") ∈ lw_all := lw_g (lw_at lw_m7 48 rfl) rfl
theorem q1656 : (Jvm.Cond.soleField "CircuitCyclesModel" "linkPort") ∈ lw_all := lw_g (lw_at lw_m7 49 rfl) rfl
theorem q1657 : (Jvm.Cond.laysFinal "CircuitCyclesModel" "CircuitCyclesModel" "linkFrom" "[I") ∈ lw_all := lw_g (lw_at lw_m7 50 rfl) rfl
theorem q1658 : (Jvm.Cond.soleField "CircuitCyclesModel" "linkFrom") ∈ lw_all := lw_g (lw_at lw_m7 51 rfl) rfl
theorem q1659 : (Jvm.Cond.laysFinal "CircuitCyclesModel" "CircuitCyclesModel" "linkTo" "[I") ∈ lw_all := lw_g (lw_at lw_m7 52 rfl) rfl
theorem q1660 : (Jvm.Cond.soleField "CircuitCyclesModel" "linkTo") ∈ lw_all := lw_g (lw_at lw_m7 53 rfl) rfl
theorem q1661 : (Jvm.Cond.lays "CircuitCyclesModel" "CircuitCyclesModel" "asserts" "I") ∈ lw_all := lw_g (lw_at lw_m7 54 rfl) rfl
theorem q1662 : (Jvm.Cond.soleField "CircuitCyclesModel" "asserts") ∈ lw_all := lw_g (lw_at lw_m7 55 rfl) rfl
theorem q1663 : (Jvm.Cond.laysFinal "CircuitCyclesModel" "CircuitCyclesModel" "assertFrom" "[I") ∈ lw_all := lw_g (lw_at lw_m7 56 rfl) rfl
theorem q1664 : (Jvm.Cond.soleField "CircuitCyclesModel" "assertFrom") ∈ lw_all := lw_g (lw_at lw_m7 57 rfl) rfl
theorem q1665 : (Jvm.Cond.laysFinal "CircuitCyclesModel" "CircuitCyclesModel" "assertTo" "[I") ∈ lw_all := lw_g (lw_at lw_m7 58 rfl) rfl
theorem q1666 : (Jvm.Cond.soleField "CircuitCyclesModel" "assertTo") ∈ lw_all := lw_g (lw_at lw_m7 59 rfl) rfl
theorem q1667 : (Jvm.Cond.lays "CircuitCyclesModel" "CircuitCyclesModel" "always" "I") ∈ lw_all := lw_g (lw_at lw_m7 60 rfl) rfl
theorem q1668 : (Jvm.Cond.soleField "CircuitCyclesModel" "always") ∈ lw_all := lw_g (lw_at lw_m7 61 rfl) rfl
theorem q1669 : (Jvm.Cond.laysFinal "CircuitCyclesModel" "CircuitCyclesModel" "alwaysFrom" "[I") ∈ lw_all := lw_g (lw_at lw_m7 62 rfl) rfl
theorem q1670 : (Jvm.Cond.soleField "CircuitCyclesModel" "alwaysFrom") ∈ lw_all := lw_g (lw_at lw_m7 63 rfl) rfl
theorem q1671 : (Jvm.Cond.laysFinal "CircuitCyclesModel" "CircuitCyclesModel" "alwaysTo" "[I") ∈ lw_all := lw_g (lw_at lw_m7 64 rfl) rfl
theorem q1672 : (Jvm.Cond.soleField "CircuitCyclesModel" "alwaysTo") ∈ lw_all := lw_g (lw_at lw_m7 65 rfl) rfl
theorem q1673 : (Jvm.Cond.lays "CircuitCyclesModel" "CircuitCyclesModel" "code" "[I") ∈ lw_all := lw_g (lw_at lw_m7 66 rfl) rfl
theorem q1674 : (Jvm.Cond.soleField "CircuitCyclesModel" "code") ∈ lw_all := lw_g (lw_at lw_m7 67 rfl) rfl
theorem q1675 : (Jvm.Cond.lays "CircuitCyclesModel" "CircuitCyclesModel" "laid" "I") ∈ lw_all := lw_g (lw_at lw_m7 68 rfl) rfl
theorem q1676 : (Jvm.Cond.soleField "CircuitCyclesModel" "laid") ∈ lw_all := lw_g (lw_at lw_m7 69 rfl) rfl
theorem q1677 : (Jvm.Cond.lays "CircuitCyclesModel" "CircuitCyclesModel" "numbers" "[J") ∈ lw_all := lw_g (lw_at lw_m7 70 rfl) rfl
theorem q1678 : (Jvm.Cond.soleField "CircuitCyclesModel" "numbers") ∈ lw_all := lw_g (lw_at lw_m7 71 rfl) rfl
theorem q1679 : (Jvm.Cond.lays "CircuitCyclesModel" "CircuitCyclesModel" "numberCount" "I") ∈ lw_all := lw_g (lw_at lw_m7 72 rfl) rfl
theorem q1680 : (Jvm.Cond.soleField "CircuitCyclesModel" "numberCount") ∈ lw_all := lw_g (lw_at lw_m7 73 rfl) rfl
theorem q1681 : (Jvm.Cond.laysFinal "CircuitCyclesModel" "CircuitCyclesModel" "moduleCost" "[J") ∈ lw_all := lw_g (lw_at lw_m7 74 rfl) rfl
theorem q1682 : (Jvm.Cond.soleField "CircuitCyclesModel" "moduleCost") ∈ lw_all := lw_g (lw_at lw_m7 75 rfl) rfl
theorem q1683 : (Jvm.Cond.laysFinal "CircuitCyclesModel" "CircuitCyclesModel" "moduleInstances" "[J") ∈ lw_all := lw_g (lw_at lw_m7 76 rfl) rfl
theorem q1684 : (Jvm.Cond.soleField "CircuitCyclesModel" "moduleInstances") ∈ lw_all := lw_g (lw_at lw_m7 77 rfl) rfl
theorem q1685 : (Jvm.Cond.laysFinal "CircuitCyclesModel" "CircuitCyclesModel" "moduleSignals" "[J") ∈ lw_all := lw_g (lw_at lw_m7 78 rfl) rfl
theorem q1686 : (Jvm.Cond.soleField "CircuitCyclesModel" "moduleSignals") ∈ lw_all := lw_g (lw_at lw_m7 79 rfl) rfl
theorem q1687 : (Jvm.Cond.laysFinal "CircuitCyclesModel" "CircuitCyclesModel" "moduleBits" "[J") ∈ lw_all := lw_g (lw_at lw_m7 80 rfl) rfl
theorem q1688 : (Jvm.Cond.soleField "CircuitCyclesModel" "moduleBits") ∈ lw_all := lw_g (lw_at lw_m7 81 rfl) rfl
theorem q1689 : (Jvm.Cond.laysFinal "CircuitCyclesModel" "CircuitCyclesModel" "waitOp" "[I") ∈ lw_all := lw_g (lw_at lw_m7 82 rfl) rfl
theorem q1690 : (Jvm.Cond.soleField "CircuitCyclesModel" "waitOp") ∈ lw_all := lw_g (lw_at lw_m7 83 rfl) rfl
theorem q1691 : (Jvm.Cond.laysFinal "CircuitCyclesModel" "CircuitCyclesModel" "waitAt" "[I") ∈ lw_all := lw_g (lw_at lw_m7 84 rfl) rfl
theorem q1692 : (Jvm.Cond.soleField "CircuitCyclesModel" "waitAt") ∈ lw_all := lw_g (lw_at lw_m7 85 rfl) rfl
theorem q1693 : (Jvm.Cond.lays "CircuitCyclesModel" "CircuitCyclesModel" "waits" "I") ∈ lw_all := lw_g (lw_at lw_m7 86 rfl) rfl
theorem q1694 : (Jvm.Cond.soleField "CircuitCyclesModel" "waits") ∈ lw_all := lw_g (lw_at lw_m7 87 rfl) rfl
theorem q1695 : (Jvm.Cond.laysFinal "CircuitCyclesModel" "CircuitCyclesModel" "widths" "[I") ∈ lw_all := lw_g (lw_at lw_m7 88 rfl) rfl
theorem q1696 : (Jvm.Cond.soleField "CircuitCyclesModel" "widths") ∈ lw_all := lw_g (lw_at lw_m7 89 rfl) rfl
theorem q1697 : (Jvm.Cond.lays "CircuitCyclesModel" "CircuitCyclesModel" "widthCount" "I") ∈ lw_all := lw_g (lw_at lw_m7 90 rfl) rfl
theorem q1698 : (Jvm.Cond.soleField "CircuitCyclesModel" "widthCount") ∈ lw_all := lw_g (lw_at lw_m7 91 rfl) rfl
theorem q1699 : (Jvm.Cond.lays "CircuitCyclesModel" "CircuitCyclesModel" "there" "Z") ∈ lw_all := lw_g (lw_at lw_m7 92 rfl) rfl
theorem q1700 : (Jvm.Cond.soleField "CircuitCyclesModel" "there") ∈ lw_all := lw_g (lw_at lw_m7 93 rfl) rfl
theorem q1701 : (Jvm.Cond.laysFinal "CircuitCyclesModel" "CircuitCyclesModel" "text" "[B") ∈ lw_all := lw_g (lw_at lw_m7 94 rfl) rfl
theorem q1702 : (Jvm.Cond.soleField "CircuitCyclesModel" "text") ∈ lw_all := lw_g (lw_at lw_m7 95 rfl) rfl
theorem q1703 : (Jvm.Cond.lays "CircuitCyclesModel" "CircuitCyclesModel" "instances" "I") ∈ lw_all := lw_g (lw_at lw_m7 96 rfl) rfl
theorem q1704 : (Jvm.Cond.soleField "CircuitCyclesModel" "instances") ∈ lw_all := lw_g (lw_at lw_m7 97 rfl) rfl
theorem q1705 : (Jvm.Cond.laysFinal "CircuitCyclesModel" "CircuitCyclesModel" "instanceModule" "[I") ∈ lw_all := lw_g (lw_at lw_m7 98 rfl) rfl
theorem q1706 : (Jvm.Cond.soleField "CircuitCyclesModel" "instanceModule") ∈ lw_all := lw_g (lw_at lw_m7 99 rfl) rfl
theorem q1707 : (Jvm.Cond.laysFinal "CircuitCyclesModel" "CircuitCyclesModel" "instanceBase" "[I") ∈ lw_all := lw_g (lw_at lw_m7 100 rfl) rfl
theorem q1708 : (Jvm.Cond.soleField "CircuitCyclesModel" "instanceBase") ∈ lw_all := lw_g (lw_at lw_m7 101 rfl) rfl
theorem q1709 : (Jvm.Cond.laysFinal "CircuitCyclesModel" "CircuitCyclesModel" "instanceUp" "[I") ∈ lw_all := lw_g (lw_at lw_m7 102 rfl) rfl
theorem q1710 : (Jvm.Cond.soleField "CircuitCyclesModel" "instanceUp") ∈ lw_all := lw_g (lw_at lw_m7 103 rfl) rfl
theorem q1711 : (Jvm.Cond.laysFinal "CircuitCyclesModel" "CircuitCyclesModel" "instanceItem" "[I") ∈ lw_all := lw_g (lw_at lw_m7 104 rfl) rfl
theorem q1712 : (Jvm.Cond.soleField "CircuitCyclesModel" "instanceItem") ∈ lw_all := lw_g (lw_at lw_m7 105 rfl) rfl
theorem q1713 : (Jvm.Cond.laysFinal "CircuitCyclesModel" "CircuitCyclesModel" "stack" "[I") ∈ lw_all := lw_g (lw_at lw_m7 106 rfl) rfl
theorem q1714 : (Jvm.Cond.soleField "CircuitCyclesModel" "stack") ∈ lw_all := lw_g (lw_at lw_m7 107 rfl) rfl
theorem q1715 : (Jvm.Cond.laysFinal "CircuitCyclesModel" "CircuitCyclesModel" "stackNext" "[I") ∈ lw_all := lw_g (lw_at lw_m7 108 rfl) rfl
theorem q1716 : (Jvm.Cond.soleField "CircuitCyclesModel" "stackNext") ∈ lw_all := lw_g (lw_at lw_m7 109 rfl) rfl
theorem q1717 : (Jvm.Cond.lays "CircuitCyclesModel" "CircuitCyclesModel" "signals" "I") ∈ lw_all := lw_g (lw_at lw_m7 110 rfl) rfl
theorem q1718 : (Jvm.Cond.soleField "CircuitCyclesModel" "signals") ∈ lw_all := lw_g (lw_at lw_m7 111 rfl) rfl
theorem q1719 : (Jvm.Cond.laysFinal "CircuitCyclesModel" "CircuitCyclesModel" "signalLocal" "[I") ∈ lw_all := lw_g (lw_at lw_m7 112 rfl) rfl
theorem q1720 : (Jvm.Cond.soleField "CircuitCyclesModel" "signalLocal") ∈ lw_all := lw_g (lw_at lw_m7 113 rfl) rfl
theorem q1721 : (Jvm.Cond.laysFinal "CircuitCyclesModel" "CircuitCyclesModel" "signalInstance" "[I") ∈ lw_all := lw_g (lw_at lw_m7 114 rfl) rfl
theorem q1722 : (Jvm.Cond.soleField "CircuitCyclesModel" "signalInstance") ∈ lw_all := lw_g (lw_at lw_m7 115 rfl) rfl
theorem q1723 : (Jvm.Cond.laysFinal "CircuitCyclesModel" "CircuitCyclesModel" "ruleKind" "[I") ∈ lw_all := lw_g (lw_at lw_m7 116 rfl) rfl
theorem q1724 : (Jvm.Cond.soleField "CircuitCyclesModel" "ruleKind") ∈ lw_all := lw_g (lw_at lw_m7 117 rfl) rfl
theorem q1725 : (Jvm.Cond.laysFinal "CircuitCyclesModel" "CircuitCyclesModel" "ruleFrom" "[I") ∈ lw_all := lw_g (lw_at lw_m7 118 rfl) rfl
theorem q1726 : (Jvm.Cond.soleField "CircuitCyclesModel" "ruleFrom") ∈ lw_all := lw_g (lw_at lw_m7 119 rfl) rfl
theorem q1727 : (Jvm.Cond.laysFinal "CircuitCyclesModel" "CircuitCyclesModel" "ruleTo" "[I") ∈ lw_all := lw_g (lw_at lw_m7 120 rfl) rfl
theorem q1728 : (Jvm.Cond.soleField "CircuitCyclesModel" "ruleTo") ∈ lw_all := lw_g (lw_at lw_m7 121 rfl) rfl
theorem q1729 : (Jvm.Cond.laysFinal "CircuitCyclesModel" "CircuitCyclesModel" "ruleFor" "[I") ∈ lw_all := lw_g (lw_at lw_m7 122 rfl) rfl
theorem q1730 : (Jvm.Cond.soleField "CircuitCyclesModel" "ruleFor") ∈ lw_all := lw_g (lw_at lw_m7 123 rfl) rfl
theorem q1731 : (Jvm.Cond.laysFinal "CircuitCyclesModel" "CircuitCyclesModel" "order" "[I") ∈ lw_all := lw_g (lw_at lw_m7 124 rfl) rfl
theorem q1732 : (Jvm.Cond.soleField "CircuitCyclesModel" "order") ∈ lw_all := lw_g (lw_at lw_m7 125 rfl) rfl
theorem q1733 : (Jvm.Cond.lays "CircuitCyclesModel" "CircuitCyclesModel" "ordered" "I") ∈ lw_all := lw_g (lw_at lw_m7 126 rfl) rfl
theorem q1734 : (Jvm.Cond.soleField "CircuitCyclesModel" "ordered") ∈ lw_all := lw_g (lw_at lw_m7 127 rfl) rfl
theorem q1735 : (Jvm.Cond.laysFinal "CircuitCyclesModel" "CircuitCyclesModel" "ready" "[Z") ∈ lw_all := lw_g (lw_at lw_m7 128 rfl) rfl
theorem q1736 : (Jvm.Cond.soleField "CircuitCyclesModel" "ready") ∈ lw_all := lw_g (lw_at lw_m7 129 rfl) rfl
theorem q1737 : (Jvm.Cond.laysFinal "CircuitCyclesModel" "CircuitCyclesModel" "met" "[Z") ∈ lw_all := lw_g (lw_at lw_m7 130 rfl) rfl
theorem q1738 : (Jvm.Cond.soleField "CircuitCyclesModel" "met") ∈ lw_all := lw_g (lw_at lw_m7 131 rfl) rfl
theorem q1739 : (Jvm.Cond.laysFinal "CircuitCyclesModel" "CircuitCyclesModel" "queue" "[I") ∈ lw_all := lw_g (lw_at lw_m7 132 rfl) rfl
theorem q1740 : (Jvm.Cond.soleField "CircuitCyclesModel" "queue") ∈ lw_all := lw_g (lw_at lw_m7 133 rfl) rfl
theorem q1741 : (Jvm.Cond.lays "CircuitCyclesModel" "CircuitCyclesModel" "modulesThere" "I") ∈ lw_all := lw_g (lw_at lw_m7 134 rfl) rfl
theorem q1742 : (Jvm.Cond.soleField "CircuitCyclesModel" "modulesThere") ∈ lw_all := lw_g (lw_at lw_m7 135 rfl) rfl
theorem q1743 : (Jvm.Cond.lays "CircuitCyclesModel" "CircuitCyclesModel" "registerBits" "I") ∈ lw_all := lw_g (lw_at lw_m7 136 rfl) rfl
theorem q1744 : (Jvm.Cond.soleField "CircuitCyclesModel" "registerBits") ∈ lw_all := lw_g (lw_at lw_m7 137 rfl) rfl
theorem q1745 : (Jvm.Cond.lays "CircuitCyclesModel" "CircuitCyclesModel" "inputBits" "I") ∈ lw_all := lw_g (lw_at lw_m7 138 rfl) rfl
theorem q1746 : (Jvm.Cond.soleField "CircuitCyclesModel" "inputBits") ∈ lw_all := lw_g (lw_at lw_m7 139 rfl) rfl
theorem q1747 : (Jvm.Cond.lays "CircuitCyclesModel" "CircuitCyclesModel" "assertsThere" "I") ∈ lw_all := lw_g (lw_at lw_m7 140 rfl) rfl
theorem q1748 : (Jvm.Cond.soleField "CircuitCyclesModel" "assertsThere") ∈ lw_all := lw_g (lw_at lw_m7 141 rfl) rfl
theorem q1749 : (Jvm.Cond.lays "CircuitCyclesModel" "CircuitCyclesModel" "costThere" "J") ∈ lw_all := lw_g (lw_at lw_m7 142 rfl) rfl
theorem q1750 : (Jvm.Cond.soleField "CircuitCyclesModel" "costThere") ∈ lw_all := lw_g (lw_at lw_m7 143 rfl) rfl
theorem q1751 : (Jvm.Cond.laysFinal "CircuitCyclesModel" "CircuitCyclesModel" "values" "[J") ∈ lw_all := lw_g (lw_at lw_m7 144 rfl) rfl
theorem q1752 : (Jvm.Cond.soleField "CircuitCyclesModel" "values") ∈ lw_all := lw_g (lw_at lw_m7 145 rfl) rfl
theorem q1753 : (Jvm.Cond.laysFinal "CircuitCyclesModel" "CircuitCyclesModel" "nexts" "[J") ∈ lw_all := lw_g (lw_at lw_m7 146 rfl) rfl
theorem q1754 : (Jvm.Cond.soleField "CircuitCyclesModel" "nexts") ∈ lw_all := lw_g (lw_at lw_m7 147 rfl) rfl
theorem q1755 : (Jvm.Cond.laysFinal "CircuitCyclesModel" "CircuitCyclesModel" "registers" "[J") ∈ lw_all := lw_g (lw_at lw_m7 148 rfl) rfl
theorem q1756 : (Jvm.Cond.soleField "CircuitCyclesModel" "registers") ∈ lw_all := lw_g (lw_at lw_m7 149 rfl) rfl
theorem q1757 : (Jvm.Cond.laysFinal "CircuitCyclesModel" "CircuitCyclesModel" "inputs" "[J") ∈ lw_all := lw_g (lw_at lw_m7 150 rfl) rfl
theorem q1758 : (Jvm.Cond.soleField "CircuitCyclesModel" "inputs") ∈ lw_all := lw_g (lw_at lw_m7 151 rfl) rfl
theorem q1759 : (Jvm.Cond.laysFinal "CircuitCyclesModel" "CircuitCyclesModel" "pile" "[J") ∈ lw_all := lw_g (lw_at lw_m7 152 rfl) rfl
theorem q1760 : (Jvm.Cond.soleField "CircuitCyclesModel" "pile") ∈ lw_all := lw_g (lw_at lw_m7 153 rfl) rfl
theorem q1761 : (Jvm.Cond.lays "CircuitCyclesModel" "CircuitCyclesModel" "high" "I") ∈ lw_all := lw_g (lw_at lw_m7 154 rfl) rfl
theorem q1762 : (Jvm.Cond.soleField "CircuitCyclesModel" "high") ∈ lw_all := lw_g (lw_at lw_m7 155 rfl) rfl
theorem q1763 : (Jvm.Cond.lays "CircuitCyclesModel" "CircuitCyclesModel" "cycle" "I") ∈ lw_all := lw_g (lw_at lw_m7 156 rfl) rfl
theorem q1764 : (Jvm.Cond.soleField "CircuitCyclesModel" "cycle") ∈ lw_all := lw_g (lw_at lw_m7 157 rfl) rfl
theorem q1765 : (Jvm.Cond.lays "CircuitCyclesModel" "CircuitCyclesModel" "valueFits" "Z") ∈ lw_all := lw_g (lw_at lw_m7 158 rfl) rfl
theorem q1766 : (Jvm.Cond.soleField "CircuitCyclesModel" "valueFits") ∈ lw_all := lw_g (lw_at lw_m7 159 rfl) rfl
theorem q1767 : (Jvm.Cond.lays "CircuitCyclesModel" "CircuitCyclesModel" "tapeSize" "I") ∈ lw_all := lw_g (lw_at lw_m7 160 rfl) rfl
theorem q1768 : (Jvm.Cond.soleField "CircuitCyclesModel" "tapeSize") ∈ lw_all := lw_g (lw_at lw_m7 161 rfl) rfl
theorem q1769 : (Jvm.Cond.lays "CircuitCyclesModel" "CircuitCyclesModel" "textSize" "I") ∈ lw_all := lw_g (lw_at lw_m7 162 rfl) rfl
theorem q1770 : (Jvm.Cond.soleField "CircuitCyclesModel" "textSize") ∈ lw_all := lw_g (lw_at lw_m7 163 rfl) rfl
theorem q1771 : (Jvm.Cond.laysFinal "CircuitCyclesModel" "CircuitCyclesModel" "src" "[B") ∈ lw_all := lw_g (lw_at lw_m7 164 rfl) rfl
theorem q1772 : (Jvm.Cond.soleField "CircuitCyclesModel" "src") ∈ lw_all := lw_g (lw_at lw_m7 165 rfl) rfl
theorem q1773 : (Jvm.Cond.superclass "CircuitCyclesModel" "java/lang/Object") ∈ lw_all := lw_g (lw_at lw_m7 166 rfl) rfl
theorem q1777 : (Jvm.Cond.instanceMethod ({ cls := "CircuitCyclesModel", name := "thrown", desc := "()I" } : Jvm.MethodName)) ∈ lw_all := lw_g (lw_at lw_m7 170 rfl) rfl
theorem q1778 : (Jvm.Cond.selects "CircuitCyclesModel" ({ cls := "CircuitCyclesModel", name := "thrown", desc := "()I" } : Jvm.MethodName) ({ cls := "CircuitCyclesModel", name := "thrown", desc := "()I" } : Jvm.MethodName)) ∈ lw_all := lw_g (lw_at lw_m7 171 rfl) rfl
theorem q1779 : (Jvm.Cond.code ({ cls := "CircuitCyclesModel", name := "thrown", desc := "()I" } : Jvm.MethodName) prog_11_method_2_code (1 : Nat) (Option.some Jvm.ClassFile.FieldType.int)) ∈ lw_all := lw_g (lw_at lw_m7 172 rfl) rfl
theorem q1781 : (Jvm.Cond.instanceMethod ({ cls := "CircuitCyclesModel", name := "read", desc := "()I" } : Jvm.MethodName)) ∈ lw_all := lw_g (lw_at lw_m7 174 rfl) rfl
theorem q1782 : (Jvm.Cond.selects "CircuitCyclesModel" ({ cls := "CircuitCyclesModel", name := "read", desc := "()I" } : Jvm.MethodName) ({ cls := "CircuitCyclesModel", name := "read", desc := "()I" } : Jvm.MethodName)) ∈ lw_all := lw_g (lw_at lw_m7 175 rfl) rfl
theorem q1783 : (Jvm.Cond.code ({ cls := "CircuitCyclesModel", name := "read", desc := "()I" } : Jvm.MethodName) prog_11_method_83_code (3 : Nat) (Option.some Jvm.ClassFile.FieldType.int)) ∈ lw_all := lw_g (lw_at lw_m7 176 rfl) rfl
theorem q1784 : (Jvm.Cond.methodLink "CircuitCyclesModel" (539 : Nat) ({ cls := "CircuitCyclesModel", name := "readSource", desc := "()V" } : Jvm.MethodName)) ∈ lw_all := lw_g (lw_at lw_m7 177 rfl) rfl
theorem q1785 : (Jvm.Cond.privateMethod ({ cls := "CircuitCyclesModel", name := "readSource", desc := "()V" } : Jvm.MethodName)) ∈ lw_tbl := lw_at lw_m7 178 rfl
theorem q1786 : (Jvm.Cond.instanceMethod ({ cls := "CircuitCyclesModel", name := "readSource", desc := "()V" } : Jvm.MethodName)) ∈ lw_all := lw_g (lw_at lw_m7 179 rfl) rfl
theorem q1787 : (Jvm.Cond.code ({ cls := "CircuitCyclesModel", name := "readSource", desc := "()V" } : Jvm.MethodName) prog_11_method_82_code (1 : Nat) (Option.none : Option Jvm.ClassFile.FieldType)) ∈ lw_all := lw_g (lw_at lw_m7 180 rfl) rfl
theorem q1788 : (Jvm.Cond.methodLink "CircuitCyclesModel" (518 : Nat) ({ cls := "CircuitCyclesModel", name := "cutTokens", desc := "()V" } : Jvm.MethodName)) ∈ lw_all := lw_g (lw_at lw_m7 181 rfl) rfl
theorem q1789 : (Jvm.Cond.privateMethod ({ cls := "CircuitCyclesModel", name := "cutTokens", desc := "()V" } : Jvm.MethodName)) ∈ lw_tbl := lw_at lw_m7 182 rfl
theorem q1790 : (Jvm.Cond.instanceMethod ({ cls := "CircuitCyclesModel", name := "cutTokens", desc := "()V" } : Jvm.MethodName)) ∈ lw_all := lw_g (lw_at lw_m7 183 rfl) rfl
theorem q1791 : (Jvm.Cond.code ({ cls := "CircuitCyclesModel", name := "cutTokens", desc := "()V" } : Jvm.MethodName) prog_11_method_16_code (4 : Nat) (Option.none : Option Jvm.ClassFile.FieldType)) ∈ lw_all := lw_g (lw_at lw_m7 184 rfl) rfl
theorem q1792 : (Jvm.Cond.methodLink "CircuitCyclesModel" (234 : Nat) ({ cls := "CircuitCyclesModel", name := "skip", desc := "(I)I" } : Jvm.MethodName)) ∈ lw_all := lw_g (lw_at lw_m7 185 rfl) rfl
theorem q1793 : (Jvm.Cond.privateMethod ({ cls := "CircuitCyclesModel", name := "skip", desc := "(I)I" } : Jvm.MethodName)) ∈ lw_tbl := lw_at lw_m7 186 rfl
theorem q1794 : (Jvm.Cond.instanceMethod ({ cls := "CircuitCyclesModel", name := "skip", desc := "(I)I" } : Jvm.MethodName)) ∈ lw_all := lw_g (lw_at lw_m7 187 rfl) rfl
theorem q1795 : (Jvm.Cond.code ({ cls := "CircuitCyclesModel", name := "skip", desc := "(I)I" } : Jvm.MethodName) prog_11_method_7_code (5 : Nat) (Option.some Jvm.ClassFile.FieldType.int)) ∈ lw_all := lw_g (lw_at lw_m7 188 rfl) rfl
theorem q1796 : (Jvm.Cond.methodLink "CircuitCyclesModel" (206 : Nat) ({ cls := "CircuitCyclesModel", name := "at", desc := "(I)I" } : Jvm.MethodName)) ∈ lw_all := lw_g (lw_at lw_m7 189 rfl) rfl
theorem q1797 : (Jvm.Cond.privateMethod ({ cls := "CircuitCyclesModel", name := "at", desc := "(I)I" } : Jvm.MethodName)) ∈ lw_tbl := lw_at lw_m7 190 rfl
theorem q1798 : (Jvm.Cond.instanceMethod ({ cls := "CircuitCyclesModel", name := "at", desc := "(I)I" } : Jvm.MethodName)) ∈ lw_all := lw_g (lw_at lw_m7 191 rfl) rfl
theorem q1799 : (Jvm.Cond.code ({ cls := "CircuitCyclesModel", name := "at", desc := "(I)I" } : Jvm.MethodName) prog_11_method_3_code (2 : Nat) (Option.some Jvm.ClassFile.FieldType.int)) ∈ lw_all := lw_g (lw_at lw_m7 192 rfl) rfl
theorem q1800 : (Jvm.Cond.methodLink "CircuitCyclesModel" (237 : Nat) ({ cls := "CircuitCyclesModel", name := "token", desc := "(III)V" } : Jvm.MethodName)) ∈ lw_all := lw_g (lw_at lw_m7 193 rfl) rfl
theorem q1801 : (Jvm.Cond.privateMethod ({ cls := "CircuitCyclesModel", name := "token", desc := "(III)V" } : Jvm.MethodName)) ∈ lw_tbl := lw_at lw_m7 194 rfl
theorem q1802 : (Jvm.Cond.instanceMethod ({ cls := "CircuitCyclesModel", name := "token", desc := "(III)V" } : Jvm.MethodName)) ∈ lw_all := lw_g (lw_at lw_m7 195 rfl) rfl
theorem q1803 : (Jvm.Cond.code ({ cls := "CircuitCyclesModel", name := "token", desc := "(III)V" } : Jvm.MethodName) prog_11_method_15_code (4 : Nat) (Option.none : Option Jvm.ClassFile.FieldType)) ∈ lw_all := lw_g (lw_at lw_m7 196 rfl) rfl
theorem q1804 : (Jvm.Cond.methodLink "CircuitCyclesModel" (199 : Nat) ({ cls := "CircuitCyclesModel", name := "isLetter", desc := "(I)Z" } : Jvm.MethodName)) ∈ lw_all := lw_g (lw_at lw_m7 197 rfl) rfl
theorem q1805 : (Jvm.Cond.static ({ cls := "CircuitCyclesModel", name := "isLetter", desc := "(I)Z" } : Jvm.MethodName)) ∈ lw_all := lw_g (lw_at lw_m7 198 rfl) rfl
theorem q1806 : (Jvm.Cond.code ({ cls := "CircuitCyclesModel", name := "isLetter", desc := "(I)Z" } : Jvm.MethodName) prog_11_method_5_code (1 : Nat) (Option.some Jvm.ClassFile.FieldType.boolean)) ∈ lw_all := lw_g (lw_at lw_m7 199 rfl) rfl
theorem q1807 : (Jvm.Cond.methodLink "CircuitCyclesModel" (228 : Nat) ({ cls := "CircuitCyclesModel", name := "isIn", desc := "(I)Z" } : Jvm.MethodName)) ∈ lw_all := lw_g (lw_at lw_m7 200 rfl) rfl
theorem q1808 : (Jvm.Cond.static ({ cls := "CircuitCyclesModel", name := "isIn", desc := "(I)Z" } : Jvm.MethodName)) ∈ lw_all := lw_g (lw_at lw_m7 201 rfl) rfl
theorem q1809 : (Jvm.Cond.code ({ cls := "CircuitCyclesModel", name := "isIn", desc := "(I)Z" } : Jvm.MethodName) prog_11_method_6_code (1 : Nat) (Option.some Jvm.ClassFile.FieldType.boolean)) ∈ lw_all := lw_g (lw_at lw_m7 202 rfl) rfl
theorem q1810 : (Jvm.Cond.methodLink "CircuitCyclesModel" (203 : Nat) ({ cls := "CircuitCyclesModel", name := "isDigit", desc := "(I)Z" } : Jvm.MethodName)) ∈ lw_all := lw_g (lw_at lw_m7 203 rfl) rfl
theorem q1811 : (Jvm.Cond.static ({ cls := "CircuitCyclesModel", name := "isDigit", desc := "(I)Z" } : Jvm.MethodName)) ∈ lw_all := lw_g (lw_at lw_m7 204 rfl) rfl
theorem q1812 : (Jvm.Cond.code ({ cls := "CircuitCyclesModel", name := "isDigit", desc := "(I)Z" } : Jvm.MethodName) prog_11_method_4_code (1 : Nat) (Option.some Jvm.ClassFile.FieldType.boolean)) ∈ lw_all := lw_g (lw_at lw_m7 205 rfl) rfl
theorem q1813 : (Jvm.Cond.methodLink "CircuitCyclesModel" (241 : Nat) ({ cls := "CircuitCyclesModel", name := "wordKind", desc := "(II)I" } : Jvm.MethodName)) ∈ lw_all := lw_g (lw_at lw_m7 206 rfl) rfl
theorem q1814 : (Jvm.Cond.privateMethod ({ cls := "CircuitCyclesModel", name := "wordKind", desc := "(II)I" } : Jvm.MethodName)) ∈ lw_tbl := lw_at lw_m7 207 rfl
theorem q1815 : (Jvm.Cond.instanceMethod ({ cls := "CircuitCyclesModel", name := "wordKind", desc := "(II)I" } : Jvm.MethodName)) ∈ lw_all := lw_g (lw_at lw_m7 208 rfl) rfl
theorem q1816 : (Jvm.Cond.code ({ cls := "CircuitCyclesModel", name := "wordKind", desc := "(II)I" } : Jvm.MethodName) prog_11_method_8_code (7 : Nat) (Option.some Jvm.ClassFile.FieldType.int)) ∈ lw_all := lw_g (lw_at lw_m7 209 rfl) rfl
theorem q1817 : (Jvm.Cond.fieldLink "CircuitCyclesModel" (210 : Nat) "CircuitCyclesModel" "WORDS" "[B") ∈ lw_all := lw_g (lw_at lw_m7 210 rfl) rfl
theorem q1818 : (Jvm.Cond.laysStatic "CircuitCyclesModel" "WORDS" "[B") ∈ lw_tbl := lw_at lw_m7 211 rfl
theorem q1819 : (Jvm.Cond.methodLink "CircuitCyclesModel" (245 : Nat) ({ cls := "CircuitCyclesModel", name := "numberEnd", desc := "(I)I" } : Jvm.MethodName)) ∈ lw_all := lw_g (lw_at lw_m7 212 rfl) rfl
theorem q1820 : (Jvm.Cond.privateMethod ({ cls := "CircuitCyclesModel", name := "numberEnd", desc := "(I)I" } : Jvm.MethodName)) ∈ lw_tbl := lw_at lw_m7 213 rfl
theorem q1821 : (Jvm.Cond.instanceMethod ({ cls := "CircuitCyclesModel", name := "numberEnd", desc := "(I)I" } : Jvm.MethodName)) ∈ lw_all := lw_g (lw_at lw_m7 214 rfl) rfl
theorem q1822 : (Jvm.Cond.code ({ cls := "CircuitCyclesModel", name := "numberEnd", desc := "(I)I" } : Jvm.MethodName) prog_11_method_12_code (3 : Nat) (Option.some Jvm.ClassFile.FieldType.int)) ∈ lw_all := lw_g (lw_at lw_m7 215 rfl) rfl
theorem q1823 : (Jvm.Cond.methodLink "CircuitCyclesModel" (248 : Nat) ({ cls := "CircuitCyclesModel", name := "numberKind", desc := "(II)I" } : Jvm.MethodName)) ∈ lw_all := lw_g (lw_at lw_m7 216 rfl) rfl
theorem q1824 : (Jvm.Cond.privateMethod ({ cls := "CircuitCyclesModel", name := "numberKind", desc := "(II)I" } : Jvm.MethodName)) ∈ lw_tbl := lw_at lw_m7 217 rfl
theorem q1825 : (Jvm.Cond.instanceMethod ({ cls := "CircuitCyclesModel", name := "numberKind", desc := "(II)I" } : Jvm.MethodName)) ∈ lw_all := lw_g (lw_at lw_m7 218 rfl) rfl
theorem q1826 : (Jvm.Cond.code ({ cls := "CircuitCyclesModel", name := "numberKind", desc := "(II)I" } : Jvm.MethodName) prog_11_method_11_code (11 : Nat) (Option.some Jvm.ClassFile.FieldType.int)) ∈ lw_all := lw_g (lw_at lw_m7 219 rfl) rfl
theorem q1827 : (Jvm.Cond.methodLink "CircuitCyclesModel" (222 : Nat) ({ cls := "CircuitCyclesModel", name := "read", desc := "(IIII)J" } : Jvm.MethodName)) ∈ lw_all := lw_g (lw_at lw_m7 220 rfl) rfl
theorem q1828 : (Jvm.Cond.privateMethod ({ cls := "CircuitCyclesModel", name := "read", desc := "(IIII)J" } : Jvm.MethodName)) ∈ lw_tbl := lw_at lw_m7 221 rfl
theorem q1829 : (Jvm.Cond.instanceMethod ({ cls := "CircuitCyclesModel", name := "read", desc := "(IIII)J" } : Jvm.MethodName)) ∈ lw_all := lw_g (lw_at lw_m7 222 rfl) rfl
theorem q1830 : (Jvm.Cond.code ({ cls := "CircuitCyclesModel", name := "read", desc := "(IIII)J" } : Jvm.MethodName) prog_11_method_10_code (11 : Nat) (Option.some Jvm.ClassFile.FieldType.long)) ∈ lw_all := lw_g (lw_at lw_m7 223 rfl) rfl
theorem q1831 : (Jvm.Cond.methodLink "CircuitCyclesModel" (213 : Nat) ({ cls := "CircuitCyclesModel", name := "digit", desc := "(I)I" } : Jvm.MethodName)) ∈ lw_all := lw_g (lw_at lw_m7 224 rfl) rfl
theorem q1832 : (Jvm.Cond.static ({ cls := "CircuitCyclesModel", name := "digit", desc := "(I)I" } : Jvm.MethodName)) ∈ lw_all := lw_g (lw_at lw_m7 225 rfl) rfl
theorem q1833 : (Jvm.Cond.code ({ cls := "CircuitCyclesModel", name := "digit", desc := "(I)I" } : Jvm.MethodName) prog_11_method_9_code (1 : Nat) (Option.some Jvm.ClassFile.FieldType.int)) ∈ lw_all := lw_g (lw_at lw_m7 226 rfl) rfl
theorem q1834 : (Jvm.Cond.constantLong "CircuitCyclesModel" (216 : Nat) (4294967295 : Int64)) ∈ lw_all := lw_g (lw_at lw_m7 227 rfl) rfl
theorem q1835 : (Jvm.Cond.constantLong "CircuitCyclesModel" (226 : Nat) (64 : Int64)) ∈ lw_all := lw_g (lw_at lw_m7 228 rfl) rfl
theorem q1836 : (Jvm.Cond.methodLink "CircuitCyclesModel" (251 : Nat) ({ cls := "CircuitCyclesModel", name := "pair", desc := "(II)I" } : Jvm.MethodName)) ∈ lw_all := lw_g (lw_at lw_m7 229 rfl) rfl
theorem q1837 : (Jvm.Cond.static ({ cls := "CircuitCyclesModel", name := "pair", desc := "(II)I" } : Jvm.MethodName)) ∈ lw_all := lw_g (lw_at lw_m7 230 rfl) rfl
theorem q1838 : (Jvm.Cond.code ({ cls := "CircuitCyclesModel", name := "pair", desc := "(II)I" } : Jvm.MethodName) prog_11_method_13_code (2 : Nat) (Option.some Jvm.ClassFile.FieldType.int)) ∈ lw_all := lw_g (lw_at lw_m7 231 rfl) rfl
theorem q1839 : (Jvm.Cond.methodLink "CircuitCyclesModel" (254 : Nat) ({ cls := "CircuitCyclesModel", name := "isSign", desc := "(I)Z" } : Jvm.MethodName)) ∈ lw_all := lw_g (lw_at lw_m7 232 rfl) rfl
theorem q1840 : (Jvm.Cond.static ({ cls := "CircuitCyclesModel", name := "isSign", desc := "(I)Z" } : Jvm.MethodName)) ∈ lw_all := lw_g (lw_at lw_m7 233 rfl) rfl
theorem q1841 : (Jvm.Cond.code ({ cls := "CircuitCyclesModel", name := "isSign", desc := "(I)Z" } : Jvm.MethodName) prog_11_method_14_code (1 : Nat) (Option.some Jvm.ClassFile.FieldType.boolean)) ∈ lw_all := lw_g (lw_at lw_m7 234 rfl) rfl
theorem q1842 : (Jvm.Cond.methodLink "CircuitCyclesModel" (521 : Nat) ({ cls := "CircuitCyclesModel", name := "designGrammar", desc := "()V" } : Jvm.MethodName)) ∈ lw_all := lw_g (lw_at lw_m7 235 rfl) rfl
theorem q1843 : (Jvm.Cond.privateMethod ({ cls := "CircuitCyclesModel", name := "designGrammar", desc := "()V" } : Jvm.MethodName)) ∈ lw_tbl := lw_at lw_m7 236 rfl
theorem q1844 : (Jvm.Cond.instanceMethod ({ cls := "CircuitCyclesModel", name := "designGrammar", desc := "()V" } : Jvm.MethodName)) ∈ lw_all := lw_g (lw_at lw_m7 237 rfl) rfl
theorem q1845 : (Jvm.Cond.code ({ cls := "CircuitCyclesModel", name := "designGrammar", desc := "()V" } : Jvm.MethodName) prog_11_method_39_code (2 : Nat) (Option.none : Option Jvm.ClassFile.FieldType)) ∈ lw_all := lw_g (lw_at lw_m7 238 rfl) rfl
theorem q1846 : (Jvm.Cond.methodLink "CircuitCyclesModel" (279 : Nat) ({ cls := "CircuitCyclesModel", name := "take", desc := "(I)V" } : Jvm.MethodName)) ∈ lw_all := lw_g (lw_at lw_m7 239 rfl) rfl
theorem q1847 : (Jvm.Cond.privateMethod ({ cls := "CircuitCyclesModel", name := "take", desc := "(I)V" } : Jvm.MethodName)) ∈ lw_tbl := lw_at lw_m8 0 rfl
theorem q1848 : (Jvm.Cond.instanceMethod ({ cls := "CircuitCyclesModel", name := "take", desc := "(I)V" } : Jvm.MethodName)) ∈ lw_all := lw_g (lw_at lw_m8 1 rfl) rfl
theorem q1849 : (Jvm.Cond.code ({ cls := "CircuitCyclesModel", name := "take", desc := "(I)V" } : Jvm.MethodName) prog_11_method_23_code (2 : Nat) (Option.none : Option Jvm.ClassFile.FieldType)) ∈ lw_all := lw_g (lw_at lw_m8 2 rfl) rfl
theorem q1850 : (Jvm.Cond.methodLink "CircuitCyclesModel" (270 : Nat) ({ cls := "CircuitCyclesModel", name := "no", desc := "()V" } : Jvm.MethodName)) ∈ lw_all := lw_g (lw_at lw_m8 3 rfl) rfl
theorem q1851 : (Jvm.Cond.privateMethod ({ cls := "CircuitCyclesModel", name := "no", desc := "()V" } : Jvm.MethodName)) ∈ lw_tbl := lw_at lw_m8 4 rfl
theorem q1852 : (Jvm.Cond.instanceMethod ({ cls := "CircuitCyclesModel", name := "no", desc := "()V" } : Jvm.MethodName)) ∈ lw_all := lw_g (lw_at lw_m8 5 rfl) rfl
theorem q1853 : (Jvm.Cond.code ({ cls := "CircuitCyclesModel", name := "no", desc := "()V" } : Jvm.MethodName) prog_11_method_22_code (1 : Nat) (Option.none : Option Jvm.ClassFile.FieldType)) ∈ lw_all := lw_g (lw_at lw_m8 6 rfl) rfl
theorem q1854 : (Jvm.Cond.methodLink "CircuitCyclesModel" (266 : Nat) ({ cls := "CircuitCyclesModel", name := "fail", desc := "(II)V" } : Jvm.MethodName)) ∈ lw_all := lw_g (lw_at lw_m8 7 rfl) rfl
theorem q1855 : (Jvm.Cond.privateMethod ({ cls := "CircuitCyclesModel", name := "fail", desc := "(II)V" } : Jvm.MethodName)) ∈ lw_tbl := lw_at lw_m8 8 rfl
theorem q1856 : (Jvm.Cond.instanceMethod ({ cls := "CircuitCyclesModel", name := "fail", desc := "(II)V" } : Jvm.MethodName)) ∈ lw_all := lw_g (lw_at lw_m8 9 rfl) rfl
theorem q1857 : (Jvm.Cond.code ({ cls := "CircuitCyclesModel", name := "fail", desc := "(II)V" } : Jvm.MethodName) prog_11_method_19_code (3 : Nat) (Option.none : Option Jvm.ClassFile.FieldType)) ∈ lw_all := lw_g (lw_at lw_m8 10 rfl) rfl
theorem q1858 : (Jvm.Cond.methodLink "CircuitCyclesModel" (293 : Nat) ({ cls := "CircuitCyclesModel", name := "open", desc := "(I)V" } : Jvm.MethodName)) ∈ lw_all := lw_g (lw_at lw_m8 11 rfl) rfl
theorem q1859 : (Jvm.Cond.privateMethod ({ cls := "CircuitCyclesModel", name := "open", desc := "(I)V" } : Jvm.MethodName)) ∈ lw_tbl := lw_at lw_m8 12 rfl
theorem q1860 : (Jvm.Cond.instanceMethod ({ cls := "CircuitCyclesModel", name := "open", desc := "(I)V" } : Jvm.MethodName)) ∈ lw_all := lw_g (lw_at lw_m8 13 rfl) rfl
theorem q1861 : (Jvm.Cond.code ({ cls := "CircuitCyclesModel", name := "open", desc := "(I)V" } : Jvm.MethodName) prog_11_method_24_code (2 : Nat) (Option.none : Option Jvm.ClassFile.FieldType)) ∈ lw_all := lw_g (lw_at lw_m8 14 rfl) rfl
theorem q1862 : (Jvm.Cond.methodLink "CircuitCyclesModel" (273 : Nat) ({ cls := "CircuitCyclesModel", name := "is", desc := "(I)Z" } : Jvm.MethodName)) ∈ lw_all := lw_g (lw_at lw_m8 15 rfl) rfl
theorem q1863 : (Jvm.Cond.privateMethod ({ cls := "CircuitCyclesModel", name := "is", desc := "(I)Z" } : Jvm.MethodName)) ∈ lw_tbl := lw_at lw_m8 16 rfl
theorem q1864 : (Jvm.Cond.instanceMethod ({ cls := "CircuitCyclesModel", name := "is", desc := "(I)Z" } : Jvm.MethodName)) ∈ lw_all := lw_g (lw_at lw_m8 17 rfl) rfl
theorem q1865 : (Jvm.Cond.code ({ cls := "CircuitCyclesModel", name := "is", desc := "(I)Z" } : Jvm.MethodName) prog_11_method_21_code (2 : Nat) (Option.some Jvm.ClassFile.FieldType.boolean)) ∈ lw_all := lw_g (lw_at lw_m8 18 rfl) rfl
theorem q1866 : (Jvm.Cond.methodLink "CircuitCyclesModel" (326 : Nat) ({ cls := "CircuitCyclesModel", name := "portGrammar", desc := "()V" } : Jvm.MethodName)) ∈ lw_all := lw_g (lw_at lw_m8 19 rfl) rfl
theorem q1867 : (Jvm.Cond.privateMethod ({ cls := "CircuitCyclesModel", name := "portGrammar", desc := "()V" } : Jvm.MethodName)) ∈ lw_tbl := lw_at lw_m8 20 rfl
theorem q1868 : (Jvm.Cond.instanceMethod ({ cls := "CircuitCyclesModel", name := "portGrammar", desc := "()V" } : Jvm.MethodName)) ∈ lw_all := lw_g (lw_at lw_m8 21 rfl) rfl
theorem q1869 : (Jvm.Cond.code ({ cls := "CircuitCyclesModel", name := "portGrammar", desc := "()V" } : Jvm.MethodName) prog_11_method_34_code (1 : Nat) (Option.none : Option Jvm.ClassFile.FieldType)) ∈ lw_all := lw_g (lw_at lw_m8 22 rfl) rfl
theorem q1870 : (Jvm.Cond.methodLink "CircuitCyclesModel" (311 : Nat) ({ cls := "CircuitCyclesModel", name := "rangeGrammar", desc := "()V" } : Jvm.MethodName)) ∈ lw_all := lw_g (lw_at lw_m8 23 rfl) rfl
theorem q1871 : (Jvm.Cond.privateMethod ({ cls := "CircuitCyclesModel", name := "rangeGrammar", desc := "()V" } : Jvm.MethodName)) ∈ lw_tbl := lw_at lw_m8 24 rfl
theorem q1872 : (Jvm.Cond.instanceMethod ({ cls := "CircuitCyclesModel", name := "rangeGrammar", desc := "()V" } : Jvm.MethodName)) ∈ lw_all := lw_g (lw_at lw_m8 25 rfl) rfl
theorem q1873 : (Jvm.Cond.code ({ cls := "CircuitCyclesModel", name := "rangeGrammar", desc := "()V" } : Jvm.MethodName) prog_11_method_32_code (1 : Nat) (Option.none : Option Jvm.ClassFile.FieldType)) ∈ lw_all := lw_g (lw_at lw_m8 26 rfl) rfl
theorem q1874 : (Jvm.Cond.methodLink "CircuitCyclesModel" (305 : Nat) ({ cls := "CircuitCyclesModel", name := "shut", desc := "(I)V" } : Jvm.MethodName)) ∈ lw_all := lw_g (lw_at lw_m8 27 rfl) rfl
theorem q1875 : (Jvm.Cond.privateMethod ({ cls := "CircuitCyclesModel", name := "shut", desc := "(I)V" } : Jvm.MethodName)) ∈ lw_tbl := lw_at lw_m8 28 rfl
theorem q1876 : (Jvm.Cond.instanceMethod ({ cls := "CircuitCyclesModel", name := "shut", desc := "(I)V" } : Jvm.MethodName)) ∈ lw_all := lw_g (lw_at lw_m8 29 rfl) rfl
theorem q1877 : (Jvm.Cond.code ({ cls := "CircuitCyclesModel", name := "shut", desc := "(I)V" } : Jvm.MethodName) prog_11_method_25_code (2 : Nat) (Option.none : Option Jvm.ClassFile.FieldType)) ∈ lw_all := lw_g (lw_at lw_m8 30 rfl) rfl
theorem q1878 : (Jvm.Cond.methodLink "CircuitCyclesModel" (314 : Nat) ({ cls := "CircuitCyclesModel", name := "beginGrammar", desc := "()V" } : Jvm.MethodName)) ∈ lw_all := lw_g (lw_at lw_m8 31 rfl) rfl
theorem q1879 : (Jvm.Cond.privateMethod ({ cls := "CircuitCyclesModel", name := "beginGrammar", desc := "()V" } : Jvm.MethodName)) ∈ lw_tbl := lw_at lw_m8 32 rfl
theorem q1880 : (Jvm.Cond.instanceMethod ({ cls := "CircuitCyclesModel", name := "beginGrammar", desc := "()V" } : Jvm.MethodName)) ∈ lw_all := lw_g (lw_at lw_m8 33 rfl) rfl
theorem q1881 : (Jvm.Cond.code ({ cls := "CircuitCyclesModel", name := "beginGrammar", desc := "()V" } : Jvm.MethodName) prog_11_method_33_code (1 : Nat) (Option.none : Option Jvm.ClassFile.FieldType)) ∈ lw_all := lw_g (lw_at lw_m8 34 rfl) rfl
theorem q1882 : (Jvm.Cond.methodLink "CircuitCyclesModel" (286 : Nat) ({ cls := "CircuitCyclesModel", name := "kind", desc := "()I" } : Jvm.MethodName)) ∈ lw_all := lw_g (lw_at lw_m8 35 rfl) rfl
theorem q1883 : (Jvm.Cond.privateMethod ({ cls := "CircuitCyclesModel", name := "kind", desc := "()I" } : Jvm.MethodName)) ∈ lw_tbl := lw_at lw_m8 36 rfl
theorem q1884 : (Jvm.Cond.instanceMethod ({ cls := "CircuitCyclesModel", name := "kind", desc := "()I" } : Jvm.MethodName)) ∈ lw_all := lw_g (lw_at lw_m8 37 rfl) rfl
theorem q1885 : (Jvm.Cond.code ({ cls := "CircuitCyclesModel", name := "kind", desc := "()I" } : Jvm.MethodName) prog_11_method_20_code (1 : Nat) (Option.some Jvm.ClassFile.FieldType.int)) ∈ lw_all := lw_g (lw_at lw_m8 38 rfl) rfl
theorem q1886 : (Jvm.Cond.methodLink "CircuitCyclesModel" (329 : Nat) ({ cls := "CircuitCyclesModel", name := "itemGrammar", desc := "()V" } : Jvm.MethodName)) ∈ lw_all := lw_g (lw_at lw_m8 39 rfl) rfl
theorem q1887 : (Jvm.Cond.privateMethod ({ cls := "CircuitCyclesModel", name := "itemGrammar", desc := "()V" } : Jvm.MethodName)) ∈ lw_tbl := lw_at lw_m8 40 rfl
theorem q1888 : (Jvm.Cond.instanceMethod ({ cls := "CircuitCyclesModel", name := "itemGrammar", desc := "()V" } : Jvm.MethodName)) ∈ lw_all := lw_g (lw_at lw_m8 41 rfl) rfl
theorem q1889 : (Jvm.Cond.code ({ cls := "CircuitCyclesModel", name := "itemGrammar", desc := "()V" } : Jvm.MethodName) prog_11_method_37_code (2 : Nat) (Option.none : Option Jvm.ClassFile.FieldType)) ∈ lw_all := lw_g (lw_at lw_m8 42 rfl) rfl
theorem q1890 : (Jvm.Cond.methodLink "CircuitCyclesModel" (296 : Nat) ({ cls := "CircuitCyclesModel", name := "expGrammar", desc := "()V" } : Jvm.MethodName)) ∈ lw_all := lw_g (lw_at lw_m8 43 rfl) rfl
theorem q1891 : (Jvm.Cond.privateMethod ({ cls := "CircuitCyclesModel", name := "expGrammar", desc := "()V" } : Jvm.MethodName)) ∈ lw_tbl := lw_at lw_m8 44 rfl
theorem q1892 : (Jvm.Cond.instanceMethod ({ cls := "CircuitCyclesModel", name := "expGrammar", desc := "()V" } : Jvm.MethodName)) ∈ lw_all := lw_g (lw_at lw_m8 45 rfl) rfl
theorem q1893 : (Jvm.Cond.code ({ cls := "CircuitCyclesModel", name := "expGrammar", desc := "()V" } : Jvm.MethodName) prog_11_method_28_code (1 : Nat) (Option.none : Option Jvm.ClassFile.FieldType)) ∈ lw_all := lw_g (lw_at lw_m8 46 rfl) rfl
theorem q1894 : (Jvm.Cond.methodLink "CircuitCyclesModel" (283 : Nat) ({ cls := "CircuitCyclesModel", name := "operandGrammar", desc := "()V" } : Jvm.MethodName)) ∈ lw_all := lw_g (lw_at lw_m8 47 rfl) rfl
theorem q1895 : (Jvm.Cond.privateMethod ({ cls := "CircuitCyclesModel", name := "operandGrammar", desc := "()V" } : Jvm.MethodName)) ∈ lw_tbl := lw_at lw_m8 48 rfl
theorem q1896 : (Jvm.Cond.instanceMethod ({ cls := "CircuitCyclesModel", name := "operandGrammar", desc := "()V" } : Jvm.MethodName)) ∈ lw_all := lw_g (lw_at lw_m8 49 rfl) rfl
theorem q1897 : (Jvm.Cond.code ({ cls := "CircuitCyclesModel", name := "operandGrammar", desc := "()V" } : Jvm.MethodName) prog_11_method_29_code (1 : Nat) (Option.none : Option Jvm.ClassFile.FieldType)) ∈ lw_all := lw_g (lw_at lw_m8 50 rfl) rfl
theorem q1898 : (Jvm.Cond.methodLink "CircuitCyclesModel" (299 : Nat) ({ cls := "CircuitCyclesModel", name := "isUnary", desc := "(I)Z" } : Jvm.MethodName)) ∈ lw_all := lw_g (lw_at lw_m8 51 rfl) rfl
theorem q1899 : (Jvm.Cond.static ({ cls := "CircuitCyclesModel", name := "isUnary", desc := "(I)Z" } : Jvm.MethodName)) ∈ lw_all := lw_g (lw_at lw_m8 52 rfl) rfl
theorem q1900 : (Jvm.Cond.code ({ cls := "CircuitCyclesModel", name := "isUnary", desc := "(I)Z" } : Jvm.MethodName) prog_11_method_26_code (1 : Nat) (Option.some Jvm.ClassFile.FieldType.boolean)) ∈ lw_all := lw_g (lw_at lw_m8 53 rfl) rfl
theorem q1901 : (Jvm.Cond.methodLink "CircuitCyclesModel" (302 : Nat) ({ cls := "CircuitCyclesModel", name := "partGrammar", desc := "()V" } : Jvm.MethodName)) ∈ lw_all := lw_g (lw_at lw_m8 54 rfl) rfl
theorem q1902 : (Jvm.Cond.privateMethod ({ cls := "CircuitCyclesModel", name := "partGrammar", desc := "()V" } : Jvm.MethodName)) ∈ lw_tbl := lw_at lw_m8 55 rfl
theorem q1903 : (Jvm.Cond.instanceMethod ({ cls := "CircuitCyclesModel", name := "partGrammar", desc := "()V" } : Jvm.MethodName)) ∈ lw_all := lw_g (lw_at lw_m8 56 rfl) rfl
theorem q1904 : (Jvm.Cond.code ({ cls := "CircuitCyclesModel", name := "partGrammar", desc := "()V" } : Jvm.MethodName) prog_11_method_30_code (1 : Nat) (Option.none : Option Jvm.ClassFile.FieldType)) ∈ lw_all := lw_g (lw_at lw_m8 57 rfl) rfl
theorem q1905 : (Jvm.Cond.methodLink "CircuitCyclesModel" (308 : Nat) ({ cls := "CircuitCyclesModel", name := "bracesGrammar", desc := "()V" } : Jvm.MethodName)) ∈ lw_all := lw_g (lw_at lw_m8 58 rfl) rfl
theorem q1906 : (Jvm.Cond.privateMethod ({ cls := "CircuitCyclesModel", name := "bracesGrammar", desc := "()V" } : Jvm.MethodName)) ∈ lw_tbl := lw_at lw_m8 59 rfl
theorem q1907 : (Jvm.Cond.instanceMethod ({ cls := "CircuitCyclesModel", name := "bracesGrammar", desc := "()V" } : Jvm.MethodName)) ∈ lw_all := lw_g (lw_at lw_m8 60 rfl) rfl
theorem q1908 : (Jvm.Cond.code ({ cls := "CircuitCyclesModel", name := "bracesGrammar", desc := "()V" } : Jvm.MethodName) prog_11_method_31_code (1 : Nat) (Option.none : Option Jvm.ClassFile.FieldType)) ∈ lw_all := lw_g (lw_at lw_m8 61 rfl) rfl
theorem q1909 : (Jvm.Cond.methodLink "CircuitCyclesModel" (290 : Nat) ({ cls := "CircuitCyclesModel", name := "rank", desc := "(I)I" } : Jvm.MethodName)) ∈ lw_all := lw_g (lw_at lw_m8 62 rfl) rfl
theorem q1910 : (Jvm.Cond.static ({ cls := "CircuitCyclesModel", name := "rank", desc := "(I)I" } : Jvm.MethodName)) ∈ lw_all := lw_g (lw_at lw_m8 63 rfl) rfl
theorem q1911 : (Jvm.Cond.code ({ cls := "CircuitCyclesModel", name := "rank", desc := "(I)I" } : Jvm.MethodName) prog_11_method_27_code (1 : Nat) (Option.some Jvm.ClassFile.FieldType.int)) ∈ lw_all := lw_g (lw_at lw_m8 64 rfl) rfl
theorem q1912 : (Jvm.Cond.methodLink "CircuitCyclesModel" (317 : Nat) ({ cls := "CircuitCyclesModel", name := "statementGrammar", desc := "()V" } : Jvm.MethodName)) ∈ lw_all := lw_g (lw_at lw_m8 65 rfl) rfl
theorem q1913 : (Jvm.Cond.privateMethod ({ cls := "CircuitCyclesModel", name := "statementGrammar", desc := "()V" } : Jvm.MethodName)) ∈ lw_tbl := lw_at lw_m8 66 rfl
theorem q1914 : (Jvm.Cond.instanceMethod ({ cls := "CircuitCyclesModel", name := "statementGrammar", desc := "()V" } : Jvm.MethodName)) ∈ lw_all := lw_g (lw_at lw_m8 67 rfl) rfl
theorem q1915 : (Jvm.Cond.code ({ cls := "CircuitCyclesModel", name := "statementGrammar", desc := "()V" } : Jvm.MethodName) prog_11_method_35_code (1 : Nat) (Option.none : Option Jvm.ClassFile.FieldType)) ∈ lw_all := lw_g (lw_at lw_m8 68 rfl) rfl
theorem q1916 : (Jvm.Cond.methodLink "CircuitCyclesModel" (320 : Nat) ({ cls := "CircuitCyclesModel", name := "caseGrammar", desc := "()V" } : Jvm.MethodName)) ∈ lw_all := lw_g (lw_at lw_m8 69 rfl) rfl
theorem q1917 : (Jvm.Cond.privateMethod ({ cls := "CircuitCyclesModel", name := "caseGrammar", desc := "()V" } : Jvm.MethodName)) ∈ lw_tbl := lw_at lw_m8 70 rfl
theorem q1918 : (Jvm.Cond.instanceMethod ({ cls := "CircuitCyclesModel", name := "caseGrammar", desc := "()V" } : Jvm.MethodName)) ∈ lw_all := lw_g (lw_at lw_m8 71 rfl) rfl
theorem q1919 : (Jvm.Cond.code ({ cls := "CircuitCyclesModel", name := "caseGrammar", desc := "()V" } : Jvm.MethodName) prog_11_method_36_code (1 : Nat) (Option.none : Option Jvm.ClassFile.FieldType)) ∈ lw_all := lw_g (lw_at lw_m8 72 rfl) rfl
theorem q1920 : (Jvm.Cond.methodLink "CircuitCyclesModel" (323 : Nat) ({ cls := "CircuitCyclesModel", name := "linkGrammar", desc := "()V" } : Jvm.MethodName)) ∈ lw_all := lw_g (lw_at lw_m8 73 rfl) rfl
theorem q1921 : (Jvm.Cond.privateMethod ({ cls := "CircuitCyclesModel", name := "linkGrammar", desc := "()V" } : Jvm.MethodName)) ∈ lw_tbl := lw_at lw_m8 74 rfl
theorem q1922 : (Jvm.Cond.instanceMethod ({ cls := "CircuitCyclesModel", name := "linkGrammar", desc := "()V" } : Jvm.MethodName)) ∈ lw_all := lw_g (lw_at lw_m8 75 rfl) rfl
theorem q1923 : (Jvm.Cond.code ({ cls := "CircuitCyclesModel", name := "linkGrammar", desc := "()V" } : Jvm.MethodName) prog_11_method_38_code (1 : Nat) (Option.none : Option Jvm.ClassFile.FieldType)) ∈ lw_all := lw_g (lw_at lw_m8 76 rfl) rfl
theorem q1924 : (Jvm.Cond.methodLink "CircuitCyclesModel" (524 : Nat) ({ cls := "CircuitCyclesModel", name := "design", desc := "()V" } : Jvm.MethodName)) ∈ lw_all := lw_g (lw_at lw_m8 77 rfl) rfl
theorem q1925 : (Jvm.Cond.privateMethod ({ cls := "CircuitCyclesModel", name := "design", desc := "()V" } : Jvm.MethodName)) ∈ lw_tbl := lw_at lw_m8 78 rfl
theorem q1926 : (Jvm.Cond.instanceMethod ({ cls := "CircuitCyclesModel", name := "design", desc := "()V" } : Jvm.MethodName)) ∈ lw_all := lw_g (lw_at lw_m8 79 rfl) rfl
theorem q1927 : (Jvm.Cond.code ({ cls := "CircuitCyclesModel", name := "design", desc := "()V" } : Jvm.MethodName) prog_11_method_72_code (1 : Nat) (Option.none : Option Jvm.ClassFile.FieldType)) ∈ lw_all := lw_g (lw_at lw_m8 80 rfl) rfl
theorem q1928 : (Jvm.Cond.methodLink "CircuitCyclesModel" (471 : Nat) ({ cls := "CircuitCyclesModel", name := "module", desc := "()V" } : Jvm.MethodName)) ∈ lw_all := lw_g (lw_at lw_m8 81 rfl) rfl
theorem q1929 : (Jvm.Cond.privateMethod ({ cls := "CircuitCyclesModel", name := "module", desc := "()V" } : Jvm.MethodName)) ∈ lw_tbl := lw_at lw_m8 82 rfl
theorem q1930 : (Jvm.Cond.instanceMethod ({ cls := "CircuitCyclesModel", name := "module", desc := "()V" } : Jvm.MethodName)) ∈ lw_all := lw_g (lw_at lw_m8 83 rfl) rfl
theorem q1931 : (Jvm.Cond.code ({ cls := "CircuitCyclesModel", name := "module", desc := "()V" } : Jvm.MethodName) prog_11_method_71_code (11 : Nat) (Option.none : Option Jvm.ClassFile.FieldType)) ∈ lw_all := lw_g (lw_at lw_m8 84 rfl) rfl
theorem q1932 : (Jvm.Cond.methodLink "CircuitCyclesModel" (438 : Nat) ({ cls := "CircuitCyclesModel", name := "moduleNamed", desc := "(II)I" } : Jvm.MethodName)) ∈ lw_all := lw_g (lw_at lw_m8 85 rfl) rfl
theorem q1933 : (Jvm.Cond.privateMethod ({ cls := "CircuitCyclesModel", name := "moduleNamed", desc := "(II)I" } : Jvm.MethodName)) ∈ lw_tbl := lw_at lw_m8 86 rfl
theorem q1934 : (Jvm.Cond.instanceMethod ({ cls := "CircuitCyclesModel", name := "moduleNamed", desc := "(II)I" } : Jvm.MethodName)) ∈ lw_all := lw_g (lw_at lw_m8 87 rfl) rfl
theorem q1935 : (Jvm.Cond.code ({ cls := "CircuitCyclesModel", name := "moduleNamed", desc := "(II)I" } : Jvm.MethodName) prog_11_method_41_code (4 : Nat) (Option.some Jvm.ClassFile.FieldType.int)) ∈ lw_all := lw_g (lw_at lw_m8 88 rfl) rfl
theorem q1936 : (Jvm.Cond.methodLink "CircuitCyclesModel" (332 : Nat) ({ cls := "CircuitCyclesModel", name := "sameToken", desc := "(II)Z" } : Jvm.MethodName)) ∈ lw_all := lw_g (lw_at lw_m8 89 rfl) rfl
theorem q1937 : (Jvm.Cond.privateMethod ({ cls := "CircuitCyclesModel", name := "sameToken", desc := "(II)Z" } : Jvm.MethodName)) ∈ lw_tbl := lw_at lw_m8 90 rfl
theorem q1938 : (Jvm.Cond.instanceMethod ({ cls := "CircuitCyclesModel", name := "sameToken", desc := "(II)Z" } : Jvm.MethodName)) ∈ lw_all := lw_g (lw_at lw_m8 91 rfl) rfl
theorem q1939 : (Jvm.Cond.code ({ cls := "CircuitCyclesModel", name := "sameToken", desc := "(II)Z" } : Jvm.MethodName) prog_11_method_40_code (5 : Nat) (Option.some Jvm.ClassFile.FieldType.boolean)) ∈ lw_all := lw_g (lw_at lw_m8 92 rfl) rfl
theorem q1940 : (Jvm.Cond.methodLink "CircuitCyclesModel" (461 : Nat) ({ cls := "CircuitCyclesModel", name := "port", desc := "()V" } : Jvm.MethodName)) ∈ lw_all := lw_g (lw_at lw_m8 93 rfl) rfl
theorem q1941 : (Jvm.Cond.privateMethod ({ cls := "CircuitCyclesModel", name := "port", desc := "()V" } : Jvm.MethodName)) ∈ lw_tbl := lw_at lw_m8 94 rfl
theorem q1942 : (Jvm.Cond.instanceMethod ({ cls := "CircuitCyclesModel", name := "port", desc := "()V" } : Jvm.MethodName)) ∈ lw_all := lw_g (lw_at lw_m8 95 rfl) rfl
theorem q1943 : (Jvm.Cond.code ({ cls := "CircuitCyclesModel", name := "port", desc := "()V" } : Jvm.MethodName) prog_11_method_58_code (2 : Nat) (Option.none : Option Jvm.ClassFile.FieldType)) ∈ lw_all := lw_g (lw_at lw_m8 96 rfl) rfl
theorem q1944 : (Jvm.Cond.methodLink "CircuitCyclesModel" (411 : Nat) ({ cls := "CircuitCyclesModel", name := "range", desc := "()I" } : Jvm.MethodName)) ∈ lw_all := lw_g (lw_at lw_m8 97 rfl) rfl
theorem q1945 : (Jvm.Cond.privateMethod ({ cls := "CircuitCyclesModel", name := "range", desc := "()I" } : Jvm.MethodName)) ∈ lw_tbl := lw_at lw_m8 98 rfl
theorem q1946 : (Jvm.Cond.instanceMethod ({ cls := "CircuitCyclesModel", name := "range", desc := "()I" } : Jvm.MethodName)) ∈ lw_all := lw_g (lw_at lw_m8 99 rfl) rfl
theorem q1947 : (Jvm.Cond.code ({ cls := "CircuitCyclesModel", name := "range", desc := "()I" } : Jvm.MethodName) prog_11_method_56_code (5 : Nat) (Option.some Jvm.ClassFile.FieldType.int)) ∈ lw_all := lw_g (lw_at lw_m8 100 rfl) rfl
theorem q1948 : (Jvm.Cond.methodLink "CircuitCyclesModel" (386 : Nat) ({ cls := "CircuitCyclesModel", name := "numberOf", desc := "(I)J" } : Jvm.MethodName)) ∈ lw_all := lw_g (lw_at lw_m8 101 rfl) rfl
theorem q1949 : (Jvm.Cond.privateMethod ({ cls := "CircuitCyclesModel", name := "numberOf", desc := "(I)J" } : Jvm.MethodName)) ∈ lw_tbl := lw_at lw_m8 102 rfl
theorem q1950 : (Jvm.Cond.instanceMethod ({ cls := "CircuitCyclesModel", name := "numberOf", desc := "(I)J" } : Jvm.MethodName)) ∈ lw_all := lw_g (lw_at lw_m8 103 rfl) rfl
theorem q1951 : (Jvm.Cond.code ({ cls := "CircuitCyclesModel", name := "numberOf", desc := "(I)J" } : Jvm.MethodName) prog_11_method_17_code (4 : Nat) (Option.some Jvm.ClassFile.FieldType.long)) ∈ lw_all := lw_g (lw_at lw_m8 104 rfl) rfl
theorem q1952 : (Jvm.Cond.constantLong "CircuitCyclesModel" (406 : Nat) (63 : Int64)) ∈ lw_all := lw_g (lw_at lw_m8 105 rfl) rfl
theorem q1953 : (Jvm.Cond.methodLink "CircuitCyclesModel" (414 : Nat) ({ cls := "CircuitCyclesModel", name := "declare", desc := "(II)V" } : Jvm.MethodName)) ∈ lw_all := lw_g (lw_at lw_m8 106 rfl) rfl
theorem q1954 : (Jvm.Cond.privateMethod ({ cls := "CircuitCyclesModel", name := "declare", desc := "(II)V" } : Jvm.MethodName)) ∈ lw_tbl := lw_at lw_m8 107 rfl
theorem q1955 : (Jvm.Cond.instanceMethod ({ cls := "CircuitCyclesModel", name := "declare", desc := "(II)V" } : Jvm.MethodName)) ∈ lw_all := lw_g (lw_at lw_m8 108 rfl) rfl
theorem q1956 : (Jvm.Cond.code ({ cls := "CircuitCyclesModel", name := "declare", desc := "(II)V" } : Jvm.MethodName) prog_11_method_57_code (3 : Nat) (Option.none : Option Jvm.ClassFile.FieldType)) ∈ lw_all := lw_g (lw_at lw_m8 109 rfl) rfl
theorem q1957 : (Jvm.Cond.methodLink "CircuitCyclesModel" (400 : Nat) ({ cls := "CircuitCyclesModel", name := "here", desc := "(I)I" } : Jvm.MethodName)) ∈ lw_all := lw_g (lw_at lw_m8 110 rfl) rfl
theorem q1958 : (Jvm.Cond.privateMethod ({ cls := "CircuitCyclesModel", name := "here", desc := "(I)I" } : Jvm.MethodName)) ∈ lw_tbl := lw_at lw_m8 111 rfl
theorem q1959 : (Jvm.Cond.instanceMethod ({ cls := "CircuitCyclesModel", name := "here", desc := "(I)I" } : Jvm.MethodName)) ∈ lw_all := lw_g (lw_at lw_m8 112 rfl) rfl
theorem q1960 : (Jvm.Cond.code ({ cls := "CircuitCyclesModel", name := "here", desc := "(I)I" } : Jvm.MethodName) prog_11_method_43_code (2 : Nat) (Option.some Jvm.ClassFile.FieldType.int)) ∈ lw_all := lw_g (lw_at lw_m8 113 rfl) rfl
theorem q1961 : (Jvm.Cond.methodLink "CircuitCyclesModel" (342 : Nat) ({ cls := "CircuitCyclesModel", name := "signalNamed", desc := "(III)I" } : Jvm.MethodName)) ∈ lw_all := lw_g (lw_at lw_m8 114 rfl) rfl
theorem q1962 : (Jvm.Cond.privateMethod ({ cls := "CircuitCyclesModel", name := "signalNamed", desc := "(III)I" } : Jvm.MethodName)) ∈ lw_tbl := lw_at lw_m8 115 rfl
theorem q1963 : (Jvm.Cond.instanceMethod ({ cls := "CircuitCyclesModel", name := "signalNamed", desc := "(III)I" } : Jvm.MethodName)) ∈ lw_all := lw_g (lw_at lw_m8 116 rfl) rfl
theorem q1964 : (Jvm.Cond.code ({ cls := "CircuitCyclesModel", name := "signalNamed", desc := "(III)I" } : Jvm.MethodName) prog_11_method_42_code (5 : Nat) (Option.some Jvm.ClassFile.FieldType.int)) ∈ lw_all := lw_g (lw_at lw_m8 117 rfl) rfl
theorem q1965 : (Jvm.Cond.methodLink "CircuitCyclesModel" (408 : Nat) ({ cls := "CircuitCyclesModel", name := "isInstanceName", desc := "(I)Z" } : Jvm.MethodName)) ∈ lw_all := lw_g (lw_at lw_m8 118 rfl) rfl
theorem q1966 : (Jvm.Cond.privateMethod ({ cls := "CircuitCyclesModel", name := "isInstanceName", desc := "(I)Z" } : Jvm.MethodName)) ∈ lw_tbl := lw_at lw_m8 119 rfl
theorem q1967 : (Jvm.Cond.instanceMethod ({ cls := "CircuitCyclesModel", name := "isInstanceName", desc := "(I)Z" } : Jvm.MethodName)) ∈ lw_all := lw_g (lw_at lw_m8 120 rfl) rfl
theorem q1968 : (Jvm.Cond.code ({ cls := "CircuitCyclesModel", name := "isInstanceName", desc := "(I)Z" } : Jvm.MethodName) prog_11_method_44_code (4 : Nat) (Option.some Jvm.ClassFile.FieldType.boolean)) ∈ lw_all := lw_g (lw_at lw_m8 121 rfl) rfl
theorem q1969 : (Jvm.Cond.methodLink "CircuitCyclesModel" (394 : Nat) ({ cls := "CircuitCyclesModel", name := "widthOfNumber", desc := "(I)I" } : Jvm.MethodName)) ∈ lw_all := lw_g (lw_at lw_m8 122 rfl) rfl
theorem q1970 : (Jvm.Cond.privateMethod ({ cls := "CircuitCyclesModel", name := "widthOfNumber", desc := "(I)I" } : Jvm.MethodName)) ∈ lw_tbl := lw_at lw_m8 123 rfl
theorem q1971 : (Jvm.Cond.instanceMethod ({ cls := "CircuitCyclesModel", name := "widthOfNumber", desc := "(I)I" } : Jvm.MethodName)) ∈ lw_all := lw_g (lw_at lw_m8 124 rfl) rfl
theorem q1972 : (Jvm.Cond.code ({ cls := "CircuitCyclesModel", name := "widthOfNumber", desc := "(I)I" } : Jvm.MethodName) prog_11_method_18_code (4 : Nat) (Option.some Jvm.ClassFile.FieldType.int)) ∈ lw_all := lw_g (lw_at lw_m8 125 rfl) rfl
theorem q1973 : (Jvm.Cond.methodLink "CircuitCyclesModel" (464 : Nat) ({ cls := "CircuitCyclesModel", name := "item", desc := "()V" } : Jvm.MethodName)) ∈ lw_all := lw_g (lw_at lw_m8 126 rfl) rfl
theorem q1974 : (Jvm.Cond.privateMethod ({ cls := "CircuitCyclesModel", name := "item", desc := "()V" } : Jvm.MethodName)) ∈ lw_tbl := lw_at lw_m8 127 rfl
theorem q1975 : (Jvm.Cond.instanceMethod ({ cls := "CircuitCyclesModel", name := "item", desc := "()V" } : Jvm.MethodName)) ∈ lw_all := lw_g (lw_at lw_m8 128 rfl) rfl
theorem q1976 : (Jvm.Cond.code ({ cls := "CircuitCyclesModel", name := "item", desc := "()V" } : Jvm.MethodName) prog_11_method_69_code (2 : Nat) (Option.none : Option Jvm.ClassFile.FieldType)) ∈ lw_all := lw_g (lw_at lw_m8 129 rfl) rfl
theorem q1977 : (Jvm.Cond.methodLink "CircuitCyclesModel" (450 : Nat) ({ cls := "CircuitCyclesModel", name := "assign", desc := "()V" } : Jvm.MethodName)) ∈ lw_all := lw_g (lw_at lw_m8 130 rfl) rfl
theorem q1978 : (Jvm.Cond.privateMethod ({ cls := "CircuitCyclesModel", name := "assign", desc := "()V" } : Jvm.MethodName)) ∈ lw_tbl := lw_at lw_m8 131 rfl
theorem q1979 : (Jvm.Cond.instanceMethod ({ cls := "CircuitCyclesModel", name := "assign", desc := "()V" } : Jvm.MethodName)) ∈ lw_all := lw_g (lw_at lw_m8 132 rfl) rfl
theorem q1980 : (Jvm.Cond.code ({ cls := "CircuitCyclesModel", name := "assign", desc := "()V" } : Jvm.MethodName) prog_11_method_61_code (5 : Nat) (Option.none : Option Jvm.ClassFile.FieldType)) ∈ lw_all := lw_g (lw_at lw_m8 133 rfl) rfl
theorem q1981 : (Jvm.Cond.methodLink "CircuitCyclesModel" (417 : Nat) ({ cls := "CircuitCyclesModel", name := "isDriven", desc := "(I)Z" } : Jvm.MethodName)) ∈ lw_all := lw_g (lw_at lw_m8 134 rfl) rfl
theorem q1982 : (Jvm.Cond.privateMethod ({ cls := "CircuitCyclesModel", name := "isDriven", desc := "(I)Z" } : Jvm.MethodName)) ∈ lw_tbl := lw_at lw_m8 135 rfl
theorem q1983 : (Jvm.Cond.instanceMethod ({ cls := "CircuitCyclesModel", name := "isDriven", desc := "(I)Z" } : Jvm.MethodName)) ∈ lw_all := lw_g (lw_at lw_m8 136 rfl) rfl
theorem q1984 : (Jvm.Cond.code ({ cls := "CircuitCyclesModel", name := "isDriven", desc := "(I)Z" } : Jvm.MethodName) prog_11_method_59_code (2 : Nat) (Option.some Jvm.ClassFile.FieldType.boolean)) ∈ lw_all := lw_g (lw_at lw_m8 137 rfl) rfl
theorem q1985 : (Jvm.Cond.methodLink "CircuitCyclesModel" (358 : Nat) ({ cls := "CircuitCyclesModel", name := "exp", desc := "()I" } : Jvm.MethodName)) ∈ lw_all := lw_g (lw_at lw_m8 138 rfl) rfl
theorem q1986 : (Jvm.Cond.privateMethod ({ cls := "CircuitCyclesModel", name := "exp", desc := "()I" } : Jvm.MethodName)) ∈ lw_tbl := lw_at lw_m8 139 rfl
theorem q1987 : (Jvm.Cond.instanceMethod ({ cls := "CircuitCyclesModel", name := "exp", desc := "()I" } : Jvm.MethodName)) ∈ lw_all := lw_g (lw_at lw_m8 140 rfl) rfl
theorem q1988 : (Jvm.Cond.code ({ cls := "CircuitCyclesModel", name := "exp", desc := "()I" } : Jvm.MethodName) prog_11_method_48_code (5 : Nat) (Option.some Jvm.ClassFile.FieldType.int)) ∈ lw_all := lw_g (lw_at lw_m8 141 rfl) rfl
theorem q1989 : (Jvm.Cond.methodLink "CircuitCyclesModel" (355 : Nat) ({ cls := "CircuitCyclesModel", name := "binary", desc := "()I" } : Jvm.MethodName)) ∈ lw_all := lw_g (lw_at lw_m8 142 rfl) rfl
theorem q1990 : (Jvm.Cond.privateMethod ({ cls := "CircuitCyclesModel", name := "binary", desc := "()I" } : Jvm.MethodName)) ∈ lw_tbl := lw_at lw_m8 143 rfl
theorem q1991 : (Jvm.Cond.instanceMethod ({ cls := "CircuitCyclesModel", name := "binary", desc := "()I" } : Jvm.MethodName)) ∈ lw_all := lw_g (lw_at lw_m8 144 rfl) rfl
theorem q1992 : (Jvm.Cond.code ({ cls := "CircuitCyclesModel", name := "binary", desc := "()I" } : Jvm.MethodName) prog_11_method_49_code (3 : Nat) (Option.some Jvm.ClassFile.FieldType.int)) ∈ lw_all := lw_g (lw_at lw_m8 145 rfl) rfl
theorem q1993 : (Jvm.Cond.methodLink "CircuitCyclesModel" (371 : Nat) ({ cls := "CircuitCyclesModel", name := "operand", desc := "()I" } : Jvm.MethodName)) ∈ lw_all := lw_g (lw_at lw_m8 146 rfl) rfl
theorem q1994 : (Jvm.Cond.privateMethod ({ cls := "CircuitCyclesModel", name := "operand", desc := "()I" } : Jvm.MethodName)) ∈ lw_tbl := lw_at lw_m8 147 rfl
theorem q1995 : (Jvm.Cond.instanceMethod ({ cls := "CircuitCyclesModel", name := "operand", desc := "()I" } : Jvm.MethodName)) ∈ lw_all := lw_g (lw_at lw_m8 148 rfl) rfl
theorem q1996 : (Jvm.Cond.code ({ cls := "CircuitCyclesModel", name := "operand", desc := "()I" } : Jvm.MethodName) prog_11_method_52_code (5 : Nat) (Option.some Jvm.ClassFile.FieldType.int)) ∈ lw_all := lw_g (lw_at lw_m8 149 rfl) rfl
theorem q1997 : (Jvm.Cond.methodLink "CircuitCyclesModel" (383 : Nat) ({ cls := "CircuitCyclesModel", name := "primary", desc := "()I" } : Jvm.MethodName)) ∈ lw_all := lw_g (lw_at lw_m8 150 rfl) rfl
theorem q1998 : (Jvm.Cond.privateMethod ({ cls := "CircuitCyclesModel", name := "primary", desc := "()I" } : Jvm.MethodName)) ∈ lw_tbl := lw_at lw_m8 151 rfl
theorem q1999 : (Jvm.Cond.instanceMethod ({ cls := "CircuitCyclesModel", name := "primary", desc := "()I" } : Jvm.MethodName)) ∈ lw_all := lw_g (lw_at lw_m8 152 rfl) rfl
theorem q2000 : (Jvm.Cond.code ({ cls := "CircuitCyclesModel", name := "primary", desc := "()I" } : Jvm.MethodName) prog_11_method_53_code (4 : Nat) (Option.some Jvm.ClassFile.FieldType.int)) ∈ lw_all := lw_g (lw_at lw_m8 153 rfl) rfl
theorem q2001 : (Jvm.Cond.methodLink "CircuitCyclesModel" (390 : Nat) ({ cls := "CircuitCyclesModel", name := "keepNumber", desc := "(J)I" } : Jvm.MethodName)) ∈ lw_all := lw_g (lw_at lw_m8 154 rfl) rfl
theorem q2002 : (Jvm.Cond.privateMethod ({ cls := "CircuitCyclesModel", name := "keepNumber", desc := "(J)I" } : Jvm.MethodName)) ∈ lw_tbl := lw_at lw_m8 155 rfl
theorem q2003 : (Jvm.Cond.instanceMethod ({ cls := "CircuitCyclesModel", name := "keepNumber", desc := "(J)I" } : Jvm.MethodName)) ∈ lw_all := lw_g (lw_at lw_m8 156 rfl) rfl
theorem q2004 : (Jvm.Cond.code ({ cls := "CircuitCyclesModel", name := "keepNumber", desc := "(J)I" } : Jvm.MethodName) prog_11_method_47_code (5 : Nat) (Option.some Jvm.ClassFile.FieldType.int)) ∈ lw_all := lw_g (lw_at lw_m8 157 rfl) rfl
theorem q2005 : (Jvm.Cond.methodLink "CircuitCyclesModel" (365 : Nat) ({ cls := "CircuitCyclesModel", name := "lay", desc := "(III)V" } : Jvm.MethodName)) ∈ lw_all := lw_g (lw_at lw_m8 158 rfl) rfl
theorem q2006 : (Jvm.Cond.privateMethod ({ cls := "CircuitCyclesModel", name := "lay", desc := "(III)V" } : Jvm.MethodName)) ∈ lw_tbl := lw_at lw_m8 159 rfl
theorem q2007 : (Jvm.Cond.instanceMethod ({ cls := "CircuitCyclesModel", name := "lay", desc := "(III)V" } : Jvm.MethodName)) ∈ lw_all := lw_g (lw_at lw_m8 160 rfl) rfl
theorem q2008 : (Jvm.Cond.code ({ cls := "CircuitCyclesModel", name := "lay", desc := "(III)V" } : Jvm.MethodName) prog_11_method_46_code (6 : Nat) (Option.none : Option Jvm.ClassFile.FieldType)) ∈ lw_all := lw_g (lw_at lw_m8 161 rfl) rfl
theorem q2009 : (Jvm.Cond.methodLink "CircuitCyclesModel" (397 : Nat) ({ cls := "CircuitCyclesModel", name := "braces", desc := "(I)I" } : Jvm.MethodName)) ∈ lw_all := lw_g (lw_at lw_m8 162 rfl) rfl
theorem q2010 : (Jvm.Cond.privateMethod ({ cls := "CircuitCyclesModel", name := "braces", desc := "(I)I" } : Jvm.MethodName)) ∈ lw_tbl := lw_at lw_m8 163 rfl
theorem q2011 : (Jvm.Cond.instanceMethod ({ cls := "CircuitCyclesModel", name := "braces", desc := "(I)I" } : Jvm.MethodName)) ∈ lw_all := lw_g (lw_at lw_m8 164 rfl) rfl
theorem q2012 : (Jvm.Cond.code ({ cls := "CircuitCyclesModel", name := "braces", desc := "(I)I" } : Jvm.MethodName) prog_11_method_55_code (5 : Nat) (Option.some Jvm.ClassFile.FieldType.int)) ∈ lw_all := lw_g (lw_at lw_m8 165 rfl) rfl
theorem q2013 : (Jvm.Cond.methodLink "CircuitCyclesModel" (403 : Nat) ({ cls := "CircuitCyclesModel", name := "part", desc := "(I)I" } : Jvm.MethodName)) ∈ lw_all := lw_g (lw_at lw_m8 166 rfl) rfl
theorem q2014 : (Jvm.Cond.privateMethod ({ cls := "CircuitCyclesModel", name := "part", desc := "(I)I" } : Jvm.MethodName)) ∈ lw_tbl := lw_at lw_m8 167 rfl
theorem q2015 : (Jvm.Cond.instanceMethod ({ cls := "CircuitCyclesModel", name := "part", desc := "(I)I" } : Jvm.MethodName)) ∈ lw_all := lw_g (lw_at lw_m8 168 rfl) rfl
theorem q2016 : (Jvm.Cond.code ({ cls := "CircuitCyclesModel", name := "part", desc := "(I)I" } : Jvm.MethodName) prog_11_method_54_code (5 : Nat) (Option.some Jvm.ClassFile.FieldType.int)) ∈ lw_all := lw_g (lw_at lw_m8 169 rfl) rfl
theorem q2017 : (Jvm.Cond.methodLink "CircuitCyclesModel" (361 : Nat) ({ cls := "CircuitCyclesModel", name := "cost", desc := "(J)V" } : Jvm.MethodName)) ∈ lw_all := lw_g (lw_at lw_m8 170 rfl) rfl
theorem q2018 : (Jvm.Cond.privateMethod ({ cls := "CircuitCyclesModel", name := "cost", desc := "(J)V" } : Jvm.MethodName)) ∈ lw_tbl := lw_at lw_m8 171 rfl
theorem q2019 : (Jvm.Cond.instanceMethod ({ cls := "CircuitCyclesModel", name := "cost", desc := "(J)V" } : Jvm.MethodName)) ∈ lw_all := lw_g (lw_at lw_m8 172 rfl) rfl
theorem q2020 : (Jvm.Cond.code ({ cls := "CircuitCyclesModel", name := "cost", desc := "(J)V" } : Jvm.MethodName) prog_11_method_45_code (3 : Nat) (Option.none : Option Jvm.ClassFile.FieldType)) ∈ lw_all := lw_g (lw_at lw_m8 173 rfl) rfl
theorem q2021 : (Jvm.Cond.methodLink "CircuitCyclesModel" (374 : Nat) ({ cls := "CircuitCyclesModel", name := "pushWidth", desc := "(I)V" } : Jvm.MethodName)) ∈ lw_all := lw_g (lw_at lw_m8 174 rfl) rfl
theorem q2022 : (Jvm.Cond.privateMethod ({ cls := "CircuitCyclesModel", name := "pushWidth", desc := "(I)V" } : Jvm.MethodName)) ∈ lw_tbl := lw_at lw_m8 175 rfl
theorem q2023 : (Jvm.Cond.instanceMethod ({ cls := "CircuitCyclesModel", name := "pushWidth", desc := "(I)V" } : Jvm.MethodName)) ∈ lw_all := lw_g (lw_at lw_m8 176 rfl) rfl
theorem q2024 : (Jvm.Cond.code ({ cls := "CircuitCyclesModel", name := "pushWidth", desc := "(I)V" } : Jvm.MethodName) prog_11_method_50_code (2 : Nat) (Option.none : Option Jvm.ClassFile.FieldType)) ∈ lw_all := lw_g (lw_at lw_m8 177 rfl) rfl
theorem q2025 : (Jvm.Cond.methodLink "CircuitCyclesModel" (377 : Nat) ({ cls := "CircuitCyclesModel", name := "reckon", desc := "()V" } : Jvm.MethodName)) ∈ lw_all := lw_g (lw_at lw_m8 178 rfl) rfl
theorem q2026 : (Jvm.Cond.privateMethod ({ cls := "CircuitCyclesModel", name := "reckon", desc := "()V" } : Jvm.MethodName)) ∈ lw_tbl := lw_at lw_m8 179 rfl
theorem q2027 : (Jvm.Cond.instanceMethod ({ cls := "CircuitCyclesModel", name := "reckon", desc := "()V" } : Jvm.MethodName)) ∈ lw_all := lw_g (lw_at lw_m8 180 rfl) rfl
theorem q2028 : (Jvm.Cond.code ({ cls := "CircuitCyclesModel", name := "reckon", desc := "()V" } : Jvm.MethodName) prog_11_method_51_code (8 : Nat) (Option.none : Option Jvm.ClassFile.FieldType)) ∈ lw_all := lw_g (lw_at lw_m8 181 rfl) rfl
theorem q2029 : (Jvm.Cond.methodLink "CircuitCyclesModel" (420 : Nat) ({ cls := "CircuitCyclesModel", name := "statement", desc := "()V" } : Jvm.MethodName)) ∈ lw_all := lw_g (lw_at lw_m8 182 rfl) rfl
theorem q2030 : (Jvm.Cond.privateMethod ({ cls := "CircuitCyclesModel", name := "statement", desc := "()V" } : Jvm.MethodName)) ∈ lw_tbl := lw_at lw_m8 183 rfl
theorem q2031 : (Jvm.Cond.instanceMethod ({ cls := "CircuitCyclesModel", name := "statement", desc := "()V" } : Jvm.MethodName)) ∈ lw_all := lw_g (lw_at lw_m8 184 rfl) rfl
theorem q2032 : (Jvm.Cond.code ({ cls := "CircuitCyclesModel", name := "statement", desc := "()V" } : Jvm.MethodName) prog_11_method_62_code (3 : Nat) (Option.none : Option Jvm.ClassFile.FieldType)) ∈ lw_all := lw_g (lw_at lw_m8 185 rfl) rfl
theorem q2033 : (Jvm.Cond.methodLink "CircuitCyclesModel" (423 : Nat) ({ cls := "CircuitCyclesModel", name := "caseOf", desc := "()V" } : Jvm.MethodName)) ∈ lw_all := lw_g (lw_at lw_m8 186 rfl) rfl
theorem q2034 : (Jvm.Cond.privateMethod ({ cls := "CircuitCyclesModel", name := "caseOf", desc := "()V" } : Jvm.MethodName)) ∈ lw_tbl := lw_at lw_m8 187 rfl
theorem q2035 : (Jvm.Cond.instanceMethod ({ cls := "CircuitCyclesModel", name := "caseOf", desc := "()V" } : Jvm.MethodName)) ∈ lw_all := lw_g (lw_at lw_m8 188 rfl) rfl
theorem q2036 : (Jvm.Cond.code ({ cls := "CircuitCyclesModel", name := "caseOf", desc := "()V" } : Jvm.MethodName) prog_11_method_63_code (6 : Nat) (Option.none : Option Jvm.ClassFile.FieldType)) ∈ lw_all := lw_g (lw_at lw_m8 189 rfl) rfl
theorem q2037 : (Jvm.Cond.methodLink "CircuitCyclesModel" (429 : Nat) ({ cls := "CircuitCyclesModel", name := "patch", desc := "(I)V" } : Jvm.MethodName)) ∈ lw_all := lw_g (lw_at lw_m8 190 rfl) rfl
theorem q2038 : (Jvm.Cond.privateMethod ({ cls := "CircuitCyclesModel", name := "patch", desc := "(I)V" } : Jvm.MethodName)) ∈ lw_tbl := lw_at lw_m8 191 rfl
theorem q2039 : (Jvm.Cond.instanceMethod ({ cls := "CircuitCyclesModel", name := "patch", desc := "(I)V" } : Jvm.MethodName)) ∈ lw_all := lw_g (lw_at lw_m8 192 rfl) rfl
theorem q2040 : (Jvm.Cond.code ({ cls := "CircuitCyclesModel", name := "patch", desc := "(I)V" } : Jvm.MethodName) prog_11_method_64_code (4 : Nat) (Option.none : Option Jvm.ClassFile.FieldType)) ∈ lw_all := lw_g (lw_at lw_m8 193 rfl) rfl
theorem q2041 : (Jvm.Cond.methodLink "CircuitCyclesModel" (426 : Nat) ({ cls := "CircuitCyclesModel", name := "setting", desc := "()V" } : Jvm.MethodName)) ∈ lw_all := lw_g (lw_at lw_m8 194 rfl) rfl
theorem q2042 : (Jvm.Cond.privateMethod ({ cls := "CircuitCyclesModel", name := "setting", desc := "()V" } : Jvm.MethodName)) ∈ lw_tbl := lw_at lw_m8 195 rfl
theorem q2043 : (Jvm.Cond.instanceMethod ({ cls := "CircuitCyclesModel", name := "setting", desc := "()V" } : Jvm.MethodName)) ∈ lw_all := lw_g (lw_at lw_m8 196 rfl) rfl
theorem q2044 : (Jvm.Cond.code ({ cls := "CircuitCyclesModel", name := "setting", desc := "()V" } : Jvm.MethodName) prog_11_method_65_code (6 : Nat) (Option.none : Option Jvm.ClassFile.FieldType)) ∈ lw_all := lw_g (lw_at lw_m8 197 rfl) rfl
theorem q2045 : (Jvm.Cond.methodLink "CircuitCyclesModel" (432 : Nat) ({ cls := "CircuitCyclesModel", name := "isRegister", desc := "(I)Z" } : Jvm.MethodName)) ∈ lw_all := lw_g (lw_at lw_m8 198 rfl) rfl
theorem q2046 : (Jvm.Cond.privateMethod ({ cls := "CircuitCyclesModel", name := "isRegister", desc := "(I)Z" } : Jvm.MethodName)) ∈ lw_tbl := lw_at lw_m8 199 rfl
theorem q2047 : (Jvm.Cond.instanceMethod ({ cls := "CircuitCyclesModel", name := "isRegister", desc := "(I)Z" } : Jvm.MethodName)) ∈ lw_all := lw_g (lw_at lw_m8 200 rfl) rfl
theorem q2048 : (Jvm.Cond.code ({ cls := "CircuitCyclesModel", name := "isRegister", desc := "(I)Z" } : Jvm.MethodName) prog_11_method_60_code (2 : Nat) (Option.some Jvm.ClassFile.FieldType.boolean)) ∈ lw_all := lw_g (lw_at lw_m8 201 rfl) rfl
theorem q2049 : (Jvm.Cond.methodLink "CircuitCyclesModel" (456 : Nat) ({ cls := "CircuitCyclesModel", name := "instance", desc := "()V" } : Jvm.MethodName)) ∈ lw_all := lw_g (lw_at lw_m8 202 rfl) rfl
theorem q2050 : (Jvm.Cond.privateMethod ({ cls := "CircuitCyclesModel", name := "instance", desc := "()V" } : Jvm.MethodName)) ∈ lw_tbl := lw_at lw_m8 203 rfl
theorem q2051 : (Jvm.Cond.instanceMethod ({ cls := "CircuitCyclesModel", name := "instance", desc := "()V" } : Jvm.MethodName)) ∈ lw_all := lw_g (lw_at lw_m8 204 rfl) rfl
theorem q2052 : (Jvm.Cond.code ({ cls := "CircuitCyclesModel", name := "instance", desc := "()V" } : Jvm.MethodName) prog_11_method_66_code (4 : Nat) (Option.none : Option Jvm.ClassFile.FieldType)) ∈ lw_all := lw_g (lw_at lw_m8 205 rfl) rfl
theorem q2053 : (Jvm.Cond.methodLink "CircuitCyclesModel" (444 : Nat) ({ cls := "CircuitCyclesModel", name := "link", desc := "(I)V" } : Jvm.MethodName)) ∈ lw_all := lw_g (lw_at lw_m8 206 rfl) rfl
theorem q2054 : (Jvm.Cond.privateMethod ({ cls := "CircuitCyclesModel", name := "link", desc := "(I)V" } : Jvm.MethodName)) ∈ lw_tbl := lw_at lw_m8 207 rfl
theorem q2055 : (Jvm.Cond.instanceMethod ({ cls := "CircuitCyclesModel", name := "link", desc := "(I)V" } : Jvm.MethodName)) ∈ lw_all := lw_g (lw_at lw_m8 208 rfl) rfl
theorem q2056 : (Jvm.Cond.code ({ cls := "CircuitCyclesModel", name := "link", desc := "(I)V" } : Jvm.MethodName) prog_11_method_68_code (9 : Nat) (Option.none : Option Jvm.ClassFile.FieldType)) ∈ lw_all := lw_g (lw_at lw_m8 209 rfl) rfl
theorem q2057 : (Jvm.Cond.methodLink "CircuitCyclesModel" (447 : Nat) ({ cls := "CircuitCyclesModel", name := "linkOf", desc := "(III)I" } : Jvm.MethodName)) ∈ lw_all := lw_g (lw_at lw_m8 210 rfl) rfl
theorem q2058 : (Jvm.Cond.privateMethod ({ cls := "CircuitCyclesModel", name := "linkOf", desc := "(III)I" } : Jvm.MethodName)) ∈ lw_tbl := lw_at lw_m8 211 rfl
theorem q2059 : (Jvm.Cond.instanceMethod ({ cls := "CircuitCyclesModel", name := "linkOf", desc := "(III)I" } : Jvm.MethodName)) ∈ lw_all := lw_g (lw_at lw_m8 212 rfl) rfl
theorem q2060 : (Jvm.Cond.code ({ cls := "CircuitCyclesModel", name := "linkOf", desc := "(III)I" } : Jvm.MethodName) prog_11_method_67_code (5 : Nat) (Option.some Jvm.ClassFile.FieldType.int)) ∈ lw_all := lw_g (lw_at lw_m8 213 rfl) rfl
theorem q2061 : (Jvm.Cond.methodLink "CircuitCyclesModel" (467 : Nat) ({ cls := "CircuitCyclesModel", name := "most", desc := "(J)J" } : Jvm.MethodName)) ∈ lw_all := lw_g (lw_at lw_m8 214 rfl) rfl
theorem q2062 : (Jvm.Cond.static ({ cls := "CircuitCyclesModel", name := "most", desc := "(J)J" } : Jvm.MethodName)) ∈ lw_all := lw_g (lw_at lw_m8 215 rfl) rfl
theorem q2063 : (Jvm.Cond.code ({ cls := "CircuitCyclesModel", name := "most", desc := "(J)J" } : Jvm.MethodName) prog_11_method_70_code (2 : Nat) (Option.some Jvm.ClassFile.FieldType.long)) ∈ lw_all := lw_g (lw_at lw_m8 216 rfl) rfl
theorem q2064 : (Jvm.Cond.constantLong "CircuitCyclesModel" (459 : Nat) (1000000000 : Int64)) ∈ lw_all := lw_g (lw_at lw_m8 217 rfl) rfl
theorem q2065 : (Jvm.Cond.methodLink "CircuitCyclesModel" (527 : Nat) ({ cls := "CircuitCyclesModel", name := "limits", desc := "()V" } : Jvm.MethodName)) ∈ lw_all := lw_g (lw_at lw_m8 218 rfl) rfl
theorem q2066 : (Jvm.Cond.privateMethod ({ cls := "CircuitCyclesModel", name := "limits", desc := "()V" } : Jvm.MethodName)) ∈ lw_tbl := lw_at lw_m8 219 rfl
theorem q2067 : (Jvm.Cond.instanceMethod ({ cls := "CircuitCyclesModel", name := "limits", desc := "()V" } : Jvm.MethodName)) ∈ lw_all := lw_g (lw_at lw_m8 220 rfl) rfl
theorem q2068 : (Jvm.Cond.code ({ cls := "CircuitCyclesModel", name := "limits", desc := "()V" } : Jvm.MethodName) prog_11_method_73_code (9 : Nat) (Option.none : Option Jvm.ClassFile.FieldType)) ∈ lw_all := lw_g (lw_at lw_m8 221 rfl) rfl
theorem q2069 : (Jvm.Cond.constantLong "CircuitCyclesModel" (474 : Nat) (40 : Int64)) ∈ lw_all := lw_g (lw_at lw_m8 222 rfl) rfl
theorem q2070 : (Jvm.Cond.constantLong "CircuitCyclesModel" (476 : Nat) (20 : Int64)) ∈ lw_all := lw_g (lw_at lw_m8 223 rfl) rfl
theorem q2071 : (Jvm.Cond.constantLong "CircuitCyclesModel" (478 : Nat) (256 : Int64)) ∈ lw_all := lw_g (lw_at lw_m8 224 rfl) rfl
theorem q2072 : (Jvm.Cond.methodLink "CircuitCyclesModel" (480 : Nat) ({ cls := "CircuitCyclesModel", name := "bound", desc := "(ZII)V" } : Jvm.MethodName)) ∈ lw_all := lw_g (lw_at lw_m8 225 rfl) rfl
theorem q2073 : (Jvm.Cond.privateMethod ({ cls := "CircuitCyclesModel", name := "bound", desc := "(ZII)V" } : Jvm.MethodName)) ∈ lw_tbl := lw_at lw_m8 226 rfl
theorem q2074 : (Jvm.Cond.instanceMethod ({ cls := "CircuitCyclesModel", name := "bound", desc := "(ZII)V" } : Jvm.MethodName)) ∈ lw_all := lw_g (lw_at lw_m8 227 rfl) rfl
theorem q2075 : (Jvm.Cond.code ({ cls := "CircuitCyclesModel", name := "bound", desc := "(ZII)V" } : Jvm.MethodName) prog_11_method_74_code (4 : Nat) (Option.none : Option Jvm.ClassFile.FieldType)) ∈ lw_all := lw_g (lw_at lw_m8 228 rfl) rfl
theorem q2076 : (Jvm.Cond.constantLong "CircuitCyclesModel" (484 : Nat) (1024 : Int64)) ∈ lw_all := lw_g (lw_at lw_m8 229 rfl) rfl
theorem q2077 : (Jvm.Cond.constantLong "CircuitCyclesModel" (486 : Nat) (12 : Int64)) ∈ lw_all := lw_g (lw_at lw_m8 230 rfl) rfl
theorem q2078 : (Jvm.Cond.constantLong "CircuitCyclesModel" (488 : Nat) (6 : Int64)) ∈ lw_all := lw_g (lw_at lw_m8 231 rfl) rfl
theorem q2079 : (Jvm.Cond.constantLong "CircuitCyclesModel" (490 : Nat) (1500 : Int64)) ∈ lw_all := lw_g (lw_at lw_m8 232 rfl) rfl
theorem q2080 : (Jvm.Cond.constantLong "CircuitCyclesModel" (492 : Nat) (16777216 : Int64)) ∈ lw_all := lw_g (lw_at lw_m8 233 rfl) rfl
theorem q2081 : (Jvm.Cond.methodLink "CircuitCyclesModel" (530 : Nat) ({ cls := "CircuitCyclesModel", name := "writeOut", desc := "()V" } : Jvm.MethodName)) ∈ lw_all := lw_g (lw_at lw_m8 234 rfl) rfl
theorem q2082 : (Jvm.Cond.privateMethod ({ cls := "CircuitCyclesModel", name := "writeOut", desc := "()V" } : Jvm.MethodName)) ∈ lw_tbl := lw_at lw_m8 235 rfl
theorem q2083 : (Jvm.Cond.instanceMethod ({ cls := "CircuitCyclesModel", name := "writeOut", desc := "()V" } : Jvm.MethodName)) ∈ lw_all := lw_g (lw_at lw_m8 236 rfl) rfl
theorem q2084 : (Jvm.Cond.code ({ cls := "CircuitCyclesModel", name := "writeOut", desc := "()V" } : Jvm.MethodName) prog_11_method_75_code (4 : Nat) (Option.none : Option Jvm.ClassFile.FieldType)) ∈ lw_all := lw_g (lw_at lw_m8 237 rfl) rfl
theorem q2085 : (Jvm.Cond.methodLink "CircuitCyclesModel" (500 : Nat) ({ cls := "CircuitCyclesModel", name := "begin", desc := "(III)V" } : Jvm.MethodName)) ∈ lw_all := lw_g (lw_at lw_m8 238 rfl) rfl
theorem q2086 : (Jvm.Cond.privateMethod ({ cls := "CircuitCyclesModel", name := "begin", desc := "(III)V" } : Jvm.MethodName)) ∈ lw_tbl := lw_at lw_m8 239 rfl
theorem q2087 : (Jvm.Cond.instanceMethod ({ cls := "CircuitCyclesModel", name := "begin", desc := "(III)V" } : Jvm.MethodName)) ∈ lw_all := lw_g (lw_at lw_m9 0 rfl) rfl
theorem q2088 : (Jvm.Cond.code ({ cls := "CircuitCyclesModel", name := "begin", desc := "(III)V" } : Jvm.MethodName) prog_11_method_76_code (5 : Nat) (Option.none : Option Jvm.ClassFile.FieldType)) ∈ lw_all := lw_g (lw_at lw_m9 1 rfl) rfl
theorem q2089 : (Jvm.Cond.methodLink "CircuitCyclesModel" (503 : Nat) ({ cls := "CircuitCyclesModel", name := "findRule", desc := "(I)V" } : Jvm.MethodName)) ∈ lw_all := lw_g (lw_at lw_m9 2 rfl) rfl
theorem q2090 : (Jvm.Cond.privateMethod ({ cls := "CircuitCyclesModel", name := "findRule", desc := "(I)V" } : Jvm.MethodName)) ∈ lw_tbl := lw_at lw_m9 3 rfl
theorem q2091 : (Jvm.Cond.instanceMethod ({ cls := "CircuitCyclesModel", name := "findRule", desc := "(I)V" } : Jvm.MethodName)) ∈ lw_all := lw_g (lw_at lw_m9 4 rfl) rfl
theorem q2092 : (Jvm.Cond.code ({ cls := "CircuitCyclesModel", name := "findRule", desc := "(I)V" } : Jvm.MethodName) prog_11_method_78_code (5 : Nat) (Option.none : Option Jvm.ClassFile.FieldType)) ∈ lw_all := lw_g (lw_at lw_m9 5 rfl) rfl
theorem q2093 : (Jvm.Cond.methodLink "CircuitCyclesModel" (506 : Nat) ({ cls := "CircuitCyclesModel", name := "signalOf", desc := "(II)I" } : Jvm.MethodName)) ∈ lw_all := lw_g (lw_at lw_m9 6 rfl) rfl
theorem q2094 : (Jvm.Cond.privateMethod ({ cls := "CircuitCyclesModel", name := "signalOf", desc := "(II)I" } : Jvm.MethodName)) ∈ lw_tbl := lw_at lw_m9 7 rfl
theorem q2095 : (Jvm.Cond.instanceMethod ({ cls := "CircuitCyclesModel", name := "signalOf", desc := "(II)I" } : Jvm.MethodName)) ∈ lw_all := lw_g (lw_at lw_m9 8 rfl) rfl
theorem q2096 : (Jvm.Cond.code ({ cls := "CircuitCyclesModel", name := "signalOf", desc := "(II)I" } : Jvm.MethodName) prog_11_method_77_code (3 : Nat) (Option.some Jvm.ClassFile.FieldType.int)) ∈ lw_all := lw_g (lw_at lw_m9 9 rfl) rfl
theorem q2097 : (Jvm.Cond.methodLink "CircuitCyclesModel" (533 : Nat) ({ cls := "CircuitCyclesModel", name := "putInOrder", desc := "()V" } : Jvm.MethodName)) ∈ lw_all := lw_g (lw_at lw_m9 10 rfl) rfl
theorem q2098 : (Jvm.Cond.privateMethod ({ cls := "CircuitCyclesModel", name := "putInOrder", desc := "()V" } : Jvm.MethodName)) ∈ lw_tbl := lw_at lw_m9 11 rfl
theorem q2099 : (Jvm.Cond.instanceMethod ({ cls := "CircuitCyclesModel", name := "putInOrder", desc := "()V" } : Jvm.MethodName)) ∈ lw_all := lw_g (lw_at lw_m9 12 rfl) rfl
theorem q2100 : (Jvm.Cond.code ({ cls := "CircuitCyclesModel", name := "putInOrder", desc := "()V" } : Jvm.MethodName) prog_11_method_80_code (3 : Nat) (Option.none : Option Jvm.ClassFile.FieldType)) ∈ lw_all := lw_g (lw_at lw_m9 13 rfl) rfl
theorem q2101 : (Jvm.Cond.methodLink "CircuitCyclesModel" (512 : Nat) ({ cls := "CircuitCyclesModel", name := "canBe", desc := "(I)Z" } : Jvm.MethodName)) ∈ lw_all := lw_g (lw_at lw_m9 14 rfl) rfl
theorem q2102 : (Jvm.Cond.privateMethod ({ cls := "CircuitCyclesModel", name := "canBe", desc := "(I)Z" } : Jvm.MethodName)) ∈ lw_tbl := lw_at lw_m9 15 rfl
theorem q2103 : (Jvm.Cond.instanceMethod ({ cls := "CircuitCyclesModel", name := "canBe", desc := "(I)Z" } : Jvm.MethodName)) ∈ lw_all := lw_g (lw_at lw_m9 16 rfl) rfl
theorem q2104 : (Jvm.Cond.code ({ cls := "CircuitCyclesModel", name := "canBe", desc := "(I)Z" } : Jvm.MethodName) prog_11_method_79_code (4 : Nat) (Option.some Jvm.ClassFile.FieldType.boolean)) ∈ lw_all := lw_g (lw_at lw_m9 17 rfl) rfl
theorem q2105 : (Jvm.Cond.methodLink "CircuitCyclesModel" (515 : Nat) ({ cls := "CircuitCyclesModel", name := "dependsOnItself", desc := "(I)Z" } : Jvm.MethodName)) ∈ lw_all := lw_g (lw_at lw_m9 18 rfl) rfl
theorem q2106 : (Jvm.Cond.privateMethod ({ cls := "CircuitCyclesModel", name := "dependsOnItself", desc := "(I)Z" } : Jvm.MethodName)) ∈ lw_tbl := lw_at lw_m9 19 rfl
theorem q2107 : (Jvm.Cond.instanceMethod ({ cls := "CircuitCyclesModel", name := "dependsOnItself", desc := "(I)Z" } : Jvm.MethodName)) ∈ lw_all := lw_g (lw_at lw_m9 20 rfl) rfl
theorem q2108 : (Jvm.Cond.code ({ cls := "CircuitCyclesModel", name := "dependsOnItself", desc := "(I)Z" } : Jvm.MethodName) prog_11_method_81_code (9 : Nat) (Option.some Jvm.ClassFile.FieldType.boolean)) ∈ lw_all := lw_g (lw_at lw_m9 21 rfl) rfl
theorem q2109 : (Jvm.Cond.methodLink "CircuitCyclesModel" (551 : Nat) ({ cls := "CircuitCyclesModel", name := "sumUp", desc := "()V" } : Jvm.MethodName)) ∈ lw_all := lw_g (lw_at lw_m9 22 rfl) rfl
theorem q2110 : (Jvm.Cond.privateMethod ({ cls := "CircuitCyclesModel", name := "sumUp", desc := "()V" } : Jvm.MethodName)) ∈ lw_tbl := lw_at lw_m9 23 rfl
theorem q2111 : (Jvm.Cond.instanceMethod ({ cls := "CircuitCyclesModel", name := "sumUp", desc := "()V" } : Jvm.MethodName)) ∈ lw_all := lw_g (lw_at lw_m9 24 rfl) rfl
theorem q2112 : (Jvm.Cond.code ({ cls := "CircuitCyclesModel", name := "sumUp", desc := "()V" } : Jvm.MethodName) prog_11_method_84_code (4 : Nat) (Option.none : Option Jvm.ClassFile.FieldType)) ∈ lw_all := lw_g (lw_at lw_m9 25 rfl) rfl
theorem q2113 : (Jvm.Cond.methodLink "CircuitCyclesModel" (554 : Nat) ({ cls := "CircuitCyclesModel", name := "begin0", desc := "()V" } : Jvm.MethodName)) ∈ lw_all := lw_g (lw_at lw_m9 26 rfl) rfl
theorem q2114 : (Jvm.Cond.privateMethod ({ cls := "CircuitCyclesModel", name := "begin0", desc := "()V" } : Jvm.MethodName)) ∈ lw_tbl := lw_at lw_m9 27 rfl
theorem q2115 : (Jvm.Cond.instanceMethod ({ cls := "CircuitCyclesModel", name := "begin0", desc := "()V" } : Jvm.MethodName)) ∈ lw_all := lw_g (lw_at lw_m9 28 rfl) rfl
theorem q2116 : (Jvm.Cond.code ({ cls := "CircuitCyclesModel", name := "begin0", desc := "()V" } : Jvm.MethodName) prog_11_method_95_code (2 : Nat) (Option.none : Option Jvm.ClassFile.FieldType)) ∈ lw_all := lw_g (lw_at lw_m9 29 rfl) rfl
theorem q2117 : (Jvm.Cond.methodLink "CircuitCyclesModel" (608 : Nat) ({ cls := "CircuitCyclesModel", name := "settle", desc := "([J[J)V" } : Jvm.MethodName)) ∈ lw_all := lw_g (lw_at lw_m9 30 rfl) rfl
theorem q2118 : (Jvm.Cond.privateMethod ({ cls := "CircuitCyclesModel", name := "settle", desc := "([J[J)V" } : Jvm.MethodName)) ∈ lw_tbl := lw_at lw_m9 31 rfl
theorem q2119 : (Jvm.Cond.instanceMethod ({ cls := "CircuitCyclesModel", name := "settle", desc := "([J[J)V" } : Jvm.MethodName)) ∈ lw_all := lw_g (lw_at lw_m9 32 rfl) rfl
theorem q2120 : (Jvm.Cond.code ({ cls := "CircuitCyclesModel", name := "settle", desc := "([J[J)V" } : Jvm.MethodName) prog_11_method_92_code (5 : Nat) (Option.none : Option Jvm.ClassFile.FieldType)) ∈ lw_all := lw_g (lw_at lw_m9 33 rfl) rfl
theorem q2121 : (Jvm.Cond.methodLink "CircuitCyclesModel" (602 : Nat) ({ cls := "CircuitCyclesModel", name := "run", desc := "(III)V" } : Jvm.MethodName)) ∈ lw_all := lw_g (lw_at lw_m9 34 rfl) rfl
theorem q2122 : (Jvm.Cond.privateMethod ({ cls := "CircuitCyclesModel", name := "run", desc := "(III)V" } : Jvm.MethodName)) ∈ lw_tbl := lw_at lw_m9 35 rfl
theorem q2123 : (Jvm.Cond.instanceMethod ({ cls := "CircuitCyclesModel", name := "run", desc := "(III)V" } : Jvm.MethodName)) ∈ lw_all := lw_g (lw_at lw_m9 36 rfl) rfl
theorem q2124 : (Jvm.Cond.code ({ cls := "CircuitCyclesModel", name := "run", desc := "(III)V" } : Jvm.MethodName) prog_11_method_91_code (29 : Nat) (Option.none : Option Jvm.ClassFile.FieldType)) ∈ lw_all := lw_g (lw_at lw_m9 37 rfl) rfl
theorem q2125 : (Jvm.Cond.methodLink "CircuitCyclesModel" (587 : Nat) ({ cls := "CircuitCyclesModel", name := "push", desc := "(J)V" } : Jvm.MethodName)) ∈ lw_all := lw_g (lw_at lw_m9 38 rfl) rfl
theorem q2126 : (Jvm.Cond.privateMethod ({ cls := "CircuitCyclesModel", name := "push", desc := "(J)V" } : Jvm.MethodName)) ∈ lw_tbl := lw_at lw_m9 39 rfl
theorem q2127 : (Jvm.Cond.instanceMethod ({ cls := "CircuitCyclesModel", name := "push", desc := "(J)V" } : Jvm.MethodName)) ∈ lw_all := lw_g (lw_at lw_m9 40 rfl) rfl
theorem q2128 : (Jvm.Cond.code ({ cls := "CircuitCyclesModel", name := "push", desc := "(J)V" } : Jvm.MethodName) prog_11_method_90_code (3 : Nat) (Option.none : Option Jvm.ClassFile.FieldType)) ∈ lw_all := lw_g (lw_at lw_m9 41 rfl) rfl
theorem q2129 : (Jvm.Cond.methodLink "CircuitCyclesModel" (590 : Nat) ({ cls := "CircuitCyclesModel", name := "pop", desc := "()J" } : Jvm.MethodName)) ∈ lw_all := lw_g (lw_at lw_m9 42 rfl) rfl
theorem q2130 : (Jvm.Cond.privateMethod ({ cls := "CircuitCyclesModel", name := "pop", desc := "()J" } : Jvm.MethodName)) ∈ lw_tbl := lw_at lw_m9 43 rfl
theorem q2131 : (Jvm.Cond.instanceMethod ({ cls := "CircuitCyclesModel", name := "pop", desc := "()J" } : Jvm.MethodName)) ∈ lw_all := lw_g (lw_at lw_m9 44 rfl) rfl
theorem q2132 : (Jvm.Cond.code ({ cls := "CircuitCyclesModel", name := "pop", desc := "()J" } : Jvm.MethodName) prog_11_method_89_code (1 : Nat) (Option.some Jvm.ClassFile.FieldType.long)) ∈ lw_all := lw_g (lw_at lw_m9 45 rfl) rfl
theorem q2133 : (Jvm.Cond.methodLink "CircuitCyclesModel" (581 : Nat) ({ cls := "CircuitCyclesModel", name := "mask", desc := "(I)J" } : Jvm.MethodName)) ∈ lw_all := lw_g (lw_at lw_m9 46 rfl) rfl
theorem q2134 : (Jvm.Cond.static ({ cls := "CircuitCyclesModel", name := "mask", desc := "(I)J" } : Jvm.MethodName)) ∈ lw_all := lw_g (lw_at lw_m9 47 rfl) rfl
theorem q2135 : (Jvm.Cond.code ({ cls := "CircuitCyclesModel", name := "mask", desc := "(I)J" } : Jvm.MethodName) prog_11_method_85_code (1 : Nat) (Option.some Jvm.ClassFile.FieldType.long)) ∈ lw_all := lw_g (lw_at lw_m9 48 rfl) rfl
theorem q2136 : (Jvm.Cond.constantLong "CircuitCyclesModel" (573 : Nat) (-1 : Int64)) ∈ lw_all := lw_g (lw_at lw_m9 49 rfl) rfl
theorem q2137 : (Jvm.Cond.methodLink "CircuitCyclesModel" (594 : Nat) ({ cls := "CircuitCyclesModel", name := "one", desc := "(IIJ)J" } : Jvm.MethodName)) ∈ lw_all := lw_g (lw_at lw_m9 50 rfl) rfl
theorem q2138 : (Jvm.Cond.static ({ cls := "CircuitCyclesModel", name := "one", desc := "(IIJ)J" } : Jvm.MethodName)) ∈ lw_all := lw_g (lw_at lw_m9 51 rfl) rfl
theorem q2139 : (Jvm.Cond.code ({ cls := "CircuitCyclesModel", name := "one", desc := "(IIJ)J" } : Jvm.MethodName) prog_11_method_88_code (7 : Nat) (Option.some Jvm.ClassFile.FieldType.long)) ∈ lw_all := lw_g (lw_at lw_m9 52 rfl) rfl
theorem q2140 : (Jvm.Cond.methodLink "CircuitCyclesModel" (598 : Nat) ({ cls := "CircuitCyclesModel", name := "two", desc := "(IIJJ)J" } : Jvm.MethodName)) ∈ lw_all := lw_g (lw_at lw_m9 53 rfl) rfl
theorem q2141 : (Jvm.Cond.static ({ cls := "CircuitCyclesModel", name := "two", desc := "(IIJJ)J" } : Jvm.MethodName)) ∈ lw_all := lw_g (lw_at lw_m9 54 rfl) rfl
theorem q2142 : (Jvm.Cond.code ({ cls := "CircuitCyclesModel", name := "two", desc := "(IIJJ)J" } : Jvm.MethodName) prog_11_method_87_code (6 : Nat) (Option.some Jvm.ClassFile.FieldType.long)) ∈ lw_all := lw_g (lw_at lw_m9 55 rfl) rfl
theorem q2143 : (Jvm.Cond.methodLink "CircuitCyclesModel" (577 : Nat) ({ cls := "CircuitCyclesModel", name := "below", desc := "(JJ)Z" } : Jvm.MethodName)) ∈ lw_all := lw_g (lw_at lw_m9 56 rfl) rfl
theorem q2144 : (Jvm.Cond.static ({ cls := "CircuitCyclesModel", name := "below", desc := "(JJ)Z" } : Jvm.MethodName)) ∈ lw_all := lw_g (lw_at lw_m9 57 rfl) rfl
theorem q2145 : (Jvm.Cond.code ({ cls := "CircuitCyclesModel", name := "below", desc := "(JJ)Z" } : Jvm.MethodName) prog_11_method_86_code (4 : Nat) (Option.some Jvm.ClassFile.FieldType.boolean)) ∈ lw_all := lw_g (lw_at lw_m9 58 rfl) rfl
theorem q2146 : (Jvm.Cond.constantLong "CircuitCyclesModel" (575 : Nat) (-9223372036854775808 : Int64)) ∈ lw_all := lw_g (lw_at lw_m9 59 rfl) rfl
theorem q2148 : (Jvm.Cond.instanceMethod ({ cls := "CircuitCyclesModel", name := "feed", desc := "(IIIII)I" } : Jvm.MethodName)) ∈ lw_all := lw_g (lw_at lw_m9 61 rfl) rfl
theorem q2149 : (Jvm.Cond.selects "CircuitCyclesModel" ({ cls := "CircuitCyclesModel", name := "feed", desc := "(IIIII)I" } : Jvm.MethodName) ({ cls := "CircuitCyclesModel", name := "feed", desc := "(IIIII)I" } : Jvm.MethodName)) ∈ lw_all := lw_g (lw_at lw_m9 62 rfl) rfl
theorem q2150 : (Jvm.Cond.code ({ cls := "CircuitCyclesModel", name := "feed", desc := "(IIIII)I" } : Jvm.MethodName) prog_11_method_97_code (8 : Nat) (Option.some Jvm.ClassFile.FieldType.int)) ∈ lw_all := lw_g (lw_at lw_m9 63 rfl) rfl
theorem q2152 : (Jvm.Cond.instanceMethod ({ cls := "CircuitCyclesModel", name := "end", desc := "(I)V" } : Jvm.MethodName)) ∈ lw_all := lw_g (lw_at lw_m9 65 rfl) rfl
theorem q2153 : (Jvm.Cond.selects "CircuitCyclesModel" ({ cls := "CircuitCyclesModel", name := "end", desc := "(I)V" } : Jvm.MethodName) ({ cls := "CircuitCyclesModel", name := "end", desc := "(I)V" } : Jvm.MethodName)) ∈ lw_all := lw_g (lw_at lw_m9 66 rfl) rfl
theorem q2154 : (Jvm.Cond.code ({ cls := "CircuitCyclesModel", name := "end", desc := "(I)V" } : Jvm.MethodName) prog_11_method_98_code (2 : Nat) (Option.none : Option Jvm.ClassFile.FieldType)) ∈ lw_all := lw_g (lw_at lw_m9 67 rfl) rfl
theorem q2156 : (Jvm.Cond.instanceMethod ({ cls := "CircuitCyclesModel", name := "fault", desc := "()I" } : Jvm.MethodName)) ∈ lw_all := lw_g (lw_at lw_m9 69 rfl) rfl
theorem q2157 : (Jvm.Cond.selects "CircuitCyclesModel" ({ cls := "CircuitCyclesModel", name := "fault", desc := "()I" } : Jvm.MethodName) ({ cls := "CircuitCyclesModel", name := "fault", desc := "()I" } : Jvm.MethodName)) ∈ lw_all := lw_g (lw_at lw_m9 70 rfl) rfl
theorem q2158 : (Jvm.Cond.code ({ cls := "CircuitCyclesModel", name := "fault", desc := "()I" } : Jvm.MethodName) prog_11_method_99_code (1 : Nat) (Option.some Jvm.ClassFile.FieldType.int)) ∈ lw_all := lw_g (lw_at lw_m9 71 rfl) rfl
theorem q2160 : (Jvm.Cond.instanceMethod ({ cls := "CircuitCyclesModel", name := "count", desc := "(I)I" } : Jvm.MethodName)) ∈ lw_all := lw_g (lw_at lw_m9 73 rfl) rfl
theorem q2161 : (Jvm.Cond.selects "CircuitCyclesModel" ({ cls := "CircuitCyclesModel", name := "count", desc := "(I)I" } : Jvm.MethodName) ({ cls := "CircuitCyclesModel", name := "count", desc := "(I)I" } : Jvm.MethodName)) ∈ lw_all := lw_g (lw_at lw_m9 74 rfl) rfl
theorem q2162 : (Jvm.Cond.code ({ cls := "CircuitCyclesModel", name := "count", desc := "(I)I" } : Jvm.MethodName) prog_11_method_100_code (2 : Nat) (Option.some Jvm.ClassFile.FieldType.int)) ∈ lw_all := lw_g (lw_at lw_m9 75 rfl) rfl
theorem q2164 : (Jvm.Cond.instanceMethod ({ cls := "CircuitCyclesModel", name := "find", desc := "()I" } : Jvm.MethodName)) ∈ lw_all := lw_g (lw_at lw_m9 77 rfl) rfl
theorem q2165 : (Jvm.Cond.selects "CircuitCyclesModel" ({ cls := "CircuitCyclesModel", name := "find", desc := "()I" } : Jvm.MethodName) ({ cls := "CircuitCyclesModel", name := "find", desc := "()I" } : Jvm.MethodName)) ∈ lw_all := lw_g (lw_at lw_m9 78 rfl) rfl
theorem q2166 : (Jvm.Cond.code ({ cls := "CircuitCyclesModel", name := "find", desc := "()I" } : Jvm.MethodName) prog_11_method_103_code (3 : Nat) (Option.some Jvm.ClassFile.FieldType.int)) ∈ lw_all := lw_g (lw_at lw_m9 79 rfl) rfl
theorem q2167 : (Jvm.Cond.methodLink "CircuitCyclesModel" (615 : Nat) ({ cls := "CircuitCyclesModel", name := "isNamed", desc := "(I)Z" } : Jvm.MethodName)) ∈ lw_all := lw_g (lw_at lw_m9 80 rfl) rfl
theorem q2168 : (Jvm.Cond.privateMethod ({ cls := "CircuitCyclesModel", name := "isNamed", desc := "(I)Z" } : Jvm.MethodName)) ∈ lw_tbl := lw_at lw_m9 81 rfl
theorem q2169 : (Jvm.Cond.instanceMethod ({ cls := "CircuitCyclesModel", name := "isNamed", desc := "(I)Z" } : Jvm.MethodName)) ∈ lw_all := lw_g (lw_at lw_m9 82 rfl) rfl
theorem q2170 : (Jvm.Cond.code ({ cls := "CircuitCyclesModel", name := "isNamed", desc := "(I)Z" } : Jvm.MethodName) prog_11_method_102_code (8 : Nat) (Option.some Jvm.ClassFile.FieldType.boolean)) ∈ lw_all := lw_g (lw_at lw_m9 83 rfl) rfl
theorem q2171 : (Jvm.Cond.methodLink "CircuitCyclesModel" (612 : Nat) ({ cls := "CircuitCyclesModel", name := "goesOn", desc := "(II)Z" } : Jvm.MethodName)) ∈ lw_all := lw_g (lw_at lw_m9 84 rfl) rfl
theorem q2172 : (Jvm.Cond.privateMethod ({ cls := "CircuitCyclesModel", name := "goesOn", desc := "(II)Z" } : Jvm.MethodName)) ∈ lw_tbl := lw_at lw_m9 85 rfl
theorem q2173 : (Jvm.Cond.instanceMethod ({ cls := "CircuitCyclesModel", name := "goesOn", desc := "(II)Z" } : Jvm.MethodName)) ∈ lw_all := lw_g (lw_at lw_m9 86 rfl) rfl
theorem q2174 : (Jvm.Cond.code ({ cls := "CircuitCyclesModel", name := "goesOn", desc := "(II)Z" } : Jvm.MethodName) prog_11_method_101_code (5 : Nat) (Option.some Jvm.ClassFile.FieldType.boolean)) ∈ lw_all := lw_g (lw_at lw_m9 87 rfl) rfl
theorem q2176 : (Jvm.Cond.instanceMethod ({ cls := "CircuitCyclesModel", name := "signal", desc := "(II)I" } : Jvm.MethodName)) ∈ lw_all := lw_g (lw_at lw_m9 89 rfl) rfl
theorem q2177 : (Jvm.Cond.selects "CircuitCyclesModel" ({ cls := "CircuitCyclesModel", name := "signal", desc := "(II)I" } : Jvm.MethodName) ({ cls := "CircuitCyclesModel", name := "signal", desc := "(II)I" } : Jvm.MethodName)) ∈ lw_all := lw_g (lw_at lw_m9 90 rfl) rfl
theorem q2178 : (Jvm.Cond.code ({ cls := "CircuitCyclesModel", name := "signal", desc := "(II)I" } : Jvm.MethodName) prog_11_method_105_code (3 : Nat) (Option.some Jvm.ClassFile.FieldType.int)) ∈ lw_all := lw_g (lw_at lw_m9 91 rfl) rfl
theorem q2179 : (Jvm.Cond.methodLink "CircuitCyclesModel" (618 : Nat) ({ cls := "CircuitCyclesModel", name := "isSignal", desc := "(I)Z" } : Jvm.MethodName)) ∈ lw_all := lw_g (lw_at lw_m9 92 rfl) rfl
theorem q2180 : (Jvm.Cond.privateMethod ({ cls := "CircuitCyclesModel", name := "isSignal", desc := "(I)Z" } : Jvm.MethodName)) ∈ lw_tbl := lw_at lw_m9 93 rfl
theorem q2181 : (Jvm.Cond.instanceMethod ({ cls := "CircuitCyclesModel", name := "isSignal", desc := "(I)Z" } : Jvm.MethodName)) ∈ lw_all := lw_g (lw_at lw_m9 94 rfl) rfl
theorem q2182 : (Jvm.Cond.code ({ cls := "CircuitCyclesModel", name := "isSignal", desc := "(I)Z" } : Jvm.MethodName) prog_11_method_96_code (2 : Nat) (Option.some Jvm.ClassFile.FieldType.boolean)) ∈ lw_all := lw_g (lw_at lw_m9 95 rfl) rfl
theorem q2183 : (Jvm.Cond.methodLink "CircuitCyclesModel" (621 : Nat) ({ cls := "CircuitCyclesModel", name := "kindOf", desc := "(I)I" } : Jvm.MethodName)) ∈ lw_all := lw_g (lw_at lw_m9 96 rfl) rfl
theorem q2184 : (Jvm.Cond.privateMethod ({ cls := "CircuitCyclesModel", name := "kindOf", desc := "(I)I" } : Jvm.MethodName)) ∈ lw_tbl := lw_at lw_m9 97 rfl
theorem q2185 : (Jvm.Cond.instanceMethod ({ cls := "CircuitCyclesModel", name := "kindOf", desc := "(I)I" } : Jvm.MethodName)) ∈ lw_all := lw_g (lw_at lw_m9 98 rfl) rfl
theorem q2186 : (Jvm.Cond.code ({ cls := "CircuitCyclesModel", name := "kindOf", desc := "(I)I" } : Jvm.MethodName) prog_11_method_104_code (3 : Nat) (Option.some Jvm.ClassFile.FieldType.int)) ∈ lw_all := lw_g (lw_at lw_m9 99 rfl) rfl
theorem q2188 : (Jvm.Cond.instanceMethod ({ cls := "CircuitCyclesModel", name := "reset", desc := "()V" } : Jvm.MethodName)) ∈ lw_all := lw_g (lw_at lw_m9 101 rfl) rfl
theorem q2189 : (Jvm.Cond.selects "CircuitCyclesModel" ({ cls := "CircuitCyclesModel", name := "reset", desc := "()V" } : Jvm.MethodName) ({ cls := "CircuitCyclesModel", name := "reset", desc := "()V" } : Jvm.MethodName)) ∈ lw_all := lw_g (lw_at lw_m9 102 rfl) rfl
theorem q2190 : (Jvm.Cond.code ({ cls := "CircuitCyclesModel", name := "reset", desc := "()V" } : Jvm.MethodName) prog_11_method_106_code (1 : Nat) (Option.none : Option Jvm.ClassFile.FieldType)) ∈ lw_all := lw_g (lw_at lw_m9 103 rfl) rfl
theorem q2192 : (Jvm.Cond.instanceMethod ({ cls := "CircuitCyclesModel", name := "set", desc := "(II)V" } : Jvm.MethodName)) ∈ lw_all := lw_g (lw_at lw_m9 105 rfl) rfl
theorem q2193 : (Jvm.Cond.selects "CircuitCyclesModel" ({ cls := "CircuitCyclesModel", name := "set", desc := "(II)V" } : Jvm.MethodName) ({ cls := "CircuitCyclesModel", name := "set", desc := "(II)V" } : Jvm.MethodName)) ∈ lw_all := lw_g (lw_at lw_m9 106 rfl) rfl
theorem q2194 : (Jvm.Cond.code ({ cls := "CircuitCyclesModel", name := "set", desc := "(II)V" } : Jvm.MethodName) prog_11_method_107_code (3 : Nat) (Option.none : Option Jvm.ClassFile.FieldType)) ∈ lw_all := lw_g (lw_at lw_m9 107 rfl) rfl
theorem q2196 : (Jvm.Cond.instanceMethod ({ cls := "CircuitCyclesModel", name := "step", desc := "()I" } : Jvm.MethodName)) ∈ lw_all := lw_g (lw_at lw_m9 109 rfl) rfl
theorem q2197 : (Jvm.Cond.selects "CircuitCyclesModel" ({ cls := "CircuitCyclesModel", name := "step", desc := "()I" } : Jvm.MethodName) ({ cls := "CircuitCyclesModel", name := "step", desc := "()I" } : Jvm.MethodName)) ∈ lw_all := lw_g (lw_at lw_m9 110 rfl) rfl
theorem q2198 : (Jvm.Cond.code ({ cls := "CircuitCyclesModel", name := "step", desc := "()I" } : Jvm.MethodName) prog_11_method_108_code (2 : Nat) (Option.some Jvm.ClassFile.FieldType.int)) ∈ lw_all := lw_g (lw_at lw_m9 111 rfl) rfl
theorem q2199 : (Jvm.Cond.methodLink "CircuitCyclesModel" (624 : Nat) ({ cls := "CircuitCyclesModel", name := "goOn", desc := "([J)V" } : Jvm.MethodName)) ∈ lw_all := lw_g (lw_at lw_m9 112 rfl) rfl
theorem q2200 : (Jvm.Cond.privateMethod ({ cls := "CircuitCyclesModel", name := "goOn", desc := "([J)V" } : Jvm.MethodName)) ∈ lw_tbl := lw_at lw_m9 113 rfl
theorem q2201 : (Jvm.Cond.instanceMethod ({ cls := "CircuitCyclesModel", name := "goOn", desc := "([J)V" } : Jvm.MethodName)) ∈ lw_all := lw_g (lw_at lw_m9 114 rfl) rfl
theorem q2202 : (Jvm.Cond.code ({ cls := "CircuitCyclesModel", name := "goOn", desc := "([J)V" } : Jvm.MethodName) prog_11_method_93_code (5 : Nat) (Option.none : Option Jvm.ClassFile.FieldType)) ∈ lw_all := lw_g (lw_at lw_m9 115 rfl) rfl
theorem q2204 : (Jvm.Cond.instanceMethod ({ cls := "CircuitCyclesModel", name := "value", desc := "(I)J" } : Jvm.MethodName)) ∈ lw_all := lw_g (lw_at lw_m9 117 rfl) rfl
theorem q2205 : (Jvm.Cond.selects "CircuitCyclesModel" ({ cls := "CircuitCyclesModel", name := "value", desc := "(I)J" } : Jvm.MethodName) ({ cls := "CircuitCyclesModel", name := "value", desc := "(I)J" } : Jvm.MethodName)) ∈ lw_all := lw_g (lw_at lw_m9 118 rfl) rfl
theorem q2206 : (Jvm.Cond.code ({ cls := "CircuitCyclesModel", name := "value", desc := "(I)J" } : Jvm.MethodName) prog_11_method_109_code (2 : Nat) (Option.some Jvm.ClassFile.FieldType.long)) ∈ lw_all := lw_g (lw_at lw_m9 119 rfl) rfl
theorem q2208 : (Jvm.Cond.instanceMethod ({ cls := "CircuitCyclesModel", name := "failing", desc := "()I" } : Jvm.MethodName)) ∈ lw_all := lw_g (lw_at lw_m9 121 rfl) rfl
theorem q2209 : (Jvm.Cond.selects "CircuitCyclesModel" ({ cls := "CircuitCyclesModel", name := "failing", desc := "()I" } : Jvm.MethodName) ({ cls := "CircuitCyclesModel", name := "failing", desc := "()I" } : Jvm.MethodName)) ∈ lw_all := lw_g (lw_at lw_m9 122 rfl) rfl
theorem q2210 : (Jvm.Cond.code ({ cls := "CircuitCyclesModel", name := "failing", desc := "()I" } : Jvm.MethodName) prog_11_method_110_code (1 : Nat) (Option.some Jvm.ClassFile.FieldType.int)) ∈ lw_all := lw_g (lw_at lw_m9 123 rfl) rfl
theorem q2211 : (Jvm.Cond.methodLink "CircuitCyclesModel" (628 : Nat) ({ cls := "CircuitCyclesModel", name := "failingNow", desc := "()I" } : Jvm.MethodName)) ∈ lw_all := lw_g (lw_at lw_m9 124 rfl) rfl
theorem q2212 : (Jvm.Cond.privateMethod ({ cls := "CircuitCyclesModel", name := "failingNow", desc := "()I" } : Jvm.MethodName)) ∈ lw_tbl := lw_at lw_m9 125 rfl
theorem q2213 : (Jvm.Cond.instanceMethod ({ cls := "CircuitCyclesModel", name := "failingNow", desc := "()I" } : Jvm.MethodName)) ∈ lw_all := lw_g (lw_at lw_m9 126 rfl) rfl
theorem q2214 : (Jvm.Cond.code ({ cls := "CircuitCyclesModel", name := "failingNow", desc := "()I" } : Jvm.MethodName) prog_11_method_94_code (5 : Nat) (Option.some Jvm.ClassFile.FieldType.int)) ∈ lw_all := lw_g (lw_at lw_m9 127 rfl) rfl
theorem in_X10 : ∀ w ∈ wsX100, w ∈ lw_all := lw_in wsX100 [1591, 1593, 1595, 1597, 1599, 1601, 1603, 1605, 1607, 1609, 1611, 1613, 1615, 1617, 1619, 1621, 1623, 1625, 1627, 1629, 1631, 1633, 1635, 1637, 1639, 1641, 1643, 1645, 1647, 1649, 1651, 1653, 1655, 1657, 1659, 1661, 1663, 1665, 1667, 1669, 1671, 1673, 1675, 1677, 1679, 1681, 1683, 1685, 1687, 1689, 1691, 1693, 1695, 1697, 1699, 1701, 1703, 1705, 1707, 1709, 1711, 1713, 1715, 1717, 1719, 1721, 1723, 1725, 1727, 1729, 1731, 1733, 1735, 1737, 1739, 1741, 1743, 1745, 1747, 1749, 1751, 1753, 1755, 1757, 1759, 1761, 1763, 1765, 1767, 1769, 1771] (by decide +kernel) (by decide +kernel)
/-! java/lang/Throwable -/
set_option maxRecDepth 100000
def RJ0 : String := "java/lang/Throwable"
def TJ0 : u_T := fun k => match k with
  | 0 => ("java/lang/Throwable", "cause", "Ljava/lang/Throwable;", false)
  | 1 => ("java/lang/Throwable", "stackTrace", "[Ljava/lang/StackTraceElement;", false)
  | 2 => ("java/lang/Throwable", "suppressedExceptions", "Ljava/util/List;", false)
  | 3 => ("java/lang/Throwable", "detailMessage", "Ljava/lang/String;", false)
  | _ => ("java/lang/Throwable", "backtrace", "Ljava/lang/Object;", false)
def tyJ0 : Nat → FieldType := fun k => match k with
  | 0 => .object "java/lang/Throwable"
  | 1 => .array (.object "java/lang/StackTraceElement")
  | 2 => .object "java/util/List"
  | 3 => .object "java/lang/String"
  | _ => .object "java/lang/Object"
abbrev wsJ00 : List Cond := u_ws RJ0 TJ0 5
theorem nmJ0 : ∀ a, a < 5 → ∀ b, b < 5 → a ≠ b → (TJ0 a).2.1 ≠ (TJ0 b).2.1 := by decide +kernel
theorem tyJ0_ok : ∀ k, k < 5 → parseFieldDescriptor (TJ0 k).2.2.1 = some (tyJ0 k) := by decide +kernel
abbrev cJ0_init : ByteArray := prog_23_method_1_code
def yJ0_init : MethodName := ⟨RJ0, "<init>", "()V"⟩
abbrev cJ0_init_2 : ByteArray := prog_23_method_2_code
def yJ0_init_2 : MethodName := ⟨RJ0, "<init>", "(Ljava/lang/String;)V"⟩
theorem q170 : (Jvm.Cond.initialized "java/lang/Throwable") ∈ lw_all := lw_g (lw_at lw_m1 3 rfl) rfl
theorem q233 : (Jvm.Cond.declares ({ cls := "java/lang/Throwable", name := "<init>", desc := "()V" } : Jvm.MethodName)) ∈ lw_tbl := lw_at lw_m1 66 rfl
theorem q234 : (Jvm.Cond.declares ({ cls := "java/lang/Throwable", name := "<init>", desc := "(Ljava/lang/String;)V" } : Jvm.MethodName)) ∈ lw_tbl := lw_at lw_m1 67 rfl
theorem q238 : (Jvm.Cond.lays "java/lang/Throwable" "java/lang/Throwable" "cause" "Ljava/lang/Throwable;") ∈ lw_all := lw_g (lw_at lw_m1 71 rfl) rfl
theorem q240 : (Jvm.Cond.lays "java/lang/Throwable" "java/lang/Throwable" "stackTrace" "[Ljava/lang/StackTraceElement;") ∈ lw_all := lw_g (lw_at lw_m1 73 rfl) rfl
theorem q242 : (Jvm.Cond.lays "java/lang/Throwable" "java/lang/Throwable" "suppressedExceptions" "Ljava/util/List;") ∈ lw_all := lw_g (lw_at lw_m1 75 rfl) rfl
theorem q244 : (Jvm.Cond.lays "java/lang/Throwable" "java/lang/Throwable" "detailMessage" "Ljava/lang/String;") ∈ lw_all := lw_g (lw_at lw_m1 77 rfl) rfl
theorem q246 : (Jvm.Cond.lays "java/lang/Throwable" "java/lang/Throwable" "backtrace" "Ljava/lang/Object;") ∈ lw_all := lw_g (lw_at lw_m1 79 rfl) rfl
theorem q247 : (Jvm.Cond.fieldLink "java/lang/Throwable" (198 : Nat) "java/lang/Throwable" "backtrace" "Ljava/lang/Object;") ∈ lw_all := lw_g (lw_at lw_m1 80 rfl) rfl
theorem q248 : (Jvm.Cond.superclass "java/lang/Throwable" "java/lang/Object") ∈ lw_all := lw_g (lw_at lw_m1 81 rfl) rfl
theorem q249 : (Jvm.Cond.instanceMethod ({ cls := "java/lang/Throwable", name := "<init>", desc := "()V" } : Jvm.MethodName)) ∈ lw_all := lw_g (lw_at lw_m1 82 rfl) rfl
theorem q250 : (Jvm.Cond.code ({ cls := "java/lang/Throwable", name := "<init>", desc := "()V" } : Jvm.MethodName) prog_23_method_1_code (1 : Nat) (Option.none : Option Jvm.ClassFile.FieldType)) ∈ lw_all := lw_g (lw_at lw_m1 83 rfl) rfl
theorem q251 : (Jvm.Cond.methodLink "java/lang/Throwable" (1 : Nat) ({ cls := "java/lang/Object", name := "<init>", desc := "()V" } : Jvm.MethodName)) ∈ lw_all := lw_g (lw_at lw_m1 84 rfl) rfl
theorem q252 : (Jvm.Cond.fieldLink "java/lang/Throwable" (13 : Nat) "java/lang/Throwable" "UNASSIGNED_STACK" "[Ljava/lang/StackTraceElement;") ∈ lw_all := lw_g (lw_at lw_m1 85 rfl) rfl
theorem q253 : (Jvm.Cond.laysStatic "java/lang/Throwable" "UNASSIGNED_STACK" "[Ljava/lang/StackTraceElement;") ∈ lw_tbl := lw_at lw_m1 86 rfl
theorem q254 : (Jvm.Cond.fieldLink "java/lang/Throwable" (20 : Nat) "java/lang/Throwable" "SUPPRESSED_SENTINEL" "Ljava/util/List;") ∈ lw_all := lw_g (lw_at lw_m1 87 rfl) rfl
theorem q255 : (Jvm.Cond.laysStatic "java/lang/Throwable" "SUPPRESSED_SENTINEL" "Ljava/util/List;") ∈ lw_tbl := lw_at lw_m1 88 rfl
theorem q256 : (Jvm.Cond.methodLink "java/lang/Throwable" (27 : Nat) ({ cls := "java/lang/Throwable", name := "fillInStackTrace", desc := "()Ljava/lang/Throwable;" } : Jvm.MethodName)) ∈ lw_all := lw_g (lw_at lw_m1 89 rfl) rfl
theorem q257 : (Jvm.Cond.instanceMethod ({ cls := "java/lang/Throwable", name := "fillInStackTrace", desc := "()Ljava/lang/Throwable;" } : Jvm.MethodName)) ∈ lw_all := lw_g (lw_at lw_m1 90 rfl) rfl
theorem q258 : (Jvm.Cond.sameMethod "java/lang/Throwable" "java/lang/Throwable" "fillInStackTrace" "()Ljava/lang/Throwable;") ∈ lw_all := lw_g (lw_at lw_m1 91 rfl) rfl
theorem q263 : (Jvm.Cond.codeSync ({ cls := "java/lang/Throwable", name := "fillInStackTrace", desc := "()Ljava/lang/Throwable;" } : Jvm.MethodName) prog_23_method_18_code (1 : Nat) (Option.some (Jvm.ClassFile.FieldType.object "java/lang/Throwable"))) ∈ lw_all := lw_g (lw_at lw_m1 96 rfl) rfl
theorem q264 : (Jvm.Cond.methodLink "java/lang/Throwable" (202 : Nat) ({ cls := "java/lang/Throwable", name := "fillInStackTrace", desc := "(I)Ljava/lang/Throwable;" } : Jvm.MethodName)) ∈ lw_all := lw_g (lw_at lw_m1 97 rfl) rfl
theorem q265 : (Jvm.Cond.privateMethod ({ cls := "java/lang/Throwable", name := "fillInStackTrace", desc := "(I)Ljava/lang/Throwable;" } : Jvm.MethodName)) ∈ lw_tbl := lw_at lw_m1 98 rfl
theorem q266 : (Jvm.Cond.instanceMethod ({ cls := "java/lang/Throwable", name := "fillInStackTrace", desc := "(I)Ljava/lang/Throwable;" } : Jvm.MethodName)) ∈ lw_all := lw_g (lw_at lw_m1 99 rfl) rfl
theorem q267 : (Jvm.Cond.instantiable "java/lang/Throwable" (6 : Nat)) ∈ lw_all := lw_g (lw_at lw_m1 100 rfl) rfl
theorem q268 : (Jvm.Cond.native ({ cls := "java/lang/Throwable", name := "fillInStackTrace", desc := "(I)Ljava/lang/Throwable;" } : Jvm.MethodName)) ∈ lw_all := lw_g (lw_at lw_m1 101 rfl) rfl
theorem q280 : (Jvm.Cond.instanceMethod ({ cls := "java/lang/Throwable", name := "<init>", desc := "(Ljava/lang/String;)V" } : Jvm.MethodName)) ∈ lw_all := lw_g (lw_at lw_m1 113 rfl) rfl
theorem q281 : (Jvm.Cond.code ({ cls := "java/lang/Throwable", name := "<init>", desc := "(Ljava/lang/String;)V" } : Jvm.MethodName) prog_23_method_2_code (2 : Nat) (Option.none : Option Jvm.ClassFile.FieldType)) ∈ lw_all := lw_g (lw_at lw_m1 114 rfl) rfl
theorem q282 : (Jvm.Cond.fieldLink "java/lang/Throwable" (198 : Nat) "java/lang/Throwable" "backtrace" "Ljava/lang/Object;") ∈ lw_all := lw_g (lw_at lw_m1 115 rfl) rfl
theorem q283 : (Jvm.Cond.fieldLink "java/lang/Throwable" (31 : Nat) "java/lang/Throwable" "detailMessage" "Ljava/lang/String;") ∈ lw_all := lw_g (lw_at lw_m1 116 rfl) rfl
theorem q284 : (Jvm.Cond.fieldLink "java/lang/Throwable" (7 : Nat) "java/lang/Throwable" "cause" "Ljava/lang/Throwable;") ∈ lw_all := lw_g (lw_at lw_m1 117 rfl) rfl
theorem q285 : (Jvm.Cond.fieldLink "java/lang/Throwable" (17 : Nat) "java/lang/Throwable" "stackTrace" "[Ljava/lang/StackTraceElement;") ∈ lw_all := lw_g (lw_at lw_m1 118 rfl) rfl
theorem q286 : (Jvm.Cond.fieldLink "java/lang/Throwable" (24 : Nat) "java/lang/Throwable" "suppressedExceptions" "Ljava/util/List;") ∈ lw_all := lw_g (lw_at lw_m1 119 rfl) rfl
theorem q287 : (Jvm.Cond.soleField "java/lang/Throwable" "backtrace") ∈ lw_all := lw_g (lw_at lw_m1 120 rfl) rfl
theorem q288 : (Jvm.Cond.soleField "java/lang/Throwable" "detailMessage") ∈ lw_all := lw_g (lw_at lw_m1 121 rfl) rfl
theorem q289 : (Jvm.Cond.soleField "java/lang/Throwable" "cause") ∈ lw_all := lw_g (lw_at lw_m1 122 rfl) rfl
theorem q290 : (Jvm.Cond.soleField "java/lang/Throwable" "stackTrace") ∈ lw_all := lw_g (lw_at lw_m1 123 rfl) rfl
theorem q292 : (Jvm.Cond.soleField "java/lang/Throwable" "depth") ∈ lw_all := lw_g (lw_at lw_m1 125 rfl) rfl
theorem q293 : (Jvm.Cond.soleField "java/lang/Throwable" "suppressedExceptions") ∈ lw_all := lw_g (lw_at lw_m1 126 rfl) rfl
theorem q2215 : (Jvm.Cond.sameMethod "java/lang/Throwable" "java/lang/Throwable" "fillInStackTrace" "(I)Ljava/lang/Throwable;") ∈ lw_all := lw_g (lw_at lw_m9 128 rfl) rfl
theorem in_J0 : ∀ w ∈ wsJ00, w ∈ lw_all := lw_in wsJ00 [238, 240, 242, 244, 246] (by decide +kernel) (by decide +kernel)
/-! java/lang/Exception -/
set_option maxRecDepth 100000
def RJ1 : String := "java/lang/Exception"
abbrev cJ1_init : ByteArray := prog_13_method_2_code
def yJ1_init : MethodName := ⟨RJ1, "<init>", "(Ljava/lang/String;)V"⟩
theorem q171 : (Jvm.Cond.initialized "java/lang/Exception") ∈ lw_all := lw_g (lw_at lw_m1 4 rfl) rfl
theorem q231 : (Jvm.Cond.declares ({ cls := "java/lang/Exception", name := "<init>", desc := "()V" } : Jvm.MethodName)) ∈ lw_tbl := lw_at lw_m1 64 rfl
theorem q232 : (Jvm.Cond.declares ({ cls := "java/lang/Exception", name := "<init>", desc := "(Ljava/lang/String;)V" } : Jvm.MethodName)) ∈ lw_tbl := lw_at lw_m1 65 rfl
theorem q277 : (Jvm.Cond.instanceMethod ({ cls := "java/lang/Exception", name := "<init>", desc := "(Ljava/lang/String;)V" } : Jvm.MethodName)) ∈ lw_all := lw_g (lw_at lw_m1 110 rfl) rfl
theorem q278 : (Jvm.Cond.code ({ cls := "java/lang/Exception", name := "<init>", desc := "(Ljava/lang/String;)V" } : Jvm.MethodName) prog_13_method_2_code (2 : Nat) (Option.none : Option Jvm.ClassFile.FieldType)) ∈ lw_all := lw_g (lw_at lw_m1 111 rfl) rfl
theorem q279 : (Jvm.Cond.methodLink "java/lang/Exception" (7 : Nat) ({ cls := "java/lang/Throwable", name := "<init>", desc := "(Ljava/lang/String;)V" } : Jvm.MethodName)) ∈ lw_all := lw_g (lw_at lw_m1 112 rfl) rfl
/-! java/lang/RuntimeException -/
set_option maxRecDepth 100000
def RJ2 : String := "java/lang/RuntimeException"
abbrev cJ2_init : ByteArray := prog_18_method_2_code
def yJ2_init : MethodName := ⟨RJ2, "<init>", "(Ljava/lang/String;)V"⟩
theorem q172 : (Jvm.Cond.initialized "java/lang/RuntimeException") ∈ lw_all := lw_g (lw_at lw_m1 5 rfl) rfl
theorem q229 : (Jvm.Cond.declares ({ cls := "java/lang/RuntimeException", name := "<init>", desc := "()V" } : Jvm.MethodName)) ∈ lw_tbl := lw_at lw_m1 62 rfl
theorem q230 : (Jvm.Cond.declares ({ cls := "java/lang/RuntimeException", name := "<init>", desc := "(Ljava/lang/String;)V" } : Jvm.MethodName)) ∈ lw_tbl := lw_at lw_m1 63 rfl
theorem q274 : (Jvm.Cond.instanceMethod ({ cls := "java/lang/RuntimeException", name := "<init>", desc := "(Ljava/lang/String;)V" } : Jvm.MethodName)) ∈ lw_all := lw_g (lw_at lw_m1 107 rfl) rfl
theorem q275 : (Jvm.Cond.code ({ cls := "java/lang/RuntimeException", name := "<init>", desc := "(Ljava/lang/String;)V" } : Jvm.MethodName) prog_18_method_2_code (2 : Nat) (Option.none : Option Jvm.ClassFile.FieldType)) ∈ lw_all := lw_g (lw_at lw_m1 108 rfl) rfl
theorem q276 : (Jvm.Cond.methodLink "java/lang/RuntimeException" (7 : Nat) ({ cls := "java/lang/Exception", name := "<init>", desc := "(Ljava/lang/String;)V" } : Jvm.MethodName)) ∈ lw_all := lw_g (lw_at lw_m1 109 rfl) rfl
/-! java/lang/IllegalStateException -/
set_option maxRecDepth 100000
def RJ3 : String := "java/lang/IllegalStateException"
def TJ3 : u_T := fun k => match k with
  | 0 => ("java/lang/Throwable", "cause", "Ljava/lang/Throwable;", false)
  | 1 => ("java/lang/Throwable", "stackTrace", "[Ljava/lang/StackTraceElement;", false)
  | 2 => ("java/lang/Throwable", "suppressedExceptions", "Ljava/util/List;", false)
  | 3 => ("java/lang/Throwable", "detailMessage", "Ljava/lang/String;", false)
  | 4 => ("java/lang/Throwable", "backtrace", "Ljava/lang/Object;", false)
  | _ => ("java/lang/Throwable", "depth", "I", false)
def tyJ3 : Nat → FieldType := fun k => match k with
  | 0 => .object "java/lang/Throwable"
  | 1 => .array (.object "java/lang/StackTraceElement")
  | 2 => .object "java/util/List"
  | 3 => .object "java/lang/String"
  | 4 => .object "java/lang/Object"
  | _ => .int
abbrev wsJ30 : List Cond := u_ws RJ3 TJ3 6
theorem nmJ3 : ∀ a, a < 6 → ∀ b, b < 6 → a ≠ b → (TJ3 a).2.1 ≠ (TJ3 b).2.1 := by decide +kernel
theorem tyJ3_ok : ∀ k, k < 6 → parseFieldDescriptor (TJ3 k).2.2.1 = some (tyJ3 k) := by decide +kernel
abbrev cJ3_init : ByteArray := prog_15_method_2_code
def yJ3_init : MethodName := ⟨RJ3, "<init>", "(Ljava/lang/String;)V"⟩
theorem q173 : (Jvm.Cond.initialized "java/lang/IllegalStateException") ∈ lw_all := lw_g (lw_at lw_m1 6 rfl) rfl
theorem q227 : (Jvm.Cond.instantiable "java/lang/IllegalStateException" (6 : Nat)) ∈ lw_all := lw_g (lw_at lw_m1 60 rfl) rfl
theorem q228 : (Jvm.Cond.castable "java/lang/IllegalStateException" "java/lang/IllegalStateException") ∈ lw_tbl := lw_at lw_m1 61 rfl
theorem q235 : (Jvm.Cond.selects "java/lang/IllegalStateException" ({ cls := "java/lang/Throwable", name := "fillInStackTrace", desc := "(I)Ljava/lang/Throwable;" } : Jvm.MethodName) ({ cls := "java/lang/Throwable", name := "fillInStackTrace", desc := "(I)Ljava/lang/Throwable;" } : Jvm.MethodName)) ∈ lw_all := lw_g (lw_at lw_m1 68 rfl) rfl
theorem q236 : (Jvm.Cond.selects "java/lang/IllegalStateException" ({ cls := "java/lang/Throwable", name := "fillInStackTrace", desc := "()Ljava/lang/Throwable;" } : Jvm.MethodName) ({ cls := "java/lang/Throwable", name := "fillInStackTrace", desc := "()Ljava/lang/Throwable;" } : Jvm.MethodName)) ∈ lw_all := lw_g (lw_at lw_m1 69 rfl) rfl
theorem q237 : (Jvm.Cond.lays "java/lang/IllegalStateException" "java/lang/Throwable" "cause" "Ljava/lang/Throwable;") ∈ lw_all := lw_g (lw_at lw_m1 70 rfl) rfl
theorem q239 : (Jvm.Cond.lays "java/lang/IllegalStateException" "java/lang/Throwable" "stackTrace" "[Ljava/lang/StackTraceElement;") ∈ lw_all := lw_g (lw_at lw_m1 72 rfl) rfl
theorem q241 : (Jvm.Cond.lays "java/lang/IllegalStateException" "java/lang/Throwable" "suppressedExceptions" "Ljava/util/List;") ∈ lw_all := lw_g (lw_at lw_m1 74 rfl) rfl
theorem q243 : (Jvm.Cond.lays "java/lang/IllegalStateException" "java/lang/Throwable" "detailMessage" "Ljava/lang/String;") ∈ lw_all := lw_g (lw_at lw_m1 76 rfl) rfl
theorem q245 : (Jvm.Cond.lays "java/lang/IllegalStateException" "java/lang/Throwable" "backtrace" "Ljava/lang/Object;") ∈ lw_all := lw_g (lw_at lw_m1 78 rfl) rfl
theorem q271 : (Jvm.Cond.instanceMethod ({ cls := "java/lang/IllegalStateException", name := "<init>", desc := "(Ljava/lang/String;)V" } : Jvm.MethodName)) ∈ lw_all := lw_g (lw_at lw_m1 104 rfl) rfl
theorem q272 : (Jvm.Cond.code ({ cls := "java/lang/IllegalStateException", name := "<init>", desc := "(Ljava/lang/String;)V" } : Jvm.MethodName) prog_15_method_2_code (2 : Nat) (Option.none : Option Jvm.ClassFile.FieldType)) ∈ lw_all := lw_g (lw_at lw_m1 105 rfl) rfl
theorem q273 : (Jvm.Cond.methodLink "java/lang/IllegalStateException" (7 : Nat) ({ cls := "java/lang/RuntimeException", name := "<init>", desc := "(Ljava/lang/String;)V" } : Jvm.MethodName)) ∈ lw_all := lw_g (lw_at lw_m1 106 rfl) rfl
theorem q291 : (Jvm.Cond.lays "java/lang/IllegalStateException" "java/lang/Throwable" "depth" "I") ∈ lw_all := lw_g (lw_at lw_m1 124 rfl) rfl
theorem q294 : (Jvm.Cond.superclass "java/lang/IllegalStateException" "java/lang/RuntimeException") ∈ lw_all := lw_g (lw_at lw_m1 127 rfl) rfl
theorem in_J3 : ∀ w ∈ wsJ30, w ∈ lw_all := lw_in wsJ30 [237, 239, 241, 243, 245, 291] (by decide +kernel) (by decide +kernel)
/-! java/lang/UnsupportedOperationException -/
set_option maxRecDepth 100000
def RJ4 : String := "java/lang/UnsupportedOperationException"
def TJ4 : u_T := fun k => match k with
  | 0 => ("java/lang/Throwable", "cause", "Ljava/lang/Throwable;", false)
  | 1 => ("java/lang/Throwable", "stackTrace", "[Ljava/lang/StackTraceElement;", false)
  | 2 => ("java/lang/Throwable", "suppressedExceptions", "Ljava/util/List;", false)
  | 3 => ("java/lang/Throwable", "detailMessage", "Ljava/lang/String;", false)
  | 4 => ("java/lang/Throwable", "backtrace", "Ljava/lang/Object;", false)
  | _ => ("java/lang/Throwable", "depth", "I", false)
def tyJ4 : Nat → FieldType := fun k => match k with
  | 0 => .object "java/lang/Throwable"
  | 1 => .array (.object "java/lang/StackTraceElement")
  | 2 => .object "java/util/List"
  | 3 => .object "java/lang/String"
  | 4 => .object "java/lang/Object"
  | _ => .int
abbrev wsJ40 : List Cond := u_ws RJ4 TJ4 6
theorem nmJ4 : ∀ a, a < 6 → ∀ b, b < 6 → a ≠ b → (TJ4 a).2.1 ≠ (TJ4 b).2.1 := by decide +kernel
theorem tyJ4_ok : ∀ k, k < 6 → parseFieldDescriptor (TJ4 k).2.2.1 = some (tyJ4 k) := by decide +kernel
abbrev cJ4_init : ByteArray := prog_24_method_2_code
def yJ4_init : MethodName := ⟨RJ4, "<init>", "(Ljava/lang/String;)V"⟩
theorem q182 : (Jvm.Cond.initialized "java/lang/UnsupportedOperationException") ∈ lw_all := lw_g (lw_at lw_m1 15 rfl) rfl
theorem q262 : (Jvm.Cond.selects "java/lang/UnsupportedOperationException" ({ cls := "java/lang/Throwable", name := "fillInStackTrace", desc := "()Ljava/lang/Throwable;" } : Jvm.MethodName) ({ cls := "java/lang/Throwable", name := "fillInStackTrace", desc := "()Ljava/lang/Throwable;" } : Jvm.MethodName)) ∈ lw_all := lw_g (lw_at lw_m1 95 rfl) rfl
theorem q1303 : (Jvm.Cond.instantiable "java/lang/UnsupportedOperationException" (6 : Nat)) ∈ lw_all := lw_g (lw_at lw_m5 176 rfl) rfl
theorem q1304 : (Jvm.Cond.castable "java/lang/UnsupportedOperationException" "java/lang/UnsupportedOperationException") ∈ lw_tbl := lw_at lw_m5 177 rfl
theorem q1305 : (Jvm.Cond.selects "java/lang/UnsupportedOperationException" ({ cls := "java/lang/Throwable", name := "fillInStackTrace", desc := "(I)Ljava/lang/Throwable;" } : Jvm.MethodName) ({ cls := "java/lang/Throwable", name := "fillInStackTrace", desc := "(I)Ljava/lang/Throwable;" } : Jvm.MethodName)) ∈ lw_all := lw_g (lw_at lw_m5 178 rfl) rfl
theorem q1306 : (Jvm.Cond.lays "java/lang/UnsupportedOperationException" "java/lang/Throwable" "cause" "Ljava/lang/Throwable;") ∈ lw_all := lw_g (lw_at lw_m5 179 rfl) rfl
theorem q1307 : (Jvm.Cond.lays "java/lang/UnsupportedOperationException" "java/lang/Throwable" "stackTrace" "[Ljava/lang/StackTraceElement;") ∈ lw_all := lw_g (lw_at lw_m5 180 rfl) rfl
theorem q1308 : (Jvm.Cond.lays "java/lang/UnsupportedOperationException" "java/lang/Throwable" "suppressedExceptions" "Ljava/util/List;") ∈ lw_all := lw_g (lw_at lw_m5 181 rfl) rfl
theorem q1309 : (Jvm.Cond.lays "java/lang/UnsupportedOperationException" "java/lang/Throwable" "detailMessage" "Ljava/lang/String;") ∈ lw_all := lw_g (lw_at lw_m5 182 rfl) rfl
theorem q1310 : (Jvm.Cond.lays "java/lang/UnsupportedOperationException" "java/lang/Throwable" "backtrace" "Ljava/lang/Object;") ∈ lw_all := lw_g (lw_at lw_m5 183 rfl) rfl
theorem q1313 : (Jvm.Cond.instanceMethod ({ cls := "java/lang/UnsupportedOperationException", name := "<init>", desc := "(Ljava/lang/String;)V" } : Jvm.MethodName)) ∈ lw_all := lw_g (lw_at lw_m5 186 rfl) rfl
theorem q1314 : (Jvm.Cond.code ({ cls := "java/lang/UnsupportedOperationException", name := "<init>", desc := "(Ljava/lang/String;)V" } : Jvm.MethodName) prog_24_method_2_code (2 : Nat) (Option.none : Option Jvm.ClassFile.FieldType)) ∈ lw_all := lw_g (lw_at lw_m5 187 rfl) rfl
theorem q1315 : (Jvm.Cond.methodLink "java/lang/UnsupportedOperationException" (7 : Nat) ({ cls := "java/lang/RuntimeException", name := "<init>", desc := "(Ljava/lang/String;)V" } : Jvm.MethodName)) ∈ lw_all := lw_g (lw_at lw_m5 188 rfl) rfl
theorem q1316 : (Jvm.Cond.lays "java/lang/UnsupportedOperationException" "java/lang/Throwable" "depth" "I") ∈ lw_all := lw_g (lw_at lw_m5 189 rfl) rfl
theorem q1317 : (Jvm.Cond.superclass "java/lang/UnsupportedOperationException" "java/lang/RuntimeException") ∈ lw_all := lw_g (lw_at lw_m5 190 rfl) rfl
theorem in_J4 : ∀ w ∈ wsJ40, w ∈ lw_all := lw_in wsJ40 [1306, 1307, 1308, 1309, 1310, 1316] (by decide +kernel) (by decide +kernel)
/-! java/lang/IllegalArgumentException -/
set_option maxRecDepth 100000
def RJ5 : String := "java/lang/IllegalArgumentException"
def TJ5 : u_T := fun k => match k with
  | 0 => ("java/lang/Throwable", "cause", "Ljava/lang/Throwable;", false)
  | 1 => ("java/lang/Throwable", "stackTrace", "[Ljava/lang/StackTraceElement;", false)
  | 2 => ("java/lang/Throwable", "suppressedExceptions", "Ljava/util/List;", false)
  | 3 => ("java/lang/Throwable", "detailMessage", "Ljava/lang/String;", false)
  | 4 => ("java/lang/Throwable", "backtrace", "Ljava/lang/Object;", false)
  | _ => ("java/lang/Throwable", "depth", "I", false)
def tyJ5 : Nat → FieldType := fun k => match k with
  | 0 => .object "java/lang/Throwable"
  | 1 => .array (.object "java/lang/StackTraceElement")
  | 2 => .object "java/util/List"
  | 3 => .object "java/lang/String"
  | 4 => .object "java/lang/Object"
  | _ => .int
abbrev wsJ50 : List Cond := u_ws RJ5 TJ5 6
theorem nmJ5 : ∀ a, a < 6 → ∀ b, b < 6 → a ≠ b → (TJ5 a).2.1 ≠ (TJ5 b).2.1 := by decide +kernel
theorem tyJ5_ok : ∀ k, k < 6 → parseFieldDescriptor (TJ5 k).2.2.1 = some (tyJ5 k) := by decide +kernel
abbrev cJ5_init : ByteArray := prog_14_method_2_code
def yJ5_init : MethodName := ⟨RJ5, "<init>", "(Ljava/lang/String;)V"⟩
theorem q183 : (Jvm.Cond.initialized "java/lang/IllegalArgumentException") ∈ lw_all := lw_g (lw_at lw_m1 16 rfl) rfl
theorem q260 : (Jvm.Cond.selects "java/lang/IllegalArgumentException" ({ cls := "java/lang/Throwable", name := "fillInStackTrace", desc := "()Ljava/lang/Throwable;" } : Jvm.MethodName) ({ cls := "java/lang/Throwable", name := "fillInStackTrace", desc := "()Ljava/lang/Throwable;" } : Jvm.MethodName)) ∈ lw_all := lw_g (lw_at lw_m1 93 rfl) rfl
theorem q1330 : (Jvm.Cond.instantiable "java/lang/IllegalArgumentException" (6 : Nat)) ∈ lw_all := lw_g (lw_at lw_m5 203 rfl) rfl
theorem q1331 : (Jvm.Cond.castable "java/lang/IllegalArgumentException" "java/lang/IllegalArgumentException") ∈ lw_tbl := lw_at lw_m5 204 rfl
theorem q1332 : (Jvm.Cond.selects "java/lang/IllegalArgumentException" ({ cls := "java/lang/Throwable", name := "fillInStackTrace", desc := "(I)Ljava/lang/Throwable;" } : Jvm.MethodName) ({ cls := "java/lang/Throwable", name := "fillInStackTrace", desc := "(I)Ljava/lang/Throwable;" } : Jvm.MethodName)) ∈ lw_all := lw_g (lw_at lw_m5 205 rfl) rfl
theorem q1333 : (Jvm.Cond.lays "java/lang/IllegalArgumentException" "java/lang/Throwable" "cause" "Ljava/lang/Throwable;") ∈ lw_all := lw_g (lw_at lw_m5 206 rfl) rfl
theorem q1334 : (Jvm.Cond.lays "java/lang/IllegalArgumentException" "java/lang/Throwable" "stackTrace" "[Ljava/lang/StackTraceElement;") ∈ lw_all := lw_g (lw_at lw_m5 207 rfl) rfl
theorem q1335 : (Jvm.Cond.lays "java/lang/IllegalArgumentException" "java/lang/Throwable" "suppressedExceptions" "Ljava/util/List;") ∈ lw_all := lw_g (lw_at lw_m5 208 rfl) rfl
theorem q1336 : (Jvm.Cond.lays "java/lang/IllegalArgumentException" "java/lang/Throwable" "detailMessage" "Ljava/lang/String;") ∈ lw_all := lw_g (lw_at lw_m5 209 rfl) rfl
theorem q1337 : (Jvm.Cond.lays "java/lang/IllegalArgumentException" "java/lang/Throwable" "backtrace" "Ljava/lang/Object;") ∈ lw_all := lw_g (lw_at lw_m5 210 rfl) rfl
theorem q1340 : (Jvm.Cond.instanceMethod ({ cls := "java/lang/IllegalArgumentException", name := "<init>", desc := "(Ljava/lang/String;)V" } : Jvm.MethodName)) ∈ lw_all := lw_g (lw_at lw_m5 213 rfl) rfl
theorem q1341 : (Jvm.Cond.code ({ cls := "java/lang/IllegalArgumentException", name := "<init>", desc := "(Ljava/lang/String;)V" } : Jvm.MethodName) prog_14_method_2_code (2 : Nat) (Option.none : Option Jvm.ClassFile.FieldType)) ∈ lw_all := lw_g (lw_at lw_m5 214 rfl) rfl
theorem q1342 : (Jvm.Cond.methodLink "java/lang/IllegalArgumentException" (7 : Nat) ({ cls := "java/lang/RuntimeException", name := "<init>", desc := "(Ljava/lang/String;)V" } : Jvm.MethodName)) ∈ lw_all := lw_g (lw_at lw_m5 215 rfl) rfl
theorem q1343 : (Jvm.Cond.lays "java/lang/IllegalArgumentException" "java/lang/Throwable" "depth" "I") ∈ lw_all := lw_g (lw_at lw_m5 216 rfl) rfl
theorem q1344 : (Jvm.Cond.superclass "java/lang/IllegalArgumentException" "java/lang/RuntimeException") ∈ lw_all := lw_g (lw_at lw_m5 217 rfl) rfl
theorem in_J5 : ∀ w ∈ wsJ50, w ∈ lw_all := lw_in wsJ50 [1333, 1334, 1335, 1336, 1337, 1343] (by decide +kernel) (by decide +kernel)
/-! java/lang/String -/
set_option maxRecDepth 100000
def RJ6 : String := "java/lang/String"
def TJ6 : u_T := fun k => match k with
  | 0 => ("java/lang/String", "value", "[B", true)
  | _ => ("java/lang/String", "coder", "B", true)
def tyJ6 : Nat → FieldType := fun k => match k with
  | 0 => .array .byte
  | _ => .byte
abbrev wsJ60 : List Cond := u_ws RJ6 TJ6 2
theorem nmJ6 : ∀ a, a < 2 → ∀ b, b < 2 → a ≠ b → (TJ6 a).2.1 ≠ (TJ6 b).2.1 := by decide +kernel
theorem tyJ6_ok : ∀ k, k < 2 → parseFieldDescriptor (TJ6 k).2.2.1 = some (tyJ6 k) := by decide +kernel
abbrev cJ6_length : ByteArray := prog_19_method_54_code
def yJ6_length : MethodName := ⟨RJ6, "length", "()I"⟩
abbrev cJ6_coder : ByteArray := prog_19_method_152_code
def yJ6_coder : MethodName := ⟨RJ6, "coder", "()B"⟩
abbrev cJ6_charAt : ByteArray := prog_19_method_56_code
def yJ6_charAt : MethodName := ⟨RJ6, "charAt", "(I)C"⟩
abbrev cJ6_isLatin1 : ByteArray := prog_19_method_154_code
def yJ6_isLatin1 : MethodName := ⟨RJ6, "isLatin1", "()Z"⟩
abbrev cJ6_checkIndex : ByteArray := prog_19_method_155_code
def yJ6_checkIndex : MethodName := ⟨RJ6, "checkIndex", "(II)V"⟩
theorem q184 : (Jvm.Cond.initialized "java/lang/String") ∈ lw_all := lw_g (lw_at lw_m1 17 rfl) rfl
theorem q687 : (Jvm.Cond.instanceMethod ({ cls := "java/lang/String", name := "length", desc := "()I" } : Jvm.MethodName)) ∈ lw_all := lw_g (lw_at lw_m3 40 rfl) rfl
theorem q688 : (Jvm.Cond.selects "java/lang/String" ({ cls := "java/lang/String", name := "length", desc := "()I" } : Jvm.MethodName) ({ cls := "java/lang/String", name := "length", desc := "()I" } : Jvm.MethodName)) ∈ lw_all := lw_g (lw_at lw_m3 41 rfl) rfl
theorem q689 : (Jvm.Cond.code ({ cls := "java/lang/String", name := "length", desc := "()I" } : Jvm.MethodName) prog_19_method_54_code (1 : Nat) (Option.some Jvm.ClassFile.FieldType.int)) ∈ lw_all := lw_g (lw_at lw_m3 42 rfl) rfl
theorem q690 : (Jvm.Cond.methodLink "java/lang/String" (335 : Nat) ({ cls := "java/lang/String", name := "coder", desc := "()B" } : Jvm.MethodName)) ∈ lw_all := lw_g (lw_at lw_m3 43 rfl) rfl
theorem q691 : (Jvm.Cond.instanceMethod ({ cls := "java/lang/String", name := "coder", desc := "()B" } : Jvm.MethodName)) ∈ lw_all := lw_g (lw_at lw_m3 44 rfl) rfl
theorem q692 : (Jvm.Cond.selects "java/lang/String" ({ cls := "java/lang/String", name := "coder", desc := "()B" } : Jvm.MethodName) ({ cls := "java/lang/String", name := "coder", desc := "()B" } : Jvm.MethodName)) ∈ lw_all := lw_g (lw_at lw_m3 45 rfl) rfl
theorem q693 : (Jvm.Cond.code ({ cls := "java/lang/String", name := "coder", desc := "()B" } : Jvm.MethodName) prog_19_method_152_code (1 : Nat) (Option.some Jvm.ClassFile.FieldType.byte)) ∈ lw_all := lw_g (lw_at lw_m3 46 rfl) rfl
theorem q694 : (Jvm.Cond.fieldLink "java/lang/String" (38 : Nat) "java/lang/String" "COMPACT_STRINGS" "Z") ∈ lw_all := lw_g (lw_at lw_m3 47 rfl) rfl
theorem q695 : (Jvm.Cond.laysStatic "java/lang/String" "COMPACT_STRINGS" "Z") ∈ lw_tbl := lw_at lw_m3 48 rfl
theorem q697 : (Jvm.Cond.instanceMethod ({ cls := "java/lang/String", name := "charAt", desc := "(I)C" } : Jvm.MethodName)) ∈ lw_all := lw_g (lw_at lw_m3 50 rfl) rfl
theorem q698 : (Jvm.Cond.selects "java/lang/String" ({ cls := "java/lang/String", name := "charAt", desc := "(I)C" } : Jvm.MethodName) ({ cls := "java/lang/String", name := "charAt", desc := "(I)C" } : Jvm.MethodName)) ∈ lw_all := lw_g (lw_at lw_m3 51 rfl) rfl
theorem q699 : (Jvm.Cond.code ({ cls := "java/lang/String", name := "charAt", desc := "(I)C" } : Jvm.MethodName) prog_19_method_56_code (2 : Nat) (Option.some Jvm.ClassFile.FieldType.char)) ∈ lw_all := lw_g (lw_at lw_m3 52 rfl) rfl
theorem q700 : (Jvm.Cond.methodLink "java/lang/String" (492 : Nat) ({ cls := "java/lang/String", name := "isLatin1", desc := "()Z" } : Jvm.MethodName)) ∈ lw_all := lw_g (lw_at lw_m3 53 rfl) rfl
theorem q701 : (Jvm.Cond.instanceMethod ({ cls := "java/lang/String", name := "isLatin1", desc := "()Z" } : Jvm.MethodName)) ∈ lw_all := lw_g (lw_at lw_m3 54 rfl) rfl
theorem q702 : (Jvm.Cond.selects "java/lang/String" ({ cls := "java/lang/String", name := "isLatin1", desc := "()Z" } : Jvm.MethodName) ({ cls := "java/lang/String", name := "isLatin1", desc := "()Z" } : Jvm.MethodName)) ∈ lw_all := lw_g (lw_at lw_m3 55 rfl) rfl
theorem q703 : (Jvm.Cond.code ({ cls := "java/lang/String", name := "isLatin1", desc := "()Z" } : Jvm.MethodName) prog_19_method_154_code (1 : Nat) (Option.some Jvm.ClassFile.FieldType.boolean)) ∈ lw_all := lw_g (lw_at lw_m3 56 rfl) rfl
theorem q704 : (Jvm.Cond.methodLink "java/lang/String" (495 : Nat) ({ cls := "java/lang/StringLatin1", name := "charAt", desc := "([BI)C" } : Jvm.MethodName)) ∈ lw_all := lw_g (lw_at lw_m3 57 rfl) rfl
theorem q708 : (Jvm.Cond.static ({ cls := "java/lang/String", name := "checkIndex", desc := "(II)V" } : Jvm.MethodName)) ∈ lw_all := lw_g (lw_at lw_m3 61 rfl) rfl
theorem q709 : (Jvm.Cond.code ({ cls := "java/lang/String", name := "checkIndex", desc := "(II)V" } : Jvm.MethodName) prog_19_method_155_code (2 : Nat) (Option.none : Option Jvm.ClassFile.FieldType)) ∈ lw_all := lw_g (lw_at lw_m3 62 rfl) rfl
theorem q710 : (Jvm.Cond.fieldLink "java/lang/String" (1053 : Nat) "jdk/internal/util/Preconditions" "SIOOBE_FORMATTER" "Ljava/util/function/BiFunction;") ∈ lw_all := lw_g (lw_at lw_m3 63 rfl) rfl
theorem q712 : (Jvm.Cond.methodLink "java/lang/String" (1059 : Nat) ({ cls := "jdk/internal/util/Preconditions", name := "checkIndex", desc := "(IILjava/util/function/BiFunction;)I" } : Jvm.MethodName)) ∈ lw_all := lw_g (lw_at lw_m3 65 rfl) rfl
theorem q715 : (Jvm.Cond.methodLink "java/lang/String" (498 : Nat) ({ cls := "java/lang/StringUTF16", name := "charAt", desc := "([BI)C" } : Jvm.MethodName)) ∈ lw_all := lw_g (lw_at lw_m3 68 rfl) rfl
theorem q1396 : (Jvm.Cond.instantiable "java/lang/String" (4 : Nat)) ∈ lw_all := lw_g (lw_at lw_m6 29 rfl) rfl
theorem q1397 : (Jvm.Cond.laysFinal "java/lang/String" "java/lang/String" "value" "[B") ∈ lw_all := lw_g (lw_at lw_m6 30 rfl) rfl
theorem q1398 : (Jvm.Cond.soleField "java/lang/String" "value") ∈ lw_all := lw_g (lw_at lw_m6 31 rfl) rfl
theorem q1399 : (Jvm.Cond.laysFinal "java/lang/String" "java/lang/String" "coder" "B") ∈ lw_all := lw_g (lw_at lw_m6 32 rfl) rfl
theorem q1400 : (Jvm.Cond.soleField "java/lang/String" "coder") ∈ lw_all := lw_g (lw_at lw_m6 33 rfl) rfl
theorem q2217 : (Jvm.Cond.fieldLink "java/lang/String" (9 : Nat) "java/lang/String" "value" "[B") ∈ lw_all := lw_g (lw_at lw_m9 130 rfl) rfl
theorem q2218 : (Jvm.Cond.fieldLink "java/lang/String" (15 : Nat) "java/lang/String" "coder" "B") ∈ lw_all := lw_g (lw_at lw_m9 131 rfl) rfl
theorem in_J6 : ∀ w ∈ wsJ60, w ∈ lw_all := lw_in wsJ60 [1397, 1399] (by decide +kernel) (by decide +kernel)
/-! java/lang/StringLatin1 -/
set_option maxRecDepth 100000
def RJ7 : String := "java/lang/StringLatin1"
abbrev cJ7_charAt : ByteArray := prog_20_method_2_code
def yJ7_charAt : MethodName := ⟨RJ7, "charAt", "([BI)C"⟩
theorem q185 : (Jvm.Cond.initialized "java/lang/StringLatin1") ∈ lw_all := lw_g (lw_at lw_m1 18 rfl) rfl
theorem q705 : (Jvm.Cond.static ({ cls := "java/lang/StringLatin1", name := "charAt", desc := "([BI)C" } : Jvm.MethodName)) ∈ lw_all := lw_g (lw_at lw_m3 58 rfl) rfl
theorem q706 : (Jvm.Cond.code ({ cls := "java/lang/StringLatin1", name := "charAt", desc := "([BI)C" } : Jvm.MethodName) prog_20_method_2_code (2 : Nat) (Option.some Jvm.ClassFile.FieldType.char)) ∈ lw_all := lw_g (lw_at lw_m3 59 rfl) rfl
theorem q707 : (Jvm.Cond.methodLink "java/lang/StringLatin1" (9 : Nat) ({ cls := "java/lang/String", name := "checkIndex", desc := "(II)V" } : Jvm.MethodName)) ∈ lw_all := lw_g (lw_at lw_m3 60 rfl) rfl
/-! jdk/internal/util/Preconditions -/
set_option maxRecDepth 100000
def RJ8 : String := "jdk/internal/util/Preconditions"
abbrev cJ8_checkIndex : ByteArray := prog_25_method_11_code
def yJ8_checkIndex : MethodName := ⟨RJ8, "checkIndex", "(IILjava/util/function/BiFunction;)I"⟩
theorem q186 : (Jvm.Cond.initialized "jdk/internal/util/Preconditions") ∈ lw_all := lw_g (lw_at lw_m1 19 rfl) rfl
theorem q711 : (Jvm.Cond.laysStatic "jdk/internal/util/Preconditions" "SIOOBE_FORMATTER" "Ljava/util/function/BiFunction;") ∈ lw_tbl := lw_at lw_m3 64 rfl
theorem q713 : (Jvm.Cond.static ({ cls := "jdk/internal/util/Preconditions", name := "checkIndex", desc := "(IILjava/util/function/BiFunction;)I" } : Jvm.MethodName)) ∈ lw_all := lw_g (lw_at lw_m3 66 rfl) rfl
theorem q714 : (Jvm.Cond.code ({ cls := "jdk/internal/util/Preconditions", name := "checkIndex", desc := "(IILjava/util/function/BiFunction;)I" } : Jvm.MethodName) prog_25_method_11_code (3 : Nat) (Option.some Jvm.ClassFile.FieldType.int)) ∈ lw_all := lw_g (lw_at lw_m3 67 rfl) rfl
/-! java/lang/StringUTF16 -/
set_option maxRecDepth 100000
def RJ9 : String := "java/lang/StringUTF16"
abbrev cJ9_charAt : ByteArray := prog_21_method_83_code
def yJ9_charAt : MethodName := ⟨RJ9, "charAt", "([BI)C"⟩
abbrev cJ9_checkIndex : ByteArray := prog_21_method_91_code
def yJ9_checkIndex : MethodName := ⟨RJ9, "checkIndex", "(I[B)V"⟩
abbrev cJ9_length : ByteArray := prog_21_method_6_code
def yJ9_length : MethodName := ⟨RJ9, "length", "([B)I"⟩
abbrev cJ9_getChar : ByteArray := prog_21_method_5_code
def yJ9_getChar : MethodName := ⟨RJ9, "getChar", "([BI)C"⟩
theorem q187 : (Jvm.Cond.initialized "java/lang/StringUTF16") ∈ lw_all := lw_g (lw_at lw_m1 20 rfl) rfl
theorem q716 : (Jvm.Cond.static ({ cls := "java/lang/StringUTF16", name := "charAt", desc := "([BI)C" } : Jvm.MethodName)) ∈ lw_all := lw_g (lw_at lw_m3 69 rfl) rfl
theorem q717 : (Jvm.Cond.code ({ cls := "java/lang/StringUTF16", name := "charAt", desc := "([BI)C" } : Jvm.MethodName) prog_21_method_83_code (2 : Nat) (Option.some Jvm.ClassFile.FieldType.char)) ∈ lw_all := lw_g (lw_at lw_m3 70 rfl) rfl
theorem q718 : (Jvm.Cond.methodLink "java/lang/StringUTF16" (67 : Nat) ({ cls := "java/lang/StringUTF16", name := "checkIndex", desc := "(I[B)V" } : Jvm.MethodName)) ∈ lw_all := lw_g (lw_at lw_m3 71 rfl) rfl
theorem q719 : (Jvm.Cond.static ({ cls := "java/lang/StringUTF16", name := "checkIndex", desc := "(I[B)V" } : Jvm.MethodName)) ∈ lw_all := lw_g (lw_at lw_m3 72 rfl) rfl
theorem q720 : (Jvm.Cond.code ({ cls := "java/lang/StringUTF16", name := "checkIndex", desc := "(I[B)V" } : Jvm.MethodName) prog_21_method_91_code (2 : Nat) (Option.none : Option Jvm.ClassFile.FieldType)) ∈ lw_all := lw_g (lw_at lw_m3 73 rfl) rfl
theorem q721 : (Jvm.Cond.methodLink "java/lang/StringUTF16" (48 : Nat) ({ cls := "java/lang/StringUTF16", name := "length", desc := "([B)I" } : Jvm.MethodName)) ∈ lw_all := lw_g (lw_at lw_m3 74 rfl) rfl
theorem q722 : (Jvm.Cond.static ({ cls := "java/lang/StringUTF16", name := "length", desc := "([B)I" } : Jvm.MethodName)) ∈ lw_all := lw_g (lw_at lw_m3 75 rfl) rfl
theorem q723 : (Jvm.Cond.code ({ cls := "java/lang/StringUTF16", name := "length", desc := "([B)I" } : Jvm.MethodName) prog_21_method_6_code (1 : Nat) (Option.some Jvm.ClassFile.FieldType.int)) ∈ lw_all := lw_g (lw_at lw_m3 76 rfl) rfl
theorem q724 : (Jvm.Cond.methodLink "java/lang/StringUTF16" (414 : Nat) ({ cls := "java/lang/String", name := "checkIndex", desc := "(II)V" } : Jvm.MethodName)) ∈ lw_all := lw_g (lw_at lw_m3 77 rfl) rfl
theorem q725 : (Jvm.Cond.methodLink "java/lang/StringUTF16" (71 : Nat) ({ cls := "java/lang/StringUTF16", name := "getChar", desc := "([BI)C" } : Jvm.MethodName)) ∈ lw_all := lw_g (lw_at lw_m3 78 rfl) rfl
theorem q726 : (Jvm.Cond.static ({ cls := "java/lang/StringUTF16", name := "getChar", desc := "([BI)C" } : Jvm.MethodName)) ∈ lw_all := lw_g (lw_at lw_m3 79 rfl) rfl
theorem q727 : (Jvm.Cond.code ({ cls := "java/lang/StringUTF16", name := "getChar", desc := "([BI)C" } : Jvm.MethodName) prog_21_method_5_code (2 : Nat) (Option.some Jvm.ClassFile.FieldType.char)) ∈ lw_all := lw_g (lw_at lw_m3 80 rfl) rfl
theorem q728 : (Jvm.Cond.fieldLink "java/lang/StringUTF16" (44 : Nat) "java/lang/StringUTF16" "$assertionsDisabled" "Z") ∈ lw_all := lw_g (lw_at lw_m3 81 rfl) rfl
theorem q729 : (Jvm.Cond.laysStatic "java/lang/StringUTF16" "$assertionsDisabled" "Z") ∈ lw_tbl := lw_at lw_m3 82 rfl
theorem q730 : (Jvm.Cond.fieldLink "java/lang/StringUTF16" (59 : Nat) "java/lang/StringUTF16" "HI_BYTE_SHIFT" "I") ∈ lw_all := lw_g (lw_at lw_m3 83 rfl) rfl
theorem q731 : (Jvm.Cond.laysStatic "java/lang/StringUTF16" "HI_BYTE_SHIFT" "I") ∈ lw_tbl := lw_at lw_m3 84 rfl
theorem q732 : (Jvm.Cond.fieldLink "java/lang/StringUTF16" (63 : Nat) "java/lang/StringUTF16" "LO_BYTE_SHIFT" "I") ∈ lw_all := lw_g (lw_at lw_m3 85 rfl) rfl
theorem q733 : (Jvm.Cond.laysStatic "java/lang/StringUTF16" "LO_BYTE_SHIFT" "I") ∈ lw_tbl := lw_at lw_m3 86 rfl
/-! java/lang/Math -/
set_option maxRecDepth 100000
def RJ10 : String := "java/lang/Math"
abbrev cJ10_max : ByteArray := prog_17_method_65_code
def yJ10_max : MethodName := ⟨RJ10, "max", "(II)I"⟩
abbrev cJ10_min : ByteArray := prog_17_method_69_code
def yJ10_min : MethodName := ⟨RJ10, "min", "(II)I"⟩
theorem q189 : (Jvm.Cond.initialized "java/lang/Math") ∈ lw_all := lw_g (lw_at lw_m1 22 rfl) rfl
theorem q919 : (Jvm.Cond.static ({ cls := "java/lang/Math", name := "max", desc := "(II)I" } : Jvm.MethodName)) ∈ lw_all := lw_g (lw_at lw_m4 32 rfl) rfl
theorem q920 : (Jvm.Cond.code ({ cls := "java/lang/Math", name := "max", desc := "(II)I" } : Jvm.MethodName) prog_17_method_65_code (2 : Nat) (Option.some Jvm.ClassFile.FieldType.int)) ∈ lw_all := lw_g (lw_at lw_m4 33 rfl) rfl
theorem q926 : (Jvm.Cond.static ({ cls := "java/lang/Math", name := "min", desc := "(II)I" } : Jvm.MethodName)) ∈ lw_all := lw_g (lw_at lw_m4 39 rfl) rfl
theorem q927 : (Jvm.Cond.code ({ cls := "java/lang/Math", name := "min", desc := "(II)I" } : Jvm.MethodName) prog_17_method_69_code (2 : Nat) (Option.some Jvm.ClassFile.FieldType.int)) ∈ lw_all := lw_g (lw_at lw_m4 40 rfl) rfl
/-! java/lang/IndexOutOfBoundsException -/
set_option maxRecDepth 100000
def RJ11 : String := "java/lang/IndexOutOfBoundsException"
def TJ11 : u_T := fun k => match k with
  | 0 => ("java/lang/Throwable", "cause", "Ljava/lang/Throwable;", false)
  | 1 => ("java/lang/Throwable", "stackTrace", "[Ljava/lang/StackTraceElement;", false)
  | 2 => ("java/lang/Throwable", "suppressedExceptions", "Ljava/util/List;", false)
  | 3 => ("java/lang/Throwable", "detailMessage", "Ljava/lang/String;", false)
  | 4 => ("java/lang/Throwable", "backtrace", "Ljava/lang/Object;", false)
  | _ => ("java/lang/Throwable", "depth", "I", false)
def tyJ11 : Nat → FieldType := fun k => match k with
  | 0 => .object "java/lang/Throwable"
  | 1 => .array (.object "java/lang/StackTraceElement")
  | 2 => .object "java/util/List"
  | 3 => .object "java/lang/String"
  | 4 => .object "java/lang/Object"
  | _ => .int
abbrev wsJ110 : List Cond := u_ws RJ11 TJ11 6
theorem nmJ11 : ∀ a, a < 6 → ∀ b, b < 6 → a ≠ b → (TJ11 a).2.1 ≠ (TJ11 b).2.1 := by decide +kernel
theorem tyJ11_ok : ∀ k, k < 6 → parseFieldDescriptor (TJ11 k).2.2.1 = some (tyJ11 k) := by decide +kernel
abbrev cJ11_init : ByteArray := prog_16_method_2_code
def yJ11_init : MethodName := ⟨RJ11, "<init>", "(Ljava/lang/String;)V"⟩
theorem q190 : (Jvm.Cond.initialized "java/lang/IndexOutOfBoundsException") ∈ lw_all := lw_g (lw_at lw_m1 23 rfl) rfl
theorem q261 : (Jvm.Cond.selects "java/lang/IndexOutOfBoundsException" ({ cls := "java/lang/Throwable", name := "fillInStackTrace", desc := "()Ljava/lang/Throwable;" } : Jvm.MethodName) ({ cls := "java/lang/Throwable", name := "fillInStackTrace", desc := "()Ljava/lang/Throwable;" } : Jvm.MethodName)) ∈ lw_all := lw_g (lw_at lw_m1 94 rfl) rfl
theorem q1382 : (Jvm.Cond.instanceMethod ({ cls := "java/lang/IndexOutOfBoundsException", name := "<init>", desc := "(Ljava/lang/String;)V" } : Jvm.MethodName)) ∈ lw_all := lw_g (lw_at lw_m6 15 rfl) rfl
theorem q1383 : (Jvm.Cond.code ({ cls := "java/lang/IndexOutOfBoundsException", name := "<init>", desc := "(Ljava/lang/String;)V" } : Jvm.MethodName) prog_16_method_2_code (2 : Nat) (Option.none : Option Jvm.ClassFile.FieldType)) ∈ lw_all := lw_g (lw_at lw_m6 16 rfl) rfl
theorem q1384 : (Jvm.Cond.methodLink "java/lang/IndexOutOfBoundsException" (7 : Nat) ({ cls := "java/lang/RuntimeException", name := "<init>", desc := "(Ljava/lang/String;)V" } : Jvm.MethodName)) ∈ lw_all := lw_g (lw_at lw_m6 17 rfl) rfl
theorem q1393 : (Jvm.Cond.declares ({ cls := "java/lang/IndexOutOfBoundsException", name := "<init>", desc := "()V" } : Jvm.MethodName)) ∈ lw_tbl := lw_at lw_m6 26 rfl
theorem q1394 : (Jvm.Cond.declares ({ cls := "java/lang/IndexOutOfBoundsException", name := "<init>", desc := "(Ljava/lang/String;)V" } : Jvm.MethodName)) ∈ lw_tbl := lw_at lw_m6 27 rfl
theorem q1410 : (Jvm.Cond.instantiable "java/lang/IndexOutOfBoundsException" (6 : Nat)) ∈ lw_all := lw_g (lw_at lw_m6 43 rfl) rfl
theorem q1411 : (Jvm.Cond.castable "java/lang/IndexOutOfBoundsException" "java/lang/IndexOutOfBoundsException") ∈ lw_tbl := lw_at lw_m6 44 rfl
theorem q1412 : (Jvm.Cond.selects "java/lang/IndexOutOfBoundsException" ({ cls := "java/lang/Throwable", name := "fillInStackTrace", desc := "(I)Ljava/lang/Throwable;" } : Jvm.MethodName) ({ cls := "java/lang/Throwable", name := "fillInStackTrace", desc := "(I)Ljava/lang/Throwable;" } : Jvm.MethodName)) ∈ lw_all := lw_g (lw_at lw_m6 45 rfl) rfl
theorem q1413 : (Jvm.Cond.lays "java/lang/IndexOutOfBoundsException" "java/lang/Throwable" "cause" "Ljava/lang/Throwable;") ∈ lw_all := lw_g (lw_at lw_m6 46 rfl) rfl
theorem q1414 : (Jvm.Cond.lays "java/lang/IndexOutOfBoundsException" "java/lang/Throwable" "stackTrace" "[Ljava/lang/StackTraceElement;") ∈ lw_all := lw_g (lw_at lw_m6 47 rfl) rfl
theorem q1415 : (Jvm.Cond.lays "java/lang/IndexOutOfBoundsException" "java/lang/Throwable" "suppressedExceptions" "Ljava/util/List;") ∈ lw_all := lw_g (lw_at lw_m6 48 rfl) rfl
theorem q1416 : (Jvm.Cond.lays "java/lang/IndexOutOfBoundsException" "java/lang/Throwable" "detailMessage" "Ljava/lang/String;") ∈ lw_all := lw_g (lw_at lw_m6 49 rfl) rfl
theorem q1417 : (Jvm.Cond.lays "java/lang/IndexOutOfBoundsException" "java/lang/Throwable" "backtrace" "Ljava/lang/Object;") ∈ lw_all := lw_g (lw_at lw_m6 50 rfl) rfl
theorem q1420 : (Jvm.Cond.lays "java/lang/IndexOutOfBoundsException" "java/lang/Throwable" "depth" "I") ∈ lw_all := lw_g (lw_at lw_m6 53 rfl) rfl
theorem q1421 : (Jvm.Cond.superclass "java/lang/IndexOutOfBoundsException" "java/lang/RuntimeException") ∈ lw_all := lw_g (lw_at lw_m6 54 rfl) rfl
theorem in_J11 : ∀ w ∈ wsJ110, w ∈ lw_all := lw_in wsJ110 [1413, 1414, 1415, 1416, 1417, 1420] (by decide +kernel) (by decide +kernel)
/-! java/lang/ArrayIndexOutOfBoundsException -/
set_option maxRecDepth 100000
def RJ12 : String := "java/lang/ArrayIndexOutOfBoundsException"
def TJ12 : u_T := fun k => match k with
  | 0 => ("java/lang/Throwable", "backtrace", "Ljava/lang/Object;", false)
  | 1 => ("java/lang/Throwable", "detailMessage", "Ljava/lang/String;", false)
  | 2 => ("java/lang/Throwable", "cause", "Ljava/lang/Throwable;", false)
  | 3 => ("java/lang/Throwable", "stackTrace", "[Ljava/lang/StackTraceElement;", false)
  | 4 => ("java/lang/Throwable", "depth", "I", false)
  | _ => ("java/lang/Throwable", "suppressedExceptions", "Ljava/util/List;", false)
def tyJ12 : Nat → FieldType := fun k => match k with
  | 0 => .object "java/lang/Object"
  | 1 => .object "java/lang/String"
  | 2 => .object "java/lang/Throwable"
  | 3 => .array (.object "java/lang/StackTraceElement")
  | 4 => .int
  | _ => .object "java/util/List"
abbrev wsJ120 : List Cond := u_ws RJ12 TJ12 6
theorem nmJ12 : ∀ a, a < 6 → ∀ b, b < 6 → a ≠ b → (TJ12 a).2.1 ≠ (TJ12 b).2.1 := by decide +kernel
theorem tyJ12_ok : ∀ k, k < 6 → parseFieldDescriptor (TJ12 k).2.2.1 = some (tyJ12 k) := by decide +kernel
abbrev cJ12_init : ByteArray := prog_12_method_2_code
def yJ12_init : MethodName := ⟨RJ12, "<init>", "(Ljava/lang/String;)V"⟩
theorem q191 : (Jvm.Cond.initialized "java/lang/ArrayIndexOutOfBoundsException") ∈ lw_all := lw_g (lw_at lw_m1 24 rfl) rfl
theorem q259 : (Jvm.Cond.selects "java/lang/ArrayIndexOutOfBoundsException" ({ cls := "java/lang/Throwable", name := "fillInStackTrace", desc := "()Ljava/lang/Throwable;" } : Jvm.MethodName) ({ cls := "java/lang/Throwable", name := "fillInStackTrace", desc := "()Ljava/lang/Throwable;" } : Jvm.MethodName)) ∈ lw_all := lw_g (lw_at lw_m1 92 rfl) rfl
theorem q1378 : (Jvm.Cond.instantiable "java/lang/ArrayIndexOutOfBoundsException" (6 : Nat)) ∈ lw_all := lw_g (lw_at lw_m6 11 rfl) rfl
theorem q1379 : (Jvm.Cond.instanceMethod ({ cls := "java/lang/ArrayIndexOutOfBoundsException", name := "<init>", desc := "(Ljava/lang/String;)V" } : Jvm.MethodName)) ∈ lw_all := lw_g (lw_at lw_m6 12 rfl) rfl
theorem q1380 : (Jvm.Cond.code ({ cls := "java/lang/ArrayIndexOutOfBoundsException", name := "<init>", desc := "(Ljava/lang/String;)V" } : Jvm.MethodName) prog_12_method_2_code (2 : Nat) (Option.none : Option Jvm.ClassFile.FieldType)) ∈ lw_all := lw_g (lw_at lw_m6 13 rfl) rfl
theorem q1381 : (Jvm.Cond.methodLink "java/lang/ArrayIndexOutOfBoundsException" (7 : Nat) ({ cls := "java/lang/IndexOutOfBoundsException", name := "<init>", desc := "(Ljava/lang/String;)V" } : Jvm.MethodName)) ∈ lw_all := lw_g (lw_at lw_m6 14 rfl) rfl
theorem q1385 : (Jvm.Cond.lays "java/lang/ArrayIndexOutOfBoundsException" "java/lang/Throwable" "backtrace" "Ljava/lang/Object;") ∈ lw_all := lw_g (lw_at lw_m6 18 rfl) rfl
theorem q1386 : (Jvm.Cond.lays "java/lang/ArrayIndexOutOfBoundsException" "java/lang/Throwable" "detailMessage" "Ljava/lang/String;") ∈ lw_all := lw_g (lw_at lw_m6 19 rfl) rfl
theorem q1387 : (Jvm.Cond.lays "java/lang/ArrayIndexOutOfBoundsException" "java/lang/Throwable" "cause" "Ljava/lang/Throwable;") ∈ lw_all := lw_g (lw_at lw_m6 20 rfl) rfl
theorem q1388 : (Jvm.Cond.lays "java/lang/ArrayIndexOutOfBoundsException" "java/lang/Throwable" "stackTrace" "[Ljava/lang/StackTraceElement;") ∈ lw_all := lw_g (lw_at lw_m6 21 rfl) rfl
theorem q1389 : (Jvm.Cond.lays "java/lang/ArrayIndexOutOfBoundsException" "java/lang/Throwable" "depth" "I") ∈ lw_all := lw_g (lw_at lw_m6 22 rfl) rfl
theorem q1390 : (Jvm.Cond.lays "java/lang/ArrayIndexOutOfBoundsException" "java/lang/Throwable" "suppressedExceptions" "Ljava/util/List;") ∈ lw_all := lw_g (lw_at lw_m6 23 rfl) rfl
theorem q1391 : (Jvm.Cond.superclass "java/lang/ArrayIndexOutOfBoundsException" "java/lang/IndexOutOfBoundsException") ∈ lw_all := lw_g (lw_at lw_m6 24 rfl) rfl
theorem q1392 : (Jvm.Cond.castable "java/lang/ArrayIndexOutOfBoundsException" "java/lang/ArrayIndexOutOfBoundsException") ∈ lw_tbl := lw_at lw_m6 25 rfl
theorem q1395 : (Jvm.Cond.selects "java/lang/ArrayIndexOutOfBoundsException" ({ cls := "java/lang/Throwable", name := "fillInStackTrace", desc := "(I)Ljava/lang/Throwable;" } : Jvm.MethodName) ({ cls := "java/lang/Throwable", name := "fillInStackTrace", desc := "(I)Ljava/lang/Throwable;" } : Jvm.MethodName)) ∈ lw_all := lw_g (lw_at lw_m6 28 rfl) rfl
theorem q2216 : (Jvm.Cond.castable "java/lang/ArrayIndexOutOfBoundsException" "java/lang/IndexOutOfBoundsException") ∈ lw_tbl := lw_at lw_m9 129 rfl
theorem in_J12 : ∀ w ∈ wsJ120, w ∈ lw_all := lw_in wsJ120 [1385, 1386, 1387, 1388, 1389, 1390] (by decide +kernel) (by decide +kernel)
/-! java/lang/Object -/
set_option maxRecDepth 100000
def RJ13 : String := "java/lang/Object"
abbrev cJ13_init : ByteArray := object_method_1_code
def yJ13_init : MethodName := ⟨RJ13, "<init>", "()V"⟩
theorem q198 : (Jvm.Cond.instanceMethod ({ cls := "java/lang/Object", name := "<init>", desc := "()V" } : Jvm.MethodName)) ∈ lw_all := lw_g (lw_at lw_m1 31 rfl) rfl
theorem q199 : (Jvm.Cond.code ({ cls := "java/lang/Object", name := "<init>", desc := "()V" } : Jvm.MethodName) object_method_1_code (1 : Nat) (Option.none : Option Jvm.ClassFile.FieldType)) ∈ lw_all := lw_g (lw_at lw_m1 32 rfl) rfl
/-! the law's own entry -/
set_option maxRecDepth 100000
abbrev cL_law : ByteArray := code
theorem q188 : (Jvm.Cond.initialized "java/lang/System") ∈ lw_all := lw_g (lw_at lw_m1 21 rfl) rfl
set_option maxRecDepth 100000
theorem q797 : (Jvm.Cond.static ({ cls := "java/lang/System", name := "arraycopy", desc := "(Ljava/lang/Object;ILjava/lang/Object;II)V" } : Jvm.MethodName)) ∈ lw_all := lw_g (lw_at lw_m3 150 rfl) rfl
theorem q798 : (Jvm.Cond.native ({ cls := "java/lang/System", name := "arraycopy", desc := "(Ljava/lang/Object;ILjava/lang/Object;II)V" } : Jvm.MethodName)) ∈ lw_all := lw_g (lw_at lw_m3 151 rfl) rfl
theorem q207 : (Jvm.Cond.arrayOver (Jvm.ClassFile.FieldType.object "java/lang/String")) ∈ lw_tbl := lw_at lw_m1 40 rfl
set_option maxRecDepth 100000
theorem q295 : (Jvm.Cond.arrayClass Jvm.ClassFile.FieldType.byte) ∈ lw_all := lw_g (lw_at lw_m1 128 rfl) rfl
theorem q367 : (Jvm.Cond.arrayClass Jvm.ClassFile.FieldType.int) ∈ lw_all := lw_g (lw_at lw_m1 200 rfl) rfl
theorem q1774 : (Jvm.Cond.arrayClass Jvm.ClassFile.FieldType.long) ∈ lw_all := lw_g (lw_at lw_m7 167 rfl) rfl
theorem q1775 : (Jvm.Cond.arrayClass Jvm.ClassFile.FieldType.boolean) ∈ lw_all := lw_g (lw_at lw_m7 168 rfl) rfl
