/-! WordBenchModel -/
set_option maxRecDepth 100000
def RX3 : String := "WordBenchModel"
def TX3 : u_T := fun k => match k with
  | 0 => ("WordBenchModel", "thrown", "I", false)
  | 1 => ("WordBenchModel", "kind", "[I", true)
  | 2 => ("WordBenchModel", "field", "[I", true)
  | 3 => ("WordBenchModel", "length", "[I", true)
  | 4 => ("WordBenchModel", "count", "[I", true)
  | 5 => ("WordBenchModel", "words", "[J", true)
  | 6 => ("WordBenchModel", "form", "[J", true)
  | 7 => ("WordBenchModel", "heads", "[I", true)
  | 8 => ("WordBenchModel", "rank", "I", false)
  | 9 => ("WordBenchModel", "duals", "[J", true)
  | 10 => ("WordBenchModel", "list", "[J", true)
  | 11 => ("WordBenchModel", "listed", "I", false)
  | 12 => ("WordBenchModel", "letters", "[I", true)
  | 13 => ("WordBenchModel", "given", "[I", true)
  | 14 => ("WordBenchModel", "counts", "[J", true)
  | 15 => ("WordBenchModel", "firstHole", "J", false)
  | 16 => ("WordBenchModel", "far", "I", false)
  | 17 => ("WordBenchModel", "aside", "[J", true)
  | 18 => ("WordBenchModel", "asides", "I", false)
  | 19 => ("WordBenchModel", "holds", "[I", true)
  | 20 => ("WordBenchModel", "heldKind", "[I", true)
  | 21 => ("WordBenchModel", "heldLength", "[I", true)
  | 22 => ("WordBenchModel", "heldCount", "[I", true)
  | _ => ("WordBenchModel", "held", "[J", true)
def tyX3 : Nat → FieldType := fun k => match k with
  | 0 => .int
  | 1 => .array .int
  | 2 => .array .int
  | 3 => .array .int
  | 4 => .array .int
  | 5 => .array .long
  | 6 => .array .long
  | 7 => .array .int
  | 8 => .int
  | 9 => .array .long
  | 10 => .array .long
  | 11 => .int
  | 12 => .array .int
  | 13 => .array .int
  | 14 => .array .long
  | 15 => .long
  | 16 => .int
  | 17 => .array .long
  | 18 => .int
  | 19 => .array .int
  | 20 => .array .int
  | 21 => .array .int
  | 22 => .array .int
  | _ => .array .long
abbrev wsX30 : List Cond := u_ws RX3 TX3 24
set_option maxRecDepth 100000 in
theorem nmX3 : ∀ a, a < 24 → ∀ b, b < 24 → a ≠ b → (TX3 a).2.1 ≠ (TX3 b).2.1 := by decide +kernel
set_option maxRecDepth 100000 in
theorem tyX3_ok : ∀ k, k < 24 → parseFieldDescriptor (TX3 k).2.2.1 = some (tyX3 k) := by decide +kernel
abbrev cX3_thrown : ByteArray := prog_11_method_1_code
def yX3_thrown : MethodName := ⟨RX3, "thrown", "()I"⟩
theorem dX3_thrown_0 : decode cX3_thrown 0 = .ok (.aload_n 0, 1) := by decide +kernel
theorem dX3_thrown_1 : decode cX3_thrown 1 = .ok (.getfield 1, 3) := by decide +kernel
theorem dX3_thrown_4 : decode cX3_thrown 4 = .ok (.ireturn, 1) := by decide +kernel
abbrev cX3_sum : ByteArray := prog_11_method_14_code
def yX3_sum : MethodName := ⟨RX3, "sum", "(IIJJI)J"⟩
def dkwX3_sum_2 : List UInt8 := [22, 5, 21, 7, 184, 0, 42, 173]
abbrev dktX3_sum_2 : List UInt8 := dkwX3_sum_2 ++ []
def dkwX3_sum_1 : List UInt8 := [33, 184, 0, 36, 153, 0, 13, 27, 28, 22, 5, 184, 0, 36, 154, 0, 7, 20, 0, 40, 173, 27, 28, 33]
abbrev dktX3_sum_1 : List UInt8 := dkwX3_sum_1 ++ dktX3_sum_2
def dkwX3_sum_0 : List UInt8 := [27, 28, 184, 0, 32, 153, 0, 36, 21, 7, 133, 9, 27, 4, 100, 133, 184, 0, 26, 153, 0, 22, 27, 28]
abbrev dktX3_sum_0 : List UInt8 := dkwX3_sum_0 ++ dktX3_sum_1
theorem dksX3_sum_0 : cX3_sum.data.toList.drop 0 = dktX3_sum_0 := by decide +kernel
theorem dksX3_sum_1 : cX3_sum.data.toList.drop 24 = dktX3_sum_1 := dk_seg dksX3_sum_0 24 rfl rfl
theorem dksX3_sum_2 : cX3_sum.data.toList.drop 48 = dktX3_sum_2 := dk_seg dksX3_sum_1 24 rfl rfl
theorem dX3_sum_0 : decode cX3_sum 0 = .ok (.iload_n 1, 1) := dk_27 (dk_at dksX3_sum_0 0 rfl rfl)
theorem dX3_sum_1 : decode cX3_sum 1 = .ok (.iload_n 2, 1) := dk_28 (dk_at dksX3_sum_0 1 rfl rfl)
theorem dX3_sum_2 : decode cX3_sum 2 = .ok (.invokestatic 32, 3) := dk_184 0 32 (dk_at dksX3_sum_0 2 rfl rfl)
theorem dX3_sum_5 : decode cX3_sum 5 = .ok (.ifCond .eq 36, 3) := dk_153 0 36 (dk_at dksX3_sum_0 5 rfl rfl)
theorem dX3_sum_8 : decode cX3_sum 8 = .ok (.iload 7, 2) := dk_21 7 (dk_at dksX3_sum_0 8 rfl rfl)
theorem dX3_sum_10 : decode cX3_sum 10 = .ok (.i2l, 1) := dk_133 (dk_at dksX3_sum_0 10 rfl rfl)
theorem dX3_sum_11 : decode cX3_sum 11 = .ok (.lconst 0, 1) := dk_9 (dk_at dksX3_sum_0 11 rfl rfl)
theorem dX3_sum_12 : decode cX3_sum 12 = .ok (.iload_n 1, 1) := dk_27 (dk_at dksX3_sum_0 12 rfl rfl)
theorem dX3_sum_13 : decode cX3_sum 13 = .ok (.iconst 1, 1) := dk_4 (dk_at dksX3_sum_0 13 rfl rfl)
theorem dX3_sum_14 : decode cX3_sum 14 = .ok (.isub, 1) := dk_100 (dk_at dksX3_sum_0 14 rfl rfl)
theorem dX3_sum_15 : decode cX3_sum 15 = .ok (.i2l, 1) := dk_133 (dk_at dksX3_sum_0 15 rfl rfl)
theorem dX3_sum_16 : decode cX3_sum 16 = .ok (.invokestatic 26, 3) := dk_184 0 26 (dk_at dksX3_sum_0 16 rfl rfl)
theorem dX3_sum_19 : decode cX3_sum 19 = .ok (.ifCond .eq 22, 3) := dk_153 0 22 (dk_at dksX3_sum_0 19 rfl rfl)
theorem dX3_sum_22 : decode cX3_sum 22 = .ok (.iload_n 1, 1) := dk_27 (dk_at dksX3_sum_0 22 rfl rfl)
theorem dX3_sum_23 : decode cX3_sum 23 = .ok (.iload_n 2, 1) := dk_28 (dk_at dksX3_sum_0 23 rfl rfl)
theorem dX3_sum_24 : decode cX3_sum 24 = .ok (.lload_n 3, 1) := dk_33 (dk_at dksX3_sum_1 0 rfl rfl)
theorem dX3_sum_25 : decode cX3_sum 25 = .ok (.invokestatic 36, 3) := dk_184 0 36 (dk_at dksX3_sum_1 1 rfl rfl)
theorem dX3_sum_28 : decode cX3_sum 28 = .ok (.ifCond .eq 13, 3) := dk_153 0 13 (dk_at dksX3_sum_1 4 rfl rfl)
theorem dX3_sum_31 : decode cX3_sum 31 = .ok (.iload_n 1, 1) := dk_27 (dk_at dksX3_sum_1 7 rfl rfl)
theorem dX3_sum_32 : decode cX3_sum 32 = .ok (.iload_n 2, 1) := dk_28 (dk_at dksX3_sum_1 8 rfl rfl)
theorem dX3_sum_33 : decode cX3_sum 33 = .ok (.lload 5, 2) := dk_22 5 (dk_at dksX3_sum_1 9 rfl rfl)
theorem dX3_sum_35 : decode cX3_sum 35 = .ok (.invokestatic 36, 3) := dk_184 0 36 (dk_at dksX3_sum_1 11 rfl rfl)
theorem dX3_sum_38 : decode cX3_sum 38 = .ok (.ifCond .ne 7, 3) := dk_154 0 7 (dk_at dksX3_sum_1 14 rfl rfl)
theorem dX3_sum_41 : decode cX3_sum 41 = .ok (.ldc2_w 40, 3) := dk_20 0 40 (dk_at dksX3_sum_1 17 rfl rfl)
theorem dX3_sum_44 : decode cX3_sum 44 = .ok (.lreturn, 1) := dk_173 (dk_at dksX3_sum_1 20 rfl rfl)
theorem dX3_sum_45 : decode cX3_sum 45 = .ok (.iload_n 1, 1) := dk_27 (dk_at dksX3_sum_1 21 rfl rfl)
theorem dX3_sum_46 : decode cX3_sum 46 = .ok (.iload_n 2, 1) := dk_28 (dk_at dksX3_sum_1 22 rfl rfl)
theorem dX3_sum_47 : decode cX3_sum 47 = .ok (.lload_n 3, 1) := dk_33 (dk_at dksX3_sum_1 23 rfl rfl)
theorem dX3_sum_48 : decode cX3_sum 48 = .ok (.lload 5, 2) := dk_22 5 (dk_at dksX3_sum_2 0 rfl rfl)
theorem dX3_sum_50 : decode cX3_sum 50 = .ok (.iload 7, 2) := dk_21 7 (dk_at dksX3_sum_2 2 rfl rfl)
theorem dX3_sum_52 : decode cX3_sum 52 = .ok (.invokestatic 42, 3) := dk_184 0 42 (dk_at dksX3_sum_2 4 rfl rfl)
theorem dX3_sum_55 : decode cX3_sum 55 = .ok (.lreturn, 1) := dk_173 (dk_at dksX3_sum_2 7 rfl rfl)
abbrev cX3_isField : ByteArray := prog_11_method_13_code
def yX3_isField : MethodName := ⟨RX3, "isField", "(II)Z"⟩
def dkwX3_isField_1 : List UInt8 := [153, 0, 7, 4, 167, 0, 4, 3, 172]
abbrev dktX3_isField_1 : List UInt8 := dkwX3_isField_1 ++ []
def dkwX3_isField_0 : List UInt8 := [26, 133, 20, 0, 22, 20, 0, 24, 184, 0, 26, 153, 0, 19, 27, 133, 10, 20, 0, 30, 184, 0, 26]
abbrev dktX3_isField_0 : List UInt8 := dkwX3_isField_0 ++ dktX3_isField_1
theorem dksX3_isField_0 : cX3_isField.data.toList.drop 0 = dktX3_isField_0 := by decide +kernel
theorem dksX3_isField_1 : cX3_isField.data.toList.drop 23 = dktX3_isField_1 := dk_seg dksX3_isField_0 23 rfl rfl
theorem dX3_isField_0 : decode cX3_isField 0 = .ok (.iload_n 0, 1) := dk_26 (dk_at dksX3_isField_0 0 rfl rfl)
theorem dX3_isField_1 : decode cX3_isField 1 = .ok (.i2l, 1) := dk_133 (dk_at dksX3_isField_0 1 rfl rfl)
theorem dX3_isField_2 : decode cX3_isField 2 = .ok (.ldc2_w 22, 3) := dk_20 0 22 (dk_at dksX3_isField_0 2 rfl rfl)
theorem dX3_isField_5 : decode cX3_isField 5 = .ok (.ldc2_w 24, 3) := dk_20 0 24 (dk_at dksX3_isField_0 5 rfl rfl)
theorem dX3_isField_8 : decode cX3_isField 8 = .ok (.invokestatic 26, 3) := dk_184 0 26 (dk_at dksX3_isField_0 8 rfl rfl)
theorem dX3_isField_11 : decode cX3_isField 11 = .ok (.ifCond .eq 19, 3) := dk_153 0 19 (dk_at dksX3_isField_0 11 rfl rfl)
theorem dX3_isField_14 : decode cX3_isField 14 = .ok (.iload_n 1, 1) := dk_27 (dk_at dksX3_isField_0 14 rfl rfl)
theorem dX3_isField_15 : decode cX3_isField 15 = .ok (.i2l, 1) := dk_133 (dk_at dksX3_isField_0 15 rfl rfl)
theorem dX3_isField_16 : decode cX3_isField 16 = .ok (.lconst 1, 1) := dk_10 (dk_at dksX3_isField_0 16 rfl rfl)
theorem dX3_isField_17 : decode cX3_isField 17 = .ok (.ldc2_w 30, 3) := dk_20 0 30 (dk_at dksX3_isField_0 17 rfl rfl)
theorem dX3_isField_20 : decode cX3_isField 20 = .ok (.invokestatic 26, 3) := dk_184 0 26 (dk_at dksX3_isField_0 20 rfl rfl)
theorem dX3_isField_23 : decode cX3_isField 23 = .ok (.ifCond .eq 7, 3) := dk_153 0 7 (dk_at dksX3_isField_1 0 rfl rfl)
theorem dX3_isField_26 : decode cX3_isField 26 = .ok (.iconst 1, 1) := dk_4 (dk_at dksX3_isField_1 3 rfl rfl)
theorem dX3_isField_27 : decode cX3_isField 27 = .ok (.goto 4, 3) := dk_167 0 4 (dk_at dksX3_isField_1 4 rfl rfl)
theorem dX3_isField_30 : decode cX3_isField 30 = .ok (.iconst 0, 1) := dk_3 (dk_at dksX3_isField_1 7 rfl rfl)
theorem dX3_isField_31 : decode cX3_isField 31 = .ok (.ireturn, 1) := dk_172 (dk_at dksX3_isField_1 8 rfl rfl)
abbrev cX3_isIn : ByteArray := prog_11_method_2_code
def yX3_isIn : MethodName := ⟨RX3, "isIn", "(JJJ)Z"⟩
def dkwX3_isIn_0 : List UInt8 := [30, 32, 148, 155, 0, 14, 30, 22, 4, 148, 157, 0, 7, 4, 167, 0, 4, 3, 172]
abbrev dktX3_isIn_0 : List UInt8 := dkwX3_isIn_0 ++ []
theorem dksX3_isIn_0 : cX3_isIn.data.toList.drop 0 = dktX3_isIn_0 := by decide +kernel
theorem dX3_isIn_0 : decode cX3_isIn 0 = .ok (.lload_n 0, 1) := dk_30 (dk_at dksX3_isIn_0 0 rfl rfl)
theorem dX3_isIn_1 : decode cX3_isIn 1 = .ok (.lload_n 2, 1) := dk_32 (dk_at dksX3_isIn_0 1 rfl rfl)
theorem dX3_isIn_2 : decode cX3_isIn 2 = .ok (.lcmp, 1) := dk_148 (dk_at dksX3_isIn_0 2 rfl rfl)
theorem dX3_isIn_3 : decode cX3_isIn 3 = .ok (.ifCond .lt 14, 3) := dk_155 0 14 (dk_at dksX3_isIn_0 3 rfl rfl)
theorem dX3_isIn_6 : decode cX3_isIn 6 = .ok (.lload_n 0, 1) := dk_30 (dk_at dksX3_isIn_0 6 rfl rfl)
theorem dX3_isIn_7 : decode cX3_isIn 7 = .ok (.lload 4, 2) := dk_22 4 (dk_at dksX3_isIn_0 7 rfl rfl)
theorem dX3_isIn_9 : decode cX3_isIn 9 = .ok (.lcmp, 1) := dk_148 (dk_at dksX3_isIn_0 9 rfl rfl)
theorem dX3_isIn_10 : decode cX3_isIn 10 = .ok (.ifCond .gt 7, 3) := dk_157 0 7 (dk_at dksX3_isIn_0 10 rfl rfl)
theorem dX3_isIn_13 : decode cX3_isIn 13 = .ok (.iconst 1, 1) := dk_4 (dk_at dksX3_isIn_0 13 rfl rfl)
theorem dX3_isIn_14 : decode cX3_isIn 14 = .ok (.goto 4, 3) := dk_167 0 4 (dk_at dksX3_isIn_0 14 rfl rfl)
theorem dX3_isIn_17 : decode cX3_isIn 17 = .ok (.iconst 0, 1) := dk_3 (dk_at dksX3_isIn_0 17 rfl rfl)
theorem dX3_isIn_18 : decode cX3_isIn 18 = .ok (.ireturn, 1) := dk_172 (dk_at dksX3_isIn_0 18 rfl rfl)
abbrev cX3_isWord : ByteArray := prog_11_method_8_code
def yX3_isWord : MethodName := ⟨RX3, "isWord", "(IIJ)Z"⟩
def dkwX3_isWord_0 : List UInt8 := [32, 9, 148, 155, 0, 17, 32, 26, 27, 184, 0, 11, 148, 156, 0, 7, 4, 167, 0, 4, 3, 172]
abbrev dktX3_isWord_0 : List UInt8 := dkwX3_isWord_0 ++ []
theorem dksX3_isWord_0 : cX3_isWord.data.toList.drop 0 = dktX3_isWord_0 := by decide +kernel
theorem dX3_isWord_0 : decode cX3_isWord 0 = .ok (.lload_n 2, 1) := dk_32 (dk_at dksX3_isWord_0 0 rfl rfl)
theorem dX3_isWord_1 : decode cX3_isWord 1 = .ok (.lconst 0, 1) := dk_9 (dk_at dksX3_isWord_0 1 rfl rfl)
theorem dX3_isWord_2 : decode cX3_isWord 2 = .ok (.lcmp, 1) := dk_148 (dk_at dksX3_isWord_0 2 rfl rfl)
theorem dX3_isWord_3 : decode cX3_isWord 3 = .ok (.ifCond .lt 17, 3) := dk_155 0 17 (dk_at dksX3_isWord_0 3 rfl rfl)
theorem dX3_isWord_6 : decode cX3_isWord 6 = .ok (.lload_n 2, 1) := dk_32 (dk_at dksX3_isWord_0 6 rfl rfl)
theorem dX3_isWord_7 : decode cX3_isWord 7 = .ok (.iload_n 0, 1) := dk_26 (dk_at dksX3_isWord_0 7 rfl rfl)
theorem dX3_isWord_8 : decode cX3_isWord 8 = .ok (.iload_n 1, 1) := dk_27 (dk_at dksX3_isWord_0 8 rfl rfl)
theorem dX3_isWord_9 : decode cX3_isWord 9 = .ok (.invokestatic 11, 3) := dk_184 0 11 (dk_at dksX3_isWord_0 9 rfl rfl)
theorem dX3_isWord_12 : decode cX3_isWord 12 = .ok (.lcmp, 1) := dk_148 (dk_at dksX3_isWord_0 12 rfl rfl)
theorem dX3_isWord_13 : decode cX3_isWord 13 = .ok (.ifCond .ge 7, 3) := dk_156 0 7 (dk_at dksX3_isWord_0 13 rfl rfl)
theorem dX3_isWord_16 : decode cX3_isWord 16 = .ok (.iconst 1, 1) := dk_4 (dk_at dksX3_isWord_0 16 rfl rfl)
theorem dX3_isWord_17 : decode cX3_isWord 17 = .ok (.goto 4, 3) := dk_167 0 4 (dk_at dksX3_isWord_0 17 rfl rfl)
theorem dX3_isWord_20 : decode cX3_isWord 20 = .ok (.iconst 0, 1) := dk_3 (dk_at dksX3_isWord_0 20 rfl rfl)
theorem dX3_isWord_21 : decode cX3_isWord 21 = .ok (.ireturn, 1) := dk_172 (dk_at dksX3_isWord_0 21 rfl rfl)
abbrev cX3_power : ByteArray := prog_11_method_7_code
def yX3_power : MethodName := ⟨RX3, "power", "(II)J"⟩
def dkwX3_power_0 : List UInt8 := [10, 65, 3, 54, 4, 21, 4, 27, 162, 0, 14, 32, 26, 133, 105, 65, 132, 4, 1, 167, 255, 242, 32, 173]
abbrev dktX3_power_0 : List UInt8 := dkwX3_power_0 ++ []
theorem dksX3_power_0 : cX3_power.data.toList.drop 0 = dktX3_power_0 := by decide +kernel
theorem dX3_power_0 : decode cX3_power 0 = .ok (.lconst 1, 1) := dk_10 (dk_at dksX3_power_0 0 rfl rfl)
theorem dX3_power_1 : decode cX3_power 1 = .ok (.lstore_n 2, 1) := dk_65 (dk_at dksX3_power_0 1 rfl rfl)
theorem dX3_power_2 : decode cX3_power 2 = .ok (.iconst 0, 1) := dk_3 (dk_at dksX3_power_0 2 rfl rfl)
theorem dX3_power_3 : decode cX3_power 3 = .ok (.istore 4, 2) := dk_54 4 (dk_at dksX3_power_0 3 rfl rfl)
theorem dX3_power_5 : decode cX3_power 5 = .ok (.iload 4, 2) := dk_21 4 (dk_at dksX3_power_0 5 rfl rfl)
theorem dX3_power_7 : decode cX3_power 7 = .ok (.iload_n 1, 1) := dk_27 (dk_at dksX3_power_0 7 rfl rfl)
theorem dX3_power_8 : decode cX3_power 8 = .ok (.if_icmp .ge 14, 3) := dk_162 0 14 (dk_at dksX3_power_0 8 rfl rfl)
theorem dX3_power_11 : decode cX3_power 11 = .ok (.lload_n 2, 1) := dk_32 (dk_at dksX3_power_0 11 rfl rfl)
theorem dX3_power_12 : decode cX3_power 12 = .ok (.iload_n 0, 1) := dk_26 (dk_at dksX3_power_0 12 rfl rfl)
theorem dX3_power_13 : decode cX3_power 13 = .ok (.i2l, 1) := dk_133 (dk_at dksX3_power_0 13 rfl rfl)
theorem dX3_power_14 : decode cX3_power 14 = .ok (.lmul, 1) := dk_105 (dk_at dksX3_power_0 14 rfl rfl)
theorem dX3_power_15 : decode cX3_power 15 = .ok (.lstore_n 2, 1) := dk_65 (dk_at dksX3_power_0 15 rfl rfl)
theorem dX3_power_16 : decode cX3_power 16 = .ok (.iinc 4 1, 3) := dk_132 4 1 (dk_at dksX3_power_0 16 rfl rfl)
theorem dX3_power_19 : decode cX3_power 19 = .ok (.goto (-14), 3) := dk_167 255 242 (dk_at dksX3_power_0 19 rfl rfl)
theorem dX3_power_22 : decode cX3_power 22 = .ok (.lload_n 2, 1) := dk_32 (dk_at dksX3_power_0 22 rfl rfl)
theorem dX3_power_23 : decode cX3_power 23 = .ok (.lreturn, 1) := dk_173 (dk_at dksX3_power_0 23 rfl rfl)
abbrev cX3_sumOf : ByteArray := prog_11_method_10_code
def yX3_sumOf : MethodName := ⟨RX3, "sumOf", "(IIJJI)J"⟩
def dkwX3_sumOf_2 : List UInt8 := [55, 7, 132, 9, 1, 167, 255, 211, 22, 7, 173]
abbrev dktX3_sumOf_2 : List UInt8 := dkwX3_sumOf_2 ++ []
def dkwX3_sumOf_1 : List UInt8 := [184, 0, 15, 26, 21, 6, 26, 27, 22, 4, 21, 9, 184, 0, 15, 184, 0, 7, 184, 0, 19, 133, 97]
abbrev dktX3_sumOf_1 : List UInt8 := dkwX3_sumOf_1 ++ dktX3_sumOf_2
def dkwX3_sumOf_0 : List UInt8 := [9, 55, 7, 3, 54, 9, 21, 9, 27, 162, 0, 45, 26, 133, 22, 7, 105, 26, 26, 27, 32, 21, 9]
abbrev dktX3_sumOf_0 : List UInt8 := dkwX3_sumOf_0 ++ dktX3_sumOf_1
theorem dksX3_sumOf_0 : cX3_sumOf.data.toList.drop 0 = dktX3_sumOf_0 := by decide +kernel
theorem dksX3_sumOf_1 : cX3_sumOf.data.toList.drop 23 = dktX3_sumOf_1 := dk_seg dksX3_sumOf_0 23 rfl rfl
theorem dksX3_sumOf_2 : cX3_sumOf.data.toList.drop 46 = dktX3_sumOf_2 := dk_seg dksX3_sumOf_1 23 rfl rfl
theorem dX3_sumOf_0 : decode cX3_sumOf 0 = .ok (.lconst 0, 1) := dk_9 (dk_at dksX3_sumOf_0 0 rfl rfl)
theorem dX3_sumOf_1 : decode cX3_sumOf 1 = .ok (.lstore 7, 2) := dk_55 7 (dk_at dksX3_sumOf_0 1 rfl rfl)
theorem dX3_sumOf_3 : decode cX3_sumOf 3 = .ok (.iconst 0, 1) := dk_3 (dk_at dksX3_sumOf_0 3 rfl rfl)
theorem dX3_sumOf_4 : decode cX3_sumOf 4 = .ok (.istore 9, 2) := dk_54 9 (dk_at dksX3_sumOf_0 4 rfl rfl)
theorem dX3_sumOf_6 : decode cX3_sumOf 6 = .ok (.iload 9, 2) := dk_21 9 (dk_at dksX3_sumOf_0 6 rfl rfl)
theorem dX3_sumOf_8 : decode cX3_sumOf 8 = .ok (.iload_n 1, 1) := dk_27 (dk_at dksX3_sumOf_0 8 rfl rfl)
theorem dX3_sumOf_9 : decode cX3_sumOf 9 = .ok (.if_icmp .ge 45, 3) := dk_162 0 45 (dk_at dksX3_sumOf_0 9 rfl rfl)
theorem dX3_sumOf_12 : decode cX3_sumOf 12 = .ok (.iload_n 0, 1) := dk_26 (dk_at dksX3_sumOf_0 12 rfl rfl)
theorem dX3_sumOf_13 : decode cX3_sumOf 13 = .ok (.i2l, 1) := dk_133 (dk_at dksX3_sumOf_0 13 rfl rfl)
theorem dX3_sumOf_14 : decode cX3_sumOf 14 = .ok (.lload 7, 2) := dk_22 7 (dk_at dksX3_sumOf_0 14 rfl rfl)
theorem dX3_sumOf_16 : decode cX3_sumOf 16 = .ok (.lmul, 1) := dk_105 (dk_at dksX3_sumOf_0 16 rfl rfl)
theorem dX3_sumOf_17 : decode cX3_sumOf 17 = .ok (.iload_n 0, 1) := dk_26 (dk_at dksX3_sumOf_0 17 rfl rfl)
theorem dX3_sumOf_18 : decode cX3_sumOf 18 = .ok (.iload_n 0, 1) := dk_26 (dk_at dksX3_sumOf_0 18 rfl rfl)
theorem dX3_sumOf_19 : decode cX3_sumOf 19 = .ok (.iload_n 1, 1) := dk_27 (dk_at dksX3_sumOf_0 19 rfl rfl)
theorem dX3_sumOf_20 : decode cX3_sumOf 20 = .ok (.lload_n 2, 1) := dk_32 (dk_at dksX3_sumOf_0 20 rfl rfl)
theorem dX3_sumOf_21 : decode cX3_sumOf 21 = .ok (.iload 9, 2) := dk_21 9 (dk_at dksX3_sumOf_0 21 rfl rfl)
theorem dX3_sumOf_23 : decode cX3_sumOf 23 = .ok (.invokestatic 15, 3) := dk_184 0 15 (dk_at dksX3_sumOf_1 0 rfl rfl)
theorem dX3_sumOf_26 : decode cX3_sumOf 26 = .ok (.iload_n 0, 1) := dk_26 (dk_at dksX3_sumOf_1 3 rfl rfl)
theorem dX3_sumOf_27 : decode cX3_sumOf 27 = .ok (.iload 6, 2) := dk_21 6 (dk_at dksX3_sumOf_1 4 rfl rfl)
theorem dX3_sumOf_29 : decode cX3_sumOf 29 = .ok (.iload_n 0, 1) := dk_26 (dk_at dksX3_sumOf_1 6 rfl rfl)
theorem dX3_sumOf_30 : decode cX3_sumOf 30 = .ok (.iload_n 1, 1) := dk_27 (dk_at dksX3_sumOf_1 7 rfl rfl)
theorem dX3_sumOf_31 : decode cX3_sumOf 31 = .ok (.lload 4, 2) := dk_22 4 (dk_at dksX3_sumOf_1 8 rfl rfl)
theorem dX3_sumOf_33 : decode cX3_sumOf 33 = .ok (.iload 9, 2) := dk_21 9 (dk_at dksX3_sumOf_1 10 rfl rfl)
theorem dX3_sumOf_35 : decode cX3_sumOf 35 = .ok (.invokestatic 15, 3) := dk_184 0 15 (dk_at dksX3_sumOf_1 12 rfl rfl)
theorem dX3_sumOf_38 : decode cX3_sumOf 38 = .ok (.invokestatic 7, 3) := dk_184 0 7 (dk_at dksX3_sumOf_1 15 rfl rfl)
theorem dX3_sumOf_41 : decode cX3_sumOf 41 = .ok (.invokestatic 19, 3) := dk_184 0 19 (dk_at dksX3_sumOf_1 18 rfl rfl)
theorem dX3_sumOf_44 : decode cX3_sumOf 44 = .ok (.i2l, 1) := dk_133 (dk_at dksX3_sumOf_1 21 rfl rfl)
theorem dX3_sumOf_45 : decode cX3_sumOf 45 = .ok (.ladd, 1) := dk_97 (dk_at dksX3_sumOf_1 22 rfl rfl)
theorem dX3_sumOf_46 : decode cX3_sumOf 46 = .ok (.lstore 7, 2) := dk_55 7 (dk_at dksX3_sumOf_2 0 rfl rfl)
theorem dX3_sumOf_48 : decode cX3_sumOf 48 = .ok (.iinc 9 1, 3) := dk_132 9 1 (dk_at dksX3_sumOf_2 2 rfl rfl)
theorem dX3_sumOf_51 : decode cX3_sumOf 51 = .ok (.goto (-45), 3) := dk_167 255 211 (dk_at dksX3_sumOf_2 5 rfl rfl)
theorem dX3_sumOf_54 : decode cX3_sumOf 54 = .ok (.lload 7, 2) := dk_22 7 (dk_at dksX3_sumOf_2 8 rfl rfl)
theorem dX3_sumOf_56 : decode cX3_sumOf 56 = .ok (.lreturn, 1) := dk_173 (dk_at dksX3_sumOf_2 10 rfl rfl)
abbrev cX3_letter : ByteArray := prog_11_method_9_code
def yX3_letter : MethodName := ⟨RX3, "letter", "(IIJI)I"⟩
def dkwX3_letter_0 : List UInt8 := [32, 26, 27, 4, 100, 21, 4, 100, 184, 0, 11, 109, 26, 133, 113, 136, 172]
abbrev dktX3_letter_0 : List UInt8 := dkwX3_letter_0 ++ []
theorem dksX3_letter_0 : cX3_letter.data.toList.drop 0 = dktX3_letter_0 := by decide +kernel
theorem dX3_letter_0 : decode cX3_letter 0 = .ok (.lload_n 2, 1) := dk_32 (dk_at dksX3_letter_0 0 rfl rfl)
theorem dX3_letter_1 : decode cX3_letter 1 = .ok (.iload_n 0, 1) := dk_26 (dk_at dksX3_letter_0 1 rfl rfl)
theorem dX3_letter_2 : decode cX3_letter 2 = .ok (.iload_n 1, 1) := dk_27 (dk_at dksX3_letter_0 2 rfl rfl)
theorem dX3_letter_3 : decode cX3_letter 3 = .ok (.iconst 1, 1) := dk_4 (dk_at dksX3_letter_0 3 rfl rfl)
theorem dX3_letter_4 : decode cX3_letter 4 = .ok (.isub, 1) := dk_100 (dk_at dksX3_letter_0 4 rfl rfl)
theorem dX3_letter_5 : decode cX3_letter 5 = .ok (.iload 4, 2) := dk_21 4 (dk_at dksX3_letter_0 5 rfl rfl)
theorem dX3_letter_7 : decode cX3_letter 7 = .ok (.isub, 1) := dk_100 (dk_at dksX3_letter_0 7 rfl rfl)
theorem dX3_letter_8 : decode cX3_letter 8 = .ok (.invokestatic 11, 3) := dk_184 0 11 (dk_at dksX3_letter_0 8 rfl rfl)
theorem dX3_letter_11 : decode cX3_letter 11 = .ok (.ldiv, 1) := dk_109 (dk_at dksX3_letter_0 11 rfl rfl)
theorem dX3_letter_12 : decode cX3_letter 12 = .ok (.iload_n 0, 1) := dk_26 (dk_at dksX3_letter_0 12 rfl rfl)
theorem dX3_letter_13 : decode cX3_letter 13 = .ok (.i2l, 1) := dk_133 (dk_at dksX3_letter_0 13 rfl rfl)
theorem dX3_letter_14 : decode cX3_letter 14 = .ok (.lrem, 1) := dk_113 (dk_at dksX3_letter_0 14 rfl rfl)
theorem dX3_letter_15 : decode cX3_letter 15 = .ok (.l2i, 1) := dk_136 (dk_at dksX3_letter_0 15 rfl rfl)
theorem dX3_letter_16 : decode cX3_letter 16 = .ok (.ireturn, 1) := dk_172 (dk_at dksX3_letter_0 16 rfl rfl)
abbrev cX3_times : ByteArray := prog_11_method_4_code
def yX3_times : MethodName := ⟨RX3, "times", "(III)I"⟩
def dkwX3_times_1 : List UInt8 := [172, 27, 28, 159, 0, 7, 4, 167, 0, 13, 27, 5, 160, 0, 7, 6, 167, 0, 4, 5, 172]
abbrev dktX3_times_1 : List UInt8 := dkwX3_times_1 ++ []
def dkwX3_times_0 : List UInt8 := [26, 7, 159, 0, 9, 27, 28, 104, 26, 112, 172, 27, 5, 161, 0, 8, 28, 5, 162, 0, 7, 27, 28, 104]
abbrev dktX3_times_0 : List UInt8 := dkwX3_times_0 ++ dktX3_times_1
theorem dksX3_times_0 : cX3_times.data.toList.drop 0 = dktX3_times_0 := by decide +kernel
theorem dksX3_times_1 : cX3_times.data.toList.drop 24 = dktX3_times_1 := dk_seg dksX3_times_0 24 rfl rfl
theorem dX3_times_0 : decode cX3_times 0 = .ok (.iload_n 0, 1) := dk_26 (dk_at dksX3_times_0 0 rfl rfl)
theorem dX3_times_1 : decode cX3_times 1 = .ok (.iconst 4, 1) := dk_7 (dk_at dksX3_times_0 1 rfl rfl)
theorem dX3_times_2 : decode cX3_times 2 = .ok (.if_icmp .eq 9, 3) := dk_159 0 9 (dk_at dksX3_times_0 2 rfl rfl)
theorem dX3_times_5 : decode cX3_times 5 = .ok (.iload_n 1, 1) := dk_27 (dk_at dksX3_times_0 5 rfl rfl)
theorem dX3_times_6 : decode cX3_times 6 = .ok (.iload_n 2, 1) := dk_28 (dk_at dksX3_times_0 6 rfl rfl)
theorem dX3_times_7 : decode cX3_times 7 = .ok (.imul, 1) := dk_104 (dk_at dksX3_times_0 7 rfl rfl)
theorem dX3_times_8 : decode cX3_times 8 = .ok (.iload_n 0, 1) := dk_26 (dk_at dksX3_times_0 8 rfl rfl)
theorem dX3_times_9 : decode cX3_times 9 = .ok (.irem, 1) := dk_112 (dk_at dksX3_times_0 9 rfl rfl)
theorem dX3_times_10 : decode cX3_times 10 = .ok (.ireturn, 1) := dk_172 (dk_at dksX3_times_0 10 rfl rfl)
theorem dX3_times_11 : decode cX3_times 11 = .ok (.iload_n 1, 1) := dk_27 (dk_at dksX3_times_0 11 rfl rfl)
theorem dX3_times_12 : decode cX3_times 12 = .ok (.iconst 2, 1) := dk_5 (dk_at dksX3_times_0 12 rfl rfl)
theorem dX3_times_13 : decode cX3_times 13 = .ok (.if_icmp .lt 8, 3) := dk_161 0 8 (dk_at dksX3_times_0 13 rfl rfl)
theorem dX3_times_16 : decode cX3_times 16 = .ok (.iload_n 2, 1) := dk_28 (dk_at dksX3_times_0 16 rfl rfl)
theorem dX3_times_17 : decode cX3_times 17 = .ok (.iconst 2, 1) := dk_5 (dk_at dksX3_times_0 17 rfl rfl)
theorem dX3_times_18 : decode cX3_times 18 = .ok (.if_icmp .ge 7, 3) := dk_162 0 7 (dk_at dksX3_times_0 18 rfl rfl)
theorem dX3_times_21 : decode cX3_times 21 = .ok (.iload_n 1, 1) := dk_27 (dk_at dksX3_times_0 21 rfl rfl)
theorem dX3_times_22 : decode cX3_times 22 = .ok (.iload_n 2, 1) := dk_28 (dk_at dksX3_times_0 22 rfl rfl)
theorem dX3_times_23 : decode cX3_times 23 = .ok (.imul, 1) := dk_104 (dk_at dksX3_times_0 23 rfl rfl)
theorem dX3_times_24 : decode cX3_times 24 = .ok (.ireturn, 1) := dk_172 (dk_at dksX3_times_1 0 rfl rfl)
theorem dX3_times_25 : decode cX3_times 25 = .ok (.iload_n 1, 1) := dk_27 (dk_at dksX3_times_1 1 rfl rfl)
theorem dX3_times_26 : decode cX3_times 26 = .ok (.iload_n 2, 1) := dk_28 (dk_at dksX3_times_1 2 rfl rfl)
theorem dX3_times_27 : decode cX3_times 27 = .ok (.if_icmp .eq 7, 3) := dk_159 0 7 (dk_at dksX3_times_1 3 rfl rfl)
theorem dX3_times_30 : decode cX3_times 30 = .ok (.iconst 1, 1) := dk_4 (dk_at dksX3_times_1 6 rfl rfl)
theorem dX3_times_31 : decode cX3_times 31 = .ok (.goto 13, 3) := dk_167 0 13 (dk_at dksX3_times_1 7 rfl rfl)
theorem dX3_times_34 : decode cX3_times 34 = .ok (.iload_n 1, 1) := dk_27 (dk_at dksX3_times_1 10 rfl rfl)
theorem dX3_times_35 : decode cX3_times 35 = .ok (.iconst 2, 1) := dk_5 (dk_at dksX3_times_1 11 rfl rfl)
theorem dX3_times_36 : decode cX3_times 36 = .ok (.if_icmp .ne 7, 3) := dk_160 0 7 (dk_at dksX3_times_1 12 rfl rfl)
theorem dX3_times_39 : decode cX3_times 39 = .ok (.iconst 3, 1) := dk_6 (dk_at dksX3_times_1 15 rfl rfl)
theorem dX3_times_40 : decode cX3_times 40 = .ok (.goto 4, 3) := dk_167 0 4 (dk_at dksX3_times_1 16 rfl rfl)
theorem dX3_times_43 : decode cX3_times 43 = .ok (.iconst 2, 1) := dk_5 (dk_at dksX3_times_1 19 rfl rfl)
theorem dX3_times_44 : decode cX3_times 44 = .ok (.ireturn, 1) := dk_172 (dk_at dksX3_times_1 20 rfl rfl)
abbrev cX3_plus : ByteArray := prog_11_method_3_code
def yX3_plus : MethodName := ⟨RX3, "plus", "(III)I"⟩
def dkwX3_plus_0 : List UInt8 := [26, 7, 160, 0, 9, 27, 28, 130, 167, 0, 8, 27, 28, 96, 26, 112, 172]
abbrev dktX3_plus_0 : List UInt8 := dkwX3_plus_0 ++ []
theorem dksX3_plus_0 : cX3_plus.data.toList.drop 0 = dktX3_plus_0 := by decide +kernel
theorem dX3_plus_0 : decode cX3_plus 0 = .ok (.iload_n 0, 1) := dk_26 (dk_at dksX3_plus_0 0 rfl rfl)
theorem dX3_plus_1 : decode cX3_plus 1 = .ok (.iconst 4, 1) := dk_7 (dk_at dksX3_plus_0 1 rfl rfl)
theorem dX3_plus_2 : decode cX3_plus 2 = .ok (.if_icmp .ne 9, 3) := dk_160 0 9 (dk_at dksX3_plus_0 2 rfl rfl)
theorem dX3_plus_5 : decode cX3_plus 5 = .ok (.iload_n 1, 1) := dk_27 (dk_at dksX3_plus_0 5 rfl rfl)
theorem dX3_plus_6 : decode cX3_plus 6 = .ok (.iload_n 2, 1) := dk_28 (dk_at dksX3_plus_0 6 rfl rfl)
theorem dX3_plus_7 : decode cX3_plus 7 = .ok (.ixor, 1) := dk_130 (dk_at dksX3_plus_0 7 rfl rfl)
theorem dX3_plus_8 : decode cX3_plus 8 = .ok (.goto 8, 3) := dk_167 0 8 (dk_at dksX3_plus_0 8 rfl rfl)
theorem dX3_plus_11 : decode cX3_plus 11 = .ok (.iload_n 1, 1) := dk_27 (dk_at dksX3_plus_0 11 rfl rfl)
theorem dX3_plus_12 : decode cX3_plus 12 = .ok (.iload_n 2, 1) := dk_28 (dk_at dksX3_plus_0 12 rfl rfl)
theorem dX3_plus_13 : decode cX3_plus 13 = .ok (.iadd, 1) := dk_96 (dk_at dksX3_plus_0 13 rfl rfl)
theorem dX3_plus_14 : decode cX3_plus 14 = .ok (.iload_n 0, 1) := dk_26 (dk_at dksX3_plus_0 14 rfl rfl)
theorem dX3_plus_15 : decode cX3_plus 15 = .ok (.irem, 1) := dk_112 (dk_at dksX3_plus_0 15 rfl rfl)
theorem dX3_plus_16 : decode cX3_plus 16 = .ok (.ireturn, 1) := dk_172 (dk_at dksX3_plus_0 16 rfl rfl)
abbrev cX3_way : ByteArray := prog_11_method_15_code
def yX3_way : MethodName := ⟨RX3, "way", "(IIJJ)I"⟩
def dkwX3_way_1 : List UInt8 := [153, 0, 15, 27, 28, 33, 22, 5, 3, 184, 0, 46, 167, 0, 4, 2, 172]
abbrev dktX3_way_1 : List UInt8 := dkwX3_way_1 ++ []
def dkwX3_way_0 : List UInt8 := [27, 28, 184, 0, 32, 153, 0, 34, 27, 28, 33, 184, 0, 36, 153, 0, 25, 27, 28, 22, 5, 184, 0, 36]
abbrev dktX3_way_0 : List UInt8 := dkwX3_way_0 ++ dktX3_way_1
theorem dksX3_way_0 : cX3_way.data.toList.drop 0 = dktX3_way_0 := by decide +kernel
theorem dksX3_way_1 : cX3_way.data.toList.drop 24 = dktX3_way_1 := dk_seg dksX3_way_0 24 rfl rfl
theorem dX3_way_0 : decode cX3_way 0 = .ok (.iload_n 1, 1) := dk_27 (dk_at dksX3_way_0 0 rfl rfl)
theorem dX3_way_1 : decode cX3_way 1 = .ok (.iload_n 2, 1) := dk_28 (dk_at dksX3_way_0 1 rfl rfl)
theorem dX3_way_2 : decode cX3_way 2 = .ok (.invokestatic 32, 3) := dk_184 0 32 (dk_at dksX3_way_0 2 rfl rfl)
theorem dX3_way_5 : decode cX3_way 5 = .ok (.ifCond .eq 34, 3) := dk_153 0 34 (dk_at dksX3_way_0 5 rfl rfl)
theorem dX3_way_8 : decode cX3_way 8 = .ok (.iload_n 1, 1) := dk_27 (dk_at dksX3_way_0 8 rfl rfl)
theorem dX3_way_9 : decode cX3_way 9 = .ok (.iload_n 2, 1) := dk_28 (dk_at dksX3_way_0 9 rfl rfl)
theorem dX3_way_10 : decode cX3_way 10 = .ok (.lload_n 3, 1) := dk_33 (dk_at dksX3_way_0 10 rfl rfl)
theorem dX3_way_11 : decode cX3_way 11 = .ok (.invokestatic 36, 3) := dk_184 0 36 (dk_at dksX3_way_0 11 rfl rfl)
theorem dX3_way_14 : decode cX3_way 14 = .ok (.ifCond .eq 25, 3) := dk_153 0 25 (dk_at dksX3_way_0 14 rfl rfl)
theorem dX3_way_17 : decode cX3_way 17 = .ok (.iload_n 1, 1) := dk_27 (dk_at dksX3_way_0 17 rfl rfl)
theorem dX3_way_18 : decode cX3_way 18 = .ok (.iload_n 2, 1) := dk_28 (dk_at dksX3_way_0 18 rfl rfl)
theorem dX3_way_19 : decode cX3_way 19 = .ok (.lload 5, 2) := dk_22 5 (dk_at dksX3_way_0 19 rfl rfl)
theorem dX3_way_21 : decode cX3_way 21 = .ok (.invokestatic 36, 3) := dk_184 0 36 (dk_at dksX3_way_0 21 rfl rfl)
theorem dX3_way_24 : decode cX3_way 24 = .ok (.ifCond .eq 15, 3) := dk_153 0 15 (dk_at dksX3_way_1 0 rfl rfl)
theorem dX3_way_27 : decode cX3_way 27 = .ok (.iload_n 1, 1) := dk_27 (dk_at dksX3_way_1 3 rfl rfl)
theorem dX3_way_28 : decode cX3_way 28 = .ok (.iload_n 2, 1) := dk_28 (dk_at dksX3_way_1 4 rfl rfl)
theorem dX3_way_29 : decode cX3_way 29 = .ok (.lload_n 3, 1) := dk_33 (dk_at dksX3_way_1 5 rfl rfl)
theorem dX3_way_30 : decode cX3_way 30 = .ok (.lload 5, 2) := dk_22 5 (dk_at dksX3_way_1 6 rfl rfl)
theorem dX3_way_32 : decode cX3_way 32 = .ok (.iconst 0, 1) := dk_3 (dk_at dksX3_way_1 8 rfl rfl)
theorem dX3_way_33 : decode cX3_way 33 = .ok (.invokestatic 46, 3) := dk_184 0 46 (dk_at dksX3_way_1 9 rfl rfl)
theorem dX3_way_36 : decode cX3_way 36 = .ok (.goto 4, 3) := dk_167 0 4 (dk_at dksX3_way_1 12 rfl rfl)
theorem dX3_way_39 : decode cX3_way 39 = .ok (.iconst (-1), 1) := dk_2 (dk_at dksX3_way_1 15 rfl rfl)
theorem dX3_way_40 : decode cX3_way 40 = .ok (.ireturn, 1) := dk_172 (dk_at dksX3_way_1 16 rfl rfl)
abbrev cX3_wayOf : ByteArray := prog_11_method_11_code
def yX3_wayOf : MethodName := ⟨RX3, "wayOf", "(IIJJI)I"⟩
def dkwX3_wayOf_2 : List UInt8 := [3, 96, 54, 7, 132, 8, 1, 167, 255, 207, 21, 7, 172]
abbrev dktX3_wayOf_2 : List UInt8 := dkwX3_wayOf_2 ++ []
def dkwX3_wayOf_1 : List UInt8 := [26, 27, 32, 21, 8, 184, 0, 15, 26, 27, 22, 4, 21, 8, 184, 0, 15, 159, 0, 7, 4, 167, 0, 4]
abbrev dktX3_wayOf_1 : List UInt8 := dkwX3_wayOf_1 ++ dktX3_wayOf_2
def dkwX3_wayOf_0 : List UInt8 := [3, 54, 7, 3, 54, 8, 21, 8, 27, 162, 0, 49, 21, 7, 21, 6, 21, 8, 122, 4, 126, 154, 0, 27]
abbrev dktX3_wayOf_0 : List UInt8 := dkwX3_wayOf_0 ++ dktX3_wayOf_1
theorem dksX3_wayOf_0 : cX3_wayOf.data.toList.drop 0 = dktX3_wayOf_0 := by decide +kernel
theorem dksX3_wayOf_1 : cX3_wayOf.data.toList.drop 24 = dktX3_wayOf_1 := dk_seg dksX3_wayOf_0 24 rfl rfl
theorem dksX3_wayOf_2 : cX3_wayOf.data.toList.drop 48 = dktX3_wayOf_2 := dk_seg dksX3_wayOf_1 24 rfl rfl
theorem dX3_wayOf_0 : decode cX3_wayOf 0 = .ok (.iconst 0, 1) := dk_3 (dk_at dksX3_wayOf_0 0 rfl rfl)
theorem dX3_wayOf_1 : decode cX3_wayOf 1 = .ok (.istore 7, 2) := dk_54 7 (dk_at dksX3_wayOf_0 1 rfl rfl)
theorem dX3_wayOf_3 : decode cX3_wayOf 3 = .ok (.iconst 0, 1) := dk_3 (dk_at dksX3_wayOf_0 3 rfl rfl)
theorem dX3_wayOf_4 : decode cX3_wayOf 4 = .ok (.istore 8, 2) := dk_54 8 (dk_at dksX3_wayOf_0 4 rfl rfl)
theorem dX3_wayOf_6 : decode cX3_wayOf 6 = .ok (.iload 8, 2) := dk_21 8 (dk_at dksX3_wayOf_0 6 rfl rfl)
theorem dX3_wayOf_8 : decode cX3_wayOf 8 = .ok (.iload_n 1, 1) := dk_27 (dk_at dksX3_wayOf_0 8 rfl rfl)
theorem dX3_wayOf_9 : decode cX3_wayOf 9 = .ok (.if_icmp .ge 49, 3) := dk_162 0 49 (dk_at dksX3_wayOf_0 9 rfl rfl)
theorem dX3_wayOf_12 : decode cX3_wayOf 12 = .ok (.iload 7, 2) := dk_21 7 (dk_at dksX3_wayOf_0 12 rfl rfl)
theorem dX3_wayOf_14 : decode cX3_wayOf 14 = .ok (.iload 6, 2) := dk_21 6 (dk_at dksX3_wayOf_0 14 rfl rfl)
theorem dX3_wayOf_16 : decode cX3_wayOf 16 = .ok (.iload 8, 2) := dk_21 8 (dk_at dksX3_wayOf_0 16 rfl rfl)
theorem dX3_wayOf_18 : decode cX3_wayOf 18 = .ok (.ishr, 1) := dk_122 (dk_at dksX3_wayOf_0 18 rfl rfl)
theorem dX3_wayOf_19 : decode cX3_wayOf 19 = .ok (.iconst 1, 1) := dk_4 (dk_at dksX3_wayOf_0 19 rfl rfl)
theorem dX3_wayOf_20 : decode cX3_wayOf 20 = .ok (.iand, 1) := dk_126 (dk_at dksX3_wayOf_0 20 rfl rfl)
theorem dX3_wayOf_21 : decode cX3_wayOf 21 = .ok (.ifCond .ne 27, 3) := dk_154 0 27 (dk_at dksX3_wayOf_0 21 rfl rfl)
theorem dX3_wayOf_24 : decode cX3_wayOf 24 = .ok (.iload_n 0, 1) := dk_26 (dk_at dksX3_wayOf_1 0 rfl rfl)
theorem dX3_wayOf_25 : decode cX3_wayOf 25 = .ok (.iload_n 1, 1) := dk_27 (dk_at dksX3_wayOf_1 1 rfl rfl)
theorem dX3_wayOf_26 : decode cX3_wayOf 26 = .ok (.lload_n 2, 1) := dk_32 (dk_at dksX3_wayOf_1 2 rfl rfl)
theorem dX3_wayOf_27 : decode cX3_wayOf 27 = .ok (.iload 8, 2) := dk_21 8 (dk_at dksX3_wayOf_1 3 rfl rfl)
theorem dX3_wayOf_29 : decode cX3_wayOf 29 = .ok (.invokestatic 15, 3) := dk_184 0 15 (dk_at dksX3_wayOf_1 5 rfl rfl)
theorem dX3_wayOf_32 : decode cX3_wayOf 32 = .ok (.iload_n 0, 1) := dk_26 (dk_at dksX3_wayOf_1 8 rfl rfl)
theorem dX3_wayOf_33 : decode cX3_wayOf 33 = .ok (.iload_n 1, 1) := dk_27 (dk_at dksX3_wayOf_1 9 rfl rfl)
theorem dX3_wayOf_34 : decode cX3_wayOf 34 = .ok (.lload 4, 2) := dk_22 4 (dk_at dksX3_wayOf_1 10 rfl rfl)
theorem dX3_wayOf_36 : decode cX3_wayOf 36 = .ok (.iload 8, 2) := dk_21 8 (dk_at dksX3_wayOf_1 12 rfl rfl)
theorem dX3_wayOf_38 : decode cX3_wayOf 38 = .ok (.invokestatic 15, 3) := dk_184 0 15 (dk_at dksX3_wayOf_1 14 rfl rfl)
theorem dX3_wayOf_41 : decode cX3_wayOf 41 = .ok (.if_icmp .eq 7, 3) := dk_159 0 7 (dk_at dksX3_wayOf_1 17 rfl rfl)
theorem dX3_wayOf_44 : decode cX3_wayOf 44 = .ok (.iconst 1, 1) := dk_4 (dk_at dksX3_wayOf_1 20 rfl rfl)
theorem dX3_wayOf_45 : decode cX3_wayOf 45 = .ok (.goto 4, 3) := dk_167 0 4 (dk_at dksX3_wayOf_1 21 rfl rfl)
theorem dX3_wayOf_48 : decode cX3_wayOf 48 = .ok (.iconst 0, 1) := dk_3 (dk_at dksX3_wayOf_2 0 rfl rfl)
theorem dX3_wayOf_49 : decode cX3_wayOf 49 = .ok (.iadd, 1) := dk_96 (dk_at dksX3_wayOf_2 1 rfl rfl)
theorem dX3_wayOf_50 : decode cX3_wayOf 50 = .ok (.istore 7, 2) := dk_54 7 (dk_at dksX3_wayOf_2 2 rfl rfl)
theorem dX3_wayOf_52 : decode cX3_wayOf 52 = .ok (.iinc 8 1, 3) := dk_132 8 1 (dk_at dksX3_wayOf_2 4 rfl rfl)
theorem dX3_wayOf_55 : decode cX3_wayOf 55 = .ok (.goto (-49), 3) := dk_167 255 207 (dk_at dksX3_wayOf_2 7 rfl rfl)
theorem dX3_wayOf_58 : decode cX3_wayOf 58 = .ok (.iload 7, 2) := dk_21 7 (dk_at dksX3_wayOf_2 10 rfl rfl)
theorem dX3_wayOf_60 : decode cX3_wayOf 60 = .ok (.ireturn, 1) := dk_172 (dk_at dksX3_wayOf_2 12 rfl rfl)
abbrev cX3_product : ByteArray := prog_11_method_16_code
def yX3_product : MethodName := ⟨RX3, "product", "(IIJJ)I"⟩
def dkwX3_product_1 : List UInt8 := [153, 0, 14, 27, 28, 33, 22, 5, 184, 0, 50, 167, 0, 4, 2, 172]
abbrev dktX3_product_1 : List UInt8 := dkwX3_product_1 ++ []
def dkwX3_product_0 : List UInt8 := [27, 28, 184, 0, 32, 153, 0, 33, 27, 28, 33, 184, 0, 36, 153, 0, 24, 27, 28, 22, 5, 184, 0, 36]
abbrev dktX3_product_0 : List UInt8 := dkwX3_product_0 ++ dktX3_product_1
theorem dksX3_product_0 : cX3_product.data.toList.drop 0 = dktX3_product_0 := by decide +kernel
theorem dksX3_product_1 : cX3_product.data.toList.drop 24 = dktX3_product_1 := dk_seg dksX3_product_0 24 rfl rfl
theorem dX3_product_0 : decode cX3_product 0 = .ok (.iload_n 1, 1) := dk_27 (dk_at dksX3_product_0 0 rfl rfl)
theorem dX3_product_1 : decode cX3_product 1 = .ok (.iload_n 2, 1) := dk_28 (dk_at dksX3_product_0 1 rfl rfl)
theorem dX3_product_2 : decode cX3_product 2 = .ok (.invokestatic 32, 3) := dk_184 0 32 (dk_at dksX3_product_0 2 rfl rfl)
theorem dX3_product_5 : decode cX3_product 5 = .ok (.ifCond .eq 33, 3) := dk_153 0 33 (dk_at dksX3_product_0 5 rfl rfl)
theorem dX3_product_8 : decode cX3_product 8 = .ok (.iload_n 1, 1) := dk_27 (dk_at dksX3_product_0 8 rfl rfl)
theorem dX3_product_9 : decode cX3_product 9 = .ok (.iload_n 2, 1) := dk_28 (dk_at dksX3_product_0 9 rfl rfl)
theorem dX3_product_10 : decode cX3_product 10 = .ok (.lload_n 3, 1) := dk_33 (dk_at dksX3_product_0 10 rfl rfl)
theorem dX3_product_11 : decode cX3_product 11 = .ok (.invokestatic 36, 3) := dk_184 0 36 (dk_at dksX3_product_0 11 rfl rfl)
theorem dX3_product_14 : decode cX3_product 14 = .ok (.ifCond .eq 24, 3) := dk_153 0 24 (dk_at dksX3_product_0 14 rfl rfl)
theorem dX3_product_17 : decode cX3_product 17 = .ok (.iload_n 1, 1) := dk_27 (dk_at dksX3_product_0 17 rfl rfl)
theorem dX3_product_18 : decode cX3_product 18 = .ok (.iload_n 2, 1) := dk_28 (dk_at dksX3_product_0 18 rfl rfl)
theorem dX3_product_19 : decode cX3_product 19 = .ok (.lload 5, 2) := dk_22 5 (dk_at dksX3_product_0 19 rfl rfl)
theorem dX3_product_21 : decode cX3_product 21 = .ok (.invokestatic 36, 3) := dk_184 0 36 (dk_at dksX3_product_0 21 rfl rfl)
theorem dX3_product_24 : decode cX3_product 24 = .ok (.ifCond .eq 14, 3) := dk_153 0 14 (dk_at dksX3_product_1 0 rfl rfl)
theorem dX3_product_27 : decode cX3_product 27 = .ok (.iload_n 1, 1) := dk_27 (dk_at dksX3_product_1 3 rfl rfl)
theorem dX3_product_28 : decode cX3_product 28 = .ok (.iload_n 2, 1) := dk_28 (dk_at dksX3_product_1 4 rfl rfl)
theorem dX3_product_29 : decode cX3_product 29 = .ok (.lload_n 3, 1) := dk_33 (dk_at dksX3_product_1 5 rfl rfl)
theorem dX3_product_30 : decode cX3_product 30 = .ok (.lload 5, 2) := dk_22 5 (dk_at dksX3_product_1 6 rfl rfl)
theorem dX3_product_32 : decode cX3_product 32 = .ok (.invokestatic 50, 3) := dk_184 0 50 (dk_at dksX3_product_1 8 rfl rfl)
theorem dX3_product_35 : decode cX3_product 35 = .ok (.goto 4, 3) := dk_167 0 4 (dk_at dksX3_product_1 11 rfl rfl)
theorem dX3_product_38 : decode cX3_product 38 = .ok (.iconst (-1), 1) := dk_2 (dk_at dksX3_product_1 14 rfl rfl)
theorem dX3_product_39 : decode cX3_product 39 = .ok (.ireturn, 1) := dk_172 (dk_at dksX3_product_1 15 rfl rfl)
abbrev cX3_productOf : ByteArray := prog_11_method_12_code
def yX3_productOf : MethodName := ⟨RX3, "productOf", "(IIJJ)I"⟩
def dkwX3_productOf_2 : List UInt8 := [21, 6, 172]
abbrev dktX3_productOf_2 : List UInt8 := dkwX3_productOf_2 ++ []
def dkwX3_productOf_1 : List UInt8 := [26, 27, 22, 4, 21, 7, 184, 0, 15, 184, 0, 7, 184, 0, 19, 54, 6, 132, 7, 1, 167, 255, 218]
abbrev dktX3_productOf_1 : List UInt8 := dkwX3_productOf_1 ++ dktX3_productOf_2
def dkwX3_productOf_0 : List UInt8 := [3, 54, 6, 3, 54, 7, 21, 7, 27, 162, 0, 38, 26, 21, 6, 26, 26, 27, 32, 21, 7, 184, 0, 15]
abbrev dktX3_productOf_0 : List UInt8 := dkwX3_productOf_0 ++ dktX3_productOf_1
theorem dksX3_productOf_0 : cX3_productOf.data.toList.drop 0 = dktX3_productOf_0 := by decide +kernel
theorem dksX3_productOf_1 : cX3_productOf.data.toList.drop 24 = dktX3_productOf_1 := dk_seg dksX3_productOf_0 24 rfl rfl
theorem dksX3_productOf_2 : cX3_productOf.data.toList.drop 47 = dktX3_productOf_2 := dk_seg dksX3_productOf_1 23 rfl rfl
theorem dX3_productOf_0 : decode cX3_productOf 0 = .ok (.iconst 0, 1) := dk_3 (dk_at dksX3_productOf_0 0 rfl rfl)
theorem dX3_productOf_1 : decode cX3_productOf 1 = .ok (.istore 6, 2) := dk_54 6 (dk_at dksX3_productOf_0 1 rfl rfl)
theorem dX3_productOf_3 : decode cX3_productOf 3 = .ok (.iconst 0, 1) := dk_3 (dk_at dksX3_productOf_0 3 rfl rfl)
theorem dX3_productOf_4 : decode cX3_productOf 4 = .ok (.istore 7, 2) := dk_54 7 (dk_at dksX3_productOf_0 4 rfl rfl)
theorem dX3_productOf_6 : decode cX3_productOf 6 = .ok (.iload 7, 2) := dk_21 7 (dk_at dksX3_productOf_0 6 rfl rfl)
theorem dX3_productOf_8 : decode cX3_productOf 8 = .ok (.iload_n 1, 1) := dk_27 (dk_at dksX3_productOf_0 8 rfl rfl)
theorem dX3_productOf_9 : decode cX3_productOf 9 = .ok (.if_icmp .ge 38, 3) := dk_162 0 38 (dk_at dksX3_productOf_0 9 rfl rfl)
theorem dX3_productOf_12 : decode cX3_productOf 12 = .ok (.iload_n 0, 1) := dk_26 (dk_at dksX3_productOf_0 12 rfl rfl)
theorem dX3_productOf_13 : decode cX3_productOf 13 = .ok (.iload 6, 2) := dk_21 6 (dk_at dksX3_productOf_0 13 rfl rfl)
theorem dX3_productOf_15 : decode cX3_productOf 15 = .ok (.iload_n 0, 1) := dk_26 (dk_at dksX3_productOf_0 15 rfl rfl)
theorem dX3_productOf_16 : decode cX3_productOf 16 = .ok (.iload_n 0, 1) := dk_26 (dk_at dksX3_productOf_0 16 rfl rfl)
theorem dX3_productOf_17 : decode cX3_productOf 17 = .ok (.iload_n 1, 1) := dk_27 (dk_at dksX3_productOf_0 17 rfl rfl)
theorem dX3_productOf_18 : decode cX3_productOf 18 = .ok (.lload_n 2, 1) := dk_32 (dk_at dksX3_productOf_0 18 rfl rfl)
theorem dX3_productOf_19 : decode cX3_productOf 19 = .ok (.iload 7, 2) := dk_21 7 (dk_at dksX3_productOf_0 19 rfl rfl)
theorem dX3_productOf_21 : decode cX3_productOf 21 = .ok (.invokestatic 15, 3) := dk_184 0 15 (dk_at dksX3_productOf_0 21 rfl rfl)
theorem dX3_productOf_24 : decode cX3_productOf 24 = .ok (.iload_n 0, 1) := dk_26 (dk_at dksX3_productOf_1 0 rfl rfl)
theorem dX3_productOf_25 : decode cX3_productOf 25 = .ok (.iload_n 1, 1) := dk_27 (dk_at dksX3_productOf_1 1 rfl rfl)
theorem dX3_productOf_26 : decode cX3_productOf 26 = .ok (.lload 4, 2) := dk_22 4 (dk_at dksX3_productOf_1 2 rfl rfl)
theorem dX3_productOf_28 : decode cX3_productOf 28 = .ok (.iload 7, 2) := dk_21 7 (dk_at dksX3_productOf_1 4 rfl rfl)
theorem dX3_productOf_30 : decode cX3_productOf 30 = .ok (.invokestatic 15, 3) := dk_184 0 15 (dk_at dksX3_productOf_1 6 rfl rfl)
theorem dX3_productOf_33 : decode cX3_productOf 33 = .ok (.invokestatic 7, 3) := dk_184 0 7 (dk_at dksX3_productOf_1 9 rfl rfl)
theorem dX3_productOf_36 : decode cX3_productOf 36 = .ok (.invokestatic 19, 3) := dk_184 0 19 (dk_at dksX3_productOf_1 12 rfl rfl)
theorem dX3_productOf_39 : decode cX3_productOf 39 = .ok (.istore 6, 2) := dk_54 6 (dk_at dksX3_productOf_1 15 rfl rfl)
theorem dX3_productOf_41 : decode cX3_productOf 41 = .ok (.iinc 7 1, 3) := dk_132 7 1 (dk_at dksX3_productOf_1 17 rfl rfl)
theorem dX3_productOf_44 : decode cX3_productOf 44 = .ok (.goto (-38), 3) := dk_167 255 218 (dk_at dksX3_productOf_1 20 rfl rfl)
theorem dX3_productOf_47 : decode cX3_productOf 47 = .ok (.iload 6, 2) := dk_21 6 (dk_at dksX3_productOf_2 0 rfl rfl)
theorem dX3_productOf_49 : decode cX3_productOf 49 = .ok (.ireturn, 1) := dk_172 (dk_at dksX3_productOf_2 2 rfl rfl)
abbrev cX3_init : ByteArray := prog_11_method_17_code
def yX3_init : MethodName := ⟨RX3, "<init>", "()V"⟩
def dkwX3_init_7 : List UInt8 := [27, 2, 79, 132, 1, 1, 167, 255, 240, 177]
abbrev dktX3_init_7 : List UInt8 := dkwX3_init_7 ++ []
def dkwX3_init_6 : List UInt8 := [181, 0, 111, 42, 17, 4, 176, 188, 11, 181, 0, 114, 3, 60, 27, 16, 12, 162, 0, 16, 42, 180, 0, 60]
abbrev dktX3_init_6 : List UInt8 := dkwX3_init_6 ++ dktX3_init_7
def dkwX3_init_5 : List UInt8 := [181, 0, 102, 42, 16, 6, 188, 10, 181, 0, 105, 42, 16, 6, 188, 10, 181, 0, 108, 42, 16, 6, 188, 10]
abbrev dktX3_init_5 : List UInt8 := dkwX3_init_5 ++ dktX3_init_6
def dkwX3_init_4 : List UInt8 := [42, 16, 13, 188, 11, 181, 0, 96, 42, 17, 0, 200, 188, 11, 181, 0, 99, 42, 16, 6, 188, 10]
abbrev dktX3_init_4 : List UInt8 := dkwX3_init_4 ++ dktX3_init_5
def dkwX3_init_3 : List UInt8 := [17, 16, 0, 188, 11, 181, 0, 86, 42, 18, 89, 188, 10, 181, 0, 90, 42, 16, 12, 188, 10, 181, 0, 93]
abbrev dktX3_init_3 : List UInt8 := dkwX3_init_3 ++ dktX3_init_4
def dkwX3_init_2 : List UInt8 := [16, 12, 188, 11, 181, 0, 77, 42, 16, 12, 188, 10, 181, 0, 80, 42, 16, 12, 188, 11, 181, 0, 83, 42]
abbrev dktX3_init_2 : List UInt8 := dkwX3_init_2 ++ dktX3_init_3
def dkwX3_init_1 : List UInt8 := [188, 10, 181, 0, 67, 42, 16, 12, 188, 10, 181, 0, 70, 42, 17, 9, 96, 188, 11, 181, 0, 73, 42]
abbrev dktX3_init_1 : List UInt8 := dkwX3_init_1 ++ dktX3_init_2
def dkwX3_init_0 : List UInt8 := [42, 183, 0, 54, 42, 16, 12, 188, 10, 181, 0, 60, 42, 16, 12, 188, 10, 181, 0, 64, 42, 16, 12]
abbrev dktX3_init_0 : List UInt8 := dkwX3_init_0 ++ dktX3_init_1
theorem dksX3_init_0 : cX3_init.data.toList.drop 0 = dktX3_init_0 := by decide +kernel
theorem dksX3_init_1 : cX3_init.data.toList.drop 23 = dktX3_init_1 := dk_seg dksX3_init_0 23 rfl rfl
theorem dksX3_init_2 : cX3_init.data.toList.drop 46 = dktX3_init_2 := dk_seg dksX3_init_1 23 rfl rfl
theorem dksX3_init_3 : cX3_init.data.toList.drop 70 = dktX3_init_3 := dk_seg dksX3_init_2 24 rfl rfl
theorem dksX3_init_4 : cX3_init.data.toList.drop 94 = dktX3_init_4 := dk_seg dksX3_init_3 24 rfl rfl
theorem dksX3_init_5 : cX3_init.data.toList.drop 116 = dktX3_init_5 := dk_seg dksX3_init_4 22 rfl rfl
theorem dksX3_init_6 : cX3_init.data.toList.drop 140 = dktX3_init_6 := dk_seg dksX3_init_5 24 rfl rfl
theorem dksX3_init_7 : cX3_init.data.toList.drop 164 = dktX3_init_7 := dk_seg dksX3_init_6 24 rfl rfl
theorem dX3_init_0 : decode cX3_init 0 = .ok (.aload_n 0, 1) := dk_42 (dk_at dksX3_init_0 0 rfl rfl)
theorem dX3_init_1 : decode cX3_init 1 = .ok (.invokespecial 54, 3) := dk_183 0 54 (dk_at dksX3_init_0 1 rfl rfl)
theorem dX3_init_4 : decode cX3_init 4 = .ok (.aload_n 0, 1) := dk_42 (dk_at dksX3_init_0 4 rfl rfl)
theorem dX3_init_5 : decode cX3_init 5 = .ok (.bipush 12, 2) := dk_16 12 (dk_at dksX3_init_0 5 rfl rfl)
theorem dX3_init_7 : decode cX3_init 7 = .ok (.newarray .int, 2) := dk_188_10 (dk_at dksX3_init_0 7 rfl rfl)
theorem dX3_init_9 : decode cX3_init 9 = .ok (.putfield 60, 3) := dk_181 0 60 (dk_at dksX3_init_0 9 rfl rfl)
theorem dX3_init_12 : decode cX3_init 12 = .ok (.aload_n 0, 1) := dk_42 (dk_at dksX3_init_0 12 rfl rfl)
theorem dX3_init_13 : decode cX3_init 13 = .ok (.bipush 12, 2) := dk_16 12 (dk_at dksX3_init_0 13 rfl rfl)
theorem dX3_init_15 : decode cX3_init 15 = .ok (.newarray .int, 2) := dk_188_10 (dk_at dksX3_init_0 15 rfl rfl)
theorem dX3_init_17 : decode cX3_init 17 = .ok (.putfield 64, 3) := dk_181 0 64 (dk_at dksX3_init_0 17 rfl rfl)
theorem dX3_init_20 : decode cX3_init 20 = .ok (.aload_n 0, 1) := dk_42 (dk_at dksX3_init_0 20 rfl rfl)
theorem dX3_init_21 : decode cX3_init 21 = .ok (.bipush 12, 2) := dk_16 12 (dk_at dksX3_init_0 21 rfl rfl)
theorem dX3_init_23 : decode cX3_init 23 = .ok (.newarray .int, 2) := dk_188_10 (dk_at dksX3_init_1 0 rfl rfl)
theorem dX3_init_25 : decode cX3_init 25 = .ok (.putfield 67, 3) := dk_181 0 67 (dk_at dksX3_init_1 2 rfl rfl)
theorem dX3_init_28 : decode cX3_init 28 = .ok (.aload_n 0, 1) := dk_42 (dk_at dksX3_init_1 5 rfl rfl)
theorem dX3_init_29 : decode cX3_init 29 = .ok (.bipush 12, 2) := dk_16 12 (dk_at dksX3_init_1 6 rfl rfl)
theorem dX3_init_31 : decode cX3_init 31 = .ok (.newarray .int, 2) := dk_188_10 (dk_at dksX3_init_1 8 rfl rfl)
theorem dX3_init_33 : decode cX3_init 33 = .ok (.putfield 70, 3) := dk_181 0 70 (dk_at dksX3_init_1 10 rfl rfl)
theorem dX3_init_36 : decode cX3_init 36 = .ok (.aload_n 0, 1) := dk_42 (dk_at dksX3_init_1 13 rfl rfl)
theorem dX3_init_37 : decode cX3_init 37 = .ok (.sipush 2400, 3) := dk_17 9 96 (dk_at dksX3_init_1 14 rfl rfl)
theorem dX3_init_40 : decode cX3_init 40 = .ok (.newarray .long, 2) := dk_188_11 (dk_at dksX3_init_1 17 rfl rfl)
theorem dX3_init_42 : decode cX3_init 42 = .ok (.putfield 73, 3) := dk_181 0 73 (dk_at dksX3_init_1 19 rfl rfl)
theorem dX3_init_45 : decode cX3_init 45 = .ok (.aload_n 0, 1) := dk_42 (dk_at dksX3_init_1 22 rfl rfl)
theorem dX3_init_46 : decode cX3_init 46 = .ok (.bipush 12, 2) := dk_16 12 (dk_at dksX3_init_2 0 rfl rfl)
theorem dX3_init_48 : decode cX3_init 48 = .ok (.newarray .long, 2) := dk_188_11 (dk_at dksX3_init_2 2 rfl rfl)
theorem dX3_init_50 : decode cX3_init 50 = .ok (.putfield 77, 3) := dk_181 0 77 (dk_at dksX3_init_2 4 rfl rfl)
theorem dX3_init_53 : decode cX3_init 53 = .ok (.aload_n 0, 1) := dk_42 (dk_at dksX3_init_2 7 rfl rfl)
theorem dX3_init_54 : decode cX3_init 54 = .ok (.bipush 12, 2) := dk_16 12 (dk_at dksX3_init_2 8 rfl rfl)
theorem dX3_init_56 : decode cX3_init 56 = .ok (.newarray .int, 2) := dk_188_10 (dk_at dksX3_init_2 10 rfl rfl)
theorem dX3_init_58 : decode cX3_init 58 = .ok (.putfield 80, 3) := dk_181 0 80 (dk_at dksX3_init_2 12 rfl rfl)
theorem dX3_init_61 : decode cX3_init 61 = .ok (.aload_n 0, 1) := dk_42 (dk_at dksX3_init_2 15 rfl rfl)
theorem dX3_init_62 : decode cX3_init 62 = .ok (.bipush 12, 2) := dk_16 12 (dk_at dksX3_init_2 16 rfl rfl)
theorem dX3_init_64 : decode cX3_init 64 = .ok (.newarray .long, 2) := dk_188_11 (dk_at dksX3_init_2 18 rfl rfl)
theorem dX3_init_66 : decode cX3_init 66 = .ok (.putfield 83, 3) := dk_181 0 83 (dk_at dksX3_init_2 20 rfl rfl)
theorem dX3_init_69 : decode cX3_init 69 = .ok (.aload_n 0, 1) := dk_42 (dk_at dksX3_init_2 23 rfl rfl)
theorem dX3_init_70 : decode cX3_init 70 = .ok (.sipush 4096, 3) := dk_17 16 0 (dk_at dksX3_init_3 0 rfl rfl)
theorem dX3_init_73 : decode cX3_init 73 = .ok (.newarray .long, 2) := dk_188_11 (dk_at dksX3_init_3 3 rfl rfl)
theorem dX3_init_75 : decode cX3_init 75 = .ok (.putfield 86, 3) := dk_181 0 86 (dk_at dksX3_init_3 5 rfl rfl)
theorem dX3_init_78 : decode cX3_init 78 = .ok (.aload_n 0, 1) := dk_42 (dk_at dksX3_init_3 8 rfl rfl)
theorem dX3_init_79 : decode cX3_init 79 = .ok (.ldc 89, 2) := dk_18 89 (dk_at dksX3_init_3 9 rfl rfl)
theorem dX3_init_81 : decode cX3_init 81 = .ok (.newarray .int, 2) := dk_188_10 (dk_at dksX3_init_3 11 rfl rfl)
theorem dX3_init_83 : decode cX3_init 83 = .ok (.putfield 90, 3) := dk_181 0 90 (dk_at dksX3_init_3 13 rfl rfl)
theorem dX3_init_86 : decode cX3_init 86 = .ok (.aload_n 0, 1) := dk_42 (dk_at dksX3_init_3 16 rfl rfl)
theorem dX3_init_87 : decode cX3_init 87 = .ok (.bipush 12, 2) := dk_16 12 (dk_at dksX3_init_3 17 rfl rfl)
theorem dX3_init_89 : decode cX3_init 89 = .ok (.newarray .int, 2) := dk_188_10 (dk_at dksX3_init_3 19 rfl rfl)
theorem dX3_init_91 : decode cX3_init 91 = .ok (.putfield 93, 3) := dk_181 0 93 (dk_at dksX3_init_3 21 rfl rfl)
theorem dX3_init_94 : decode cX3_init 94 = .ok (.aload_n 0, 1) := dk_42 (dk_at dksX3_init_4 0 rfl rfl)
theorem dX3_init_95 : decode cX3_init 95 = .ok (.bipush 13, 2) := dk_16 13 (dk_at dksX3_init_4 1 rfl rfl)
theorem dX3_init_97 : decode cX3_init 97 = .ok (.newarray .long, 2) := dk_188_11 (dk_at dksX3_init_4 3 rfl rfl)
theorem dX3_init_99 : decode cX3_init 99 = .ok (.putfield 96, 3) := dk_181 0 96 (dk_at dksX3_init_4 5 rfl rfl)
theorem dX3_init_102 : decode cX3_init 102 = .ok (.aload_n 0, 1) := dk_42 (dk_at dksX3_init_4 8 rfl rfl)
theorem dX3_init_103 : decode cX3_init 103 = .ok (.sipush 200, 3) := dk_17 0 200 (dk_at dksX3_init_4 9 rfl rfl)
theorem dX3_init_106 : decode cX3_init 106 = .ok (.newarray .long, 2) := dk_188_11 (dk_at dksX3_init_4 12 rfl rfl)
theorem dX3_init_108 : decode cX3_init 108 = .ok (.putfield 99, 3) := dk_181 0 99 (dk_at dksX3_init_4 14 rfl rfl)
theorem dX3_init_111 : decode cX3_init 111 = .ok (.aload_n 0, 1) := dk_42 (dk_at dksX3_init_4 17 rfl rfl)
theorem dX3_init_112 : decode cX3_init 112 = .ok (.bipush 6, 2) := dk_16 6 (dk_at dksX3_init_4 18 rfl rfl)
theorem dX3_init_114 : decode cX3_init 114 = .ok (.newarray .int, 2) := dk_188_10 (dk_at dksX3_init_4 20 rfl rfl)
theorem dX3_init_116 : decode cX3_init 116 = .ok (.putfield 102, 3) := dk_181 0 102 (dk_at dksX3_init_5 0 rfl rfl)
theorem dX3_init_119 : decode cX3_init 119 = .ok (.aload_n 0, 1) := dk_42 (dk_at dksX3_init_5 3 rfl rfl)
theorem dX3_init_120 : decode cX3_init 120 = .ok (.bipush 6, 2) := dk_16 6 (dk_at dksX3_init_5 4 rfl rfl)
theorem dX3_init_122 : decode cX3_init 122 = .ok (.newarray .int, 2) := dk_188_10 (dk_at dksX3_init_5 6 rfl rfl)
theorem dX3_init_124 : decode cX3_init 124 = .ok (.putfield 105, 3) := dk_181 0 105 (dk_at dksX3_init_5 8 rfl rfl)
theorem dX3_init_127 : decode cX3_init 127 = .ok (.aload_n 0, 1) := dk_42 (dk_at dksX3_init_5 11 rfl rfl)
theorem dX3_init_128 : decode cX3_init 128 = .ok (.bipush 6, 2) := dk_16 6 (dk_at dksX3_init_5 12 rfl rfl)
theorem dX3_init_130 : decode cX3_init 130 = .ok (.newarray .int, 2) := dk_188_10 (dk_at dksX3_init_5 14 rfl rfl)
theorem dX3_init_132 : decode cX3_init 132 = .ok (.putfield 108, 3) := dk_181 0 108 (dk_at dksX3_init_5 16 rfl rfl)
theorem dX3_init_135 : decode cX3_init 135 = .ok (.aload_n 0, 1) := dk_42 (dk_at dksX3_init_5 19 rfl rfl)
theorem dX3_init_136 : decode cX3_init 136 = .ok (.bipush 6, 2) := dk_16 6 (dk_at dksX3_init_5 20 rfl rfl)
theorem dX3_init_138 : decode cX3_init 138 = .ok (.newarray .int, 2) := dk_188_10 (dk_at dksX3_init_5 22 rfl rfl)
theorem dX3_init_140 : decode cX3_init 140 = .ok (.putfield 111, 3) := dk_181 0 111 (dk_at dksX3_init_6 0 rfl rfl)
theorem dX3_init_143 : decode cX3_init 143 = .ok (.aload_n 0, 1) := dk_42 (dk_at dksX3_init_6 3 rfl rfl)
theorem dX3_init_144 : decode cX3_init 144 = .ok (.sipush 1200, 3) := dk_17 4 176 (dk_at dksX3_init_6 4 rfl rfl)
theorem dX3_init_147 : decode cX3_init 147 = .ok (.newarray .long, 2) := dk_188_11 (dk_at dksX3_init_6 7 rfl rfl)
theorem dX3_init_149 : decode cX3_init 149 = .ok (.putfield 114, 3) := dk_181 0 114 (dk_at dksX3_init_6 9 rfl rfl)
theorem dX3_init_152 : decode cX3_init 152 = .ok (.iconst 0, 1) := dk_3 (dk_at dksX3_init_6 12 rfl rfl)
theorem dX3_init_153 : decode cX3_init 153 = .ok (.istore_n 1, 1) := dk_60 (dk_at dksX3_init_6 13 rfl rfl)
theorem dX3_init_154 : decode cX3_init 154 = .ok (.iload_n 1, 1) := dk_27 (dk_at dksX3_init_6 14 rfl rfl)
theorem dX3_init_155 : decode cX3_init 155 = .ok (.bipush 12, 2) := dk_16 12 (dk_at dksX3_init_6 15 rfl rfl)
theorem dX3_init_157 : decode cX3_init 157 = .ok (.if_icmp .ge 16, 3) := dk_162 0 16 (dk_at dksX3_init_6 17 rfl rfl)
theorem dX3_init_160 : decode cX3_init 160 = .ok (.aload_n 0, 1) := dk_42 (dk_at dksX3_init_6 20 rfl rfl)
theorem dX3_init_161 : decode cX3_init 161 = .ok (.getfield 60, 3) := dk_180 0 60 (dk_at dksX3_init_6 21 rfl rfl)
theorem dX3_init_164 : decode cX3_init 164 = .ok (.iload_n 1, 1) := dk_27 (dk_at dksX3_init_7 0 rfl rfl)
theorem dX3_init_165 : decode cX3_init 165 = .ok (.iconst (-1), 1) := dk_2 (dk_at dksX3_init_7 1 rfl rfl)
theorem dX3_init_166 : decode cX3_init 166 = .ok (.iastore, 1) := dk_79 (dk_at dksX3_init_7 2 rfl rfl)
theorem dX3_init_167 : decode cX3_init 167 = .ok (.iinc 1 1, 3) := dk_132 1 1 (dk_at dksX3_init_7 3 rfl rfl)
theorem dX3_init_170 : decode cX3_init 170 = .ok (.goto (-16), 3) := dk_167 255 240 (dk_at dksX3_init_7 6 rfl rfl)
theorem dX3_init_173 : decode cX3_init 173 = .ok (.return_, 1) := dk_177 (dk_at dksX3_init_7 9 rfl rfl)
abbrev cX3_make : ByteArray := prog_11_method_22_code
def yX3_make : MethodName := ⟨RX3, "make", "(IIII)I"⟩
def dkwX3_make_1 : List UInt8 := [184, 0, 32, 154, 0, 5, 2, 172, 42, 27, 28, 29, 21, 4, 182, 0, 123, 3, 172]
abbrev dktX3_make_1 : List UInt8 := dkwX3_make_1 ++ []
def dkwX3_make_0 : List UInt8 := [27, 184, 0, 119, 153, 0, 26, 28, 153, 0, 13, 28, 4, 159, 0, 8, 28, 6, 160, 0, 12, 29, 21, 4]
abbrev dktX3_make_0 : List UInt8 := dkwX3_make_0 ++ dktX3_make_1
theorem dksX3_make_0 : cX3_make.data.toList.drop 0 = dktX3_make_0 := by decide +kernel
theorem dksX3_make_1 : cX3_make.data.toList.drop 24 = dktX3_make_1 := dk_seg dksX3_make_0 24 rfl rfl
theorem dX3_make_0 : decode cX3_make 0 = .ok (.iload_n 1, 1) := dk_27 (dk_at dksX3_make_0 0 rfl rfl)
theorem dX3_make_1 : decode cX3_make 1 = .ok (.invokestatic 119, 3) := dk_184 0 119 (dk_at dksX3_make_0 1 rfl rfl)
theorem dX3_make_4 : decode cX3_make 4 = .ok (.ifCond .eq 26, 3) := dk_153 0 26 (dk_at dksX3_make_0 4 rfl rfl)
theorem dX3_make_7 : decode cX3_make 7 = .ok (.iload_n 2, 1) := dk_28 (dk_at dksX3_make_0 7 rfl rfl)
theorem dX3_make_8 : decode cX3_make 8 = .ok (.ifCond .eq 13, 3) := dk_153 0 13 (dk_at dksX3_make_0 8 rfl rfl)
theorem dX3_make_11 : decode cX3_make 11 = .ok (.iload_n 2, 1) := dk_28 (dk_at dksX3_make_0 11 rfl rfl)
theorem dX3_make_12 : decode cX3_make 12 = .ok (.iconst 1, 1) := dk_4 (dk_at dksX3_make_0 12 rfl rfl)
theorem dX3_make_13 : decode cX3_make 13 = .ok (.if_icmp .eq 8, 3) := dk_159 0 8 (dk_at dksX3_make_0 13 rfl rfl)
theorem dX3_make_16 : decode cX3_make 16 = .ok (.iload_n 2, 1) := dk_28 (dk_at dksX3_make_0 16 rfl rfl)
theorem dX3_make_17 : decode cX3_make 17 = .ok (.iconst 3, 1) := dk_6 (dk_at dksX3_make_0 17 rfl rfl)
theorem dX3_make_18 : decode cX3_make 18 = .ok (.if_icmp .ne 12, 3) := dk_160 0 12 (dk_at dksX3_make_0 18 rfl rfl)
theorem dX3_make_21 : decode cX3_make 21 = .ok (.iload_n 3, 1) := dk_29 (dk_at dksX3_make_0 21 rfl rfl)
theorem dX3_make_22 : decode cX3_make 22 = .ok (.iload 4, 2) := dk_21 4 (dk_at dksX3_make_0 22 rfl rfl)
theorem dX3_make_24 : decode cX3_make 24 = .ok (.invokestatic 32, 3) := dk_184 0 32 (dk_at dksX3_make_1 0 rfl rfl)
theorem dX3_make_27 : decode cX3_make 27 = .ok (.ifCond .ne 5, 3) := dk_154 0 5 (dk_at dksX3_make_1 3 rfl rfl)
theorem dX3_make_30 : decode cX3_make 30 = .ok (.iconst (-1), 1) := dk_2 (dk_at dksX3_make_1 6 rfl rfl)
theorem dX3_make_31 : decode cX3_make 31 = .ok (.ireturn, 1) := dk_172 (dk_at dksX3_make_1 7 rfl rfl)
theorem dX3_make_32 : decode cX3_make 32 = .ok (.aload_n 0, 1) := dk_42 (dk_at dksX3_make_1 8 rfl rfl)
theorem dX3_make_33 : decode cX3_make 33 = .ok (.iload_n 1, 1) := dk_27 (dk_at dksX3_make_1 9 rfl rfl)
theorem dX3_make_34 : decode cX3_make 34 = .ok (.iload_n 2, 1) := dk_28 (dk_at dksX3_make_1 10 rfl rfl)
theorem dX3_make_35 : decode cX3_make 35 = .ok (.iload_n 3, 1) := dk_29 (dk_at dksX3_make_1 11 rfl rfl)
theorem dX3_make_36 : decode cX3_make 36 = .ok (.iload 4, 2) := dk_21 4 (dk_at dksX3_make_1 12 rfl rfl)
theorem dX3_make_38 : decode cX3_make 38 = .ok (.invokevirtual 123, 3) := dk_182 0 123 (dk_at dksX3_make_1 14 rfl rfl)
theorem dX3_make_41 : decode cX3_make 41 = .ok (.iconst 0, 1) := dk_3 (dk_at dksX3_make_1 17 rfl rfl)
theorem dX3_make_42 : decode cX3_make 42 = .ok (.ireturn, 1) := dk_172 (dk_at dksX3_make_1 18 rfl rfl)
abbrev cX3_isPlace : ByteArray := prog_11_method_18_code
def yX3_isPlace : MethodName := ⟨RX3, "isPlace", "(I)Z"⟩
def dkwX3_isPlace_0 : List UInt8 := [26, 133, 9, 20, 0, 117, 184, 0, 26, 172]
abbrev dktX3_isPlace_0 : List UInt8 := dkwX3_isPlace_0 ++ []
theorem dksX3_isPlace_0 : cX3_isPlace.data.toList.drop 0 = dktX3_isPlace_0 := by decide +kernel
theorem dX3_isPlace_0 : decode cX3_isPlace 0 = .ok (.iload_n 0, 1) := dk_26 (dk_at dksX3_isPlace_0 0 rfl rfl)
theorem dX3_isPlace_1 : decode cX3_isPlace 1 = .ok (.i2l, 1) := dk_133 (dk_at dksX3_isPlace_0 1 rfl rfl)
theorem dX3_isPlace_2 : decode cX3_isPlace 2 = .ok (.lconst 0, 1) := dk_9 (dk_at dksX3_isPlace_0 2 rfl rfl)
theorem dX3_isPlace_3 : decode cX3_isPlace 3 = .ok (.ldc2_w 117, 3) := dk_20 0 117 (dk_at dksX3_isPlace_0 3 rfl rfl)
theorem dX3_isPlace_6 : decode cX3_isPlace 6 = .ok (.invokestatic 26, 3) := dk_184 0 26 (dk_at dksX3_isPlace_0 6 rfl rfl)
theorem dX3_isPlace_9 : decode cX3_isPlace 9 = .ok (.ireturn, 1) := dk_172 (dk_at dksX3_isPlace_0 9 rfl rfl)
abbrev cX3_begin : ByteArray := prog_11_method_21_code
def yX3_begin : MethodName := ⟨RX3, "begin", "(IIII)V"⟩
def dkwX3_begin_1 : List UInt8 := [180, 0, 70, 27, 3, 79, 177]
abbrev dktX3_begin_1 : List UInt8 := dkwX3_begin_1 ++ []
def dkwX3_begin_0 : List UInt8 := [42, 180, 0, 60, 27, 28, 79, 42, 180, 0, 64, 27, 29, 79, 42, 180, 0, 67, 27, 21, 4, 79, 42]
abbrev dktX3_begin_0 : List UInt8 := dkwX3_begin_0 ++ dktX3_begin_1
theorem dksX3_begin_0 : cX3_begin.data.toList.drop 0 = dktX3_begin_0 := by decide +kernel
theorem dksX3_begin_1 : cX3_begin.data.toList.drop 23 = dktX3_begin_1 := dk_seg dksX3_begin_0 23 rfl rfl
theorem dX3_begin_0 : decode cX3_begin 0 = .ok (.aload_n 0, 1) := dk_42 (dk_at dksX3_begin_0 0 rfl rfl)
theorem dX3_begin_1 : decode cX3_begin 1 = .ok (.getfield 60, 3) := dk_180 0 60 (dk_at dksX3_begin_0 1 rfl rfl)
theorem dX3_begin_4 : decode cX3_begin 4 = .ok (.iload_n 1, 1) := dk_27 (dk_at dksX3_begin_0 4 rfl rfl)
theorem dX3_begin_5 : decode cX3_begin 5 = .ok (.iload_n 2, 1) := dk_28 (dk_at dksX3_begin_0 5 rfl rfl)
theorem dX3_begin_6 : decode cX3_begin 6 = .ok (.iastore, 1) := dk_79 (dk_at dksX3_begin_0 6 rfl rfl)
theorem dX3_begin_7 : decode cX3_begin 7 = .ok (.aload_n 0, 1) := dk_42 (dk_at dksX3_begin_0 7 rfl rfl)
theorem dX3_begin_8 : decode cX3_begin 8 = .ok (.getfield 64, 3) := dk_180 0 64 (dk_at dksX3_begin_0 8 rfl rfl)
theorem dX3_begin_11 : decode cX3_begin 11 = .ok (.iload_n 1, 1) := dk_27 (dk_at dksX3_begin_0 11 rfl rfl)
theorem dX3_begin_12 : decode cX3_begin 12 = .ok (.iload_n 3, 1) := dk_29 (dk_at dksX3_begin_0 12 rfl rfl)
theorem dX3_begin_13 : decode cX3_begin 13 = .ok (.iastore, 1) := dk_79 (dk_at dksX3_begin_0 13 rfl rfl)
theorem dX3_begin_14 : decode cX3_begin 14 = .ok (.aload_n 0, 1) := dk_42 (dk_at dksX3_begin_0 14 rfl rfl)
theorem dX3_begin_15 : decode cX3_begin 15 = .ok (.getfield 67, 3) := dk_180 0 67 (dk_at dksX3_begin_0 15 rfl rfl)
theorem dX3_begin_18 : decode cX3_begin 18 = .ok (.iload_n 1, 1) := dk_27 (dk_at dksX3_begin_0 18 rfl rfl)
theorem dX3_begin_19 : decode cX3_begin 19 = .ok (.iload 4, 2) := dk_21 4 (dk_at dksX3_begin_0 19 rfl rfl)
theorem dX3_begin_21 : decode cX3_begin 21 = .ok (.iastore, 1) := dk_79 (dk_at dksX3_begin_0 21 rfl rfl)
theorem dX3_begin_22 : decode cX3_begin 22 = .ok (.aload_n 0, 1) := dk_42 (dk_at dksX3_begin_0 22 rfl rfl)
theorem dX3_begin_23 : decode cX3_begin 23 = .ok (.getfield 70, 3) := dk_180 0 70 (dk_at dksX3_begin_1 0 rfl rfl)
theorem dX3_begin_26 : decode cX3_begin 26 = .ok (.iload_n 1, 1) := dk_27 (dk_at dksX3_begin_1 3 rfl rfl)
theorem dX3_begin_27 : decode cX3_begin 27 = .ok (.iconst 0, 1) := dk_3 (dk_at dksX3_begin_1 4 rfl rfl)
theorem dX3_begin_28 : decode cX3_begin 28 = .ok (.iastore, 1) := dk_79 (dk_at dksX3_begin_1 5 rfl rfl)
theorem dX3_begin_29 : decode cX3_begin 29 = .ok (.return_, 1) := dk_177 (dk_at dksX3_begin_1 6 rfl rfl)
abbrev cX3_add : ByteArray := prog_11_method_25_code
def yX3_add : MethodName := ⟨RX3, "add", "(IJ)I"⟩
def dkwX3_add_9 : List UInt8 := [32, 182, 0, 138, 172]
abbrev dktX3_add_9 : List UInt8 := dkwX3_add_9 ++ []
def dkwX3_add_8 : List UInt8 := [180, 0, 60, 27, 46, 154, 0, 9, 17, 0, 200, 167, 0, 5, 16, 12, 160, 0, 6, 16, 250, 172, 42, 27]
abbrev dktX3_add_8 : List UInt8 := dkwX3_add_8 ++ dktX3_add_9
def dkwX3_add_7 : List UInt8 := [54, 4, 132, 5, 1, 167, 255, 198, 21, 4, 154, 0, 6, 16, 253, 172, 42, 180, 0, 70, 27, 46, 42]
abbrev dktX3_add_7 : List UInt8 := dkwX3_add_7 ++ dktX3_add_8
def dkwX3_add_6 : List UInt8 := [180, 0, 73, 17, 0, 200, 27, 104, 21, 5, 96, 47, 184, 0, 50, 154, 0, 7, 4, 167, 0, 4, 3]
abbrev dktX3_add_6 : List UInt8 := dkwX3_add_6 ++ dktX3_add_7
def dkwX3_add_5 : List UInt8 := [162, 0, 53, 21, 4, 153, 0, 39, 42, 180, 0, 64, 27, 46, 42, 180, 0, 67, 27, 46, 32, 42]
abbrev dktX3_add_5 : List UInt8 := dkwX3_add_5 ++ dktX3_add_6
def dkwX3_add_4 : List UInt8 := [184, 0, 50, 154, 0, 7, 4, 167, 0, 4, 3, 54, 4, 3, 54, 5, 21, 5, 42, 180, 0, 70, 27, 46]
abbrev dktX3_add_4 : List UInt8 := dkwX3_add_4 ++ dktX3_add_5
def dkwX3_add_3 : List UInt8 := [180, 0, 60, 27, 46, 6, 160, 0, 102, 42, 180, 0, 64, 27, 46, 42, 180, 0, 67, 27, 46, 32, 32]
abbrev dktX3_add_3 : List UInt8 := dkwX3_add_3 ++ dktX3_add_4
def dkwX3_add_2 : List UInt8 := [180, 0, 60, 27, 46, 154, 0, 16, 42, 27, 32, 182, 0, 134, 2, 159, 0, 6, 16, 253, 172, 42]
abbrev dktX3_add_2 : List UInt8 := dkwX3_add_2 ++ dktX3_add_3
def dkwX3_add_1 : List UInt8 := [182, 0, 130, 154, 0, 5, 2, 172, 42, 180, 0, 60, 27, 46, 5, 160, 0, 6, 16, 244, 172, 42]
abbrev dktX3_add_1 : List UInt8 := dkwX3_add_1 ++ dktX3_add_2
def dkwX3_add_0 : List UInt8 := [27, 184, 0, 119, 154, 0, 5, 2, 172, 42, 27, 182, 0, 127, 153, 0, 6, 16, 245, 172, 42, 27, 32]
abbrev dktX3_add_0 : List UInt8 := dkwX3_add_0 ++ dktX3_add_1
theorem dksX3_add_0 : cX3_add.data.toList.drop 0 = dktX3_add_0 := by decide +kernel
theorem dksX3_add_1 : cX3_add.data.toList.drop 23 = dktX3_add_1 := dk_seg dksX3_add_0 23 rfl rfl
theorem dksX3_add_2 : cX3_add.data.toList.drop 45 = dktX3_add_2 := dk_seg dksX3_add_1 22 rfl rfl
theorem dksX3_add_3 : cX3_add.data.toList.drop 67 = dktX3_add_3 := dk_seg dksX3_add_2 22 rfl rfl
theorem dksX3_add_4 : cX3_add.data.toList.drop 90 = dktX3_add_4 := dk_seg dksX3_add_3 23 rfl rfl
theorem dksX3_add_5 : cX3_add.data.toList.drop 114 = dktX3_add_5 := dk_seg dksX3_add_4 24 rfl rfl
theorem dksX3_add_6 : cX3_add.data.toList.drop 136 = dktX3_add_6 := dk_seg dksX3_add_5 22 rfl rfl
theorem dksX3_add_7 : cX3_add.data.toList.drop 159 = dktX3_add_7 := dk_seg dksX3_add_6 23 rfl rfl
theorem dksX3_add_8 : cX3_add.data.toList.drop 182 = dktX3_add_8 := dk_seg dksX3_add_7 23 rfl rfl
theorem dksX3_add_9 : cX3_add.data.toList.drop 206 = dktX3_add_9 := dk_seg dksX3_add_8 24 rfl rfl
theorem dX3_add_0 : decode cX3_add 0 = .ok (.iload_n 1, 1) := dk_27 (dk_at dksX3_add_0 0 rfl rfl)
theorem dX3_add_1 : decode cX3_add 1 = .ok (.invokestatic 119, 3) := dk_184 0 119 (dk_at dksX3_add_0 1 rfl rfl)
theorem dX3_add_4 : decode cX3_add 4 = .ok (.ifCond .ne 5, 3) := dk_154 0 5 (dk_at dksX3_add_0 4 rfl rfl)
theorem dX3_add_7 : decode cX3_add 7 = .ok (.iconst (-1), 1) := dk_2 (dk_at dksX3_add_0 7 rfl rfl)
theorem dX3_add_8 : decode cX3_add 8 = .ok (.ireturn, 1) := dk_172 (dk_at dksX3_add_0 8 rfl rfl)
theorem dX3_add_9 : decode cX3_add 9 = .ok (.aload_n 0, 1) := dk_42 (dk_at dksX3_add_0 9 rfl rfl)
theorem dX3_add_10 : decode cX3_add 10 = .ok (.iload_n 1, 1) := dk_27 (dk_at dksX3_add_0 10 rfl rfl)
theorem dX3_add_11 : decode cX3_add 11 = .ok (.invokevirtual 127, 3) := dk_182 0 127 (dk_at dksX3_add_0 11 rfl rfl)
theorem dX3_add_14 : decode cX3_add 14 = .ok (.ifCond .eq 6, 3) := dk_153 0 6 (dk_at dksX3_add_0 14 rfl rfl)
theorem dX3_add_17 : decode cX3_add 17 = .ok (.bipush (-11), 2) := dk_16 245 (dk_at dksX3_add_0 17 rfl rfl)
theorem dX3_add_19 : decode cX3_add 19 = .ok (.ireturn, 1) := dk_172 (dk_at dksX3_add_0 19 rfl rfl)
theorem dX3_add_20 : decode cX3_add 20 = .ok (.aload_n 0, 1) := dk_42 (dk_at dksX3_add_0 20 rfl rfl)
theorem dX3_add_21 : decode cX3_add 21 = .ok (.iload_n 1, 1) := dk_27 (dk_at dksX3_add_0 21 rfl rfl)
theorem dX3_add_22 : decode cX3_add 22 = .ok (.lload_n 2, 1) := dk_32 (dk_at dksX3_add_0 22 rfl rfl)
theorem dX3_add_23 : decode cX3_add 23 = .ok (.invokevirtual 130, 3) := dk_182 0 130 (dk_at dksX3_add_1 0 rfl rfl)
theorem dX3_add_26 : decode cX3_add 26 = .ok (.ifCond .ne 5, 3) := dk_154 0 5 (dk_at dksX3_add_1 3 rfl rfl)
theorem dX3_add_29 : decode cX3_add 29 = .ok (.iconst (-1), 1) := dk_2 (dk_at dksX3_add_1 6 rfl rfl)
theorem dX3_add_30 : decode cX3_add 30 = .ok (.ireturn, 1) := dk_172 (dk_at dksX3_add_1 7 rfl rfl)
theorem dX3_add_31 : decode cX3_add 31 = .ok (.aload_n 0, 1) := dk_42 (dk_at dksX3_add_1 8 rfl rfl)
theorem dX3_add_32 : decode cX3_add 32 = .ok (.getfield 60, 3) := dk_180 0 60 (dk_at dksX3_add_1 9 rfl rfl)
theorem dX3_add_35 : decode cX3_add 35 = .ok (.iload_n 1, 1) := dk_27 (dk_at dksX3_add_1 12 rfl rfl)
theorem dX3_add_36 : decode cX3_add 36 = .ok (.iaload, 1) := dk_46 (dk_at dksX3_add_1 13 rfl rfl)
theorem dX3_add_37 : decode cX3_add 37 = .ok (.iconst 2, 1) := dk_5 (dk_at dksX3_add_1 14 rfl rfl)
theorem dX3_add_38 : decode cX3_add 38 = .ok (.if_icmp .ne 6, 3) := dk_160 0 6 (dk_at dksX3_add_1 15 rfl rfl)
theorem dX3_add_41 : decode cX3_add 41 = .ok (.bipush (-12), 2) := dk_16 244 (dk_at dksX3_add_1 18 rfl rfl)
theorem dX3_add_43 : decode cX3_add 43 = .ok (.ireturn, 1) := dk_172 (dk_at dksX3_add_1 20 rfl rfl)
theorem dX3_add_44 : decode cX3_add 44 = .ok (.aload_n 0, 1) := dk_42 (dk_at dksX3_add_1 21 rfl rfl)
theorem dX3_add_45 : decode cX3_add 45 = .ok (.getfield 60, 3) := dk_180 0 60 (dk_at dksX3_add_2 0 rfl rfl)
theorem dX3_add_48 : decode cX3_add 48 = .ok (.iload_n 1, 1) := dk_27 (dk_at dksX3_add_2 3 rfl rfl)
theorem dX3_add_49 : decode cX3_add 49 = .ok (.iaload, 1) := dk_46 (dk_at dksX3_add_2 4 rfl rfl)
theorem dX3_add_50 : decode cX3_add 50 = .ok (.ifCond .ne 16, 3) := dk_154 0 16 (dk_at dksX3_add_2 5 rfl rfl)
theorem dX3_add_53 : decode cX3_add 53 = .ok (.aload_n 0, 1) := dk_42 (dk_at dksX3_add_2 8 rfl rfl)
theorem dX3_add_54 : decode cX3_add 54 = .ok (.iload_n 1, 1) := dk_27 (dk_at dksX3_add_2 9 rfl rfl)
theorem dX3_add_55 : decode cX3_add 55 = .ok (.lload_n 2, 1) := dk_32 (dk_at dksX3_add_2 10 rfl rfl)
theorem dX3_add_56 : decode cX3_add 56 = .ok (.invokevirtual 134, 3) := dk_182 0 134 (dk_at dksX3_add_2 11 rfl rfl)
theorem dX3_add_59 : decode cX3_add 59 = .ok (.iconst (-1), 1) := dk_2 (dk_at dksX3_add_2 14 rfl rfl)
theorem dX3_add_60 : decode cX3_add 60 = .ok (.if_icmp .eq 6, 3) := dk_159 0 6 (dk_at dksX3_add_2 15 rfl rfl)
theorem dX3_add_63 : decode cX3_add 63 = .ok (.bipush (-3), 2) := dk_16 253 (dk_at dksX3_add_2 18 rfl rfl)
theorem dX3_add_65 : decode cX3_add 65 = .ok (.ireturn, 1) := dk_172 (dk_at dksX3_add_2 20 rfl rfl)
theorem dX3_add_66 : decode cX3_add 66 = .ok (.aload_n 0, 1) := dk_42 (dk_at dksX3_add_2 21 rfl rfl)
theorem dX3_add_67 : decode cX3_add 67 = .ok (.getfield 60, 3) := dk_180 0 60 (dk_at dksX3_add_3 0 rfl rfl)
theorem dX3_add_70 : decode cX3_add 70 = .ok (.iload_n 1, 1) := dk_27 (dk_at dksX3_add_3 3 rfl rfl)
theorem dX3_add_71 : decode cX3_add 71 = .ok (.iaload, 1) := dk_46 (dk_at dksX3_add_3 4 rfl rfl)
theorem dX3_add_72 : decode cX3_add 72 = .ok (.iconst 3, 1) := dk_6 (dk_at dksX3_add_3 5 rfl rfl)
theorem dX3_add_73 : decode cX3_add 73 = .ok (.if_icmp .ne 102, 3) := dk_160 0 102 (dk_at dksX3_add_3 6 rfl rfl)
theorem dX3_add_76 : decode cX3_add 76 = .ok (.aload_n 0, 1) := dk_42 (dk_at dksX3_add_3 9 rfl rfl)
theorem dX3_add_77 : decode cX3_add 77 = .ok (.getfield 64, 3) := dk_180 0 64 (dk_at dksX3_add_3 10 rfl rfl)
theorem dX3_add_80 : decode cX3_add 80 = .ok (.iload_n 1, 1) := dk_27 (dk_at dksX3_add_3 13 rfl rfl)
theorem dX3_add_81 : decode cX3_add 81 = .ok (.iaload, 1) := dk_46 (dk_at dksX3_add_3 14 rfl rfl)
theorem dX3_add_82 : decode cX3_add 82 = .ok (.aload_n 0, 1) := dk_42 (dk_at dksX3_add_3 15 rfl rfl)
theorem dX3_add_83 : decode cX3_add 83 = .ok (.getfield 67, 3) := dk_180 0 67 (dk_at dksX3_add_3 16 rfl rfl)
theorem dX3_add_86 : decode cX3_add 86 = .ok (.iload_n 1, 1) := dk_27 (dk_at dksX3_add_3 19 rfl rfl)
theorem dX3_add_87 : decode cX3_add 87 = .ok (.iaload, 1) := dk_46 (dk_at dksX3_add_3 20 rfl rfl)
theorem dX3_add_88 : decode cX3_add 88 = .ok (.lload_n 2, 1) := dk_32 (dk_at dksX3_add_3 21 rfl rfl)
theorem dX3_add_89 : decode cX3_add 89 = .ok (.lload_n 2, 1) := dk_32 (dk_at dksX3_add_3 22 rfl rfl)
theorem dX3_add_90 : decode cX3_add 90 = .ok (.invokestatic 50, 3) := dk_184 0 50 (dk_at dksX3_add_4 0 rfl rfl)
theorem dX3_add_93 : decode cX3_add 93 = .ok (.ifCond .ne 7, 3) := dk_154 0 7 (dk_at dksX3_add_4 3 rfl rfl)
theorem dX3_add_96 : decode cX3_add 96 = .ok (.iconst 1, 1) := dk_4 (dk_at dksX3_add_4 6 rfl rfl)
theorem dX3_add_97 : decode cX3_add 97 = .ok (.goto 4, 3) := dk_167 0 4 (dk_at dksX3_add_4 7 rfl rfl)
theorem dX3_add_100 : decode cX3_add 100 = .ok (.iconst 0, 1) := dk_3 (dk_at dksX3_add_4 10 rfl rfl)
theorem dX3_add_101 : decode cX3_add 101 = .ok (.istore 4, 2) := dk_54 4 (dk_at dksX3_add_4 11 rfl rfl)
theorem dX3_add_103 : decode cX3_add 103 = .ok (.iconst 0, 1) := dk_3 (dk_at dksX3_add_4 13 rfl rfl)
theorem dX3_add_104 : decode cX3_add 104 = .ok (.istore 5, 2) := dk_54 5 (dk_at dksX3_add_4 14 rfl rfl)
theorem dX3_add_106 : decode cX3_add 106 = .ok (.iload 5, 2) := dk_21 5 (dk_at dksX3_add_4 16 rfl rfl)
theorem dX3_add_108 : decode cX3_add 108 = .ok (.aload_n 0, 1) := dk_42 (dk_at dksX3_add_4 18 rfl rfl)
theorem dX3_add_109 : decode cX3_add 109 = .ok (.getfield 70, 3) := dk_180 0 70 (dk_at dksX3_add_4 19 rfl rfl)
theorem dX3_add_112 : decode cX3_add 112 = .ok (.iload_n 1, 1) := dk_27 (dk_at dksX3_add_4 22 rfl rfl)
theorem dX3_add_113 : decode cX3_add 113 = .ok (.iaload, 1) := dk_46 (dk_at dksX3_add_4 23 rfl rfl)
theorem dX3_add_114 : decode cX3_add 114 = .ok (.if_icmp .ge 53, 3) := dk_162 0 53 (dk_at dksX3_add_5 0 rfl rfl)
theorem dX3_add_117 : decode cX3_add 117 = .ok (.iload 4, 2) := dk_21 4 (dk_at dksX3_add_5 3 rfl rfl)
theorem dX3_add_119 : decode cX3_add 119 = .ok (.ifCond .eq 39, 3) := dk_153 0 39 (dk_at dksX3_add_5 5 rfl rfl)
theorem dX3_add_122 : decode cX3_add 122 = .ok (.aload_n 0, 1) := dk_42 (dk_at dksX3_add_5 8 rfl rfl)
theorem dX3_add_123 : decode cX3_add 123 = .ok (.getfield 64, 3) := dk_180 0 64 (dk_at dksX3_add_5 9 rfl rfl)
theorem dX3_add_126 : decode cX3_add 126 = .ok (.iload_n 1, 1) := dk_27 (dk_at dksX3_add_5 12 rfl rfl)
theorem dX3_add_127 : decode cX3_add 127 = .ok (.iaload, 1) := dk_46 (dk_at dksX3_add_5 13 rfl rfl)
theorem dX3_add_128 : decode cX3_add 128 = .ok (.aload_n 0, 1) := dk_42 (dk_at dksX3_add_5 14 rfl rfl)
theorem dX3_add_129 : decode cX3_add 129 = .ok (.getfield 67, 3) := dk_180 0 67 (dk_at dksX3_add_5 15 rfl rfl)
theorem dX3_add_132 : decode cX3_add 132 = .ok (.iload_n 1, 1) := dk_27 (dk_at dksX3_add_5 18 rfl rfl)
theorem dX3_add_133 : decode cX3_add 133 = .ok (.iaload, 1) := dk_46 (dk_at dksX3_add_5 19 rfl rfl)
theorem dX3_add_134 : decode cX3_add 134 = .ok (.lload_n 2, 1) := dk_32 (dk_at dksX3_add_5 20 rfl rfl)
theorem dX3_add_135 : decode cX3_add 135 = .ok (.aload_n 0, 1) := dk_42 (dk_at dksX3_add_5 21 rfl rfl)
theorem dX3_add_136 : decode cX3_add 136 = .ok (.getfield 73, 3) := dk_180 0 73 (dk_at dksX3_add_6 0 rfl rfl)
theorem dX3_add_139 : decode cX3_add 139 = .ok (.sipush 200, 3) := dk_17 0 200 (dk_at dksX3_add_6 3 rfl rfl)
theorem dX3_add_142 : decode cX3_add 142 = .ok (.iload_n 1, 1) := dk_27 (dk_at dksX3_add_6 6 rfl rfl)
theorem dX3_add_143 : decode cX3_add 143 = .ok (.imul, 1) := dk_104 (dk_at dksX3_add_6 7 rfl rfl)
theorem dX3_add_144 : decode cX3_add 144 = .ok (.iload 5, 2) := dk_21 5 (dk_at dksX3_add_6 8 rfl rfl)
theorem dX3_add_146 : decode cX3_add 146 = .ok (.iadd, 1) := dk_96 (dk_at dksX3_add_6 10 rfl rfl)
theorem dX3_add_147 : decode cX3_add 147 = .ok (.laload, 1) := dk_47 (dk_at dksX3_add_6 11 rfl rfl)
theorem dX3_add_148 : decode cX3_add 148 = .ok (.invokestatic 50, 3) := dk_184 0 50 (dk_at dksX3_add_6 12 rfl rfl)
theorem dX3_add_151 : decode cX3_add 151 = .ok (.ifCond .ne 7, 3) := dk_154 0 7 (dk_at dksX3_add_6 15 rfl rfl)
theorem dX3_add_154 : decode cX3_add 154 = .ok (.iconst 1, 1) := dk_4 (dk_at dksX3_add_6 18 rfl rfl)
theorem dX3_add_155 : decode cX3_add 155 = .ok (.goto 4, 3) := dk_167 0 4 (dk_at dksX3_add_6 19 rfl rfl)
theorem dX3_add_158 : decode cX3_add 158 = .ok (.iconst 0, 1) := dk_3 (dk_at dksX3_add_6 22 rfl rfl)
theorem dX3_add_159 : decode cX3_add 159 = .ok (.istore 4, 2) := dk_54 4 (dk_at dksX3_add_7 0 rfl rfl)
theorem dX3_add_161 : decode cX3_add 161 = .ok (.iinc 5 1, 3) := dk_132 5 1 (dk_at dksX3_add_7 2 rfl rfl)
theorem dX3_add_164 : decode cX3_add 164 = .ok (.goto (-58), 3) := dk_167 255 198 (dk_at dksX3_add_7 5 rfl rfl)
theorem dX3_add_167 : decode cX3_add 167 = .ok (.iload 4, 2) := dk_21 4 (dk_at dksX3_add_7 8 rfl rfl)
theorem dX3_add_169 : decode cX3_add 169 = .ok (.ifCond .ne 6, 3) := dk_154 0 6 (dk_at dksX3_add_7 10 rfl rfl)
theorem dX3_add_172 : decode cX3_add 172 = .ok (.bipush (-3), 2) := dk_16 253 (dk_at dksX3_add_7 13 rfl rfl)
theorem dX3_add_174 : decode cX3_add 174 = .ok (.ireturn, 1) := dk_172 (dk_at dksX3_add_7 15 rfl rfl)
theorem dX3_add_175 : decode cX3_add 175 = .ok (.aload_n 0, 1) := dk_42 (dk_at dksX3_add_7 16 rfl rfl)
theorem dX3_add_176 : decode cX3_add 176 = .ok (.getfield 70, 3) := dk_180 0 70 (dk_at dksX3_add_7 17 rfl rfl)
theorem dX3_add_179 : decode cX3_add 179 = .ok (.iload_n 1, 1) := dk_27 (dk_at dksX3_add_7 20 rfl rfl)
theorem dX3_add_180 : decode cX3_add 180 = .ok (.iaload, 1) := dk_46 (dk_at dksX3_add_7 21 rfl rfl)
theorem dX3_add_181 : decode cX3_add 181 = .ok (.aload_n 0, 1) := dk_42 (dk_at dksX3_add_7 22 rfl rfl)
theorem dX3_add_182 : decode cX3_add 182 = .ok (.getfield 60, 3) := dk_180 0 60 (dk_at dksX3_add_8 0 rfl rfl)
theorem dX3_add_185 : decode cX3_add 185 = .ok (.iload_n 1, 1) := dk_27 (dk_at dksX3_add_8 3 rfl rfl)
theorem dX3_add_186 : decode cX3_add 186 = .ok (.iaload, 1) := dk_46 (dk_at dksX3_add_8 4 rfl rfl)
theorem dX3_add_187 : decode cX3_add 187 = .ok (.ifCond .ne 9, 3) := dk_154 0 9 (dk_at dksX3_add_8 5 rfl rfl)
theorem dX3_add_190 : decode cX3_add 190 = .ok (.sipush 200, 3) := dk_17 0 200 (dk_at dksX3_add_8 8 rfl rfl)
theorem dX3_add_193 : decode cX3_add 193 = .ok (.goto 5, 3) := dk_167 0 5 (dk_at dksX3_add_8 11 rfl rfl)
theorem dX3_add_196 : decode cX3_add 196 = .ok (.bipush 12, 2) := dk_16 12 (dk_at dksX3_add_8 14 rfl rfl)
theorem dX3_add_198 : decode cX3_add 198 = .ok (.if_icmp .ne 6, 3) := dk_160 0 6 (dk_at dksX3_add_8 16 rfl rfl)
theorem dX3_add_201 : decode cX3_add 201 = .ok (.bipush (-6), 2) := dk_16 250 (dk_at dksX3_add_8 19 rfl rfl)
theorem dX3_add_203 : decode cX3_add 203 = .ok (.ireturn, 1) := dk_172 (dk_at dksX3_add_8 21 rfl rfl)
theorem dX3_add_204 : decode cX3_add 204 = .ok (.aload_n 0, 1) := dk_42 (dk_at dksX3_add_8 22 rfl rfl)
theorem dX3_add_205 : decode cX3_add 205 = .ok (.iload_n 1, 1) := dk_27 (dk_at dksX3_add_8 23 rfl rfl)
theorem dX3_add_206 : decode cX3_add 206 = .ok (.lload_n 2, 1) := dk_32 (dk_at dksX3_add_9 0 rfl rfl)
theorem dX3_add_207 : decode cX3_add 207 = .ok (.invokevirtual 138, 3) := dk_182 0 138 (dk_at dksX3_add_9 1 rfl rfl)
theorem dX3_add_210 : decode cX3_add 210 = .ok (.ireturn, 1) := dk_172 (dk_at dksX3_add_9 4 rfl rfl)
abbrev cX3_isEmpty : ByteArray := prog_11_method_19_code
def yX3_isEmpty : MethodName := ⟨RX3, "isEmpty", "(I)Z"⟩
def dkwX3_isEmpty_0 : List UInt8 := [42, 180, 0, 60, 27, 46, 2, 160, 0, 7, 4, 167, 0, 4, 3, 172]
abbrev dktX3_isEmpty_0 : List UInt8 := dkwX3_isEmpty_0 ++ []
theorem dksX3_isEmpty_0 : cX3_isEmpty.data.toList.drop 0 = dktX3_isEmpty_0 := by decide +kernel
theorem dX3_isEmpty_0 : decode cX3_isEmpty 0 = .ok (.aload_n 0, 1) := dk_42 (dk_at dksX3_isEmpty_0 0 rfl rfl)
theorem dX3_isEmpty_1 : decode cX3_isEmpty 1 = .ok (.getfield 60, 3) := dk_180 0 60 (dk_at dksX3_isEmpty_0 1 rfl rfl)
theorem dX3_isEmpty_4 : decode cX3_isEmpty 4 = .ok (.iload_n 1, 1) := dk_27 (dk_at dksX3_isEmpty_0 4 rfl rfl)
theorem dX3_isEmpty_5 : decode cX3_isEmpty 5 = .ok (.iaload, 1) := dk_46 (dk_at dksX3_isEmpty_0 5 rfl rfl)
theorem dX3_isEmpty_6 : decode cX3_isEmpty 6 = .ok (.iconst (-1), 1) := dk_2 (dk_at dksX3_isEmpty_0 6 rfl rfl)
theorem dX3_isEmpty_7 : decode cX3_isEmpty 7 = .ok (.if_icmp .ne 7, 3) := dk_160 0 7 (dk_at dksX3_isEmpty_0 7 rfl rfl)
theorem dX3_isEmpty_10 : decode cX3_isEmpty 10 = .ok (.iconst 1, 1) := dk_4 (dk_at dksX3_isEmpty_0 10 rfl rfl)
theorem dX3_isEmpty_11 : decode cX3_isEmpty 11 = .ok (.goto 4, 3) := dk_167 0 4 (dk_at dksX3_isEmpty_0 11 rfl rfl)
theorem dX3_isEmpty_14 : decode cX3_isEmpty 14 = .ok (.iconst 0, 1) := dk_3 (dk_at dksX3_isEmpty_0 14 rfl rfl)
theorem dX3_isEmpty_15 : decode cX3_isEmpty 15 = .ok (.ireturn, 1) := dk_172 (dk_at dksX3_isEmpty_0 15 rfl rfl)
abbrev cX3_hasWord : ByteArray := prog_11_method_20_code
def yX3_hasWord : MethodName := ⟨RX3, "hasWord", "(IJ)Z"⟩
def dkwX3_hasWord_0 : List UInt8 := [42, 180, 0, 64, 27, 46, 42, 180, 0, 67, 27, 46, 32, 184, 0, 36, 172]
abbrev dktX3_hasWord_0 : List UInt8 := dkwX3_hasWord_0 ++ []
theorem dksX3_hasWord_0 : cX3_hasWord.data.toList.drop 0 = dktX3_hasWord_0 := by decide +kernel
theorem dX3_hasWord_0 : decode cX3_hasWord 0 = .ok (.aload_n 0, 1) := dk_42 (dk_at dksX3_hasWord_0 0 rfl rfl)
theorem dX3_hasWord_1 : decode cX3_hasWord 1 = .ok (.getfield 64, 3) := dk_180 0 64 (dk_at dksX3_hasWord_0 1 rfl rfl)
theorem dX3_hasWord_4 : decode cX3_hasWord 4 = .ok (.iload_n 1, 1) := dk_27 (dk_at dksX3_hasWord_0 4 rfl rfl)
theorem dX3_hasWord_5 : decode cX3_hasWord 5 = .ok (.iaload, 1) := dk_46 (dk_at dksX3_hasWord_0 5 rfl rfl)
theorem dX3_hasWord_6 : decode cX3_hasWord 6 = .ok (.aload_n 0, 1) := dk_42 (dk_at dksX3_hasWord_0 6 rfl rfl)
theorem dX3_hasWord_7 : decode cX3_hasWord 7 = .ok (.getfield 67, 3) := dk_180 0 67 (dk_at dksX3_hasWord_0 7 rfl rfl)
theorem dX3_hasWord_10 : decode cX3_hasWord 10 = .ok (.iload_n 1, 1) := dk_27 (dk_at dksX3_hasWord_0 10 rfl rfl)
theorem dX3_hasWord_11 : decode cX3_hasWord 11 = .ok (.iaload, 1) := dk_46 (dk_at dksX3_hasWord_0 11 rfl rfl)
theorem dX3_hasWord_12 : decode cX3_hasWord 12 = .ok (.lload_n 2, 1) := dk_32 (dk_at dksX3_hasWord_0 12 rfl rfl)
theorem dX3_hasWord_13 : decode cX3_hasWord 13 = .ok (.invokestatic 36, 3) := dk_184 0 36 (dk_at dksX3_hasWord_0 13 rfl rfl)
theorem dX3_hasWord_16 : decode cX3_hasWord 16 = .ok (.ireturn, 1) := dk_172 (dk_at dksX3_hasWord_0 16 rfl rfl)
abbrev cX3_find : ByteArray := prog_11_method_23_code
def yX3_find : MethodName := ⟨RX3, "find", "(IJ)I"⟩
def dkwX3_find_2 : List UInt8 := [162, 0, 8, 21, 4, 167, 0, 4, 2, 172]
abbrev dktX3_find_2 : List UInt8 := dkwX3_find_2 ++ []
def dkwX3_find_1 : List UInt8 := [21, 4, 96, 47, 32, 148, 153, 0, 9, 132, 4, 1, 167, 255, 224, 21, 4, 42, 180, 0, 70, 27, 46]
abbrev dktX3_find_1 : List UInt8 := dkwX3_find_1 ++ dktX3_find_2
def dkwX3_find_0 : List UInt8 := [3, 54, 4, 21, 4, 42, 180, 0, 70, 27, 46, 162, 0, 27, 42, 180, 0, 73, 17, 0, 200, 27, 104]
abbrev dktX3_find_0 : List UInt8 := dkwX3_find_0 ++ dktX3_find_1
theorem dksX3_find_0 : cX3_find.data.toList.drop 0 = dktX3_find_0 := by decide +kernel
theorem dksX3_find_1 : cX3_find.data.toList.drop 23 = dktX3_find_1 := dk_seg dksX3_find_0 23 rfl rfl
theorem dksX3_find_2 : cX3_find.data.toList.drop 46 = dktX3_find_2 := dk_seg dksX3_find_1 23 rfl rfl
theorem dX3_find_0 : decode cX3_find 0 = .ok (.iconst 0, 1) := dk_3 (dk_at dksX3_find_0 0 rfl rfl)
theorem dX3_find_1 : decode cX3_find 1 = .ok (.istore 4, 2) := dk_54 4 (dk_at dksX3_find_0 1 rfl rfl)
theorem dX3_find_3 : decode cX3_find 3 = .ok (.iload 4, 2) := dk_21 4 (dk_at dksX3_find_0 3 rfl rfl)
theorem dX3_find_5 : decode cX3_find 5 = .ok (.aload_n 0, 1) := dk_42 (dk_at dksX3_find_0 5 rfl rfl)
theorem dX3_find_6 : decode cX3_find 6 = .ok (.getfield 70, 3) := dk_180 0 70 (dk_at dksX3_find_0 6 rfl rfl)
theorem dX3_find_9 : decode cX3_find 9 = .ok (.iload_n 1, 1) := dk_27 (dk_at dksX3_find_0 9 rfl rfl)
theorem dX3_find_10 : decode cX3_find 10 = .ok (.iaload, 1) := dk_46 (dk_at dksX3_find_0 10 rfl rfl)
theorem dX3_find_11 : decode cX3_find 11 = .ok (.if_icmp .ge 27, 3) := dk_162 0 27 (dk_at dksX3_find_0 11 rfl rfl)
theorem dX3_find_14 : decode cX3_find 14 = .ok (.aload_n 0, 1) := dk_42 (dk_at dksX3_find_0 14 rfl rfl)
theorem dX3_find_15 : decode cX3_find 15 = .ok (.getfield 73, 3) := dk_180 0 73 (dk_at dksX3_find_0 15 rfl rfl)
theorem dX3_find_18 : decode cX3_find 18 = .ok (.sipush 200, 3) := dk_17 0 200 (dk_at dksX3_find_0 18 rfl rfl)
theorem dX3_find_21 : decode cX3_find 21 = .ok (.iload_n 1, 1) := dk_27 (dk_at dksX3_find_0 21 rfl rfl)
theorem dX3_find_22 : decode cX3_find 22 = .ok (.imul, 1) := dk_104 (dk_at dksX3_find_0 22 rfl rfl)
theorem dX3_find_23 : decode cX3_find 23 = .ok (.iload 4, 2) := dk_21 4 (dk_at dksX3_find_1 0 rfl rfl)
theorem dX3_find_25 : decode cX3_find 25 = .ok (.iadd, 1) := dk_96 (dk_at dksX3_find_1 2 rfl rfl)
theorem dX3_find_26 : decode cX3_find 26 = .ok (.laload, 1) := dk_47 (dk_at dksX3_find_1 3 rfl rfl)
theorem dX3_find_27 : decode cX3_find 27 = .ok (.lload_n 2, 1) := dk_32 (dk_at dksX3_find_1 4 rfl rfl)
theorem dX3_find_28 : decode cX3_find 28 = .ok (.lcmp, 1) := dk_148 (dk_at dksX3_find_1 5 rfl rfl)
theorem dX3_find_29 : decode cX3_find 29 = .ok (.ifCond .eq 9, 3) := dk_153 0 9 (dk_at dksX3_find_1 6 rfl rfl)
theorem dX3_find_32 : decode cX3_find 32 = .ok (.iinc 4 1, 3) := dk_132 4 1 (dk_at dksX3_find_1 9 rfl rfl)
theorem dX3_find_35 : decode cX3_find 35 = .ok (.goto (-32), 3) := dk_167 255 224 (dk_at dksX3_find_1 12 rfl rfl)
theorem dX3_find_38 : decode cX3_find 38 = .ok (.iload 4, 2) := dk_21 4 (dk_at dksX3_find_1 15 rfl rfl)
theorem dX3_find_40 : decode cX3_find 40 = .ok (.aload_n 0, 1) := dk_42 (dk_at dksX3_find_1 17 rfl rfl)
theorem dX3_find_41 : decode cX3_find 41 = .ok (.getfield 70, 3) := dk_180 0 70 (dk_at dksX3_find_1 18 rfl rfl)
theorem dX3_find_44 : decode cX3_find 44 = .ok (.iload_n 1, 1) := dk_27 (dk_at dksX3_find_1 21 rfl rfl)
theorem dX3_find_45 : decode cX3_find 45 = .ok (.iaload, 1) := dk_46 (dk_at dksX3_find_1 22 rfl rfl)
theorem dX3_find_46 : decode cX3_find 46 = .ok (.if_icmp .ge 8, 3) := dk_162 0 8 (dk_at dksX3_find_2 0 rfl rfl)
theorem dX3_find_49 : decode cX3_find 49 = .ok (.iload 4, 2) := dk_21 4 (dk_at dksX3_find_2 3 rfl rfl)
theorem dX3_find_51 : decode cX3_find 51 = .ok (.goto 4, 3) := dk_167 0 4 (dk_at dksX3_find_2 5 rfl rfl)
theorem dX3_find_54 : decode cX3_find 54 = .ok (.iconst (-1), 1) := dk_2 (dk_at dksX3_find_2 8 rfl rfl)
theorem dX3_find_55 : decode cX3_find 55 = .ok (.ireturn, 1) := dk_172 (dk_at dksX3_find_2 9 rfl rfl)
abbrev cX3_push : ByteArray := prog_11_method_24_code
def yX3_push : MethodName := ⟨RX3, "push", "(IJ)I"⟩
def dkwX3_push_1 : List UInt8 := [46, 4, 96, 79, 42, 180, 0, 70, 27, 46, 172]
abbrev dktX3_push_1 : List UInt8 := dkwX3_push_1 ++ []
def dkwX3_push_0 : List UInt8 := [42, 180, 0, 73, 17, 0, 200, 27, 104, 42, 180, 0, 70, 27, 46, 96, 32, 80, 42, 180, 0, 70, 27, 92]
abbrev dktX3_push_0 : List UInt8 := dkwX3_push_0 ++ dktX3_push_1
theorem dksX3_push_0 : cX3_push.data.toList.drop 0 = dktX3_push_0 := by decide +kernel
theorem dksX3_push_1 : cX3_push.data.toList.drop 24 = dktX3_push_1 := dk_seg dksX3_push_0 24 rfl rfl
theorem dX3_push_0 : decode cX3_push 0 = .ok (.aload_n 0, 1) := dk_42 (dk_at dksX3_push_0 0 rfl rfl)
theorem dX3_push_1 : decode cX3_push 1 = .ok (.getfield 73, 3) := dk_180 0 73 (dk_at dksX3_push_0 1 rfl rfl)
theorem dX3_push_4 : decode cX3_push 4 = .ok (.sipush 200, 3) := dk_17 0 200 (dk_at dksX3_push_0 4 rfl rfl)
theorem dX3_push_7 : decode cX3_push 7 = .ok (.iload_n 1, 1) := dk_27 (dk_at dksX3_push_0 7 rfl rfl)
theorem dX3_push_8 : decode cX3_push 8 = .ok (.imul, 1) := dk_104 (dk_at dksX3_push_0 8 rfl rfl)
theorem dX3_push_9 : decode cX3_push 9 = .ok (.aload_n 0, 1) := dk_42 (dk_at dksX3_push_0 9 rfl rfl)
theorem dX3_push_10 : decode cX3_push 10 = .ok (.getfield 70, 3) := dk_180 0 70 (dk_at dksX3_push_0 10 rfl rfl)
theorem dX3_push_13 : decode cX3_push 13 = .ok (.iload_n 1, 1) := dk_27 (dk_at dksX3_push_0 13 rfl rfl)
theorem dX3_push_14 : decode cX3_push 14 = .ok (.iaload, 1) := dk_46 (dk_at dksX3_push_0 14 rfl rfl)
theorem dX3_push_15 : decode cX3_push 15 = .ok (.iadd, 1) := dk_96 (dk_at dksX3_push_0 15 rfl rfl)
theorem dX3_push_16 : decode cX3_push 16 = .ok (.lload_n 2, 1) := dk_32 (dk_at dksX3_push_0 16 rfl rfl)
theorem dX3_push_17 : decode cX3_push 17 = .ok (.lastore, 1) := dk_80 (dk_at dksX3_push_0 17 rfl rfl)
theorem dX3_push_18 : decode cX3_push 18 = .ok (.aload_n 0, 1) := dk_42 (dk_at dksX3_push_0 18 rfl rfl)
theorem dX3_push_19 : decode cX3_push 19 = .ok (.getfield 70, 3) := dk_180 0 70 (dk_at dksX3_push_0 19 rfl rfl)
theorem dX3_push_22 : decode cX3_push 22 = .ok (.iload_n 1, 1) := dk_27 (dk_at dksX3_push_0 22 rfl rfl)
theorem dX3_push_23 : decode cX3_push 23 = .ok (.dup2, 1) := dk_92 (dk_at dksX3_push_0 23 rfl rfl)
theorem dX3_push_24 : decode cX3_push 24 = .ok (.iaload, 1) := dk_46 (dk_at dksX3_push_1 0 rfl rfl)
theorem dX3_push_25 : decode cX3_push 25 = .ok (.iconst 1, 1) := dk_4 (dk_at dksX3_push_1 1 rfl rfl)
theorem dX3_push_26 : decode cX3_push 26 = .ok (.iadd, 1) := dk_96 (dk_at dksX3_push_1 2 rfl rfl)
theorem dX3_push_27 : decode cX3_push 27 = .ok (.iastore, 1) := dk_79 (dk_at dksX3_push_1 3 rfl rfl)
theorem dX3_push_28 : decode cX3_push 28 = .ok (.aload_n 0, 1) := dk_42 (dk_at dksX3_push_1 4 rfl rfl)
theorem dX3_push_29 : decode cX3_push 29 = .ok (.getfield 70, 3) := dk_180 0 70 (dk_at dksX3_push_1 5 rfl rfl)
theorem dX3_push_32 : decode cX3_push 32 = .ok (.iload_n 1, 1) := dk_27 (dk_at dksX3_push_1 8 rfl rfl)
theorem dX3_push_33 : decode cX3_push 33 = .ok (.iaload, 1) := dk_46 (dk_at dksX3_push_1 9 rfl rfl)
theorem dX3_push_34 : decode cX3_push 34 = .ok (.ireturn, 1) := dk_172 (dk_at dksX3_push_1 10 rfl rfl)
abbrev cX3_ring : ByteArray := prog_11_method_26_code
def yX3_ring : MethodName := ⟨RX3, "ring", "(IIIJ)I"⟩
def dkwX3_ring_6 : List UInt8 := [180, 0, 70, 27, 46, 172]
abbrev dktX3_ring_6 : List UInt8 := dkwX3_ring_6 ++ []
def dkwX3_ring_5 : List UInt8 := [55, 8, 132, 10, 1, 167, 255, 215, 42, 27, 22, 8, 182, 0, 138, 54, 10, 132, 7, 1, 167, 255, 185, 42]
abbrev dktX3_ring_5 : List UInt8 := dkwX3_ring_5 ++ dktX3_ring_6
def dkwX3_ring_4 : List UInt8 := [21, 10, 184, 0, 11, 109, 28, 133, 113, 28, 29, 4, 100, 21, 7, 100, 21, 10, 100, 184, 0, 11, 105, 97]
abbrev dktX3_ring_4 : List UInt8 := dkwX3_ring_4 ++ dktX3_ring_5
def dkwX3_ring_3 : List UInt8 := [21, 6, 100, 162, 0, 68, 9, 55, 8, 3, 54, 10, 21, 10, 21, 6, 163, 0, 40, 22, 8, 22, 4, 28]
abbrev dktX3_ring_3 : List UInt8 := dkwX3_ring_3 ++ dktX3_ring_4
def dkwX3_ring_2 : List UInt8 := [148, 155, 0, 9, 132, 6, 1, 167, 255, 239, 42, 27, 5, 28, 29, 182, 0, 123, 3, 54, 7, 21, 7, 29]
abbrev dktX3_ring_2 : List UInt8 := dkwX3_ring_2 ++ dktX3_ring_3
def dkwX3_ring_1 : List UInt8 := [28, 29, 184, 0, 11, 148, 155, 0, 5, 2, 172, 3, 54, 6, 22, 4, 28, 21, 6, 4, 96, 184, 0, 11]
abbrev dktX3_ring_1 : List UInt8 := dkwX3_ring_1 ++ dktX3_ring_2
def dkwX3_ring_0 : List UInt8 := [27, 184, 0, 119, 153, 0, 29, 28, 29, 184, 0, 32, 153, 0, 21, 22, 4, 9, 148, 158, 0, 14, 22, 4]
abbrev dktX3_ring_0 : List UInt8 := dkwX3_ring_0 ++ dktX3_ring_1
theorem dksX3_ring_0 : cX3_ring.data.toList.drop 0 = dktX3_ring_0 := by decide +kernel
theorem dksX3_ring_1 : cX3_ring.data.toList.drop 24 = dktX3_ring_1 := dk_seg dksX3_ring_0 24 rfl rfl
theorem dksX3_ring_2 : cX3_ring.data.toList.drop 48 = dktX3_ring_2 := dk_seg dksX3_ring_1 24 rfl rfl
theorem dksX3_ring_3 : cX3_ring.data.toList.drop 72 = dktX3_ring_3 := dk_seg dksX3_ring_2 24 rfl rfl
theorem dksX3_ring_4 : cX3_ring.data.toList.drop 96 = dktX3_ring_4 := dk_seg dksX3_ring_3 24 rfl rfl
theorem dksX3_ring_5 : cX3_ring.data.toList.drop 120 = dktX3_ring_5 := dk_seg dksX3_ring_4 24 rfl rfl
theorem dksX3_ring_6 : cX3_ring.data.toList.drop 144 = dktX3_ring_6 := dk_seg dksX3_ring_5 24 rfl rfl
theorem dX3_ring_0 : decode cX3_ring 0 = .ok (.iload_n 1, 1) := dk_27 (dk_at dksX3_ring_0 0 rfl rfl)
theorem dX3_ring_1 : decode cX3_ring 1 = .ok (.invokestatic 119, 3) := dk_184 0 119 (dk_at dksX3_ring_0 1 rfl rfl)
theorem dX3_ring_4 : decode cX3_ring 4 = .ok (.ifCond .eq 29, 3) := dk_153 0 29 (dk_at dksX3_ring_0 4 rfl rfl)
theorem dX3_ring_7 : decode cX3_ring 7 = .ok (.iload_n 2, 1) := dk_28 (dk_at dksX3_ring_0 7 rfl rfl)
theorem dX3_ring_8 : decode cX3_ring 8 = .ok (.iload_n 3, 1) := dk_29 (dk_at dksX3_ring_0 8 rfl rfl)
theorem dX3_ring_9 : decode cX3_ring 9 = .ok (.invokestatic 32, 3) := dk_184 0 32 (dk_at dksX3_ring_0 9 rfl rfl)
theorem dX3_ring_12 : decode cX3_ring 12 = .ok (.ifCond .eq 21, 3) := dk_153 0 21 (dk_at dksX3_ring_0 12 rfl rfl)
theorem dX3_ring_15 : decode cX3_ring 15 = .ok (.lload 4, 2) := dk_22 4 (dk_at dksX3_ring_0 15 rfl rfl)
theorem dX3_ring_17 : decode cX3_ring 17 = .ok (.lconst 0, 1) := dk_9 (dk_at dksX3_ring_0 17 rfl rfl)
theorem dX3_ring_18 : decode cX3_ring 18 = .ok (.lcmp, 1) := dk_148 (dk_at dksX3_ring_0 18 rfl rfl)
theorem dX3_ring_19 : decode cX3_ring 19 = .ok (.ifCond .le 14, 3) := dk_158 0 14 (dk_at dksX3_ring_0 19 rfl rfl)
theorem dX3_ring_22 : decode cX3_ring 22 = .ok (.lload 4, 2) := dk_22 4 (dk_at dksX3_ring_0 22 rfl rfl)
theorem dX3_ring_24 : decode cX3_ring 24 = .ok (.iload_n 2, 1) := dk_28 (dk_at dksX3_ring_1 0 rfl rfl)
theorem dX3_ring_25 : decode cX3_ring 25 = .ok (.iload_n 3, 1) := dk_29 (dk_at dksX3_ring_1 1 rfl rfl)
theorem dX3_ring_26 : decode cX3_ring 26 = .ok (.invokestatic 11, 3) := dk_184 0 11 (dk_at dksX3_ring_1 2 rfl rfl)
theorem dX3_ring_29 : decode cX3_ring 29 = .ok (.lcmp, 1) := dk_148 (dk_at dksX3_ring_1 5 rfl rfl)
theorem dX3_ring_30 : decode cX3_ring 30 = .ok (.ifCond .lt 5, 3) := dk_155 0 5 (dk_at dksX3_ring_1 6 rfl rfl)
theorem dX3_ring_33 : decode cX3_ring 33 = .ok (.iconst (-1), 1) := dk_2 (dk_at dksX3_ring_1 9 rfl rfl)
theorem dX3_ring_34 : decode cX3_ring 34 = .ok (.ireturn, 1) := dk_172 (dk_at dksX3_ring_1 10 rfl rfl)
theorem dX3_ring_35 : decode cX3_ring 35 = .ok (.iconst 0, 1) := dk_3 (dk_at dksX3_ring_1 11 rfl rfl)
theorem dX3_ring_36 : decode cX3_ring 36 = .ok (.istore 6, 2) := dk_54 6 (dk_at dksX3_ring_1 12 rfl rfl)
theorem dX3_ring_38 : decode cX3_ring 38 = .ok (.lload 4, 2) := dk_22 4 (dk_at dksX3_ring_1 14 rfl rfl)
theorem dX3_ring_40 : decode cX3_ring 40 = .ok (.iload_n 2, 1) := dk_28 (dk_at dksX3_ring_1 16 rfl rfl)
theorem dX3_ring_41 : decode cX3_ring 41 = .ok (.iload 6, 2) := dk_21 6 (dk_at dksX3_ring_1 17 rfl rfl)
theorem dX3_ring_43 : decode cX3_ring 43 = .ok (.iconst 1, 1) := dk_4 (dk_at dksX3_ring_1 19 rfl rfl)
theorem dX3_ring_44 : decode cX3_ring 44 = .ok (.iadd, 1) := dk_96 (dk_at dksX3_ring_1 20 rfl rfl)
theorem dX3_ring_45 : decode cX3_ring 45 = .ok (.invokestatic 11, 3) := dk_184 0 11 (dk_at dksX3_ring_1 21 rfl rfl)
theorem dX3_ring_48 : decode cX3_ring 48 = .ok (.lcmp, 1) := dk_148 (dk_at dksX3_ring_2 0 rfl rfl)
theorem dX3_ring_49 : decode cX3_ring 49 = .ok (.ifCond .lt 9, 3) := dk_155 0 9 (dk_at dksX3_ring_2 1 rfl rfl)
theorem dX3_ring_52 : decode cX3_ring 52 = .ok (.iinc 6 1, 3) := dk_132 6 1 (dk_at dksX3_ring_2 4 rfl rfl)
theorem dX3_ring_55 : decode cX3_ring 55 = .ok (.goto (-17), 3) := dk_167 255 239 (dk_at dksX3_ring_2 7 rfl rfl)
theorem dX3_ring_58 : decode cX3_ring 58 = .ok (.aload_n 0, 1) := dk_42 (dk_at dksX3_ring_2 10 rfl rfl)
theorem dX3_ring_59 : decode cX3_ring 59 = .ok (.iload_n 1, 1) := dk_27 (dk_at dksX3_ring_2 11 rfl rfl)
theorem dX3_ring_60 : decode cX3_ring 60 = .ok (.iconst 2, 1) := dk_5 (dk_at dksX3_ring_2 12 rfl rfl)
theorem dX3_ring_61 : decode cX3_ring 61 = .ok (.iload_n 2, 1) := dk_28 (dk_at dksX3_ring_2 13 rfl rfl)
theorem dX3_ring_62 : decode cX3_ring 62 = .ok (.iload_n 3, 1) := dk_29 (dk_at dksX3_ring_2 14 rfl rfl)
theorem dX3_ring_63 : decode cX3_ring 63 = .ok (.invokevirtual 123, 3) := dk_182 0 123 (dk_at dksX3_ring_2 15 rfl rfl)
theorem dX3_ring_66 : decode cX3_ring 66 = .ok (.iconst 0, 1) := dk_3 (dk_at dksX3_ring_2 18 rfl rfl)
theorem dX3_ring_67 : decode cX3_ring 67 = .ok (.istore 7, 2) := dk_54 7 (dk_at dksX3_ring_2 19 rfl rfl)
theorem dX3_ring_69 : decode cX3_ring 69 = .ok (.iload 7, 2) := dk_21 7 (dk_at dksX3_ring_2 21 rfl rfl)
theorem dX3_ring_71 : decode cX3_ring 71 = .ok (.iload_n 3, 1) := dk_29 (dk_at dksX3_ring_2 23 rfl rfl)
theorem dX3_ring_72 : decode cX3_ring 72 = .ok (.iload 6, 2) := dk_21 6 (dk_at dksX3_ring_3 0 rfl rfl)
theorem dX3_ring_74 : decode cX3_ring 74 = .ok (.isub, 1) := dk_100 (dk_at dksX3_ring_3 2 rfl rfl)
theorem dX3_ring_75 : decode cX3_ring 75 = .ok (.if_icmp .ge 68, 3) := dk_162 0 68 (dk_at dksX3_ring_3 3 rfl rfl)
theorem dX3_ring_78 : decode cX3_ring 78 = .ok (.lconst 0, 1) := dk_9 (dk_at dksX3_ring_3 6 rfl rfl)
theorem dX3_ring_79 : decode cX3_ring 79 = .ok (.lstore 8, 2) := dk_55 8 (dk_at dksX3_ring_3 7 rfl rfl)
theorem dX3_ring_81 : decode cX3_ring 81 = .ok (.iconst 0, 1) := dk_3 (dk_at dksX3_ring_3 9 rfl rfl)
theorem dX3_ring_82 : decode cX3_ring 82 = .ok (.istore 10, 2) := dk_54 10 (dk_at dksX3_ring_3 10 rfl rfl)
theorem dX3_ring_84 : decode cX3_ring 84 = .ok (.iload 10, 2) := dk_21 10 (dk_at dksX3_ring_3 12 rfl rfl)
theorem dX3_ring_86 : decode cX3_ring 86 = .ok (.iload 6, 2) := dk_21 6 (dk_at dksX3_ring_3 14 rfl rfl)
theorem dX3_ring_88 : decode cX3_ring 88 = .ok (.if_icmp .gt 40, 3) := dk_163 0 40 (dk_at dksX3_ring_3 16 rfl rfl)
theorem dX3_ring_91 : decode cX3_ring 91 = .ok (.lload 8, 2) := dk_22 8 (dk_at dksX3_ring_3 19 rfl rfl)
theorem dX3_ring_93 : decode cX3_ring 93 = .ok (.lload 4, 2) := dk_22 4 (dk_at dksX3_ring_3 21 rfl rfl)
theorem dX3_ring_95 : decode cX3_ring 95 = .ok (.iload_n 2, 1) := dk_28 (dk_at dksX3_ring_3 23 rfl rfl)
theorem dX3_ring_96 : decode cX3_ring 96 = .ok (.iload 10, 2) := dk_21 10 (dk_at dksX3_ring_4 0 rfl rfl)
theorem dX3_ring_98 : decode cX3_ring 98 = .ok (.invokestatic 11, 3) := dk_184 0 11 (dk_at dksX3_ring_4 2 rfl rfl)
theorem dX3_ring_101 : decode cX3_ring 101 = .ok (.ldiv, 1) := dk_109 (dk_at dksX3_ring_4 5 rfl rfl)
theorem dX3_ring_102 : decode cX3_ring 102 = .ok (.iload_n 2, 1) := dk_28 (dk_at dksX3_ring_4 6 rfl rfl)
theorem dX3_ring_103 : decode cX3_ring 103 = .ok (.i2l, 1) := dk_133 (dk_at dksX3_ring_4 7 rfl rfl)
theorem dX3_ring_104 : decode cX3_ring 104 = .ok (.lrem, 1) := dk_113 (dk_at dksX3_ring_4 8 rfl rfl)
theorem dX3_ring_105 : decode cX3_ring 105 = .ok (.iload_n 2, 1) := dk_28 (dk_at dksX3_ring_4 9 rfl rfl)
theorem dX3_ring_106 : decode cX3_ring 106 = .ok (.iload_n 3, 1) := dk_29 (dk_at dksX3_ring_4 10 rfl rfl)
theorem dX3_ring_107 : decode cX3_ring 107 = .ok (.iconst 1, 1) := dk_4 (dk_at dksX3_ring_4 11 rfl rfl)
theorem dX3_ring_108 : decode cX3_ring 108 = .ok (.isub, 1) := dk_100 (dk_at dksX3_ring_4 12 rfl rfl)
theorem dX3_ring_109 : decode cX3_ring 109 = .ok (.iload 7, 2) := dk_21 7 (dk_at dksX3_ring_4 13 rfl rfl)
theorem dX3_ring_111 : decode cX3_ring 111 = .ok (.isub, 1) := dk_100 (dk_at dksX3_ring_4 15 rfl rfl)
theorem dX3_ring_112 : decode cX3_ring 112 = .ok (.iload 10, 2) := dk_21 10 (dk_at dksX3_ring_4 16 rfl rfl)
theorem dX3_ring_114 : decode cX3_ring 114 = .ok (.isub, 1) := dk_100 (dk_at dksX3_ring_4 18 rfl rfl)
theorem dX3_ring_115 : decode cX3_ring 115 = .ok (.invokestatic 11, 3) := dk_184 0 11 (dk_at dksX3_ring_4 19 rfl rfl)
theorem dX3_ring_118 : decode cX3_ring 118 = .ok (.lmul, 1) := dk_105 (dk_at dksX3_ring_4 22 rfl rfl)
theorem dX3_ring_119 : decode cX3_ring 119 = .ok (.ladd, 1) := dk_97 (dk_at dksX3_ring_4 23 rfl rfl)
theorem dX3_ring_120 : decode cX3_ring 120 = .ok (.lstore 8, 2) := dk_55 8 (dk_at dksX3_ring_5 0 rfl rfl)
theorem dX3_ring_122 : decode cX3_ring 122 = .ok (.iinc 10 1, 3) := dk_132 10 1 (dk_at dksX3_ring_5 2 rfl rfl)
theorem dX3_ring_125 : decode cX3_ring 125 = .ok (.goto (-41), 3) := dk_167 255 215 (dk_at dksX3_ring_5 5 rfl rfl)
theorem dX3_ring_128 : decode cX3_ring 128 = .ok (.aload_n 0, 1) := dk_42 (dk_at dksX3_ring_5 8 rfl rfl)
theorem dX3_ring_129 : decode cX3_ring 129 = .ok (.iload_n 1, 1) := dk_27 (dk_at dksX3_ring_5 9 rfl rfl)
theorem dX3_ring_130 : decode cX3_ring 130 = .ok (.lload 8, 2) := dk_22 8 (dk_at dksX3_ring_5 10 rfl rfl)
theorem dX3_ring_132 : decode cX3_ring 132 = .ok (.invokevirtual 138, 3) := dk_182 0 138 (dk_at dksX3_ring_5 12 rfl rfl)
theorem dX3_ring_135 : decode cX3_ring 135 = .ok (.istore 10, 2) := dk_54 10 (dk_at dksX3_ring_5 15 rfl rfl)
theorem dX3_ring_137 : decode cX3_ring 137 = .ok (.iinc 7 1, 3) := dk_132 7 1 (dk_at dksX3_ring_5 17 rfl rfl)
theorem dX3_ring_140 : decode cX3_ring 140 = .ok (.goto (-71), 3) := dk_167 255 185 (dk_at dksX3_ring_5 20 rfl rfl)
theorem dX3_ring_143 : decode cX3_ring 143 = .ok (.aload_n 0, 1) := dk_42 (dk_at dksX3_ring_5 23 rfl rfl)
theorem dX3_ring_144 : decode cX3_ring 144 = .ok (.getfield 70, 3) := dk_180 0 70 (dk_at dksX3_ring_6 0 rfl rfl)
theorem dX3_ring_147 : decode cX3_ring 147 = .ok (.iload_n 1, 1) := dk_27 (dk_at dksX3_ring_6 3 rfl rfl)
theorem dX3_ring_148 : decode cX3_ring 148 = .ok (.iaload, 1) := dk_46 (dk_at dksX3_ring_6 4 rfl rfl)
theorem dX3_ring_149 : decode cX3_ring 149 = .ok (.ireturn, 1) := dk_172 (dk_at dksX3_ring_6 5 rfl rfl)
abbrev cX3_empty : ByteArray := prog_11_method_27_code
def yX3_empty : MethodName := ⟨RX3, "empty", "(I)I"⟩
def dkwX3_empty_1 : List UInt8 := [180, 0, 60, 27, 2, 79, 28, 172]
abbrev dktX3_empty_1 : List UInt8 := dkwX3_empty_1 ++ []
def dkwX3_empty_0 : List UInt8 := [27, 184, 0, 119, 154, 0, 5, 2, 172, 42, 27, 182, 0, 127, 153, 0, 7, 3, 167, 0, 4, 4, 61, 42]
abbrev dktX3_empty_0 : List UInt8 := dkwX3_empty_0 ++ dktX3_empty_1
theorem dksX3_empty_0 : cX3_empty.data.toList.drop 0 = dktX3_empty_0 := by decide +kernel
theorem dksX3_empty_1 : cX3_empty.data.toList.drop 24 = dktX3_empty_1 := dk_seg dksX3_empty_0 24 rfl rfl
theorem dX3_empty_0 : decode cX3_empty 0 = .ok (.iload_n 1, 1) := dk_27 (dk_at dksX3_empty_0 0 rfl rfl)
theorem dX3_empty_1 : decode cX3_empty 1 = .ok (.invokestatic 119, 3) := dk_184 0 119 (dk_at dksX3_empty_0 1 rfl rfl)
theorem dX3_empty_4 : decode cX3_empty 4 = .ok (.ifCond .ne 5, 3) := dk_154 0 5 (dk_at dksX3_empty_0 4 rfl rfl)
theorem dX3_empty_7 : decode cX3_empty 7 = .ok (.iconst (-1), 1) := dk_2 (dk_at dksX3_empty_0 7 rfl rfl)
theorem dX3_empty_8 : decode cX3_empty 8 = .ok (.ireturn, 1) := dk_172 (dk_at dksX3_empty_0 8 rfl rfl)
theorem dX3_empty_9 : decode cX3_empty 9 = .ok (.aload_n 0, 1) := dk_42 (dk_at dksX3_empty_0 9 rfl rfl)
theorem dX3_empty_10 : decode cX3_empty 10 = .ok (.iload_n 1, 1) := dk_27 (dk_at dksX3_empty_0 10 rfl rfl)
theorem dX3_empty_11 : decode cX3_empty 11 = .ok (.invokevirtual 127, 3) := dk_182 0 127 (dk_at dksX3_empty_0 11 rfl rfl)
theorem dX3_empty_14 : decode cX3_empty 14 = .ok (.ifCond .eq 7, 3) := dk_153 0 7 (dk_at dksX3_empty_0 14 rfl rfl)
theorem dX3_empty_17 : decode cX3_empty 17 = .ok (.iconst 0, 1) := dk_3 (dk_at dksX3_empty_0 17 rfl rfl)
theorem dX3_empty_18 : decode cX3_empty 18 = .ok (.goto 4, 3) := dk_167 0 4 (dk_at dksX3_empty_0 18 rfl rfl)
theorem dX3_empty_21 : decode cX3_empty 21 = .ok (.iconst 1, 1) := dk_4 (dk_at dksX3_empty_0 21 rfl rfl)
theorem dX3_empty_22 : decode cX3_empty 22 = .ok (.istore_n 2, 1) := dk_61 (dk_at dksX3_empty_0 22 rfl rfl)
theorem dX3_empty_23 : decode cX3_empty 23 = .ok (.aload_n 0, 1) := dk_42 (dk_at dksX3_empty_0 23 rfl rfl)
theorem dX3_empty_24 : decode cX3_empty 24 = .ok (.getfield 60, 3) := dk_180 0 60 (dk_at dksX3_empty_1 0 rfl rfl)
theorem dX3_empty_27 : decode cX3_empty 27 = .ok (.iload_n 1, 1) := dk_27 (dk_at dksX3_empty_1 3 rfl rfl)
theorem dX3_empty_28 : decode cX3_empty 28 = .ok (.iconst (-1), 1) := dk_2 (dk_at dksX3_empty_1 4 rfl rfl)
theorem dX3_empty_29 : decode cX3_empty 29 = .ok (.iastore, 1) := dk_79 (dk_at dksX3_empty_1 5 rfl rfl)
theorem dX3_empty_30 : decode cX3_empty 30 = .ok (.iload_n 2, 1) := dk_28 (dk_at dksX3_empty_1 6 rfl rfl)
theorem dX3_empty_31 : decode cX3_empty 31 = .ok (.ireturn, 1) := dk_172 (dk_at dksX3_empty_1 7 rfl rfl)
abbrev cX3_look : ByteArray := prog_11_method_30_code
def yX3_look : MethodName := ⟨RX3, "look", "(II)I"⟩
def dkwX3_look_5 : List UInt8 := [27, 182, 0, 151, 153, 0, 7, 4, 167, 0, 4, 3, 172, 42, 27, 182, 0, 154, 42, 180, 0, 141, 172]
abbrev dktX3_look_5 : List UInt8 := dkwX3_look_5 ++ []
def dkwX3_look_4 : List UInt8 := [180, 0, 70, 27, 46, 172, 42, 180, 0, 60, 27, 46, 154, 0, 6, 16, 244, 172, 28, 8, 160, 0, 17, 42]
abbrev dktX3_look_4 : List UInt8 := dkwX3_look_4 ++ dktX3_look_5
def dkwX3_look_3 : List UInt8 := [42, 180, 0, 60, 27, 46, 172, 42, 180, 0, 64, 27, 46, 172, 42, 180, 0, 67, 27, 46, 172, 42]
abbrev dktX3_look_3 : List UInt8 := dkwX3_look_3 ++ dktX3_look_4
def dkwX3_look_2 : List UInt8 := [170, 0, 0, 0, 0, 0, 59, 0, 0, 0, 0, 0, 0, 0, 3, 0, 0, 0, 31, 0, 0, 0, 38, 0, 0, 0, 45, 0, 0, 0, 52]
abbrev dktX3_look_2 : List UInt8 := dkwX3_look_2 ++ dktX3_look_3
def dkwX3_look_1 : List UInt8 := [182, 0, 127, 153, 0, 6, 16, 245, 172, 28]
abbrev dktX3_look_1 : List UInt8 := dkwX3_look_1 ++ dktX3_look_2
def dkwX3_look_0 : List UInt8 := [27, 184, 0, 119, 153, 0, 15, 28, 133, 9, 20, 0, 24, 184, 0, 26, 154, 0, 5, 2, 172, 42, 27]
abbrev dktX3_look_0 : List UInt8 := dkwX3_look_0 ++ dktX3_look_1
theorem dksX3_look_0 : cX3_look.data.toList.drop 0 = dktX3_look_0 := by decide +kernel
theorem dksX3_look_1 : cX3_look.data.toList.drop 23 = dktX3_look_1 := dk_seg dksX3_look_0 23 rfl rfl
theorem dksX3_look_2 : cX3_look.data.toList.drop 33 = dktX3_look_2 := dk_seg dksX3_look_1 10 rfl rfl
theorem dksX3_look_3 : cX3_look.data.toList.drop 64 = dktX3_look_3 := dk_seg dksX3_look_2 31 rfl rfl
theorem dksX3_look_4 : cX3_look.data.toList.drop 86 = dktX3_look_4 := dk_seg dksX3_look_3 22 rfl rfl
theorem dksX3_look_5 : cX3_look.data.toList.drop 110 = dktX3_look_5 := dk_seg dksX3_look_4 24 rfl rfl
theorem dX3_look_0 : decode cX3_look 0 = .ok (.iload_n 1, 1) := dk_27 (dk_at dksX3_look_0 0 rfl rfl)
theorem dX3_look_1 : decode cX3_look 1 = .ok (.invokestatic 119, 3) := dk_184 0 119 (dk_at dksX3_look_0 1 rfl rfl)
theorem dX3_look_4 : decode cX3_look 4 = .ok (.ifCond .eq 15, 3) := dk_153 0 15 (dk_at dksX3_look_0 4 rfl rfl)
theorem dX3_look_7 : decode cX3_look 7 = .ok (.iload_n 2, 1) := dk_28 (dk_at dksX3_look_0 7 rfl rfl)
theorem dX3_look_8 : decode cX3_look 8 = .ok (.i2l, 1) := dk_133 (dk_at dksX3_look_0 8 rfl rfl)
theorem dX3_look_9 : decode cX3_look 9 = .ok (.lconst 0, 1) := dk_9 (dk_at dksX3_look_0 9 rfl rfl)
theorem dX3_look_10 : decode cX3_look 10 = .ok (.ldc2_w 24, 3) := dk_20 0 24 (dk_at dksX3_look_0 10 rfl rfl)
theorem dX3_look_13 : decode cX3_look 13 = .ok (.invokestatic 26, 3) := dk_184 0 26 (dk_at dksX3_look_0 13 rfl rfl)
theorem dX3_look_16 : decode cX3_look 16 = .ok (.ifCond .ne 5, 3) := dk_154 0 5 (dk_at dksX3_look_0 16 rfl rfl)
theorem dX3_look_19 : decode cX3_look 19 = .ok (.iconst (-1), 1) := dk_2 (dk_at dksX3_look_0 19 rfl rfl)
theorem dX3_look_20 : decode cX3_look 20 = .ok (.ireturn, 1) := dk_172 (dk_at dksX3_look_0 20 rfl rfl)
theorem dX3_look_21 : decode cX3_look 21 = .ok (.aload_n 0, 1) := dk_42 (dk_at dksX3_look_0 21 rfl rfl)
theorem dX3_look_22 : decode cX3_look 22 = .ok (.iload_n 1, 1) := dk_27 (dk_at dksX3_look_0 22 rfl rfl)
theorem dX3_look_23 : decode cX3_look 23 = .ok (.invokevirtual 127, 3) := dk_182 0 127 (dk_at dksX3_look_1 0 rfl rfl)
theorem dX3_look_26 : decode cX3_look 26 = .ok (.ifCond .eq 6, 3) := dk_153 0 6 (dk_at dksX3_look_1 3 rfl rfl)
theorem dX3_look_29 : decode cX3_look 29 = .ok (.bipush (-11), 2) := dk_16 245 (dk_at dksX3_look_1 6 rfl rfl)
theorem dX3_look_31 : decode cX3_look 31 = .ok (.ireturn, 1) := dk_172 (dk_at dksX3_look_1 8 rfl rfl)
theorem dX3_look_32 : decode cX3_look 32 = .ok (.iload_n 2, 1) := dk_28 (dk_at dksX3_look_1 9 rfl rfl)
theorem dX3_look_33 : decode cX3_look 33 = .ok (.tableswitch 59 0 3 #[31, 38, 45, 52], 31) := by decide +kernel
theorem dX3_look_64 : decode cX3_look 64 = .ok (.aload_n 0, 1) := dk_42 (dk_at dksX3_look_3 0 rfl rfl)
theorem dX3_look_65 : decode cX3_look 65 = .ok (.getfield 60, 3) := dk_180 0 60 (dk_at dksX3_look_3 1 rfl rfl)
theorem dX3_look_68 : decode cX3_look 68 = .ok (.iload_n 1, 1) := dk_27 (dk_at dksX3_look_3 4 rfl rfl)
theorem dX3_look_69 : decode cX3_look 69 = .ok (.iaload, 1) := dk_46 (dk_at dksX3_look_3 5 rfl rfl)
theorem dX3_look_70 : decode cX3_look 70 = .ok (.ireturn, 1) := dk_172 (dk_at dksX3_look_3 6 rfl rfl)
theorem dX3_look_71 : decode cX3_look 71 = .ok (.aload_n 0, 1) := dk_42 (dk_at dksX3_look_3 7 rfl rfl)
theorem dX3_look_72 : decode cX3_look 72 = .ok (.getfield 64, 3) := dk_180 0 64 (dk_at dksX3_look_3 8 rfl rfl)
theorem dX3_look_75 : decode cX3_look 75 = .ok (.iload_n 1, 1) := dk_27 (dk_at dksX3_look_3 11 rfl rfl)
theorem dX3_look_76 : decode cX3_look 76 = .ok (.iaload, 1) := dk_46 (dk_at dksX3_look_3 12 rfl rfl)
theorem dX3_look_77 : decode cX3_look 77 = .ok (.ireturn, 1) := dk_172 (dk_at dksX3_look_3 13 rfl rfl)
theorem dX3_look_78 : decode cX3_look 78 = .ok (.aload_n 0, 1) := dk_42 (dk_at dksX3_look_3 14 rfl rfl)
theorem dX3_look_79 : decode cX3_look 79 = .ok (.getfield 67, 3) := dk_180 0 67 (dk_at dksX3_look_3 15 rfl rfl)
theorem dX3_look_82 : decode cX3_look 82 = .ok (.iload_n 1, 1) := dk_27 (dk_at dksX3_look_3 18 rfl rfl)
theorem dX3_look_83 : decode cX3_look 83 = .ok (.iaload, 1) := dk_46 (dk_at dksX3_look_3 19 rfl rfl)
theorem dX3_look_84 : decode cX3_look 84 = .ok (.ireturn, 1) := dk_172 (dk_at dksX3_look_3 20 rfl rfl)
theorem dX3_look_85 : decode cX3_look 85 = .ok (.aload_n 0, 1) := dk_42 (dk_at dksX3_look_3 21 rfl rfl)
theorem dX3_look_86 : decode cX3_look 86 = .ok (.getfield 70, 3) := dk_180 0 70 (dk_at dksX3_look_4 0 rfl rfl)
theorem dX3_look_89 : decode cX3_look 89 = .ok (.iload_n 1, 1) := dk_27 (dk_at dksX3_look_4 3 rfl rfl)
theorem dX3_look_90 : decode cX3_look 90 = .ok (.iaload, 1) := dk_46 (dk_at dksX3_look_4 4 rfl rfl)
theorem dX3_look_91 : decode cX3_look 91 = .ok (.ireturn, 1) := dk_172 (dk_at dksX3_look_4 5 rfl rfl)
theorem dX3_look_92 : decode cX3_look 92 = .ok (.aload_n 0, 1) := dk_42 (dk_at dksX3_look_4 6 rfl rfl)
theorem dX3_look_93 : decode cX3_look 93 = .ok (.getfield 60, 3) := dk_180 0 60 (dk_at dksX3_look_4 7 rfl rfl)
theorem dX3_look_96 : decode cX3_look 96 = .ok (.iload_n 1, 1) := dk_27 (dk_at dksX3_look_4 10 rfl rfl)
theorem dX3_look_97 : decode cX3_look 97 = .ok (.iaload, 1) := dk_46 (dk_at dksX3_look_4 11 rfl rfl)
theorem dX3_look_98 : decode cX3_look 98 = .ok (.ifCond .ne 6, 3) := dk_154 0 6 (dk_at dksX3_look_4 12 rfl rfl)
theorem dX3_look_101 : decode cX3_look 101 = .ok (.bipush (-12), 2) := dk_16 244 (dk_at dksX3_look_4 15 rfl rfl)
theorem dX3_look_103 : decode cX3_look 103 = .ok (.ireturn, 1) := dk_172 (dk_at dksX3_look_4 17 rfl rfl)
theorem dX3_look_104 : decode cX3_look 104 = .ok (.iload_n 2, 1) := dk_28 (dk_at dksX3_look_4 18 rfl rfl)
theorem dX3_look_105 : decode cX3_look 105 = .ok (.iconst 5, 1) := dk_8 (dk_at dksX3_look_4 19 rfl rfl)
theorem dX3_look_106 : decode cX3_look 106 = .ok (.if_icmp .ne 17, 3) := dk_160 0 17 (dk_at dksX3_look_4 20 rfl rfl)
theorem dX3_look_109 : decode cX3_look 109 = .ok (.aload_n 0, 1) := dk_42 (dk_at dksX3_look_4 23 rfl rfl)
theorem dX3_look_110 : decode cX3_look 110 = .ok (.iload_n 1, 1) := dk_27 (dk_at dksX3_look_5 0 rfl rfl)
theorem dX3_look_111 : decode cX3_look 111 = .ok (.invokevirtual 151, 3) := dk_182 0 151 (dk_at dksX3_look_5 1 rfl rfl)
theorem dX3_look_114 : decode cX3_look 114 = .ok (.ifCond .eq 7, 3) := dk_153 0 7 (dk_at dksX3_look_5 4 rfl rfl)
theorem dX3_look_117 : decode cX3_look 117 = .ok (.iconst 1, 1) := dk_4 (dk_at dksX3_look_5 7 rfl rfl)
theorem dX3_look_118 : decode cX3_look 118 = .ok (.goto 4, 3) := dk_167 0 4 (dk_at dksX3_look_5 8 rfl rfl)
theorem dX3_look_121 : decode cX3_look 121 = .ok (.iconst 0, 1) := dk_3 (dk_at dksX3_look_5 11 rfl rfl)
theorem dX3_look_122 : decode cX3_look 122 = .ok (.ireturn, 1) := dk_172 (dk_at dksX3_look_5 12 rfl rfl)
theorem dX3_look_123 : decode cX3_look 123 = .ok (.aload_n 0, 1) := dk_42 (dk_at dksX3_look_5 13 rfl rfl)
theorem dX3_look_124 : decode cX3_look 124 = .ok (.iload_n 1, 1) := dk_27 (dk_at dksX3_look_5 14 rfl rfl)
theorem dX3_look_125 : decode cX3_look 125 = .ok (.invokevirtual 154, 3) := dk_182 0 154 (dk_at dksX3_look_5 15 rfl rfl)
theorem dX3_look_128 : decode cX3_look 128 = .ok (.aload_n 0, 1) := dk_42 (dk_at dksX3_look_5 18 rfl rfl)
theorem dX3_look_129 : decode cX3_look 129 = .ok (.getfield 141, 3) := dk_180 0 141 (dk_at dksX3_look_5 19 rfl rfl)
theorem dX3_look_132 : decode cX3_look 132 = .ok (.ireturn, 1) := dk_172 (dk_at dksX3_look_5 22 rfl rfl)
abbrev cX3_isWithin : ByteArray := prog_11_method_29_code
def yX3_isWithin : MethodName := ⟨RX3, "isWithin", "(I)Z"⟩
def dkwX3_isWithin_3 : List UInt8 := [132, 2, 1, 167, 255, 186, 4, 172]
abbrev dktX3_isWithin_3 : List UInt8 := dkwX3_isWithin_3 ++ []
def dkwX3_isWithin_2 : List UInt8 := [17, 0, 200, 27, 104, 29, 96, 47, 184, 0, 50, 153, 0, 5, 3, 172, 132, 3, 1, 167, 255, 204]
abbrev dktX3_isWithin_2 : List UInt8 := dkwX3_isWithin_2 ++ dktX3_isWithin_3
def dkwX3_isWithin_1 : List UInt8 := [46, 42, 180, 0, 67, 27, 46, 42, 180, 0, 73, 17, 0, 200, 27, 104, 28, 96, 47, 42, 180, 0, 73]
abbrev dktX3_isWithin_1 : List UInt8 := dkwX3_isWithin_1 ++ dktX3_isWithin_2
def dkwX3_isWithin_0 : List UInt8 := [3, 61, 28, 42, 180, 0, 70, 27, 46, 162, 0, 66, 3, 62, 29, 28, 163, 0, 53, 42, 180, 0, 64, 27]
abbrev dktX3_isWithin_0 : List UInt8 := dkwX3_isWithin_0 ++ dktX3_isWithin_1
theorem dksX3_isWithin_0 : cX3_isWithin.data.toList.drop 0 = dktX3_isWithin_0 := by decide +kernel
theorem dksX3_isWithin_1 : cX3_isWithin.data.toList.drop 24 = dktX3_isWithin_1 := dk_seg dksX3_isWithin_0 24 rfl rfl
theorem dksX3_isWithin_2 : cX3_isWithin.data.toList.drop 47 = dktX3_isWithin_2 := dk_seg dksX3_isWithin_1 23 rfl rfl
theorem dksX3_isWithin_3 : cX3_isWithin.data.toList.drop 69 = dktX3_isWithin_3 := dk_seg dksX3_isWithin_2 22 rfl rfl
theorem dX3_isWithin_0 : decode cX3_isWithin 0 = .ok (.iconst 0, 1) := dk_3 (dk_at dksX3_isWithin_0 0 rfl rfl)
theorem dX3_isWithin_1 : decode cX3_isWithin 1 = .ok (.istore_n 2, 1) := dk_61 (dk_at dksX3_isWithin_0 1 rfl rfl)
theorem dX3_isWithin_2 : decode cX3_isWithin 2 = .ok (.iload_n 2, 1) := dk_28 (dk_at dksX3_isWithin_0 2 rfl rfl)
theorem dX3_isWithin_3 : decode cX3_isWithin 3 = .ok (.aload_n 0, 1) := dk_42 (dk_at dksX3_isWithin_0 3 rfl rfl)
theorem dX3_isWithin_4 : decode cX3_isWithin 4 = .ok (.getfield 70, 3) := dk_180 0 70 (dk_at dksX3_isWithin_0 4 rfl rfl)
theorem dX3_isWithin_7 : decode cX3_isWithin 7 = .ok (.iload_n 1, 1) := dk_27 (dk_at dksX3_isWithin_0 7 rfl rfl)
theorem dX3_isWithin_8 : decode cX3_isWithin 8 = .ok (.iaload, 1) := dk_46 (dk_at dksX3_isWithin_0 8 rfl rfl)
theorem dX3_isWithin_9 : decode cX3_isWithin 9 = .ok (.if_icmp .ge 66, 3) := dk_162 0 66 (dk_at dksX3_isWithin_0 9 rfl rfl)
theorem dX3_isWithin_12 : decode cX3_isWithin 12 = .ok (.iconst 0, 1) := dk_3 (dk_at dksX3_isWithin_0 12 rfl rfl)
theorem dX3_isWithin_13 : decode cX3_isWithin 13 = .ok (.istore_n 3, 1) := dk_62 (dk_at dksX3_isWithin_0 13 rfl rfl)
theorem dX3_isWithin_14 : decode cX3_isWithin 14 = .ok (.iload_n 3, 1) := dk_29 (dk_at dksX3_isWithin_0 14 rfl rfl)
theorem dX3_isWithin_15 : decode cX3_isWithin 15 = .ok (.iload_n 2, 1) := dk_28 (dk_at dksX3_isWithin_0 15 rfl rfl)
theorem dX3_isWithin_16 : decode cX3_isWithin 16 = .ok (.if_icmp .gt 53, 3) := dk_163 0 53 (dk_at dksX3_isWithin_0 16 rfl rfl)
theorem dX3_isWithin_19 : decode cX3_isWithin 19 = .ok (.aload_n 0, 1) := dk_42 (dk_at dksX3_isWithin_0 19 rfl rfl)
theorem dX3_isWithin_20 : decode cX3_isWithin 20 = .ok (.getfield 64, 3) := dk_180 0 64 (dk_at dksX3_isWithin_0 20 rfl rfl)
theorem dX3_isWithin_23 : decode cX3_isWithin 23 = .ok (.iload_n 1, 1) := dk_27 (dk_at dksX3_isWithin_0 23 rfl rfl)
theorem dX3_isWithin_24 : decode cX3_isWithin 24 = .ok (.iaload, 1) := dk_46 (dk_at dksX3_isWithin_1 0 rfl rfl)
theorem dX3_isWithin_25 : decode cX3_isWithin 25 = .ok (.aload_n 0, 1) := dk_42 (dk_at dksX3_isWithin_1 1 rfl rfl)
theorem dX3_isWithin_26 : decode cX3_isWithin 26 = .ok (.getfield 67, 3) := dk_180 0 67 (dk_at dksX3_isWithin_1 2 rfl rfl)
theorem dX3_isWithin_29 : decode cX3_isWithin 29 = .ok (.iload_n 1, 1) := dk_27 (dk_at dksX3_isWithin_1 5 rfl rfl)
theorem dX3_isWithin_30 : decode cX3_isWithin 30 = .ok (.iaload, 1) := dk_46 (dk_at dksX3_isWithin_1 6 rfl rfl)
theorem dX3_isWithin_31 : decode cX3_isWithin 31 = .ok (.aload_n 0, 1) := dk_42 (dk_at dksX3_isWithin_1 7 rfl rfl)
theorem dX3_isWithin_32 : decode cX3_isWithin 32 = .ok (.getfield 73, 3) := dk_180 0 73 (dk_at dksX3_isWithin_1 8 rfl rfl)
theorem dX3_isWithin_35 : decode cX3_isWithin 35 = .ok (.sipush 200, 3) := dk_17 0 200 (dk_at dksX3_isWithin_1 11 rfl rfl)
theorem dX3_isWithin_38 : decode cX3_isWithin 38 = .ok (.iload_n 1, 1) := dk_27 (dk_at dksX3_isWithin_1 14 rfl rfl)
theorem dX3_isWithin_39 : decode cX3_isWithin 39 = .ok (.imul, 1) := dk_104 (dk_at dksX3_isWithin_1 15 rfl rfl)
theorem dX3_isWithin_40 : decode cX3_isWithin 40 = .ok (.iload_n 2, 1) := dk_28 (dk_at dksX3_isWithin_1 16 rfl rfl)
theorem dX3_isWithin_41 : decode cX3_isWithin 41 = .ok (.iadd, 1) := dk_96 (dk_at dksX3_isWithin_1 17 rfl rfl)
theorem dX3_isWithin_42 : decode cX3_isWithin 42 = .ok (.laload, 1) := dk_47 (dk_at dksX3_isWithin_1 18 rfl rfl)
theorem dX3_isWithin_43 : decode cX3_isWithin 43 = .ok (.aload_n 0, 1) := dk_42 (dk_at dksX3_isWithin_1 19 rfl rfl)
theorem dX3_isWithin_44 : decode cX3_isWithin 44 = .ok (.getfield 73, 3) := dk_180 0 73 (dk_at dksX3_isWithin_1 20 rfl rfl)
theorem dX3_isWithin_47 : decode cX3_isWithin 47 = .ok (.sipush 200, 3) := dk_17 0 200 (dk_at dksX3_isWithin_2 0 rfl rfl)
theorem dX3_isWithin_50 : decode cX3_isWithin 50 = .ok (.iload_n 1, 1) := dk_27 (dk_at dksX3_isWithin_2 3 rfl rfl)
theorem dX3_isWithin_51 : decode cX3_isWithin 51 = .ok (.imul, 1) := dk_104 (dk_at dksX3_isWithin_2 4 rfl rfl)
theorem dX3_isWithin_52 : decode cX3_isWithin 52 = .ok (.iload_n 3, 1) := dk_29 (dk_at dksX3_isWithin_2 5 rfl rfl)
theorem dX3_isWithin_53 : decode cX3_isWithin 53 = .ok (.iadd, 1) := dk_96 (dk_at dksX3_isWithin_2 6 rfl rfl)
theorem dX3_isWithin_54 : decode cX3_isWithin 54 = .ok (.laload, 1) := dk_47 (dk_at dksX3_isWithin_2 7 rfl rfl)
theorem dX3_isWithin_55 : decode cX3_isWithin 55 = .ok (.invokestatic 50, 3) := dk_184 0 50 (dk_at dksX3_isWithin_2 8 rfl rfl)
theorem dX3_isWithin_58 : decode cX3_isWithin 58 = .ok (.ifCond .eq 5, 3) := dk_153 0 5 (dk_at dksX3_isWithin_2 11 rfl rfl)
theorem dX3_isWithin_61 : decode cX3_isWithin 61 = .ok (.iconst 0, 1) := dk_3 (dk_at dksX3_isWithin_2 14 rfl rfl)
theorem dX3_isWithin_62 : decode cX3_isWithin 62 = .ok (.ireturn, 1) := dk_172 (dk_at dksX3_isWithin_2 15 rfl rfl)
theorem dX3_isWithin_63 : decode cX3_isWithin 63 = .ok (.iinc 3 1, 3) := dk_132 3 1 (dk_at dksX3_isWithin_2 16 rfl rfl)
theorem dX3_isWithin_66 : decode cX3_isWithin 66 = .ok (.goto (-52), 3) := dk_167 255 204 (dk_at dksX3_isWithin_2 19 rfl rfl)
theorem dX3_isWithin_69 : decode cX3_isWithin 69 = .ok (.iinc 2 1, 3) := dk_132 2 1 (dk_at dksX3_isWithin_3 0 rfl rfl)
theorem dX3_isWithin_72 : decode cX3_isWithin 72 = .ok (.goto (-70), 3) := dk_167 255 186 (dk_at dksX3_isWithin_3 3 rfl rfl)
theorem dX3_isWithin_75 : decode cX3_isWithin 75 = .ok (.iconst 1, 1) := dk_4 (dk_at dksX3_isWithin_3 6 rfl rfl)
theorem dX3_isWithin_76 : decode cX3_isWithin 76 = .ok (.ireturn, 1) := dk_172 (dk_at dksX3_isWithin_3 7 rfl rfl)
abbrev cX3_clear : ByteArray := prog_11_method_28_code
def yX3_clear : MethodName := ⟨RX3, "clear", "(I)V"⟩
def dkwX3_clear_11 : List UInt8 := [42, 89, 180, 0, 141, 4, 96, 181, 0, 141, 132, 5, 1, 167, 255, 54, 177]
abbrev dktX3_clear_11 : List UInt8 := dkwX3_clear_11 ++ []
def dkwX3_clear_10 : List UInt8 := [184, 0, 148, 184, 0, 42, 80, 132, 9, 1, 167, 255, 191, 42, 180, 0, 80, 42, 180, 0, 141, 21, 5, 79]
abbrev dktX3_clear_10 : List UInt8 := dkwX3_clear_10 ++ dktX3_clear_11
def dkwX3_clear_9 : List UInt8 := [180, 0, 77, 42, 180, 0, 141, 47, 28, 28, 29, 42, 180, 0, 77, 21, 9, 47, 21, 5, 184, 0, 15]
abbrev dktX3_clear_9 : List UInt8 := dkwX3_clear_9 ++ dktX3_clear_10
def dkwX3_clear_8 : List UInt8 := [42, 180, 0, 141, 159, 0, 49, 42, 180, 0, 77, 21, 9, 28, 29, 42, 180, 0, 77, 21, 9, 47, 42]
abbrev dktX3_clear_8 : List UInt8 := dkwX3_clear_8 ++ dktX3_clear_9
def dkwX3_clear_7 : List UInt8 := [21, 5, 184, 0, 15, 184, 0, 144, 184, 0, 42, 80, 3, 54, 9, 21, 9, 21, 4, 162, 0, 64, 21, 9]
abbrev dktX3_clear_7 : List UInt8 := dkwX3_clear_7 ++ dktX3_clear_8
def dkwX3_clear_6 : List UInt8 := [180, 0, 141, 47, 80, 42, 180, 0, 77, 42, 180, 0, 141, 28, 29, 9, 22, 7, 28, 28, 29, 22, 7]
abbrev dktX3_clear_6 : List UInt8 := dkwX3_clear_6 ++ dktX3_clear_7
def dkwX3_clear_5 : List UInt8 := [167, 0, 150, 42, 180, 0, 77, 21, 6, 47, 55, 7, 42, 180, 0, 77, 21, 6, 42, 180, 0, 77, 42]
abbrev dktX3_clear_5 : List UInt8 := dkwX3_clear_5 ++ dktX3_clear_6
def dkwX3_clear_4 : List UInt8 := [47, 21, 5, 184, 0, 15, 154, 0, 9, 132, 6, 1, 167, 255, 229, 21, 6, 21, 4, 160, 0, 6]
abbrev dktX3_clear_4 : List UInt8 := dkwX3_clear_4 ++ dktX3_clear_5
def dkwX3_clear_3 : List UInt8 := [162, 0, 202, 42, 180, 0, 141, 54, 6, 21, 6, 21, 4, 162, 0, 26, 28, 29, 42, 180, 0, 77, 21, 6]
abbrev dktX3_clear_3 : List UInt8 := dkwX3_clear_3 ++ dktX3_clear_4
def dkwX3_clear_2 : List UInt8 := [21, 5, 96, 47, 80, 132, 5, 1, 167, 255, 226, 42, 3, 181, 0, 141, 3, 54, 5, 21, 5, 29]
abbrev dktX3_clear_2 : List UInt8 := dkwX3_clear_2 ++ dktX3_clear_3
def dkwX3_clear_1 : List UInt8 := [54, 5, 21, 5, 21, 4, 162, 0, 29, 42, 180, 0, 77, 21, 5, 42, 180, 0, 73, 17, 0, 200, 27, 104]
abbrev dktX3_clear_1 : List UInt8 := dkwX3_clear_1 ++ dktX3_clear_2
def dkwX3_clear_0 : List UInt8 := [42, 180, 0, 64, 27, 46, 61, 42, 180, 0, 67, 27, 46, 62, 42, 180, 0, 70, 27, 46, 54, 4, 3]
abbrev dktX3_clear_0 : List UInt8 := dkwX3_clear_0 ++ dktX3_clear_1
theorem dksX3_clear_0 : cX3_clear.data.toList.drop 0 = dktX3_clear_0 := by decide +kernel
theorem dksX3_clear_1 : cX3_clear.data.toList.drop 23 = dktX3_clear_1 := dk_seg dksX3_clear_0 23 rfl rfl
theorem dksX3_clear_2 : cX3_clear.data.toList.drop 47 = dktX3_clear_2 := dk_seg dksX3_clear_1 24 rfl rfl
theorem dksX3_clear_3 : cX3_clear.data.toList.drop 69 = dktX3_clear_3 := dk_seg dksX3_clear_2 22 rfl rfl
theorem dksX3_clear_4 : cX3_clear.data.toList.drop 93 = dktX3_clear_4 := dk_seg dksX3_clear_3 24 rfl rfl
theorem dksX3_clear_5 : cX3_clear.data.toList.drop 115 = dktX3_clear_5 := dk_seg dksX3_clear_4 22 rfl rfl
theorem dksX3_clear_6 : cX3_clear.data.toList.drop 138 = dktX3_clear_6 := dk_seg dksX3_clear_5 23 rfl rfl
theorem dksX3_clear_7 : cX3_clear.data.toList.drop 161 = dktX3_clear_7 := dk_seg dksX3_clear_6 23 rfl rfl
theorem dksX3_clear_8 : cX3_clear.data.toList.drop 185 = dktX3_clear_8 := dk_seg dksX3_clear_7 24 rfl rfl
theorem dksX3_clear_9 : cX3_clear.data.toList.drop 208 = dktX3_clear_9 := dk_seg dksX3_clear_8 23 rfl rfl
theorem dksX3_clear_10 : cX3_clear.data.toList.drop 231 = dktX3_clear_10 := dk_seg dksX3_clear_9 23 rfl rfl
theorem dksX3_clear_11 : cX3_clear.data.toList.drop 255 = dktX3_clear_11 := dk_seg dksX3_clear_10 24 rfl rfl
theorem dX3_clear_0 : decode cX3_clear 0 = .ok (.aload_n 0, 1) := dk_42 (dk_at dksX3_clear_0 0 rfl rfl)
theorem dX3_clear_1 : decode cX3_clear 1 = .ok (.getfield 64, 3) := dk_180 0 64 (dk_at dksX3_clear_0 1 rfl rfl)
theorem dX3_clear_4 : decode cX3_clear 4 = .ok (.iload_n 1, 1) := dk_27 (dk_at dksX3_clear_0 4 rfl rfl)
theorem dX3_clear_5 : decode cX3_clear 5 = .ok (.iaload, 1) := dk_46 (dk_at dksX3_clear_0 5 rfl rfl)
theorem dX3_clear_6 : decode cX3_clear 6 = .ok (.istore_n 2, 1) := dk_61 (dk_at dksX3_clear_0 6 rfl rfl)
theorem dX3_clear_7 : decode cX3_clear 7 = .ok (.aload_n 0, 1) := dk_42 (dk_at dksX3_clear_0 7 rfl rfl)
theorem dX3_clear_8 : decode cX3_clear 8 = .ok (.getfield 67, 3) := dk_180 0 67 (dk_at dksX3_clear_0 8 rfl rfl)
theorem dX3_clear_11 : decode cX3_clear 11 = .ok (.iload_n 1, 1) := dk_27 (dk_at dksX3_clear_0 11 rfl rfl)
theorem dX3_clear_12 : decode cX3_clear 12 = .ok (.iaload, 1) := dk_46 (dk_at dksX3_clear_0 12 rfl rfl)
theorem dX3_clear_13 : decode cX3_clear 13 = .ok (.istore_n 3, 1) := dk_62 (dk_at dksX3_clear_0 13 rfl rfl)
theorem dX3_clear_14 : decode cX3_clear 14 = .ok (.aload_n 0, 1) := dk_42 (dk_at dksX3_clear_0 14 rfl rfl)
theorem dX3_clear_15 : decode cX3_clear 15 = .ok (.getfield 70, 3) := dk_180 0 70 (dk_at dksX3_clear_0 15 rfl rfl)
theorem dX3_clear_18 : decode cX3_clear 18 = .ok (.iload_n 1, 1) := dk_27 (dk_at dksX3_clear_0 18 rfl rfl)
theorem dX3_clear_19 : decode cX3_clear 19 = .ok (.iaload, 1) := dk_46 (dk_at dksX3_clear_0 19 rfl rfl)
theorem dX3_clear_20 : decode cX3_clear 20 = .ok (.istore 4, 2) := dk_54 4 (dk_at dksX3_clear_0 20 rfl rfl)
theorem dX3_clear_22 : decode cX3_clear 22 = .ok (.iconst 0, 1) := dk_3 (dk_at dksX3_clear_0 22 rfl rfl)
theorem dX3_clear_23 : decode cX3_clear 23 = .ok (.istore 5, 2) := dk_54 5 (dk_at dksX3_clear_1 0 rfl rfl)
theorem dX3_clear_25 : decode cX3_clear 25 = .ok (.iload 5, 2) := dk_21 5 (dk_at dksX3_clear_1 2 rfl rfl)
theorem dX3_clear_27 : decode cX3_clear 27 = .ok (.iload 4, 2) := dk_21 4 (dk_at dksX3_clear_1 4 rfl rfl)
theorem dX3_clear_29 : decode cX3_clear 29 = .ok (.if_icmp .ge 29, 3) := dk_162 0 29 (dk_at dksX3_clear_1 6 rfl rfl)
theorem dX3_clear_32 : decode cX3_clear 32 = .ok (.aload_n 0, 1) := dk_42 (dk_at dksX3_clear_1 9 rfl rfl)
theorem dX3_clear_33 : decode cX3_clear 33 = .ok (.getfield 77, 3) := dk_180 0 77 (dk_at dksX3_clear_1 10 rfl rfl)
theorem dX3_clear_36 : decode cX3_clear 36 = .ok (.iload 5, 2) := dk_21 5 (dk_at dksX3_clear_1 13 rfl rfl)
theorem dX3_clear_38 : decode cX3_clear 38 = .ok (.aload_n 0, 1) := dk_42 (dk_at dksX3_clear_1 15 rfl rfl)
theorem dX3_clear_39 : decode cX3_clear 39 = .ok (.getfield 73, 3) := dk_180 0 73 (dk_at dksX3_clear_1 16 rfl rfl)
theorem dX3_clear_42 : decode cX3_clear 42 = .ok (.sipush 200, 3) := dk_17 0 200 (dk_at dksX3_clear_1 19 rfl rfl)
theorem dX3_clear_45 : decode cX3_clear 45 = .ok (.iload_n 1, 1) := dk_27 (dk_at dksX3_clear_1 22 rfl rfl)
theorem dX3_clear_46 : decode cX3_clear 46 = .ok (.imul, 1) := dk_104 (dk_at dksX3_clear_1 23 rfl rfl)
theorem dX3_clear_47 : decode cX3_clear 47 = .ok (.iload 5, 2) := dk_21 5 (dk_at dksX3_clear_2 0 rfl rfl)
theorem dX3_clear_49 : decode cX3_clear 49 = .ok (.iadd, 1) := dk_96 (dk_at dksX3_clear_2 2 rfl rfl)
theorem dX3_clear_50 : decode cX3_clear 50 = .ok (.laload, 1) := dk_47 (dk_at dksX3_clear_2 3 rfl rfl)
theorem dX3_clear_51 : decode cX3_clear 51 = .ok (.lastore, 1) := dk_80 (dk_at dksX3_clear_2 4 rfl rfl)
theorem dX3_clear_52 : decode cX3_clear 52 = .ok (.iinc 5 1, 3) := dk_132 5 1 (dk_at dksX3_clear_2 5 rfl rfl)
theorem dX3_clear_55 : decode cX3_clear 55 = .ok (.goto (-30), 3) := dk_167 255 226 (dk_at dksX3_clear_2 8 rfl rfl)
theorem dX3_clear_58 : decode cX3_clear 58 = .ok (.aload_n 0, 1) := dk_42 (dk_at dksX3_clear_2 11 rfl rfl)
theorem dX3_clear_59 : decode cX3_clear 59 = .ok (.iconst 0, 1) := dk_3 (dk_at dksX3_clear_2 12 rfl rfl)
theorem dX3_clear_60 : decode cX3_clear 60 = .ok (.putfield 141, 3) := dk_181 0 141 (dk_at dksX3_clear_2 13 rfl rfl)
theorem dX3_clear_63 : decode cX3_clear 63 = .ok (.iconst 0, 1) := dk_3 (dk_at dksX3_clear_2 16 rfl rfl)
theorem dX3_clear_64 : decode cX3_clear 64 = .ok (.istore 5, 2) := dk_54 5 (dk_at dksX3_clear_2 17 rfl rfl)
theorem dX3_clear_66 : decode cX3_clear 66 = .ok (.iload 5, 2) := dk_21 5 (dk_at dksX3_clear_2 19 rfl rfl)
theorem dX3_clear_68 : decode cX3_clear 68 = .ok (.iload_n 3, 1) := dk_29 (dk_at dksX3_clear_2 21 rfl rfl)
theorem dX3_clear_69 : decode cX3_clear 69 = .ok (.if_icmp .ge 202, 3) := dk_162 0 202 (dk_at dksX3_clear_3 0 rfl rfl)
theorem dX3_clear_72 : decode cX3_clear 72 = .ok (.aload_n 0, 1) := dk_42 (dk_at dksX3_clear_3 3 rfl rfl)
theorem dX3_clear_73 : decode cX3_clear 73 = .ok (.getfield 141, 3) := dk_180 0 141 (dk_at dksX3_clear_3 4 rfl rfl)
theorem dX3_clear_76 : decode cX3_clear 76 = .ok (.istore 6, 2) := dk_54 6 (dk_at dksX3_clear_3 7 rfl rfl)
theorem dX3_clear_78 : decode cX3_clear 78 = .ok (.iload 6, 2) := dk_21 6 (dk_at dksX3_clear_3 9 rfl rfl)
theorem dX3_clear_80 : decode cX3_clear 80 = .ok (.iload 4, 2) := dk_21 4 (dk_at dksX3_clear_3 11 rfl rfl)
theorem dX3_clear_82 : decode cX3_clear 82 = .ok (.if_icmp .ge 26, 3) := dk_162 0 26 (dk_at dksX3_clear_3 13 rfl rfl)
theorem dX3_clear_85 : decode cX3_clear 85 = .ok (.iload_n 2, 1) := dk_28 (dk_at dksX3_clear_3 16 rfl rfl)
theorem dX3_clear_86 : decode cX3_clear 86 = .ok (.iload_n 3, 1) := dk_29 (dk_at dksX3_clear_3 17 rfl rfl)
theorem dX3_clear_87 : decode cX3_clear 87 = .ok (.aload_n 0, 1) := dk_42 (dk_at dksX3_clear_3 18 rfl rfl)
theorem dX3_clear_88 : decode cX3_clear 88 = .ok (.getfield 77, 3) := dk_180 0 77 (dk_at dksX3_clear_3 19 rfl rfl)
theorem dX3_clear_91 : decode cX3_clear 91 = .ok (.iload 6, 2) := dk_21 6 (dk_at dksX3_clear_3 22 rfl rfl)
theorem dX3_clear_93 : decode cX3_clear 93 = .ok (.laload, 1) := dk_47 (dk_at dksX3_clear_4 0 rfl rfl)
theorem dX3_clear_94 : decode cX3_clear 94 = .ok (.iload 5, 2) := dk_21 5 (dk_at dksX3_clear_4 1 rfl rfl)
theorem dX3_clear_96 : decode cX3_clear 96 = .ok (.invokestatic 15, 3) := dk_184 0 15 (dk_at dksX3_clear_4 3 rfl rfl)
theorem dX3_clear_99 : decode cX3_clear 99 = .ok (.ifCond .ne 9, 3) := dk_154 0 9 (dk_at dksX3_clear_4 6 rfl rfl)
theorem dX3_clear_102 : decode cX3_clear 102 = .ok (.iinc 6 1, 3) := dk_132 6 1 (dk_at dksX3_clear_4 9 rfl rfl)
theorem dX3_clear_105 : decode cX3_clear 105 = .ok (.goto (-27), 3) := dk_167 255 229 (dk_at dksX3_clear_4 12 rfl rfl)
theorem dX3_clear_108 : decode cX3_clear 108 = .ok (.iload 6, 2) := dk_21 6 (dk_at dksX3_clear_4 15 rfl rfl)
theorem dX3_clear_110 : decode cX3_clear 110 = .ok (.iload 4, 2) := dk_21 4 (dk_at dksX3_clear_4 17 rfl rfl)
theorem dX3_clear_112 : decode cX3_clear 112 = .ok (.if_icmp .ne 6, 3) := dk_160 0 6 (dk_at dksX3_clear_4 19 rfl rfl)
theorem dX3_clear_115 : decode cX3_clear 115 = .ok (.goto 150, 3) := dk_167 0 150 (dk_at dksX3_clear_5 0 rfl rfl)
theorem dX3_clear_118 : decode cX3_clear 118 = .ok (.aload_n 0, 1) := dk_42 (dk_at dksX3_clear_5 3 rfl rfl)
theorem dX3_clear_119 : decode cX3_clear 119 = .ok (.getfield 77, 3) := dk_180 0 77 (dk_at dksX3_clear_5 4 rfl rfl)
theorem dX3_clear_122 : decode cX3_clear 122 = .ok (.iload 6, 2) := dk_21 6 (dk_at dksX3_clear_5 7 rfl rfl)
theorem dX3_clear_124 : decode cX3_clear 124 = .ok (.laload, 1) := dk_47 (dk_at dksX3_clear_5 9 rfl rfl)
theorem dX3_clear_125 : decode cX3_clear 125 = .ok (.lstore 7, 2) := dk_55 7 (dk_at dksX3_clear_5 10 rfl rfl)
theorem dX3_clear_127 : decode cX3_clear 127 = .ok (.aload_n 0, 1) := dk_42 (dk_at dksX3_clear_5 12 rfl rfl)
theorem dX3_clear_128 : decode cX3_clear 128 = .ok (.getfield 77, 3) := dk_180 0 77 (dk_at dksX3_clear_5 13 rfl rfl)
theorem dX3_clear_131 : decode cX3_clear 131 = .ok (.iload 6, 2) := dk_21 6 (dk_at dksX3_clear_5 16 rfl rfl)
theorem dX3_clear_133 : decode cX3_clear 133 = .ok (.aload_n 0, 1) := dk_42 (dk_at dksX3_clear_5 18 rfl rfl)
theorem dX3_clear_134 : decode cX3_clear 134 = .ok (.getfield 77, 3) := dk_180 0 77 (dk_at dksX3_clear_5 19 rfl rfl)
theorem dX3_clear_137 : decode cX3_clear 137 = .ok (.aload_n 0, 1) := dk_42 (dk_at dksX3_clear_5 22 rfl rfl)
theorem dX3_clear_138 : decode cX3_clear 138 = .ok (.getfield 141, 3) := dk_180 0 141 (dk_at dksX3_clear_6 0 rfl rfl)
theorem dX3_clear_141 : decode cX3_clear 141 = .ok (.laload, 1) := dk_47 (dk_at dksX3_clear_6 3 rfl rfl)
theorem dX3_clear_142 : decode cX3_clear 142 = .ok (.lastore, 1) := dk_80 (dk_at dksX3_clear_6 4 rfl rfl)
theorem dX3_clear_143 : decode cX3_clear 143 = .ok (.aload_n 0, 1) := dk_42 (dk_at dksX3_clear_6 5 rfl rfl)
theorem dX3_clear_144 : decode cX3_clear 144 = .ok (.getfield 77, 3) := dk_180 0 77 (dk_at dksX3_clear_6 6 rfl rfl)
theorem dX3_clear_147 : decode cX3_clear 147 = .ok (.aload_n 0, 1) := dk_42 (dk_at dksX3_clear_6 9 rfl rfl)
theorem dX3_clear_148 : decode cX3_clear 148 = .ok (.getfield 141, 3) := dk_180 0 141 (dk_at dksX3_clear_6 10 rfl rfl)
theorem dX3_clear_151 : decode cX3_clear 151 = .ok (.iload_n 2, 1) := dk_28 (dk_at dksX3_clear_6 13 rfl rfl)
theorem dX3_clear_152 : decode cX3_clear 152 = .ok (.iload_n 3, 1) := dk_29 (dk_at dksX3_clear_6 14 rfl rfl)
theorem dX3_clear_153 : decode cX3_clear 153 = .ok (.lconst 0, 1) := dk_9 (dk_at dksX3_clear_6 15 rfl rfl)
theorem dX3_clear_154 : decode cX3_clear 154 = .ok (.lload 7, 2) := dk_22 7 (dk_at dksX3_clear_6 16 rfl rfl)
theorem dX3_clear_156 : decode cX3_clear 156 = .ok (.iload_n 2, 1) := dk_28 (dk_at dksX3_clear_6 18 rfl rfl)
theorem dX3_clear_157 : decode cX3_clear 157 = .ok (.iload_n 2, 1) := dk_28 (dk_at dksX3_clear_6 19 rfl rfl)
theorem dX3_clear_158 : decode cX3_clear 158 = .ok (.iload_n 3, 1) := dk_29 (dk_at dksX3_clear_6 20 rfl rfl)
theorem dX3_clear_159 : decode cX3_clear 159 = .ok (.lload 7, 2) := dk_22 7 (dk_at dksX3_clear_6 21 rfl rfl)
theorem dX3_clear_161 : decode cX3_clear 161 = .ok (.iload 5, 2) := dk_21 5 (dk_at dksX3_clear_7 0 rfl rfl)
theorem dX3_clear_163 : decode cX3_clear 163 = .ok (.invokestatic 15, 3) := dk_184 0 15 (dk_at dksX3_clear_7 2 rfl rfl)
theorem dX3_clear_166 : decode cX3_clear 166 = .ok (.invokestatic 144, 3) := dk_184 0 144 (dk_at dksX3_clear_7 5 rfl rfl)
theorem dX3_clear_169 : decode cX3_clear 169 = .ok (.invokestatic 42, 3) := dk_184 0 42 (dk_at dksX3_clear_7 8 rfl rfl)
theorem dX3_clear_172 : decode cX3_clear 172 = .ok (.lastore, 1) := dk_80 (dk_at dksX3_clear_7 11 rfl rfl)
theorem dX3_clear_173 : decode cX3_clear 173 = .ok (.iconst 0, 1) := dk_3 (dk_at dksX3_clear_7 12 rfl rfl)
theorem dX3_clear_174 : decode cX3_clear 174 = .ok (.istore 9, 2) := dk_54 9 (dk_at dksX3_clear_7 13 rfl rfl)
theorem dX3_clear_176 : decode cX3_clear 176 = .ok (.iload 9, 2) := dk_21 9 (dk_at dksX3_clear_7 15 rfl rfl)
theorem dX3_clear_178 : decode cX3_clear 178 = .ok (.iload 4, 2) := dk_21 4 (dk_at dksX3_clear_7 17 rfl rfl)
theorem dX3_clear_180 : decode cX3_clear 180 = .ok (.if_icmp .ge 64, 3) := dk_162 0 64 (dk_at dksX3_clear_7 19 rfl rfl)
theorem dX3_clear_183 : decode cX3_clear 183 = .ok (.iload 9, 2) := dk_21 9 (dk_at dksX3_clear_7 22 rfl rfl)
theorem dX3_clear_185 : decode cX3_clear 185 = .ok (.aload_n 0, 1) := dk_42 (dk_at dksX3_clear_8 0 rfl rfl)
theorem dX3_clear_186 : decode cX3_clear 186 = .ok (.getfield 141, 3) := dk_180 0 141 (dk_at dksX3_clear_8 1 rfl rfl)
theorem dX3_clear_189 : decode cX3_clear 189 = .ok (.if_icmp .eq 49, 3) := dk_159 0 49 (dk_at dksX3_clear_8 4 rfl rfl)
theorem dX3_clear_192 : decode cX3_clear 192 = .ok (.aload_n 0, 1) := dk_42 (dk_at dksX3_clear_8 7 rfl rfl)
theorem dX3_clear_193 : decode cX3_clear 193 = .ok (.getfield 77, 3) := dk_180 0 77 (dk_at dksX3_clear_8 8 rfl rfl)
theorem dX3_clear_196 : decode cX3_clear 196 = .ok (.iload 9, 2) := dk_21 9 (dk_at dksX3_clear_8 11 rfl rfl)
theorem dX3_clear_198 : decode cX3_clear 198 = .ok (.iload_n 2, 1) := dk_28 (dk_at dksX3_clear_8 13 rfl rfl)
theorem dX3_clear_199 : decode cX3_clear 199 = .ok (.iload_n 3, 1) := dk_29 (dk_at dksX3_clear_8 14 rfl rfl)
theorem dX3_clear_200 : decode cX3_clear 200 = .ok (.aload_n 0, 1) := dk_42 (dk_at dksX3_clear_8 15 rfl rfl)
theorem dX3_clear_201 : decode cX3_clear 201 = .ok (.getfield 77, 3) := dk_180 0 77 (dk_at dksX3_clear_8 16 rfl rfl)
theorem dX3_clear_204 : decode cX3_clear 204 = .ok (.iload 9, 2) := dk_21 9 (dk_at dksX3_clear_8 19 rfl rfl)
theorem dX3_clear_206 : decode cX3_clear 206 = .ok (.laload, 1) := dk_47 (dk_at dksX3_clear_8 21 rfl rfl)
theorem dX3_clear_207 : decode cX3_clear 207 = .ok (.aload_n 0, 1) := dk_42 (dk_at dksX3_clear_8 22 rfl rfl)
theorem dX3_clear_208 : decode cX3_clear 208 = .ok (.getfield 77, 3) := dk_180 0 77 (dk_at dksX3_clear_9 0 rfl rfl)
theorem dX3_clear_211 : decode cX3_clear 211 = .ok (.aload_n 0, 1) := dk_42 (dk_at dksX3_clear_9 3 rfl rfl)
theorem dX3_clear_212 : decode cX3_clear 212 = .ok (.getfield 141, 3) := dk_180 0 141 (dk_at dksX3_clear_9 4 rfl rfl)
theorem dX3_clear_215 : decode cX3_clear 215 = .ok (.laload, 1) := dk_47 (dk_at dksX3_clear_9 7 rfl rfl)
theorem dX3_clear_216 : decode cX3_clear 216 = .ok (.iload_n 2, 1) := dk_28 (dk_at dksX3_clear_9 8 rfl rfl)
theorem dX3_clear_217 : decode cX3_clear 217 = .ok (.iload_n 2, 1) := dk_28 (dk_at dksX3_clear_9 9 rfl rfl)
theorem dX3_clear_218 : decode cX3_clear 218 = .ok (.iload_n 3, 1) := dk_29 (dk_at dksX3_clear_9 10 rfl rfl)
theorem dX3_clear_219 : decode cX3_clear 219 = .ok (.aload_n 0, 1) := dk_42 (dk_at dksX3_clear_9 11 rfl rfl)
theorem dX3_clear_220 : decode cX3_clear 220 = .ok (.getfield 77, 3) := dk_180 0 77 (dk_at dksX3_clear_9 12 rfl rfl)
theorem dX3_clear_223 : decode cX3_clear 223 = .ok (.iload 9, 2) := dk_21 9 (dk_at dksX3_clear_9 15 rfl rfl)
theorem dX3_clear_225 : decode cX3_clear 225 = .ok (.laload, 1) := dk_47 (dk_at dksX3_clear_9 17 rfl rfl)
theorem dX3_clear_226 : decode cX3_clear 226 = .ok (.iload 5, 2) := dk_21 5 (dk_at dksX3_clear_9 18 rfl rfl)
theorem dX3_clear_228 : decode cX3_clear 228 = .ok (.invokestatic 15, 3) := dk_184 0 15 (dk_at dksX3_clear_9 20 rfl rfl)
theorem dX3_clear_231 : decode cX3_clear 231 = .ok (.invokestatic 148, 3) := dk_184 0 148 (dk_at dksX3_clear_10 0 rfl rfl)
theorem dX3_clear_234 : decode cX3_clear 234 = .ok (.invokestatic 42, 3) := dk_184 0 42 (dk_at dksX3_clear_10 3 rfl rfl)
theorem dX3_clear_237 : decode cX3_clear 237 = .ok (.lastore, 1) := dk_80 (dk_at dksX3_clear_10 6 rfl rfl)
theorem dX3_clear_238 : decode cX3_clear 238 = .ok (.iinc 9 1, 3) := dk_132 9 1 (dk_at dksX3_clear_10 7 rfl rfl)
theorem dX3_clear_241 : decode cX3_clear 241 = .ok (.goto (-65), 3) := dk_167 255 191 (dk_at dksX3_clear_10 10 rfl rfl)
theorem dX3_clear_244 : decode cX3_clear 244 = .ok (.aload_n 0, 1) := dk_42 (dk_at dksX3_clear_10 13 rfl rfl)
theorem dX3_clear_245 : decode cX3_clear 245 = .ok (.getfield 80, 3) := dk_180 0 80 (dk_at dksX3_clear_10 14 rfl rfl)
theorem dX3_clear_248 : decode cX3_clear 248 = .ok (.aload_n 0, 1) := dk_42 (dk_at dksX3_clear_10 17 rfl rfl)
theorem dX3_clear_249 : decode cX3_clear 249 = .ok (.getfield 141, 3) := dk_180 0 141 (dk_at dksX3_clear_10 18 rfl rfl)
theorem dX3_clear_252 : decode cX3_clear 252 = .ok (.iload 5, 2) := dk_21 5 (dk_at dksX3_clear_10 21 rfl rfl)
theorem dX3_clear_254 : decode cX3_clear 254 = .ok (.iastore, 1) := dk_79 (dk_at dksX3_clear_10 23 rfl rfl)
theorem dX3_clear_255 : decode cX3_clear 255 = .ok (.aload_n 0, 1) := dk_42 (dk_at dksX3_clear_11 0 rfl rfl)
theorem dX3_clear_256 : decode cX3_clear 256 = .ok (.dup, 1) := dk_89 (dk_at dksX3_clear_11 1 rfl rfl)
theorem dX3_clear_257 : decode cX3_clear 257 = .ok (.getfield 141, 3) := dk_180 0 141 (dk_at dksX3_clear_11 2 rfl rfl)
theorem dX3_clear_260 : decode cX3_clear 260 = .ok (.iconst 1, 1) := dk_4 (dk_at dksX3_clear_11 5 rfl rfl)
theorem dX3_clear_261 : decode cX3_clear 261 = .ok (.iadd, 1) := dk_96 (dk_at dksX3_clear_11 6 rfl rfl)
theorem dX3_clear_262 : decode cX3_clear 262 = .ok (.putfield 141, 3) := dk_181 0 141 (dk_at dksX3_clear_11 7 rfl rfl)
theorem dX3_clear_265 : decode cX3_clear 265 = .ok (.iinc 5 1, 3) := dk_132 5 1 (dk_at dksX3_clear_11 10 rfl rfl)
theorem dX3_clear_268 : decode cX3_clear 268 = .ok (.goto (-202), 3) := dk_167 255 54 (dk_at dksX3_clear_11 13 rfl rfl)
theorem dX3_clear_271 : decode cX3_clear 271 = .ok (.return_, 1) := dk_177 (dk_at dksX3_clear_11 16 rfl rfl)
abbrev cX3_inverse : ByteArray := prog_11_method_6_code
def yX3_inverse : MethodName := ⟨RX3, "inverse", "(II)I"⟩
def dkwX3_inverse_0 : List UInt8 := [4, 61, 26, 27, 28, 184, 0, 7, 4, 159, 0, 9, 132, 2, 1, 167, 255, 243, 28, 172]
abbrev dktX3_inverse_0 : List UInt8 := dkwX3_inverse_0 ++ []
theorem dksX3_inverse_0 : cX3_inverse.data.toList.drop 0 = dktX3_inverse_0 := by decide +kernel
theorem dX3_inverse_0 : decode cX3_inverse 0 = .ok (.iconst 1, 1) := dk_4 (dk_at dksX3_inverse_0 0 rfl rfl)
theorem dX3_inverse_1 : decode cX3_inverse 1 = .ok (.istore_n 2, 1) := dk_61 (dk_at dksX3_inverse_0 1 rfl rfl)
theorem dX3_inverse_2 : decode cX3_inverse 2 = .ok (.iload_n 0, 1) := dk_26 (dk_at dksX3_inverse_0 2 rfl rfl)
theorem dX3_inverse_3 : decode cX3_inverse 3 = .ok (.iload_n 1, 1) := dk_27 (dk_at dksX3_inverse_0 3 rfl rfl)
theorem dX3_inverse_4 : decode cX3_inverse 4 = .ok (.iload_n 2, 1) := dk_28 (dk_at dksX3_inverse_0 4 rfl rfl)
theorem dX3_inverse_5 : decode cX3_inverse 5 = .ok (.invokestatic 7, 3) := dk_184 0 7 (dk_at dksX3_inverse_0 5 rfl rfl)
theorem dX3_inverse_8 : decode cX3_inverse 8 = .ok (.iconst 1, 1) := dk_4 (dk_at dksX3_inverse_0 8 rfl rfl)
theorem dX3_inverse_9 : decode cX3_inverse 9 = .ok (.if_icmp .eq 9, 3) := dk_159 0 9 (dk_at dksX3_inverse_0 9 rfl rfl)
theorem dX3_inverse_12 : decode cX3_inverse 12 = .ok (.iinc 2 1, 3) := dk_132 2 1 (dk_at dksX3_inverse_0 12 rfl rfl)
theorem dX3_inverse_15 : decode cX3_inverse 15 = .ok (.goto (-13), 3) := dk_167 255 243 (dk_at dksX3_inverse_0 15 rfl rfl)
theorem dX3_inverse_18 : decode cX3_inverse 18 = .ok (.iload_n 2, 1) := dk_28 (dk_at dksX3_inverse_0 18 rfl rfl)
theorem dX3_inverse_19 : decode cX3_inverse 19 = .ok (.ireturn, 1) := dk_172 (dk_at dksX3_inverse_0 19 rfl rfl)
abbrev cX3_minus : ByteArray := prog_11_method_5_code
def yX3_minus : MethodName := ⟨RX3, "minus", "(II)I"⟩
def dkwX3_minus_0 : List UInt8 := [26, 7, 160, 0, 7, 27, 167, 0, 8, 26, 27, 100, 26, 112, 172]
abbrev dktX3_minus_0 : List UInt8 := dkwX3_minus_0 ++ []
theorem dksX3_minus_0 : cX3_minus.data.toList.drop 0 = dktX3_minus_0 := by decide +kernel
theorem dX3_minus_0 : decode cX3_minus 0 = .ok (.iload_n 0, 1) := dk_26 (dk_at dksX3_minus_0 0 rfl rfl)
theorem dX3_minus_1 : decode cX3_minus 1 = .ok (.iconst 4, 1) := dk_7 (dk_at dksX3_minus_0 1 rfl rfl)
theorem dX3_minus_2 : decode cX3_minus 2 = .ok (.if_icmp .ne 7, 3) := dk_160 0 7 (dk_at dksX3_minus_0 2 rfl rfl)
theorem dX3_minus_5 : decode cX3_minus 5 = .ok (.iload_n 1, 1) := dk_27 (dk_at dksX3_minus_0 5 rfl rfl)
theorem dX3_minus_6 : decode cX3_minus 6 = .ok (.goto 8, 3) := dk_167 0 8 (dk_at dksX3_minus_0 6 rfl rfl)
theorem dX3_minus_9 : decode cX3_minus 9 = .ok (.iload_n 0, 1) := dk_26 (dk_at dksX3_minus_0 9 rfl rfl)
theorem dX3_minus_10 : decode cX3_minus 10 = .ok (.iload_n 1, 1) := dk_27 (dk_at dksX3_minus_0 10 rfl rfl)
theorem dX3_minus_11 : decode cX3_minus 11 = .ok (.isub, 1) := dk_100 (dk_at dksX3_minus_0 11 rfl rfl)
theorem dX3_minus_12 : decode cX3_minus 12 = .ok (.iload_n 0, 1) := dk_26 (dk_at dksX3_minus_0 12 rfl rfl)
theorem dX3_minus_13 : decode cX3_minus 13 = .ok (.irem, 1) := dk_112 (dk_at dksX3_minus_0 13 rfl rfl)
theorem dX3_minus_14 : decode cX3_minus 14 = .ok (.ireturn, 1) := dk_172 (dk_at dksX3_minus_0 14 rfl rfl)
abbrev cX3_word : ByteArray := prog_11_method_31_code
def yX3_word : MethodName := ⟨RX3, "word", "(II)J"⟩
def dkwX3_word_2 : List UInt8 := [180, 0, 1, 158, 0, 7, 9, 167, 0, 15, 42, 180, 0, 73, 17, 0, 200, 27, 104, 28, 96, 47, 173]
abbrev dktX3_word_2 : List UInt8 := dkwX3_word_2 ++ []
def dkwX3_word_1 : List UInt8 := [180, 0, 70, 27, 46, 4, 100, 133, 184, 0, 26, 154, 0, 7, 5, 167, 0, 4, 3, 181, 0, 1, 42]
abbrev dktX3_word_1 : List UInt8 := dkwX3_word_1 ++ dktX3_word_2
def dkwX3_word_0 : List UInt8 := [42, 27, 184, 0, 119, 154, 0, 7, 4, 167, 0, 34, 42, 27, 182, 0, 127, 154, 0, 21, 28, 133, 9, 42]
abbrev dktX3_word_0 : List UInt8 := dkwX3_word_0 ++ dktX3_word_1
theorem dksX3_word_0 : cX3_word.data.toList.drop 0 = dktX3_word_0 := by decide +kernel
theorem dksX3_word_1 : cX3_word.data.toList.drop 24 = dktX3_word_1 := dk_seg dksX3_word_0 24 rfl rfl
theorem dksX3_word_2 : cX3_word.data.toList.drop 47 = dktX3_word_2 := dk_seg dksX3_word_1 23 rfl rfl
theorem dX3_word_0 : decode cX3_word 0 = .ok (.aload_n 0, 1) := dk_42 (dk_at dksX3_word_0 0 rfl rfl)
theorem dX3_word_1 : decode cX3_word 1 = .ok (.iload_n 1, 1) := dk_27 (dk_at dksX3_word_0 1 rfl rfl)
theorem dX3_word_2 : decode cX3_word 2 = .ok (.invokestatic 119, 3) := dk_184 0 119 (dk_at dksX3_word_0 2 rfl rfl)
theorem dX3_word_5 : decode cX3_word 5 = .ok (.ifCond .ne 7, 3) := dk_154 0 7 (dk_at dksX3_word_0 5 rfl rfl)
theorem dX3_word_8 : decode cX3_word 8 = .ok (.iconst 1, 1) := dk_4 (dk_at dksX3_word_0 8 rfl rfl)
theorem dX3_word_9 : decode cX3_word 9 = .ok (.goto 34, 3) := dk_167 0 34 (dk_at dksX3_word_0 9 rfl rfl)
theorem dX3_word_12 : decode cX3_word 12 = .ok (.aload_n 0, 1) := dk_42 (dk_at dksX3_word_0 12 rfl rfl)
theorem dX3_word_13 : decode cX3_word 13 = .ok (.iload_n 1, 1) := dk_27 (dk_at dksX3_word_0 13 rfl rfl)
theorem dX3_word_14 : decode cX3_word 14 = .ok (.invokevirtual 127, 3) := dk_182 0 127 (dk_at dksX3_word_0 14 rfl rfl)
theorem dX3_word_17 : decode cX3_word 17 = .ok (.ifCond .ne 21, 3) := dk_154 0 21 (dk_at dksX3_word_0 17 rfl rfl)
theorem dX3_word_20 : decode cX3_word 20 = .ok (.iload_n 2, 1) := dk_28 (dk_at dksX3_word_0 20 rfl rfl)
theorem dX3_word_21 : decode cX3_word 21 = .ok (.i2l, 1) := dk_133 (dk_at dksX3_word_0 21 rfl rfl)
theorem dX3_word_22 : decode cX3_word 22 = .ok (.lconst 0, 1) := dk_9 (dk_at dksX3_word_0 22 rfl rfl)
theorem dX3_word_23 : decode cX3_word 23 = .ok (.aload_n 0, 1) := dk_42 (dk_at dksX3_word_0 23 rfl rfl)
theorem dX3_word_24 : decode cX3_word 24 = .ok (.getfield 70, 3) := dk_180 0 70 (dk_at dksX3_word_1 0 rfl rfl)
theorem dX3_word_27 : decode cX3_word 27 = .ok (.iload_n 1, 1) := dk_27 (dk_at dksX3_word_1 3 rfl rfl)
theorem dX3_word_28 : decode cX3_word 28 = .ok (.iaload, 1) := dk_46 (dk_at dksX3_word_1 4 rfl rfl)
theorem dX3_word_29 : decode cX3_word 29 = .ok (.iconst 1, 1) := dk_4 (dk_at dksX3_word_1 5 rfl rfl)
theorem dX3_word_30 : decode cX3_word 30 = .ok (.isub, 1) := dk_100 (dk_at dksX3_word_1 6 rfl rfl)
theorem dX3_word_31 : decode cX3_word 31 = .ok (.i2l, 1) := dk_133 (dk_at dksX3_word_1 7 rfl rfl)
theorem dX3_word_32 : decode cX3_word 32 = .ok (.invokestatic 26, 3) := dk_184 0 26 (dk_at dksX3_word_1 8 rfl rfl)
theorem dX3_word_35 : decode cX3_word 35 = .ok (.ifCond .ne 7, 3) := dk_154 0 7 (dk_at dksX3_word_1 11 rfl rfl)
theorem dX3_word_38 : decode cX3_word 38 = .ok (.iconst 2, 1) := dk_5 (dk_at dksX3_word_1 14 rfl rfl)
theorem dX3_word_39 : decode cX3_word 39 = .ok (.goto 4, 3) := dk_167 0 4 (dk_at dksX3_word_1 15 rfl rfl)
theorem dX3_word_42 : decode cX3_word 42 = .ok (.iconst 0, 1) := dk_3 (dk_at dksX3_word_1 18 rfl rfl)
theorem dX3_word_43 : decode cX3_word 43 = .ok (.putfield 1, 3) := dk_181 0 1 (dk_at dksX3_word_1 19 rfl rfl)
theorem dX3_word_46 : decode cX3_word 46 = .ok (.aload_n 0, 1) := dk_42 (dk_at dksX3_word_1 22 rfl rfl)
theorem dX3_word_47 : decode cX3_word 47 = .ok (.getfield 1, 3) := dk_180 0 1 (dk_at dksX3_word_2 0 rfl rfl)
theorem dX3_word_50 : decode cX3_word 50 = .ok (.ifCond .le 7, 3) := dk_158 0 7 (dk_at dksX3_word_2 3 rfl rfl)
theorem dX3_word_53 : decode cX3_word 53 = .ok (.lconst 0, 1) := dk_9 (dk_at dksX3_word_2 6 rfl rfl)
theorem dX3_word_54 : decode cX3_word 54 = .ok (.goto 15, 3) := dk_167 0 15 (dk_at dksX3_word_2 7 rfl rfl)
theorem dX3_word_57 : decode cX3_word 57 = .ok (.aload_n 0, 1) := dk_42 (dk_at dksX3_word_2 10 rfl rfl)
theorem dX3_word_58 : decode cX3_word 58 = .ok (.getfield 73, 3) := dk_180 0 73 (dk_at dksX3_word_2 11 rfl rfl)
theorem dX3_word_61 : decode cX3_word 61 = .ok (.sipush 200, 3) := dk_17 0 200 (dk_at dksX3_word_2 14 rfl rfl)
theorem dX3_word_64 : decode cX3_word 64 = .ok (.iload_n 1, 1) := dk_27 (dk_at dksX3_word_2 17 rfl rfl)
theorem dX3_word_65 : decode cX3_word 65 = .ok (.imul, 1) := dk_104 (dk_at dksX3_word_2 18 rfl rfl)
theorem dX3_word_66 : decode cX3_word 66 = .ok (.iload_n 2, 1) := dk_28 (dk_at dksX3_word_2 19 rfl rfl)
theorem dX3_word_67 : decode cX3_word 67 = .ok (.iadd, 1) := dk_96 (dk_at dksX3_word_2 20 rfl rfl)
theorem dX3_word_68 : decode cX3_word 68 = .ok (.laload, 1) := dk_47 (dk_at dksX3_word_2 21 rfl rfl)
theorem dX3_word_69 : decode cX3_word 69 = .ok (.lreturn, 1) := dk_173 (dk_at dksX3_word_2 22 rfl rfl)
abbrev cX3_size : ByteArray := prog_11_method_33_code
def yX3_size : MethodName := ⟨RX3, "size", "(I)J"⟩
def dkwX3_size_1 : List UInt8 := [167, 0, 8, 42, 27, 182, 0, 160, 173]
abbrev dktX3_size_1 : List UInt8 := dkwX3_size_1 ++ []
def dkwX3_size_0 : List UInt8 := [27, 184, 0, 119, 154, 0, 9, 20, 0, 40, 167, 0, 22, 42, 27, 182, 0, 127, 153, 0, 9, 20, 0, 158]
abbrev dktX3_size_0 : List UInt8 := dkwX3_size_0 ++ dktX3_size_1
theorem dksX3_size_0 : cX3_size.data.toList.drop 0 = dktX3_size_0 := by decide +kernel
theorem dksX3_size_1 : cX3_size.data.toList.drop 24 = dktX3_size_1 := dk_seg dksX3_size_0 24 rfl rfl
theorem dX3_size_0 : decode cX3_size 0 = .ok (.iload_n 1, 1) := dk_27 (dk_at dksX3_size_0 0 rfl rfl)
theorem dX3_size_1 : decode cX3_size 1 = .ok (.invokestatic 119, 3) := dk_184 0 119 (dk_at dksX3_size_0 1 rfl rfl)
theorem dX3_size_4 : decode cX3_size 4 = .ok (.ifCond .ne 9, 3) := dk_154 0 9 (dk_at dksX3_size_0 4 rfl rfl)
theorem dX3_size_7 : decode cX3_size 7 = .ok (.ldc2_w 40, 3) := dk_20 0 40 (dk_at dksX3_size_0 7 rfl rfl)
theorem dX3_size_10 : decode cX3_size 10 = .ok (.goto 22, 3) := dk_167 0 22 (dk_at dksX3_size_0 10 rfl rfl)
theorem dX3_size_13 : decode cX3_size 13 = .ok (.aload_n 0, 1) := dk_42 (dk_at dksX3_size_0 13 rfl rfl)
theorem dX3_size_14 : decode cX3_size 14 = .ok (.iload_n 1, 1) := dk_27 (dk_at dksX3_size_0 14 rfl rfl)
theorem dX3_size_15 : decode cX3_size 15 = .ok (.invokevirtual 127, 3) := dk_182 0 127 (dk_at dksX3_size_0 15 rfl rfl)
theorem dX3_size_18 : decode cX3_size 18 = .ok (.ifCond .eq 9, 3) := dk_153 0 9 (dk_at dksX3_size_0 18 rfl rfl)
theorem dX3_size_21 : decode cX3_size 21 = .ok (.ldc2_w 158, 3) := dk_20 0 158 (dk_at dksX3_size_0 21 rfl rfl)
theorem dX3_size_24 : decode cX3_size 24 = .ok (.goto 8, 3) := dk_167 0 8 (dk_at dksX3_size_1 0 rfl rfl)
theorem dX3_size_27 : decode cX3_size 27 = .ok (.aload_n 0, 1) := dk_42 (dk_at dksX3_size_1 3 rfl rfl)
theorem dX3_size_28 : decode cX3_size 28 = .ok (.iload_n 1, 1) := dk_27 (dk_at dksX3_size_1 4 rfl rfl)
theorem dX3_size_29 : decode cX3_size 29 = .ok (.invokevirtual 160, 3) := dk_182 0 160 (dk_at dksX3_size_1 5 rfl rfl)
theorem dX3_size_32 : decode cX3_size 32 = .ok (.lreturn, 1) := dk_173 (dk_at dksX3_size_1 8 rfl rfl)
abbrev cX3_sizeOf : ByteArray := prog_11_method_32_code
def yX3_sizeOf : MethodName := ⟨RX3, "sizeOf", "(I)J"⟩
def dkwX3_sizeOf_1 : List UInt8 := [180, 0, 64, 27, 46, 42, 180, 0, 141, 184, 0, 11, 173]
abbrev dktX3_sizeOf_1 : List UInt8 := dkwX3_sizeOf_1 ++ []
def dkwX3_sizeOf_0 : List UInt8 := [42, 180, 0, 60, 27, 46, 154, 0, 11, 42, 180, 0, 70, 27, 46, 133, 173, 42, 27, 182, 0, 154, 42]
abbrev dktX3_sizeOf_0 : List UInt8 := dkwX3_sizeOf_0 ++ dktX3_sizeOf_1
theorem dksX3_sizeOf_0 : cX3_sizeOf.data.toList.drop 0 = dktX3_sizeOf_0 := by decide +kernel
theorem dksX3_sizeOf_1 : cX3_sizeOf.data.toList.drop 23 = dktX3_sizeOf_1 := dk_seg dksX3_sizeOf_0 23 rfl rfl
theorem dX3_sizeOf_0 : decode cX3_sizeOf 0 = .ok (.aload_n 0, 1) := dk_42 (dk_at dksX3_sizeOf_0 0 rfl rfl)
theorem dX3_sizeOf_1 : decode cX3_sizeOf 1 = .ok (.getfield 60, 3) := dk_180 0 60 (dk_at dksX3_sizeOf_0 1 rfl rfl)
theorem dX3_sizeOf_4 : decode cX3_sizeOf 4 = .ok (.iload_n 1, 1) := dk_27 (dk_at dksX3_sizeOf_0 4 rfl rfl)
theorem dX3_sizeOf_5 : decode cX3_sizeOf 5 = .ok (.iaload, 1) := dk_46 (dk_at dksX3_sizeOf_0 5 rfl rfl)
theorem dX3_sizeOf_6 : decode cX3_sizeOf 6 = .ok (.ifCond .ne 11, 3) := dk_154 0 11 (dk_at dksX3_sizeOf_0 6 rfl rfl)
theorem dX3_sizeOf_9 : decode cX3_sizeOf 9 = .ok (.aload_n 0, 1) := dk_42 (dk_at dksX3_sizeOf_0 9 rfl rfl)
theorem dX3_sizeOf_10 : decode cX3_sizeOf 10 = .ok (.getfield 70, 3) := dk_180 0 70 (dk_at dksX3_sizeOf_0 10 rfl rfl)
theorem dX3_sizeOf_13 : decode cX3_sizeOf 13 = .ok (.iload_n 1, 1) := dk_27 (dk_at dksX3_sizeOf_0 13 rfl rfl)
theorem dX3_sizeOf_14 : decode cX3_sizeOf 14 = .ok (.iaload, 1) := dk_46 (dk_at dksX3_sizeOf_0 14 rfl rfl)
theorem dX3_sizeOf_15 : decode cX3_sizeOf 15 = .ok (.i2l, 1) := dk_133 (dk_at dksX3_sizeOf_0 15 rfl rfl)
theorem dX3_sizeOf_16 : decode cX3_sizeOf 16 = .ok (.lreturn, 1) := dk_173 (dk_at dksX3_sizeOf_0 16 rfl rfl)
theorem dX3_sizeOf_17 : decode cX3_sizeOf 17 = .ok (.aload_n 0, 1) := dk_42 (dk_at dksX3_sizeOf_0 17 rfl rfl)
theorem dX3_sizeOf_18 : decode cX3_sizeOf 18 = .ok (.iload_n 1, 1) := dk_27 (dk_at dksX3_sizeOf_0 18 rfl rfl)
theorem dX3_sizeOf_19 : decode cX3_sizeOf 19 = .ok (.invokevirtual 154, 3) := dk_182 0 154 (dk_at dksX3_sizeOf_0 19 rfl rfl)
theorem dX3_sizeOf_22 : decode cX3_sizeOf 22 = .ok (.aload_n 0, 1) := dk_42 (dk_at dksX3_sizeOf_0 22 rfl rfl)
theorem dX3_sizeOf_23 : decode cX3_sizeOf 23 = .ok (.getfield 64, 3) := dk_180 0 64 (dk_at dksX3_sizeOf_1 0 rfl rfl)
theorem dX3_sizeOf_26 : decode cX3_sizeOf 26 = .ok (.iload_n 1, 1) := dk_27 (dk_at dksX3_sizeOf_1 3 rfl rfl)
theorem dX3_sizeOf_27 : decode cX3_sizeOf 27 = .ok (.iaload, 1) := dk_46 (dk_at dksX3_sizeOf_1 4 rfl rfl)
theorem dX3_sizeOf_28 : decode cX3_sizeOf 28 = .ok (.aload_n 0, 1) := dk_42 (dk_at dksX3_sizeOf_1 5 rfl rfl)
theorem dX3_sizeOf_29 : decode cX3_sizeOf 29 = .ok (.getfield 141, 3) := dk_180 0 141 (dk_at dksX3_sizeOf_1 6 rfl rfl)
theorem dX3_sizeOf_32 : decode cX3_sizeOf 32 = .ok (.invokestatic 11, 3) := dk_184 0 11 (dk_at dksX3_sizeOf_1 9 rfl rfl)
theorem dX3_sizeOf_35 : decode cX3_sizeOf 35 = .ok (.lreturn, 1) := dk_173 (dk_at dksX3_sizeOf_1 12 rfl rfl)
abbrev cX3_in : ByteArray := prog_11_method_35_code
def yX3_in : MethodName := ⟨RX3, "in", "(IJ)I"⟩
def dkwX3_in_2 : List UInt8 := [159, 0, 19, 167, 0, 12, 42, 27, 32, 182, 0, 164, 153, 0, 7, 4, 167, 0, 4, 3, 172]
abbrev dktX3_in_2 : List UInt8 := dkwX3_in_2 ++ []
def dkwX3_in_1 : List UInt8 := [182, 0, 130, 154, 0, 5, 2, 172, 42, 180, 0, 60, 27, 46, 154, 0, 16, 42, 27, 32, 182, 0, 134, 2]
abbrev dktX3_in_1 : List UInt8 := dkwX3_in_1 ++ dktX3_in_2
def dkwX3_in_0 : List UInt8 := [27, 184, 0, 119, 154, 0, 5, 2, 172, 42, 27, 182, 0, 127, 153, 0, 6, 16, 245, 172, 42, 27, 32]
abbrev dktX3_in_0 : List UInt8 := dkwX3_in_0 ++ dktX3_in_1
theorem dksX3_in_0 : cX3_in.data.toList.drop 0 = dktX3_in_0 := by decide +kernel
theorem dksX3_in_1 : cX3_in.data.toList.drop 23 = dktX3_in_1 := dk_seg dksX3_in_0 23 rfl rfl
theorem dksX3_in_2 : cX3_in.data.toList.drop 47 = dktX3_in_2 := dk_seg dksX3_in_1 24 rfl rfl
theorem dX3_in_0 : decode cX3_in 0 = .ok (.iload_n 1, 1) := dk_27 (dk_at dksX3_in_0 0 rfl rfl)
theorem dX3_in_1 : decode cX3_in 1 = .ok (.invokestatic 119, 3) := dk_184 0 119 (dk_at dksX3_in_0 1 rfl rfl)
theorem dX3_in_4 : decode cX3_in 4 = .ok (.ifCond .ne 5, 3) := dk_154 0 5 (dk_at dksX3_in_0 4 rfl rfl)
theorem dX3_in_7 : decode cX3_in 7 = .ok (.iconst (-1), 1) := dk_2 (dk_at dksX3_in_0 7 rfl rfl)
theorem dX3_in_8 : decode cX3_in 8 = .ok (.ireturn, 1) := dk_172 (dk_at dksX3_in_0 8 rfl rfl)
theorem dX3_in_9 : decode cX3_in 9 = .ok (.aload_n 0, 1) := dk_42 (dk_at dksX3_in_0 9 rfl rfl)
theorem dX3_in_10 : decode cX3_in 10 = .ok (.iload_n 1, 1) := dk_27 (dk_at dksX3_in_0 10 rfl rfl)
theorem dX3_in_11 : decode cX3_in 11 = .ok (.invokevirtual 127, 3) := dk_182 0 127 (dk_at dksX3_in_0 11 rfl rfl)
theorem dX3_in_14 : decode cX3_in 14 = .ok (.ifCond .eq 6, 3) := dk_153 0 6 (dk_at dksX3_in_0 14 rfl rfl)
theorem dX3_in_17 : decode cX3_in 17 = .ok (.bipush (-11), 2) := dk_16 245 (dk_at dksX3_in_0 17 rfl rfl)
theorem dX3_in_19 : decode cX3_in 19 = .ok (.ireturn, 1) := dk_172 (dk_at dksX3_in_0 19 rfl rfl)
theorem dX3_in_20 : decode cX3_in 20 = .ok (.aload_n 0, 1) := dk_42 (dk_at dksX3_in_0 20 rfl rfl)
theorem dX3_in_21 : decode cX3_in 21 = .ok (.iload_n 1, 1) := dk_27 (dk_at dksX3_in_0 21 rfl rfl)
theorem dX3_in_22 : decode cX3_in 22 = .ok (.lload_n 2, 1) := dk_32 (dk_at dksX3_in_0 22 rfl rfl)
theorem dX3_in_23 : decode cX3_in 23 = .ok (.invokevirtual 130, 3) := dk_182 0 130 (dk_at dksX3_in_1 0 rfl rfl)
theorem dX3_in_26 : decode cX3_in 26 = .ok (.ifCond .ne 5, 3) := dk_154 0 5 (dk_at dksX3_in_1 3 rfl rfl)
theorem dX3_in_29 : decode cX3_in 29 = .ok (.iconst (-1), 1) := dk_2 (dk_at dksX3_in_1 6 rfl rfl)
theorem dX3_in_30 : decode cX3_in 30 = .ok (.ireturn, 1) := dk_172 (dk_at dksX3_in_1 7 rfl rfl)
theorem dX3_in_31 : decode cX3_in 31 = .ok (.aload_n 0, 1) := dk_42 (dk_at dksX3_in_1 8 rfl rfl)
theorem dX3_in_32 : decode cX3_in 32 = .ok (.getfield 60, 3) := dk_180 0 60 (dk_at dksX3_in_1 9 rfl rfl)
theorem dX3_in_35 : decode cX3_in 35 = .ok (.iload_n 1, 1) := dk_27 (dk_at dksX3_in_1 12 rfl rfl)
theorem dX3_in_36 : decode cX3_in 36 = .ok (.iaload, 1) := dk_46 (dk_at dksX3_in_1 13 rfl rfl)
theorem dX3_in_37 : decode cX3_in 37 = .ok (.ifCond .ne 16, 3) := dk_154 0 16 (dk_at dksX3_in_1 14 rfl rfl)
theorem dX3_in_40 : decode cX3_in 40 = .ok (.aload_n 0, 1) := dk_42 (dk_at dksX3_in_1 17 rfl rfl)
theorem dX3_in_41 : decode cX3_in 41 = .ok (.iload_n 1, 1) := dk_27 (dk_at dksX3_in_1 18 rfl rfl)
theorem dX3_in_42 : decode cX3_in 42 = .ok (.lload_n 2, 1) := dk_32 (dk_at dksX3_in_1 19 rfl rfl)
theorem dX3_in_43 : decode cX3_in 43 = .ok (.invokevirtual 134, 3) := dk_182 0 134 (dk_at dksX3_in_1 20 rfl rfl)
theorem dX3_in_46 : decode cX3_in 46 = .ok (.iconst (-1), 1) := dk_2 (dk_at dksX3_in_1 23 rfl rfl)
theorem dX3_in_47 : decode cX3_in 47 = .ok (.if_icmp .eq 19, 3) := dk_159 0 19 (dk_at dksX3_in_2 0 rfl rfl)
theorem dX3_in_50 : decode cX3_in 50 = .ok (.goto 12, 3) := dk_167 0 12 (dk_at dksX3_in_2 3 rfl rfl)
theorem dX3_in_53 : decode cX3_in 53 = .ok (.aload_n 0, 1) := dk_42 (dk_at dksX3_in_2 6 rfl rfl)
theorem dX3_in_54 : decode cX3_in 54 = .ok (.iload_n 1, 1) := dk_27 (dk_at dksX3_in_2 7 rfl rfl)
theorem dX3_in_55 : decode cX3_in 55 = .ok (.lload_n 2, 1) := dk_32 (dk_at dksX3_in_2 8 rfl rfl)
theorem dX3_in_56 : decode cX3_in 56 = .ok (.invokevirtual 164, 3) := dk_182 0 164 (dk_at dksX3_in_2 9 rfl rfl)
theorem dX3_in_59 : decode cX3_in 59 = .ok (.ifCond .eq 7, 3) := dk_153 0 7 (dk_at dksX3_in_2 12 rfl rfl)
theorem dX3_in_62 : decode cX3_in 62 = .ok (.iconst 1, 1) := dk_4 (dk_at dksX3_in_2 15 rfl rfl)
theorem dX3_in_63 : decode cX3_in 63 = .ok (.goto 4, 3) := dk_167 0 4 (dk_at dksX3_in_2 16 rfl rfl)
theorem dX3_in_66 : decode cX3_in 66 = .ok (.iconst 0, 1) := dk_3 (dk_at dksX3_in_2 19 rfl rfl)
theorem dX3_in_67 : decode cX3_in 67 = .ok (.ireturn, 1) := dk_172 (dk_at dksX3_in_2 20 rfl rfl)
abbrev cX3_isInLine : ByteArray := prog_11_method_34_code
def yX3_isInLine : MethodName := ⟨RX3, "isInLine", "(IJ)Z"⟩
def dkwX3_isInLine_4 : List UInt8 := [167, 0, 4, 3, 172]
abbrev dktX3_isInLine_4 : List UInt8 := dkwX3_isInLine_4 ++ []
def dkwX3_isInLine_3 : List UInt8 := [184, 0, 148, 184, 0, 42, 55, 4, 132, 6, 1, 167, 255, 185, 22, 4, 9, 148, 154, 0, 7, 4]
abbrev dktX3_isInLine_3 : List UInt8 := dkwX3_isInLine_3 ++ dktX3_isInLine_4
def dkwX3_isInLine_2 : List UInt8 := [180, 0, 64, 27, 46, 42, 180, 0, 67, 27, 46, 22, 4, 42, 180, 0, 80, 21, 6, 46, 184, 0, 15]
abbrev dktX3_isInLine_2 : List UInt8 := dkwX3_isInLine_2 ++ dktX3_isInLine_3
def dkwX3_isInLine_1 : List UInt8 := [27, 46, 42, 180, 0, 67, 27, 46, 22, 4, 42, 180, 0, 77, 21, 6, 47, 42, 180, 0, 64, 27, 46, 42]
abbrev dktX3_isInLine_1 : List UInt8 := dkwX3_isInLine_1 ++ dktX3_isInLine_2
def dkwX3_isInLine_0 : List UInt8 := [42, 27, 182, 0, 154, 32, 55, 4, 3, 54, 6, 21, 6, 42, 180, 0, 141, 162, 0, 68, 42, 180, 0, 64]
abbrev dktX3_isInLine_0 : List UInt8 := dkwX3_isInLine_0 ++ dktX3_isInLine_1
theorem dksX3_isInLine_0 : cX3_isInLine.data.toList.drop 0 = dktX3_isInLine_0 := by decide +kernel
theorem dksX3_isInLine_1 : cX3_isInLine.data.toList.drop 24 = dktX3_isInLine_1 := dk_seg dksX3_isInLine_0 24 rfl rfl
theorem dksX3_isInLine_2 : cX3_isInLine.data.toList.drop 48 = dktX3_isInLine_2 := dk_seg dksX3_isInLine_1 24 rfl rfl
theorem dksX3_isInLine_3 : cX3_isInLine.data.toList.drop 71 = dktX3_isInLine_3 := dk_seg dksX3_isInLine_2 23 rfl rfl
theorem dksX3_isInLine_4 : cX3_isInLine.data.toList.drop 93 = dktX3_isInLine_4 := dk_seg dksX3_isInLine_3 22 rfl rfl
theorem dX3_isInLine_0 : decode cX3_isInLine 0 = .ok (.aload_n 0, 1) := dk_42 (dk_at dksX3_isInLine_0 0 rfl rfl)
theorem dX3_isInLine_1 : decode cX3_isInLine 1 = .ok (.iload_n 1, 1) := dk_27 (dk_at dksX3_isInLine_0 1 rfl rfl)
theorem dX3_isInLine_2 : decode cX3_isInLine 2 = .ok (.invokevirtual 154, 3) := dk_182 0 154 (dk_at dksX3_isInLine_0 2 rfl rfl)
theorem dX3_isInLine_5 : decode cX3_isInLine 5 = .ok (.lload_n 2, 1) := dk_32 (dk_at dksX3_isInLine_0 5 rfl rfl)
theorem dX3_isInLine_6 : decode cX3_isInLine 6 = .ok (.lstore 4, 2) := dk_55 4 (dk_at dksX3_isInLine_0 6 rfl rfl)
theorem dX3_isInLine_8 : decode cX3_isInLine 8 = .ok (.iconst 0, 1) := dk_3 (dk_at dksX3_isInLine_0 8 rfl rfl)
theorem dX3_isInLine_9 : decode cX3_isInLine 9 = .ok (.istore 6, 2) := dk_54 6 (dk_at dksX3_isInLine_0 9 rfl rfl)
theorem dX3_isInLine_11 : decode cX3_isInLine 11 = .ok (.iload 6, 2) := dk_21 6 (dk_at dksX3_isInLine_0 11 rfl rfl)
theorem dX3_isInLine_13 : decode cX3_isInLine 13 = .ok (.aload_n 0, 1) := dk_42 (dk_at dksX3_isInLine_0 13 rfl rfl)
theorem dX3_isInLine_14 : decode cX3_isInLine 14 = .ok (.getfield 141, 3) := dk_180 0 141 (dk_at dksX3_isInLine_0 14 rfl rfl)
theorem dX3_isInLine_17 : decode cX3_isInLine 17 = .ok (.if_icmp .ge 68, 3) := dk_162 0 68 (dk_at dksX3_isInLine_0 17 rfl rfl)
theorem dX3_isInLine_20 : decode cX3_isInLine 20 = .ok (.aload_n 0, 1) := dk_42 (dk_at dksX3_isInLine_0 20 rfl rfl)
theorem dX3_isInLine_21 : decode cX3_isInLine 21 = .ok (.getfield 64, 3) := dk_180 0 64 (dk_at dksX3_isInLine_0 21 rfl rfl)
theorem dX3_isInLine_24 : decode cX3_isInLine 24 = .ok (.iload_n 1, 1) := dk_27 (dk_at dksX3_isInLine_1 0 rfl rfl)
theorem dX3_isInLine_25 : decode cX3_isInLine 25 = .ok (.iaload, 1) := dk_46 (dk_at dksX3_isInLine_1 1 rfl rfl)
theorem dX3_isInLine_26 : decode cX3_isInLine 26 = .ok (.aload_n 0, 1) := dk_42 (dk_at dksX3_isInLine_1 2 rfl rfl)
theorem dX3_isInLine_27 : decode cX3_isInLine 27 = .ok (.getfield 67, 3) := dk_180 0 67 (dk_at dksX3_isInLine_1 3 rfl rfl)
theorem dX3_isInLine_30 : decode cX3_isInLine 30 = .ok (.iload_n 1, 1) := dk_27 (dk_at dksX3_isInLine_1 6 rfl rfl)
theorem dX3_isInLine_31 : decode cX3_isInLine 31 = .ok (.iaload, 1) := dk_46 (dk_at dksX3_isInLine_1 7 rfl rfl)
theorem dX3_isInLine_32 : decode cX3_isInLine 32 = .ok (.lload 4, 2) := dk_22 4 (dk_at dksX3_isInLine_1 8 rfl rfl)
theorem dX3_isInLine_34 : decode cX3_isInLine 34 = .ok (.aload_n 0, 1) := dk_42 (dk_at dksX3_isInLine_1 10 rfl rfl)
theorem dX3_isInLine_35 : decode cX3_isInLine 35 = .ok (.getfield 77, 3) := dk_180 0 77 (dk_at dksX3_isInLine_1 11 rfl rfl)
theorem dX3_isInLine_38 : decode cX3_isInLine 38 = .ok (.iload 6, 2) := dk_21 6 (dk_at dksX3_isInLine_1 14 rfl rfl)
theorem dX3_isInLine_40 : decode cX3_isInLine 40 = .ok (.laload, 1) := dk_47 (dk_at dksX3_isInLine_1 16 rfl rfl)
theorem dX3_isInLine_41 : decode cX3_isInLine 41 = .ok (.aload_n 0, 1) := dk_42 (dk_at dksX3_isInLine_1 17 rfl rfl)
theorem dX3_isInLine_42 : decode cX3_isInLine 42 = .ok (.getfield 64, 3) := dk_180 0 64 (dk_at dksX3_isInLine_1 18 rfl rfl)
theorem dX3_isInLine_45 : decode cX3_isInLine 45 = .ok (.iload_n 1, 1) := dk_27 (dk_at dksX3_isInLine_1 21 rfl rfl)
theorem dX3_isInLine_46 : decode cX3_isInLine 46 = .ok (.iaload, 1) := dk_46 (dk_at dksX3_isInLine_1 22 rfl rfl)
theorem dX3_isInLine_47 : decode cX3_isInLine 47 = .ok (.aload_n 0, 1) := dk_42 (dk_at dksX3_isInLine_1 23 rfl rfl)
theorem dX3_isInLine_48 : decode cX3_isInLine 48 = .ok (.getfield 64, 3) := dk_180 0 64 (dk_at dksX3_isInLine_2 0 rfl rfl)
theorem dX3_isInLine_51 : decode cX3_isInLine 51 = .ok (.iload_n 1, 1) := dk_27 (dk_at dksX3_isInLine_2 3 rfl rfl)
theorem dX3_isInLine_52 : decode cX3_isInLine 52 = .ok (.iaload, 1) := dk_46 (dk_at dksX3_isInLine_2 4 rfl rfl)
theorem dX3_isInLine_53 : decode cX3_isInLine 53 = .ok (.aload_n 0, 1) := dk_42 (dk_at dksX3_isInLine_2 5 rfl rfl)
theorem dX3_isInLine_54 : decode cX3_isInLine 54 = .ok (.getfield 67, 3) := dk_180 0 67 (dk_at dksX3_isInLine_2 6 rfl rfl)
theorem dX3_isInLine_57 : decode cX3_isInLine 57 = .ok (.iload_n 1, 1) := dk_27 (dk_at dksX3_isInLine_2 9 rfl rfl)
theorem dX3_isInLine_58 : decode cX3_isInLine 58 = .ok (.iaload, 1) := dk_46 (dk_at dksX3_isInLine_2 10 rfl rfl)
theorem dX3_isInLine_59 : decode cX3_isInLine 59 = .ok (.lload 4, 2) := dk_22 4 (dk_at dksX3_isInLine_2 11 rfl rfl)
theorem dX3_isInLine_61 : decode cX3_isInLine 61 = .ok (.aload_n 0, 1) := dk_42 (dk_at dksX3_isInLine_2 13 rfl rfl)
theorem dX3_isInLine_62 : decode cX3_isInLine 62 = .ok (.getfield 80, 3) := dk_180 0 80 (dk_at dksX3_isInLine_2 14 rfl rfl)
theorem dX3_isInLine_65 : decode cX3_isInLine 65 = .ok (.iload 6, 2) := dk_21 6 (dk_at dksX3_isInLine_2 17 rfl rfl)
theorem dX3_isInLine_67 : decode cX3_isInLine 67 = .ok (.iaload, 1) := dk_46 (dk_at dksX3_isInLine_2 19 rfl rfl)
theorem dX3_isInLine_68 : decode cX3_isInLine 68 = .ok (.invokestatic 15, 3) := dk_184 0 15 (dk_at dksX3_isInLine_2 20 rfl rfl)
theorem dX3_isInLine_71 : decode cX3_isInLine 71 = .ok (.invokestatic 148, 3) := dk_184 0 148 (dk_at dksX3_isInLine_3 0 rfl rfl)
theorem dX3_isInLine_74 : decode cX3_isInLine 74 = .ok (.invokestatic 42, 3) := dk_184 0 42 (dk_at dksX3_isInLine_3 3 rfl rfl)
theorem dX3_isInLine_77 : decode cX3_isInLine 77 = .ok (.lstore 4, 2) := dk_55 4 (dk_at dksX3_isInLine_3 6 rfl rfl)
theorem dX3_isInLine_79 : decode cX3_isInLine 79 = .ok (.iinc 6 1, 3) := dk_132 6 1 (dk_at dksX3_isInLine_3 8 rfl rfl)
theorem dX3_isInLine_82 : decode cX3_isInLine 82 = .ok (.goto (-71), 3) := dk_167 255 185 (dk_at dksX3_isInLine_3 11 rfl rfl)
theorem dX3_isInLine_85 : decode cX3_isInLine 85 = .ok (.lload 4, 2) := dk_22 4 (dk_at dksX3_isInLine_3 14 rfl rfl)
theorem dX3_isInLine_87 : decode cX3_isInLine 87 = .ok (.lconst 0, 1) := dk_9 (dk_at dksX3_isInLine_3 16 rfl rfl)
theorem dX3_isInLine_88 : decode cX3_isInLine 88 = .ok (.lcmp, 1) := dk_148 (dk_at dksX3_isInLine_3 17 rfl rfl)
theorem dX3_isInLine_89 : decode cX3_isInLine 89 = .ok (.ifCond .ne 7, 3) := dk_154 0 7 (dk_at dksX3_isInLine_3 18 rfl rfl)
theorem dX3_isInLine_92 : decode cX3_isInLine 92 = .ok (.iconst 1, 1) := dk_4 (dk_at dksX3_isInLine_3 21 rfl rfl)
theorem dX3_isInLine_93 : decode cX3_isInLine 93 = .ok (.goto 4, 3) := dk_167 0 4 (dk_at dksX3_isInLine_4 0 rfl rfl)
theorem dX3_isInLine_96 : decode cX3_isInLine 96 = .ok (.iconst 0, 1) := dk_3 (dk_at dksX3_isInLine_4 3 rfl rfl)
theorem dX3_isInLine_97 : decode cX3_isInLine 97 = .ok (.ireturn, 1) := dk_172 (dk_at dksX3_isInLine_4 4 rfl rfl)
abbrev cX3_form : ByteArray := prog_11_method_36_code
def yX3_form : MethodName := ⟨RX3, "form", "(I)I"⟩
def dkwX3_form_4 : List UInt8 := [180, 0, 77, 28, 47, 80, 132, 2, 1, 167, 255, 227, 42, 180, 0, 141, 172]
abbrev dktX3_form_4 : List UInt8 := dkwX3_form_4 ++ []
def dkwX3_form_3 : List UInt8 := [79, 3, 61, 28, 42, 180, 0, 141, 162, 0, 27, 42, 180, 0, 73, 17, 0, 200, 27, 104, 28, 96, 42]
abbrev dktX3_form_3 : List UInt8 := dkwX3_form_3 ++ dktX3_form_4
def dkwX3_form_2 : List UInt8 := [5, 160, 0, 7, 4, 167, 0, 9, 42, 180, 0, 60, 27, 46, 79, 42, 180, 0, 70, 27, 42, 180, 0, 141]
abbrev dktX3_form_2 : List UInt8 := dkwX3_form_2 ++ dktX3_form_3
def dkwX3_form_1 : List UInt8 := [27, 46, 154, 0, 6, 16, 244, 172, 42, 27, 182, 0, 154, 42, 180, 0, 60, 27, 42, 180, 0, 60, 27, 46]
abbrev dktX3_form_1 : List UInt8 := dkwX3_form_1 ++ dktX3_form_2
def dkwX3_form_0 : List UInt8 := [27, 184, 0, 119, 154, 0, 5, 2, 172, 42, 27, 182, 0, 127, 153, 0, 6, 16, 245, 172, 42, 180, 0, 60]
abbrev dktX3_form_0 : List UInt8 := dkwX3_form_0 ++ dktX3_form_1
theorem dksX3_form_0 : cX3_form.data.toList.drop 0 = dktX3_form_0 := by decide +kernel
theorem dksX3_form_1 : cX3_form.data.toList.drop 24 = dktX3_form_1 := dk_seg dksX3_form_0 24 rfl rfl
theorem dksX3_form_2 : cX3_form.data.toList.drop 48 = dktX3_form_2 := dk_seg dksX3_form_1 24 rfl rfl
theorem dksX3_form_3 : cX3_form.data.toList.drop 72 = dktX3_form_3 := dk_seg dksX3_form_2 24 rfl rfl
theorem dksX3_form_4 : cX3_form.data.toList.drop 95 = dktX3_form_4 := dk_seg dksX3_form_3 23 rfl rfl
theorem dX3_form_0 : decode cX3_form 0 = .ok (.iload_n 1, 1) := dk_27 (dk_at dksX3_form_0 0 rfl rfl)
theorem dX3_form_1 : decode cX3_form 1 = .ok (.invokestatic 119, 3) := dk_184 0 119 (dk_at dksX3_form_0 1 rfl rfl)
theorem dX3_form_4 : decode cX3_form 4 = .ok (.ifCond .ne 5, 3) := dk_154 0 5 (dk_at dksX3_form_0 4 rfl rfl)
theorem dX3_form_7 : decode cX3_form 7 = .ok (.iconst (-1), 1) := dk_2 (dk_at dksX3_form_0 7 rfl rfl)
theorem dX3_form_8 : decode cX3_form 8 = .ok (.ireturn, 1) := dk_172 (dk_at dksX3_form_0 8 rfl rfl)
theorem dX3_form_9 : decode cX3_form 9 = .ok (.aload_n 0, 1) := dk_42 (dk_at dksX3_form_0 9 rfl rfl)
theorem dX3_form_10 : decode cX3_form 10 = .ok (.iload_n 1, 1) := dk_27 (dk_at dksX3_form_0 10 rfl rfl)
theorem dX3_form_11 : decode cX3_form 11 = .ok (.invokevirtual 127, 3) := dk_182 0 127 (dk_at dksX3_form_0 11 rfl rfl)
theorem dX3_form_14 : decode cX3_form 14 = .ok (.ifCond .eq 6, 3) := dk_153 0 6 (dk_at dksX3_form_0 14 rfl rfl)
theorem dX3_form_17 : decode cX3_form 17 = .ok (.bipush (-11), 2) := dk_16 245 (dk_at dksX3_form_0 17 rfl rfl)
theorem dX3_form_19 : decode cX3_form 19 = .ok (.ireturn, 1) := dk_172 (dk_at dksX3_form_0 19 rfl rfl)
theorem dX3_form_20 : decode cX3_form 20 = .ok (.aload_n 0, 1) := dk_42 (dk_at dksX3_form_0 20 rfl rfl)
theorem dX3_form_21 : decode cX3_form 21 = .ok (.getfield 60, 3) := dk_180 0 60 (dk_at dksX3_form_0 21 rfl rfl)
theorem dX3_form_24 : decode cX3_form 24 = .ok (.iload_n 1, 1) := dk_27 (dk_at dksX3_form_1 0 rfl rfl)
theorem dX3_form_25 : decode cX3_form 25 = .ok (.iaload, 1) := dk_46 (dk_at dksX3_form_1 1 rfl rfl)
theorem dX3_form_26 : decode cX3_form 26 = .ok (.ifCond .ne 6, 3) := dk_154 0 6 (dk_at dksX3_form_1 2 rfl rfl)
theorem dX3_form_29 : decode cX3_form 29 = .ok (.bipush (-12), 2) := dk_16 244 (dk_at dksX3_form_1 5 rfl rfl)
theorem dX3_form_31 : decode cX3_form 31 = .ok (.ireturn, 1) := dk_172 (dk_at dksX3_form_1 7 rfl rfl)
theorem dX3_form_32 : decode cX3_form 32 = .ok (.aload_n 0, 1) := dk_42 (dk_at dksX3_form_1 8 rfl rfl)
theorem dX3_form_33 : decode cX3_form 33 = .ok (.iload_n 1, 1) := dk_27 (dk_at dksX3_form_1 9 rfl rfl)
theorem dX3_form_34 : decode cX3_form 34 = .ok (.invokevirtual 154, 3) := dk_182 0 154 (dk_at dksX3_form_1 10 rfl rfl)
theorem dX3_form_37 : decode cX3_form 37 = .ok (.aload_n 0, 1) := dk_42 (dk_at dksX3_form_1 13 rfl rfl)
theorem dX3_form_38 : decode cX3_form 38 = .ok (.getfield 60, 3) := dk_180 0 60 (dk_at dksX3_form_1 14 rfl rfl)
theorem dX3_form_41 : decode cX3_form 41 = .ok (.iload_n 1, 1) := dk_27 (dk_at dksX3_form_1 17 rfl rfl)
theorem dX3_form_42 : decode cX3_form 42 = .ok (.aload_n 0, 1) := dk_42 (dk_at dksX3_form_1 18 rfl rfl)
theorem dX3_form_43 : decode cX3_form 43 = .ok (.getfield 60, 3) := dk_180 0 60 (dk_at dksX3_form_1 19 rfl rfl)
theorem dX3_form_46 : decode cX3_form 46 = .ok (.iload_n 1, 1) := dk_27 (dk_at dksX3_form_1 22 rfl rfl)
theorem dX3_form_47 : decode cX3_form 47 = .ok (.iaload, 1) := dk_46 (dk_at dksX3_form_1 23 rfl rfl)
theorem dX3_form_48 : decode cX3_form 48 = .ok (.iconst 2, 1) := dk_5 (dk_at dksX3_form_2 0 rfl rfl)
theorem dX3_form_49 : decode cX3_form 49 = .ok (.if_icmp .ne 7, 3) := dk_160 0 7 (dk_at dksX3_form_2 1 rfl rfl)
theorem dX3_form_52 : decode cX3_form 52 = .ok (.iconst 1, 1) := dk_4 (dk_at dksX3_form_2 4 rfl rfl)
theorem dX3_form_53 : decode cX3_form 53 = .ok (.goto 9, 3) := dk_167 0 9 (dk_at dksX3_form_2 5 rfl rfl)
theorem dX3_form_56 : decode cX3_form 56 = .ok (.aload_n 0, 1) := dk_42 (dk_at dksX3_form_2 8 rfl rfl)
theorem dX3_form_57 : decode cX3_form 57 = .ok (.getfield 60, 3) := dk_180 0 60 (dk_at dksX3_form_2 9 rfl rfl)
theorem dX3_form_60 : decode cX3_form 60 = .ok (.iload_n 1, 1) := dk_27 (dk_at dksX3_form_2 12 rfl rfl)
theorem dX3_form_61 : decode cX3_form 61 = .ok (.iaload, 1) := dk_46 (dk_at dksX3_form_2 13 rfl rfl)
theorem dX3_form_62 : decode cX3_form 62 = .ok (.iastore, 1) := dk_79 (dk_at dksX3_form_2 14 rfl rfl)
theorem dX3_form_63 : decode cX3_form 63 = .ok (.aload_n 0, 1) := dk_42 (dk_at dksX3_form_2 15 rfl rfl)
theorem dX3_form_64 : decode cX3_form 64 = .ok (.getfield 70, 3) := dk_180 0 70 (dk_at dksX3_form_2 16 rfl rfl)
theorem dX3_form_67 : decode cX3_form 67 = .ok (.iload_n 1, 1) := dk_27 (dk_at dksX3_form_2 19 rfl rfl)
theorem dX3_form_68 : decode cX3_form 68 = .ok (.aload_n 0, 1) := dk_42 (dk_at dksX3_form_2 20 rfl rfl)
theorem dX3_form_69 : decode cX3_form 69 = .ok (.getfield 141, 3) := dk_180 0 141 (dk_at dksX3_form_2 21 rfl rfl)
theorem dX3_form_72 : decode cX3_form 72 = .ok (.iastore, 1) := dk_79 (dk_at dksX3_form_3 0 rfl rfl)
theorem dX3_form_73 : decode cX3_form 73 = .ok (.iconst 0, 1) := dk_3 (dk_at dksX3_form_3 1 rfl rfl)
theorem dX3_form_74 : decode cX3_form 74 = .ok (.istore_n 2, 1) := dk_61 (dk_at dksX3_form_3 2 rfl rfl)
theorem dX3_form_75 : decode cX3_form 75 = .ok (.iload_n 2, 1) := dk_28 (dk_at dksX3_form_3 3 rfl rfl)
theorem dX3_form_76 : decode cX3_form 76 = .ok (.aload_n 0, 1) := dk_42 (dk_at dksX3_form_3 4 rfl rfl)
theorem dX3_form_77 : decode cX3_form 77 = .ok (.getfield 141, 3) := dk_180 0 141 (dk_at dksX3_form_3 5 rfl rfl)
theorem dX3_form_80 : decode cX3_form 80 = .ok (.if_icmp .ge 27, 3) := dk_162 0 27 (dk_at dksX3_form_3 8 rfl rfl)
theorem dX3_form_83 : decode cX3_form 83 = .ok (.aload_n 0, 1) := dk_42 (dk_at dksX3_form_3 11 rfl rfl)
theorem dX3_form_84 : decode cX3_form 84 = .ok (.getfield 73, 3) := dk_180 0 73 (dk_at dksX3_form_3 12 rfl rfl)
theorem dX3_form_87 : decode cX3_form 87 = .ok (.sipush 200, 3) := dk_17 0 200 (dk_at dksX3_form_3 15 rfl rfl)
theorem dX3_form_90 : decode cX3_form 90 = .ok (.iload_n 1, 1) := dk_27 (dk_at dksX3_form_3 18 rfl rfl)
theorem dX3_form_91 : decode cX3_form 91 = .ok (.imul, 1) := dk_104 (dk_at dksX3_form_3 19 rfl rfl)
theorem dX3_form_92 : decode cX3_form 92 = .ok (.iload_n 2, 1) := dk_28 (dk_at dksX3_form_3 20 rfl rfl)
theorem dX3_form_93 : decode cX3_form 93 = .ok (.iadd, 1) := dk_96 (dk_at dksX3_form_3 21 rfl rfl)
theorem dX3_form_94 : decode cX3_form 94 = .ok (.aload_n 0, 1) := dk_42 (dk_at dksX3_form_3 22 rfl rfl)
theorem dX3_form_95 : decode cX3_form 95 = .ok (.getfield 77, 3) := dk_180 0 77 (dk_at dksX3_form_4 0 rfl rfl)
theorem dX3_form_98 : decode cX3_form 98 = .ok (.iload_n 2, 1) := dk_28 (dk_at dksX3_form_4 3 rfl rfl)
theorem dX3_form_99 : decode cX3_form 99 = .ok (.laload, 1) := dk_47 (dk_at dksX3_form_4 4 rfl rfl)
theorem dX3_form_100 : decode cX3_form 100 = .ok (.lastore, 1) := dk_80 (dk_at dksX3_form_4 5 rfl rfl)
theorem dX3_form_101 : decode cX3_form 101 = .ok (.iinc 2 1, 3) := dk_132 2 1 (dk_at dksX3_form_4 6 rfl rfl)
theorem dX3_form_104 : decode cX3_form 104 = .ok (.goto (-29), 3) := dk_167 255 227 (dk_at dksX3_form_4 9 rfl rfl)
theorem dX3_form_107 : decode cX3_form 107 = .ok (.aload_n 0, 1) := dk_42 (dk_at dksX3_form_4 12 rfl rfl)
theorem dX3_form_108 : decode cX3_form 108 = .ok (.getfield 141, 3) := dk_180 0 141 (dk_at dksX3_form_4 13 rfl rfl)
theorem dX3_form_111 : decode cX3_form 111 = .ok (.ireturn, 1) := dk_172 (dk_at dksX3_form_4 16 rfl rfl)
abbrev cX3_head : ByteArray := prog_11_method_37_code
def yX3_head : MethodName := ⟨RX3, "head", "(II)I"⟩
def dkwX3_head_2 : List UInt8 := [162, 0, 12, 42, 180, 0, 80, 28, 46, 167, 0, 5, 16, 254, 172]
abbrev dktX3_head_2 : List UInt8 := dkwX3_head_2 ++ []
def dkwX3_head_1 : List UInt8 := [42, 180, 0, 60, 27, 46, 154, 0, 6, 16, 244, 172, 42, 27, 182, 0, 154, 28, 42, 180, 0, 141]
abbrev dktX3_head_1 : List UInt8 := dkwX3_head_1 ++ dktX3_head_2
def dkwX3_head_0 : List UInt8 := [27, 184, 0, 119, 153, 0, 7, 28, 156, 0, 5, 2, 172, 42, 27, 182, 0, 127, 153, 0, 6, 16, 245, 172]
abbrev dktX3_head_0 : List UInt8 := dkwX3_head_0 ++ dktX3_head_1
theorem dksX3_head_0 : cX3_head.data.toList.drop 0 = dktX3_head_0 := by decide +kernel
theorem dksX3_head_1 : cX3_head.data.toList.drop 24 = dktX3_head_1 := dk_seg dksX3_head_0 24 rfl rfl
theorem dksX3_head_2 : cX3_head.data.toList.drop 46 = dktX3_head_2 := dk_seg dksX3_head_1 22 rfl rfl
theorem dX3_head_0 : decode cX3_head 0 = .ok (.iload_n 1, 1) := dk_27 (dk_at dksX3_head_0 0 rfl rfl)
theorem dX3_head_1 : decode cX3_head 1 = .ok (.invokestatic 119, 3) := dk_184 0 119 (dk_at dksX3_head_0 1 rfl rfl)
theorem dX3_head_4 : decode cX3_head 4 = .ok (.ifCond .eq 7, 3) := dk_153 0 7 (dk_at dksX3_head_0 4 rfl rfl)
theorem dX3_head_7 : decode cX3_head 7 = .ok (.iload_n 2, 1) := dk_28 (dk_at dksX3_head_0 7 rfl rfl)
theorem dX3_head_8 : decode cX3_head 8 = .ok (.ifCond .ge 5, 3) := dk_156 0 5 (dk_at dksX3_head_0 8 rfl rfl)
theorem dX3_head_11 : decode cX3_head 11 = .ok (.iconst (-1), 1) := dk_2 (dk_at dksX3_head_0 11 rfl rfl)
theorem dX3_head_12 : decode cX3_head 12 = .ok (.ireturn, 1) := dk_172 (dk_at dksX3_head_0 12 rfl rfl)
theorem dX3_head_13 : decode cX3_head 13 = .ok (.aload_n 0, 1) := dk_42 (dk_at dksX3_head_0 13 rfl rfl)
theorem dX3_head_14 : decode cX3_head 14 = .ok (.iload_n 1, 1) := dk_27 (dk_at dksX3_head_0 14 rfl rfl)
theorem dX3_head_15 : decode cX3_head 15 = .ok (.invokevirtual 127, 3) := dk_182 0 127 (dk_at dksX3_head_0 15 rfl rfl)
theorem dX3_head_18 : decode cX3_head 18 = .ok (.ifCond .eq 6, 3) := dk_153 0 6 (dk_at dksX3_head_0 18 rfl rfl)
theorem dX3_head_21 : decode cX3_head 21 = .ok (.bipush (-11), 2) := dk_16 245 (dk_at dksX3_head_0 21 rfl rfl)
theorem dX3_head_23 : decode cX3_head 23 = .ok (.ireturn, 1) := dk_172 (dk_at dksX3_head_0 23 rfl rfl)
theorem dX3_head_24 : decode cX3_head 24 = .ok (.aload_n 0, 1) := dk_42 (dk_at dksX3_head_1 0 rfl rfl)
theorem dX3_head_25 : decode cX3_head 25 = .ok (.getfield 60, 3) := dk_180 0 60 (dk_at dksX3_head_1 1 rfl rfl)
theorem dX3_head_28 : decode cX3_head 28 = .ok (.iload_n 1, 1) := dk_27 (dk_at dksX3_head_1 4 rfl rfl)
theorem dX3_head_29 : decode cX3_head 29 = .ok (.iaload, 1) := dk_46 (dk_at dksX3_head_1 5 rfl rfl)
theorem dX3_head_30 : decode cX3_head 30 = .ok (.ifCond .ne 6, 3) := dk_154 0 6 (dk_at dksX3_head_1 6 rfl rfl)
theorem dX3_head_33 : decode cX3_head 33 = .ok (.bipush (-12), 2) := dk_16 244 (dk_at dksX3_head_1 9 rfl rfl)
theorem dX3_head_35 : decode cX3_head 35 = .ok (.ireturn, 1) := dk_172 (dk_at dksX3_head_1 11 rfl rfl)
theorem dX3_head_36 : decode cX3_head 36 = .ok (.aload_n 0, 1) := dk_42 (dk_at dksX3_head_1 12 rfl rfl)
theorem dX3_head_37 : decode cX3_head 37 = .ok (.iload_n 1, 1) := dk_27 (dk_at dksX3_head_1 13 rfl rfl)
theorem dX3_head_38 : decode cX3_head 38 = .ok (.invokevirtual 154, 3) := dk_182 0 154 (dk_at dksX3_head_1 14 rfl rfl)
theorem dX3_head_41 : decode cX3_head 41 = .ok (.iload_n 2, 1) := dk_28 (dk_at dksX3_head_1 17 rfl rfl)
theorem dX3_head_42 : decode cX3_head 42 = .ok (.aload_n 0, 1) := dk_42 (dk_at dksX3_head_1 18 rfl rfl)
theorem dX3_head_43 : decode cX3_head 43 = .ok (.getfield 141, 3) := dk_180 0 141 (dk_at dksX3_head_1 19 rfl rfl)
theorem dX3_head_46 : decode cX3_head 46 = .ok (.if_icmp .ge 12, 3) := dk_162 0 12 (dk_at dksX3_head_2 0 rfl rfl)
theorem dX3_head_49 : decode cX3_head 49 = .ok (.aload_n 0, 1) := dk_42 (dk_at dksX3_head_2 3 rfl rfl)
theorem dX3_head_50 : decode cX3_head 50 = .ok (.getfield 80, 3) := dk_180 0 80 (dk_at dksX3_head_2 4 rfl rfl)
theorem dX3_head_53 : decode cX3_head 53 = .ok (.iload_n 2, 1) := dk_28 (dk_at dksX3_head_2 7 rfl rfl)
theorem dX3_head_54 : decode cX3_head 54 = .ok (.iaload, 1) := dk_46 (dk_at dksX3_head_2 8 rfl rfl)
theorem dX3_head_55 : decode cX3_head 55 = .ok (.goto 5, 3) := dk_167 0 5 (dk_at dksX3_head_2 9 rfl rfl)
theorem dX3_head_58 : decode cX3_head 58 = .ok (.bipush (-2), 2) := dk_16 254 (dk_at dksX3_head_2 12 rfl rfl)
theorem dX3_head_60 : decode cX3_head 60 = .ok (.ireturn, 1) := dk_172 (dk_at dksX3_head_2 14 rfl rfl)
abbrev cX3_dual : ByteArray := prog_11_method_39_code
def yX3_dual : MethodName := ⟨RX3, "dual", "(II)I"⟩
def dkwX3_dual_3 : List UInt8 := [42, 28, 42, 180, 0, 83, 21, 4, 47, 182, 0, 138, 54, 5, 132, 4, 1, 167, 255, 233, 29, 172]
abbrev dktX3_dual_3 : List UInt8 := dkwX3_dual_3 ++ []
def dkwX3_dual_2 : List UInt8 := [42, 180, 0, 64, 27, 46, 42, 180, 0, 67, 27, 46, 182, 0, 123, 3, 54, 4, 21, 4, 29, 162, 0, 23]
abbrev dktX3_dual_2 : List UInt8 := dkwX3_dual_2 ++ dktX3_dual_3
def dkwX3_dual_1 : List UInt8 := [16, 245, 172, 42, 180, 0, 60, 27, 46, 154, 0, 6, 16, 244, 172, 42, 27, 182, 0, 167, 62, 42, 28, 4]
abbrev dktX3_dual_1 : List UInt8 := dkwX3_dual_1 ++ dktX3_dual_2
def dkwX3_dual_0 : List UInt8 := [27, 184, 0, 119, 153, 0, 10, 28, 184, 0, 119, 154, 0, 5, 2, 172, 42, 27, 182, 0, 127, 153, 0, 6]
abbrev dktX3_dual_0 : List UInt8 := dkwX3_dual_0 ++ dktX3_dual_1
theorem dksX3_dual_0 : cX3_dual.data.toList.drop 0 = dktX3_dual_0 := by decide +kernel
theorem dksX3_dual_1 : cX3_dual.data.toList.drop 24 = dktX3_dual_1 := dk_seg dksX3_dual_0 24 rfl rfl
theorem dksX3_dual_2 : cX3_dual.data.toList.drop 48 = dktX3_dual_2 := dk_seg dksX3_dual_1 24 rfl rfl
theorem dksX3_dual_3 : cX3_dual.data.toList.drop 72 = dktX3_dual_3 := dk_seg dksX3_dual_2 24 rfl rfl
theorem dX3_dual_0 : decode cX3_dual 0 = .ok (.iload_n 1, 1) := dk_27 (dk_at dksX3_dual_0 0 rfl rfl)
theorem dX3_dual_1 : decode cX3_dual 1 = .ok (.invokestatic 119, 3) := dk_184 0 119 (dk_at dksX3_dual_0 1 rfl rfl)
theorem dX3_dual_4 : decode cX3_dual 4 = .ok (.ifCond .eq 10, 3) := dk_153 0 10 (dk_at dksX3_dual_0 4 rfl rfl)
theorem dX3_dual_7 : decode cX3_dual 7 = .ok (.iload_n 2, 1) := dk_28 (dk_at dksX3_dual_0 7 rfl rfl)
theorem dX3_dual_8 : decode cX3_dual 8 = .ok (.invokestatic 119, 3) := dk_184 0 119 (dk_at dksX3_dual_0 8 rfl rfl)
theorem dX3_dual_11 : decode cX3_dual 11 = .ok (.ifCond .ne 5, 3) := dk_154 0 5 (dk_at dksX3_dual_0 11 rfl rfl)
theorem dX3_dual_14 : decode cX3_dual 14 = .ok (.iconst (-1), 1) := dk_2 (dk_at dksX3_dual_0 14 rfl rfl)
theorem dX3_dual_15 : decode cX3_dual 15 = .ok (.ireturn, 1) := dk_172 (dk_at dksX3_dual_0 15 rfl rfl)
theorem dX3_dual_16 : decode cX3_dual 16 = .ok (.aload_n 0, 1) := dk_42 (dk_at dksX3_dual_0 16 rfl rfl)
theorem dX3_dual_17 : decode cX3_dual 17 = .ok (.iload_n 1, 1) := dk_27 (dk_at dksX3_dual_0 17 rfl rfl)
theorem dX3_dual_18 : decode cX3_dual 18 = .ok (.invokevirtual 127, 3) := dk_182 0 127 (dk_at dksX3_dual_0 18 rfl rfl)
theorem dX3_dual_21 : decode cX3_dual 21 = .ok (.ifCond .eq 6, 3) := dk_153 0 6 (dk_at dksX3_dual_0 21 rfl rfl)
theorem dX3_dual_24 : decode cX3_dual 24 = .ok (.bipush (-11), 2) := dk_16 245 (dk_at dksX3_dual_1 0 rfl rfl)
theorem dX3_dual_26 : decode cX3_dual 26 = .ok (.ireturn, 1) := dk_172 (dk_at dksX3_dual_1 2 rfl rfl)
theorem dX3_dual_27 : decode cX3_dual 27 = .ok (.aload_n 0, 1) := dk_42 (dk_at dksX3_dual_1 3 rfl rfl)
theorem dX3_dual_28 : decode cX3_dual 28 = .ok (.getfield 60, 3) := dk_180 0 60 (dk_at dksX3_dual_1 4 rfl rfl)
theorem dX3_dual_31 : decode cX3_dual 31 = .ok (.iload_n 1, 1) := dk_27 (dk_at dksX3_dual_1 7 rfl rfl)
theorem dX3_dual_32 : decode cX3_dual 32 = .ok (.iaload, 1) := dk_46 (dk_at dksX3_dual_1 8 rfl rfl)
theorem dX3_dual_33 : decode cX3_dual 33 = .ok (.ifCond .ne 6, 3) := dk_154 0 6 (dk_at dksX3_dual_1 9 rfl rfl)
theorem dX3_dual_36 : decode cX3_dual 36 = .ok (.bipush (-12), 2) := dk_16 244 (dk_at dksX3_dual_1 12 rfl rfl)
theorem dX3_dual_38 : decode cX3_dual 38 = .ok (.ireturn, 1) := dk_172 (dk_at dksX3_dual_1 14 rfl rfl)
theorem dX3_dual_39 : decode cX3_dual 39 = .ok (.aload_n 0, 1) := dk_42 (dk_at dksX3_dual_1 15 rfl rfl)
theorem dX3_dual_40 : decode cX3_dual 40 = .ok (.iload_n 1, 1) := dk_27 (dk_at dksX3_dual_1 16 rfl rfl)
theorem dX3_dual_41 : decode cX3_dual 41 = .ok (.invokevirtual 167, 3) := dk_182 0 167 (dk_at dksX3_dual_1 17 rfl rfl)
theorem dX3_dual_44 : decode cX3_dual 44 = .ok (.istore_n 3, 1) := dk_62 (dk_at dksX3_dual_1 20 rfl rfl)
theorem dX3_dual_45 : decode cX3_dual 45 = .ok (.aload_n 0, 1) := dk_42 (dk_at dksX3_dual_1 21 rfl rfl)
theorem dX3_dual_46 : decode cX3_dual 46 = .ok (.iload_n 2, 1) := dk_28 (dk_at dksX3_dual_1 22 rfl rfl)
theorem dX3_dual_47 : decode cX3_dual 47 = .ok (.iconst 1, 1) := dk_4 (dk_at dksX3_dual_1 23 rfl rfl)
theorem dX3_dual_48 : decode cX3_dual 48 = .ok (.aload_n 0, 1) := dk_42 (dk_at dksX3_dual_2 0 rfl rfl)
theorem dX3_dual_49 : decode cX3_dual 49 = .ok (.getfield 64, 3) := dk_180 0 64 (dk_at dksX3_dual_2 1 rfl rfl)
theorem dX3_dual_52 : decode cX3_dual 52 = .ok (.iload_n 1, 1) := dk_27 (dk_at dksX3_dual_2 4 rfl rfl)
theorem dX3_dual_53 : decode cX3_dual 53 = .ok (.iaload, 1) := dk_46 (dk_at dksX3_dual_2 5 rfl rfl)
theorem dX3_dual_54 : decode cX3_dual 54 = .ok (.aload_n 0, 1) := dk_42 (dk_at dksX3_dual_2 6 rfl rfl)
theorem dX3_dual_55 : decode cX3_dual 55 = .ok (.getfield 67, 3) := dk_180 0 67 (dk_at dksX3_dual_2 7 rfl rfl)
theorem dX3_dual_58 : decode cX3_dual 58 = .ok (.iload_n 1, 1) := dk_27 (dk_at dksX3_dual_2 10 rfl rfl)
theorem dX3_dual_59 : decode cX3_dual 59 = .ok (.iaload, 1) := dk_46 (dk_at dksX3_dual_2 11 rfl rfl)
theorem dX3_dual_60 : decode cX3_dual 60 = .ok (.invokevirtual 123, 3) := dk_182 0 123 (dk_at dksX3_dual_2 12 rfl rfl)
theorem dX3_dual_63 : decode cX3_dual 63 = .ok (.iconst 0, 1) := dk_3 (dk_at dksX3_dual_2 15 rfl rfl)
theorem dX3_dual_64 : decode cX3_dual 64 = .ok (.istore 4, 2) := dk_54 4 (dk_at dksX3_dual_2 16 rfl rfl)
theorem dX3_dual_66 : decode cX3_dual 66 = .ok (.iload 4, 2) := dk_21 4 (dk_at dksX3_dual_2 18 rfl rfl)
theorem dX3_dual_68 : decode cX3_dual 68 = .ok (.iload_n 3, 1) := dk_29 (dk_at dksX3_dual_2 20 rfl rfl)
theorem dX3_dual_69 : decode cX3_dual 69 = .ok (.if_icmp .ge 23, 3) := dk_162 0 23 (dk_at dksX3_dual_2 21 rfl rfl)
theorem dX3_dual_72 : decode cX3_dual 72 = .ok (.aload_n 0, 1) := dk_42 (dk_at dksX3_dual_3 0 rfl rfl)
theorem dX3_dual_73 : decode cX3_dual 73 = .ok (.iload_n 2, 1) := dk_28 (dk_at dksX3_dual_3 1 rfl rfl)
theorem dX3_dual_74 : decode cX3_dual 74 = .ok (.aload_n 0, 1) := dk_42 (dk_at dksX3_dual_3 2 rfl rfl)
theorem dX3_dual_75 : decode cX3_dual 75 = .ok (.getfield 83, 3) := dk_180 0 83 (dk_at dksX3_dual_3 3 rfl rfl)
theorem dX3_dual_78 : decode cX3_dual 78 = .ok (.iload 4, 2) := dk_21 4 (dk_at dksX3_dual_3 6 rfl rfl)
theorem dX3_dual_80 : decode cX3_dual 80 = .ok (.laload, 1) := dk_47 (dk_at dksX3_dual_3 8 rfl rfl)
theorem dX3_dual_81 : decode cX3_dual 81 = .ok (.invokevirtual 138, 3) := dk_182 0 138 (dk_at dksX3_dual_3 9 rfl rfl)
theorem dX3_dual_84 : decode cX3_dual 84 = .ok (.istore 5, 2) := dk_54 5 (dk_at dksX3_dual_3 12 rfl rfl)
theorem dX3_dual_86 : decode cX3_dual 86 = .ok (.iinc 4 1, 3) := dk_132 4 1 (dk_at dksX3_dual_3 14 rfl rfl)
theorem dX3_dual_89 : decode cX3_dual 89 = .ok (.goto (-23), 3) := dk_167 255 233 (dk_at dksX3_dual_3 17 rfl rfl)
theorem dX3_dual_92 : decode cX3_dual 92 = .ok (.iload_n 3, 1) := dk_29 (dk_at dksX3_dual_3 20 rfl rfl)
theorem dX3_dual_93 : decode cX3_dual 93 = .ok (.ireturn, 1) := dk_172 (dk_at dksX3_dual_3 21 rfl rfl)
abbrev cX3_dualOf : ByteArray := prog_11_method_38_code
def yX3_dualOf : MethodName := ⟨RX3, "dualOf", "(I)I"⟩
def dkwX3_dualOf_6 : List UInt8 := [132, 4, 1, 132, 6, 1, 167, 255, 138, 21, 4, 172]
abbrev dktX3_dualOf_6 : List UInt8 := dkwX3_dualOf_6 ++ []
def dkwX3_dualOf_5 : List UInt8 := [184, 0, 11, 105, 97, 55, 7, 132, 9, 1, 167, 255, 204, 42, 180, 0, 83, 21, 4, 22, 7, 80]
abbrev dktX3_dualOf_5 : List UInt8 := dkwX3_dualOf_5 ++ dktX3_dualOf_6
def dkwX3_dualOf_4 : List UInt8 := [21, 9, 47, 21, 6, 184, 0, 15, 184, 0, 148, 133, 28, 29, 4, 100, 42, 180, 0, 80, 21, 9, 46, 100]
abbrev dktX3_dualOf_4 : List UInt8 := dkwX3_dualOf_4 ++ dktX3_dualOf_5
def dkwX3_dualOf_3 : List UInt8 := [55, 7, 3, 54, 9, 21, 9, 42, 180, 0, 141, 162, 0, 49, 22, 7, 28, 28, 29, 42, 180, 0, 77]
abbrev dktX3_dualOf_3 : List UInt8 := dkwX3_dualOf_3 ++ dktX3_dualOf_4
def dkwX3_dualOf_2 : List UInt8 := [21, 5, 46, 21, 6, 160, 0, 9, 132, 5, 1, 167, 0, 85, 28, 29, 4, 100, 21, 6, 100, 184, 0, 11]
abbrev dktX3_dualOf_2 : List UInt8 := dkwX3_dualOf_2 ++ dktX3_dualOf_3
def dkwX3_dualOf_1 : List UInt8 := [54, 5, 3, 54, 6, 21, 6, 29, 162, 0, 118, 21, 5, 42, 180, 0, 141, 162, 0, 21, 42, 180, 0, 80]
abbrev dktX3_dualOf_1 : List UInt8 := dkwX3_dualOf_1 ++ dktX3_dualOf_2
def dkwX3_dualOf_0 : List UInt8 := [42, 180, 0, 64, 27, 46, 61, 42, 180, 0, 67, 27, 46, 62, 42, 27, 182, 0, 154, 3, 54, 4, 3]
abbrev dktX3_dualOf_0 : List UInt8 := dkwX3_dualOf_0 ++ dktX3_dualOf_1
theorem dksX3_dualOf_0 : cX3_dualOf.data.toList.drop 0 = dktX3_dualOf_0 := by decide +kernel
theorem dksX3_dualOf_1 : cX3_dualOf.data.toList.drop 23 = dktX3_dualOf_1 := dk_seg dksX3_dualOf_0 23 rfl rfl
theorem dksX3_dualOf_2 : cX3_dualOf.data.toList.drop 47 = dktX3_dualOf_2 := dk_seg dksX3_dualOf_1 24 rfl rfl
theorem dksX3_dualOf_3 : cX3_dualOf.data.toList.drop 71 = dktX3_dualOf_3 := dk_seg dksX3_dualOf_2 24 rfl rfl
theorem dksX3_dualOf_4 : cX3_dualOf.data.toList.drop 94 = dktX3_dualOf_4 := dk_seg dksX3_dualOf_3 23 rfl rfl
theorem dksX3_dualOf_5 : cX3_dualOf.data.toList.drop 118 = dktX3_dualOf_5 := dk_seg dksX3_dualOf_4 24 rfl rfl
theorem dksX3_dualOf_6 : cX3_dualOf.data.toList.drop 140 = dktX3_dualOf_6 := dk_seg dksX3_dualOf_5 22 rfl rfl
theorem dX3_dualOf_0 : decode cX3_dualOf 0 = .ok (.aload_n 0, 1) := dk_42 (dk_at dksX3_dualOf_0 0 rfl rfl)
theorem dX3_dualOf_1 : decode cX3_dualOf 1 = .ok (.getfield 64, 3) := dk_180 0 64 (dk_at dksX3_dualOf_0 1 rfl rfl)
theorem dX3_dualOf_4 : decode cX3_dualOf 4 = .ok (.iload_n 1, 1) := dk_27 (dk_at dksX3_dualOf_0 4 rfl rfl)
theorem dX3_dualOf_5 : decode cX3_dualOf 5 = .ok (.iaload, 1) := dk_46 (dk_at dksX3_dualOf_0 5 rfl rfl)
theorem dX3_dualOf_6 : decode cX3_dualOf 6 = .ok (.istore_n 2, 1) := dk_61 (dk_at dksX3_dualOf_0 6 rfl rfl)
theorem dX3_dualOf_7 : decode cX3_dualOf 7 = .ok (.aload_n 0, 1) := dk_42 (dk_at dksX3_dualOf_0 7 rfl rfl)
theorem dX3_dualOf_8 : decode cX3_dualOf 8 = .ok (.getfield 67, 3) := dk_180 0 67 (dk_at dksX3_dualOf_0 8 rfl rfl)
theorem dX3_dualOf_11 : decode cX3_dualOf 11 = .ok (.iload_n 1, 1) := dk_27 (dk_at dksX3_dualOf_0 11 rfl rfl)
theorem dX3_dualOf_12 : decode cX3_dualOf 12 = .ok (.iaload, 1) := dk_46 (dk_at dksX3_dualOf_0 12 rfl rfl)
theorem dX3_dualOf_13 : decode cX3_dualOf 13 = .ok (.istore_n 3, 1) := dk_62 (dk_at dksX3_dualOf_0 13 rfl rfl)
theorem dX3_dualOf_14 : decode cX3_dualOf 14 = .ok (.aload_n 0, 1) := dk_42 (dk_at dksX3_dualOf_0 14 rfl rfl)
theorem dX3_dualOf_15 : decode cX3_dualOf 15 = .ok (.iload_n 1, 1) := dk_27 (dk_at dksX3_dualOf_0 15 rfl rfl)
theorem dX3_dualOf_16 : decode cX3_dualOf 16 = .ok (.invokevirtual 154, 3) := dk_182 0 154 (dk_at dksX3_dualOf_0 16 rfl rfl)
theorem dX3_dualOf_19 : decode cX3_dualOf 19 = .ok (.iconst 0, 1) := dk_3 (dk_at dksX3_dualOf_0 19 rfl rfl)
theorem dX3_dualOf_20 : decode cX3_dualOf 20 = .ok (.istore 4, 2) := dk_54 4 (dk_at dksX3_dualOf_0 20 rfl rfl)
theorem dX3_dualOf_22 : decode cX3_dualOf 22 = .ok (.iconst 0, 1) := dk_3 (dk_at dksX3_dualOf_0 22 rfl rfl)
theorem dX3_dualOf_23 : decode cX3_dualOf 23 = .ok (.istore 5, 2) := dk_54 5 (dk_at dksX3_dualOf_1 0 rfl rfl)
theorem dX3_dualOf_25 : decode cX3_dualOf 25 = .ok (.iconst 0, 1) := dk_3 (dk_at dksX3_dualOf_1 2 rfl rfl)
theorem dX3_dualOf_26 : decode cX3_dualOf 26 = .ok (.istore 6, 2) := dk_54 6 (dk_at dksX3_dualOf_1 3 rfl rfl)
theorem dX3_dualOf_28 : decode cX3_dualOf 28 = .ok (.iload 6, 2) := dk_21 6 (dk_at dksX3_dualOf_1 5 rfl rfl)
theorem dX3_dualOf_30 : decode cX3_dualOf 30 = .ok (.iload_n 3, 1) := dk_29 (dk_at dksX3_dualOf_1 7 rfl rfl)
theorem dX3_dualOf_31 : decode cX3_dualOf 31 = .ok (.if_icmp .ge 118, 3) := dk_162 0 118 (dk_at dksX3_dualOf_1 8 rfl rfl)
theorem dX3_dualOf_34 : decode cX3_dualOf 34 = .ok (.iload 5, 2) := dk_21 5 (dk_at dksX3_dualOf_1 11 rfl rfl)
theorem dX3_dualOf_36 : decode cX3_dualOf 36 = .ok (.aload_n 0, 1) := dk_42 (dk_at dksX3_dualOf_1 13 rfl rfl)
theorem dX3_dualOf_37 : decode cX3_dualOf 37 = .ok (.getfield 141, 3) := dk_180 0 141 (dk_at dksX3_dualOf_1 14 rfl rfl)
theorem dX3_dualOf_40 : decode cX3_dualOf 40 = .ok (.if_icmp .ge 21, 3) := dk_162 0 21 (dk_at dksX3_dualOf_1 17 rfl rfl)
theorem dX3_dualOf_43 : decode cX3_dualOf 43 = .ok (.aload_n 0, 1) := dk_42 (dk_at dksX3_dualOf_1 20 rfl rfl)
theorem dX3_dualOf_44 : decode cX3_dualOf 44 = .ok (.getfield 80, 3) := dk_180 0 80 (dk_at dksX3_dualOf_1 21 rfl rfl)
theorem dX3_dualOf_47 : decode cX3_dualOf 47 = .ok (.iload 5, 2) := dk_21 5 (dk_at dksX3_dualOf_2 0 rfl rfl)
theorem dX3_dualOf_49 : decode cX3_dualOf 49 = .ok (.iaload, 1) := dk_46 (dk_at dksX3_dualOf_2 2 rfl rfl)
theorem dX3_dualOf_50 : decode cX3_dualOf 50 = .ok (.iload 6, 2) := dk_21 6 (dk_at dksX3_dualOf_2 3 rfl rfl)
theorem dX3_dualOf_52 : decode cX3_dualOf 52 = .ok (.if_icmp .ne 9, 3) := dk_160 0 9 (dk_at dksX3_dualOf_2 5 rfl rfl)
theorem dX3_dualOf_55 : decode cX3_dualOf 55 = .ok (.iinc 5 1, 3) := dk_132 5 1 (dk_at dksX3_dualOf_2 8 rfl rfl)
theorem dX3_dualOf_58 : decode cX3_dualOf 58 = .ok (.goto 85, 3) := dk_167 0 85 (dk_at dksX3_dualOf_2 11 rfl rfl)
theorem dX3_dualOf_61 : decode cX3_dualOf 61 = .ok (.iload_n 2, 1) := dk_28 (dk_at dksX3_dualOf_2 14 rfl rfl)
theorem dX3_dualOf_62 : decode cX3_dualOf 62 = .ok (.iload_n 3, 1) := dk_29 (dk_at dksX3_dualOf_2 15 rfl rfl)
theorem dX3_dualOf_63 : decode cX3_dualOf 63 = .ok (.iconst 1, 1) := dk_4 (dk_at dksX3_dualOf_2 16 rfl rfl)
theorem dX3_dualOf_64 : decode cX3_dualOf 64 = .ok (.isub, 1) := dk_100 (dk_at dksX3_dualOf_2 17 rfl rfl)
theorem dX3_dualOf_65 : decode cX3_dualOf 65 = .ok (.iload 6, 2) := dk_21 6 (dk_at dksX3_dualOf_2 18 rfl rfl)
theorem dX3_dualOf_67 : decode cX3_dualOf 67 = .ok (.isub, 1) := dk_100 (dk_at dksX3_dualOf_2 20 rfl rfl)
theorem dX3_dualOf_68 : decode cX3_dualOf 68 = .ok (.invokestatic 11, 3) := dk_184 0 11 (dk_at dksX3_dualOf_2 21 rfl rfl)
theorem dX3_dualOf_71 : decode cX3_dualOf 71 = .ok (.lstore 7, 2) := dk_55 7 (dk_at dksX3_dualOf_3 0 rfl rfl)
theorem dX3_dualOf_73 : decode cX3_dualOf 73 = .ok (.iconst 0, 1) := dk_3 (dk_at dksX3_dualOf_3 2 rfl rfl)
theorem dX3_dualOf_74 : decode cX3_dualOf 74 = .ok (.istore 9, 2) := dk_54 9 (dk_at dksX3_dualOf_3 3 rfl rfl)
theorem dX3_dualOf_76 : decode cX3_dualOf 76 = .ok (.iload 9, 2) := dk_21 9 (dk_at dksX3_dualOf_3 5 rfl rfl)
theorem dX3_dualOf_78 : decode cX3_dualOf 78 = .ok (.aload_n 0, 1) := dk_42 (dk_at dksX3_dualOf_3 7 rfl rfl)
theorem dX3_dualOf_79 : decode cX3_dualOf 79 = .ok (.getfield 141, 3) := dk_180 0 141 (dk_at dksX3_dualOf_3 8 rfl rfl)
theorem dX3_dualOf_82 : decode cX3_dualOf 82 = .ok (.if_icmp .ge 49, 3) := dk_162 0 49 (dk_at dksX3_dualOf_3 11 rfl rfl)
theorem dX3_dualOf_85 : decode cX3_dualOf 85 = .ok (.lload 7, 2) := dk_22 7 (dk_at dksX3_dualOf_3 14 rfl rfl)
theorem dX3_dualOf_87 : decode cX3_dualOf 87 = .ok (.iload_n 2, 1) := dk_28 (dk_at dksX3_dualOf_3 16 rfl rfl)
theorem dX3_dualOf_88 : decode cX3_dualOf 88 = .ok (.iload_n 2, 1) := dk_28 (dk_at dksX3_dualOf_3 17 rfl rfl)
theorem dX3_dualOf_89 : decode cX3_dualOf 89 = .ok (.iload_n 3, 1) := dk_29 (dk_at dksX3_dualOf_3 18 rfl rfl)
theorem dX3_dualOf_90 : decode cX3_dualOf 90 = .ok (.aload_n 0, 1) := dk_42 (dk_at dksX3_dualOf_3 19 rfl rfl)
theorem dX3_dualOf_91 : decode cX3_dualOf 91 = .ok (.getfield 77, 3) := dk_180 0 77 (dk_at dksX3_dualOf_3 20 rfl rfl)
theorem dX3_dualOf_94 : decode cX3_dualOf 94 = .ok (.iload 9, 2) := dk_21 9 (dk_at dksX3_dualOf_4 0 rfl rfl)
theorem dX3_dualOf_96 : decode cX3_dualOf 96 = .ok (.laload, 1) := dk_47 (dk_at dksX3_dualOf_4 2 rfl rfl)
theorem dX3_dualOf_97 : decode cX3_dualOf 97 = .ok (.iload 6, 2) := dk_21 6 (dk_at dksX3_dualOf_4 3 rfl rfl)
theorem dX3_dualOf_99 : decode cX3_dualOf 99 = .ok (.invokestatic 15, 3) := dk_184 0 15 (dk_at dksX3_dualOf_4 5 rfl rfl)
theorem dX3_dualOf_102 : decode cX3_dualOf 102 = .ok (.invokestatic 148, 3) := dk_184 0 148 (dk_at dksX3_dualOf_4 8 rfl rfl)
theorem dX3_dualOf_105 : decode cX3_dualOf 105 = .ok (.i2l, 1) := dk_133 (dk_at dksX3_dualOf_4 11 rfl rfl)
theorem dX3_dualOf_106 : decode cX3_dualOf 106 = .ok (.iload_n 2, 1) := dk_28 (dk_at dksX3_dualOf_4 12 rfl rfl)
theorem dX3_dualOf_107 : decode cX3_dualOf 107 = .ok (.iload_n 3, 1) := dk_29 (dk_at dksX3_dualOf_4 13 rfl rfl)
theorem dX3_dualOf_108 : decode cX3_dualOf 108 = .ok (.iconst 1, 1) := dk_4 (dk_at dksX3_dualOf_4 14 rfl rfl)
theorem dX3_dualOf_109 : decode cX3_dualOf 109 = .ok (.isub, 1) := dk_100 (dk_at dksX3_dualOf_4 15 rfl rfl)
theorem dX3_dualOf_110 : decode cX3_dualOf 110 = .ok (.aload_n 0, 1) := dk_42 (dk_at dksX3_dualOf_4 16 rfl rfl)
theorem dX3_dualOf_111 : decode cX3_dualOf 111 = .ok (.getfield 80, 3) := dk_180 0 80 (dk_at dksX3_dualOf_4 17 rfl rfl)
theorem dX3_dualOf_114 : decode cX3_dualOf 114 = .ok (.iload 9, 2) := dk_21 9 (dk_at dksX3_dualOf_4 20 rfl rfl)
theorem dX3_dualOf_116 : decode cX3_dualOf 116 = .ok (.iaload, 1) := dk_46 (dk_at dksX3_dualOf_4 22 rfl rfl)
theorem dX3_dualOf_117 : decode cX3_dualOf 117 = .ok (.isub, 1) := dk_100 (dk_at dksX3_dualOf_4 23 rfl rfl)
theorem dX3_dualOf_118 : decode cX3_dualOf 118 = .ok (.invokestatic 11, 3) := dk_184 0 11 (dk_at dksX3_dualOf_5 0 rfl rfl)
theorem dX3_dualOf_121 : decode cX3_dualOf 121 = .ok (.lmul, 1) := dk_105 (dk_at dksX3_dualOf_5 3 rfl rfl)
theorem dX3_dualOf_122 : decode cX3_dualOf 122 = .ok (.ladd, 1) := dk_97 (dk_at dksX3_dualOf_5 4 rfl rfl)
theorem dX3_dualOf_123 : decode cX3_dualOf 123 = .ok (.lstore 7, 2) := dk_55 7 (dk_at dksX3_dualOf_5 5 rfl rfl)
theorem dX3_dualOf_125 : decode cX3_dualOf 125 = .ok (.iinc 9 1, 3) := dk_132 9 1 (dk_at dksX3_dualOf_5 7 rfl rfl)
theorem dX3_dualOf_128 : decode cX3_dualOf 128 = .ok (.goto (-52), 3) := dk_167 255 204 (dk_at dksX3_dualOf_5 10 rfl rfl)
theorem dX3_dualOf_131 : decode cX3_dualOf 131 = .ok (.aload_n 0, 1) := dk_42 (dk_at dksX3_dualOf_5 13 rfl rfl)
theorem dX3_dualOf_132 : decode cX3_dualOf 132 = .ok (.getfield 83, 3) := dk_180 0 83 (dk_at dksX3_dualOf_5 14 rfl rfl)
theorem dX3_dualOf_135 : decode cX3_dualOf 135 = .ok (.iload 4, 2) := dk_21 4 (dk_at dksX3_dualOf_5 17 rfl rfl)
theorem dX3_dualOf_137 : decode cX3_dualOf 137 = .ok (.lload 7, 2) := dk_22 7 (dk_at dksX3_dualOf_5 19 rfl rfl)
theorem dX3_dualOf_139 : decode cX3_dualOf 139 = .ok (.lastore, 1) := dk_80 (dk_at dksX3_dualOf_5 21 rfl rfl)
theorem dX3_dualOf_140 : decode cX3_dualOf 140 = .ok (.iinc 4 1, 3) := dk_132 4 1 (dk_at dksX3_dualOf_6 0 rfl rfl)
theorem dX3_dualOf_143 : decode cX3_dualOf 143 = .ok (.iinc 6 1, 3) := dk_132 6 1 (dk_at dksX3_dualOf_6 3 rfl rfl)
theorem dX3_dualOf_146 : decode cX3_dualOf 146 = .ok (.goto (-118), 3) := dk_167 255 138 (dk_at dksX3_dualOf_6 6 rfl rfl)
theorem dX3_dualOf_149 : decode cX3_dualOf 149 = .ok (.iload 4, 2) := dk_21 4 (dk_at dksX3_dualOf_6 9 rfl rfl)
theorem dX3_dualOf_151 : decode cX3_dualOf 151 = .ok (.ireturn, 1) := dk_172 (dk_at dksX3_dualOf_6 11 rfl rfl)
abbrev cX3_checks : ByteArray := prog_11_method_40_code
def yX3_checks : MethodName := ⟨RX3, "checks", "(IJ)J"⟩
def dkwX3_checks_4 : List UInt8 := [180, 0, 83, 21, 7, 47, 184, 0, 50, 133, 97, 55, 5, 132, 7, 1, 167, 255, 209, 22, 5, 173]
abbrev dktX3_checks_4 : List UInt8 := dkwX3_checks_4 ++ []
def dkwX3_checks_3 : List UInt8 := [180, 0, 64, 27, 46, 133, 22, 5, 105, 42, 180, 0, 64, 27, 46, 42, 180, 0, 67, 27, 46, 32, 42]
abbrev dktX3_checks_3 : List UInt8 := dkwX3_checks_3 ++ dktX3_checks_4
def dkwX3_checks_2 : List UInt8 := [173, 42, 27, 182, 0, 167, 54, 4, 9, 55, 5, 3, 54, 7, 21, 7, 21, 4, 162, 0, 46, 42]
abbrev dktX3_checks_2 : List UInt8 := dkwX3_checks_2 ++ dktX3_checks_3
def dkwX3_checks_1 : List UInt8 := [27, 32, 182, 0, 130, 154, 0, 7, 20, 0, 40, 173, 42, 180, 0, 60, 27, 46, 154, 0, 7, 20, 0, 171]
abbrev dktX3_checks_1 : List UInt8 := dkwX3_checks_1 ++ dktX3_checks_2
def dkwX3_checks_0 : List UInt8 := [27, 184, 0, 119, 154, 0, 7, 20, 0, 40, 173, 42, 27, 182, 0, 127, 153, 0, 7, 20, 0, 158, 173, 42]
abbrev dktX3_checks_0 : List UInt8 := dkwX3_checks_0 ++ dktX3_checks_1
theorem dksX3_checks_0 : cX3_checks.data.toList.drop 0 = dktX3_checks_0 := by decide +kernel
theorem dksX3_checks_1 : cX3_checks.data.toList.drop 24 = dktX3_checks_1 := dk_seg dksX3_checks_0 24 rfl rfl
theorem dksX3_checks_2 : cX3_checks.data.toList.drop 48 = dktX3_checks_2 := dk_seg dksX3_checks_1 24 rfl rfl
theorem dksX3_checks_3 : cX3_checks.data.toList.drop 70 = dktX3_checks_3 := dk_seg dksX3_checks_2 22 rfl rfl
theorem dksX3_checks_4 : cX3_checks.data.toList.drop 93 = dktX3_checks_4 := dk_seg dksX3_checks_3 23 rfl rfl
theorem dX3_checks_0 : decode cX3_checks 0 = .ok (.iload_n 1, 1) := dk_27 (dk_at dksX3_checks_0 0 rfl rfl)
theorem dX3_checks_1 : decode cX3_checks 1 = .ok (.invokestatic 119, 3) := dk_184 0 119 (dk_at dksX3_checks_0 1 rfl rfl)
theorem dX3_checks_4 : decode cX3_checks 4 = .ok (.ifCond .ne 7, 3) := dk_154 0 7 (dk_at dksX3_checks_0 4 rfl rfl)
theorem dX3_checks_7 : decode cX3_checks 7 = .ok (.ldc2_w 40, 3) := dk_20 0 40 (dk_at dksX3_checks_0 7 rfl rfl)
theorem dX3_checks_10 : decode cX3_checks 10 = .ok (.lreturn, 1) := dk_173 (dk_at dksX3_checks_0 10 rfl rfl)
theorem dX3_checks_11 : decode cX3_checks 11 = .ok (.aload_n 0, 1) := dk_42 (dk_at dksX3_checks_0 11 rfl rfl)
theorem dX3_checks_12 : decode cX3_checks 12 = .ok (.iload_n 1, 1) := dk_27 (dk_at dksX3_checks_0 12 rfl rfl)
theorem dX3_checks_13 : decode cX3_checks 13 = .ok (.invokevirtual 127, 3) := dk_182 0 127 (dk_at dksX3_checks_0 13 rfl rfl)
theorem dX3_checks_16 : decode cX3_checks 16 = .ok (.ifCond .eq 7, 3) := dk_153 0 7 (dk_at dksX3_checks_0 16 rfl rfl)
theorem dX3_checks_19 : decode cX3_checks 19 = .ok (.ldc2_w 158, 3) := dk_20 0 158 (dk_at dksX3_checks_0 19 rfl rfl)
theorem dX3_checks_22 : decode cX3_checks 22 = .ok (.lreturn, 1) := dk_173 (dk_at dksX3_checks_0 22 rfl rfl)
theorem dX3_checks_23 : decode cX3_checks 23 = .ok (.aload_n 0, 1) := dk_42 (dk_at dksX3_checks_0 23 rfl rfl)
theorem dX3_checks_24 : decode cX3_checks 24 = .ok (.iload_n 1, 1) := dk_27 (dk_at dksX3_checks_1 0 rfl rfl)
theorem dX3_checks_25 : decode cX3_checks 25 = .ok (.lload_n 2, 1) := dk_32 (dk_at dksX3_checks_1 1 rfl rfl)
theorem dX3_checks_26 : decode cX3_checks 26 = .ok (.invokevirtual 130, 3) := dk_182 0 130 (dk_at dksX3_checks_1 2 rfl rfl)
theorem dX3_checks_29 : decode cX3_checks 29 = .ok (.ifCond .ne 7, 3) := dk_154 0 7 (dk_at dksX3_checks_1 5 rfl rfl)
theorem dX3_checks_32 : decode cX3_checks 32 = .ok (.ldc2_w 40, 3) := dk_20 0 40 (dk_at dksX3_checks_1 8 rfl rfl)
theorem dX3_checks_35 : decode cX3_checks 35 = .ok (.lreturn, 1) := dk_173 (dk_at dksX3_checks_1 11 rfl rfl)
theorem dX3_checks_36 : decode cX3_checks 36 = .ok (.aload_n 0, 1) := dk_42 (dk_at dksX3_checks_1 12 rfl rfl)
theorem dX3_checks_37 : decode cX3_checks 37 = .ok (.getfield 60, 3) := dk_180 0 60 (dk_at dksX3_checks_1 13 rfl rfl)
theorem dX3_checks_40 : decode cX3_checks 40 = .ok (.iload_n 1, 1) := dk_27 (dk_at dksX3_checks_1 16 rfl rfl)
theorem dX3_checks_41 : decode cX3_checks 41 = .ok (.iaload, 1) := dk_46 (dk_at dksX3_checks_1 17 rfl rfl)
theorem dX3_checks_42 : decode cX3_checks 42 = .ok (.ifCond .ne 7, 3) := dk_154 0 7 (dk_at dksX3_checks_1 18 rfl rfl)
theorem dX3_checks_45 : decode cX3_checks 45 = .ok (.ldc2_w 171, 3) := dk_20 0 171 (dk_at dksX3_checks_1 21 rfl rfl)
theorem dX3_checks_48 : decode cX3_checks 48 = .ok (.lreturn, 1) := dk_173 (dk_at dksX3_checks_2 0 rfl rfl)
theorem dX3_checks_49 : decode cX3_checks 49 = .ok (.aload_n 0, 1) := dk_42 (dk_at dksX3_checks_2 1 rfl rfl)
theorem dX3_checks_50 : decode cX3_checks 50 = .ok (.iload_n 1, 1) := dk_27 (dk_at dksX3_checks_2 2 rfl rfl)
theorem dX3_checks_51 : decode cX3_checks 51 = .ok (.invokevirtual 167, 3) := dk_182 0 167 (dk_at dksX3_checks_2 3 rfl rfl)
theorem dX3_checks_54 : decode cX3_checks 54 = .ok (.istore 4, 2) := dk_54 4 (dk_at dksX3_checks_2 6 rfl rfl)
theorem dX3_checks_56 : decode cX3_checks 56 = .ok (.lconst 0, 1) := dk_9 (dk_at dksX3_checks_2 8 rfl rfl)
theorem dX3_checks_57 : decode cX3_checks 57 = .ok (.lstore 5, 2) := dk_55 5 (dk_at dksX3_checks_2 9 rfl rfl)
theorem dX3_checks_59 : decode cX3_checks 59 = .ok (.iconst 0, 1) := dk_3 (dk_at dksX3_checks_2 11 rfl rfl)
theorem dX3_checks_60 : decode cX3_checks 60 = .ok (.istore 7, 2) := dk_54 7 (dk_at dksX3_checks_2 12 rfl rfl)
theorem dX3_checks_62 : decode cX3_checks 62 = .ok (.iload 7, 2) := dk_21 7 (dk_at dksX3_checks_2 14 rfl rfl)
theorem dX3_checks_64 : decode cX3_checks 64 = .ok (.iload 4, 2) := dk_21 4 (dk_at dksX3_checks_2 16 rfl rfl)
theorem dX3_checks_66 : decode cX3_checks 66 = .ok (.if_icmp .ge 46, 3) := dk_162 0 46 (dk_at dksX3_checks_2 18 rfl rfl)
theorem dX3_checks_69 : decode cX3_checks 69 = .ok (.aload_n 0, 1) := dk_42 (dk_at dksX3_checks_2 21 rfl rfl)
theorem dX3_checks_70 : decode cX3_checks 70 = .ok (.getfield 64, 3) := dk_180 0 64 (dk_at dksX3_checks_3 0 rfl rfl)
theorem dX3_checks_73 : decode cX3_checks 73 = .ok (.iload_n 1, 1) := dk_27 (dk_at dksX3_checks_3 3 rfl rfl)
theorem dX3_checks_74 : decode cX3_checks 74 = .ok (.iaload, 1) := dk_46 (dk_at dksX3_checks_3 4 rfl rfl)
theorem dX3_checks_75 : decode cX3_checks 75 = .ok (.i2l, 1) := dk_133 (dk_at dksX3_checks_3 5 rfl rfl)
theorem dX3_checks_76 : decode cX3_checks 76 = .ok (.lload 5, 2) := dk_22 5 (dk_at dksX3_checks_3 6 rfl rfl)
theorem dX3_checks_78 : decode cX3_checks 78 = .ok (.lmul, 1) := dk_105 (dk_at dksX3_checks_3 8 rfl rfl)
theorem dX3_checks_79 : decode cX3_checks 79 = .ok (.aload_n 0, 1) := dk_42 (dk_at dksX3_checks_3 9 rfl rfl)
theorem dX3_checks_80 : decode cX3_checks 80 = .ok (.getfield 64, 3) := dk_180 0 64 (dk_at dksX3_checks_3 10 rfl rfl)
theorem dX3_checks_83 : decode cX3_checks 83 = .ok (.iload_n 1, 1) := dk_27 (dk_at dksX3_checks_3 13 rfl rfl)
theorem dX3_checks_84 : decode cX3_checks 84 = .ok (.iaload, 1) := dk_46 (dk_at dksX3_checks_3 14 rfl rfl)
theorem dX3_checks_85 : decode cX3_checks 85 = .ok (.aload_n 0, 1) := dk_42 (dk_at dksX3_checks_3 15 rfl rfl)
theorem dX3_checks_86 : decode cX3_checks 86 = .ok (.getfield 67, 3) := dk_180 0 67 (dk_at dksX3_checks_3 16 rfl rfl)
theorem dX3_checks_89 : decode cX3_checks 89 = .ok (.iload_n 1, 1) := dk_27 (dk_at dksX3_checks_3 19 rfl rfl)
theorem dX3_checks_90 : decode cX3_checks 90 = .ok (.iaload, 1) := dk_46 (dk_at dksX3_checks_3 20 rfl rfl)
theorem dX3_checks_91 : decode cX3_checks 91 = .ok (.lload_n 2, 1) := dk_32 (dk_at dksX3_checks_3 21 rfl rfl)
theorem dX3_checks_92 : decode cX3_checks 92 = .ok (.aload_n 0, 1) := dk_42 (dk_at dksX3_checks_3 22 rfl rfl)
theorem dX3_checks_93 : decode cX3_checks 93 = .ok (.getfield 83, 3) := dk_180 0 83 (dk_at dksX3_checks_4 0 rfl rfl)
theorem dX3_checks_96 : decode cX3_checks 96 = .ok (.iload 7, 2) := dk_21 7 (dk_at dksX3_checks_4 3 rfl rfl)
theorem dX3_checks_98 : decode cX3_checks 98 = .ok (.laload, 1) := dk_47 (dk_at dksX3_checks_4 5 rfl rfl)
theorem dX3_checks_99 : decode cX3_checks 99 = .ok (.invokestatic 50, 3) := dk_184 0 50 (dk_at dksX3_checks_4 6 rfl rfl)
theorem dX3_checks_102 : decode cX3_checks 102 = .ok (.i2l, 1) := dk_133 (dk_at dksX3_checks_4 9 rfl rfl)
theorem dX3_checks_103 : decode cX3_checks 103 = .ok (.ladd, 1) := dk_97 (dk_at dksX3_checks_4 10 rfl rfl)
theorem dX3_checks_104 : decode cX3_checks 104 = .ok (.lstore 5, 2) := dk_55 5 (dk_at dksX3_checks_4 11 rfl rfl)
theorem dX3_checks_106 : decode cX3_checks 106 = .ok (.iinc 7 1, 3) := dk_132 7 1 (dk_at dksX3_checks_4 13 rfl rfl)
theorem dX3_checks_109 : decode cX3_checks 109 = .ok (.goto (-47), 3) := dk_167 255 209 (dk_at dksX3_checks_4 16 rfl rfl)
theorem dX3_checks_112 : decode cX3_checks 112 = .ok (.lload 5, 2) := dk_22 5 (dk_at dksX3_checks_4 19 rfl rfl)
theorem dX3_checks_114 : decode cX3_checks 114 = .ok (.lreturn, 1) := dk_173 (dk_at dksX3_checks_4 21 rfl rfl)
abbrev cX3_least : ByteArray := prog_11_method_48_code
def yX3_least : MethodName := ⟨RX3, "least", "(I)I"⟩
def dkwX3_least_1 : List UInt8 := [182, 0, 190, 167, 0, 5, 16, 251, 172]
abbrev dktX3_least_1 : List UInt8 := dkwX3_least_1 ++ []
def dkwX3_least_0 : List UInt8 := [42, 27, 182, 0, 184, 153, 0, 9, 42, 27, 182, 0, 184, 172, 42, 27, 182, 0, 187, 153, 0, 11, 42, 27]
abbrev dktX3_least_0 : List UInt8 := dkwX3_least_0 ++ dktX3_least_1
theorem dksX3_least_0 : cX3_least.data.toList.drop 0 = dktX3_least_0 := by decide +kernel
theorem dksX3_least_1 : cX3_least.data.toList.drop 24 = dktX3_least_1 := dk_seg dksX3_least_0 24 rfl rfl
theorem dX3_least_0 : decode cX3_least 0 = .ok (.aload_n 0, 1) := dk_42 (dk_at dksX3_least_0 0 rfl rfl)
theorem dX3_least_1 : decode cX3_least 1 = .ok (.iload_n 1, 1) := dk_27 (dk_at dksX3_least_0 1 rfl rfl)
theorem dX3_least_2 : decode cX3_least 2 = .ok (.invokevirtual 184, 3) := dk_182 0 184 (dk_at dksX3_least_0 2 rfl rfl)
theorem dX3_least_5 : decode cX3_least 5 = .ok (.ifCond .eq 9, 3) := dk_153 0 9 (dk_at dksX3_least_0 5 rfl rfl)
theorem dX3_least_8 : decode cX3_least 8 = .ok (.aload_n 0, 1) := dk_42 (dk_at dksX3_least_0 8 rfl rfl)
theorem dX3_least_9 : decode cX3_least 9 = .ok (.iload_n 1, 1) := dk_27 (dk_at dksX3_least_0 9 rfl rfl)
theorem dX3_least_10 : decode cX3_least 10 = .ok (.invokevirtual 184, 3) := dk_182 0 184 (dk_at dksX3_least_0 10 rfl rfl)
theorem dX3_least_13 : decode cX3_least 13 = .ok (.ireturn, 1) := dk_172 (dk_at dksX3_least_0 13 rfl rfl)
theorem dX3_least_14 : decode cX3_least 14 = .ok (.aload_n 0, 1) := dk_42 (dk_at dksX3_least_0 14 rfl rfl)
theorem dX3_least_15 : decode cX3_least 15 = .ok (.iload_n 1, 1) := dk_27 (dk_at dksX3_least_0 15 rfl rfl)
theorem dX3_least_16 : decode cX3_least 16 = .ok (.invokevirtual 187, 3) := dk_182 0 187 (dk_at dksX3_least_0 16 rfl rfl)
theorem dX3_least_19 : decode cX3_least 19 = .ok (.ifCond .eq 11, 3) := dk_153 0 11 (dk_at dksX3_least_0 19 rfl rfl)
theorem dX3_least_22 : decode cX3_least 22 = .ok (.aload_n 0, 1) := dk_42 (dk_at dksX3_least_0 22 rfl rfl)
theorem dX3_least_23 : decode cX3_least 23 = .ok (.iload_n 1, 1) := dk_27 (dk_at dksX3_least_0 23 rfl rfl)
theorem dX3_least_24 : decode cX3_least 24 = .ok (.invokevirtual 190, 3) := dk_182 0 190 (dk_at dksX3_least_1 0 rfl rfl)
theorem dX3_least_27 : decode cX3_least 27 = .ok (.goto 5, 3) := dk_167 0 5 (dk_at dksX3_least_1 3 rfl rfl)
theorem dX3_least_30 : decode cX3_least 30 = .ok (.bipush (-5), 2) := dk_16 251 (dk_at dksX3_least_1 6 rfl rfl)
theorem dX3_least_32 : decode cX3_least 32 = .ok (.ireturn, 1) := dk_172 (dk_at dksX3_least_1 8 rfl rfl)
abbrev cX3_lacks : ByteArray := prog_11_method_46_code
def yX3_lacks : MethodName := ⟨RX3, "lacks", "(I)I"⟩
def dkwX3_lacks_1 : List UInt8 := [3, 172]
abbrev dktX3_lacks_1 : List UInt8 := dkwX3_lacks_1 ++ []
def dkwX3_lacks_0 : List UInt8 := [27, 184, 0, 119, 154, 0, 7, 2, 167, 0, 17, 42, 27, 182, 0, 127, 153, 0, 8, 16, 245, 167, 0, 4]
abbrev dktX3_lacks_0 : List UInt8 := dkwX3_lacks_0 ++ dktX3_lacks_1
theorem dksX3_lacks_0 : cX3_lacks.data.toList.drop 0 = dktX3_lacks_0 := by decide +kernel
theorem dksX3_lacks_1 : cX3_lacks.data.toList.drop 24 = dktX3_lacks_1 := dk_seg dksX3_lacks_0 24 rfl rfl
theorem dX3_lacks_0 : decode cX3_lacks 0 = .ok (.iload_n 1, 1) := dk_27 (dk_at dksX3_lacks_0 0 rfl rfl)
theorem dX3_lacks_1 : decode cX3_lacks 1 = .ok (.invokestatic 119, 3) := dk_184 0 119 (dk_at dksX3_lacks_0 1 rfl rfl)
theorem dX3_lacks_4 : decode cX3_lacks 4 = .ok (.ifCond .ne 7, 3) := dk_154 0 7 (dk_at dksX3_lacks_0 4 rfl rfl)
theorem dX3_lacks_7 : decode cX3_lacks 7 = .ok (.iconst (-1), 1) := dk_2 (dk_at dksX3_lacks_0 7 rfl rfl)
theorem dX3_lacks_8 : decode cX3_lacks 8 = .ok (.goto 17, 3) := dk_167 0 17 (dk_at dksX3_lacks_0 8 rfl rfl)
theorem dX3_lacks_11 : decode cX3_lacks 11 = .ok (.aload_n 0, 1) := dk_42 (dk_at dksX3_lacks_0 11 rfl rfl)
theorem dX3_lacks_12 : decode cX3_lacks 12 = .ok (.iload_n 1, 1) := dk_27 (dk_at dksX3_lacks_0 12 rfl rfl)
theorem dX3_lacks_13 : decode cX3_lacks 13 = .ok (.invokevirtual 127, 3) := dk_182 0 127 (dk_at dksX3_lacks_0 13 rfl rfl)
theorem dX3_lacks_16 : decode cX3_lacks 16 = .ok (.ifCond .eq 8, 3) := dk_153 0 8 (dk_at dksX3_lacks_0 16 rfl rfl)
theorem dX3_lacks_19 : decode cX3_lacks 19 = .ok (.bipush (-11), 2) := dk_16 245 (dk_at dksX3_lacks_0 19 rfl rfl)
theorem dX3_lacks_21 : decode cX3_lacks 21 = .ok (.goto 4, 3) := dk_167 0 4 (dk_at dksX3_lacks_0 21 rfl rfl)
theorem dX3_lacks_24 : decode cX3_lacks 24 = .ok (.iconst 0, 1) := dk_3 (dk_at dksX3_lacks_1 0 rfl rfl)
theorem dX3_lacks_25 : decode cX3_lacks 25 = .ok (.ireturn, 1) := dk_172 (dk_at dksX3_lacks_1 1 rfl rfl)
abbrev cX3_lays : ByteArray := prog_11_method_41_code
def yX3_lays : MethodName := ⟨RX3, "lays", "(I)Z"⟩
def dkwX3_lays_6 : List UInt8 := [167, 255, 216, 132, 2, 1, 167, 255, 185, 4, 172]
abbrev dktX3_lays_6 : List UInt8 := dkwX3_lays_6 ++ []
def dkwX3_lays_5 : List UInt8 := [180, 0, 64, 27, 46, 133, 113, 136, 79, 33, 42, 180, 0, 64, 27, 46, 133, 109, 66, 132, 5, 255]
abbrev dktX3_lays_5 : List UInt8 := dkwX3_lays_5 ++ dktX3_lays_6
def dkwX3_lays_4 : List UInt8 := [27, 46, 4, 100, 54, 5, 21, 5, 155, 0, 41, 42, 180, 0, 90, 16, 12, 28, 104, 21, 5, 96, 33, 42]
abbrev dktX3_lays_4 : List UInt8 := dkwX3_lays_4 ++ dktX3_lays_5
def dkwX3_lays_3 : List UInt8 := [182, 0, 178, 3, 61, 28, 42, 180, 0, 175, 162, 0, 69, 42, 180, 0, 86, 28, 47, 66, 42, 180, 0, 67]
abbrev dktX3_lays_3 : List UInt8 := dkwX3_lays_3 ++ dktX3_lays_4
def dkwX3_lays_2 : List UInt8 := [42, 180, 0, 73, 17, 0, 200, 27, 104, 28, 96, 47, 80, 132, 2, 1, 167, 255, 227, 167, 0, 8, 42, 27]
abbrev dktX3_lays_2 : List UInt8 := dkwX3_lays_2 ++ dktX3_lays_3
def dkwX3_lays_1 : List UInt8 := [42, 180, 0, 70, 27, 46, 181, 0, 175, 3, 61, 28, 42, 180, 0, 175, 162, 0, 27, 42, 180, 0, 86, 28]
abbrev dktX3_lays_1 : List UInt8 := dkwX3_lays_1 ++ dktX3_lays_2
def dkwX3_lays_0 : List UInt8 := [42, 27, 182, 0, 160, 20, 0, 173, 148, 158, 0, 5, 3, 172, 42, 180, 0, 60, 27, 46, 154, 0, 50, 42]
abbrev dktX3_lays_0 : List UInt8 := dkwX3_lays_0 ++ dktX3_lays_1
theorem dksX3_lays_0 : cX3_lays.data.toList.drop 0 = dktX3_lays_0 := by decide +kernel
theorem dksX3_lays_1 : cX3_lays.data.toList.drop 24 = dktX3_lays_1 := dk_seg dksX3_lays_0 24 rfl rfl
theorem dksX3_lays_2 : cX3_lays.data.toList.drop 48 = dktX3_lays_2 := dk_seg dksX3_lays_1 24 rfl rfl
theorem dksX3_lays_3 : cX3_lays.data.toList.drop 72 = dktX3_lays_3 := dk_seg dksX3_lays_2 24 rfl rfl
theorem dksX3_lays_4 : cX3_lays.data.toList.drop 96 = dktX3_lays_4 := dk_seg dksX3_lays_3 24 rfl rfl
theorem dksX3_lays_5 : cX3_lays.data.toList.drop 120 = dktX3_lays_5 := dk_seg dksX3_lays_4 24 rfl rfl
theorem dksX3_lays_6 : cX3_lays.data.toList.drop 142 = dktX3_lays_6 := dk_seg dksX3_lays_5 22 rfl rfl
theorem dX3_lays_0 : decode cX3_lays 0 = .ok (.aload_n 0, 1) := dk_42 (dk_at dksX3_lays_0 0 rfl rfl)
theorem dX3_lays_1 : decode cX3_lays 1 = .ok (.iload_n 1, 1) := dk_27 (dk_at dksX3_lays_0 1 rfl rfl)
theorem dX3_lays_2 : decode cX3_lays 2 = .ok (.invokevirtual 160, 3) := dk_182 0 160 (dk_at dksX3_lays_0 2 rfl rfl)
theorem dX3_lays_5 : decode cX3_lays 5 = .ok (.ldc2_w 173, 3) := dk_20 0 173 (dk_at dksX3_lays_0 5 rfl rfl)
theorem dX3_lays_8 : decode cX3_lays 8 = .ok (.lcmp, 1) := dk_148 (dk_at dksX3_lays_0 8 rfl rfl)
theorem dX3_lays_9 : decode cX3_lays 9 = .ok (.ifCond .le 5, 3) := dk_158 0 5 (dk_at dksX3_lays_0 9 rfl rfl)
theorem dX3_lays_12 : decode cX3_lays 12 = .ok (.iconst 0, 1) := dk_3 (dk_at dksX3_lays_0 12 rfl rfl)
theorem dX3_lays_13 : decode cX3_lays 13 = .ok (.ireturn, 1) := dk_172 (dk_at dksX3_lays_0 13 rfl rfl)
theorem dX3_lays_14 : decode cX3_lays 14 = .ok (.aload_n 0, 1) := dk_42 (dk_at dksX3_lays_0 14 rfl rfl)
theorem dX3_lays_15 : decode cX3_lays 15 = .ok (.getfield 60, 3) := dk_180 0 60 (dk_at dksX3_lays_0 15 rfl rfl)
theorem dX3_lays_18 : decode cX3_lays 18 = .ok (.iload_n 1, 1) := dk_27 (dk_at dksX3_lays_0 18 rfl rfl)
theorem dX3_lays_19 : decode cX3_lays 19 = .ok (.iaload, 1) := dk_46 (dk_at dksX3_lays_0 19 rfl rfl)
theorem dX3_lays_20 : decode cX3_lays 20 = .ok (.ifCond .ne 50, 3) := dk_154 0 50 (dk_at dksX3_lays_0 20 rfl rfl)
theorem dX3_lays_23 : decode cX3_lays 23 = .ok (.aload_n 0, 1) := dk_42 (dk_at dksX3_lays_0 23 rfl rfl)
theorem dX3_lays_24 : decode cX3_lays 24 = .ok (.aload_n 0, 1) := dk_42 (dk_at dksX3_lays_1 0 rfl rfl)
theorem dX3_lays_25 : decode cX3_lays 25 = .ok (.getfield 70, 3) := dk_180 0 70 (dk_at dksX3_lays_1 1 rfl rfl)
theorem dX3_lays_28 : decode cX3_lays 28 = .ok (.iload_n 1, 1) := dk_27 (dk_at dksX3_lays_1 4 rfl rfl)
theorem dX3_lays_29 : decode cX3_lays 29 = .ok (.iaload, 1) := dk_46 (dk_at dksX3_lays_1 5 rfl rfl)
theorem dX3_lays_30 : decode cX3_lays 30 = .ok (.putfield 175, 3) := dk_181 0 175 (dk_at dksX3_lays_1 6 rfl rfl)
theorem dX3_lays_33 : decode cX3_lays 33 = .ok (.iconst 0, 1) := dk_3 (dk_at dksX3_lays_1 9 rfl rfl)
theorem dX3_lays_34 : decode cX3_lays 34 = .ok (.istore_n 2, 1) := dk_61 (dk_at dksX3_lays_1 10 rfl rfl)
theorem dX3_lays_35 : decode cX3_lays 35 = .ok (.iload_n 2, 1) := dk_28 (dk_at dksX3_lays_1 11 rfl rfl)
theorem dX3_lays_36 : decode cX3_lays 36 = .ok (.aload_n 0, 1) := dk_42 (dk_at dksX3_lays_1 12 rfl rfl)
theorem dX3_lays_37 : decode cX3_lays 37 = .ok (.getfield 175, 3) := dk_180 0 175 (dk_at dksX3_lays_1 13 rfl rfl)
theorem dX3_lays_40 : decode cX3_lays 40 = .ok (.if_icmp .ge 27, 3) := dk_162 0 27 (dk_at dksX3_lays_1 16 rfl rfl)
theorem dX3_lays_43 : decode cX3_lays 43 = .ok (.aload_n 0, 1) := dk_42 (dk_at dksX3_lays_1 19 rfl rfl)
theorem dX3_lays_44 : decode cX3_lays 44 = .ok (.getfield 86, 3) := dk_180 0 86 (dk_at dksX3_lays_1 20 rfl rfl)
theorem dX3_lays_47 : decode cX3_lays 47 = .ok (.iload_n 2, 1) := dk_28 (dk_at dksX3_lays_1 23 rfl rfl)
theorem dX3_lays_48 : decode cX3_lays 48 = .ok (.aload_n 0, 1) := dk_42 (dk_at dksX3_lays_2 0 rfl rfl)
theorem dX3_lays_49 : decode cX3_lays 49 = .ok (.getfield 73, 3) := dk_180 0 73 (dk_at dksX3_lays_2 1 rfl rfl)
theorem dX3_lays_52 : decode cX3_lays 52 = .ok (.sipush 200, 3) := dk_17 0 200 (dk_at dksX3_lays_2 4 rfl rfl)
theorem dX3_lays_55 : decode cX3_lays 55 = .ok (.iload_n 1, 1) := dk_27 (dk_at dksX3_lays_2 7 rfl rfl)
theorem dX3_lays_56 : decode cX3_lays 56 = .ok (.imul, 1) := dk_104 (dk_at dksX3_lays_2 8 rfl rfl)
theorem dX3_lays_57 : decode cX3_lays 57 = .ok (.iload_n 2, 1) := dk_28 (dk_at dksX3_lays_2 9 rfl rfl)
theorem dX3_lays_58 : decode cX3_lays 58 = .ok (.iadd, 1) := dk_96 (dk_at dksX3_lays_2 10 rfl rfl)
theorem dX3_lays_59 : decode cX3_lays 59 = .ok (.laload, 1) := dk_47 (dk_at dksX3_lays_2 11 rfl rfl)
theorem dX3_lays_60 : decode cX3_lays 60 = .ok (.lastore, 1) := dk_80 (dk_at dksX3_lays_2 12 rfl rfl)
theorem dX3_lays_61 : decode cX3_lays 61 = .ok (.iinc 2 1, 3) := dk_132 2 1 (dk_at dksX3_lays_2 13 rfl rfl)
theorem dX3_lays_64 : decode cX3_lays 64 = .ok (.goto (-29), 3) := dk_167 255 227 (dk_at dksX3_lays_2 16 rfl rfl)
theorem dX3_lays_67 : decode cX3_lays 67 = .ok (.goto 8, 3) := dk_167 0 8 (dk_at dksX3_lays_2 19 rfl rfl)
theorem dX3_lays_70 : decode cX3_lays 70 = .ok (.aload_n 0, 1) := dk_42 (dk_at dksX3_lays_2 22 rfl rfl)
theorem dX3_lays_71 : decode cX3_lays 71 = .ok (.iload_n 1, 1) := dk_27 (dk_at dksX3_lays_2 23 rfl rfl)
theorem dX3_lays_72 : decode cX3_lays 72 = .ok (.invokevirtual 178, 3) := dk_182 0 178 (dk_at dksX3_lays_3 0 rfl rfl)
theorem dX3_lays_75 : decode cX3_lays 75 = .ok (.iconst 0, 1) := dk_3 (dk_at dksX3_lays_3 3 rfl rfl)
theorem dX3_lays_76 : decode cX3_lays 76 = .ok (.istore_n 2, 1) := dk_61 (dk_at dksX3_lays_3 4 rfl rfl)
theorem dX3_lays_77 : decode cX3_lays 77 = .ok (.iload_n 2, 1) := dk_28 (dk_at dksX3_lays_3 5 rfl rfl)
theorem dX3_lays_78 : decode cX3_lays 78 = .ok (.aload_n 0, 1) := dk_42 (dk_at dksX3_lays_3 6 rfl rfl)
theorem dX3_lays_79 : decode cX3_lays 79 = .ok (.getfield 175, 3) := dk_180 0 175 (dk_at dksX3_lays_3 7 rfl rfl)
theorem dX3_lays_82 : decode cX3_lays 82 = .ok (.if_icmp .ge 69, 3) := dk_162 0 69 (dk_at dksX3_lays_3 10 rfl rfl)
theorem dX3_lays_85 : decode cX3_lays 85 = .ok (.aload_n 0, 1) := dk_42 (dk_at dksX3_lays_3 13 rfl rfl)
theorem dX3_lays_86 : decode cX3_lays 86 = .ok (.getfield 86, 3) := dk_180 0 86 (dk_at dksX3_lays_3 14 rfl rfl)
theorem dX3_lays_89 : decode cX3_lays 89 = .ok (.iload_n 2, 1) := dk_28 (dk_at dksX3_lays_3 17 rfl rfl)
theorem dX3_lays_90 : decode cX3_lays 90 = .ok (.laload, 1) := dk_47 (dk_at dksX3_lays_3 18 rfl rfl)
theorem dX3_lays_91 : decode cX3_lays 91 = .ok (.lstore_n 3, 1) := dk_66 (dk_at dksX3_lays_3 19 rfl rfl)
theorem dX3_lays_92 : decode cX3_lays 92 = .ok (.aload_n 0, 1) := dk_42 (dk_at dksX3_lays_3 20 rfl rfl)
theorem dX3_lays_93 : decode cX3_lays 93 = .ok (.getfield 67, 3) := dk_180 0 67 (dk_at dksX3_lays_3 21 rfl rfl)
theorem dX3_lays_96 : decode cX3_lays 96 = .ok (.iload_n 1, 1) := dk_27 (dk_at dksX3_lays_4 0 rfl rfl)
theorem dX3_lays_97 : decode cX3_lays 97 = .ok (.iaload, 1) := dk_46 (dk_at dksX3_lays_4 1 rfl rfl)
theorem dX3_lays_98 : decode cX3_lays 98 = .ok (.iconst 1, 1) := dk_4 (dk_at dksX3_lays_4 2 rfl rfl)
theorem dX3_lays_99 : decode cX3_lays 99 = .ok (.isub, 1) := dk_100 (dk_at dksX3_lays_4 3 rfl rfl)
theorem dX3_lays_100 : decode cX3_lays 100 = .ok (.istore 5, 2) := dk_54 5 (dk_at dksX3_lays_4 4 rfl rfl)
theorem dX3_lays_102 : decode cX3_lays 102 = .ok (.iload 5, 2) := dk_21 5 (dk_at dksX3_lays_4 6 rfl rfl)
theorem dX3_lays_104 : decode cX3_lays 104 = .ok (.ifCond .lt 41, 3) := dk_155 0 41 (dk_at dksX3_lays_4 8 rfl rfl)
theorem dX3_lays_107 : decode cX3_lays 107 = .ok (.aload_n 0, 1) := dk_42 (dk_at dksX3_lays_4 11 rfl rfl)
theorem dX3_lays_108 : decode cX3_lays 108 = .ok (.getfield 90, 3) := dk_180 0 90 (dk_at dksX3_lays_4 12 rfl rfl)
theorem dX3_lays_111 : decode cX3_lays 111 = .ok (.bipush 12, 2) := dk_16 12 (dk_at dksX3_lays_4 15 rfl rfl)
theorem dX3_lays_113 : decode cX3_lays 113 = .ok (.iload_n 2, 1) := dk_28 (dk_at dksX3_lays_4 17 rfl rfl)
theorem dX3_lays_114 : decode cX3_lays 114 = .ok (.imul, 1) := dk_104 (dk_at dksX3_lays_4 18 rfl rfl)
theorem dX3_lays_115 : decode cX3_lays 115 = .ok (.iload 5, 2) := dk_21 5 (dk_at dksX3_lays_4 19 rfl rfl)
theorem dX3_lays_117 : decode cX3_lays 117 = .ok (.iadd, 1) := dk_96 (dk_at dksX3_lays_4 21 rfl rfl)
theorem dX3_lays_118 : decode cX3_lays 118 = .ok (.lload_n 3, 1) := dk_33 (dk_at dksX3_lays_4 22 rfl rfl)
theorem dX3_lays_119 : decode cX3_lays 119 = .ok (.aload_n 0, 1) := dk_42 (dk_at dksX3_lays_4 23 rfl rfl)
theorem dX3_lays_120 : decode cX3_lays 120 = .ok (.getfield 64, 3) := dk_180 0 64 (dk_at dksX3_lays_5 0 rfl rfl)
theorem dX3_lays_123 : decode cX3_lays 123 = .ok (.iload_n 1, 1) := dk_27 (dk_at dksX3_lays_5 3 rfl rfl)
theorem dX3_lays_124 : decode cX3_lays 124 = .ok (.iaload, 1) := dk_46 (dk_at dksX3_lays_5 4 rfl rfl)
theorem dX3_lays_125 : decode cX3_lays 125 = .ok (.i2l, 1) := dk_133 (dk_at dksX3_lays_5 5 rfl rfl)
theorem dX3_lays_126 : decode cX3_lays 126 = .ok (.lrem, 1) := dk_113 (dk_at dksX3_lays_5 6 rfl rfl)
theorem dX3_lays_127 : decode cX3_lays 127 = .ok (.l2i, 1) := dk_136 (dk_at dksX3_lays_5 7 rfl rfl)
theorem dX3_lays_128 : decode cX3_lays 128 = .ok (.iastore, 1) := dk_79 (dk_at dksX3_lays_5 8 rfl rfl)
theorem dX3_lays_129 : decode cX3_lays 129 = .ok (.lload_n 3, 1) := dk_33 (dk_at dksX3_lays_5 9 rfl rfl)
theorem dX3_lays_130 : decode cX3_lays 130 = .ok (.aload_n 0, 1) := dk_42 (dk_at dksX3_lays_5 10 rfl rfl)
theorem dX3_lays_131 : decode cX3_lays 131 = .ok (.getfield 64, 3) := dk_180 0 64 (dk_at dksX3_lays_5 11 rfl rfl)
theorem dX3_lays_134 : decode cX3_lays 134 = .ok (.iload_n 1, 1) := dk_27 (dk_at dksX3_lays_5 14 rfl rfl)
theorem dX3_lays_135 : decode cX3_lays 135 = .ok (.iaload, 1) := dk_46 (dk_at dksX3_lays_5 15 rfl rfl)
theorem dX3_lays_136 : decode cX3_lays 136 = .ok (.i2l, 1) := dk_133 (dk_at dksX3_lays_5 16 rfl rfl)
theorem dX3_lays_137 : decode cX3_lays 137 = .ok (.ldiv, 1) := dk_109 (dk_at dksX3_lays_5 17 rfl rfl)
theorem dX3_lays_138 : decode cX3_lays 138 = .ok (.lstore_n 3, 1) := dk_66 (dk_at dksX3_lays_5 18 rfl rfl)
theorem dX3_lays_139 : decode cX3_lays 139 = .ok (.iinc 5 (-1), 3) := dk_132 5 255 (dk_at dksX3_lays_5 19 rfl rfl)
theorem dX3_lays_142 : decode cX3_lays 142 = .ok (.goto (-40), 3) := dk_167 255 216 (dk_at dksX3_lays_6 0 rfl rfl)
theorem dX3_lays_145 : decode cX3_lays 145 = .ok (.iinc 2 1, 3) := dk_132 2 1 (dk_at dksX3_lays_6 3 rfl rfl)
theorem dX3_lays_148 : decode cX3_lays 148 = .ok (.goto (-71), 3) := dk_167 255 185 (dk_at dksX3_lays_6 6 rfl rfl)
theorem dX3_lays_151 : decode cX3_lays 151 = .ok (.iconst 1, 1) := dk_4 (dk_at dksX3_lays_6 9 rfl rfl)
theorem dX3_lays_152 : decode cX3_lays 152 = .ok (.ireturn, 1) := dk_172 (dk_at dksX3_lays_6 10 rfl rfl)
abbrev cX3_laysLine : ByteArray := prog_11_method_42_code
def yX3_laysLine : MethodName := ⟨RX3, "laysLine", "(I)V"⟩
def dkwX3_laysLine_5 : List UInt8 := [132, 3, 255, 167, 255, 162, 177]
abbrev dktX3_laysLine_5 : List UInt8 := dkwX3_laysLine_5 ++ []
def dkwX3_laysLine_4 : List UInt8 := [42, 89, 180, 0, 175, 4, 96, 181, 0, 175, 132, 5, 1, 167, 255, 190, 132, 4, 1, 167, 255, 175]
abbrev dktX3_laysLine_4 : List UInt8 := dkwX3_laysLine_4 ++ dktX3_laysLine_5
def dkwX3_laysLine_3 : List UInt8 := [180, 0, 67, 27, 46, 42, 180, 0, 86, 21, 5, 47, 42, 180, 0, 77, 29, 47, 21, 4, 184, 0, 42, 80]
abbrev dktX3_laysLine_3 : List UInt8 := dkwX3_laysLine_3 ++ dktX3_laysLine_4
def dkwX3_laysLine_2 : List UInt8 := [180, 0, 141, 4, 100, 29, 100, 184, 0, 11, 148, 156, 0, 53, 42, 180, 0, 86, 42, 180, 0, 175, 28, 42]
abbrev dktX3_laysLine_2 : List UInt8 := dkwX3_laysLine_2 ++ dktX3_laysLine_3
def dkwX3_laysLine_1 : List UInt8 := [100, 62, 29, 155, 0, 96, 4, 54, 4, 21, 4, 28, 162, 0, 81, 3, 54, 5, 21, 5, 133, 28, 42]
abbrev dktX3_laysLine_1 : List UInt8 := dkwX3_laysLine_1 ++ dktX3_laysLine_2
def dkwX3_laysLine_0 : List UInt8 := [42, 180, 0, 64, 27, 46, 61, 42, 180, 0, 86, 3, 9, 80, 42, 4, 181, 0, 175, 42, 180, 0, 141, 4]
abbrev dktX3_laysLine_0 : List UInt8 := dkwX3_laysLine_0 ++ dktX3_laysLine_1
theorem dksX3_laysLine_0 : cX3_laysLine.data.toList.drop 0 = dktX3_laysLine_0 := by decide +kernel
theorem dksX3_laysLine_1 : cX3_laysLine.data.toList.drop 24 = dktX3_laysLine_1 := dk_seg dksX3_laysLine_0 24 rfl rfl
theorem dksX3_laysLine_2 : cX3_laysLine.data.toList.drop 47 = dktX3_laysLine_2 := dk_seg dksX3_laysLine_1 23 rfl rfl
theorem dksX3_laysLine_3 : cX3_laysLine.data.toList.drop 71 = dktX3_laysLine_3 := dk_seg dksX3_laysLine_2 24 rfl rfl
theorem dksX3_laysLine_4 : cX3_laysLine.data.toList.drop 95 = dktX3_laysLine_4 := dk_seg dksX3_laysLine_3 24 rfl rfl
theorem dksX3_laysLine_5 : cX3_laysLine.data.toList.drop 117 = dktX3_laysLine_5 := dk_seg dksX3_laysLine_4 22 rfl rfl
theorem dX3_laysLine_0 : decode cX3_laysLine 0 = .ok (.aload_n 0, 1) := dk_42 (dk_at dksX3_laysLine_0 0 rfl rfl)
theorem dX3_laysLine_1 : decode cX3_laysLine 1 = .ok (.getfield 64, 3) := dk_180 0 64 (dk_at dksX3_laysLine_0 1 rfl rfl)
theorem dX3_laysLine_4 : decode cX3_laysLine 4 = .ok (.iload_n 1, 1) := dk_27 (dk_at dksX3_laysLine_0 4 rfl rfl)
theorem dX3_laysLine_5 : decode cX3_laysLine 5 = .ok (.iaload, 1) := dk_46 (dk_at dksX3_laysLine_0 5 rfl rfl)
theorem dX3_laysLine_6 : decode cX3_laysLine 6 = .ok (.istore_n 2, 1) := dk_61 (dk_at dksX3_laysLine_0 6 rfl rfl)
theorem dX3_laysLine_7 : decode cX3_laysLine 7 = .ok (.aload_n 0, 1) := dk_42 (dk_at dksX3_laysLine_0 7 rfl rfl)
theorem dX3_laysLine_8 : decode cX3_laysLine 8 = .ok (.getfield 86, 3) := dk_180 0 86 (dk_at dksX3_laysLine_0 8 rfl rfl)
theorem dX3_laysLine_11 : decode cX3_laysLine 11 = .ok (.iconst 0, 1) := dk_3 (dk_at dksX3_laysLine_0 11 rfl rfl)
theorem dX3_laysLine_12 : decode cX3_laysLine 12 = .ok (.lconst 0, 1) := dk_9 (dk_at dksX3_laysLine_0 12 rfl rfl)
theorem dX3_laysLine_13 : decode cX3_laysLine 13 = .ok (.lastore, 1) := dk_80 (dk_at dksX3_laysLine_0 13 rfl rfl)
theorem dX3_laysLine_14 : decode cX3_laysLine 14 = .ok (.aload_n 0, 1) := dk_42 (dk_at dksX3_laysLine_0 14 rfl rfl)
theorem dX3_laysLine_15 : decode cX3_laysLine 15 = .ok (.iconst 1, 1) := dk_4 (dk_at dksX3_laysLine_0 15 rfl rfl)
theorem dX3_laysLine_16 : decode cX3_laysLine 16 = .ok (.putfield 175, 3) := dk_181 0 175 (dk_at dksX3_laysLine_0 16 rfl rfl)
theorem dX3_laysLine_19 : decode cX3_laysLine 19 = .ok (.aload_n 0, 1) := dk_42 (dk_at dksX3_laysLine_0 19 rfl rfl)
theorem dX3_laysLine_20 : decode cX3_laysLine 20 = .ok (.getfield 141, 3) := dk_180 0 141 (dk_at dksX3_laysLine_0 20 rfl rfl)
theorem dX3_laysLine_23 : decode cX3_laysLine 23 = .ok (.iconst 1, 1) := dk_4 (dk_at dksX3_laysLine_0 23 rfl rfl)
theorem dX3_laysLine_24 : decode cX3_laysLine 24 = .ok (.isub, 1) := dk_100 (dk_at dksX3_laysLine_1 0 rfl rfl)
theorem dX3_laysLine_25 : decode cX3_laysLine 25 = .ok (.istore_n 3, 1) := dk_62 (dk_at dksX3_laysLine_1 1 rfl rfl)
theorem dX3_laysLine_26 : decode cX3_laysLine 26 = .ok (.iload_n 3, 1) := dk_29 (dk_at dksX3_laysLine_1 2 rfl rfl)
theorem dX3_laysLine_27 : decode cX3_laysLine 27 = .ok (.ifCond .lt 96, 3) := dk_155 0 96 (dk_at dksX3_laysLine_1 3 rfl rfl)
theorem dX3_laysLine_30 : decode cX3_laysLine 30 = .ok (.iconst 1, 1) := dk_4 (dk_at dksX3_laysLine_1 6 rfl rfl)
theorem dX3_laysLine_31 : decode cX3_laysLine 31 = .ok (.istore 4, 2) := dk_54 4 (dk_at dksX3_laysLine_1 7 rfl rfl)
theorem dX3_laysLine_33 : decode cX3_laysLine 33 = .ok (.iload 4, 2) := dk_21 4 (dk_at dksX3_laysLine_1 9 rfl rfl)
theorem dX3_laysLine_35 : decode cX3_laysLine 35 = .ok (.iload_n 2, 1) := dk_28 (dk_at dksX3_laysLine_1 11 rfl rfl)
theorem dX3_laysLine_36 : decode cX3_laysLine 36 = .ok (.if_icmp .ge 81, 3) := dk_162 0 81 (dk_at dksX3_laysLine_1 12 rfl rfl)
theorem dX3_laysLine_39 : decode cX3_laysLine 39 = .ok (.iconst 0, 1) := dk_3 (dk_at dksX3_laysLine_1 15 rfl rfl)
theorem dX3_laysLine_40 : decode cX3_laysLine 40 = .ok (.istore 5, 2) := dk_54 5 (dk_at dksX3_laysLine_1 16 rfl rfl)
theorem dX3_laysLine_42 : decode cX3_laysLine 42 = .ok (.iload 5, 2) := dk_21 5 (dk_at dksX3_laysLine_1 18 rfl rfl)
theorem dX3_laysLine_44 : decode cX3_laysLine 44 = .ok (.i2l, 1) := dk_133 (dk_at dksX3_laysLine_1 20 rfl rfl)
theorem dX3_laysLine_45 : decode cX3_laysLine 45 = .ok (.iload_n 2, 1) := dk_28 (dk_at dksX3_laysLine_1 21 rfl rfl)
theorem dX3_laysLine_46 : decode cX3_laysLine 46 = .ok (.aload_n 0, 1) := dk_42 (dk_at dksX3_laysLine_1 22 rfl rfl)
theorem dX3_laysLine_47 : decode cX3_laysLine 47 = .ok (.getfield 141, 3) := dk_180 0 141 (dk_at dksX3_laysLine_2 0 rfl rfl)
theorem dX3_laysLine_50 : decode cX3_laysLine 50 = .ok (.iconst 1, 1) := dk_4 (dk_at dksX3_laysLine_2 3 rfl rfl)
theorem dX3_laysLine_51 : decode cX3_laysLine 51 = .ok (.isub, 1) := dk_100 (dk_at dksX3_laysLine_2 4 rfl rfl)
theorem dX3_laysLine_52 : decode cX3_laysLine 52 = .ok (.iload_n 3, 1) := dk_29 (dk_at dksX3_laysLine_2 5 rfl rfl)
theorem dX3_laysLine_53 : decode cX3_laysLine 53 = .ok (.isub, 1) := dk_100 (dk_at dksX3_laysLine_2 6 rfl rfl)
theorem dX3_laysLine_54 : decode cX3_laysLine 54 = .ok (.invokestatic 11, 3) := dk_184 0 11 (dk_at dksX3_laysLine_2 7 rfl rfl)
theorem dX3_laysLine_57 : decode cX3_laysLine 57 = .ok (.lcmp, 1) := dk_148 (dk_at dksX3_laysLine_2 10 rfl rfl)
theorem dX3_laysLine_58 : decode cX3_laysLine 58 = .ok (.ifCond .ge 53, 3) := dk_156 0 53 (dk_at dksX3_laysLine_2 11 rfl rfl)
theorem dX3_laysLine_61 : decode cX3_laysLine 61 = .ok (.aload_n 0, 1) := dk_42 (dk_at dksX3_laysLine_2 14 rfl rfl)
theorem dX3_laysLine_62 : decode cX3_laysLine 62 = .ok (.getfield 86, 3) := dk_180 0 86 (dk_at dksX3_laysLine_2 15 rfl rfl)
theorem dX3_laysLine_65 : decode cX3_laysLine 65 = .ok (.aload_n 0, 1) := dk_42 (dk_at dksX3_laysLine_2 18 rfl rfl)
theorem dX3_laysLine_66 : decode cX3_laysLine 66 = .ok (.getfield 175, 3) := dk_180 0 175 (dk_at dksX3_laysLine_2 19 rfl rfl)
theorem dX3_laysLine_69 : decode cX3_laysLine 69 = .ok (.iload_n 2, 1) := dk_28 (dk_at dksX3_laysLine_2 22 rfl rfl)
theorem dX3_laysLine_70 : decode cX3_laysLine 70 = .ok (.aload_n 0, 1) := dk_42 (dk_at dksX3_laysLine_2 23 rfl rfl)
theorem dX3_laysLine_71 : decode cX3_laysLine 71 = .ok (.getfield 67, 3) := dk_180 0 67 (dk_at dksX3_laysLine_3 0 rfl rfl)
theorem dX3_laysLine_74 : decode cX3_laysLine 74 = .ok (.iload_n 1, 1) := dk_27 (dk_at dksX3_laysLine_3 3 rfl rfl)
theorem dX3_laysLine_75 : decode cX3_laysLine 75 = .ok (.iaload, 1) := dk_46 (dk_at dksX3_laysLine_3 4 rfl rfl)
theorem dX3_laysLine_76 : decode cX3_laysLine 76 = .ok (.aload_n 0, 1) := dk_42 (dk_at dksX3_laysLine_3 5 rfl rfl)
theorem dX3_laysLine_77 : decode cX3_laysLine 77 = .ok (.getfield 86, 3) := dk_180 0 86 (dk_at dksX3_laysLine_3 6 rfl rfl)
theorem dX3_laysLine_80 : decode cX3_laysLine 80 = .ok (.iload 5, 2) := dk_21 5 (dk_at dksX3_laysLine_3 9 rfl rfl)
theorem dX3_laysLine_82 : decode cX3_laysLine 82 = .ok (.laload, 1) := dk_47 (dk_at dksX3_laysLine_3 11 rfl rfl)
theorem dX3_laysLine_83 : decode cX3_laysLine 83 = .ok (.aload_n 0, 1) := dk_42 (dk_at dksX3_laysLine_3 12 rfl rfl)
theorem dX3_laysLine_84 : decode cX3_laysLine 84 = .ok (.getfield 77, 3) := dk_180 0 77 (dk_at dksX3_laysLine_3 13 rfl rfl)
theorem dX3_laysLine_87 : decode cX3_laysLine 87 = .ok (.iload_n 3, 1) := dk_29 (dk_at dksX3_laysLine_3 16 rfl rfl)
theorem dX3_laysLine_88 : decode cX3_laysLine 88 = .ok (.laload, 1) := dk_47 (dk_at dksX3_laysLine_3 17 rfl rfl)
theorem dX3_laysLine_89 : decode cX3_laysLine 89 = .ok (.iload 4, 2) := dk_21 4 (dk_at dksX3_laysLine_3 18 rfl rfl)
theorem dX3_laysLine_91 : decode cX3_laysLine 91 = .ok (.invokestatic 42, 3) := dk_184 0 42 (dk_at dksX3_laysLine_3 20 rfl rfl)
theorem dX3_laysLine_94 : decode cX3_laysLine 94 = .ok (.lastore, 1) := dk_80 (dk_at dksX3_laysLine_3 23 rfl rfl)
theorem dX3_laysLine_95 : decode cX3_laysLine 95 = .ok (.aload_n 0, 1) := dk_42 (dk_at dksX3_laysLine_4 0 rfl rfl)
theorem dX3_laysLine_96 : decode cX3_laysLine 96 = .ok (.dup, 1) := dk_89 (dk_at dksX3_laysLine_4 1 rfl rfl)
theorem dX3_laysLine_97 : decode cX3_laysLine 97 = .ok (.getfield 175, 3) := dk_180 0 175 (dk_at dksX3_laysLine_4 2 rfl rfl)
theorem dX3_laysLine_100 : decode cX3_laysLine 100 = .ok (.iconst 1, 1) := dk_4 (dk_at dksX3_laysLine_4 5 rfl rfl)
theorem dX3_laysLine_101 : decode cX3_laysLine 101 = .ok (.iadd, 1) := dk_96 (dk_at dksX3_laysLine_4 6 rfl rfl)
theorem dX3_laysLine_102 : decode cX3_laysLine 102 = .ok (.putfield 175, 3) := dk_181 0 175 (dk_at dksX3_laysLine_4 7 rfl rfl)
theorem dX3_laysLine_105 : decode cX3_laysLine 105 = .ok (.iinc 5 1, 3) := dk_132 5 1 (dk_at dksX3_laysLine_4 10 rfl rfl)
theorem dX3_laysLine_108 : decode cX3_laysLine 108 = .ok (.goto (-66), 3) := dk_167 255 190 (dk_at dksX3_laysLine_4 13 rfl rfl)
theorem dX3_laysLine_111 : decode cX3_laysLine 111 = .ok (.iinc 4 1, 3) := dk_132 4 1 (dk_at dksX3_laysLine_4 16 rfl rfl)
theorem dX3_laysLine_114 : decode cX3_laysLine 114 = .ok (.goto (-81), 3) := dk_167 255 175 (dk_at dksX3_laysLine_4 19 rfl rfl)
theorem dX3_laysLine_117 : decode cX3_laysLine 117 = .ok (.iinc 3 (-1), 3) := dk_132 3 255 (dk_at dksX3_laysLine_5 0 rfl rfl)
theorem dX3_laysLine_120 : decode cX3_laysLine 120 = .ok (.goto (-94), 3) := dk_167 255 162 (dk_at dksX3_laysLine_5 3 rfl rfl)
theorem dX3_laysLine_123 : decode cX3_laysLine 123 = .ok (.return_, 1) := dk_177 (dk_at dksX3_laysLine_5 6 rfl rfl)
abbrev cX3_leastOf : ByteArray := prog_11_method_47_code
def yX3_leastOf : MethodName := ⟨RX3, "leastOf", "(I)I"⟩
def dkwX3_leastOf_3 : List UInt8 := [167, 255, 203, 132, 3, 1, 167, 255, 186, 28, 172]
abbrev dktX3_leastOf_3 : List UInt8 := dkwX3_leastOf_3 ++ []
def dkwX3_leastOf_2 : List UInt8 := [54, 5, 28, 153, 0, 9, 21, 5, 28, 162, 0, 8, 21, 5, 167, 0, 4, 28, 61, 132, 4, 1]
abbrev dktX3_leastOf_2 : List UInt8 := dkwX3_leastOf_2 ++ dktX3_leastOf_3
def dkwX3_leastOf_1 : List UInt8 := [180, 0, 60, 27, 46, 153, 0, 11, 21, 4, 158, 0, 6, 167, 0, 36, 42, 27, 29, 21, 4, 182, 0, 181]
abbrev dktX3_leastOf_1 : List UInt8 := dkwX3_leastOf_1 ++ dktX3_leastOf_2
def dkwX3_leastOf_0 : List UInt8 := [3, 61, 3, 62, 29, 42, 180, 0, 175, 162, 0, 68, 3, 54, 4, 21, 4, 29, 162, 0, 53, 42]
abbrev dktX3_leastOf_0 : List UInt8 := dkwX3_leastOf_0 ++ dktX3_leastOf_1
theorem dksX3_leastOf_0 : cX3_leastOf.data.toList.drop 0 = dktX3_leastOf_0 := by decide +kernel
theorem dksX3_leastOf_1 : cX3_leastOf.data.toList.drop 22 = dktX3_leastOf_1 := dk_seg dksX3_leastOf_0 22 rfl rfl
theorem dksX3_leastOf_2 : cX3_leastOf.data.toList.drop 46 = dktX3_leastOf_2 := dk_seg dksX3_leastOf_1 24 rfl rfl
theorem dksX3_leastOf_3 : cX3_leastOf.data.toList.drop 68 = dktX3_leastOf_3 := dk_seg dksX3_leastOf_2 22 rfl rfl
theorem dX3_leastOf_0 : decode cX3_leastOf 0 = .ok (.iconst 0, 1) := dk_3 (dk_at dksX3_leastOf_0 0 rfl rfl)
theorem dX3_leastOf_1 : decode cX3_leastOf 1 = .ok (.istore_n 2, 1) := dk_61 (dk_at dksX3_leastOf_0 1 rfl rfl)
theorem dX3_leastOf_2 : decode cX3_leastOf 2 = .ok (.iconst 0, 1) := dk_3 (dk_at dksX3_leastOf_0 2 rfl rfl)
theorem dX3_leastOf_3 : decode cX3_leastOf 3 = .ok (.istore_n 3, 1) := dk_62 (dk_at dksX3_leastOf_0 3 rfl rfl)
theorem dX3_leastOf_4 : decode cX3_leastOf 4 = .ok (.iload_n 3, 1) := dk_29 (dk_at dksX3_leastOf_0 4 rfl rfl)
theorem dX3_leastOf_5 : decode cX3_leastOf 5 = .ok (.aload_n 0, 1) := dk_42 (dk_at dksX3_leastOf_0 5 rfl rfl)
theorem dX3_leastOf_6 : decode cX3_leastOf 6 = .ok (.getfield 175, 3) := dk_180 0 175 (dk_at dksX3_leastOf_0 6 rfl rfl)
theorem dX3_leastOf_9 : decode cX3_leastOf 9 = .ok (.if_icmp .ge 68, 3) := dk_162 0 68 (dk_at dksX3_leastOf_0 9 rfl rfl)
theorem dX3_leastOf_12 : decode cX3_leastOf 12 = .ok (.iconst 0, 1) := dk_3 (dk_at dksX3_leastOf_0 12 rfl rfl)
theorem dX3_leastOf_13 : decode cX3_leastOf 13 = .ok (.istore 4, 2) := dk_54 4 (dk_at dksX3_leastOf_0 13 rfl rfl)
theorem dX3_leastOf_15 : decode cX3_leastOf 15 = .ok (.iload 4, 2) := dk_21 4 (dk_at dksX3_leastOf_0 15 rfl rfl)
theorem dX3_leastOf_17 : decode cX3_leastOf 17 = .ok (.iload_n 3, 1) := dk_29 (dk_at dksX3_leastOf_0 17 rfl rfl)
theorem dX3_leastOf_18 : decode cX3_leastOf 18 = .ok (.if_icmp .ge 53, 3) := dk_162 0 53 (dk_at dksX3_leastOf_0 18 rfl rfl)
theorem dX3_leastOf_21 : decode cX3_leastOf 21 = .ok (.aload_n 0, 1) := dk_42 (dk_at dksX3_leastOf_0 21 rfl rfl)
theorem dX3_leastOf_22 : decode cX3_leastOf 22 = .ok (.getfield 60, 3) := dk_180 0 60 (dk_at dksX3_leastOf_1 0 rfl rfl)
theorem dX3_leastOf_25 : decode cX3_leastOf 25 = .ok (.iload_n 1, 1) := dk_27 (dk_at dksX3_leastOf_1 3 rfl rfl)
theorem dX3_leastOf_26 : decode cX3_leastOf 26 = .ok (.iaload, 1) := dk_46 (dk_at dksX3_leastOf_1 4 rfl rfl)
theorem dX3_leastOf_27 : decode cX3_leastOf 27 = .ok (.ifCond .eq 11, 3) := dk_153 0 11 (dk_at dksX3_leastOf_1 5 rfl rfl)
theorem dX3_leastOf_30 : decode cX3_leastOf 30 = .ok (.iload 4, 2) := dk_21 4 (dk_at dksX3_leastOf_1 8 rfl rfl)
theorem dX3_leastOf_32 : decode cX3_leastOf 32 = .ok (.ifCond .le 6, 3) := dk_158 0 6 (dk_at dksX3_leastOf_1 10 rfl rfl)
theorem dX3_leastOf_35 : decode cX3_leastOf 35 = .ok (.goto 36, 3) := dk_167 0 36 (dk_at dksX3_leastOf_1 13 rfl rfl)
theorem dX3_leastOf_38 : decode cX3_leastOf 38 = .ok (.aload_n 0, 1) := dk_42 (dk_at dksX3_leastOf_1 16 rfl rfl)
theorem dX3_leastOf_39 : decode cX3_leastOf 39 = .ok (.iload_n 1, 1) := dk_27 (dk_at dksX3_leastOf_1 17 rfl rfl)
theorem dX3_leastOf_40 : decode cX3_leastOf 40 = .ok (.iload_n 3, 1) := dk_29 (dk_at dksX3_leastOf_1 18 rfl rfl)
theorem dX3_leastOf_41 : decode cX3_leastOf 41 = .ok (.iload 4, 2) := dk_21 4 (dk_at dksX3_leastOf_1 19 rfl rfl)
theorem dX3_leastOf_43 : decode cX3_leastOf 43 = .ok (.invokevirtual 181, 3) := dk_182 0 181 (dk_at dksX3_leastOf_1 21 rfl rfl)
theorem dX3_leastOf_46 : decode cX3_leastOf 46 = .ok (.istore 5, 2) := dk_54 5 (dk_at dksX3_leastOf_2 0 rfl rfl)
theorem dX3_leastOf_48 : decode cX3_leastOf 48 = .ok (.iload_n 2, 1) := dk_28 (dk_at dksX3_leastOf_2 2 rfl rfl)
theorem dX3_leastOf_49 : decode cX3_leastOf 49 = .ok (.ifCond .eq 9, 3) := dk_153 0 9 (dk_at dksX3_leastOf_2 3 rfl rfl)
theorem dX3_leastOf_52 : decode cX3_leastOf 52 = .ok (.iload 5, 2) := dk_21 5 (dk_at dksX3_leastOf_2 6 rfl rfl)
theorem dX3_leastOf_54 : decode cX3_leastOf 54 = .ok (.iload_n 2, 1) := dk_28 (dk_at dksX3_leastOf_2 8 rfl rfl)
theorem dX3_leastOf_55 : decode cX3_leastOf 55 = .ok (.if_icmp .ge 8, 3) := dk_162 0 8 (dk_at dksX3_leastOf_2 9 rfl rfl)
theorem dX3_leastOf_58 : decode cX3_leastOf 58 = .ok (.iload 5, 2) := dk_21 5 (dk_at dksX3_leastOf_2 12 rfl rfl)
theorem dX3_leastOf_60 : decode cX3_leastOf 60 = .ok (.goto 4, 3) := dk_167 0 4 (dk_at dksX3_leastOf_2 14 rfl rfl)
theorem dX3_leastOf_63 : decode cX3_leastOf 63 = .ok (.iload_n 2, 1) := dk_28 (dk_at dksX3_leastOf_2 17 rfl rfl)
theorem dX3_leastOf_64 : decode cX3_leastOf 64 = .ok (.istore_n 2, 1) := dk_61 (dk_at dksX3_leastOf_2 18 rfl rfl)
theorem dX3_leastOf_65 : decode cX3_leastOf 65 = .ok (.iinc 4 1, 3) := dk_132 4 1 (dk_at dksX3_leastOf_2 19 rfl rfl)
theorem dX3_leastOf_68 : decode cX3_leastOf 68 = .ok (.goto (-53), 3) := dk_167 255 203 (dk_at dksX3_leastOf_3 0 rfl rfl)
theorem dX3_leastOf_71 : decode cX3_leastOf 71 = .ok (.iinc 3 1, 3) := dk_132 3 1 (dk_at dksX3_leastOf_3 3 rfl rfl)
theorem dX3_leastOf_74 : decode cX3_leastOf 74 = .ok (.goto (-70), 3) := dk_167 255 186 (dk_at dksX3_leastOf_3 6 rfl rfl)
theorem dX3_leastOf_77 : decode cX3_leastOf 77 = .ok (.iload_n 2, 1) := dk_28 (dk_at dksX3_leastOf_3 9 rfl rfl)
theorem dX3_leastOf_78 : decode cX3_leastOf 78 = .ok (.ireturn, 1) := dk_172 (dk_at dksX3_leastOf_3 10 rfl rfl)
abbrev cX3_wayOfTwo : ByteArray := prog_11_method_45_code
def yX3_wayOfTwo : MethodName := ⟨RX3, "wayOfTwo", "(III)I"⟩
def dkwX3_wayOfTwo_2 : List UInt8 := [167, 0, 4, 3, 96, 54, 4, 132, 5, 1, 167, 255, 205, 21, 4, 172]
abbrev dktX3_wayOfTwo_2 : List UInt8 := dkwX3_wayOfTwo_2 ++ []
def dkwX3_wayOfTwo_1 : List UInt8 := [16, 12, 28, 104, 21, 5, 96, 46, 42, 180, 0, 90, 16, 12, 29, 104, 21, 5, 96, 46, 159, 0, 7, 4]
abbrev dktX3_wayOfTwo_1 : List UInt8 := dkwX3_wayOfTwo_1 ++ dktX3_wayOfTwo_2
def dkwX3_wayOfTwo_0 : List UInt8 := [3, 54, 4, 3, 54, 5, 21, 5, 42, 180, 0, 67, 27, 46, 162, 0, 46, 21, 4, 42, 180, 0, 90]
abbrev dktX3_wayOfTwo_0 : List UInt8 := dkwX3_wayOfTwo_0 ++ dktX3_wayOfTwo_1
theorem dksX3_wayOfTwo_0 : cX3_wayOfTwo.data.toList.drop 0 = dktX3_wayOfTwo_0 := by decide +kernel
theorem dksX3_wayOfTwo_1 : cX3_wayOfTwo.data.toList.drop 23 = dktX3_wayOfTwo_1 := dk_seg dksX3_wayOfTwo_0 23 rfl rfl
theorem dksX3_wayOfTwo_2 : cX3_wayOfTwo.data.toList.drop 47 = dktX3_wayOfTwo_2 := dk_seg dksX3_wayOfTwo_1 24 rfl rfl
theorem dX3_wayOfTwo_0 : decode cX3_wayOfTwo 0 = .ok (.iconst 0, 1) := dk_3 (dk_at dksX3_wayOfTwo_0 0 rfl rfl)
theorem dX3_wayOfTwo_1 : decode cX3_wayOfTwo 1 = .ok (.istore 4, 2) := dk_54 4 (dk_at dksX3_wayOfTwo_0 1 rfl rfl)
theorem dX3_wayOfTwo_3 : decode cX3_wayOfTwo 3 = .ok (.iconst 0, 1) := dk_3 (dk_at dksX3_wayOfTwo_0 3 rfl rfl)
theorem dX3_wayOfTwo_4 : decode cX3_wayOfTwo 4 = .ok (.istore 5, 2) := dk_54 5 (dk_at dksX3_wayOfTwo_0 4 rfl rfl)
theorem dX3_wayOfTwo_6 : decode cX3_wayOfTwo 6 = .ok (.iload 5, 2) := dk_21 5 (dk_at dksX3_wayOfTwo_0 6 rfl rfl)
theorem dX3_wayOfTwo_8 : decode cX3_wayOfTwo 8 = .ok (.aload_n 0, 1) := dk_42 (dk_at dksX3_wayOfTwo_0 8 rfl rfl)
theorem dX3_wayOfTwo_9 : decode cX3_wayOfTwo 9 = .ok (.getfield 67, 3) := dk_180 0 67 (dk_at dksX3_wayOfTwo_0 9 rfl rfl)
theorem dX3_wayOfTwo_12 : decode cX3_wayOfTwo 12 = .ok (.iload_n 1, 1) := dk_27 (dk_at dksX3_wayOfTwo_0 12 rfl rfl)
theorem dX3_wayOfTwo_13 : decode cX3_wayOfTwo 13 = .ok (.iaload, 1) := dk_46 (dk_at dksX3_wayOfTwo_0 13 rfl rfl)
theorem dX3_wayOfTwo_14 : decode cX3_wayOfTwo 14 = .ok (.if_icmp .ge 46, 3) := dk_162 0 46 (dk_at dksX3_wayOfTwo_0 14 rfl rfl)
theorem dX3_wayOfTwo_17 : decode cX3_wayOfTwo 17 = .ok (.iload 4, 2) := dk_21 4 (dk_at dksX3_wayOfTwo_0 17 rfl rfl)
theorem dX3_wayOfTwo_19 : decode cX3_wayOfTwo 19 = .ok (.aload_n 0, 1) := dk_42 (dk_at dksX3_wayOfTwo_0 19 rfl rfl)
theorem dX3_wayOfTwo_20 : decode cX3_wayOfTwo 20 = .ok (.getfield 90, 3) := dk_180 0 90 (dk_at dksX3_wayOfTwo_0 20 rfl rfl)
theorem dX3_wayOfTwo_23 : decode cX3_wayOfTwo 23 = .ok (.bipush 12, 2) := dk_16 12 (dk_at dksX3_wayOfTwo_1 0 rfl rfl)
theorem dX3_wayOfTwo_25 : decode cX3_wayOfTwo 25 = .ok (.iload_n 2, 1) := dk_28 (dk_at dksX3_wayOfTwo_1 2 rfl rfl)
theorem dX3_wayOfTwo_26 : decode cX3_wayOfTwo 26 = .ok (.imul, 1) := dk_104 (dk_at dksX3_wayOfTwo_1 3 rfl rfl)
theorem dX3_wayOfTwo_27 : decode cX3_wayOfTwo 27 = .ok (.iload 5, 2) := dk_21 5 (dk_at dksX3_wayOfTwo_1 4 rfl rfl)
theorem dX3_wayOfTwo_29 : decode cX3_wayOfTwo 29 = .ok (.iadd, 1) := dk_96 (dk_at dksX3_wayOfTwo_1 6 rfl rfl)
theorem dX3_wayOfTwo_30 : decode cX3_wayOfTwo 30 = .ok (.iaload, 1) := dk_46 (dk_at dksX3_wayOfTwo_1 7 rfl rfl)
theorem dX3_wayOfTwo_31 : decode cX3_wayOfTwo 31 = .ok (.aload_n 0, 1) := dk_42 (dk_at dksX3_wayOfTwo_1 8 rfl rfl)
theorem dX3_wayOfTwo_32 : decode cX3_wayOfTwo 32 = .ok (.getfield 90, 3) := dk_180 0 90 (dk_at dksX3_wayOfTwo_1 9 rfl rfl)
theorem dX3_wayOfTwo_35 : decode cX3_wayOfTwo 35 = .ok (.bipush 12, 2) := dk_16 12 (dk_at dksX3_wayOfTwo_1 12 rfl rfl)
theorem dX3_wayOfTwo_37 : decode cX3_wayOfTwo 37 = .ok (.iload_n 3, 1) := dk_29 (dk_at dksX3_wayOfTwo_1 14 rfl rfl)
theorem dX3_wayOfTwo_38 : decode cX3_wayOfTwo 38 = .ok (.imul, 1) := dk_104 (dk_at dksX3_wayOfTwo_1 15 rfl rfl)
theorem dX3_wayOfTwo_39 : decode cX3_wayOfTwo 39 = .ok (.iload 5, 2) := dk_21 5 (dk_at dksX3_wayOfTwo_1 16 rfl rfl)
theorem dX3_wayOfTwo_41 : decode cX3_wayOfTwo 41 = .ok (.iadd, 1) := dk_96 (dk_at dksX3_wayOfTwo_1 18 rfl rfl)
theorem dX3_wayOfTwo_42 : decode cX3_wayOfTwo 42 = .ok (.iaload, 1) := dk_46 (dk_at dksX3_wayOfTwo_1 19 rfl rfl)
theorem dX3_wayOfTwo_43 : decode cX3_wayOfTwo 43 = .ok (.if_icmp .eq 7, 3) := dk_159 0 7 (dk_at dksX3_wayOfTwo_1 20 rfl rfl)
theorem dX3_wayOfTwo_46 : decode cX3_wayOfTwo 46 = .ok (.iconst 1, 1) := dk_4 (dk_at dksX3_wayOfTwo_1 23 rfl rfl)
theorem dX3_wayOfTwo_47 : decode cX3_wayOfTwo 47 = .ok (.goto 4, 3) := dk_167 0 4 (dk_at dksX3_wayOfTwo_2 0 rfl rfl)
theorem dX3_wayOfTwo_50 : decode cX3_wayOfTwo 50 = .ok (.iconst 0, 1) := dk_3 (dk_at dksX3_wayOfTwo_2 3 rfl rfl)
theorem dX3_wayOfTwo_51 : decode cX3_wayOfTwo 51 = .ok (.iadd, 1) := dk_96 (dk_at dksX3_wayOfTwo_2 4 rfl rfl)
theorem dX3_wayOfTwo_52 : decode cX3_wayOfTwo 52 = .ok (.istore 4, 2) := dk_54 4 (dk_at dksX3_wayOfTwo_2 5 rfl rfl)
theorem dX3_wayOfTwo_54 : decode cX3_wayOfTwo 54 = .ok (.iinc 5 1, 3) := dk_132 5 1 (dk_at dksX3_wayOfTwo_2 7 rfl rfl)
theorem dX3_wayOfTwo_57 : decode cX3_wayOfTwo 57 = .ok (.goto (-51), 3) := dk_167 255 205 (dk_at dksX3_wayOfTwo_2 10 rfl rfl)
theorem dX3_wayOfTwo_60 : decode cX3_wayOfTwo 60 = .ok (.iload 4, 2) := dk_21 4 (dk_at dksX3_wayOfTwo_2 13 rfl rfl)
theorem dX3_wayOfTwo_62 : decode cX3_wayOfTwo 62 = .ok (.ireturn, 1) := dk_172 (dk_at dksX3_wayOfTwo_2 15 rfl rfl)
abbrev cX3_weights : ByteArray := prog_11_method_50_code
def yX3_weights : MethodName := ⟨RX3, "weights", "(II)J"⟩
def dkwX3_weights_2 : List UInt8 := [27, 182, 0, 195, 42, 180, 0, 96, 28, 47, 173]
abbrev dktX3_weights_2 : List UInt8 := dkwX3_weights_2 ++ []
def dkwX3_weights_1 : List UInt8 := [133, 184, 0, 26, 154, 0, 7, 20, 0, 40, 173, 42, 27, 182, 0, 187, 154, 0, 7, 20, 0, 193, 173, 42]
abbrev dktX3_weights_1 : List UInt8 := dkwX3_weights_1 ++ dktX3_weights_2
def dkwX3_weights_0 : List UInt8 := [42, 27, 182, 0, 184, 153, 0, 10, 42, 27, 182, 0, 184, 133, 173, 28, 133, 9, 42, 180, 0, 67, 27, 46]
abbrev dktX3_weights_0 : List UInt8 := dkwX3_weights_0 ++ dktX3_weights_1
theorem dksX3_weights_0 : cX3_weights.data.toList.drop 0 = dktX3_weights_0 := by decide +kernel
theorem dksX3_weights_1 : cX3_weights.data.toList.drop 24 = dktX3_weights_1 := dk_seg dksX3_weights_0 24 rfl rfl
theorem dksX3_weights_2 : cX3_weights.data.toList.drop 48 = dktX3_weights_2 := dk_seg dksX3_weights_1 24 rfl rfl
theorem dX3_weights_0 : decode cX3_weights 0 = .ok (.aload_n 0, 1) := dk_42 (dk_at dksX3_weights_0 0 rfl rfl)
theorem dX3_weights_1 : decode cX3_weights 1 = .ok (.iload_n 1, 1) := dk_27 (dk_at dksX3_weights_0 1 rfl rfl)
theorem dX3_weights_2 : decode cX3_weights 2 = .ok (.invokevirtual 184, 3) := dk_182 0 184 (dk_at dksX3_weights_0 2 rfl rfl)
theorem dX3_weights_5 : decode cX3_weights 5 = .ok (.ifCond .eq 10, 3) := dk_153 0 10 (dk_at dksX3_weights_0 5 rfl rfl)
theorem dX3_weights_8 : decode cX3_weights 8 = .ok (.aload_n 0, 1) := dk_42 (dk_at dksX3_weights_0 8 rfl rfl)
theorem dX3_weights_9 : decode cX3_weights 9 = .ok (.iload_n 1, 1) := dk_27 (dk_at dksX3_weights_0 9 rfl rfl)
theorem dX3_weights_10 : decode cX3_weights 10 = .ok (.invokevirtual 184, 3) := dk_182 0 184 (dk_at dksX3_weights_0 10 rfl rfl)
theorem dX3_weights_13 : decode cX3_weights 13 = .ok (.i2l, 1) := dk_133 (dk_at dksX3_weights_0 13 rfl rfl)
theorem dX3_weights_14 : decode cX3_weights 14 = .ok (.lreturn, 1) := dk_173 (dk_at dksX3_weights_0 14 rfl rfl)
theorem dX3_weights_15 : decode cX3_weights 15 = .ok (.iload_n 2, 1) := dk_28 (dk_at dksX3_weights_0 15 rfl rfl)
theorem dX3_weights_16 : decode cX3_weights 16 = .ok (.i2l, 1) := dk_133 (dk_at dksX3_weights_0 16 rfl rfl)
theorem dX3_weights_17 : decode cX3_weights 17 = .ok (.lconst 0, 1) := dk_9 (dk_at dksX3_weights_0 17 rfl rfl)
theorem dX3_weights_18 : decode cX3_weights 18 = .ok (.aload_n 0, 1) := dk_42 (dk_at dksX3_weights_0 18 rfl rfl)
theorem dX3_weights_19 : decode cX3_weights 19 = .ok (.getfield 67, 3) := dk_180 0 67 (dk_at dksX3_weights_0 19 rfl rfl)
theorem dX3_weights_22 : decode cX3_weights 22 = .ok (.iload_n 1, 1) := dk_27 (dk_at dksX3_weights_0 22 rfl rfl)
theorem dX3_weights_23 : decode cX3_weights 23 = .ok (.iaload, 1) := dk_46 (dk_at dksX3_weights_0 23 rfl rfl)
theorem dX3_weights_24 : decode cX3_weights 24 = .ok (.i2l, 1) := dk_133 (dk_at dksX3_weights_1 0 rfl rfl)
theorem dX3_weights_25 : decode cX3_weights 25 = .ok (.invokestatic 26, 3) := dk_184 0 26 (dk_at dksX3_weights_1 1 rfl rfl)
theorem dX3_weights_28 : decode cX3_weights 28 = .ok (.ifCond .ne 7, 3) := dk_154 0 7 (dk_at dksX3_weights_1 4 rfl rfl)
theorem dX3_weights_31 : decode cX3_weights 31 = .ok (.ldc2_w 40, 3) := dk_20 0 40 (dk_at dksX3_weights_1 7 rfl rfl)
theorem dX3_weights_34 : decode cX3_weights 34 = .ok (.lreturn, 1) := dk_173 (dk_at dksX3_weights_1 10 rfl rfl)
theorem dX3_weights_35 : decode cX3_weights 35 = .ok (.aload_n 0, 1) := dk_42 (dk_at dksX3_weights_1 11 rfl rfl)
theorem dX3_weights_36 : decode cX3_weights 36 = .ok (.iload_n 1, 1) := dk_27 (dk_at dksX3_weights_1 12 rfl rfl)
theorem dX3_weights_37 : decode cX3_weights 37 = .ok (.invokevirtual 187, 3) := dk_182 0 187 (dk_at dksX3_weights_1 13 rfl rfl)
theorem dX3_weights_40 : decode cX3_weights 40 = .ok (.ifCond .ne 7, 3) := dk_154 0 7 (dk_at dksX3_weights_1 16 rfl rfl)
theorem dX3_weights_43 : decode cX3_weights 43 = .ok (.ldc2_w 193, 3) := dk_20 0 193 (dk_at dksX3_weights_1 19 rfl rfl)
theorem dX3_weights_46 : decode cX3_weights 46 = .ok (.lreturn, 1) := dk_173 (dk_at dksX3_weights_1 22 rfl rfl)
theorem dX3_weights_47 : decode cX3_weights 47 = .ok (.aload_n 0, 1) := dk_42 (dk_at dksX3_weights_1 23 rfl rfl)
theorem dX3_weights_48 : decode cX3_weights 48 = .ok (.iload_n 1, 1) := dk_27 (dk_at dksX3_weights_2 0 rfl rfl)
theorem dX3_weights_49 : decode cX3_weights 49 = .ok (.invokevirtual 195, 3) := dk_182 0 195 (dk_at dksX3_weights_2 1 rfl rfl)
theorem dX3_weights_52 : decode cX3_weights 52 = .ok (.aload_n 0, 1) := dk_42 (dk_at dksX3_weights_2 4 rfl rfl)
theorem dX3_weights_53 : decode cX3_weights 53 = .ok (.getfield 96, 3) := dk_180 0 96 (dk_at dksX3_weights_2 5 rfl rfl)
theorem dX3_weights_56 : decode cX3_weights 56 = .ok (.iload_n 2, 1) := dk_28 (dk_at dksX3_weights_2 8 rfl rfl)
theorem dX3_weights_57 : decode cX3_weights 57 = .ok (.laload, 1) := dk_47 (dk_at dksX3_weights_2 9 rfl rfl)
theorem dX3_weights_58 : decode cX3_weights 58 = .ok (.lreturn, 1) := dk_173 (dk_at dksX3_weights_2 10 rfl rfl)
abbrev cX3_weigh : ByteArray := prog_11_method_49_code
def yX3_weigh : MethodName := ⟨RX3, "weigh", "(I)V"⟩
def dkwX3_weigh_7 : List UInt8 := [47, 42, 180, 0, 175, 133, 109, 80, 132, 3, 1, 167, 255, 229, 177]
abbrev dktX3_weigh_7 : List UInt8 := dkwX3_weigh_7 ++ []
def dkwX3_weigh_6 : List UInt8 := [132, 3, 1, 167, 255, 220, 3, 62, 29, 16, 13, 162, 0, 27, 28, 153, 0, 23, 42, 180, 0, 96, 29, 92]
abbrev dktX3_weigh_6 : List UInt8 := dkwX3_weigh_6 ++ dktX3_weigh_7
def dkwX3_weigh_5 : List UInt8 := [180, 0, 96, 29, 47, 42, 180, 0, 175, 133, 113, 9, 148, 154, 0, 7, 4, 167, 0, 4, 3, 61]
abbrev dktX3_weigh_5 : List UInt8 := dkwX3_weigh_5 ++ dktX3_weigh_6
def dkwX3_weigh_4 : List UInt8 := [180, 0, 175, 154, 0, 4, 177, 4, 61, 3, 62, 29, 16, 13, 162, 0, 36, 28, 153, 0, 24, 42]
abbrev dktX3_weigh_4 : List UInt8 := dkwX3_weigh_4 ++ dktX3_weigh_5
def dkwX3_weigh_3 : List UInt8 := [132, 3, 1, 167, 255, 216, 132, 2, 1, 167, 255, 200, 42, 180, 0, 60, 27, 46, 154, 0, 10, 42]
abbrev dktX3_weigh_3 : List UInt8 := dkwX3_weigh_3 ++ dktX3_weigh_4
def dkwX3_weigh_2 : List UInt8 := [167, 0, 4, 4, 162, 0, 25, 42, 180, 0, 96, 42, 27, 28, 29, 182, 0, 181, 92, 47, 10, 97, 80]
abbrev dktX3_weigh_2 : List UInt8 := dkwX3_weigh_2 ++ dktX3_weigh_3
def dkwX3_weigh_1 : List UInt8 := [42, 180, 0, 175, 162, 0, 54, 3, 62, 29, 42, 180, 0, 60, 27, 46, 154, 0, 10, 42, 180, 0, 175]
abbrev dktX3_weigh_1 : List UInt8 := dkwX3_weigh_1 ++ dktX3_weigh_2
def dkwX3_weigh_0 : List UInt8 := [3, 61, 28, 16, 13, 162, 0, 16, 42, 180, 0, 96, 28, 9, 80, 132, 2, 1, 167, 255, 240, 3, 61, 28]
abbrev dktX3_weigh_0 : List UInt8 := dkwX3_weigh_0 ++ dktX3_weigh_1
theorem dksX3_weigh_0 : cX3_weigh.data.toList.drop 0 = dktX3_weigh_0 := by decide +kernel
theorem dksX3_weigh_1 : cX3_weigh.data.toList.drop 24 = dktX3_weigh_1 := dk_seg dksX3_weigh_0 24 rfl rfl
theorem dksX3_weigh_2 : cX3_weigh.data.toList.drop 47 = dktX3_weigh_2 := dk_seg dksX3_weigh_1 23 rfl rfl
theorem dksX3_weigh_3 : cX3_weigh.data.toList.drop 70 = dktX3_weigh_3 := dk_seg dksX3_weigh_2 23 rfl rfl
theorem dksX3_weigh_4 : cX3_weigh.data.toList.drop 92 = dktX3_weigh_4 := dk_seg dksX3_weigh_3 22 rfl rfl
theorem dksX3_weigh_5 : cX3_weigh.data.toList.drop 114 = dktX3_weigh_5 := dk_seg dksX3_weigh_4 22 rfl rfl
theorem dksX3_weigh_6 : cX3_weigh.data.toList.drop 136 = dktX3_weigh_6 := dk_seg dksX3_weigh_5 22 rfl rfl
theorem dksX3_weigh_7 : cX3_weigh.data.toList.drop 160 = dktX3_weigh_7 := dk_seg dksX3_weigh_6 24 rfl rfl
theorem dX3_weigh_0 : decode cX3_weigh 0 = .ok (.iconst 0, 1) := dk_3 (dk_at dksX3_weigh_0 0 rfl rfl)
theorem dX3_weigh_1 : decode cX3_weigh 1 = .ok (.istore_n 2, 1) := dk_61 (dk_at dksX3_weigh_0 1 rfl rfl)
theorem dX3_weigh_2 : decode cX3_weigh 2 = .ok (.iload_n 2, 1) := dk_28 (dk_at dksX3_weigh_0 2 rfl rfl)
theorem dX3_weigh_3 : decode cX3_weigh 3 = .ok (.bipush 13, 2) := dk_16 13 (dk_at dksX3_weigh_0 3 rfl rfl)
theorem dX3_weigh_5 : decode cX3_weigh 5 = .ok (.if_icmp .ge 16, 3) := dk_162 0 16 (dk_at dksX3_weigh_0 5 rfl rfl)
theorem dX3_weigh_8 : decode cX3_weigh 8 = .ok (.aload_n 0, 1) := dk_42 (dk_at dksX3_weigh_0 8 rfl rfl)
theorem dX3_weigh_9 : decode cX3_weigh 9 = .ok (.getfield 96, 3) := dk_180 0 96 (dk_at dksX3_weigh_0 9 rfl rfl)
theorem dX3_weigh_12 : decode cX3_weigh 12 = .ok (.iload_n 2, 1) := dk_28 (dk_at dksX3_weigh_0 12 rfl rfl)
theorem dX3_weigh_13 : decode cX3_weigh 13 = .ok (.lconst 0, 1) := dk_9 (dk_at dksX3_weigh_0 13 rfl rfl)
theorem dX3_weigh_14 : decode cX3_weigh 14 = .ok (.lastore, 1) := dk_80 (dk_at dksX3_weigh_0 14 rfl rfl)
theorem dX3_weigh_15 : decode cX3_weigh 15 = .ok (.iinc 2 1, 3) := dk_132 2 1 (dk_at dksX3_weigh_0 15 rfl rfl)
theorem dX3_weigh_18 : decode cX3_weigh 18 = .ok (.goto (-16), 3) := dk_167 255 240 (dk_at dksX3_weigh_0 18 rfl rfl)
theorem dX3_weigh_21 : decode cX3_weigh 21 = .ok (.iconst 0, 1) := dk_3 (dk_at dksX3_weigh_0 21 rfl rfl)
theorem dX3_weigh_22 : decode cX3_weigh 22 = .ok (.istore_n 2, 1) := dk_61 (dk_at dksX3_weigh_0 22 rfl rfl)
theorem dX3_weigh_23 : decode cX3_weigh 23 = .ok (.iload_n 2, 1) := dk_28 (dk_at dksX3_weigh_0 23 rfl rfl)
theorem dX3_weigh_24 : decode cX3_weigh 24 = .ok (.aload_n 0, 1) := dk_42 (dk_at dksX3_weigh_1 0 rfl rfl)
theorem dX3_weigh_25 : decode cX3_weigh 25 = .ok (.getfield 175, 3) := dk_180 0 175 (dk_at dksX3_weigh_1 1 rfl rfl)
theorem dX3_weigh_28 : decode cX3_weigh 28 = .ok (.if_icmp .ge 54, 3) := dk_162 0 54 (dk_at dksX3_weigh_1 4 rfl rfl)
theorem dX3_weigh_31 : decode cX3_weigh 31 = .ok (.iconst 0, 1) := dk_3 (dk_at dksX3_weigh_1 7 rfl rfl)
theorem dX3_weigh_32 : decode cX3_weigh 32 = .ok (.istore_n 3, 1) := dk_62 (dk_at dksX3_weigh_1 8 rfl rfl)
theorem dX3_weigh_33 : decode cX3_weigh 33 = .ok (.iload_n 3, 1) := dk_29 (dk_at dksX3_weigh_1 9 rfl rfl)
theorem dX3_weigh_34 : decode cX3_weigh 34 = .ok (.aload_n 0, 1) := dk_42 (dk_at dksX3_weigh_1 10 rfl rfl)
theorem dX3_weigh_35 : decode cX3_weigh 35 = .ok (.getfield 60, 3) := dk_180 0 60 (dk_at dksX3_weigh_1 11 rfl rfl)
theorem dX3_weigh_38 : decode cX3_weigh 38 = .ok (.iload_n 1, 1) := dk_27 (dk_at dksX3_weigh_1 14 rfl rfl)
theorem dX3_weigh_39 : decode cX3_weigh 39 = .ok (.iaload, 1) := dk_46 (dk_at dksX3_weigh_1 15 rfl rfl)
theorem dX3_weigh_40 : decode cX3_weigh 40 = .ok (.ifCond .ne 10, 3) := dk_154 0 10 (dk_at dksX3_weigh_1 16 rfl rfl)
theorem dX3_weigh_43 : decode cX3_weigh 43 = .ok (.aload_n 0, 1) := dk_42 (dk_at dksX3_weigh_1 19 rfl rfl)
theorem dX3_weigh_44 : decode cX3_weigh 44 = .ok (.getfield 175, 3) := dk_180 0 175 (dk_at dksX3_weigh_1 20 rfl rfl)
theorem dX3_weigh_47 : decode cX3_weigh 47 = .ok (.goto 4, 3) := dk_167 0 4 (dk_at dksX3_weigh_2 0 rfl rfl)
theorem dX3_weigh_50 : decode cX3_weigh 50 = .ok (.iconst 1, 1) := dk_4 (dk_at dksX3_weigh_2 3 rfl rfl)
theorem dX3_weigh_51 : decode cX3_weigh 51 = .ok (.if_icmp .ge 25, 3) := dk_162 0 25 (dk_at dksX3_weigh_2 4 rfl rfl)
theorem dX3_weigh_54 : decode cX3_weigh 54 = .ok (.aload_n 0, 1) := dk_42 (dk_at dksX3_weigh_2 7 rfl rfl)
theorem dX3_weigh_55 : decode cX3_weigh 55 = .ok (.getfield 96, 3) := dk_180 0 96 (dk_at dksX3_weigh_2 8 rfl rfl)
theorem dX3_weigh_58 : decode cX3_weigh 58 = .ok (.aload_n 0, 1) := dk_42 (dk_at dksX3_weigh_2 11 rfl rfl)
theorem dX3_weigh_59 : decode cX3_weigh 59 = .ok (.iload_n 1, 1) := dk_27 (dk_at dksX3_weigh_2 12 rfl rfl)
theorem dX3_weigh_60 : decode cX3_weigh 60 = .ok (.iload_n 2, 1) := dk_28 (dk_at dksX3_weigh_2 13 rfl rfl)
theorem dX3_weigh_61 : decode cX3_weigh 61 = .ok (.iload_n 3, 1) := dk_29 (dk_at dksX3_weigh_2 14 rfl rfl)
theorem dX3_weigh_62 : decode cX3_weigh 62 = .ok (.invokevirtual 181, 3) := dk_182 0 181 (dk_at dksX3_weigh_2 15 rfl rfl)
theorem dX3_weigh_65 : decode cX3_weigh 65 = .ok (.dup2, 1) := dk_92 (dk_at dksX3_weigh_2 18 rfl rfl)
theorem dX3_weigh_66 : decode cX3_weigh 66 = .ok (.laload, 1) := dk_47 (dk_at dksX3_weigh_2 19 rfl rfl)
theorem dX3_weigh_67 : decode cX3_weigh 67 = .ok (.lconst 1, 1) := dk_10 (dk_at dksX3_weigh_2 20 rfl rfl)
theorem dX3_weigh_68 : decode cX3_weigh 68 = .ok (.ladd, 1) := dk_97 (dk_at dksX3_weigh_2 21 rfl rfl)
theorem dX3_weigh_69 : decode cX3_weigh 69 = .ok (.lastore, 1) := dk_80 (dk_at dksX3_weigh_2 22 rfl rfl)
theorem dX3_weigh_70 : decode cX3_weigh 70 = .ok (.iinc 3 1, 3) := dk_132 3 1 (dk_at dksX3_weigh_3 0 rfl rfl)
theorem dX3_weigh_73 : decode cX3_weigh 73 = .ok (.goto (-40), 3) := dk_167 255 216 (dk_at dksX3_weigh_3 3 rfl rfl)
theorem dX3_weigh_76 : decode cX3_weigh 76 = .ok (.iinc 2 1, 3) := dk_132 2 1 (dk_at dksX3_weigh_3 6 rfl rfl)
theorem dX3_weigh_79 : decode cX3_weigh 79 = .ok (.goto (-56), 3) := dk_167 255 200 (dk_at dksX3_weigh_3 9 rfl rfl)
theorem dX3_weigh_82 : decode cX3_weigh 82 = .ok (.aload_n 0, 1) := dk_42 (dk_at dksX3_weigh_3 12 rfl rfl)
theorem dX3_weigh_83 : decode cX3_weigh 83 = .ok (.getfield 60, 3) := dk_180 0 60 (dk_at dksX3_weigh_3 13 rfl rfl)
theorem dX3_weigh_86 : decode cX3_weigh 86 = .ok (.iload_n 1, 1) := dk_27 (dk_at dksX3_weigh_3 16 rfl rfl)
theorem dX3_weigh_87 : decode cX3_weigh 87 = .ok (.iaload, 1) := dk_46 (dk_at dksX3_weigh_3 17 rfl rfl)
theorem dX3_weigh_88 : decode cX3_weigh 88 = .ok (.ifCond .ne 10, 3) := dk_154 0 10 (dk_at dksX3_weigh_3 18 rfl rfl)
theorem dX3_weigh_91 : decode cX3_weigh 91 = .ok (.aload_n 0, 1) := dk_42 (dk_at dksX3_weigh_3 21 rfl rfl)
theorem dX3_weigh_92 : decode cX3_weigh 92 = .ok (.getfield 175, 3) := dk_180 0 175 (dk_at dksX3_weigh_4 0 rfl rfl)
theorem dX3_weigh_95 : decode cX3_weigh 95 = .ok (.ifCond .ne 4, 3) := dk_154 0 4 (dk_at dksX3_weigh_4 3 rfl rfl)
theorem dX3_weigh_98 : decode cX3_weigh 98 = .ok (.return_, 1) := dk_177 (dk_at dksX3_weigh_4 6 rfl rfl)
theorem dX3_weigh_99 : decode cX3_weigh 99 = .ok (.iconst 1, 1) := dk_4 (dk_at dksX3_weigh_4 7 rfl rfl)
theorem dX3_weigh_100 : decode cX3_weigh 100 = .ok (.istore_n 2, 1) := dk_61 (dk_at dksX3_weigh_4 8 rfl rfl)
theorem dX3_weigh_101 : decode cX3_weigh 101 = .ok (.iconst 0, 1) := dk_3 (dk_at dksX3_weigh_4 9 rfl rfl)
theorem dX3_weigh_102 : decode cX3_weigh 102 = .ok (.istore_n 3, 1) := dk_62 (dk_at dksX3_weigh_4 10 rfl rfl)
theorem dX3_weigh_103 : decode cX3_weigh 103 = .ok (.iload_n 3, 1) := dk_29 (dk_at dksX3_weigh_4 11 rfl rfl)
theorem dX3_weigh_104 : decode cX3_weigh 104 = .ok (.bipush 13, 2) := dk_16 13 (dk_at dksX3_weigh_4 12 rfl rfl)
theorem dX3_weigh_106 : decode cX3_weigh 106 = .ok (.if_icmp .ge 36, 3) := dk_162 0 36 (dk_at dksX3_weigh_4 14 rfl rfl)
theorem dX3_weigh_109 : decode cX3_weigh 109 = .ok (.iload_n 2, 1) := dk_28 (dk_at dksX3_weigh_4 17 rfl rfl)
theorem dX3_weigh_110 : decode cX3_weigh 110 = .ok (.ifCond .eq 24, 3) := dk_153 0 24 (dk_at dksX3_weigh_4 18 rfl rfl)
theorem dX3_weigh_113 : decode cX3_weigh 113 = .ok (.aload_n 0, 1) := dk_42 (dk_at dksX3_weigh_4 21 rfl rfl)
theorem dX3_weigh_114 : decode cX3_weigh 114 = .ok (.getfield 96, 3) := dk_180 0 96 (dk_at dksX3_weigh_5 0 rfl rfl)
theorem dX3_weigh_117 : decode cX3_weigh 117 = .ok (.iload_n 3, 1) := dk_29 (dk_at dksX3_weigh_5 3 rfl rfl)
theorem dX3_weigh_118 : decode cX3_weigh 118 = .ok (.laload, 1) := dk_47 (dk_at dksX3_weigh_5 4 rfl rfl)
theorem dX3_weigh_119 : decode cX3_weigh 119 = .ok (.aload_n 0, 1) := dk_42 (dk_at dksX3_weigh_5 5 rfl rfl)
theorem dX3_weigh_120 : decode cX3_weigh 120 = .ok (.getfield 175, 3) := dk_180 0 175 (dk_at dksX3_weigh_5 6 rfl rfl)
theorem dX3_weigh_123 : decode cX3_weigh 123 = .ok (.i2l, 1) := dk_133 (dk_at dksX3_weigh_5 9 rfl rfl)
theorem dX3_weigh_124 : decode cX3_weigh 124 = .ok (.lrem, 1) := dk_113 (dk_at dksX3_weigh_5 10 rfl rfl)
theorem dX3_weigh_125 : decode cX3_weigh 125 = .ok (.lconst 0, 1) := dk_9 (dk_at dksX3_weigh_5 11 rfl rfl)
theorem dX3_weigh_126 : decode cX3_weigh 126 = .ok (.lcmp, 1) := dk_148 (dk_at dksX3_weigh_5 12 rfl rfl)
theorem dX3_weigh_127 : decode cX3_weigh 127 = .ok (.ifCond .ne 7, 3) := dk_154 0 7 (dk_at dksX3_weigh_5 13 rfl rfl)
theorem dX3_weigh_130 : decode cX3_weigh 130 = .ok (.iconst 1, 1) := dk_4 (dk_at dksX3_weigh_5 16 rfl rfl)
theorem dX3_weigh_131 : decode cX3_weigh 131 = .ok (.goto 4, 3) := dk_167 0 4 (dk_at dksX3_weigh_5 17 rfl rfl)
theorem dX3_weigh_134 : decode cX3_weigh 134 = .ok (.iconst 0, 1) := dk_3 (dk_at dksX3_weigh_5 20 rfl rfl)
theorem dX3_weigh_135 : decode cX3_weigh 135 = .ok (.istore_n 2, 1) := dk_61 (dk_at dksX3_weigh_5 21 rfl rfl)
theorem dX3_weigh_136 : decode cX3_weigh 136 = .ok (.iinc 3 1, 3) := dk_132 3 1 (dk_at dksX3_weigh_6 0 rfl rfl)
theorem dX3_weigh_139 : decode cX3_weigh 139 = .ok (.goto (-36), 3) := dk_167 255 220 (dk_at dksX3_weigh_6 3 rfl rfl)
theorem dX3_weigh_142 : decode cX3_weigh 142 = .ok (.iconst 0, 1) := dk_3 (dk_at dksX3_weigh_6 6 rfl rfl)
theorem dX3_weigh_143 : decode cX3_weigh 143 = .ok (.istore_n 3, 1) := dk_62 (dk_at dksX3_weigh_6 7 rfl rfl)
theorem dX3_weigh_144 : decode cX3_weigh 144 = .ok (.iload_n 3, 1) := dk_29 (dk_at dksX3_weigh_6 8 rfl rfl)
theorem dX3_weigh_145 : decode cX3_weigh 145 = .ok (.bipush 13, 2) := dk_16 13 (dk_at dksX3_weigh_6 9 rfl rfl)
theorem dX3_weigh_147 : decode cX3_weigh 147 = .ok (.if_icmp .ge 27, 3) := dk_162 0 27 (dk_at dksX3_weigh_6 11 rfl rfl)
theorem dX3_weigh_150 : decode cX3_weigh 150 = .ok (.iload_n 2, 1) := dk_28 (dk_at dksX3_weigh_6 14 rfl rfl)
theorem dX3_weigh_151 : decode cX3_weigh 151 = .ok (.ifCond .eq 23, 3) := dk_153 0 23 (dk_at dksX3_weigh_6 15 rfl rfl)
theorem dX3_weigh_154 : decode cX3_weigh 154 = .ok (.aload_n 0, 1) := dk_42 (dk_at dksX3_weigh_6 18 rfl rfl)
theorem dX3_weigh_155 : decode cX3_weigh 155 = .ok (.getfield 96, 3) := dk_180 0 96 (dk_at dksX3_weigh_6 19 rfl rfl)
theorem dX3_weigh_158 : decode cX3_weigh 158 = .ok (.iload_n 3, 1) := dk_29 (dk_at dksX3_weigh_6 22 rfl rfl)
theorem dX3_weigh_159 : decode cX3_weigh 159 = .ok (.dup2, 1) := dk_92 (dk_at dksX3_weigh_6 23 rfl rfl)
theorem dX3_weigh_160 : decode cX3_weigh 160 = .ok (.laload, 1) := dk_47 (dk_at dksX3_weigh_7 0 rfl rfl)
theorem dX3_weigh_161 : decode cX3_weigh 161 = .ok (.aload_n 0, 1) := dk_42 (dk_at dksX3_weigh_7 1 rfl rfl)
theorem dX3_weigh_162 : decode cX3_weigh 162 = .ok (.getfield 175, 3) := dk_180 0 175 (dk_at dksX3_weigh_7 2 rfl rfl)
theorem dX3_weigh_165 : decode cX3_weigh 165 = .ok (.i2l, 1) := dk_133 (dk_at dksX3_weigh_7 5 rfl rfl)
theorem dX3_weigh_166 : decode cX3_weigh 166 = .ok (.ldiv, 1) := dk_109 (dk_at dksX3_weigh_7 6 rfl rfl)
theorem dX3_weigh_167 : decode cX3_weigh 167 = .ok (.lastore, 1) := dk_80 (dk_at dksX3_weigh_7 7 rfl rfl)
theorem dX3_weigh_168 : decode cX3_weigh 168 = .ok (.iinc 3 1, 3) := dk_132 3 1 (dk_at dksX3_weigh_7 8 rfl rfl)
theorem dX3_weigh_171 : decode cX3_weigh 171 = .ok (.goto (-27), 3) := dk_167 255 229 (dk_at dksX3_weigh_7 11 rfl rfl)
theorem dX3_weigh_174 : decode cX3_weigh 174 = .ok (.return_, 1) := dk_177 (dk_at dksX3_weigh_7 14 rfl rfl)
abbrev cX3_law : ByteArray := prog_11_method_53_code
def yX3_law : MethodName := ⟨RX3, "law", "(II)J"⟩
def dkwX3_law_5 : List UInt8 := [105, 97, 66, 132, 5, 1, 167, 255, 213, 33, 173]
abbrev dktX3_law_5 : List UInt8 := dkwX3_law_5 ++ []
def dkwX3_law_4 : List UInt8 := [180, 0, 96, 21, 5, 47, 42, 180, 0, 64, 27, 46, 42, 180, 0, 67, 27, 46, 28, 21, 5, 184, 0, 201]
abbrev dktX3_law_4 : List UInt8 := dkwX3_law_4 ++ dktX3_law_5
def dkwX3_law_3 : List UInt8 := [27, 182, 0, 195, 9, 66, 3, 54, 5, 21, 5, 42, 180, 0, 67, 27, 46, 163, 0, 38, 33, 42]
abbrev dktX3_law_3 : List UInt8 := dkwX3_law_3 ++ dktX3_law_4
def dkwX3_law_2 : List UInt8 := [182, 0, 187, 154, 0, 7, 5, 167, 0, 4, 3, 181, 0, 1, 42, 180, 0, 1, 158, 0, 5, 9, 173, 42]
abbrev dktX3_law_2 : List UInt8 := dkwX3_law_2 ++ dktX3_law_3
def dkwX3_law_1 : List UInt8 := [28, 133, 9, 42, 180, 0, 67, 27, 46, 133, 184, 0, 26, 154, 0, 7, 4, 167, 0, 16, 42, 27]
abbrev dktX3_law_1 : List UInt8 := dkwX3_law_1 ++ dktX3_law_2
def dkwX3_law_0 : List UInt8 := [42, 27, 184, 0, 119, 154, 0, 7, 4, 167, 0, 48, 42, 27, 182, 0, 127, 153, 0, 7, 5, 167, 0, 36]
abbrev dktX3_law_0 : List UInt8 := dkwX3_law_0 ++ dktX3_law_1
theorem dksX3_law_0 : cX3_law.data.toList.drop 0 = dktX3_law_0 := by decide +kernel
theorem dksX3_law_1 : cX3_law.data.toList.drop 24 = dktX3_law_1 := dk_seg dksX3_law_0 24 rfl rfl
theorem dksX3_law_2 : cX3_law.data.toList.drop 46 = dktX3_law_2 := dk_seg dksX3_law_1 22 rfl rfl
theorem dksX3_law_3 : cX3_law.data.toList.drop 70 = dktX3_law_3 := dk_seg dksX3_law_2 24 rfl rfl
theorem dksX3_law_4 : cX3_law.data.toList.drop 92 = dktX3_law_4 := dk_seg dksX3_law_3 22 rfl rfl
theorem dksX3_law_5 : cX3_law.data.toList.drop 116 = dktX3_law_5 := dk_seg dksX3_law_4 24 rfl rfl
theorem dX3_law_0 : decode cX3_law 0 = .ok (.aload_n 0, 1) := dk_42 (dk_at dksX3_law_0 0 rfl rfl)
theorem dX3_law_1 : decode cX3_law 1 = .ok (.iload_n 1, 1) := dk_27 (dk_at dksX3_law_0 1 rfl rfl)
theorem dX3_law_2 : decode cX3_law 2 = .ok (.invokestatic 119, 3) := dk_184 0 119 (dk_at dksX3_law_0 2 rfl rfl)
theorem dX3_law_5 : decode cX3_law 5 = .ok (.ifCond .ne 7, 3) := dk_154 0 7 (dk_at dksX3_law_0 5 rfl rfl)
theorem dX3_law_8 : decode cX3_law 8 = .ok (.iconst 1, 1) := dk_4 (dk_at dksX3_law_0 8 rfl rfl)
theorem dX3_law_9 : decode cX3_law 9 = .ok (.goto 48, 3) := dk_167 0 48 (dk_at dksX3_law_0 9 rfl rfl)
theorem dX3_law_12 : decode cX3_law 12 = .ok (.aload_n 0, 1) := dk_42 (dk_at dksX3_law_0 12 rfl rfl)
theorem dX3_law_13 : decode cX3_law 13 = .ok (.iload_n 1, 1) := dk_27 (dk_at dksX3_law_0 13 rfl rfl)
theorem dX3_law_14 : decode cX3_law 14 = .ok (.invokevirtual 127, 3) := dk_182 0 127 (dk_at dksX3_law_0 14 rfl rfl)
theorem dX3_law_17 : decode cX3_law 17 = .ok (.ifCond .eq 7, 3) := dk_153 0 7 (dk_at dksX3_law_0 17 rfl rfl)
theorem dX3_law_20 : decode cX3_law 20 = .ok (.iconst 2, 1) := dk_5 (dk_at dksX3_law_0 20 rfl rfl)
theorem dX3_law_21 : decode cX3_law 21 = .ok (.goto 36, 3) := dk_167 0 36 (dk_at dksX3_law_0 21 rfl rfl)
theorem dX3_law_24 : decode cX3_law 24 = .ok (.iload_n 2, 1) := dk_28 (dk_at dksX3_law_1 0 rfl rfl)
theorem dX3_law_25 : decode cX3_law 25 = .ok (.i2l, 1) := dk_133 (dk_at dksX3_law_1 1 rfl rfl)
theorem dX3_law_26 : decode cX3_law 26 = .ok (.lconst 0, 1) := dk_9 (dk_at dksX3_law_1 2 rfl rfl)
theorem dX3_law_27 : decode cX3_law 27 = .ok (.aload_n 0, 1) := dk_42 (dk_at dksX3_law_1 3 rfl rfl)
theorem dX3_law_28 : decode cX3_law 28 = .ok (.getfield 67, 3) := dk_180 0 67 (dk_at dksX3_law_1 4 rfl rfl)
theorem dX3_law_31 : decode cX3_law 31 = .ok (.iload_n 1, 1) := dk_27 (dk_at dksX3_law_1 7 rfl rfl)
theorem dX3_law_32 : decode cX3_law 32 = .ok (.iaload, 1) := dk_46 (dk_at dksX3_law_1 8 rfl rfl)
theorem dX3_law_33 : decode cX3_law 33 = .ok (.i2l, 1) := dk_133 (dk_at dksX3_law_1 9 rfl rfl)
theorem dX3_law_34 : decode cX3_law 34 = .ok (.invokestatic 26, 3) := dk_184 0 26 (dk_at dksX3_law_1 10 rfl rfl)
theorem dX3_law_37 : decode cX3_law 37 = .ok (.ifCond .ne 7, 3) := dk_154 0 7 (dk_at dksX3_law_1 13 rfl rfl)
theorem dX3_law_40 : decode cX3_law 40 = .ok (.iconst 1, 1) := dk_4 (dk_at dksX3_law_1 16 rfl rfl)
theorem dX3_law_41 : decode cX3_law 41 = .ok (.goto 16, 3) := dk_167 0 16 (dk_at dksX3_law_1 17 rfl rfl)
theorem dX3_law_44 : decode cX3_law 44 = .ok (.aload_n 0, 1) := dk_42 (dk_at dksX3_law_1 20 rfl rfl)
theorem dX3_law_45 : decode cX3_law 45 = .ok (.iload_n 1, 1) := dk_27 (dk_at dksX3_law_1 21 rfl rfl)
theorem dX3_law_46 : decode cX3_law 46 = .ok (.invokevirtual 187, 3) := dk_182 0 187 (dk_at dksX3_law_2 0 rfl rfl)
theorem dX3_law_49 : decode cX3_law 49 = .ok (.ifCond .ne 7, 3) := dk_154 0 7 (dk_at dksX3_law_2 3 rfl rfl)
theorem dX3_law_52 : decode cX3_law 52 = .ok (.iconst 2, 1) := dk_5 (dk_at dksX3_law_2 6 rfl rfl)
theorem dX3_law_53 : decode cX3_law 53 = .ok (.goto 4, 3) := dk_167 0 4 (dk_at dksX3_law_2 7 rfl rfl)
theorem dX3_law_56 : decode cX3_law 56 = .ok (.iconst 0, 1) := dk_3 (dk_at dksX3_law_2 10 rfl rfl)
theorem dX3_law_57 : decode cX3_law 57 = .ok (.putfield 1, 3) := dk_181 0 1 (dk_at dksX3_law_2 11 rfl rfl)
theorem dX3_law_60 : decode cX3_law 60 = .ok (.aload_n 0, 1) := dk_42 (dk_at dksX3_law_2 14 rfl rfl)
theorem dX3_law_61 : decode cX3_law 61 = .ok (.getfield 1, 3) := dk_180 0 1 (dk_at dksX3_law_2 15 rfl rfl)
theorem dX3_law_64 : decode cX3_law 64 = .ok (.ifCond .le 5, 3) := dk_158 0 5 (dk_at dksX3_law_2 18 rfl rfl)
theorem dX3_law_67 : decode cX3_law 67 = .ok (.lconst 0, 1) := dk_9 (dk_at dksX3_law_2 21 rfl rfl)
theorem dX3_law_68 : decode cX3_law 68 = .ok (.lreturn, 1) := dk_173 (dk_at dksX3_law_2 22 rfl rfl)
theorem dX3_law_69 : decode cX3_law 69 = .ok (.aload_n 0, 1) := dk_42 (dk_at dksX3_law_2 23 rfl rfl)
theorem dX3_law_70 : decode cX3_law 70 = .ok (.iload_n 1, 1) := dk_27 (dk_at dksX3_law_3 0 rfl rfl)
theorem dX3_law_71 : decode cX3_law 71 = .ok (.invokevirtual 195, 3) := dk_182 0 195 (dk_at dksX3_law_3 1 rfl rfl)
theorem dX3_law_74 : decode cX3_law 74 = .ok (.lconst 0, 1) := dk_9 (dk_at dksX3_law_3 4 rfl rfl)
theorem dX3_law_75 : decode cX3_law 75 = .ok (.lstore_n 3, 1) := dk_66 (dk_at dksX3_law_3 5 rfl rfl)
theorem dX3_law_76 : decode cX3_law 76 = .ok (.iconst 0, 1) := dk_3 (dk_at dksX3_law_3 6 rfl rfl)
theorem dX3_law_77 : decode cX3_law 77 = .ok (.istore 5, 2) := dk_54 5 (dk_at dksX3_law_3 7 rfl rfl)
theorem dX3_law_79 : decode cX3_law 79 = .ok (.iload 5, 2) := dk_21 5 (dk_at dksX3_law_3 9 rfl rfl)
theorem dX3_law_81 : decode cX3_law 81 = .ok (.aload_n 0, 1) := dk_42 (dk_at dksX3_law_3 11 rfl rfl)
theorem dX3_law_82 : decode cX3_law 82 = .ok (.getfield 67, 3) := dk_180 0 67 (dk_at dksX3_law_3 12 rfl rfl)
theorem dX3_law_85 : decode cX3_law 85 = .ok (.iload_n 1, 1) := dk_27 (dk_at dksX3_law_3 15 rfl rfl)
theorem dX3_law_86 : decode cX3_law 86 = .ok (.iaload, 1) := dk_46 (dk_at dksX3_law_3 16 rfl rfl)
theorem dX3_law_87 : decode cX3_law 87 = .ok (.if_icmp .gt 38, 3) := dk_163 0 38 (dk_at dksX3_law_3 17 rfl rfl)
theorem dX3_law_90 : decode cX3_law 90 = .ok (.lload_n 3, 1) := dk_33 (dk_at dksX3_law_3 20 rfl rfl)
theorem dX3_law_91 : decode cX3_law 91 = .ok (.aload_n 0, 1) := dk_42 (dk_at dksX3_law_3 21 rfl rfl)
theorem dX3_law_92 : decode cX3_law 92 = .ok (.getfield 96, 3) := dk_180 0 96 (dk_at dksX3_law_4 0 rfl rfl)
theorem dX3_law_95 : decode cX3_law 95 = .ok (.iload 5, 2) := dk_21 5 (dk_at dksX3_law_4 3 rfl rfl)
theorem dX3_law_97 : decode cX3_law 97 = .ok (.laload, 1) := dk_47 (dk_at dksX3_law_4 5 rfl rfl)
theorem dX3_law_98 : decode cX3_law 98 = .ok (.aload_n 0, 1) := dk_42 (dk_at dksX3_law_4 6 rfl rfl)
theorem dX3_law_99 : decode cX3_law 99 = .ok (.getfield 64, 3) := dk_180 0 64 (dk_at dksX3_law_4 7 rfl rfl)
theorem dX3_law_102 : decode cX3_law 102 = .ok (.iload_n 1, 1) := dk_27 (dk_at dksX3_law_4 10 rfl rfl)
theorem dX3_law_103 : decode cX3_law 103 = .ok (.iaload, 1) := dk_46 (dk_at dksX3_law_4 11 rfl rfl)
theorem dX3_law_104 : decode cX3_law 104 = .ok (.aload_n 0, 1) := dk_42 (dk_at dksX3_law_4 12 rfl rfl)
theorem dX3_law_105 : decode cX3_law 105 = .ok (.getfield 67, 3) := dk_180 0 67 (dk_at dksX3_law_4 13 rfl rfl)
theorem dX3_law_108 : decode cX3_law 108 = .ok (.iload_n 1, 1) := dk_27 (dk_at dksX3_law_4 16 rfl rfl)
theorem dX3_law_109 : decode cX3_law 109 = .ok (.iaload, 1) := dk_46 (dk_at dksX3_law_4 17 rfl rfl)
theorem dX3_law_110 : decode cX3_law 110 = .ok (.iload_n 2, 1) := dk_28 (dk_at dksX3_law_4 18 rfl rfl)
theorem dX3_law_111 : decode cX3_law 111 = .ok (.iload 5, 2) := dk_21 5 (dk_at dksX3_law_4 19 rfl rfl)
theorem dX3_law_113 : decode cX3_law 113 = .ok (.invokestatic 201, 3) := dk_184 0 201 (dk_at dksX3_law_4 21 rfl rfl)
theorem dX3_law_116 : decode cX3_law 116 = .ok (.lmul, 1) := dk_105 (dk_at dksX3_law_5 0 rfl rfl)
theorem dX3_law_117 : decode cX3_law 117 = .ok (.ladd, 1) := dk_97 (dk_at dksX3_law_5 1 rfl rfl)
theorem dX3_law_118 : decode cX3_law 118 = .ok (.lstore_n 3, 1) := dk_66 (dk_at dksX3_law_5 2 rfl rfl)
theorem dX3_law_119 : decode cX3_law 119 = .ok (.iinc 5 1, 3) := dk_132 5 1 (dk_at dksX3_law_5 3 rfl rfl)
theorem dX3_law_122 : decode cX3_law 122 = .ok (.goto (-43), 3) := dk_167 255 213 (dk_at dksX3_law_5 6 rfl rfl)
theorem dX3_law_125 : decode cX3_law 125 = .ok (.lload_n 3, 1) := dk_33 (dk_at dksX3_law_5 9 rfl rfl)
theorem dX3_law_126 : decode cX3_law 126 = .ok (.lreturn, 1) := dk_173 (dk_at dksX3_law_5 10 rfl rfl)
abbrev cX3_turnsOf : ByteArray := prog_11_method_52_code
def yX3_turnsOf : MethodName := ⟨RX3, "turnsOf", "(IIII)J"⟩
def dkwX3_turnsOf_2 : List UInt8 := [27, 29, 100, 28, 21, 6, 100, 184, 0, 198, 105, 97, 55, 4, 132, 6, 1, 167, 255, 199, 22, 4, 173]
abbrev dktX3_turnsOf_2 : List UInt8 := dkwX3_turnsOf_2 ++ []
def dkwX3_turnsOf_1 : List UInt8 := [167, 0, 6, 20, 0, 40, 26, 4, 100, 28, 21, 6, 100, 184, 0, 11, 105, 29, 21, 6, 184, 0, 198, 105]
abbrev dktX3_turnsOf_1 : List UInt8 := dkwX3_turnsOf_1 ++ dktX3_turnsOf_2
def dkwX3_turnsOf_0 : List UInt8 := [9, 55, 4, 3, 54, 6, 21, 6, 28, 163, 0, 57, 22, 4, 21, 6, 5, 112, 154, 0, 7, 10]
abbrev dktX3_turnsOf_0 : List UInt8 := dkwX3_turnsOf_0 ++ dktX3_turnsOf_1
theorem dksX3_turnsOf_0 : cX3_turnsOf.data.toList.drop 0 = dktX3_turnsOf_0 := by decide +kernel
theorem dksX3_turnsOf_1 : cX3_turnsOf.data.toList.drop 22 = dktX3_turnsOf_1 := dk_seg dksX3_turnsOf_0 22 rfl rfl
theorem dksX3_turnsOf_2 : cX3_turnsOf.data.toList.drop 46 = dktX3_turnsOf_2 := dk_seg dksX3_turnsOf_1 24 rfl rfl
theorem dX3_turnsOf_0 : decode cX3_turnsOf 0 = .ok (.lconst 0, 1) := dk_9 (dk_at dksX3_turnsOf_0 0 rfl rfl)
theorem dX3_turnsOf_1 : decode cX3_turnsOf 1 = .ok (.lstore 4, 2) := dk_55 4 (dk_at dksX3_turnsOf_0 1 rfl rfl)
theorem dX3_turnsOf_3 : decode cX3_turnsOf 3 = .ok (.iconst 0, 1) := dk_3 (dk_at dksX3_turnsOf_0 3 rfl rfl)
theorem dX3_turnsOf_4 : decode cX3_turnsOf 4 = .ok (.istore 6, 2) := dk_54 6 (dk_at dksX3_turnsOf_0 4 rfl rfl)
theorem dX3_turnsOf_6 : decode cX3_turnsOf 6 = .ok (.iload 6, 2) := dk_21 6 (dk_at dksX3_turnsOf_0 6 rfl rfl)
theorem dX3_turnsOf_8 : decode cX3_turnsOf 8 = .ok (.iload_n 2, 1) := dk_28 (dk_at dksX3_turnsOf_0 8 rfl rfl)
theorem dX3_turnsOf_9 : decode cX3_turnsOf 9 = .ok (.if_icmp .gt 57, 3) := dk_163 0 57 (dk_at dksX3_turnsOf_0 9 rfl rfl)
theorem dX3_turnsOf_12 : decode cX3_turnsOf 12 = .ok (.lload 4, 2) := dk_22 4 (dk_at dksX3_turnsOf_0 12 rfl rfl)
theorem dX3_turnsOf_14 : decode cX3_turnsOf 14 = .ok (.iload 6, 2) := dk_21 6 (dk_at dksX3_turnsOf_0 14 rfl rfl)
theorem dX3_turnsOf_16 : decode cX3_turnsOf 16 = .ok (.iconst 2, 1) := dk_5 (dk_at dksX3_turnsOf_0 16 rfl rfl)
theorem dX3_turnsOf_17 : decode cX3_turnsOf 17 = .ok (.irem, 1) := dk_112 (dk_at dksX3_turnsOf_0 17 rfl rfl)
theorem dX3_turnsOf_18 : decode cX3_turnsOf 18 = .ok (.ifCond .ne 7, 3) := dk_154 0 7 (dk_at dksX3_turnsOf_0 18 rfl rfl)
theorem dX3_turnsOf_21 : decode cX3_turnsOf 21 = .ok (.lconst 1, 1) := dk_10 (dk_at dksX3_turnsOf_0 21 rfl rfl)
theorem dX3_turnsOf_22 : decode cX3_turnsOf 22 = .ok (.goto 6, 3) := dk_167 0 6 (dk_at dksX3_turnsOf_1 0 rfl rfl)
theorem dX3_turnsOf_25 : decode cX3_turnsOf 25 = .ok (.ldc2_w 40, 3) := dk_20 0 40 (dk_at dksX3_turnsOf_1 3 rfl rfl)
theorem dX3_turnsOf_28 : decode cX3_turnsOf 28 = .ok (.iload_n 0, 1) := dk_26 (dk_at dksX3_turnsOf_1 6 rfl rfl)
theorem dX3_turnsOf_29 : decode cX3_turnsOf 29 = .ok (.iconst 1, 1) := dk_4 (dk_at dksX3_turnsOf_1 7 rfl rfl)
theorem dX3_turnsOf_30 : decode cX3_turnsOf 30 = .ok (.isub, 1) := dk_100 (dk_at dksX3_turnsOf_1 8 rfl rfl)
theorem dX3_turnsOf_31 : decode cX3_turnsOf 31 = .ok (.iload_n 2, 1) := dk_28 (dk_at dksX3_turnsOf_1 9 rfl rfl)
theorem dX3_turnsOf_32 : decode cX3_turnsOf 32 = .ok (.iload 6, 2) := dk_21 6 (dk_at dksX3_turnsOf_1 10 rfl rfl)
theorem dX3_turnsOf_34 : decode cX3_turnsOf 34 = .ok (.isub, 1) := dk_100 (dk_at dksX3_turnsOf_1 12 rfl rfl)
theorem dX3_turnsOf_35 : decode cX3_turnsOf 35 = .ok (.invokestatic 11, 3) := dk_184 0 11 (dk_at dksX3_turnsOf_1 13 rfl rfl)
theorem dX3_turnsOf_38 : decode cX3_turnsOf 38 = .ok (.lmul, 1) := dk_105 (dk_at dksX3_turnsOf_1 16 rfl rfl)
theorem dX3_turnsOf_39 : decode cX3_turnsOf 39 = .ok (.iload_n 3, 1) := dk_29 (dk_at dksX3_turnsOf_1 17 rfl rfl)
theorem dX3_turnsOf_40 : decode cX3_turnsOf 40 = .ok (.iload 6, 2) := dk_21 6 (dk_at dksX3_turnsOf_1 18 rfl rfl)
theorem dX3_turnsOf_42 : decode cX3_turnsOf 42 = .ok (.invokestatic 198, 3) := dk_184 0 198 (dk_at dksX3_turnsOf_1 20 rfl rfl)
theorem dX3_turnsOf_45 : decode cX3_turnsOf 45 = .ok (.lmul, 1) := dk_105 (dk_at dksX3_turnsOf_1 23 rfl rfl)
theorem dX3_turnsOf_46 : decode cX3_turnsOf 46 = .ok (.iload_n 1, 1) := dk_27 (dk_at dksX3_turnsOf_2 0 rfl rfl)
theorem dX3_turnsOf_47 : decode cX3_turnsOf 47 = .ok (.iload_n 3, 1) := dk_29 (dk_at dksX3_turnsOf_2 1 rfl rfl)
theorem dX3_turnsOf_48 : decode cX3_turnsOf 48 = .ok (.isub, 1) := dk_100 (dk_at dksX3_turnsOf_2 2 rfl rfl)
theorem dX3_turnsOf_49 : decode cX3_turnsOf 49 = .ok (.iload_n 2, 1) := dk_28 (dk_at dksX3_turnsOf_2 3 rfl rfl)
theorem dX3_turnsOf_50 : decode cX3_turnsOf 50 = .ok (.iload 6, 2) := dk_21 6 (dk_at dksX3_turnsOf_2 4 rfl rfl)
theorem dX3_turnsOf_52 : decode cX3_turnsOf 52 = .ok (.isub, 1) := dk_100 (dk_at dksX3_turnsOf_2 6 rfl rfl)
theorem dX3_turnsOf_53 : decode cX3_turnsOf 53 = .ok (.invokestatic 198, 3) := dk_184 0 198 (dk_at dksX3_turnsOf_2 7 rfl rfl)
theorem dX3_turnsOf_56 : decode cX3_turnsOf 56 = .ok (.lmul, 1) := dk_105 (dk_at dksX3_turnsOf_2 10 rfl rfl)
theorem dX3_turnsOf_57 : decode cX3_turnsOf 57 = .ok (.ladd, 1) := dk_97 (dk_at dksX3_turnsOf_2 11 rfl rfl)
theorem dX3_turnsOf_58 : decode cX3_turnsOf 58 = .ok (.lstore 4, 2) := dk_55 4 (dk_at dksX3_turnsOf_2 12 rfl rfl)
theorem dX3_turnsOf_60 : decode cX3_turnsOf 60 = .ok (.iinc 6 1, 3) := dk_132 6 1 (dk_at dksX3_turnsOf_2 14 rfl rfl)
theorem dX3_turnsOf_63 : decode cX3_turnsOf 63 = .ok (.goto (-57), 3) := dk_167 255 199 (dk_at dksX3_turnsOf_2 17 rfl rfl)
theorem dX3_turnsOf_66 : decode cX3_turnsOf 66 = .ok (.lload 4, 2) := dk_22 4 (dk_at dksX3_turnsOf_2 20 rfl rfl)
theorem dX3_turnsOf_68 : decode cX3_turnsOf 68 = .ok (.lreturn, 1) := dk_173 (dk_at dksX3_turnsOf_2 22 rfl rfl)
abbrev cX3_choose : ByteArray := prog_11_method_51_code
def yX3_choose : MethodName := ⟨RX3, "choose", "(II)J"⟩
def dkwX3_choose_1 : List UInt8 := [21, 4, 100, 133, 105, 21, 4, 4, 96, 133, 109, 65, 132, 4, 1, 167, 255, 233, 32, 173]
abbrev dktX3_choose_1 : List UInt8 := dkwX3_choose_1 ++ []
def dkwX3_choose_0 : List UInt8 := [27, 155, 0, 8, 27, 26, 164, 0, 5, 9, 173, 10, 65, 3, 54, 4, 21, 4, 27, 162, 0, 23, 32, 26]
abbrev dktX3_choose_0 : List UInt8 := dkwX3_choose_0 ++ dktX3_choose_1
theorem dksX3_choose_0 : cX3_choose.data.toList.drop 0 = dktX3_choose_0 := by decide +kernel
theorem dksX3_choose_1 : cX3_choose.data.toList.drop 24 = dktX3_choose_1 := dk_seg dksX3_choose_0 24 rfl rfl
theorem dX3_choose_0 : decode cX3_choose 0 = .ok (.iload_n 1, 1) := dk_27 (dk_at dksX3_choose_0 0 rfl rfl)
theorem dX3_choose_1 : decode cX3_choose 1 = .ok (.ifCond .lt 8, 3) := dk_155 0 8 (dk_at dksX3_choose_0 1 rfl rfl)
theorem dX3_choose_4 : decode cX3_choose 4 = .ok (.iload_n 1, 1) := dk_27 (dk_at dksX3_choose_0 4 rfl rfl)
theorem dX3_choose_5 : decode cX3_choose 5 = .ok (.iload_n 0, 1) := dk_26 (dk_at dksX3_choose_0 5 rfl rfl)
theorem dX3_choose_6 : decode cX3_choose 6 = .ok (.if_icmp .le 5, 3) := dk_164 0 5 (dk_at dksX3_choose_0 6 rfl rfl)
theorem dX3_choose_9 : decode cX3_choose 9 = .ok (.lconst 0, 1) := dk_9 (dk_at dksX3_choose_0 9 rfl rfl)
theorem dX3_choose_10 : decode cX3_choose 10 = .ok (.lreturn, 1) := dk_173 (dk_at dksX3_choose_0 10 rfl rfl)
theorem dX3_choose_11 : decode cX3_choose 11 = .ok (.lconst 1, 1) := dk_10 (dk_at dksX3_choose_0 11 rfl rfl)
theorem dX3_choose_12 : decode cX3_choose 12 = .ok (.lstore_n 2, 1) := dk_65 (dk_at dksX3_choose_0 12 rfl rfl)
theorem dX3_choose_13 : decode cX3_choose 13 = .ok (.iconst 0, 1) := dk_3 (dk_at dksX3_choose_0 13 rfl rfl)
theorem dX3_choose_14 : decode cX3_choose 14 = .ok (.istore 4, 2) := dk_54 4 (dk_at dksX3_choose_0 14 rfl rfl)
theorem dX3_choose_16 : decode cX3_choose 16 = .ok (.iload 4, 2) := dk_21 4 (dk_at dksX3_choose_0 16 rfl rfl)
theorem dX3_choose_18 : decode cX3_choose 18 = .ok (.iload_n 1, 1) := dk_27 (dk_at dksX3_choose_0 18 rfl rfl)
theorem dX3_choose_19 : decode cX3_choose 19 = .ok (.if_icmp .ge 23, 3) := dk_162 0 23 (dk_at dksX3_choose_0 19 rfl rfl)
theorem dX3_choose_22 : decode cX3_choose 22 = .ok (.lload_n 2, 1) := dk_32 (dk_at dksX3_choose_0 22 rfl rfl)
theorem dX3_choose_23 : decode cX3_choose 23 = .ok (.iload_n 0, 1) := dk_26 (dk_at dksX3_choose_0 23 rfl rfl)
theorem dX3_choose_24 : decode cX3_choose 24 = .ok (.iload 4, 2) := dk_21 4 (dk_at dksX3_choose_1 0 rfl rfl)
theorem dX3_choose_26 : decode cX3_choose 26 = .ok (.isub, 1) := dk_100 (dk_at dksX3_choose_1 2 rfl rfl)
theorem dX3_choose_27 : decode cX3_choose 27 = .ok (.i2l, 1) := dk_133 (dk_at dksX3_choose_1 3 rfl rfl)
theorem dX3_choose_28 : decode cX3_choose 28 = .ok (.lmul, 1) := dk_105 (dk_at dksX3_choose_1 4 rfl rfl)
theorem dX3_choose_29 : decode cX3_choose 29 = .ok (.iload 4, 2) := dk_21 4 (dk_at dksX3_choose_1 5 rfl rfl)
theorem dX3_choose_31 : decode cX3_choose 31 = .ok (.iconst 1, 1) := dk_4 (dk_at dksX3_choose_1 7 rfl rfl)
theorem dX3_choose_32 : decode cX3_choose 32 = .ok (.iadd, 1) := dk_96 (dk_at dksX3_choose_1 8 rfl rfl)
theorem dX3_choose_33 : decode cX3_choose 33 = .ok (.i2l, 1) := dk_133 (dk_at dksX3_choose_1 9 rfl rfl)
theorem dX3_choose_34 : decode cX3_choose 34 = .ok (.ldiv, 1) := dk_109 (dk_at dksX3_choose_1 10 rfl rfl)
theorem dX3_choose_35 : decode cX3_choose 35 = .ok (.lstore_n 2, 1) := dk_65 (dk_at dksX3_choose_1 11 rfl rfl)
theorem dX3_choose_36 : decode cX3_choose 36 = .ok (.iinc 4 1, 3) := dk_132 4 1 (dk_at dksX3_choose_1 12 rfl rfl)
theorem dX3_choose_39 : decode cX3_choose 39 = .ok (.goto (-23), 3) := dk_167 255 233 (dk_at dksX3_choose_1 15 rfl rfl)
theorem dX3_choose_42 : decode cX3_choose 42 = .ok (.lload_n 2, 1) := dk_32 (dk_at dksX3_choose_1 18 rfl rfl)
theorem dX3_choose_43 : decode cX3_choose 43 = .ok (.lreturn, 1) := dk_173 (dk_at dksX3_choose_1 19 rfl rfl)
abbrev cX3_beat : ByteArray := prog_11_method_54_code
def yX3_beat : MethodName := ⟨RX3, "beat", "(I)I"⟩
def dkwX3_beat_3 : List UInt8 := [54, 5, 21, 4, 61, 21, 5, 54, 4, 167, 255, 238, 132, 3, 1, 167, 255, 204, 28, 172]
abbrev dktX3_beat_3 : List UInt8 := dkwX3_beat_3 ++ []
def dkwX3_beat_2 : List UInt8 := [29, 47, 9, 148, 154, 0, 7, 3, 167, 0, 4, 29, 54, 4, 21, 4, 153, 0, 19, 28, 21, 4, 112]
abbrev dktX3_beat_2 : List UInt8 := dkwX3_beat_2 ++ dktX3_beat_3
def dkwX3_beat_1 : List UInt8 := [172, 42, 27, 182, 0, 195, 3, 61, 4, 62, 29, 42, 180, 0, 67, 27, 46, 163, 0, 48, 42, 180, 0, 96]
abbrev dktX3_beat_1 : List UInt8 := dkwX3_beat_1 ++ dktX3_beat_2
def dkwX3_beat_0 : List UInt8 := [42, 27, 182, 0, 184, 153, 0, 9, 42, 27, 182, 0, 184, 172, 42, 27, 182, 0, 187, 154, 0, 6, 16, 251]
abbrev dktX3_beat_0 : List UInt8 := dkwX3_beat_0 ++ dktX3_beat_1
theorem dksX3_beat_0 : cX3_beat.data.toList.drop 0 = dktX3_beat_0 := by decide +kernel
theorem dksX3_beat_1 : cX3_beat.data.toList.drop 24 = dktX3_beat_1 := dk_seg dksX3_beat_0 24 rfl rfl
theorem dksX3_beat_2 : cX3_beat.data.toList.drop 48 = dktX3_beat_2 := dk_seg dksX3_beat_1 24 rfl rfl
theorem dksX3_beat_3 : cX3_beat.data.toList.drop 71 = dktX3_beat_3 := dk_seg dksX3_beat_2 23 rfl rfl
theorem dX3_beat_0 : decode cX3_beat 0 = .ok (.aload_n 0, 1) := dk_42 (dk_at dksX3_beat_0 0 rfl rfl)
theorem dX3_beat_1 : decode cX3_beat 1 = .ok (.iload_n 1, 1) := dk_27 (dk_at dksX3_beat_0 1 rfl rfl)
theorem dX3_beat_2 : decode cX3_beat 2 = .ok (.invokevirtual 184, 3) := dk_182 0 184 (dk_at dksX3_beat_0 2 rfl rfl)
theorem dX3_beat_5 : decode cX3_beat 5 = .ok (.ifCond .eq 9, 3) := dk_153 0 9 (dk_at dksX3_beat_0 5 rfl rfl)
theorem dX3_beat_8 : decode cX3_beat 8 = .ok (.aload_n 0, 1) := dk_42 (dk_at dksX3_beat_0 8 rfl rfl)
theorem dX3_beat_9 : decode cX3_beat 9 = .ok (.iload_n 1, 1) := dk_27 (dk_at dksX3_beat_0 9 rfl rfl)
theorem dX3_beat_10 : decode cX3_beat 10 = .ok (.invokevirtual 184, 3) := dk_182 0 184 (dk_at dksX3_beat_0 10 rfl rfl)
theorem dX3_beat_13 : decode cX3_beat 13 = .ok (.ireturn, 1) := dk_172 (dk_at dksX3_beat_0 13 rfl rfl)
theorem dX3_beat_14 : decode cX3_beat 14 = .ok (.aload_n 0, 1) := dk_42 (dk_at dksX3_beat_0 14 rfl rfl)
theorem dX3_beat_15 : decode cX3_beat 15 = .ok (.iload_n 1, 1) := dk_27 (dk_at dksX3_beat_0 15 rfl rfl)
theorem dX3_beat_16 : decode cX3_beat 16 = .ok (.invokevirtual 187, 3) := dk_182 0 187 (dk_at dksX3_beat_0 16 rfl rfl)
theorem dX3_beat_19 : decode cX3_beat 19 = .ok (.ifCond .ne 6, 3) := dk_154 0 6 (dk_at dksX3_beat_0 19 rfl rfl)
theorem dX3_beat_22 : decode cX3_beat 22 = .ok (.bipush (-5), 2) := dk_16 251 (dk_at dksX3_beat_0 22 rfl rfl)
theorem dX3_beat_24 : decode cX3_beat 24 = .ok (.ireturn, 1) := dk_172 (dk_at dksX3_beat_1 0 rfl rfl)
theorem dX3_beat_25 : decode cX3_beat 25 = .ok (.aload_n 0, 1) := dk_42 (dk_at dksX3_beat_1 1 rfl rfl)
theorem dX3_beat_26 : decode cX3_beat 26 = .ok (.iload_n 1, 1) := dk_27 (dk_at dksX3_beat_1 2 rfl rfl)
theorem dX3_beat_27 : decode cX3_beat 27 = .ok (.invokevirtual 195, 3) := dk_182 0 195 (dk_at dksX3_beat_1 3 rfl rfl)
theorem dX3_beat_30 : decode cX3_beat 30 = .ok (.iconst 0, 1) := dk_3 (dk_at dksX3_beat_1 6 rfl rfl)
theorem dX3_beat_31 : decode cX3_beat 31 = .ok (.istore_n 2, 1) := dk_61 (dk_at dksX3_beat_1 7 rfl rfl)
theorem dX3_beat_32 : decode cX3_beat 32 = .ok (.iconst 1, 1) := dk_4 (dk_at dksX3_beat_1 8 rfl rfl)
theorem dX3_beat_33 : decode cX3_beat 33 = .ok (.istore_n 3, 1) := dk_62 (dk_at dksX3_beat_1 9 rfl rfl)
theorem dX3_beat_34 : decode cX3_beat 34 = .ok (.iload_n 3, 1) := dk_29 (dk_at dksX3_beat_1 10 rfl rfl)
theorem dX3_beat_35 : decode cX3_beat 35 = .ok (.aload_n 0, 1) := dk_42 (dk_at dksX3_beat_1 11 rfl rfl)
theorem dX3_beat_36 : decode cX3_beat 36 = .ok (.getfield 67, 3) := dk_180 0 67 (dk_at dksX3_beat_1 12 rfl rfl)
theorem dX3_beat_39 : decode cX3_beat 39 = .ok (.iload_n 1, 1) := dk_27 (dk_at dksX3_beat_1 15 rfl rfl)
theorem dX3_beat_40 : decode cX3_beat 40 = .ok (.iaload, 1) := dk_46 (dk_at dksX3_beat_1 16 rfl rfl)
theorem dX3_beat_41 : decode cX3_beat 41 = .ok (.if_icmp .gt 48, 3) := dk_163 0 48 (dk_at dksX3_beat_1 17 rfl rfl)
theorem dX3_beat_44 : decode cX3_beat 44 = .ok (.aload_n 0, 1) := dk_42 (dk_at dksX3_beat_1 20 rfl rfl)
theorem dX3_beat_45 : decode cX3_beat 45 = .ok (.getfield 96, 3) := dk_180 0 96 (dk_at dksX3_beat_1 21 rfl rfl)
theorem dX3_beat_48 : decode cX3_beat 48 = .ok (.iload_n 3, 1) := dk_29 (dk_at dksX3_beat_2 0 rfl rfl)
theorem dX3_beat_49 : decode cX3_beat 49 = .ok (.laload, 1) := dk_47 (dk_at dksX3_beat_2 1 rfl rfl)
theorem dX3_beat_50 : decode cX3_beat 50 = .ok (.lconst 0, 1) := dk_9 (dk_at dksX3_beat_2 2 rfl rfl)
theorem dX3_beat_51 : decode cX3_beat 51 = .ok (.lcmp, 1) := dk_148 (dk_at dksX3_beat_2 3 rfl rfl)
theorem dX3_beat_52 : decode cX3_beat 52 = .ok (.ifCond .ne 7, 3) := dk_154 0 7 (dk_at dksX3_beat_2 4 rfl rfl)
theorem dX3_beat_55 : decode cX3_beat 55 = .ok (.iconst 0, 1) := dk_3 (dk_at dksX3_beat_2 7 rfl rfl)
theorem dX3_beat_56 : decode cX3_beat 56 = .ok (.goto 4, 3) := dk_167 0 4 (dk_at dksX3_beat_2 8 rfl rfl)
theorem dX3_beat_59 : decode cX3_beat 59 = .ok (.iload_n 3, 1) := dk_29 (dk_at dksX3_beat_2 11 rfl rfl)
theorem dX3_beat_60 : decode cX3_beat 60 = .ok (.istore 4, 2) := dk_54 4 (dk_at dksX3_beat_2 12 rfl rfl)
theorem dX3_beat_62 : decode cX3_beat 62 = .ok (.iload 4, 2) := dk_21 4 (dk_at dksX3_beat_2 14 rfl rfl)
theorem dX3_beat_64 : decode cX3_beat 64 = .ok (.ifCond .eq 19, 3) := dk_153 0 19 (dk_at dksX3_beat_2 16 rfl rfl)
theorem dX3_beat_67 : decode cX3_beat 67 = .ok (.iload_n 2, 1) := dk_28 (dk_at dksX3_beat_2 19 rfl rfl)
theorem dX3_beat_68 : decode cX3_beat 68 = .ok (.iload 4, 2) := dk_21 4 (dk_at dksX3_beat_2 20 rfl rfl)
theorem dX3_beat_70 : decode cX3_beat 70 = .ok (.irem, 1) := dk_112 (dk_at dksX3_beat_2 22 rfl rfl)
theorem dX3_beat_71 : decode cX3_beat 71 = .ok (.istore 5, 2) := dk_54 5 (dk_at dksX3_beat_3 0 rfl rfl)
theorem dX3_beat_73 : decode cX3_beat 73 = .ok (.iload 4, 2) := dk_21 4 (dk_at dksX3_beat_3 2 rfl rfl)
theorem dX3_beat_75 : decode cX3_beat 75 = .ok (.istore_n 2, 1) := dk_61 (dk_at dksX3_beat_3 4 rfl rfl)
theorem dX3_beat_76 : decode cX3_beat 76 = .ok (.iload 5, 2) := dk_21 5 (dk_at dksX3_beat_3 5 rfl rfl)
theorem dX3_beat_78 : decode cX3_beat 78 = .ok (.istore 4, 2) := dk_54 4 (dk_at dksX3_beat_3 7 rfl rfl)
theorem dX3_beat_80 : decode cX3_beat 80 = .ok (.goto (-18), 3) := dk_167 255 238 (dk_at dksX3_beat_3 9 rfl rfl)
theorem dX3_beat_83 : decode cX3_beat 83 = .ok (.iinc 3 1, 3) := dk_132 3 1 (dk_at dksX3_beat_3 12 rfl rfl)
theorem dX3_beat_86 : decode cX3_beat 86 = .ok (.goto (-52), 3) := dk_167 255 204 (dk_at dksX3_beat_3 15 rfl rfl)
theorem dX3_beat_89 : decode cX3_beat 89 = .ok (.iload_n 2, 1) := dk_28 (dk_at dksX3_beat_3 18 rfl rfl)
theorem dX3_beat_90 : decode cX3_beat 90 = .ok (.ireturn, 1) := dk_172 (dk_at dksX3_beat_3 19 rfl rfl)
abbrev cX3_bound : ByteArray := prog_11_method_55_code
def yX3_bound : MethodName := ⟨RX3, "bound", "(IIII)J"⟩
def dkwX3_bound_4 : List UInt8 := [28, 184, 0, 11, 22, 5, 109, 173]
abbrev dktX3_bound_4 : List UInt8 := dkwX3_bound_4 ++ []
def dkwX3_bound_3 : List UInt8 := [21, 7, 184, 0, 198, 27, 4, 100, 21, 7, 184, 0, 11, 105, 97, 55, 5, 132, 7, 1, 167, 255, 223, 27]
abbrev dktX3_bound_3 : List UInt8 := dkwX3_bound_3 ++ dktX3_bound_4
def dkwX3_bound_2 : List UInt8 := [184, 0, 11, 173, 9, 55, 5, 3, 54, 7, 21, 7, 29, 4, 100, 5, 108, 163, 0, 29, 22, 5, 28]
abbrev dktX3_bound_2 : List UInt8 := dkwX3_bound_2 ++ dktX3_bound_3
def dkwX3_bound_1 : List UInt8 := [184, 0, 26, 154, 0, 7, 20, 0, 40, 173, 21, 4, 4, 160, 0, 13, 27, 28, 29, 100, 4, 96]
abbrev dktX3_bound_1 : List UInt8 := dkwX3_bound_1 ++ dktX3_bound_2
def dkwX3_bound_0 : List UInt8 := [27, 28, 184, 0, 32, 153, 0, 25, 29, 133, 10, 28, 133, 184, 0, 26, 153, 0, 14, 21, 4, 133, 9, 10]
abbrev dktX3_bound_0 : List UInt8 := dkwX3_bound_0 ++ dktX3_bound_1
theorem dksX3_bound_0 : cX3_bound.data.toList.drop 0 = dktX3_bound_0 := by decide +kernel
theorem dksX3_bound_1 : cX3_bound.data.toList.drop 24 = dktX3_bound_1 := dk_seg dksX3_bound_0 24 rfl rfl
theorem dksX3_bound_2 : cX3_bound.data.toList.drop 46 = dktX3_bound_2 := dk_seg dksX3_bound_1 22 rfl rfl
theorem dksX3_bound_3 : cX3_bound.data.toList.drop 69 = dktX3_bound_3 := dk_seg dksX3_bound_2 23 rfl rfl
theorem dksX3_bound_4 : cX3_bound.data.toList.drop 93 = dktX3_bound_4 := dk_seg dksX3_bound_3 24 rfl rfl
theorem dX3_bound_0 : decode cX3_bound 0 = .ok (.iload_n 1, 1) := dk_27 (dk_at dksX3_bound_0 0 rfl rfl)
theorem dX3_bound_1 : decode cX3_bound 1 = .ok (.iload_n 2, 1) := dk_28 (dk_at dksX3_bound_0 1 rfl rfl)
theorem dX3_bound_2 : decode cX3_bound 2 = .ok (.invokestatic 32, 3) := dk_184 0 32 (dk_at dksX3_bound_0 2 rfl rfl)
theorem dX3_bound_5 : decode cX3_bound 5 = .ok (.ifCond .eq 25, 3) := dk_153 0 25 (dk_at dksX3_bound_0 5 rfl rfl)
theorem dX3_bound_8 : decode cX3_bound 8 = .ok (.iload_n 3, 1) := dk_29 (dk_at dksX3_bound_0 8 rfl rfl)
theorem dX3_bound_9 : decode cX3_bound 9 = .ok (.i2l, 1) := dk_133 (dk_at dksX3_bound_0 9 rfl rfl)
theorem dX3_bound_10 : decode cX3_bound 10 = .ok (.lconst 1, 1) := dk_10 (dk_at dksX3_bound_0 10 rfl rfl)
theorem dX3_bound_11 : decode cX3_bound 11 = .ok (.iload_n 2, 1) := dk_28 (dk_at dksX3_bound_0 11 rfl rfl)
theorem dX3_bound_12 : decode cX3_bound 12 = .ok (.i2l, 1) := dk_133 (dk_at dksX3_bound_0 12 rfl rfl)
theorem dX3_bound_13 : decode cX3_bound 13 = .ok (.invokestatic 26, 3) := dk_184 0 26 (dk_at dksX3_bound_0 13 rfl rfl)
theorem dX3_bound_16 : decode cX3_bound 16 = .ok (.ifCond .eq 14, 3) := dk_153 0 14 (dk_at dksX3_bound_0 16 rfl rfl)
theorem dX3_bound_19 : decode cX3_bound 19 = .ok (.iload 4, 2) := dk_21 4 (dk_at dksX3_bound_0 19 rfl rfl)
theorem dX3_bound_21 : decode cX3_bound 21 = .ok (.i2l, 1) := dk_133 (dk_at dksX3_bound_0 21 rfl rfl)
theorem dX3_bound_22 : decode cX3_bound 22 = .ok (.lconst 0, 1) := dk_9 (dk_at dksX3_bound_0 22 rfl rfl)
theorem dX3_bound_23 : decode cX3_bound 23 = .ok (.lconst 1, 1) := dk_10 (dk_at dksX3_bound_0 23 rfl rfl)
theorem dX3_bound_24 : decode cX3_bound 24 = .ok (.invokestatic 26, 3) := dk_184 0 26 (dk_at dksX3_bound_1 0 rfl rfl)
theorem dX3_bound_27 : decode cX3_bound 27 = .ok (.ifCond .ne 7, 3) := dk_154 0 7 (dk_at dksX3_bound_1 3 rfl rfl)
theorem dX3_bound_30 : decode cX3_bound 30 = .ok (.ldc2_w 40, 3) := dk_20 0 40 (dk_at dksX3_bound_1 6 rfl rfl)
theorem dX3_bound_33 : decode cX3_bound 33 = .ok (.lreturn, 1) := dk_173 (dk_at dksX3_bound_1 9 rfl rfl)
theorem dX3_bound_34 : decode cX3_bound 34 = .ok (.iload 4, 2) := dk_21 4 (dk_at dksX3_bound_1 10 rfl rfl)
theorem dX3_bound_36 : decode cX3_bound 36 = .ok (.iconst 1, 1) := dk_4 (dk_at dksX3_bound_1 12 rfl rfl)
theorem dX3_bound_37 : decode cX3_bound 37 = .ok (.if_icmp .ne 13, 3) := dk_160 0 13 (dk_at dksX3_bound_1 13 rfl rfl)
theorem dX3_bound_40 : decode cX3_bound 40 = .ok (.iload_n 1, 1) := dk_27 (dk_at dksX3_bound_1 16 rfl rfl)
theorem dX3_bound_41 : decode cX3_bound 41 = .ok (.iload_n 2, 1) := dk_28 (dk_at dksX3_bound_1 17 rfl rfl)
theorem dX3_bound_42 : decode cX3_bound 42 = .ok (.iload_n 3, 1) := dk_29 (dk_at dksX3_bound_1 18 rfl rfl)
theorem dX3_bound_43 : decode cX3_bound 43 = .ok (.isub, 1) := dk_100 (dk_at dksX3_bound_1 19 rfl rfl)
theorem dX3_bound_44 : decode cX3_bound 44 = .ok (.iconst 1, 1) := dk_4 (dk_at dksX3_bound_1 20 rfl rfl)
theorem dX3_bound_45 : decode cX3_bound 45 = .ok (.iadd, 1) := dk_96 (dk_at dksX3_bound_1 21 rfl rfl)
theorem dX3_bound_46 : decode cX3_bound 46 = .ok (.invokestatic 11, 3) := dk_184 0 11 (dk_at dksX3_bound_2 0 rfl rfl)
theorem dX3_bound_49 : decode cX3_bound 49 = .ok (.lreturn, 1) := dk_173 (dk_at dksX3_bound_2 3 rfl rfl)
theorem dX3_bound_50 : decode cX3_bound 50 = .ok (.lconst 0, 1) := dk_9 (dk_at dksX3_bound_2 4 rfl rfl)
theorem dX3_bound_51 : decode cX3_bound 51 = .ok (.lstore 5, 2) := dk_55 5 (dk_at dksX3_bound_2 5 rfl rfl)
theorem dX3_bound_53 : decode cX3_bound 53 = .ok (.iconst 0, 1) := dk_3 (dk_at dksX3_bound_2 7 rfl rfl)
theorem dX3_bound_54 : decode cX3_bound 54 = .ok (.istore 7, 2) := dk_54 7 (dk_at dksX3_bound_2 8 rfl rfl)
theorem dX3_bound_56 : decode cX3_bound 56 = .ok (.iload 7, 2) := dk_21 7 (dk_at dksX3_bound_2 10 rfl rfl)
theorem dX3_bound_58 : decode cX3_bound 58 = .ok (.iload_n 3, 1) := dk_29 (dk_at dksX3_bound_2 12 rfl rfl)
theorem dX3_bound_59 : decode cX3_bound 59 = .ok (.iconst 1, 1) := dk_4 (dk_at dksX3_bound_2 13 rfl rfl)
theorem dX3_bound_60 : decode cX3_bound 60 = .ok (.isub, 1) := dk_100 (dk_at dksX3_bound_2 14 rfl rfl)
theorem dX3_bound_61 : decode cX3_bound 61 = .ok (.iconst 2, 1) := dk_5 (dk_at dksX3_bound_2 15 rfl rfl)
theorem dX3_bound_62 : decode cX3_bound 62 = .ok (.idiv, 1) := dk_108 (dk_at dksX3_bound_2 16 rfl rfl)
theorem dX3_bound_63 : decode cX3_bound 63 = .ok (.if_icmp .gt 29, 3) := dk_163 0 29 (dk_at dksX3_bound_2 17 rfl rfl)
theorem dX3_bound_66 : decode cX3_bound 66 = .ok (.lload 5, 2) := dk_22 5 (dk_at dksX3_bound_2 20 rfl rfl)
theorem dX3_bound_68 : decode cX3_bound 68 = .ok (.iload_n 2, 1) := dk_28 (dk_at dksX3_bound_2 22 rfl rfl)
theorem dX3_bound_69 : decode cX3_bound 69 = .ok (.iload 7, 2) := dk_21 7 (dk_at dksX3_bound_3 0 rfl rfl)
theorem dX3_bound_71 : decode cX3_bound 71 = .ok (.invokestatic 198, 3) := dk_184 0 198 (dk_at dksX3_bound_3 2 rfl rfl)
theorem dX3_bound_74 : decode cX3_bound 74 = .ok (.iload_n 1, 1) := dk_27 (dk_at dksX3_bound_3 5 rfl rfl)
theorem dX3_bound_75 : decode cX3_bound 75 = .ok (.iconst 1, 1) := dk_4 (dk_at dksX3_bound_3 6 rfl rfl)
theorem dX3_bound_76 : decode cX3_bound 76 = .ok (.isub, 1) := dk_100 (dk_at dksX3_bound_3 7 rfl rfl)
theorem dX3_bound_77 : decode cX3_bound 77 = .ok (.iload 7, 2) := dk_21 7 (dk_at dksX3_bound_3 8 rfl rfl)
theorem dX3_bound_79 : decode cX3_bound 79 = .ok (.invokestatic 11, 3) := dk_184 0 11 (dk_at dksX3_bound_3 10 rfl rfl)
theorem dX3_bound_82 : decode cX3_bound 82 = .ok (.lmul, 1) := dk_105 (dk_at dksX3_bound_3 13 rfl rfl)
theorem dX3_bound_83 : decode cX3_bound 83 = .ok (.ladd, 1) := dk_97 (dk_at dksX3_bound_3 14 rfl rfl)
theorem dX3_bound_84 : decode cX3_bound 84 = .ok (.lstore 5, 2) := dk_55 5 (dk_at dksX3_bound_3 15 rfl rfl)
theorem dX3_bound_86 : decode cX3_bound 86 = .ok (.iinc 7 1, 3) := dk_132 7 1 (dk_at dksX3_bound_3 17 rfl rfl)
theorem dX3_bound_89 : decode cX3_bound 89 = .ok (.goto (-33), 3) := dk_167 255 223 (dk_at dksX3_bound_3 20 rfl rfl)
theorem dX3_bound_92 : decode cX3_bound 92 = .ok (.iload_n 1, 1) := dk_27 (dk_at dksX3_bound_3 23 rfl rfl)
theorem dX3_bound_93 : decode cX3_bound 93 = .ok (.iload_n 2, 1) := dk_28 (dk_at dksX3_bound_4 0 rfl rfl)
theorem dX3_bound_94 : decode cX3_bound 94 = .ok (.invokestatic 11, 3) := dk_184 0 11 (dk_at dksX3_bound_4 1 rfl rfl)
theorem dX3_bound_97 : decode cX3_bound 97 = .ok (.lload 5, 2) := dk_22 5 (dk_at dksX3_bound_4 4 rfl rfl)
theorem dX3_bound_99 : decode cX3_bound 99 = .ok (.ldiv, 1) := dk_109 (dk_at dksX3_bound_4 6 rfl rfl)
theorem dX3_bound_100 : decode cX3_bound 100 = .ok (.lreturn, 1) := dk_173 (dk_at dksX3_bound_4 7 rfl rfl)
abbrev cX3_read : ByteArray := prog_11_method_57_code
def yX3_read : MethodName := ⟨RX3, "read", "(IJI)J"⟩
def dkwX3_read_3 : List UInt8 := [167, 0, 16, 42, 180, 0, 86, 42, 27, 32, 21, 4, 182, 0, 214, 47, 173]
abbrev dktX3_read_3 : List UInt8 := dkwX3_read_3 ++ []
def dkwX3_read_2 : List UInt8 := [173, 42, 27, 182, 0, 187, 154, 0, 7, 20, 0, 193, 173, 42, 180, 0, 175, 154, 0, 9, 20, 0, 212]
abbrev dktX3_read_2 : List UInt8 := dkwX3_read_2 ++ dktX3_read_3
def dkwX3_read_1 : List UInt8 := [21, 4, 133, 9, 4, 42, 180, 0, 67, 27, 46, 120, 4, 100, 133, 184, 0, 26, 154, 0, 7, 20, 0, 40]
abbrev dktX3_read_1 : List UInt8 := dkwX3_read_1 ++ dktX3_read_2
def dkwX3_read_0 : List UInt8 := [42, 27, 182, 0, 184, 153, 0, 10, 42, 27, 182, 0, 184, 133, 173, 42, 27, 32, 182, 0, 130, 153, 0, 24]
abbrev dktX3_read_0 : List UInt8 := dkwX3_read_0 ++ dktX3_read_1
theorem dksX3_read_0 : cX3_read.data.toList.drop 0 = dktX3_read_0 := by decide +kernel
theorem dksX3_read_1 : cX3_read.data.toList.drop 24 = dktX3_read_1 := dk_seg dksX3_read_0 24 rfl rfl
theorem dksX3_read_2 : cX3_read.data.toList.drop 48 = dktX3_read_2 := dk_seg dksX3_read_1 24 rfl rfl
theorem dksX3_read_3 : cX3_read.data.toList.drop 71 = dktX3_read_3 := dk_seg dksX3_read_2 23 rfl rfl
theorem dX3_read_0 : decode cX3_read 0 = .ok (.aload_n 0, 1) := dk_42 (dk_at dksX3_read_0 0 rfl rfl)
theorem dX3_read_1 : decode cX3_read 1 = .ok (.iload_n 1, 1) := dk_27 (dk_at dksX3_read_0 1 rfl rfl)
theorem dX3_read_2 : decode cX3_read 2 = .ok (.invokevirtual 184, 3) := dk_182 0 184 (dk_at dksX3_read_0 2 rfl rfl)
theorem dX3_read_5 : decode cX3_read 5 = .ok (.ifCond .eq 10, 3) := dk_153 0 10 (dk_at dksX3_read_0 5 rfl rfl)
theorem dX3_read_8 : decode cX3_read 8 = .ok (.aload_n 0, 1) := dk_42 (dk_at dksX3_read_0 8 rfl rfl)
theorem dX3_read_9 : decode cX3_read 9 = .ok (.iload_n 1, 1) := dk_27 (dk_at dksX3_read_0 9 rfl rfl)
theorem dX3_read_10 : decode cX3_read 10 = .ok (.invokevirtual 184, 3) := dk_182 0 184 (dk_at dksX3_read_0 10 rfl rfl)
theorem dX3_read_13 : decode cX3_read 13 = .ok (.i2l, 1) := dk_133 (dk_at dksX3_read_0 13 rfl rfl)
theorem dX3_read_14 : decode cX3_read 14 = .ok (.lreturn, 1) := dk_173 (dk_at dksX3_read_0 14 rfl rfl)
theorem dX3_read_15 : decode cX3_read 15 = .ok (.aload_n 0, 1) := dk_42 (dk_at dksX3_read_0 15 rfl rfl)
theorem dX3_read_16 : decode cX3_read 16 = .ok (.iload_n 1, 1) := dk_27 (dk_at dksX3_read_0 16 rfl rfl)
theorem dX3_read_17 : decode cX3_read 17 = .ok (.lload_n 2, 1) := dk_32 (dk_at dksX3_read_0 17 rfl rfl)
theorem dX3_read_18 : decode cX3_read 18 = .ok (.invokevirtual 130, 3) := dk_182 0 130 (dk_at dksX3_read_0 18 rfl rfl)
theorem dX3_read_21 : decode cX3_read 21 = .ok (.ifCond .eq 24, 3) := dk_153 0 24 (dk_at dksX3_read_0 21 rfl rfl)
theorem dX3_read_24 : decode cX3_read 24 = .ok (.iload 4, 2) := dk_21 4 (dk_at dksX3_read_1 0 rfl rfl)
theorem dX3_read_26 : decode cX3_read 26 = .ok (.i2l, 1) := dk_133 (dk_at dksX3_read_1 2 rfl rfl)
theorem dX3_read_27 : decode cX3_read 27 = .ok (.lconst 0, 1) := dk_9 (dk_at dksX3_read_1 3 rfl rfl)
theorem dX3_read_28 : decode cX3_read 28 = .ok (.iconst 1, 1) := dk_4 (dk_at dksX3_read_1 4 rfl rfl)
theorem dX3_read_29 : decode cX3_read 29 = .ok (.aload_n 0, 1) := dk_42 (dk_at dksX3_read_1 5 rfl rfl)
theorem dX3_read_30 : decode cX3_read 30 = .ok (.getfield 67, 3) := dk_180 0 67 (dk_at dksX3_read_1 6 rfl rfl)
theorem dX3_read_33 : decode cX3_read 33 = .ok (.iload_n 1, 1) := dk_27 (dk_at dksX3_read_1 9 rfl rfl)
theorem dX3_read_34 : decode cX3_read 34 = .ok (.iaload, 1) := dk_46 (dk_at dksX3_read_1 10 rfl rfl)
theorem dX3_read_35 : decode cX3_read 35 = .ok (.ishl, 1) := dk_120 (dk_at dksX3_read_1 11 rfl rfl)
theorem dX3_read_36 : decode cX3_read 36 = .ok (.iconst 1, 1) := dk_4 (dk_at dksX3_read_1 12 rfl rfl)
theorem dX3_read_37 : decode cX3_read 37 = .ok (.isub, 1) := dk_100 (dk_at dksX3_read_1 13 rfl rfl)
theorem dX3_read_38 : decode cX3_read 38 = .ok (.i2l, 1) := dk_133 (dk_at dksX3_read_1 14 rfl rfl)
theorem dX3_read_39 : decode cX3_read 39 = .ok (.invokestatic 26, 3) := dk_184 0 26 (dk_at dksX3_read_1 15 rfl rfl)
theorem dX3_read_42 : decode cX3_read 42 = .ok (.ifCond .ne 7, 3) := dk_154 0 7 (dk_at dksX3_read_1 18 rfl rfl)
theorem dX3_read_45 : decode cX3_read 45 = .ok (.ldc2_w 40, 3) := dk_20 0 40 (dk_at dksX3_read_1 21 rfl rfl)
theorem dX3_read_48 : decode cX3_read 48 = .ok (.lreturn, 1) := dk_173 (dk_at dksX3_read_2 0 rfl rfl)
theorem dX3_read_49 : decode cX3_read 49 = .ok (.aload_n 0, 1) := dk_42 (dk_at dksX3_read_2 1 rfl rfl)
theorem dX3_read_50 : decode cX3_read 50 = .ok (.iload_n 1, 1) := dk_27 (dk_at dksX3_read_2 2 rfl rfl)
theorem dX3_read_51 : decode cX3_read 51 = .ok (.invokevirtual 187, 3) := dk_182 0 187 (dk_at dksX3_read_2 3 rfl rfl)
theorem dX3_read_54 : decode cX3_read 54 = .ok (.ifCond .ne 7, 3) := dk_154 0 7 (dk_at dksX3_read_2 6 rfl rfl)
theorem dX3_read_57 : decode cX3_read 57 = .ok (.ldc2_w 193, 3) := dk_20 0 193 (dk_at dksX3_read_2 9 rfl rfl)
theorem dX3_read_60 : decode cX3_read 60 = .ok (.lreturn, 1) := dk_173 (dk_at dksX3_read_2 12 rfl rfl)
theorem dX3_read_61 : decode cX3_read 61 = .ok (.aload_n 0, 1) := dk_42 (dk_at dksX3_read_2 13 rfl rfl)
theorem dX3_read_62 : decode cX3_read 62 = .ok (.getfield 175, 3) := dk_180 0 175 (dk_at dksX3_read_2 14 rfl rfl)
theorem dX3_read_65 : decode cX3_read 65 = .ok (.ifCond .ne 9, 3) := dk_154 0 9 (dk_at dksX3_read_2 17 rfl rfl)
theorem dX3_read_68 : decode cX3_read 68 = .ok (.ldc2_w 212, 3) := dk_20 0 212 (dk_at dksX3_read_2 20 rfl rfl)
theorem dX3_read_71 : decode cX3_read 71 = .ok (.goto 16, 3) := dk_167 0 16 (dk_at dksX3_read_3 0 rfl rfl)
theorem dX3_read_74 : decode cX3_read 74 = .ok (.aload_n 0, 1) := dk_42 (dk_at dksX3_read_3 3 rfl rfl)
theorem dX3_read_75 : decode cX3_read 75 = .ok (.getfield 86, 3) := dk_180 0 86 (dk_at dksX3_read_3 4 rfl rfl)
theorem dX3_read_78 : decode cX3_read 78 = .ok (.aload_n 0, 1) := dk_42 (dk_at dksX3_read_3 7 rfl rfl)
theorem dX3_read_79 : decode cX3_read 79 = .ok (.iload_n 1, 1) := dk_27 (dk_at dksX3_read_3 8 rfl rfl)
theorem dX3_read_80 : decode cX3_read 80 = .ok (.lload_n 2, 1) := dk_32 (dk_at dksX3_read_3 9 rfl rfl)
theorem dX3_read_81 : decode cX3_read 81 = .ok (.iload 4, 2) := dk_21 4 (dk_at dksX3_read_3 10 rfl rfl)
theorem dX3_read_83 : decode cX3_read 83 = .ok (.invokevirtual 214, 3) := dk_182 0 214 (dk_at dksX3_read_3 12 rfl rfl)
theorem dX3_read_86 : decode cX3_read 86 = .ok (.laload, 1) := dk_47 (dk_at dksX3_read_3 15 rfl rfl)
theorem dX3_read_87 : decode cX3_read 87 = .ok (.lreturn, 1) := dk_173 (dk_at dksX3_read_3 16 rfl rfl)
abbrev cX3_nearest : ByteArray := prog_11_method_56_code
def yX3_nearest : MethodName := ⟨RX3, "nearest", "(IJI)I"⟩
def dkwX3_nearest_2 : List UInt8 := [21, 7, 54, 5, 21, 8, 54, 6, 132, 7, 1, 167, 255, 215, 21, 5, 172]
abbrev dktX3_nearest_2 : List UInt8 := dkwX3_nearest_2 ++ []
def dkwX3_nearest_1 : List UInt8 := [162, 0, 38, 42, 27, 21, 7, 21, 4, 182, 0, 209, 54, 8, 21, 8, 21, 6, 161, 0, 6, 167, 0, 11]
abbrev dktX3_nearest_1 : List UInt8 := dkwX3_nearest_1 ++ dktX3_nearest_2
def dkwX3_nearest_0 : List UInt8 := [42, 27, 32, 182, 0, 205, 3, 54, 5, 16, 13, 54, 6, 3, 54, 7, 21, 7, 42, 180, 0, 175]
abbrev dktX3_nearest_0 : List UInt8 := dkwX3_nearest_0 ++ dktX3_nearest_1
theorem dksX3_nearest_0 : cX3_nearest.data.toList.drop 0 = dktX3_nearest_0 := by decide +kernel
theorem dksX3_nearest_1 : cX3_nearest.data.toList.drop 22 = dktX3_nearest_1 := dk_seg dksX3_nearest_0 22 rfl rfl
theorem dksX3_nearest_2 : cX3_nearest.data.toList.drop 46 = dktX3_nearest_2 := dk_seg dksX3_nearest_1 24 rfl rfl
theorem dX3_nearest_0 : decode cX3_nearest 0 = .ok (.aload_n 0, 1) := dk_42 (dk_at dksX3_nearest_0 0 rfl rfl)
theorem dX3_nearest_1 : decode cX3_nearest 1 = .ok (.iload_n 1, 1) := dk_27 (dk_at dksX3_nearest_0 1 rfl rfl)
theorem dX3_nearest_2 : decode cX3_nearest 2 = .ok (.lload_n 2, 1) := dk_32 (dk_at dksX3_nearest_0 2 rfl rfl)
theorem dX3_nearest_3 : decode cX3_nearest 3 = .ok (.invokevirtual 205, 3) := dk_182 0 205 (dk_at dksX3_nearest_0 3 rfl rfl)
theorem dX3_nearest_6 : decode cX3_nearest 6 = .ok (.iconst 0, 1) := dk_3 (dk_at dksX3_nearest_0 6 rfl rfl)
theorem dX3_nearest_7 : decode cX3_nearest 7 = .ok (.istore 5, 2) := dk_54 5 (dk_at dksX3_nearest_0 7 rfl rfl)
theorem dX3_nearest_9 : decode cX3_nearest 9 = .ok (.bipush 13, 2) := dk_16 13 (dk_at dksX3_nearest_0 9 rfl rfl)
theorem dX3_nearest_11 : decode cX3_nearest 11 = .ok (.istore 6, 2) := dk_54 6 (dk_at dksX3_nearest_0 11 rfl rfl)
theorem dX3_nearest_13 : decode cX3_nearest 13 = .ok (.iconst 0, 1) := dk_3 (dk_at dksX3_nearest_0 13 rfl rfl)
theorem dX3_nearest_14 : decode cX3_nearest 14 = .ok (.istore 7, 2) := dk_54 7 (dk_at dksX3_nearest_0 14 rfl rfl)
theorem dX3_nearest_16 : decode cX3_nearest 16 = .ok (.iload 7, 2) := dk_21 7 (dk_at dksX3_nearest_0 16 rfl rfl)
theorem dX3_nearest_18 : decode cX3_nearest 18 = .ok (.aload_n 0, 1) := dk_42 (dk_at dksX3_nearest_0 18 rfl rfl)
theorem dX3_nearest_19 : decode cX3_nearest 19 = .ok (.getfield 175, 3) := dk_180 0 175 (dk_at dksX3_nearest_0 19 rfl rfl)
theorem dX3_nearest_22 : decode cX3_nearest 22 = .ok (.if_icmp .ge 38, 3) := dk_162 0 38 (dk_at dksX3_nearest_1 0 rfl rfl)
theorem dX3_nearest_25 : decode cX3_nearest 25 = .ok (.aload_n 0, 1) := dk_42 (dk_at dksX3_nearest_1 3 rfl rfl)
theorem dX3_nearest_26 : decode cX3_nearest 26 = .ok (.iload_n 1, 1) := dk_27 (dk_at dksX3_nearest_1 4 rfl rfl)
theorem dX3_nearest_27 : decode cX3_nearest 27 = .ok (.iload 7, 2) := dk_21 7 (dk_at dksX3_nearest_1 5 rfl rfl)
theorem dX3_nearest_29 : decode cX3_nearest 29 = .ok (.iload 4, 2) := dk_21 4 (dk_at dksX3_nearest_1 7 rfl rfl)
theorem dX3_nearest_31 : decode cX3_nearest 31 = .ok (.invokevirtual 209, 3) := dk_182 0 209 (dk_at dksX3_nearest_1 9 rfl rfl)
theorem dX3_nearest_34 : decode cX3_nearest 34 = .ok (.istore 8, 2) := dk_54 8 (dk_at dksX3_nearest_1 12 rfl rfl)
theorem dX3_nearest_36 : decode cX3_nearest 36 = .ok (.iload 8, 2) := dk_21 8 (dk_at dksX3_nearest_1 14 rfl rfl)
theorem dX3_nearest_38 : decode cX3_nearest 38 = .ok (.iload 6, 2) := dk_21 6 (dk_at dksX3_nearest_1 16 rfl rfl)
theorem dX3_nearest_40 : decode cX3_nearest 40 = .ok (.if_icmp .lt 6, 3) := dk_161 0 6 (dk_at dksX3_nearest_1 18 rfl rfl)
theorem dX3_nearest_43 : decode cX3_nearest 43 = .ok (.goto 11, 3) := dk_167 0 11 (dk_at dksX3_nearest_1 21 rfl rfl)
theorem dX3_nearest_46 : decode cX3_nearest 46 = .ok (.iload 7, 2) := dk_21 7 (dk_at dksX3_nearest_2 0 rfl rfl)
theorem dX3_nearest_48 : decode cX3_nearest 48 = .ok (.istore 5, 2) := dk_54 5 (dk_at dksX3_nearest_2 2 rfl rfl)
theorem dX3_nearest_50 : decode cX3_nearest 50 = .ok (.iload 8, 2) := dk_21 8 (dk_at dksX3_nearest_2 4 rfl rfl)
theorem dX3_nearest_52 : decode cX3_nearest 52 = .ok (.istore 6, 2) := dk_54 6 (dk_at dksX3_nearest_2 6 rfl rfl)
theorem dX3_nearest_54 : decode cX3_nearest 54 = .ok (.iinc 7 1, 3) := dk_132 7 1 (dk_at dksX3_nearest_2 8 rfl rfl)
theorem dX3_nearest_57 : decode cX3_nearest 57 = .ok (.goto (-41), 3) := dk_167 255 215 (dk_at dksX3_nearest_2 11 rfl rfl)
theorem dX3_nearest_60 : decode cX3_nearest 60 = .ok (.iload 5, 2) := dk_21 5 (dk_at dksX3_nearest_2 14 rfl rfl)
theorem dX3_nearest_62 : decode cX3_nearest 62 = .ok (.ireturn, 1) := dk_172 (dk_at dksX3_nearest_2 16 rfl rfl)
abbrev cX3_looksAt : ByteArray := prog_11_method_43_code
def yX3_looksAt : MethodName := ⟨RX3, "looksAt", "(IJ)V"⟩
def dkwX3_looksAt_2 : List UInt8 := [132, 6, 255, 167, 255, 218, 177]
abbrev dktX3_looksAt_2 : List UInt8 := dkwX3_looksAt_2 ++ []
def dkwX3_looksAt_1 : List UInt8 := [22, 4, 42, 180, 0, 64, 27, 46, 133, 113, 136, 79, 22, 4, 42, 180, 0, 64, 27, 46, 133, 109, 55, 4]
abbrev dktX3_looksAt_1 : List UInt8 := dkwX3_looksAt_1 ++ dktX3_looksAt_2
def dkwX3_looksAt_0 : List UInt8 := [32, 55, 4, 42, 180, 0, 67, 27, 46, 4, 100, 54, 6, 21, 6, 155, 0, 39, 42, 180, 0, 93, 21, 6]
abbrev dktX3_looksAt_0 : List UInt8 := dkwX3_looksAt_0 ++ dktX3_looksAt_1
theorem dksX3_looksAt_0 : cX3_looksAt.data.toList.drop 0 = dktX3_looksAt_0 := by decide +kernel
theorem dksX3_looksAt_1 : cX3_looksAt.data.toList.drop 24 = dktX3_looksAt_1 := dk_seg dksX3_looksAt_0 24 rfl rfl
theorem dksX3_looksAt_2 : cX3_looksAt.data.toList.drop 48 = dktX3_looksAt_2 := dk_seg dksX3_looksAt_1 24 rfl rfl
theorem dX3_looksAt_0 : decode cX3_looksAt 0 = .ok (.lload_n 2, 1) := dk_32 (dk_at dksX3_looksAt_0 0 rfl rfl)
theorem dX3_looksAt_1 : decode cX3_looksAt 1 = .ok (.lstore 4, 2) := dk_55 4 (dk_at dksX3_looksAt_0 1 rfl rfl)
theorem dX3_looksAt_3 : decode cX3_looksAt 3 = .ok (.aload_n 0, 1) := dk_42 (dk_at dksX3_looksAt_0 3 rfl rfl)
theorem dX3_looksAt_4 : decode cX3_looksAt 4 = .ok (.getfield 67, 3) := dk_180 0 67 (dk_at dksX3_looksAt_0 4 rfl rfl)
theorem dX3_looksAt_7 : decode cX3_looksAt 7 = .ok (.iload_n 1, 1) := dk_27 (dk_at dksX3_looksAt_0 7 rfl rfl)
theorem dX3_looksAt_8 : decode cX3_looksAt 8 = .ok (.iaload, 1) := dk_46 (dk_at dksX3_looksAt_0 8 rfl rfl)
theorem dX3_looksAt_9 : decode cX3_looksAt 9 = .ok (.iconst 1, 1) := dk_4 (dk_at dksX3_looksAt_0 9 rfl rfl)
theorem dX3_looksAt_10 : decode cX3_looksAt 10 = .ok (.isub, 1) := dk_100 (dk_at dksX3_looksAt_0 10 rfl rfl)
theorem dX3_looksAt_11 : decode cX3_looksAt 11 = .ok (.istore 6, 2) := dk_54 6 (dk_at dksX3_looksAt_0 11 rfl rfl)
theorem dX3_looksAt_13 : decode cX3_looksAt 13 = .ok (.iload 6, 2) := dk_21 6 (dk_at dksX3_looksAt_0 13 rfl rfl)
theorem dX3_looksAt_15 : decode cX3_looksAt 15 = .ok (.ifCond .lt 39, 3) := dk_155 0 39 (dk_at dksX3_looksAt_0 15 rfl rfl)
theorem dX3_looksAt_18 : decode cX3_looksAt 18 = .ok (.aload_n 0, 1) := dk_42 (dk_at dksX3_looksAt_0 18 rfl rfl)
theorem dX3_looksAt_19 : decode cX3_looksAt 19 = .ok (.getfield 93, 3) := dk_180 0 93 (dk_at dksX3_looksAt_0 19 rfl rfl)
theorem dX3_looksAt_22 : decode cX3_looksAt 22 = .ok (.iload 6, 2) := dk_21 6 (dk_at dksX3_looksAt_0 22 rfl rfl)
theorem dX3_looksAt_24 : decode cX3_looksAt 24 = .ok (.lload 4, 2) := dk_22 4 (dk_at dksX3_looksAt_1 0 rfl rfl)
theorem dX3_looksAt_26 : decode cX3_looksAt 26 = .ok (.aload_n 0, 1) := dk_42 (dk_at dksX3_looksAt_1 2 rfl rfl)
theorem dX3_looksAt_27 : decode cX3_looksAt 27 = .ok (.getfield 64, 3) := dk_180 0 64 (dk_at dksX3_looksAt_1 3 rfl rfl)
theorem dX3_looksAt_30 : decode cX3_looksAt 30 = .ok (.iload_n 1, 1) := dk_27 (dk_at dksX3_looksAt_1 6 rfl rfl)
theorem dX3_looksAt_31 : decode cX3_looksAt 31 = .ok (.iaload, 1) := dk_46 (dk_at dksX3_looksAt_1 7 rfl rfl)
theorem dX3_looksAt_32 : decode cX3_looksAt 32 = .ok (.i2l, 1) := dk_133 (dk_at dksX3_looksAt_1 8 rfl rfl)
theorem dX3_looksAt_33 : decode cX3_looksAt 33 = .ok (.lrem, 1) := dk_113 (dk_at dksX3_looksAt_1 9 rfl rfl)
theorem dX3_looksAt_34 : decode cX3_looksAt 34 = .ok (.l2i, 1) := dk_136 (dk_at dksX3_looksAt_1 10 rfl rfl)
theorem dX3_looksAt_35 : decode cX3_looksAt 35 = .ok (.iastore, 1) := dk_79 (dk_at dksX3_looksAt_1 11 rfl rfl)
theorem dX3_looksAt_36 : decode cX3_looksAt 36 = .ok (.lload 4, 2) := dk_22 4 (dk_at dksX3_looksAt_1 12 rfl rfl)
theorem dX3_looksAt_38 : decode cX3_looksAt 38 = .ok (.aload_n 0, 1) := dk_42 (dk_at dksX3_looksAt_1 14 rfl rfl)
theorem dX3_looksAt_39 : decode cX3_looksAt 39 = .ok (.getfield 64, 3) := dk_180 0 64 (dk_at dksX3_looksAt_1 15 rfl rfl)
theorem dX3_looksAt_42 : decode cX3_looksAt 42 = .ok (.iload_n 1, 1) := dk_27 (dk_at dksX3_looksAt_1 18 rfl rfl)
theorem dX3_looksAt_43 : decode cX3_looksAt 43 = .ok (.iaload, 1) := dk_46 (dk_at dksX3_looksAt_1 19 rfl rfl)
theorem dX3_looksAt_44 : decode cX3_looksAt 44 = .ok (.i2l, 1) := dk_133 (dk_at dksX3_looksAt_1 20 rfl rfl)
theorem dX3_looksAt_45 : decode cX3_looksAt 45 = .ok (.ldiv, 1) := dk_109 (dk_at dksX3_looksAt_1 21 rfl rfl)
theorem dX3_looksAt_46 : decode cX3_looksAt 46 = .ok (.lstore 4, 2) := dk_55 4 (dk_at dksX3_looksAt_1 22 rfl rfl)
theorem dX3_looksAt_48 : decode cX3_looksAt 48 = .ok (.iinc 6 (-1), 3) := dk_132 6 255 (dk_at dksX3_looksAt_2 0 rfl rfl)
theorem dX3_looksAt_51 : decode cX3_looksAt 51 = .ok (.goto (-38), 3) := dk_167 255 218 (dk_at dksX3_looksAt_2 3 rfl rfl)
theorem dX3_looksAt_54 : decode cX3_looksAt 54 = .ok (.return_, 1) := dk_177 (dk_at dksX3_looksAt_2 6 rfl rfl)
abbrev cX3_wayTo : ByteArray := prog_11_method_44_code
def yX3_wayTo : MethodName := ⟨RX3, "wayTo", "(III)I"⟩
def dkwX3_wayTo_2 : List UInt8 := [159, 0, 7, 4, 167, 0, 4, 3, 96, 54, 4, 132, 5, 1, 167, 255, 201, 21, 4, 172]
abbrev dktX3_wayTo_2 : List UInt8 := dkwX3_wayTo_2 ++ []
def dkwX3_wayTo_1 : List UInt8 := [126, 154, 0, 29, 42, 180, 0, 93, 21, 5, 46, 42, 180, 0, 90, 16, 12, 28, 104, 21, 5, 96, 46]
abbrev dktX3_wayTo_1 : List UInt8 := dkwX3_wayTo_1 ++ dktX3_wayTo_2
def dkwX3_wayTo_0 : List UInt8 := [3, 54, 4, 3, 54, 5, 21, 5, 42, 180, 0, 67, 27, 46, 162, 0, 50, 21, 4, 29, 21, 5, 122, 4]
abbrev dktX3_wayTo_0 : List UInt8 := dkwX3_wayTo_0 ++ dktX3_wayTo_1
theorem dksX3_wayTo_0 : cX3_wayTo.data.toList.drop 0 = dktX3_wayTo_0 := by decide +kernel
theorem dksX3_wayTo_1 : cX3_wayTo.data.toList.drop 24 = dktX3_wayTo_1 := dk_seg dksX3_wayTo_0 24 rfl rfl
theorem dksX3_wayTo_2 : cX3_wayTo.data.toList.drop 47 = dktX3_wayTo_2 := dk_seg dksX3_wayTo_1 23 rfl rfl
theorem dX3_wayTo_0 : decode cX3_wayTo 0 = .ok (.iconst 0, 1) := dk_3 (dk_at dksX3_wayTo_0 0 rfl rfl)
theorem dX3_wayTo_1 : decode cX3_wayTo 1 = .ok (.istore 4, 2) := dk_54 4 (dk_at dksX3_wayTo_0 1 rfl rfl)
theorem dX3_wayTo_3 : decode cX3_wayTo 3 = .ok (.iconst 0, 1) := dk_3 (dk_at dksX3_wayTo_0 3 rfl rfl)
theorem dX3_wayTo_4 : decode cX3_wayTo 4 = .ok (.istore 5, 2) := dk_54 5 (dk_at dksX3_wayTo_0 4 rfl rfl)
theorem dX3_wayTo_6 : decode cX3_wayTo 6 = .ok (.iload 5, 2) := dk_21 5 (dk_at dksX3_wayTo_0 6 rfl rfl)
theorem dX3_wayTo_8 : decode cX3_wayTo 8 = .ok (.aload_n 0, 1) := dk_42 (dk_at dksX3_wayTo_0 8 rfl rfl)
theorem dX3_wayTo_9 : decode cX3_wayTo 9 = .ok (.getfield 67, 3) := dk_180 0 67 (dk_at dksX3_wayTo_0 9 rfl rfl)
theorem dX3_wayTo_12 : decode cX3_wayTo 12 = .ok (.iload_n 1, 1) := dk_27 (dk_at dksX3_wayTo_0 12 rfl rfl)
theorem dX3_wayTo_13 : decode cX3_wayTo 13 = .ok (.iaload, 1) := dk_46 (dk_at dksX3_wayTo_0 13 rfl rfl)
theorem dX3_wayTo_14 : decode cX3_wayTo 14 = .ok (.if_icmp .ge 50, 3) := dk_162 0 50 (dk_at dksX3_wayTo_0 14 rfl rfl)
theorem dX3_wayTo_17 : decode cX3_wayTo 17 = .ok (.iload 4, 2) := dk_21 4 (dk_at dksX3_wayTo_0 17 rfl rfl)
theorem dX3_wayTo_19 : decode cX3_wayTo 19 = .ok (.iload_n 3, 1) := dk_29 (dk_at dksX3_wayTo_0 19 rfl rfl)
theorem dX3_wayTo_20 : decode cX3_wayTo 20 = .ok (.iload 5, 2) := dk_21 5 (dk_at dksX3_wayTo_0 20 rfl rfl)
theorem dX3_wayTo_22 : decode cX3_wayTo 22 = .ok (.ishr, 1) := dk_122 (dk_at dksX3_wayTo_0 22 rfl rfl)
theorem dX3_wayTo_23 : decode cX3_wayTo 23 = .ok (.iconst 1, 1) := dk_4 (dk_at dksX3_wayTo_0 23 rfl rfl)
theorem dX3_wayTo_24 : decode cX3_wayTo 24 = .ok (.iand, 1) := dk_126 (dk_at dksX3_wayTo_1 0 rfl rfl)
theorem dX3_wayTo_25 : decode cX3_wayTo 25 = .ok (.ifCond .ne 29, 3) := dk_154 0 29 (dk_at dksX3_wayTo_1 1 rfl rfl)
theorem dX3_wayTo_28 : decode cX3_wayTo 28 = .ok (.aload_n 0, 1) := dk_42 (dk_at dksX3_wayTo_1 4 rfl rfl)
theorem dX3_wayTo_29 : decode cX3_wayTo 29 = .ok (.getfield 93, 3) := dk_180 0 93 (dk_at dksX3_wayTo_1 5 rfl rfl)
theorem dX3_wayTo_32 : decode cX3_wayTo 32 = .ok (.iload 5, 2) := dk_21 5 (dk_at dksX3_wayTo_1 8 rfl rfl)
theorem dX3_wayTo_34 : decode cX3_wayTo 34 = .ok (.iaload, 1) := dk_46 (dk_at dksX3_wayTo_1 10 rfl rfl)
theorem dX3_wayTo_35 : decode cX3_wayTo 35 = .ok (.aload_n 0, 1) := dk_42 (dk_at dksX3_wayTo_1 11 rfl rfl)
theorem dX3_wayTo_36 : decode cX3_wayTo 36 = .ok (.getfield 90, 3) := dk_180 0 90 (dk_at dksX3_wayTo_1 12 rfl rfl)
theorem dX3_wayTo_39 : decode cX3_wayTo 39 = .ok (.bipush 12, 2) := dk_16 12 (dk_at dksX3_wayTo_1 15 rfl rfl)
theorem dX3_wayTo_41 : decode cX3_wayTo 41 = .ok (.iload_n 2, 1) := dk_28 (dk_at dksX3_wayTo_1 17 rfl rfl)
theorem dX3_wayTo_42 : decode cX3_wayTo 42 = .ok (.imul, 1) := dk_104 (dk_at dksX3_wayTo_1 18 rfl rfl)
theorem dX3_wayTo_43 : decode cX3_wayTo 43 = .ok (.iload 5, 2) := dk_21 5 (dk_at dksX3_wayTo_1 19 rfl rfl)
theorem dX3_wayTo_45 : decode cX3_wayTo 45 = .ok (.iadd, 1) := dk_96 (dk_at dksX3_wayTo_1 21 rfl rfl)
theorem dX3_wayTo_46 : decode cX3_wayTo 46 = .ok (.iaload, 1) := dk_46 (dk_at dksX3_wayTo_1 22 rfl rfl)
theorem dX3_wayTo_47 : decode cX3_wayTo 47 = .ok (.if_icmp .eq 7, 3) := dk_159 0 7 (dk_at dksX3_wayTo_2 0 rfl rfl)
theorem dX3_wayTo_50 : decode cX3_wayTo 50 = .ok (.iconst 1, 1) := dk_4 (dk_at dksX3_wayTo_2 3 rfl rfl)
theorem dX3_wayTo_51 : decode cX3_wayTo 51 = .ok (.goto 4, 3) := dk_167 0 4 (dk_at dksX3_wayTo_2 4 rfl rfl)
theorem dX3_wayTo_54 : decode cX3_wayTo 54 = .ok (.iconst 0, 1) := dk_3 (dk_at dksX3_wayTo_2 7 rfl rfl)
theorem dX3_wayTo_55 : decode cX3_wayTo 55 = .ok (.iadd, 1) := dk_96 (dk_at dksX3_wayTo_2 8 rfl rfl)
theorem dX3_wayTo_56 : decode cX3_wayTo 56 = .ok (.istore 4, 2) := dk_54 4 (dk_at dksX3_wayTo_2 9 rfl rfl)
theorem dX3_wayTo_58 : decode cX3_wayTo 58 = .ok (.iinc 5 1, 3) := dk_132 5 1 (dk_at dksX3_wayTo_2 11 rfl rfl)
theorem dX3_wayTo_61 : decode cX3_wayTo 61 = .ok (.goto (-55), 3) := dk_167 255 201 (dk_at dksX3_wayTo_2 14 rfl rfl)
theorem dX3_wayTo_64 : decode cX3_wayTo 64 = .ok (.iload 4, 2) := dk_21 4 (dk_at dksX3_wayTo_2 17 rfl rfl)
theorem dX3_wayTo_66 : decode cX3_wayTo 66 = .ok (.ireturn, 1) := dk_172 (dk_at dksX3_wayTo_2 19 rfl rfl)
abbrev cX3_near : ByteArray := prog_11_method_59_code
def yX3_near : MethodName := ⟨RX3, "near", "(IJI)I"⟩
def dkwX3_near_2 : List UInt8 := [153, 0, 14, 42, 27, 32, 21, 4, 182, 0, 218, 167, 0, 5, 16, 251, 172]
abbrev dktX3_near_2 : List UInt8 := dkwX3_near_2 ++ []
def dkwX3_near_1 : List UInt8 := [21, 4, 133, 9, 42, 180, 0, 67, 27, 46, 133, 184, 0, 26, 154, 0, 5, 2, 172, 42, 27, 182, 0, 187]
abbrev dktX3_near_1 : List UInt8 := dkwX3_near_1 ++ dktX3_near_2
def dkwX3_near_0 : List UInt8 := [42, 27, 182, 0, 184, 153, 0, 9, 42, 27, 182, 0, 184, 172, 42, 27, 32, 182, 0, 130, 153, 0, 20]
abbrev dktX3_near_0 : List UInt8 := dkwX3_near_0 ++ dktX3_near_1
theorem dksX3_near_0 : cX3_near.data.toList.drop 0 = dktX3_near_0 := by decide +kernel
theorem dksX3_near_1 : cX3_near.data.toList.drop 23 = dktX3_near_1 := dk_seg dksX3_near_0 23 rfl rfl
theorem dksX3_near_2 : cX3_near.data.toList.drop 47 = dktX3_near_2 := dk_seg dksX3_near_1 24 rfl rfl
theorem dX3_near_0 : decode cX3_near 0 = .ok (.aload_n 0, 1) := dk_42 (dk_at dksX3_near_0 0 rfl rfl)
theorem dX3_near_1 : decode cX3_near 1 = .ok (.iload_n 1, 1) := dk_27 (dk_at dksX3_near_0 1 rfl rfl)
theorem dX3_near_2 : decode cX3_near 2 = .ok (.invokevirtual 184, 3) := dk_182 0 184 (dk_at dksX3_near_0 2 rfl rfl)
theorem dX3_near_5 : decode cX3_near 5 = .ok (.ifCond .eq 9, 3) := dk_153 0 9 (dk_at dksX3_near_0 5 rfl rfl)
theorem dX3_near_8 : decode cX3_near 8 = .ok (.aload_n 0, 1) := dk_42 (dk_at dksX3_near_0 8 rfl rfl)
theorem dX3_near_9 : decode cX3_near 9 = .ok (.iload_n 1, 1) := dk_27 (dk_at dksX3_near_0 9 rfl rfl)
theorem dX3_near_10 : decode cX3_near 10 = .ok (.invokevirtual 184, 3) := dk_182 0 184 (dk_at dksX3_near_0 10 rfl rfl)
theorem dX3_near_13 : decode cX3_near 13 = .ok (.ireturn, 1) := dk_172 (dk_at dksX3_near_0 13 rfl rfl)
theorem dX3_near_14 : decode cX3_near 14 = .ok (.aload_n 0, 1) := dk_42 (dk_at dksX3_near_0 14 rfl rfl)
theorem dX3_near_15 : decode cX3_near 15 = .ok (.iload_n 1, 1) := dk_27 (dk_at dksX3_near_0 15 rfl rfl)
theorem dX3_near_16 : decode cX3_near 16 = .ok (.lload_n 2, 1) := dk_32 (dk_at dksX3_near_0 16 rfl rfl)
theorem dX3_near_17 : decode cX3_near 17 = .ok (.invokevirtual 130, 3) := dk_182 0 130 (dk_at dksX3_near_0 17 rfl rfl)
theorem dX3_near_20 : decode cX3_near 20 = .ok (.ifCond .eq 20, 3) := dk_153 0 20 (dk_at dksX3_near_0 20 rfl rfl)
theorem dX3_near_23 : decode cX3_near 23 = .ok (.iload 4, 2) := dk_21 4 (dk_at dksX3_near_1 0 rfl rfl)
theorem dX3_near_25 : decode cX3_near 25 = .ok (.i2l, 1) := dk_133 (dk_at dksX3_near_1 2 rfl rfl)
theorem dX3_near_26 : decode cX3_near 26 = .ok (.lconst 0, 1) := dk_9 (dk_at dksX3_near_1 3 rfl rfl)
theorem dX3_near_27 : decode cX3_near 27 = .ok (.aload_n 0, 1) := dk_42 (dk_at dksX3_near_1 4 rfl rfl)
theorem dX3_near_28 : decode cX3_near 28 = .ok (.getfield 67, 3) := dk_180 0 67 (dk_at dksX3_near_1 5 rfl rfl)
theorem dX3_near_31 : decode cX3_near 31 = .ok (.iload_n 1, 1) := dk_27 (dk_at dksX3_near_1 8 rfl rfl)
theorem dX3_near_32 : decode cX3_near 32 = .ok (.iaload, 1) := dk_46 (dk_at dksX3_near_1 9 rfl rfl)
theorem dX3_near_33 : decode cX3_near 33 = .ok (.i2l, 1) := dk_133 (dk_at dksX3_near_1 10 rfl rfl)
theorem dX3_near_34 : decode cX3_near 34 = .ok (.invokestatic 26, 3) := dk_184 0 26 (dk_at dksX3_near_1 11 rfl rfl)
theorem dX3_near_37 : decode cX3_near 37 = .ok (.ifCond .ne 5, 3) := dk_154 0 5 (dk_at dksX3_near_1 14 rfl rfl)
theorem dX3_near_40 : decode cX3_near 40 = .ok (.iconst (-1), 1) := dk_2 (dk_at dksX3_near_1 17 rfl rfl)
theorem dX3_near_41 : decode cX3_near 41 = .ok (.ireturn, 1) := dk_172 (dk_at dksX3_near_1 18 rfl rfl)
theorem dX3_near_42 : decode cX3_near 42 = .ok (.aload_n 0, 1) := dk_42 (dk_at dksX3_near_1 19 rfl rfl)
theorem dX3_near_43 : decode cX3_near 43 = .ok (.iload_n 1, 1) := dk_27 (dk_at dksX3_near_1 20 rfl rfl)
theorem dX3_near_44 : decode cX3_near 44 = .ok (.invokevirtual 187, 3) := dk_182 0 187 (dk_at dksX3_near_1 21 rfl rfl)
theorem dX3_near_47 : decode cX3_near 47 = .ok (.ifCond .eq 14, 3) := dk_153 0 14 (dk_at dksX3_near_2 0 rfl rfl)
theorem dX3_near_50 : decode cX3_near 50 = .ok (.aload_n 0, 1) := dk_42 (dk_at dksX3_near_2 3 rfl rfl)
theorem dX3_near_51 : decode cX3_near 51 = .ok (.iload_n 1, 1) := dk_27 (dk_at dksX3_near_2 4 rfl rfl)
theorem dX3_near_52 : decode cX3_near 52 = .ok (.lload_n 2, 1) := dk_32 (dk_at dksX3_near_2 5 rfl rfl)
theorem dX3_near_53 : decode cX3_near 53 = .ok (.iload 4, 2) := dk_21 4 (dk_at dksX3_near_2 6 rfl rfl)
theorem dX3_near_55 : decode cX3_near 55 = .ok (.invokevirtual 218, 3) := dk_182 0 218 (dk_at dksX3_near_2 8 rfl rfl)
theorem dX3_near_58 : decode cX3_near 58 = .ok (.goto 5, 3) := dk_167 0 5 (dk_at dksX3_near_2 11 rfl rfl)
theorem dX3_near_61 : decode cX3_near 61 = .ok (.bipush (-5), 2) := dk_16 251 (dk_at dksX3_near_2 14 rfl rfl)
theorem dX3_near_63 : decode cX3_near 63 = .ok (.ireturn, 1) := dk_172 (dk_at dksX3_near_2 16 rfl rfl)
abbrev cX3_nearOf : ByteArray := prog_11_method_58_code
def yX3_nearOf : MethodName := ⟨RX3, "nearOf", "(IJI)I"⟩
def dkwX3_nearOf_2 : List UInt8 := [167, 255, 221, 21, 5, 172]
abbrev dktX3_nearOf_2 : List UInt8 := dkwX3_nearOf_2 ++ []
def dkwX3_nearOf_1 : List UInt8 := [27, 21, 6, 3, 182, 0, 209, 21, 4, 163, 0, 7, 4, 167, 0, 4, 3, 96, 54, 5, 132, 6, 1]
abbrev dktX3_nearOf_1 : List UInt8 := dkwX3_nearOf_1 ++ dktX3_nearOf_2
def dkwX3_nearOf_0 : List UInt8 := [3, 54, 5, 42, 27, 32, 182, 0, 205, 3, 54, 6, 21, 6, 42, 180, 0, 175, 162, 0, 32, 21, 5, 42]
abbrev dktX3_nearOf_0 : List UInt8 := dkwX3_nearOf_0 ++ dktX3_nearOf_1
theorem dksX3_nearOf_0 : cX3_nearOf.data.toList.drop 0 = dktX3_nearOf_0 := by decide +kernel
theorem dksX3_nearOf_1 : cX3_nearOf.data.toList.drop 24 = dktX3_nearOf_1 := dk_seg dksX3_nearOf_0 24 rfl rfl
theorem dksX3_nearOf_2 : cX3_nearOf.data.toList.drop 47 = dktX3_nearOf_2 := dk_seg dksX3_nearOf_1 23 rfl rfl
theorem dX3_nearOf_0 : decode cX3_nearOf 0 = .ok (.iconst 0, 1) := dk_3 (dk_at dksX3_nearOf_0 0 rfl rfl)
theorem dX3_nearOf_1 : decode cX3_nearOf 1 = .ok (.istore 5, 2) := dk_54 5 (dk_at dksX3_nearOf_0 1 rfl rfl)
theorem dX3_nearOf_3 : decode cX3_nearOf 3 = .ok (.aload_n 0, 1) := dk_42 (dk_at dksX3_nearOf_0 3 rfl rfl)
theorem dX3_nearOf_4 : decode cX3_nearOf 4 = .ok (.iload_n 1, 1) := dk_27 (dk_at dksX3_nearOf_0 4 rfl rfl)
theorem dX3_nearOf_5 : decode cX3_nearOf 5 = .ok (.lload_n 2, 1) := dk_32 (dk_at dksX3_nearOf_0 5 rfl rfl)
theorem dX3_nearOf_6 : decode cX3_nearOf 6 = .ok (.invokevirtual 205, 3) := dk_182 0 205 (dk_at dksX3_nearOf_0 6 rfl rfl)
theorem dX3_nearOf_9 : decode cX3_nearOf 9 = .ok (.iconst 0, 1) := dk_3 (dk_at dksX3_nearOf_0 9 rfl rfl)
theorem dX3_nearOf_10 : decode cX3_nearOf 10 = .ok (.istore 6, 2) := dk_54 6 (dk_at dksX3_nearOf_0 10 rfl rfl)
theorem dX3_nearOf_12 : decode cX3_nearOf 12 = .ok (.iload 6, 2) := dk_21 6 (dk_at dksX3_nearOf_0 12 rfl rfl)
theorem dX3_nearOf_14 : decode cX3_nearOf 14 = .ok (.aload_n 0, 1) := dk_42 (dk_at dksX3_nearOf_0 14 rfl rfl)
theorem dX3_nearOf_15 : decode cX3_nearOf 15 = .ok (.getfield 175, 3) := dk_180 0 175 (dk_at dksX3_nearOf_0 15 rfl rfl)
theorem dX3_nearOf_18 : decode cX3_nearOf 18 = .ok (.if_icmp .ge 32, 3) := dk_162 0 32 (dk_at dksX3_nearOf_0 18 rfl rfl)
theorem dX3_nearOf_21 : decode cX3_nearOf 21 = .ok (.iload 5, 2) := dk_21 5 (dk_at dksX3_nearOf_0 21 rfl rfl)
theorem dX3_nearOf_23 : decode cX3_nearOf 23 = .ok (.aload_n 0, 1) := dk_42 (dk_at dksX3_nearOf_0 23 rfl rfl)
theorem dX3_nearOf_24 : decode cX3_nearOf 24 = .ok (.iload_n 1, 1) := dk_27 (dk_at dksX3_nearOf_1 0 rfl rfl)
theorem dX3_nearOf_25 : decode cX3_nearOf 25 = .ok (.iload 6, 2) := dk_21 6 (dk_at dksX3_nearOf_1 1 rfl rfl)
theorem dX3_nearOf_27 : decode cX3_nearOf 27 = .ok (.iconst 0, 1) := dk_3 (dk_at dksX3_nearOf_1 3 rfl rfl)
theorem dX3_nearOf_28 : decode cX3_nearOf 28 = .ok (.invokevirtual 209, 3) := dk_182 0 209 (dk_at dksX3_nearOf_1 4 rfl rfl)
theorem dX3_nearOf_31 : decode cX3_nearOf 31 = .ok (.iload 4, 2) := dk_21 4 (dk_at dksX3_nearOf_1 7 rfl rfl)
theorem dX3_nearOf_33 : decode cX3_nearOf 33 = .ok (.if_icmp .gt 7, 3) := dk_163 0 7 (dk_at dksX3_nearOf_1 9 rfl rfl)
theorem dX3_nearOf_36 : decode cX3_nearOf 36 = .ok (.iconst 1, 1) := dk_4 (dk_at dksX3_nearOf_1 12 rfl rfl)
theorem dX3_nearOf_37 : decode cX3_nearOf 37 = .ok (.goto 4, 3) := dk_167 0 4 (dk_at dksX3_nearOf_1 13 rfl rfl)
theorem dX3_nearOf_40 : decode cX3_nearOf 40 = .ok (.iconst 0, 1) := dk_3 (dk_at dksX3_nearOf_1 16 rfl rfl)
theorem dX3_nearOf_41 : decode cX3_nearOf 41 = .ok (.iadd, 1) := dk_96 (dk_at dksX3_nearOf_1 17 rfl rfl)
theorem dX3_nearOf_42 : decode cX3_nearOf 42 = .ok (.istore 5, 2) := dk_54 5 (dk_at dksX3_nearOf_1 18 rfl rfl)
theorem dX3_nearOf_44 : decode cX3_nearOf 44 = .ok (.iinc 6 1, 3) := dk_132 6 1 (dk_at dksX3_nearOf_1 20 rfl rfl)
theorem dX3_nearOf_47 : decode cX3_nearOf 47 = .ok (.goto (-35), 3) := dk_167 255 221 (dk_at dksX3_nearOf_2 0 rfl rfl)
theorem dX3_nearOf_50 : decode cX3_nearOf 50 = .ok (.iload 5, 2) := dk_21 5 (dk_at dksX3_nearOf_2 3 rfl rfl)
theorem dX3_nearOf_52 : decode cX3_nearOf 52 = .ok (.ireturn, 1) := dk_172 (dk_at dksX3_nearOf_2 5 rfl rfl)
abbrev cX3_cover : ByteArray := prog_11_method_61_code
def yX3_cover : MethodName := ⟨RX3, "cover", "(I)I"⟩
def dkwX3_cover_0 : List UInt8 := [42, 27, 182, 0, 230, 61, 28, 153, 0, 7, 28, 167, 0, 7, 42, 180, 0, 223, 172]
abbrev dktX3_cover_0 : List UInt8 := dkwX3_cover_0 ++ []
theorem dksX3_cover_0 : cX3_cover.data.toList.drop 0 = dktX3_cover_0 := by decide +kernel
theorem dX3_cover_0 : decode cX3_cover 0 = .ok (.aload_n 0, 1) := dk_42 (dk_at dksX3_cover_0 0 rfl rfl)
theorem dX3_cover_1 : decode cX3_cover 1 = .ok (.iload_n 1, 1) := dk_27 (dk_at dksX3_cover_0 1 rfl rfl)
theorem dX3_cover_2 : decode cX3_cover 2 = .ok (.invokevirtual 230, 3) := dk_182 0 230 (dk_at dksX3_cover_0 2 rfl rfl)
theorem dX3_cover_5 : decode cX3_cover 5 = .ok (.istore_n 2, 1) := dk_61 (dk_at dksX3_cover_0 5 rfl rfl)
theorem dX3_cover_6 : decode cX3_cover 6 = .ok (.iload_n 2, 1) := dk_28 (dk_at dksX3_cover_0 6 rfl rfl)
theorem dX3_cover_7 : decode cX3_cover 7 = .ok (.ifCond .eq 7, 3) := dk_153 0 7 (dk_at dksX3_cover_0 7 rfl rfl)
theorem dX3_cover_10 : decode cX3_cover 10 = .ok (.iload_n 2, 1) := dk_28 (dk_at dksX3_cover_0 10 rfl rfl)
theorem dX3_cover_11 : decode cX3_cover 11 = .ok (.goto 7, 3) := dk_167 0 7 (dk_at dksX3_cover_0 11 rfl rfl)
theorem dX3_cover_14 : decode cX3_cover 14 = .ok (.aload_n 0, 1) := dk_42 (dk_at dksX3_cover_0 14 rfl rfl)
theorem dX3_cover_15 : decode cX3_cover 15 = .ok (.getfield 223, 3) := dk_180 0 223 (dk_at dksX3_cover_0 15 rfl rfl)
theorem dX3_cover_18 : decode cX3_cover 18 = .ok (.ireturn, 1) := dk_172 (dk_at dksX3_cover_0 18 rfl rfl)
abbrev cX3_covers : ByteArray := prog_11_method_60_code
def yX3_covers : MethodName := ⟨RX3, "covers", "(I)I"⟩
def dkwX3_covers_5 : List UInt8 := [32, 181, 0, 226, 32, 10, 97, 65, 167, 255, 194, 3, 172]
abbrev dktX3_covers_5 : List UInt8 := dkwX3_covers_5 ++ []
def dkwX3_covers_4 : List UInt8 := [182, 0, 209, 54, 4, 21, 4, 42, 180, 0, 223, 163, 0, 6, 167, 0, 14, 42, 21, 4, 181, 0, 223, 42]
abbrev dktX3_covers_4 : List UInt8 := dkwX3_covers_4 ++ dktX3_covers_5
def dkwX3_covers_3 : List UInt8 := [180, 0, 67, 27, 46, 184, 0, 11, 148, 156, 0, 48, 42, 27, 42, 27, 32, 3, 182, 0, 214, 3]
abbrev dktX3_covers_3 : List UInt8 := dkwX3_covers_3 ++ dktX3_covers_4
def dkwX3_covers_2 : List UInt8 := [180, 0, 175, 154, 0, 6, 16, 254, 172, 42, 2, 181, 0, 223, 9, 65, 32, 42, 180, 0, 64, 27, 46, 42]
abbrev dktX3_covers_2 : List UInt8 := dkwX3_covers_2 ++ dktX3_covers_3
def dkwX3_covers_1 : List UInt8 := [27, 46, 184, 0, 11, 20, 0, 221, 148, 157, 0, 11, 42, 27, 182, 0, 187, 154, 0, 6, 16, 251, 172, 42]
abbrev dktX3_covers_1 : List UInt8 := dkwX3_covers_1 ++ dktX3_covers_2
def dkwX3_covers_0 : List UInt8 := [42, 27, 182, 0, 184, 153, 0, 9, 42, 27, 182, 0, 184, 172, 42, 180, 0, 64, 27, 46, 42, 180, 0, 67]
abbrev dktX3_covers_0 : List UInt8 := dkwX3_covers_0 ++ dktX3_covers_1
theorem dksX3_covers_0 : cX3_covers.data.toList.drop 0 = dktX3_covers_0 := by decide +kernel
theorem dksX3_covers_1 : cX3_covers.data.toList.drop 24 = dktX3_covers_1 := dk_seg dksX3_covers_0 24 rfl rfl
theorem dksX3_covers_2 : cX3_covers.data.toList.drop 48 = dktX3_covers_2 := dk_seg dksX3_covers_1 24 rfl rfl
theorem dksX3_covers_3 : cX3_covers.data.toList.drop 72 = dktX3_covers_3 := dk_seg dksX3_covers_2 24 rfl rfl
theorem dksX3_covers_4 : cX3_covers.data.toList.drop 94 = dktX3_covers_4 := dk_seg dksX3_covers_3 22 rfl rfl
theorem dksX3_covers_5 : cX3_covers.data.toList.drop 118 = dktX3_covers_5 := dk_seg dksX3_covers_4 24 rfl rfl
theorem dX3_covers_0 : decode cX3_covers 0 = .ok (.aload_n 0, 1) := dk_42 (dk_at dksX3_covers_0 0 rfl rfl)
theorem dX3_covers_1 : decode cX3_covers 1 = .ok (.iload_n 1, 1) := dk_27 (dk_at dksX3_covers_0 1 rfl rfl)
theorem dX3_covers_2 : decode cX3_covers 2 = .ok (.invokevirtual 184, 3) := dk_182 0 184 (dk_at dksX3_covers_0 2 rfl rfl)
theorem dX3_covers_5 : decode cX3_covers 5 = .ok (.ifCond .eq 9, 3) := dk_153 0 9 (dk_at dksX3_covers_0 5 rfl rfl)
theorem dX3_covers_8 : decode cX3_covers 8 = .ok (.aload_n 0, 1) := dk_42 (dk_at dksX3_covers_0 8 rfl rfl)
theorem dX3_covers_9 : decode cX3_covers 9 = .ok (.iload_n 1, 1) := dk_27 (dk_at dksX3_covers_0 9 rfl rfl)
theorem dX3_covers_10 : decode cX3_covers 10 = .ok (.invokevirtual 184, 3) := dk_182 0 184 (dk_at dksX3_covers_0 10 rfl rfl)
theorem dX3_covers_13 : decode cX3_covers 13 = .ok (.ireturn, 1) := dk_172 (dk_at dksX3_covers_0 13 rfl rfl)
theorem dX3_covers_14 : decode cX3_covers 14 = .ok (.aload_n 0, 1) := dk_42 (dk_at dksX3_covers_0 14 rfl rfl)
theorem dX3_covers_15 : decode cX3_covers 15 = .ok (.getfield 64, 3) := dk_180 0 64 (dk_at dksX3_covers_0 15 rfl rfl)
theorem dX3_covers_18 : decode cX3_covers 18 = .ok (.iload_n 1, 1) := dk_27 (dk_at dksX3_covers_0 18 rfl rfl)
theorem dX3_covers_19 : decode cX3_covers 19 = .ok (.iaload, 1) := dk_46 (dk_at dksX3_covers_0 19 rfl rfl)
theorem dX3_covers_20 : decode cX3_covers 20 = .ok (.aload_n 0, 1) := dk_42 (dk_at dksX3_covers_0 20 rfl rfl)
theorem dX3_covers_21 : decode cX3_covers 21 = .ok (.getfield 67, 3) := dk_180 0 67 (dk_at dksX3_covers_0 21 rfl rfl)
theorem dX3_covers_24 : decode cX3_covers 24 = .ok (.iload_n 1, 1) := dk_27 (dk_at dksX3_covers_1 0 rfl rfl)
theorem dX3_covers_25 : decode cX3_covers 25 = .ok (.iaload, 1) := dk_46 (dk_at dksX3_covers_1 1 rfl rfl)
theorem dX3_covers_26 : decode cX3_covers 26 = .ok (.invokestatic 11, 3) := dk_184 0 11 (dk_at dksX3_covers_1 2 rfl rfl)
theorem dX3_covers_29 : decode cX3_covers 29 = .ok (.ldc2_w 221, 3) := dk_20 0 221 (dk_at dksX3_covers_1 5 rfl rfl)
theorem dX3_covers_32 : decode cX3_covers 32 = .ok (.lcmp, 1) := dk_148 (dk_at dksX3_covers_1 8 rfl rfl)
theorem dX3_covers_33 : decode cX3_covers 33 = .ok (.ifCond .gt 11, 3) := dk_157 0 11 (dk_at dksX3_covers_1 9 rfl rfl)
theorem dX3_covers_36 : decode cX3_covers 36 = .ok (.aload_n 0, 1) := dk_42 (dk_at dksX3_covers_1 12 rfl rfl)
theorem dX3_covers_37 : decode cX3_covers 37 = .ok (.iload_n 1, 1) := dk_27 (dk_at dksX3_covers_1 13 rfl rfl)
theorem dX3_covers_38 : decode cX3_covers 38 = .ok (.invokevirtual 187, 3) := dk_182 0 187 (dk_at dksX3_covers_1 14 rfl rfl)
theorem dX3_covers_41 : decode cX3_covers 41 = .ok (.ifCond .ne 6, 3) := dk_154 0 6 (dk_at dksX3_covers_1 17 rfl rfl)
theorem dX3_covers_44 : decode cX3_covers 44 = .ok (.bipush (-5), 2) := dk_16 251 (dk_at dksX3_covers_1 20 rfl rfl)
theorem dX3_covers_46 : decode cX3_covers 46 = .ok (.ireturn, 1) := dk_172 (dk_at dksX3_covers_1 22 rfl rfl)
theorem dX3_covers_47 : decode cX3_covers 47 = .ok (.aload_n 0, 1) := dk_42 (dk_at dksX3_covers_1 23 rfl rfl)
theorem dX3_covers_48 : decode cX3_covers 48 = .ok (.getfield 175, 3) := dk_180 0 175 (dk_at dksX3_covers_2 0 rfl rfl)
theorem dX3_covers_51 : decode cX3_covers 51 = .ok (.ifCond .ne 6, 3) := dk_154 0 6 (dk_at dksX3_covers_2 3 rfl rfl)
theorem dX3_covers_54 : decode cX3_covers 54 = .ok (.bipush (-2), 2) := dk_16 254 (dk_at dksX3_covers_2 6 rfl rfl)
theorem dX3_covers_56 : decode cX3_covers 56 = .ok (.ireturn, 1) := dk_172 (dk_at dksX3_covers_2 8 rfl rfl)
theorem dX3_covers_57 : decode cX3_covers 57 = .ok (.aload_n 0, 1) := dk_42 (dk_at dksX3_covers_2 9 rfl rfl)
theorem dX3_covers_58 : decode cX3_covers 58 = .ok (.iconst (-1), 1) := dk_2 (dk_at dksX3_covers_2 10 rfl rfl)
theorem dX3_covers_59 : decode cX3_covers 59 = .ok (.putfield 223, 3) := dk_181 0 223 (dk_at dksX3_covers_2 11 rfl rfl)
theorem dX3_covers_62 : decode cX3_covers 62 = .ok (.lconst 0, 1) := dk_9 (dk_at dksX3_covers_2 14 rfl rfl)
theorem dX3_covers_63 : decode cX3_covers 63 = .ok (.lstore_n 2, 1) := dk_65 (dk_at dksX3_covers_2 15 rfl rfl)
theorem dX3_covers_64 : decode cX3_covers 64 = .ok (.lload_n 2, 1) := dk_32 (dk_at dksX3_covers_2 16 rfl rfl)
theorem dX3_covers_65 : decode cX3_covers 65 = .ok (.aload_n 0, 1) := dk_42 (dk_at dksX3_covers_2 17 rfl rfl)
theorem dX3_covers_66 : decode cX3_covers 66 = .ok (.getfield 64, 3) := dk_180 0 64 (dk_at dksX3_covers_2 18 rfl rfl)
theorem dX3_covers_69 : decode cX3_covers 69 = .ok (.iload_n 1, 1) := dk_27 (dk_at dksX3_covers_2 21 rfl rfl)
theorem dX3_covers_70 : decode cX3_covers 70 = .ok (.iaload, 1) := dk_46 (dk_at dksX3_covers_2 22 rfl rfl)
theorem dX3_covers_71 : decode cX3_covers 71 = .ok (.aload_n 0, 1) := dk_42 (dk_at dksX3_covers_2 23 rfl rfl)
theorem dX3_covers_72 : decode cX3_covers 72 = .ok (.getfield 67, 3) := dk_180 0 67 (dk_at dksX3_covers_3 0 rfl rfl)
theorem dX3_covers_75 : decode cX3_covers 75 = .ok (.iload_n 1, 1) := dk_27 (dk_at dksX3_covers_3 3 rfl rfl)
theorem dX3_covers_76 : decode cX3_covers 76 = .ok (.iaload, 1) := dk_46 (dk_at dksX3_covers_3 4 rfl rfl)
theorem dX3_covers_77 : decode cX3_covers 77 = .ok (.invokestatic 11, 3) := dk_184 0 11 (dk_at dksX3_covers_3 5 rfl rfl)
theorem dX3_covers_80 : decode cX3_covers 80 = .ok (.lcmp, 1) := dk_148 (dk_at dksX3_covers_3 8 rfl rfl)
theorem dX3_covers_81 : decode cX3_covers 81 = .ok (.ifCond .ge 48, 3) := dk_156 0 48 (dk_at dksX3_covers_3 9 rfl rfl)
theorem dX3_covers_84 : decode cX3_covers 84 = .ok (.aload_n 0, 1) := dk_42 (dk_at dksX3_covers_3 12 rfl rfl)
theorem dX3_covers_85 : decode cX3_covers 85 = .ok (.iload_n 1, 1) := dk_27 (dk_at dksX3_covers_3 13 rfl rfl)
theorem dX3_covers_86 : decode cX3_covers 86 = .ok (.aload_n 0, 1) := dk_42 (dk_at dksX3_covers_3 14 rfl rfl)
theorem dX3_covers_87 : decode cX3_covers 87 = .ok (.iload_n 1, 1) := dk_27 (dk_at dksX3_covers_3 15 rfl rfl)
theorem dX3_covers_88 : decode cX3_covers 88 = .ok (.lload_n 2, 1) := dk_32 (dk_at dksX3_covers_3 16 rfl rfl)
theorem dX3_covers_89 : decode cX3_covers 89 = .ok (.iconst 0, 1) := dk_3 (dk_at dksX3_covers_3 17 rfl rfl)
theorem dX3_covers_90 : decode cX3_covers 90 = .ok (.invokevirtual 214, 3) := dk_182 0 214 (dk_at dksX3_covers_3 18 rfl rfl)
theorem dX3_covers_93 : decode cX3_covers 93 = .ok (.iconst 0, 1) := dk_3 (dk_at dksX3_covers_3 21 rfl rfl)
theorem dX3_covers_94 : decode cX3_covers 94 = .ok (.invokevirtual 209, 3) := dk_182 0 209 (dk_at dksX3_covers_4 0 rfl rfl)
theorem dX3_covers_97 : decode cX3_covers 97 = .ok (.istore 4, 2) := dk_54 4 (dk_at dksX3_covers_4 3 rfl rfl)
theorem dX3_covers_99 : decode cX3_covers 99 = .ok (.iload 4, 2) := dk_21 4 (dk_at dksX3_covers_4 5 rfl rfl)
theorem dX3_covers_101 : decode cX3_covers 101 = .ok (.aload_n 0, 1) := dk_42 (dk_at dksX3_covers_4 7 rfl rfl)
theorem dX3_covers_102 : decode cX3_covers 102 = .ok (.getfield 223, 3) := dk_180 0 223 (dk_at dksX3_covers_4 8 rfl rfl)
theorem dX3_covers_105 : decode cX3_covers 105 = .ok (.if_icmp .gt 6, 3) := dk_163 0 6 (dk_at dksX3_covers_4 11 rfl rfl)
theorem dX3_covers_108 : decode cX3_covers 108 = .ok (.goto 14, 3) := dk_167 0 14 (dk_at dksX3_covers_4 14 rfl rfl)
theorem dX3_covers_111 : decode cX3_covers 111 = .ok (.aload_n 0, 1) := dk_42 (dk_at dksX3_covers_4 17 rfl rfl)
theorem dX3_covers_112 : decode cX3_covers 112 = .ok (.iload 4, 2) := dk_21 4 (dk_at dksX3_covers_4 18 rfl rfl)
theorem dX3_covers_114 : decode cX3_covers 114 = .ok (.putfield 223, 3) := dk_181 0 223 (dk_at dksX3_covers_4 20 rfl rfl)
theorem dX3_covers_117 : decode cX3_covers 117 = .ok (.aload_n 0, 1) := dk_42 (dk_at dksX3_covers_4 23 rfl rfl)
theorem dX3_covers_118 : decode cX3_covers 118 = .ok (.lload_n 2, 1) := dk_32 (dk_at dksX3_covers_5 0 rfl rfl)
theorem dX3_covers_119 : decode cX3_covers 119 = .ok (.putfield 226, 3) := dk_181 0 226 (dk_at dksX3_covers_5 1 rfl rfl)
theorem dX3_covers_122 : decode cX3_covers 122 = .ok (.lload_n 2, 1) := dk_32 (dk_at dksX3_covers_5 4 rfl rfl)
theorem dX3_covers_123 : decode cX3_covers 123 = .ok (.lconst 1, 1) := dk_10 (dk_at dksX3_covers_5 5 rfl rfl)
theorem dX3_covers_124 : decode cX3_covers 124 = .ok (.ladd, 1) := dk_97 (dk_at dksX3_covers_5 6 rfl rfl)
theorem dX3_covers_125 : decode cX3_covers 125 = .ok (.lstore_n 2, 1) := dk_65 (dk_at dksX3_covers_5 7 rfl rfl)
theorem dX3_covers_126 : decode cX3_covers 126 = .ok (.goto (-62), 3) := dk_167 255 194 (dk_at dksX3_covers_5 8 rfl rfl)
theorem dX3_covers_129 : decode cX3_covers 129 = .ok (.iconst 0, 1) := dk_3 (dk_at dksX3_covers_5 11 rfl rfl)
theorem dX3_covers_130 : decode cX3_covers 130 = .ok (.ireturn, 1) := dk_172 (dk_at dksX3_covers_5 12 rfl rfl)
abbrev cX3_hole : ByteArray := prog_11_method_62_code
def yX3_hole : MethodName := ⟨RX3, "hole", "(I)J"⟩
def dkwX3_hole_0 : List UInt8 := [42, 27, 182, 0, 230, 61, 28, 153, 0, 8, 28, 133, 167, 0, 7, 42, 180, 0, 226, 173]
abbrev dktX3_hole_0 : List UInt8 := dkwX3_hole_0 ++ []
theorem dksX3_hole_0 : cX3_hole.data.toList.drop 0 = dktX3_hole_0 := by decide +kernel
theorem dX3_hole_0 : decode cX3_hole 0 = .ok (.aload_n 0, 1) := dk_42 (dk_at dksX3_hole_0 0 rfl rfl)
theorem dX3_hole_1 : decode cX3_hole 1 = .ok (.iload_n 1, 1) := dk_27 (dk_at dksX3_hole_0 1 rfl rfl)
theorem dX3_hole_2 : decode cX3_hole 2 = .ok (.invokevirtual 230, 3) := dk_182 0 230 (dk_at dksX3_hole_0 2 rfl rfl)
theorem dX3_hole_5 : decode cX3_hole 5 = .ok (.istore_n 2, 1) := dk_61 (dk_at dksX3_hole_0 5 rfl rfl)
theorem dX3_hole_6 : decode cX3_hole 6 = .ok (.iload_n 2, 1) := dk_28 (dk_at dksX3_hole_0 6 rfl rfl)
theorem dX3_hole_7 : decode cX3_hole 7 = .ok (.ifCond .eq 8, 3) := dk_153 0 8 (dk_at dksX3_hole_0 7 rfl rfl)
theorem dX3_hole_10 : decode cX3_hole 10 = .ok (.iload_n 2, 1) := dk_28 (dk_at dksX3_hole_0 10 rfl rfl)
theorem dX3_hole_11 : decode cX3_hole 11 = .ok (.i2l, 1) := dk_133 (dk_at dksX3_hole_0 11 rfl rfl)
theorem dX3_hole_12 : decode cX3_hole 12 = .ok (.goto 7, 3) := dk_167 0 7 (dk_at dksX3_hole_0 12 rfl rfl)
theorem dX3_hole_15 : decode cX3_hole 15 = .ok (.aload_n 0, 1) := dk_42 (dk_at dksX3_hole_0 15 rfl rfl)
theorem dX3_hole_16 : decode cX3_hole 16 = .ok (.getfield 226, 3) := dk_180 0 226 (dk_at dksX3_hole_0 16 rfl rfl)
theorem dX3_hole_19 : decode cX3_hole 19 = .ok (.lreturn, 1) := dk_173 (dk_at dksX3_hole_0 19 rfl rfl)
abbrev cX3_whole : ByteArray := prog_11_method_63_code
def yX3_whole : MethodName := ⟨RX3, "whole", "(I)I"⟩
def dkwX3_whole_4 : List UInt8 := [33, 10, 97, 66, 167, 255, 211, 28, 158, 0, 7, 4, 167, 0, 4, 3, 172]
abbrev dktX3_whole_4 : List UInt8 := dkwX3_whole_4 ++ []
def dkwX3_whole_3 : List UInt8 := [156, 0, 31, 28, 158, 0, 27, 42, 27, 33, 28, 4, 100, 5, 108, 182, 0, 218, 4, 159, 0, 5, 3, 172]
abbrev dktX3_whole_3 : List UInt8 := dkwX3_whole_3 ++ dktX3_whole_4
def dkwX3_whole_2 : List UInt8 := [27, 182, 0, 190, 61, 9, 66, 33, 42, 180, 0, 64, 27, 46, 42, 180, 0, 67, 27, 46, 184, 0, 11, 148]
abbrev dktX3_whole_2 : List UInt8 := dkwX3_whole_2 ++ dktX3_whole_3
def dkwX3_whole_1 : List UInt8 := [27, 46, 184, 0, 11, 20, 0, 221, 148, 157, 0, 11, 42, 27, 182, 0, 187, 154, 0, 6, 16, 251, 172, 42]
abbrev dktX3_whole_1 : List UInt8 := dkwX3_whole_1 ++ dktX3_whole_2
def dkwX3_whole_0 : List UInt8 := [42, 27, 182, 0, 184, 153, 0, 9, 42, 27, 182, 0, 184, 172, 42, 180, 0, 64, 27, 46, 42, 180, 0, 67]
abbrev dktX3_whole_0 : List UInt8 := dkwX3_whole_0 ++ dktX3_whole_1
theorem dksX3_whole_0 : cX3_whole.data.toList.drop 0 = dktX3_whole_0 := by decide +kernel
theorem dksX3_whole_1 : cX3_whole.data.toList.drop 24 = dktX3_whole_1 := dk_seg dksX3_whole_0 24 rfl rfl
theorem dksX3_whole_2 : cX3_whole.data.toList.drop 48 = dktX3_whole_2 := dk_seg dksX3_whole_1 24 rfl rfl
theorem dksX3_whole_3 : cX3_whole.data.toList.drop 72 = dktX3_whole_3 := dk_seg dksX3_whole_2 24 rfl rfl
theorem dksX3_whole_4 : cX3_whole.data.toList.drop 96 = dktX3_whole_4 := dk_seg dksX3_whole_3 24 rfl rfl
theorem dX3_whole_0 : decode cX3_whole 0 = .ok (.aload_n 0, 1) := dk_42 (dk_at dksX3_whole_0 0 rfl rfl)
theorem dX3_whole_1 : decode cX3_whole 1 = .ok (.iload_n 1, 1) := dk_27 (dk_at dksX3_whole_0 1 rfl rfl)
theorem dX3_whole_2 : decode cX3_whole 2 = .ok (.invokevirtual 184, 3) := dk_182 0 184 (dk_at dksX3_whole_0 2 rfl rfl)
theorem dX3_whole_5 : decode cX3_whole 5 = .ok (.ifCond .eq 9, 3) := dk_153 0 9 (dk_at dksX3_whole_0 5 rfl rfl)
theorem dX3_whole_8 : decode cX3_whole 8 = .ok (.aload_n 0, 1) := dk_42 (dk_at dksX3_whole_0 8 rfl rfl)
theorem dX3_whole_9 : decode cX3_whole 9 = .ok (.iload_n 1, 1) := dk_27 (dk_at dksX3_whole_0 9 rfl rfl)
theorem dX3_whole_10 : decode cX3_whole 10 = .ok (.invokevirtual 184, 3) := dk_182 0 184 (dk_at dksX3_whole_0 10 rfl rfl)
theorem dX3_whole_13 : decode cX3_whole 13 = .ok (.ireturn, 1) := dk_172 (dk_at dksX3_whole_0 13 rfl rfl)
theorem dX3_whole_14 : decode cX3_whole 14 = .ok (.aload_n 0, 1) := dk_42 (dk_at dksX3_whole_0 14 rfl rfl)
theorem dX3_whole_15 : decode cX3_whole 15 = .ok (.getfield 64, 3) := dk_180 0 64 (dk_at dksX3_whole_0 15 rfl rfl)
theorem dX3_whole_18 : decode cX3_whole 18 = .ok (.iload_n 1, 1) := dk_27 (dk_at dksX3_whole_0 18 rfl rfl)
theorem dX3_whole_19 : decode cX3_whole 19 = .ok (.iaload, 1) := dk_46 (dk_at dksX3_whole_0 19 rfl rfl)
theorem dX3_whole_20 : decode cX3_whole 20 = .ok (.aload_n 0, 1) := dk_42 (dk_at dksX3_whole_0 20 rfl rfl)
theorem dX3_whole_21 : decode cX3_whole 21 = .ok (.getfield 67, 3) := dk_180 0 67 (dk_at dksX3_whole_0 21 rfl rfl)
theorem dX3_whole_24 : decode cX3_whole 24 = .ok (.iload_n 1, 1) := dk_27 (dk_at dksX3_whole_1 0 rfl rfl)
theorem dX3_whole_25 : decode cX3_whole 25 = .ok (.iaload, 1) := dk_46 (dk_at dksX3_whole_1 1 rfl rfl)
theorem dX3_whole_26 : decode cX3_whole 26 = .ok (.invokestatic 11, 3) := dk_184 0 11 (dk_at dksX3_whole_1 2 rfl rfl)
theorem dX3_whole_29 : decode cX3_whole 29 = .ok (.ldc2_w 221, 3) := dk_20 0 221 (dk_at dksX3_whole_1 5 rfl rfl)
theorem dX3_whole_32 : decode cX3_whole 32 = .ok (.lcmp, 1) := dk_148 (dk_at dksX3_whole_1 8 rfl rfl)
theorem dX3_whole_33 : decode cX3_whole 33 = .ok (.ifCond .gt 11, 3) := dk_157 0 11 (dk_at dksX3_whole_1 9 rfl rfl)
theorem dX3_whole_36 : decode cX3_whole 36 = .ok (.aload_n 0, 1) := dk_42 (dk_at dksX3_whole_1 12 rfl rfl)
theorem dX3_whole_37 : decode cX3_whole 37 = .ok (.iload_n 1, 1) := dk_27 (dk_at dksX3_whole_1 13 rfl rfl)
theorem dX3_whole_38 : decode cX3_whole 38 = .ok (.invokevirtual 187, 3) := dk_182 0 187 (dk_at dksX3_whole_1 14 rfl rfl)
theorem dX3_whole_41 : decode cX3_whole 41 = .ok (.ifCond .ne 6, 3) := dk_154 0 6 (dk_at dksX3_whole_1 17 rfl rfl)
theorem dX3_whole_44 : decode cX3_whole 44 = .ok (.bipush (-5), 2) := dk_16 251 (dk_at dksX3_whole_1 20 rfl rfl)
theorem dX3_whole_46 : decode cX3_whole 46 = .ok (.ireturn, 1) := dk_172 (dk_at dksX3_whole_1 22 rfl rfl)
theorem dX3_whole_47 : decode cX3_whole 47 = .ok (.aload_n 0, 1) := dk_42 (dk_at dksX3_whole_1 23 rfl rfl)
theorem dX3_whole_48 : decode cX3_whole 48 = .ok (.iload_n 1, 1) := dk_27 (dk_at dksX3_whole_2 0 rfl rfl)
theorem dX3_whole_49 : decode cX3_whole 49 = .ok (.invokevirtual 190, 3) := dk_182 0 190 (dk_at dksX3_whole_2 1 rfl rfl)
theorem dX3_whole_52 : decode cX3_whole 52 = .ok (.istore_n 2, 1) := dk_61 (dk_at dksX3_whole_2 4 rfl rfl)
theorem dX3_whole_53 : decode cX3_whole 53 = .ok (.lconst 0, 1) := dk_9 (dk_at dksX3_whole_2 5 rfl rfl)
theorem dX3_whole_54 : decode cX3_whole 54 = .ok (.lstore_n 3, 1) := dk_66 (dk_at dksX3_whole_2 6 rfl rfl)
theorem dX3_whole_55 : decode cX3_whole 55 = .ok (.lload_n 3, 1) := dk_33 (dk_at dksX3_whole_2 7 rfl rfl)
theorem dX3_whole_56 : decode cX3_whole 56 = .ok (.aload_n 0, 1) := dk_42 (dk_at dksX3_whole_2 8 rfl rfl)
theorem dX3_whole_57 : decode cX3_whole 57 = .ok (.getfield 64, 3) := dk_180 0 64 (dk_at dksX3_whole_2 9 rfl rfl)
theorem dX3_whole_60 : decode cX3_whole 60 = .ok (.iload_n 1, 1) := dk_27 (dk_at dksX3_whole_2 12 rfl rfl)
theorem dX3_whole_61 : decode cX3_whole 61 = .ok (.iaload, 1) := dk_46 (dk_at dksX3_whole_2 13 rfl rfl)
theorem dX3_whole_62 : decode cX3_whole 62 = .ok (.aload_n 0, 1) := dk_42 (dk_at dksX3_whole_2 14 rfl rfl)
theorem dX3_whole_63 : decode cX3_whole 63 = .ok (.getfield 67, 3) := dk_180 0 67 (dk_at dksX3_whole_2 15 rfl rfl)
theorem dX3_whole_66 : decode cX3_whole 66 = .ok (.iload_n 1, 1) := dk_27 (dk_at dksX3_whole_2 18 rfl rfl)
theorem dX3_whole_67 : decode cX3_whole 67 = .ok (.iaload, 1) := dk_46 (dk_at dksX3_whole_2 19 rfl rfl)
theorem dX3_whole_68 : decode cX3_whole 68 = .ok (.invokestatic 11, 3) := dk_184 0 11 (dk_at dksX3_whole_2 20 rfl rfl)
theorem dX3_whole_71 : decode cX3_whole 71 = .ok (.lcmp, 1) := dk_148 (dk_at dksX3_whole_2 23 rfl rfl)
theorem dX3_whole_72 : decode cX3_whole 72 = .ok (.ifCond .ge 31, 3) := dk_156 0 31 (dk_at dksX3_whole_3 0 rfl rfl)
theorem dX3_whole_75 : decode cX3_whole 75 = .ok (.iload_n 2, 1) := dk_28 (dk_at dksX3_whole_3 3 rfl rfl)
theorem dX3_whole_76 : decode cX3_whole 76 = .ok (.ifCond .le 27, 3) := dk_158 0 27 (dk_at dksX3_whole_3 4 rfl rfl)
theorem dX3_whole_79 : decode cX3_whole 79 = .ok (.aload_n 0, 1) := dk_42 (dk_at dksX3_whole_3 7 rfl rfl)
theorem dX3_whole_80 : decode cX3_whole 80 = .ok (.iload_n 1, 1) := dk_27 (dk_at dksX3_whole_3 8 rfl rfl)
theorem dX3_whole_81 : decode cX3_whole 81 = .ok (.lload_n 3, 1) := dk_33 (dk_at dksX3_whole_3 9 rfl rfl)
theorem dX3_whole_82 : decode cX3_whole 82 = .ok (.iload_n 2, 1) := dk_28 (dk_at dksX3_whole_3 10 rfl rfl)
theorem dX3_whole_83 : decode cX3_whole 83 = .ok (.iconst 1, 1) := dk_4 (dk_at dksX3_whole_3 11 rfl rfl)
theorem dX3_whole_84 : decode cX3_whole 84 = .ok (.isub, 1) := dk_100 (dk_at dksX3_whole_3 12 rfl rfl)
theorem dX3_whole_85 : decode cX3_whole 85 = .ok (.iconst 2, 1) := dk_5 (dk_at dksX3_whole_3 13 rfl rfl)
theorem dX3_whole_86 : decode cX3_whole 86 = .ok (.idiv, 1) := dk_108 (dk_at dksX3_whole_3 14 rfl rfl)
theorem dX3_whole_87 : decode cX3_whole 87 = .ok (.invokevirtual 218, 3) := dk_182 0 218 (dk_at dksX3_whole_3 15 rfl rfl)
theorem dX3_whole_90 : decode cX3_whole 90 = .ok (.iconst 1, 1) := dk_4 (dk_at dksX3_whole_3 18 rfl rfl)
theorem dX3_whole_91 : decode cX3_whole 91 = .ok (.if_icmp .eq 5, 3) := dk_159 0 5 (dk_at dksX3_whole_3 19 rfl rfl)
theorem dX3_whole_94 : decode cX3_whole 94 = .ok (.iconst 0, 1) := dk_3 (dk_at dksX3_whole_3 22 rfl rfl)
theorem dX3_whole_95 : decode cX3_whole 95 = .ok (.ireturn, 1) := dk_172 (dk_at dksX3_whole_3 23 rfl rfl)
theorem dX3_whole_96 : decode cX3_whole 96 = .ok (.lload_n 3, 1) := dk_33 (dk_at dksX3_whole_4 0 rfl rfl)
theorem dX3_whole_97 : decode cX3_whole 97 = .ok (.lconst 1, 1) := dk_10 (dk_at dksX3_whole_4 1 rfl rfl)
theorem dX3_whole_98 : decode cX3_whole 98 = .ok (.ladd, 1) := dk_97 (dk_at dksX3_whole_4 2 rfl rfl)
theorem dX3_whole_99 : decode cX3_whole 99 = .ok (.lstore_n 3, 1) := dk_66 (dk_at dksX3_whole_4 3 rfl rfl)
theorem dX3_whole_100 : decode cX3_whole 100 = .ok (.goto (-45), 3) := dk_167 255 211 (dk_at dksX3_whole_4 4 rfl rfl)
theorem dX3_whole_103 : decode cX3_whole 103 = .ok (.iload_n 2, 1) := dk_28 (dk_at dksX3_whole_4 7 rfl rfl)
theorem dX3_whole_104 : decode cX3_whole 104 = .ok (.ifCond .le 7, 3) := dk_158 0 7 (dk_at dksX3_whole_4 8 rfl rfl)
theorem dX3_whole_107 : decode cX3_whole 107 = .ok (.iconst 1, 1) := dk_4 (dk_at dksX3_whole_4 11 rfl rfl)
theorem dX3_whole_108 : decode cX3_whole 108 = .ok (.goto 4, 3) := dk_167 0 4 (dk_at dksX3_whole_4 12 rfl rfl)
theorem dX3_whole_111 : decode cX3_whole 111 = .ok (.iconst 0, 1) := dk_3 (dk_at dksX3_whole_4 15 rfl rfl)
theorem dX3_whole_112 : decode cX3_whole 112 = .ok (.ireturn, 1) := dk_172 (dk_at dksX3_whole_4 16 rfl rfl)
abbrev cX3_longer : ByteArray := prog_11_method_66_code
def yX3_longer : MethodName := ⟨RX3, "longer", "(II)I"⟩
def dkwX3_longer_7 : List UInt8 := [27, 182, 0, 236, 29, 42, 180, 0, 67, 27, 46, 4, 96, 182, 0, 239, 172]
abbrev dktX3_longer_7 : List UInt8 := dkwX3_longer_7 ++ []
def dkwX3_longer_6 : List UInt8 := [104, 21, 4, 96, 47, 105, 29, 21, 5, 184, 0, 148, 133, 97, 80, 132, 4, 1, 167, 255, 157, 42, 28, 42]
abbrev dktX3_longer_6 : List UInt8 := dkwX3_longer_6 ++ dktX3_longer_7
def dkwX3_longer_5 : List UInt8 := [54, 5, 132, 6, 1, 167, 255, 209, 42, 180, 0, 99, 21, 4, 29, 133, 42, 180, 0, 73, 17, 0, 200, 27]
abbrev dktX3_longer_5 : List UInt8 := dkwX3_longer_5 ++ dktX3_longer_6
def dkwX3_longer_4 : List UInt8 := [27, 46, 42, 180, 0, 73, 17, 0, 200, 27, 104, 21, 4, 96, 47, 21, 6, 184, 0, 15, 184, 0, 19]
abbrev dktX3_longer_4 : List UInt8 := dkwX3_longer_4 ++ dktX3_longer_5
def dkwX3_longer_3 : List UInt8 := [54, 5, 3, 54, 6, 21, 6, 42, 180, 0, 67, 27, 46, 162, 0, 42, 29, 21, 5, 29, 42, 180, 0, 67]
abbrev dktX3_longer_3 : List UInt8 := dkwX3_longer_3 ++ dktX3_longer_4
def dkwX3_longer_2 : List UInt8 := [42, 42, 180, 0, 70, 27, 46, 181, 0, 233, 3, 54, 4, 21, 4, 42, 180, 0, 233, 162, 0, 96, 3]
abbrev dktX3_longer_2 : List UInt8 := dkwX3_longer_2 ++ dktX3_longer_3
def dkwX3_longer_1 : List UInt8 := [16, 245, 172, 42, 180, 0, 67, 27, 46, 16, 12, 160, 0, 6, 16, 250, 172, 42, 180, 0, 64, 27, 46, 62]
abbrev dktX3_longer_1 : List UInt8 := dkwX3_longer_1 ++ dktX3_longer_2
def dkwX3_longer_0 : List UInt8 := [27, 184, 0, 119, 153, 0, 10, 28, 184, 0, 119, 154, 0, 5, 2, 172, 42, 27, 182, 0, 127, 153, 0, 6]
abbrev dktX3_longer_0 : List UInt8 := dkwX3_longer_0 ++ dktX3_longer_1
theorem dksX3_longer_0 : cX3_longer.data.toList.drop 0 = dktX3_longer_0 := by decide +kernel
theorem dksX3_longer_1 : cX3_longer.data.toList.drop 24 = dktX3_longer_1 := dk_seg dksX3_longer_0 24 rfl rfl
theorem dksX3_longer_2 : cX3_longer.data.toList.drop 48 = dktX3_longer_2 := dk_seg dksX3_longer_1 24 rfl rfl
theorem dksX3_longer_3 : cX3_longer.data.toList.drop 71 = dktX3_longer_3 := dk_seg dksX3_longer_2 23 rfl rfl
theorem dksX3_longer_4 : cX3_longer.data.toList.drop 95 = dktX3_longer_4 := dk_seg dksX3_longer_3 24 rfl rfl
theorem dksX3_longer_5 : cX3_longer.data.toList.drop 118 = dktX3_longer_5 := dk_seg dksX3_longer_4 23 rfl rfl
theorem dksX3_longer_6 : cX3_longer.data.toList.drop 142 = dktX3_longer_6 := dk_seg dksX3_longer_5 24 rfl rfl
theorem dksX3_longer_7 : cX3_longer.data.toList.drop 166 = dktX3_longer_7 := dk_seg dksX3_longer_6 24 rfl rfl
theorem dX3_longer_0 : decode cX3_longer 0 = .ok (.iload_n 1, 1) := dk_27 (dk_at dksX3_longer_0 0 rfl rfl)
theorem dX3_longer_1 : decode cX3_longer 1 = .ok (.invokestatic 119, 3) := dk_184 0 119 (dk_at dksX3_longer_0 1 rfl rfl)
theorem dX3_longer_4 : decode cX3_longer 4 = .ok (.ifCond .eq 10, 3) := dk_153 0 10 (dk_at dksX3_longer_0 4 rfl rfl)
theorem dX3_longer_7 : decode cX3_longer 7 = .ok (.iload_n 2, 1) := dk_28 (dk_at dksX3_longer_0 7 rfl rfl)
theorem dX3_longer_8 : decode cX3_longer 8 = .ok (.invokestatic 119, 3) := dk_184 0 119 (dk_at dksX3_longer_0 8 rfl rfl)
theorem dX3_longer_11 : decode cX3_longer 11 = .ok (.ifCond .ne 5, 3) := dk_154 0 5 (dk_at dksX3_longer_0 11 rfl rfl)
theorem dX3_longer_14 : decode cX3_longer 14 = .ok (.iconst (-1), 1) := dk_2 (dk_at dksX3_longer_0 14 rfl rfl)
theorem dX3_longer_15 : decode cX3_longer 15 = .ok (.ireturn, 1) := dk_172 (dk_at dksX3_longer_0 15 rfl rfl)
theorem dX3_longer_16 : decode cX3_longer 16 = .ok (.aload_n 0, 1) := dk_42 (dk_at dksX3_longer_0 16 rfl rfl)
theorem dX3_longer_17 : decode cX3_longer 17 = .ok (.iload_n 1, 1) := dk_27 (dk_at dksX3_longer_0 17 rfl rfl)
theorem dX3_longer_18 : decode cX3_longer 18 = .ok (.invokevirtual 127, 3) := dk_182 0 127 (dk_at dksX3_longer_0 18 rfl rfl)
theorem dX3_longer_21 : decode cX3_longer 21 = .ok (.ifCond .eq 6, 3) := dk_153 0 6 (dk_at dksX3_longer_0 21 rfl rfl)
theorem dX3_longer_24 : decode cX3_longer 24 = .ok (.bipush (-11), 2) := dk_16 245 (dk_at dksX3_longer_1 0 rfl rfl)
theorem dX3_longer_26 : decode cX3_longer 26 = .ok (.ireturn, 1) := dk_172 (dk_at dksX3_longer_1 2 rfl rfl)
theorem dX3_longer_27 : decode cX3_longer 27 = .ok (.aload_n 0, 1) := dk_42 (dk_at dksX3_longer_1 3 rfl rfl)
theorem dX3_longer_28 : decode cX3_longer 28 = .ok (.getfield 67, 3) := dk_180 0 67 (dk_at dksX3_longer_1 4 rfl rfl)
theorem dX3_longer_31 : decode cX3_longer 31 = .ok (.iload_n 1, 1) := dk_27 (dk_at dksX3_longer_1 7 rfl rfl)
theorem dX3_longer_32 : decode cX3_longer 32 = .ok (.iaload, 1) := dk_46 (dk_at dksX3_longer_1 8 rfl rfl)
theorem dX3_longer_33 : decode cX3_longer 33 = .ok (.bipush 12, 2) := dk_16 12 (dk_at dksX3_longer_1 9 rfl rfl)
theorem dX3_longer_35 : decode cX3_longer 35 = .ok (.if_icmp .ne 6, 3) := dk_160 0 6 (dk_at dksX3_longer_1 11 rfl rfl)
theorem dX3_longer_38 : decode cX3_longer 38 = .ok (.bipush (-6), 2) := dk_16 250 (dk_at dksX3_longer_1 14 rfl rfl)
theorem dX3_longer_40 : decode cX3_longer 40 = .ok (.ireturn, 1) := dk_172 (dk_at dksX3_longer_1 16 rfl rfl)
theorem dX3_longer_41 : decode cX3_longer 41 = .ok (.aload_n 0, 1) := dk_42 (dk_at dksX3_longer_1 17 rfl rfl)
theorem dX3_longer_42 : decode cX3_longer 42 = .ok (.getfield 64, 3) := dk_180 0 64 (dk_at dksX3_longer_1 18 rfl rfl)
theorem dX3_longer_45 : decode cX3_longer 45 = .ok (.iload_n 1, 1) := dk_27 (dk_at dksX3_longer_1 21 rfl rfl)
theorem dX3_longer_46 : decode cX3_longer 46 = .ok (.iaload, 1) := dk_46 (dk_at dksX3_longer_1 22 rfl rfl)
theorem dX3_longer_47 : decode cX3_longer 47 = .ok (.istore_n 3, 1) := dk_62 (dk_at dksX3_longer_1 23 rfl rfl)
theorem dX3_longer_48 : decode cX3_longer 48 = .ok (.aload_n 0, 1) := dk_42 (dk_at dksX3_longer_2 0 rfl rfl)
theorem dX3_longer_49 : decode cX3_longer 49 = .ok (.aload_n 0, 1) := dk_42 (dk_at dksX3_longer_2 1 rfl rfl)
theorem dX3_longer_50 : decode cX3_longer 50 = .ok (.getfield 70, 3) := dk_180 0 70 (dk_at dksX3_longer_2 2 rfl rfl)
theorem dX3_longer_53 : decode cX3_longer 53 = .ok (.iload_n 1, 1) := dk_27 (dk_at dksX3_longer_2 5 rfl rfl)
theorem dX3_longer_54 : decode cX3_longer 54 = .ok (.iaload, 1) := dk_46 (dk_at dksX3_longer_2 6 rfl rfl)
theorem dX3_longer_55 : decode cX3_longer 55 = .ok (.putfield 233, 3) := dk_181 0 233 (dk_at dksX3_longer_2 7 rfl rfl)
theorem dX3_longer_58 : decode cX3_longer 58 = .ok (.iconst 0, 1) := dk_3 (dk_at dksX3_longer_2 10 rfl rfl)
theorem dX3_longer_59 : decode cX3_longer 59 = .ok (.istore 4, 2) := dk_54 4 (dk_at dksX3_longer_2 11 rfl rfl)
theorem dX3_longer_61 : decode cX3_longer 61 = .ok (.iload 4, 2) := dk_21 4 (dk_at dksX3_longer_2 13 rfl rfl)
theorem dX3_longer_63 : decode cX3_longer 63 = .ok (.aload_n 0, 1) := dk_42 (dk_at dksX3_longer_2 15 rfl rfl)
theorem dX3_longer_64 : decode cX3_longer 64 = .ok (.getfield 233, 3) := dk_180 0 233 (dk_at dksX3_longer_2 16 rfl rfl)
theorem dX3_longer_67 : decode cX3_longer 67 = .ok (.if_icmp .ge 96, 3) := dk_162 0 96 (dk_at dksX3_longer_2 19 rfl rfl)
theorem dX3_longer_70 : decode cX3_longer 70 = .ok (.iconst 0, 1) := dk_3 (dk_at dksX3_longer_2 22 rfl rfl)
theorem dX3_longer_71 : decode cX3_longer 71 = .ok (.istore 5, 2) := dk_54 5 (dk_at dksX3_longer_3 0 rfl rfl)
theorem dX3_longer_73 : decode cX3_longer 73 = .ok (.iconst 0, 1) := dk_3 (dk_at dksX3_longer_3 2 rfl rfl)
theorem dX3_longer_74 : decode cX3_longer 74 = .ok (.istore 6, 2) := dk_54 6 (dk_at dksX3_longer_3 3 rfl rfl)
theorem dX3_longer_76 : decode cX3_longer 76 = .ok (.iload 6, 2) := dk_21 6 (dk_at dksX3_longer_3 5 rfl rfl)
theorem dX3_longer_78 : decode cX3_longer 78 = .ok (.aload_n 0, 1) := dk_42 (dk_at dksX3_longer_3 7 rfl rfl)
theorem dX3_longer_79 : decode cX3_longer 79 = .ok (.getfield 67, 3) := dk_180 0 67 (dk_at dksX3_longer_3 8 rfl rfl)
theorem dX3_longer_82 : decode cX3_longer 82 = .ok (.iload_n 1, 1) := dk_27 (dk_at dksX3_longer_3 11 rfl rfl)
theorem dX3_longer_83 : decode cX3_longer 83 = .ok (.iaload, 1) := dk_46 (dk_at dksX3_longer_3 12 rfl rfl)
theorem dX3_longer_84 : decode cX3_longer 84 = .ok (.if_icmp .ge 42, 3) := dk_162 0 42 (dk_at dksX3_longer_3 13 rfl rfl)
theorem dX3_longer_87 : decode cX3_longer 87 = .ok (.iload_n 3, 1) := dk_29 (dk_at dksX3_longer_3 16 rfl rfl)
theorem dX3_longer_88 : decode cX3_longer 88 = .ok (.iload 5, 2) := dk_21 5 (dk_at dksX3_longer_3 17 rfl rfl)
theorem dX3_longer_90 : decode cX3_longer 90 = .ok (.iload_n 3, 1) := dk_29 (dk_at dksX3_longer_3 19 rfl rfl)
theorem dX3_longer_91 : decode cX3_longer 91 = .ok (.aload_n 0, 1) := dk_42 (dk_at dksX3_longer_3 20 rfl rfl)
theorem dX3_longer_92 : decode cX3_longer 92 = .ok (.getfield 67, 3) := dk_180 0 67 (dk_at dksX3_longer_3 21 rfl rfl)
theorem dX3_longer_95 : decode cX3_longer 95 = .ok (.iload_n 1, 1) := dk_27 (dk_at dksX3_longer_4 0 rfl rfl)
theorem dX3_longer_96 : decode cX3_longer 96 = .ok (.iaload, 1) := dk_46 (dk_at dksX3_longer_4 1 rfl rfl)
theorem dX3_longer_97 : decode cX3_longer 97 = .ok (.aload_n 0, 1) := dk_42 (dk_at dksX3_longer_4 2 rfl rfl)
theorem dX3_longer_98 : decode cX3_longer 98 = .ok (.getfield 73, 3) := dk_180 0 73 (dk_at dksX3_longer_4 3 rfl rfl)
theorem dX3_longer_101 : decode cX3_longer 101 = .ok (.sipush 200, 3) := dk_17 0 200 (dk_at dksX3_longer_4 6 rfl rfl)
theorem dX3_longer_104 : decode cX3_longer 104 = .ok (.iload_n 1, 1) := dk_27 (dk_at dksX3_longer_4 9 rfl rfl)
theorem dX3_longer_105 : decode cX3_longer 105 = .ok (.imul, 1) := dk_104 (dk_at dksX3_longer_4 10 rfl rfl)
theorem dX3_longer_106 : decode cX3_longer 106 = .ok (.iload 4, 2) := dk_21 4 (dk_at dksX3_longer_4 11 rfl rfl)
theorem dX3_longer_108 : decode cX3_longer 108 = .ok (.iadd, 1) := dk_96 (dk_at dksX3_longer_4 13 rfl rfl)
theorem dX3_longer_109 : decode cX3_longer 109 = .ok (.laload, 1) := dk_47 (dk_at dksX3_longer_4 14 rfl rfl)
theorem dX3_longer_110 : decode cX3_longer 110 = .ok (.iload 6, 2) := dk_21 6 (dk_at dksX3_longer_4 15 rfl rfl)
theorem dX3_longer_112 : decode cX3_longer 112 = .ok (.invokestatic 15, 3) := dk_184 0 15 (dk_at dksX3_longer_4 17 rfl rfl)
theorem dX3_longer_115 : decode cX3_longer 115 = .ok (.invokestatic 19, 3) := dk_184 0 19 (dk_at dksX3_longer_4 20 rfl rfl)
theorem dX3_longer_118 : decode cX3_longer 118 = .ok (.istore 5, 2) := dk_54 5 (dk_at dksX3_longer_5 0 rfl rfl)
theorem dX3_longer_120 : decode cX3_longer 120 = .ok (.iinc 6 1, 3) := dk_132 6 1 (dk_at dksX3_longer_5 2 rfl rfl)
theorem dX3_longer_123 : decode cX3_longer 123 = .ok (.goto (-47), 3) := dk_167 255 209 (dk_at dksX3_longer_5 5 rfl rfl)
theorem dX3_longer_126 : decode cX3_longer 126 = .ok (.aload_n 0, 1) := dk_42 (dk_at dksX3_longer_5 8 rfl rfl)
theorem dX3_longer_127 : decode cX3_longer 127 = .ok (.getfield 99, 3) := dk_180 0 99 (dk_at dksX3_longer_5 9 rfl rfl)
theorem dX3_longer_130 : decode cX3_longer 130 = .ok (.iload 4, 2) := dk_21 4 (dk_at dksX3_longer_5 12 rfl rfl)
theorem dX3_longer_132 : decode cX3_longer 132 = .ok (.iload_n 3, 1) := dk_29 (dk_at dksX3_longer_5 14 rfl rfl)
theorem dX3_longer_133 : decode cX3_longer 133 = .ok (.i2l, 1) := dk_133 (dk_at dksX3_longer_5 15 rfl rfl)
theorem dX3_longer_134 : decode cX3_longer 134 = .ok (.aload_n 0, 1) := dk_42 (dk_at dksX3_longer_5 16 rfl rfl)
theorem dX3_longer_135 : decode cX3_longer 135 = .ok (.getfield 73, 3) := dk_180 0 73 (dk_at dksX3_longer_5 17 rfl rfl)
theorem dX3_longer_138 : decode cX3_longer 138 = .ok (.sipush 200, 3) := dk_17 0 200 (dk_at dksX3_longer_5 20 rfl rfl)
theorem dX3_longer_141 : decode cX3_longer 141 = .ok (.iload_n 1, 1) := dk_27 (dk_at dksX3_longer_5 23 rfl rfl)
theorem dX3_longer_142 : decode cX3_longer 142 = .ok (.imul, 1) := dk_104 (dk_at dksX3_longer_6 0 rfl rfl)
theorem dX3_longer_143 : decode cX3_longer 143 = .ok (.iload 4, 2) := dk_21 4 (dk_at dksX3_longer_6 1 rfl rfl)
theorem dX3_longer_145 : decode cX3_longer 145 = .ok (.iadd, 1) := dk_96 (dk_at dksX3_longer_6 3 rfl rfl)
theorem dX3_longer_146 : decode cX3_longer 146 = .ok (.laload, 1) := dk_47 (dk_at dksX3_longer_6 4 rfl rfl)
theorem dX3_longer_147 : decode cX3_longer 147 = .ok (.lmul, 1) := dk_105 (dk_at dksX3_longer_6 5 rfl rfl)
theorem dX3_longer_148 : decode cX3_longer 148 = .ok (.iload_n 3, 1) := dk_29 (dk_at dksX3_longer_6 6 rfl rfl)
theorem dX3_longer_149 : decode cX3_longer 149 = .ok (.iload 5, 2) := dk_21 5 (dk_at dksX3_longer_6 7 rfl rfl)
theorem dX3_longer_151 : decode cX3_longer 151 = .ok (.invokestatic 148, 3) := dk_184 0 148 (dk_at dksX3_longer_6 9 rfl rfl)
theorem dX3_longer_154 : decode cX3_longer 154 = .ok (.i2l, 1) := dk_133 (dk_at dksX3_longer_6 12 rfl rfl)
theorem dX3_longer_155 : decode cX3_longer 155 = .ok (.ladd, 1) := dk_97 (dk_at dksX3_longer_6 13 rfl rfl)
theorem dX3_longer_156 : decode cX3_longer 156 = .ok (.lastore, 1) := dk_80 (dk_at dksX3_longer_6 14 rfl rfl)
theorem dX3_longer_157 : decode cX3_longer 157 = .ok (.iinc 4 1, 3) := dk_132 4 1 (dk_at dksX3_longer_6 15 rfl rfl)
theorem dX3_longer_160 : decode cX3_longer 160 = .ok (.goto (-99), 3) := dk_167 255 157 (dk_at dksX3_longer_6 18 rfl rfl)
theorem dX3_longer_163 : decode cX3_longer 163 = .ok (.aload_n 0, 1) := dk_42 (dk_at dksX3_longer_6 21 rfl rfl)
theorem dX3_longer_164 : decode cX3_longer 164 = .ok (.iload_n 2, 1) := dk_28 (dk_at dksX3_longer_6 22 rfl rfl)
theorem dX3_longer_165 : decode cX3_longer 165 = .ok (.aload_n 0, 1) := dk_42 (dk_at dksX3_longer_6 23 rfl rfl)
theorem dX3_longer_166 : decode cX3_longer 166 = .ok (.iload_n 1, 1) := dk_27 (dk_at dksX3_longer_7 0 rfl rfl)
theorem dX3_longer_167 : decode cX3_longer 167 = .ok (.invokevirtual 236, 3) := dk_182 0 236 (dk_at dksX3_longer_7 1 rfl rfl)
theorem dX3_longer_170 : decode cX3_longer 170 = .ok (.iload_n 3, 1) := dk_29 (dk_at dksX3_longer_7 4 rfl rfl)
theorem dX3_longer_171 : decode cX3_longer 171 = .ok (.aload_n 0, 1) := dk_42 (dk_at dksX3_longer_7 5 rfl rfl)
theorem dX3_longer_172 : decode cX3_longer 172 = .ok (.getfield 67, 3) := dk_180 0 67 (dk_at dksX3_longer_7 6 rfl rfl)
theorem dX3_longer_175 : decode cX3_longer 175 = .ok (.iload_n 1, 1) := dk_27 (dk_at dksX3_longer_7 9 rfl rfl)
theorem dX3_longer_176 : decode cX3_longer 176 = .ok (.iaload, 1) := dk_46 (dk_at dksX3_longer_7 10 rfl rfl)
theorem dX3_longer_177 : decode cX3_longer 177 = .ok (.iconst 1, 1) := dk_4 (dk_at dksX3_longer_7 11 rfl rfl)
theorem dX3_longer_178 : decode cX3_longer 178 = .ok (.iadd, 1) := dk_96 (dk_at dksX3_longer_7 12 rfl rfl)
theorem dX3_longer_179 : decode cX3_longer 179 = .ok (.invokevirtual 239, 3) := dk_182 0 239 (dk_at dksX3_longer_7 13 rfl rfl)
theorem dX3_longer_182 : decode cX3_longer 182 = .ok (.ireturn, 1) := dk_172 (dk_at dksX3_longer_7 16 rfl rfl)
abbrev cX3_lineOr : ByteArray := prog_11_method_65_code
def yX3_lineOr : MethodName := ⟨RX3, "lineOr", "(I)I"⟩
def dkwX3_lineOr_0 : List UInt8 := [42, 180, 0, 60, 27, 46, 154, 0, 7, 3, 167, 0, 4, 4, 172]
abbrev dktX3_lineOr_0 : List UInt8 := dkwX3_lineOr_0 ++ []
theorem dksX3_lineOr_0 : cX3_lineOr.data.toList.drop 0 = dktX3_lineOr_0 := by decide +kernel
theorem dX3_lineOr_0 : decode cX3_lineOr 0 = .ok (.aload_n 0, 1) := dk_42 (dk_at dksX3_lineOr_0 0 rfl rfl)
theorem dX3_lineOr_1 : decode cX3_lineOr 1 = .ok (.getfield 60, 3) := dk_180 0 60 (dk_at dksX3_lineOr_0 1 rfl rfl)
theorem dX3_lineOr_4 : decode cX3_lineOr 4 = .ok (.iload_n 1, 1) := dk_27 (dk_at dksX3_lineOr_0 4 rfl rfl)
theorem dX3_lineOr_5 : decode cX3_lineOr 5 = .ok (.iaload, 1) := dk_46 (dk_at dksX3_lineOr_0 5 rfl rfl)
theorem dX3_lineOr_6 : decode cX3_lineOr 6 = .ok (.ifCond .ne 7, 3) := dk_154 0 7 (dk_at dksX3_lineOr_0 6 rfl rfl)
theorem dX3_lineOr_9 : decode cX3_lineOr 9 = .ok (.iconst 0, 1) := dk_3 (dk_at dksX3_lineOr_0 9 rfl rfl)
theorem dX3_lineOr_10 : decode cX3_lineOr 10 = .ok (.goto 4, 3) := dk_167 0 4 (dk_at dksX3_lineOr_0 10 rfl rfl)
theorem dX3_lineOr_13 : decode cX3_lineOr 13 = .ok (.iconst 1, 1) := dk_4 (dk_at dksX3_lineOr_0 13 rfl rfl)
theorem dX3_lineOr_14 : decode cX3_lineOr 14 = .ok (.ireturn, 1) := dk_172 (dk_at dksX3_lineOr_0 14 rfl rfl)
abbrev cX3_comes : ByteArray := prog_11_method_64_code
def yX3_comes : MethodName := ⟨RX3, "comes", "(IIII)I"⟩
def dkwX3_comes_1 : List UInt8 := [180, 0, 99, 21, 5, 47, 182, 0, 138, 54, 6, 132, 5, 1, 167, 255, 230, 42, 180, 0, 233, 172]
abbrev dktX3_comes_1 : List UInt8 := dkwX3_comes_1 ++ []
def dkwX3_comes_0 : List UInt8 := [42, 27, 28, 29, 21, 4, 182, 0, 123, 3, 54, 5, 21, 5, 42, 180, 0, 233, 162, 0, 23, 42, 27, 42]
abbrev dktX3_comes_0 : List UInt8 := dkwX3_comes_0 ++ dktX3_comes_1
theorem dksX3_comes_0 : cX3_comes.data.toList.drop 0 = dktX3_comes_0 := by decide +kernel
theorem dksX3_comes_1 : cX3_comes.data.toList.drop 24 = dktX3_comes_1 := dk_seg dksX3_comes_0 24 rfl rfl
theorem dX3_comes_0 : decode cX3_comes 0 = .ok (.aload_n 0, 1) := dk_42 (dk_at dksX3_comes_0 0 rfl rfl)
theorem dX3_comes_1 : decode cX3_comes 1 = .ok (.iload_n 1, 1) := dk_27 (dk_at dksX3_comes_0 1 rfl rfl)
theorem dX3_comes_2 : decode cX3_comes 2 = .ok (.iload_n 2, 1) := dk_28 (dk_at dksX3_comes_0 2 rfl rfl)
theorem dX3_comes_3 : decode cX3_comes 3 = .ok (.iload_n 3, 1) := dk_29 (dk_at dksX3_comes_0 3 rfl rfl)
theorem dX3_comes_4 : decode cX3_comes 4 = .ok (.iload 4, 2) := dk_21 4 (dk_at dksX3_comes_0 4 rfl rfl)
theorem dX3_comes_6 : decode cX3_comes 6 = .ok (.invokevirtual 123, 3) := dk_182 0 123 (dk_at dksX3_comes_0 6 rfl rfl)
theorem dX3_comes_9 : decode cX3_comes 9 = .ok (.iconst 0, 1) := dk_3 (dk_at dksX3_comes_0 9 rfl rfl)
theorem dX3_comes_10 : decode cX3_comes 10 = .ok (.istore 5, 2) := dk_54 5 (dk_at dksX3_comes_0 10 rfl rfl)
theorem dX3_comes_12 : decode cX3_comes 12 = .ok (.iload 5, 2) := dk_21 5 (dk_at dksX3_comes_0 12 rfl rfl)
theorem dX3_comes_14 : decode cX3_comes 14 = .ok (.aload_n 0, 1) := dk_42 (dk_at dksX3_comes_0 14 rfl rfl)
theorem dX3_comes_15 : decode cX3_comes 15 = .ok (.getfield 233, 3) := dk_180 0 233 (dk_at dksX3_comes_0 15 rfl rfl)
theorem dX3_comes_18 : decode cX3_comes 18 = .ok (.if_icmp .ge 23, 3) := dk_162 0 23 (dk_at dksX3_comes_0 18 rfl rfl)
theorem dX3_comes_21 : decode cX3_comes 21 = .ok (.aload_n 0, 1) := dk_42 (dk_at dksX3_comes_0 21 rfl rfl)
theorem dX3_comes_22 : decode cX3_comes 22 = .ok (.iload_n 1, 1) := dk_27 (dk_at dksX3_comes_0 22 rfl rfl)
theorem dX3_comes_23 : decode cX3_comes 23 = .ok (.aload_n 0, 1) := dk_42 (dk_at dksX3_comes_0 23 rfl rfl)
theorem dX3_comes_24 : decode cX3_comes 24 = .ok (.getfield 99, 3) := dk_180 0 99 (dk_at dksX3_comes_1 0 rfl rfl)
theorem dX3_comes_27 : decode cX3_comes 27 = .ok (.iload 5, 2) := dk_21 5 (dk_at dksX3_comes_1 3 rfl rfl)
theorem dX3_comes_29 : decode cX3_comes 29 = .ok (.laload, 1) := dk_47 (dk_at dksX3_comes_1 5 rfl rfl)
theorem dX3_comes_30 : decode cX3_comes 30 = .ok (.invokevirtual 138, 3) := dk_182 0 138 (dk_at dksX3_comes_1 6 rfl rfl)
theorem dX3_comes_33 : decode cX3_comes 33 = .ok (.istore 6, 2) := dk_54 6 (dk_at dksX3_comes_1 9 rfl rfl)
theorem dX3_comes_35 : decode cX3_comes 35 = .ok (.iinc 5 1, 3) := dk_132 5 1 (dk_at dksX3_comes_1 11 rfl rfl)
theorem dX3_comes_38 : decode cX3_comes 38 = .ok (.goto (-26), 3) := dk_167 255 230 (dk_at dksX3_comes_1 14 rfl rfl)
theorem dX3_comes_41 : decode cX3_comes 41 = .ok (.aload_n 0, 1) := dk_42 (dk_at dksX3_comes_1 17 rfl rfl)
theorem dX3_comes_42 : decode cX3_comes 42 = .ok (.getfield 233, 3) := dk_180 0 233 (dk_at dksX3_comes_1 18 rfl rfl)
theorem dX3_comes_45 : decode cX3_comes 45 = .ok (.ireturn, 1) := dk_172 (dk_at dksX3_comes_1 21 rfl rfl)
abbrev cX3_cut : ByteArray := prog_11_method_70_code
def yX3_cut : MethodName := ⟨RX3, "cut", "(III)I"⟩
def dkwX3_cut_4 : List UInt8 := [182, 0, 236, 42, 180, 0, 64, 27, 46, 42, 180, 0, 67, 27, 46, 4, 100, 182, 0, 239, 172]
abbrev dktX3_cut_4 : List UInt8 := dkwX3_cut_4 ++ []
def dkwX3_cut_3 : List UInt8 := [46, 154, 0, 7, 4, 167, 0, 4, 3, 182, 0, 250, 132, 4, 1, 167, 255, 195, 42, 29, 42, 27]
abbrev dktX3_cut_3 : List UInt8 := dkwX3_cut_3 ++ dktX3_cut_4
def dkwX3_cut_2 : List UInt8 := [27, 46, 42, 180, 0, 73, 17, 0, 200, 27, 104, 21, 4, 96, 47, 28, 184, 0, 246, 42, 180, 0, 60, 27]
abbrev dktX3_cut_2 : List UInt8 := dkwX3_cut_2 ++ dktX3_cut_3
def dkwX3_cut_1 : List UInt8 := [54, 4, 21, 4, 42, 180, 0, 70, 27, 46, 162, 0, 56, 42, 42, 180, 0, 64, 27, 46, 42, 180, 0, 67]
abbrev dktX3_cut_1 : List UInt8 := dkwX3_cut_1 ++ dktX3_cut_2
def dkwX3_cut_0 : List UInt8 := [42, 27, 28, 29, 182, 0, 243, 153, 0, 11, 42, 27, 28, 29, 182, 0, 243, 172, 42, 3, 181, 0, 233, 3]
abbrev dktX3_cut_0 : List UInt8 := dkwX3_cut_0 ++ dktX3_cut_1
theorem dksX3_cut_0 : cX3_cut.data.toList.drop 0 = dktX3_cut_0 := by decide +kernel
theorem dksX3_cut_1 : cX3_cut.data.toList.drop 24 = dktX3_cut_1 := dk_seg dksX3_cut_0 24 rfl rfl
theorem dksX3_cut_2 : cX3_cut.data.toList.drop 48 = dktX3_cut_2 := dk_seg dksX3_cut_1 24 rfl rfl
theorem dksX3_cut_3 : cX3_cut.data.toList.drop 72 = dktX3_cut_3 := dk_seg dksX3_cut_2 24 rfl rfl
theorem dksX3_cut_4 : cX3_cut.data.toList.drop 94 = dktX3_cut_4 := dk_seg dksX3_cut_3 22 rfl rfl
theorem dX3_cut_0 : decode cX3_cut 0 = .ok (.aload_n 0, 1) := dk_42 (dk_at dksX3_cut_0 0 rfl rfl)
theorem dX3_cut_1 : decode cX3_cut 1 = .ok (.iload_n 1, 1) := dk_27 (dk_at dksX3_cut_0 1 rfl rfl)
theorem dX3_cut_2 : decode cX3_cut 2 = .ok (.iload_n 2, 1) := dk_28 (dk_at dksX3_cut_0 2 rfl rfl)
theorem dX3_cut_3 : decode cX3_cut 3 = .ok (.iload_n 3, 1) := dk_29 (dk_at dksX3_cut_0 3 rfl rfl)
theorem dX3_cut_4 : decode cX3_cut 4 = .ok (.invokevirtual 243, 3) := dk_182 0 243 (dk_at dksX3_cut_0 4 rfl rfl)
theorem dX3_cut_7 : decode cX3_cut 7 = .ok (.ifCond .eq 11, 3) := dk_153 0 11 (dk_at dksX3_cut_0 7 rfl rfl)
theorem dX3_cut_10 : decode cX3_cut 10 = .ok (.aload_n 0, 1) := dk_42 (dk_at dksX3_cut_0 10 rfl rfl)
theorem dX3_cut_11 : decode cX3_cut 11 = .ok (.iload_n 1, 1) := dk_27 (dk_at dksX3_cut_0 11 rfl rfl)
theorem dX3_cut_12 : decode cX3_cut 12 = .ok (.iload_n 2, 1) := dk_28 (dk_at dksX3_cut_0 12 rfl rfl)
theorem dX3_cut_13 : decode cX3_cut 13 = .ok (.iload_n 3, 1) := dk_29 (dk_at dksX3_cut_0 13 rfl rfl)
theorem dX3_cut_14 : decode cX3_cut 14 = .ok (.invokevirtual 243, 3) := dk_182 0 243 (dk_at dksX3_cut_0 14 rfl rfl)
theorem dX3_cut_17 : decode cX3_cut 17 = .ok (.ireturn, 1) := dk_172 (dk_at dksX3_cut_0 17 rfl rfl)
theorem dX3_cut_18 : decode cX3_cut 18 = .ok (.aload_n 0, 1) := dk_42 (dk_at dksX3_cut_0 18 rfl rfl)
theorem dX3_cut_19 : decode cX3_cut 19 = .ok (.iconst 0, 1) := dk_3 (dk_at dksX3_cut_0 19 rfl rfl)
theorem dX3_cut_20 : decode cX3_cut 20 = .ok (.putfield 233, 3) := dk_181 0 233 (dk_at dksX3_cut_0 20 rfl rfl)
theorem dX3_cut_23 : decode cX3_cut 23 = .ok (.iconst 0, 1) := dk_3 (dk_at dksX3_cut_0 23 rfl rfl)
theorem dX3_cut_24 : decode cX3_cut 24 = .ok (.istore 4, 2) := dk_54 4 (dk_at dksX3_cut_1 0 rfl rfl)
theorem dX3_cut_26 : decode cX3_cut 26 = .ok (.iload 4, 2) := dk_21 4 (dk_at dksX3_cut_1 2 rfl rfl)
theorem dX3_cut_28 : decode cX3_cut 28 = .ok (.aload_n 0, 1) := dk_42 (dk_at dksX3_cut_1 4 rfl rfl)
theorem dX3_cut_29 : decode cX3_cut 29 = .ok (.getfield 70, 3) := dk_180 0 70 (dk_at dksX3_cut_1 5 rfl rfl)
theorem dX3_cut_32 : decode cX3_cut 32 = .ok (.iload_n 1, 1) := dk_27 (dk_at dksX3_cut_1 8 rfl rfl)
theorem dX3_cut_33 : decode cX3_cut 33 = .ok (.iaload, 1) := dk_46 (dk_at dksX3_cut_1 9 rfl rfl)
theorem dX3_cut_34 : decode cX3_cut 34 = .ok (.if_icmp .ge 56, 3) := dk_162 0 56 (dk_at dksX3_cut_1 10 rfl rfl)
theorem dX3_cut_37 : decode cX3_cut 37 = .ok (.aload_n 0, 1) := dk_42 (dk_at dksX3_cut_1 13 rfl rfl)
theorem dX3_cut_38 : decode cX3_cut 38 = .ok (.aload_n 0, 1) := dk_42 (dk_at dksX3_cut_1 14 rfl rfl)
theorem dX3_cut_39 : decode cX3_cut 39 = .ok (.getfield 64, 3) := dk_180 0 64 (dk_at dksX3_cut_1 15 rfl rfl)
theorem dX3_cut_42 : decode cX3_cut 42 = .ok (.iload_n 1, 1) := dk_27 (dk_at dksX3_cut_1 18 rfl rfl)
theorem dX3_cut_43 : decode cX3_cut 43 = .ok (.iaload, 1) := dk_46 (dk_at dksX3_cut_1 19 rfl rfl)
theorem dX3_cut_44 : decode cX3_cut 44 = .ok (.aload_n 0, 1) := dk_42 (dk_at dksX3_cut_1 20 rfl rfl)
theorem dX3_cut_45 : decode cX3_cut 45 = .ok (.getfield 67, 3) := dk_180 0 67 (dk_at dksX3_cut_1 21 rfl rfl)
theorem dX3_cut_48 : decode cX3_cut 48 = .ok (.iload_n 1, 1) := dk_27 (dk_at dksX3_cut_2 0 rfl rfl)
theorem dX3_cut_49 : decode cX3_cut 49 = .ok (.iaload, 1) := dk_46 (dk_at dksX3_cut_2 1 rfl rfl)
theorem dX3_cut_50 : decode cX3_cut 50 = .ok (.aload_n 0, 1) := dk_42 (dk_at dksX3_cut_2 2 rfl rfl)
theorem dX3_cut_51 : decode cX3_cut 51 = .ok (.getfield 73, 3) := dk_180 0 73 (dk_at dksX3_cut_2 3 rfl rfl)
theorem dX3_cut_54 : decode cX3_cut 54 = .ok (.sipush 200, 3) := dk_17 0 200 (dk_at dksX3_cut_2 6 rfl rfl)
theorem dX3_cut_57 : decode cX3_cut 57 = .ok (.iload_n 1, 1) := dk_27 (dk_at dksX3_cut_2 9 rfl rfl)
theorem dX3_cut_58 : decode cX3_cut 58 = .ok (.imul, 1) := dk_104 (dk_at dksX3_cut_2 10 rfl rfl)
theorem dX3_cut_59 : decode cX3_cut 59 = .ok (.iload 4, 2) := dk_21 4 (dk_at dksX3_cut_2 11 rfl rfl)
theorem dX3_cut_61 : decode cX3_cut 61 = .ok (.iadd, 1) := dk_96 (dk_at dksX3_cut_2 13 rfl rfl)
theorem dX3_cut_62 : decode cX3_cut 62 = .ok (.laload, 1) := dk_47 (dk_at dksX3_cut_2 14 rfl rfl)
theorem dX3_cut_63 : decode cX3_cut 63 = .ok (.iload_n 2, 1) := dk_28 (dk_at dksX3_cut_2 15 rfl rfl)
theorem dX3_cut_64 : decode cX3_cut 64 = .ok (.invokestatic 246, 3) := dk_184 0 246 (dk_at dksX3_cut_2 16 rfl rfl)
theorem dX3_cut_67 : decode cX3_cut 67 = .ok (.aload_n 0, 1) := dk_42 (dk_at dksX3_cut_2 19 rfl rfl)
theorem dX3_cut_68 : decode cX3_cut 68 = .ok (.getfield 60, 3) := dk_180 0 60 (dk_at dksX3_cut_2 20 rfl rfl)
theorem dX3_cut_71 : decode cX3_cut 71 = .ok (.iload_n 1, 1) := dk_27 (dk_at dksX3_cut_2 23 rfl rfl)
theorem dX3_cut_72 : decode cX3_cut 72 = .ok (.iaload, 1) := dk_46 (dk_at dksX3_cut_3 0 rfl rfl)
theorem dX3_cut_73 : decode cX3_cut 73 = .ok (.ifCond .ne 7, 3) := dk_154 0 7 (dk_at dksX3_cut_3 1 rfl rfl)
theorem dX3_cut_76 : decode cX3_cut 76 = .ok (.iconst 1, 1) := dk_4 (dk_at dksX3_cut_3 4 rfl rfl)
theorem dX3_cut_77 : decode cX3_cut 77 = .ok (.goto 4, 3) := dk_167 0 4 (dk_at dksX3_cut_3 5 rfl rfl)
theorem dX3_cut_80 : decode cX3_cut 80 = .ok (.iconst 0, 1) := dk_3 (dk_at dksX3_cut_3 8 rfl rfl)
theorem dX3_cut_81 : decode cX3_cut 81 = .ok (.invokevirtual 250, 3) := dk_182 0 250 (dk_at dksX3_cut_3 9 rfl rfl)
theorem dX3_cut_84 : decode cX3_cut 84 = .ok (.iinc 4 1, 3) := dk_132 4 1 (dk_at dksX3_cut_3 12 rfl rfl)
theorem dX3_cut_87 : decode cX3_cut 87 = .ok (.goto (-61), 3) := dk_167 255 195 (dk_at dksX3_cut_3 15 rfl rfl)
theorem dX3_cut_90 : decode cX3_cut 90 = .ok (.aload_n 0, 1) := dk_42 (dk_at dksX3_cut_3 18 rfl rfl)
theorem dX3_cut_91 : decode cX3_cut 91 = .ok (.iload_n 3, 1) := dk_29 (dk_at dksX3_cut_3 19 rfl rfl)
theorem dX3_cut_92 : decode cX3_cut 92 = .ok (.aload_n 0, 1) := dk_42 (dk_at dksX3_cut_3 20 rfl rfl)
theorem dX3_cut_93 : decode cX3_cut 93 = .ok (.iload_n 1, 1) := dk_27 (dk_at dksX3_cut_3 21 rfl rfl)
theorem dX3_cut_94 : decode cX3_cut 94 = .ok (.invokevirtual 236, 3) := dk_182 0 236 (dk_at dksX3_cut_4 0 rfl rfl)
theorem dX3_cut_97 : decode cX3_cut 97 = .ok (.aload_n 0, 1) := dk_42 (dk_at dksX3_cut_4 3 rfl rfl)
theorem dX3_cut_98 : decode cX3_cut 98 = .ok (.getfield 64, 3) := dk_180 0 64 (dk_at dksX3_cut_4 4 rfl rfl)
theorem dX3_cut_101 : decode cX3_cut 101 = .ok (.iload_n 1, 1) := dk_27 (dk_at dksX3_cut_4 7 rfl rfl)
theorem dX3_cut_102 : decode cX3_cut 102 = .ok (.iaload, 1) := dk_46 (dk_at dksX3_cut_4 8 rfl rfl)
theorem dX3_cut_103 : decode cX3_cut 103 = .ok (.aload_n 0, 1) := dk_42 (dk_at dksX3_cut_4 9 rfl rfl)
theorem dX3_cut_104 : decode cX3_cut 104 = .ok (.getfield 67, 3) := dk_180 0 67 (dk_at dksX3_cut_4 10 rfl rfl)
theorem dX3_cut_107 : decode cX3_cut 107 = .ok (.iload_n 1, 1) := dk_27 (dk_at dksX3_cut_4 13 rfl rfl)
theorem dX3_cut_108 : decode cX3_cut 108 = .ok (.iaload, 1) := dk_46 (dk_at dksX3_cut_4 14 rfl rfl)
theorem dX3_cut_109 : decode cX3_cut 109 = .ok (.iconst 1, 1) := dk_4 (dk_at dksX3_cut_4 15 rfl rfl)
theorem dX3_cut_110 : decode cX3_cut 110 = .ok (.isub, 1) := dk_100 (dk_at dksX3_cut_4 16 rfl rfl)
theorem dX3_cut_111 : decode cX3_cut 111 = .ok (.invokevirtual 239, 3) := dk_182 0 239 (dk_at dksX3_cut_4 17 rfl rfl)
theorem dX3_cut_114 : decode cX3_cut 114 = .ok (.ireturn, 1) := dk_172 (dk_at dksX3_cut_4 20 rfl rfl)
abbrev cX3_lacksPlace : ByteArray := prog_11_method_69_code
def yX3_lacksPlace : MethodName := ⟨RX3, "lacksPlace", "(III)I"⟩
def dkwX3_lacksPlace_2 : List UInt8 := [133, 184, 0, 26, 154, 0, 7, 2, 167, 0, 4, 3, 172]
abbrev dktX3_lacksPlace_2 : List UInt8 := dkwX3_lacksPlace_2 ++ []
def dkwX3_lacksPlace_1 : List UInt8 := [16, 245, 172, 42, 180, 0, 67, 27, 46, 4, 159, 0, 21, 28, 133, 9, 42, 180, 0, 67, 27, 46, 4, 100]
abbrev dktX3_lacksPlace_1 : List UInt8 := dkwX3_lacksPlace_1 ++ dktX3_lacksPlace_2
def dkwX3_lacksPlace_0 : List UInt8 := [27, 184, 0, 119, 153, 0, 10, 29, 184, 0, 119, 154, 0, 5, 2, 172, 42, 27, 182, 0, 127, 153, 0, 6]
abbrev dktX3_lacksPlace_0 : List UInt8 := dkwX3_lacksPlace_0 ++ dktX3_lacksPlace_1
theorem dksX3_lacksPlace_0 : cX3_lacksPlace.data.toList.drop 0 = dktX3_lacksPlace_0 := by decide +kernel
theorem dksX3_lacksPlace_1 : cX3_lacksPlace.data.toList.drop 24 = dktX3_lacksPlace_1 := dk_seg dksX3_lacksPlace_0 24 rfl rfl
theorem dksX3_lacksPlace_2 : cX3_lacksPlace.data.toList.drop 48 = dktX3_lacksPlace_2 := dk_seg dksX3_lacksPlace_1 24 rfl rfl
theorem dX3_lacksPlace_0 : decode cX3_lacksPlace 0 = .ok (.iload_n 1, 1) := dk_27 (dk_at dksX3_lacksPlace_0 0 rfl rfl)
theorem dX3_lacksPlace_1 : decode cX3_lacksPlace 1 = .ok (.invokestatic 119, 3) := dk_184 0 119 (dk_at dksX3_lacksPlace_0 1 rfl rfl)
theorem dX3_lacksPlace_4 : decode cX3_lacksPlace 4 = .ok (.ifCond .eq 10, 3) := dk_153 0 10 (dk_at dksX3_lacksPlace_0 4 rfl rfl)
theorem dX3_lacksPlace_7 : decode cX3_lacksPlace 7 = .ok (.iload_n 3, 1) := dk_29 (dk_at dksX3_lacksPlace_0 7 rfl rfl)
theorem dX3_lacksPlace_8 : decode cX3_lacksPlace 8 = .ok (.invokestatic 119, 3) := dk_184 0 119 (dk_at dksX3_lacksPlace_0 8 rfl rfl)
theorem dX3_lacksPlace_11 : decode cX3_lacksPlace 11 = .ok (.ifCond .ne 5, 3) := dk_154 0 5 (dk_at dksX3_lacksPlace_0 11 rfl rfl)
theorem dX3_lacksPlace_14 : decode cX3_lacksPlace 14 = .ok (.iconst (-1), 1) := dk_2 (dk_at dksX3_lacksPlace_0 14 rfl rfl)
theorem dX3_lacksPlace_15 : decode cX3_lacksPlace 15 = .ok (.ireturn, 1) := dk_172 (dk_at dksX3_lacksPlace_0 15 rfl rfl)
theorem dX3_lacksPlace_16 : decode cX3_lacksPlace 16 = .ok (.aload_n 0, 1) := dk_42 (dk_at dksX3_lacksPlace_0 16 rfl rfl)
theorem dX3_lacksPlace_17 : decode cX3_lacksPlace 17 = .ok (.iload_n 1, 1) := dk_27 (dk_at dksX3_lacksPlace_0 17 rfl rfl)
theorem dX3_lacksPlace_18 : decode cX3_lacksPlace 18 = .ok (.invokevirtual 127, 3) := dk_182 0 127 (dk_at dksX3_lacksPlace_0 18 rfl rfl)
theorem dX3_lacksPlace_21 : decode cX3_lacksPlace 21 = .ok (.ifCond .eq 6, 3) := dk_153 0 6 (dk_at dksX3_lacksPlace_0 21 rfl rfl)
theorem dX3_lacksPlace_24 : decode cX3_lacksPlace 24 = .ok (.bipush (-11), 2) := dk_16 245 (dk_at dksX3_lacksPlace_1 0 rfl rfl)
theorem dX3_lacksPlace_26 : decode cX3_lacksPlace 26 = .ok (.ireturn, 1) := dk_172 (dk_at dksX3_lacksPlace_1 2 rfl rfl)
theorem dX3_lacksPlace_27 : decode cX3_lacksPlace 27 = .ok (.aload_n 0, 1) := dk_42 (dk_at dksX3_lacksPlace_1 3 rfl rfl)
theorem dX3_lacksPlace_28 : decode cX3_lacksPlace 28 = .ok (.getfield 67, 3) := dk_180 0 67 (dk_at dksX3_lacksPlace_1 4 rfl rfl)
theorem dX3_lacksPlace_31 : decode cX3_lacksPlace 31 = .ok (.iload_n 1, 1) := dk_27 (dk_at dksX3_lacksPlace_1 7 rfl rfl)
theorem dX3_lacksPlace_32 : decode cX3_lacksPlace 32 = .ok (.iaload, 1) := dk_46 (dk_at dksX3_lacksPlace_1 8 rfl rfl)
theorem dX3_lacksPlace_33 : decode cX3_lacksPlace 33 = .ok (.iconst 1, 1) := dk_4 (dk_at dksX3_lacksPlace_1 9 rfl rfl)
theorem dX3_lacksPlace_34 : decode cX3_lacksPlace 34 = .ok (.if_icmp .eq 21, 3) := dk_159 0 21 (dk_at dksX3_lacksPlace_1 10 rfl rfl)
theorem dX3_lacksPlace_37 : decode cX3_lacksPlace 37 = .ok (.iload_n 2, 1) := dk_28 (dk_at dksX3_lacksPlace_1 13 rfl rfl)
theorem dX3_lacksPlace_38 : decode cX3_lacksPlace 38 = .ok (.i2l, 1) := dk_133 (dk_at dksX3_lacksPlace_1 14 rfl rfl)
theorem dX3_lacksPlace_39 : decode cX3_lacksPlace 39 = .ok (.lconst 0, 1) := dk_9 (dk_at dksX3_lacksPlace_1 15 rfl rfl)
theorem dX3_lacksPlace_40 : decode cX3_lacksPlace 40 = .ok (.aload_n 0, 1) := dk_42 (dk_at dksX3_lacksPlace_1 16 rfl rfl)
theorem dX3_lacksPlace_41 : decode cX3_lacksPlace 41 = .ok (.getfield 67, 3) := dk_180 0 67 (dk_at dksX3_lacksPlace_1 17 rfl rfl)
theorem dX3_lacksPlace_44 : decode cX3_lacksPlace 44 = .ok (.iload_n 1, 1) := dk_27 (dk_at dksX3_lacksPlace_1 20 rfl rfl)
theorem dX3_lacksPlace_45 : decode cX3_lacksPlace 45 = .ok (.iaload, 1) := dk_46 (dk_at dksX3_lacksPlace_1 21 rfl rfl)
theorem dX3_lacksPlace_46 : decode cX3_lacksPlace 46 = .ok (.iconst 1, 1) := dk_4 (dk_at dksX3_lacksPlace_1 22 rfl rfl)
theorem dX3_lacksPlace_47 : decode cX3_lacksPlace 47 = .ok (.isub, 1) := dk_100 (dk_at dksX3_lacksPlace_1 23 rfl rfl)
theorem dX3_lacksPlace_48 : decode cX3_lacksPlace 48 = .ok (.i2l, 1) := dk_133 (dk_at dksX3_lacksPlace_2 0 rfl rfl)
theorem dX3_lacksPlace_49 : decode cX3_lacksPlace 49 = .ok (.invokestatic 26, 3) := dk_184 0 26 (dk_at dksX3_lacksPlace_2 1 rfl rfl)
theorem dX3_lacksPlace_52 : decode cX3_lacksPlace 52 = .ok (.ifCond .ne 7, 3) := dk_154 0 7 (dk_at dksX3_lacksPlace_2 4 rfl rfl)
theorem dX3_lacksPlace_55 : decode cX3_lacksPlace 55 = .ok (.iconst (-1), 1) := dk_2 (dk_at dksX3_lacksPlace_2 7 rfl rfl)
theorem dX3_lacksPlace_56 : decode cX3_lacksPlace 56 = .ok (.goto 4, 3) := dk_167 0 4 (dk_at dksX3_lacksPlace_2 8 rfl rfl)
theorem dX3_lacksPlace_59 : decode cX3_lacksPlace 59 = .ok (.iconst 0, 1) := dk_3 (dk_at dksX3_lacksPlace_2 11 rfl rfl)
theorem dX3_lacksPlace_60 : decode cX3_lacksPlace 60 = .ok (.ireturn, 1) := dk_172 (dk_at dksX3_lacksPlace_2 12 rfl rfl)
abbrev cX3_without : ByteArray := prog_11_method_67_code
def yX3_without : MethodName := ⟨RX3, "without", "(IIJI)J"⟩
def dkwX3_without_1 : List UInt8 := [22, 5, 113, 97, 173]
abbrev dktX3_without_1 : List UInt8 := dkwX3_without_1 ++ []
def dkwX3_without_0 : List UInt8 := [26, 27, 4, 100, 21, 4, 100, 184, 0, 11, 55, 5, 32, 22, 5, 26, 133, 105, 109, 22, 5, 105, 32]
abbrev dktX3_without_0 : List UInt8 := dkwX3_without_0 ++ dktX3_without_1
theorem dksX3_without_0 : cX3_without.data.toList.drop 0 = dktX3_without_0 := by decide +kernel
theorem dksX3_without_1 : cX3_without.data.toList.drop 23 = dktX3_without_1 := dk_seg dksX3_without_0 23 rfl rfl
theorem dX3_without_0 : decode cX3_without 0 = .ok (.iload_n 0, 1) := dk_26 (dk_at dksX3_without_0 0 rfl rfl)
theorem dX3_without_1 : decode cX3_without 1 = .ok (.iload_n 1, 1) := dk_27 (dk_at dksX3_without_0 1 rfl rfl)
theorem dX3_without_2 : decode cX3_without 2 = .ok (.iconst 1, 1) := dk_4 (dk_at dksX3_without_0 2 rfl rfl)
theorem dX3_without_3 : decode cX3_without 3 = .ok (.isub, 1) := dk_100 (dk_at dksX3_without_0 3 rfl rfl)
theorem dX3_without_4 : decode cX3_without 4 = .ok (.iload 4, 2) := dk_21 4 (dk_at dksX3_without_0 4 rfl rfl)
theorem dX3_without_6 : decode cX3_without 6 = .ok (.isub, 1) := dk_100 (dk_at dksX3_without_0 6 rfl rfl)
theorem dX3_without_7 : decode cX3_without 7 = .ok (.invokestatic 11, 3) := dk_184 0 11 (dk_at dksX3_without_0 7 rfl rfl)
theorem dX3_without_10 : decode cX3_without 10 = .ok (.lstore 5, 2) := dk_55 5 (dk_at dksX3_without_0 10 rfl rfl)
theorem dX3_without_12 : decode cX3_without 12 = .ok (.lload_n 2, 1) := dk_32 (dk_at dksX3_without_0 12 rfl rfl)
theorem dX3_without_13 : decode cX3_without 13 = .ok (.lload 5, 2) := dk_22 5 (dk_at dksX3_without_0 13 rfl rfl)
theorem dX3_without_15 : decode cX3_without 15 = .ok (.iload_n 0, 1) := dk_26 (dk_at dksX3_without_0 15 rfl rfl)
theorem dX3_without_16 : decode cX3_without 16 = .ok (.i2l, 1) := dk_133 (dk_at dksX3_without_0 16 rfl rfl)
theorem dX3_without_17 : decode cX3_without 17 = .ok (.lmul, 1) := dk_105 (dk_at dksX3_without_0 17 rfl rfl)
theorem dX3_without_18 : decode cX3_without 18 = .ok (.ldiv, 1) := dk_109 (dk_at dksX3_without_0 18 rfl rfl)
theorem dX3_without_19 : decode cX3_without 19 = .ok (.lload 5, 2) := dk_22 5 (dk_at dksX3_without_0 19 rfl rfl)
theorem dX3_without_21 : decode cX3_without 21 = .ok (.lmul, 1) := dk_105 (dk_at dksX3_without_0 21 rfl rfl)
theorem dX3_without_22 : decode cX3_without 22 = .ok (.lload_n 2, 1) := dk_32 (dk_at dksX3_without_0 22 rfl rfl)
theorem dX3_without_23 : decode cX3_without 23 = .ok (.lload 5, 2) := dk_22 5 (dk_at dksX3_without_1 0 rfl rfl)
theorem dX3_without_25 : decode cX3_without 25 = .ok (.lrem, 1) := dk_113 (dk_at dksX3_without_1 2 rfl rfl)
theorem dX3_without_26 : decode cX3_without 26 = .ok (.ladd, 1) := dk_97 (dk_at dksX3_without_1 3 rfl rfl)
theorem dX3_without_27 : decode cX3_without 27 = .ok (.lreturn, 1) := dk_173 (dk_at dksX3_without_1 4 rfl rfl)
abbrev cX3_asideOnce : ByteArray := prog_11_method_68_code
def yX3_asideOnce : MethodName := ⟨RX3, "asideOnce", "(JZ)V"⟩
def dkwX3_asideOnce_2 : List UInt8 := [180, 0, 233, 4, 96, 181, 0, 233, 177]
abbrev dktX3_asideOnce_2 : List UInt8 := dkwX3_asideOnce_2 ++ []
def dkwX3_asideOnce_1 : List UInt8 := [148, 154, 0, 4, 177, 132, 4, 1, 167, 255, 227, 42, 180, 0, 99, 42, 180, 0, 233, 31, 80, 42, 89]
abbrev dktX3_asideOnce_1 : List UInt8 := dkwX3_asideOnce_1 ++ dktX3_asideOnce_2
def dkwX3_asideOnce_0 : List UInt8 := [3, 54, 4, 21, 4, 42, 180, 0, 233, 162, 0, 26, 29, 153, 0, 22, 42, 180, 0, 99, 21, 4, 47, 31]
abbrev dktX3_asideOnce_0 : List UInt8 := dkwX3_asideOnce_0 ++ dktX3_asideOnce_1
theorem dksX3_asideOnce_0 : cX3_asideOnce.data.toList.drop 0 = dktX3_asideOnce_0 := by decide +kernel
theorem dksX3_asideOnce_1 : cX3_asideOnce.data.toList.drop 24 = dktX3_asideOnce_1 := dk_seg dksX3_asideOnce_0 24 rfl rfl
theorem dksX3_asideOnce_2 : cX3_asideOnce.data.toList.drop 47 = dktX3_asideOnce_2 := dk_seg dksX3_asideOnce_1 23 rfl rfl
theorem dX3_asideOnce_0 : decode cX3_asideOnce 0 = .ok (.iconst 0, 1) := dk_3 (dk_at dksX3_asideOnce_0 0 rfl rfl)
theorem dX3_asideOnce_1 : decode cX3_asideOnce 1 = .ok (.istore 4, 2) := dk_54 4 (dk_at dksX3_asideOnce_0 1 rfl rfl)
theorem dX3_asideOnce_3 : decode cX3_asideOnce 3 = .ok (.iload 4, 2) := dk_21 4 (dk_at dksX3_asideOnce_0 3 rfl rfl)
theorem dX3_asideOnce_5 : decode cX3_asideOnce 5 = .ok (.aload_n 0, 1) := dk_42 (dk_at dksX3_asideOnce_0 5 rfl rfl)
theorem dX3_asideOnce_6 : decode cX3_asideOnce 6 = .ok (.getfield 233, 3) := dk_180 0 233 (dk_at dksX3_asideOnce_0 6 rfl rfl)
theorem dX3_asideOnce_9 : decode cX3_asideOnce 9 = .ok (.if_icmp .ge 26, 3) := dk_162 0 26 (dk_at dksX3_asideOnce_0 9 rfl rfl)
theorem dX3_asideOnce_12 : decode cX3_asideOnce 12 = .ok (.iload_n 3, 1) := dk_29 (dk_at dksX3_asideOnce_0 12 rfl rfl)
theorem dX3_asideOnce_13 : decode cX3_asideOnce 13 = .ok (.ifCond .eq 22, 3) := dk_153 0 22 (dk_at dksX3_asideOnce_0 13 rfl rfl)
theorem dX3_asideOnce_16 : decode cX3_asideOnce 16 = .ok (.aload_n 0, 1) := dk_42 (dk_at dksX3_asideOnce_0 16 rfl rfl)
theorem dX3_asideOnce_17 : decode cX3_asideOnce 17 = .ok (.getfield 99, 3) := dk_180 0 99 (dk_at dksX3_asideOnce_0 17 rfl rfl)
theorem dX3_asideOnce_20 : decode cX3_asideOnce 20 = .ok (.iload 4, 2) := dk_21 4 (dk_at dksX3_asideOnce_0 20 rfl rfl)
theorem dX3_asideOnce_22 : decode cX3_asideOnce 22 = .ok (.laload, 1) := dk_47 (dk_at dksX3_asideOnce_0 22 rfl rfl)
theorem dX3_asideOnce_23 : decode cX3_asideOnce 23 = .ok (.lload_n 1, 1) := dk_31 (dk_at dksX3_asideOnce_0 23 rfl rfl)
theorem dX3_asideOnce_24 : decode cX3_asideOnce 24 = .ok (.lcmp, 1) := dk_148 (dk_at dksX3_asideOnce_1 0 rfl rfl)
theorem dX3_asideOnce_25 : decode cX3_asideOnce 25 = .ok (.ifCond .ne 4, 3) := dk_154 0 4 (dk_at dksX3_asideOnce_1 1 rfl rfl)
theorem dX3_asideOnce_28 : decode cX3_asideOnce 28 = .ok (.return_, 1) := dk_177 (dk_at dksX3_asideOnce_1 4 rfl rfl)
theorem dX3_asideOnce_29 : decode cX3_asideOnce 29 = .ok (.iinc 4 1, 3) := dk_132 4 1 (dk_at dksX3_asideOnce_1 5 rfl rfl)
theorem dX3_asideOnce_32 : decode cX3_asideOnce 32 = .ok (.goto (-29), 3) := dk_167 255 227 (dk_at dksX3_asideOnce_1 8 rfl rfl)
theorem dX3_asideOnce_35 : decode cX3_asideOnce 35 = .ok (.aload_n 0, 1) := dk_42 (dk_at dksX3_asideOnce_1 11 rfl rfl)
theorem dX3_asideOnce_36 : decode cX3_asideOnce 36 = .ok (.getfield 99, 3) := dk_180 0 99 (dk_at dksX3_asideOnce_1 12 rfl rfl)
theorem dX3_asideOnce_39 : decode cX3_asideOnce 39 = .ok (.aload_n 0, 1) := dk_42 (dk_at dksX3_asideOnce_1 15 rfl rfl)
theorem dX3_asideOnce_40 : decode cX3_asideOnce 40 = .ok (.getfield 233, 3) := dk_180 0 233 (dk_at dksX3_asideOnce_1 16 rfl rfl)
theorem dX3_asideOnce_43 : decode cX3_asideOnce 43 = .ok (.lload_n 1, 1) := dk_31 (dk_at dksX3_asideOnce_1 19 rfl rfl)
theorem dX3_asideOnce_44 : decode cX3_asideOnce 44 = .ok (.lastore, 1) := dk_80 (dk_at dksX3_asideOnce_1 20 rfl rfl)
theorem dX3_asideOnce_45 : decode cX3_asideOnce 45 = .ok (.aload_n 0, 1) := dk_42 (dk_at dksX3_asideOnce_1 21 rfl rfl)
theorem dX3_asideOnce_46 : decode cX3_asideOnce 46 = .ok (.dup, 1) := dk_89 (dk_at dksX3_asideOnce_1 22 rfl rfl)
theorem dX3_asideOnce_47 : decode cX3_asideOnce 47 = .ok (.getfield 233, 3) := dk_180 0 233 (dk_at dksX3_asideOnce_2 0 rfl rfl)
theorem dX3_asideOnce_50 : decode cX3_asideOnce 50 = .ok (.iconst 1, 1) := dk_4 (dk_at dksX3_asideOnce_2 3 rfl rfl)
theorem dX3_asideOnce_51 : decode cX3_asideOnce 51 = .ok (.iadd, 1) := dk_96 (dk_at dksX3_asideOnce_2 4 rfl rfl)
theorem dX3_asideOnce_52 : decode cX3_asideOnce 52 = .ok (.putfield 233, 3) := dk_181 0 233 (dk_at dksX3_asideOnce_2 5 rfl rfl)
theorem dX3_asideOnce_55 : decode cX3_asideOnce 55 = .ok (.return_, 1) := dk_177 (dk_at dksX3_asideOnce_2 8 rfl rfl)
abbrev cX3_shorter : ByteArray := prog_11_method_71_code
def yX3_shorter : MethodName := ⟨RX3, "shorter", "(III)I"⟩
def dkwX3_shorter_11 : List UInt8 := [132, 7, 1, 167, 255, 82, 42, 29, 42, 27, 182, 0, 236, 21, 4, 21, 5, 4, 100, 182, 0, 239, 172]
abbrev dktX3_shorter_11 : List UInt8 := dkwX3_shorter_11 ++ []
def dkwX3_shorter_10 : List UInt8 := [21, 5, 21, 4, 21, 5, 22, 8, 22, 11, 21, 13, 184, 0, 42, 28, 184, 0, 246, 3, 182, 0, 250]
abbrev dktX3_shorter_10 : List UInt8 := dkwX3_shorter_10 ++ dktX3_shorter_11
def dkwX3_shorter_9 : List UInt8 := [21, 4, 21, 5, 22, 11, 28, 184, 0, 15, 184, 0, 144, 184, 0, 7, 184, 0, 148, 54, 13, 42, 21, 4]
abbrev dktX3_shorter_9 : List UInt8 := dkwX3_shorter_9 ++ dktX3_shorter_10
def dkwX3_shorter_8 : List UInt8 := [167, 0, 4, 9, 55, 11, 21, 10, 154, 0, 7, 3, 167, 0, 30, 21, 4, 21, 4, 21, 10, 21, 4]
abbrev dktX3_shorter_8 : List UInt8 := dkwX3_shorter_8 ++ dktX3_shorter_9
def dkwX3_shorter_7 : List UInt8 := [42, 180, 0, 70, 27, 46, 162, 0, 19, 42, 180, 0, 73, 17, 0, 200, 27, 104, 21, 6, 96, 47]
abbrev dktX3_shorter_7 : List UInt8 := dkwX3_shorter_7 ++ dktX3_shorter_8
def dkwX3_shorter_6 : List UInt8 := [21, 5, 22, 8, 28, 184, 0, 246, 3, 182, 0, 250, 167, 0, 104, 21, 7, 21, 6, 159, 0, 97, 21, 6]
abbrev dktX3_shorter_6 : List UInt8 := dkwX3_shorter_6 ++ dktX3_shorter_7
def dkwX3_shorter_5 : List UInt8 := [28, 184, 0, 15, 54, 10, 42, 180, 0, 60, 27, 46, 154, 0, 26, 21, 10, 154, 0, 122, 42, 21, 4]
abbrev dktX3_shorter_5 : List UInt8 := dkwX3_shorter_5 ++ dktX3_shorter_6
def dkwX3_shorter_4 : List UInt8 := [162, 0, 169, 42, 180, 0, 73, 17, 0, 200, 27, 104, 21, 7, 96, 47, 55, 8, 21, 4, 21, 5, 22, 8]
abbrev dktX3_shorter_4 : List UInt8 := dkwX3_shorter_4 ++ dktX3_shorter_5
def dkwX3_shorter_3 : List UInt8 := [132, 6, 1, 167, 255, 218, 42, 3, 181, 0, 233, 3, 54, 7, 21, 7, 42, 180, 0, 70, 27, 46]
abbrev dktX3_shorter_3 : List UInt8 := dkwX3_shorter_3 ++ dktX3_shorter_4
def dkwX3_shorter_2 : List UInt8 := [21, 4, 21, 5, 42, 180, 0, 73, 17, 0, 200, 27, 104, 21, 6, 96, 47, 28, 184, 0, 15, 154, 0, 9]
abbrev dktX3_shorter_2 : List UInt8 := dkwX3_shorter_2 ++ dktX3_shorter_3
def dkwX3_shorter_1 : List UInt8 := [54, 4, 42, 180, 0, 67, 27, 46, 54, 5, 3, 54, 6, 21, 6, 42, 180, 0, 70, 27, 46, 162, 0, 33]
abbrev dktX3_shorter_1 : List UInt8 := dkwX3_shorter_1 ++ dktX3_shorter_2
def dkwX3_shorter_0 : List UInt8 := [42, 27, 28, 29, 182, 0, 243, 153, 0, 11, 42, 27, 28, 29, 182, 0, 243, 172, 42, 180, 0, 64, 27, 46]
abbrev dktX3_shorter_0 : List UInt8 := dkwX3_shorter_0 ++ dktX3_shorter_1
theorem dksX3_shorter_0 : cX3_shorter.data.toList.drop 0 = dktX3_shorter_0 := by decide +kernel
theorem dksX3_shorter_1 : cX3_shorter.data.toList.drop 24 = dktX3_shorter_1 := dk_seg dksX3_shorter_0 24 rfl rfl
theorem dksX3_shorter_2 : cX3_shorter.data.toList.drop 48 = dktX3_shorter_2 := dk_seg dksX3_shorter_1 24 rfl rfl
theorem dksX3_shorter_3 : cX3_shorter.data.toList.drop 72 = dktX3_shorter_3 := dk_seg dksX3_shorter_2 24 rfl rfl
theorem dksX3_shorter_4 : cX3_shorter.data.toList.drop 94 = dktX3_shorter_4 := dk_seg dksX3_shorter_3 22 rfl rfl
theorem dksX3_shorter_5 : cX3_shorter.data.toList.drop 118 = dktX3_shorter_5 := dk_seg dksX3_shorter_4 24 rfl rfl
theorem dksX3_shorter_6 : cX3_shorter.data.toList.drop 141 = dktX3_shorter_6 := dk_seg dksX3_shorter_5 23 rfl rfl
theorem dksX3_shorter_7 : cX3_shorter.data.toList.drop 165 = dktX3_shorter_7 := dk_seg dksX3_shorter_6 24 rfl rfl
theorem dksX3_shorter_8 : cX3_shorter.data.toList.drop 187 = dktX3_shorter_8 := dk_seg dksX3_shorter_7 22 rfl rfl
theorem dksX3_shorter_9 : cX3_shorter.data.toList.drop 210 = dktX3_shorter_9 := dk_seg dksX3_shorter_8 23 rfl rfl
theorem dksX3_shorter_10 : cX3_shorter.data.toList.drop 234 = dktX3_shorter_10 := dk_seg dksX3_shorter_9 24 rfl rfl
theorem dksX3_shorter_11 : cX3_shorter.data.toList.drop 257 = dktX3_shorter_11 := dk_seg dksX3_shorter_10 23 rfl rfl
theorem dX3_shorter_0 : decode cX3_shorter 0 = .ok (.aload_n 0, 1) := dk_42 (dk_at dksX3_shorter_0 0 rfl rfl)
theorem dX3_shorter_1 : decode cX3_shorter 1 = .ok (.iload_n 1, 1) := dk_27 (dk_at dksX3_shorter_0 1 rfl rfl)
theorem dX3_shorter_2 : decode cX3_shorter 2 = .ok (.iload_n 2, 1) := dk_28 (dk_at dksX3_shorter_0 2 rfl rfl)
theorem dX3_shorter_3 : decode cX3_shorter 3 = .ok (.iload_n 3, 1) := dk_29 (dk_at dksX3_shorter_0 3 rfl rfl)
theorem dX3_shorter_4 : decode cX3_shorter 4 = .ok (.invokevirtual 243, 3) := dk_182 0 243 (dk_at dksX3_shorter_0 4 rfl rfl)
theorem dX3_shorter_7 : decode cX3_shorter 7 = .ok (.ifCond .eq 11, 3) := dk_153 0 11 (dk_at dksX3_shorter_0 7 rfl rfl)
theorem dX3_shorter_10 : decode cX3_shorter 10 = .ok (.aload_n 0, 1) := dk_42 (dk_at dksX3_shorter_0 10 rfl rfl)
theorem dX3_shorter_11 : decode cX3_shorter 11 = .ok (.iload_n 1, 1) := dk_27 (dk_at dksX3_shorter_0 11 rfl rfl)
theorem dX3_shorter_12 : decode cX3_shorter 12 = .ok (.iload_n 2, 1) := dk_28 (dk_at dksX3_shorter_0 12 rfl rfl)
theorem dX3_shorter_13 : decode cX3_shorter 13 = .ok (.iload_n 3, 1) := dk_29 (dk_at dksX3_shorter_0 13 rfl rfl)
theorem dX3_shorter_14 : decode cX3_shorter 14 = .ok (.invokevirtual 243, 3) := dk_182 0 243 (dk_at dksX3_shorter_0 14 rfl rfl)
theorem dX3_shorter_17 : decode cX3_shorter 17 = .ok (.ireturn, 1) := dk_172 (dk_at dksX3_shorter_0 17 rfl rfl)
theorem dX3_shorter_18 : decode cX3_shorter 18 = .ok (.aload_n 0, 1) := dk_42 (dk_at dksX3_shorter_0 18 rfl rfl)
theorem dX3_shorter_19 : decode cX3_shorter 19 = .ok (.getfield 64, 3) := dk_180 0 64 (dk_at dksX3_shorter_0 19 rfl rfl)
theorem dX3_shorter_22 : decode cX3_shorter 22 = .ok (.iload_n 1, 1) := dk_27 (dk_at dksX3_shorter_0 22 rfl rfl)
theorem dX3_shorter_23 : decode cX3_shorter 23 = .ok (.iaload, 1) := dk_46 (dk_at dksX3_shorter_0 23 rfl rfl)
theorem dX3_shorter_24 : decode cX3_shorter 24 = .ok (.istore 4, 2) := dk_54 4 (dk_at dksX3_shorter_1 0 rfl rfl)
theorem dX3_shorter_26 : decode cX3_shorter 26 = .ok (.aload_n 0, 1) := dk_42 (dk_at dksX3_shorter_1 2 rfl rfl)
theorem dX3_shorter_27 : decode cX3_shorter 27 = .ok (.getfield 67, 3) := dk_180 0 67 (dk_at dksX3_shorter_1 3 rfl rfl)
theorem dX3_shorter_30 : decode cX3_shorter 30 = .ok (.iload_n 1, 1) := dk_27 (dk_at dksX3_shorter_1 6 rfl rfl)
theorem dX3_shorter_31 : decode cX3_shorter 31 = .ok (.iaload, 1) := dk_46 (dk_at dksX3_shorter_1 7 rfl rfl)
theorem dX3_shorter_32 : decode cX3_shorter 32 = .ok (.istore 5, 2) := dk_54 5 (dk_at dksX3_shorter_1 8 rfl rfl)
theorem dX3_shorter_34 : decode cX3_shorter 34 = .ok (.iconst 0, 1) := dk_3 (dk_at dksX3_shorter_1 10 rfl rfl)
theorem dX3_shorter_35 : decode cX3_shorter 35 = .ok (.istore 6, 2) := dk_54 6 (dk_at dksX3_shorter_1 11 rfl rfl)
theorem dX3_shorter_37 : decode cX3_shorter 37 = .ok (.iload 6, 2) := dk_21 6 (dk_at dksX3_shorter_1 13 rfl rfl)
theorem dX3_shorter_39 : decode cX3_shorter 39 = .ok (.aload_n 0, 1) := dk_42 (dk_at dksX3_shorter_1 15 rfl rfl)
theorem dX3_shorter_40 : decode cX3_shorter 40 = .ok (.getfield 70, 3) := dk_180 0 70 (dk_at dksX3_shorter_1 16 rfl rfl)
theorem dX3_shorter_43 : decode cX3_shorter 43 = .ok (.iload_n 1, 1) := dk_27 (dk_at dksX3_shorter_1 19 rfl rfl)
theorem dX3_shorter_44 : decode cX3_shorter 44 = .ok (.iaload, 1) := dk_46 (dk_at dksX3_shorter_1 20 rfl rfl)
theorem dX3_shorter_45 : decode cX3_shorter 45 = .ok (.if_icmp .ge 33, 3) := dk_162 0 33 (dk_at dksX3_shorter_1 21 rfl rfl)
theorem dX3_shorter_48 : decode cX3_shorter 48 = .ok (.iload 4, 2) := dk_21 4 (dk_at dksX3_shorter_2 0 rfl rfl)
theorem dX3_shorter_50 : decode cX3_shorter 50 = .ok (.iload 5, 2) := dk_21 5 (dk_at dksX3_shorter_2 2 rfl rfl)
theorem dX3_shorter_52 : decode cX3_shorter 52 = .ok (.aload_n 0, 1) := dk_42 (dk_at dksX3_shorter_2 4 rfl rfl)
theorem dX3_shorter_53 : decode cX3_shorter 53 = .ok (.getfield 73, 3) := dk_180 0 73 (dk_at dksX3_shorter_2 5 rfl rfl)
theorem dX3_shorter_56 : decode cX3_shorter 56 = .ok (.sipush 200, 3) := dk_17 0 200 (dk_at dksX3_shorter_2 8 rfl rfl)
theorem dX3_shorter_59 : decode cX3_shorter 59 = .ok (.iload_n 1, 1) := dk_27 (dk_at dksX3_shorter_2 11 rfl rfl)
theorem dX3_shorter_60 : decode cX3_shorter 60 = .ok (.imul, 1) := dk_104 (dk_at dksX3_shorter_2 12 rfl rfl)
theorem dX3_shorter_61 : decode cX3_shorter 61 = .ok (.iload 6, 2) := dk_21 6 (dk_at dksX3_shorter_2 13 rfl rfl)
theorem dX3_shorter_63 : decode cX3_shorter 63 = .ok (.iadd, 1) := dk_96 (dk_at dksX3_shorter_2 15 rfl rfl)
theorem dX3_shorter_64 : decode cX3_shorter 64 = .ok (.laload, 1) := dk_47 (dk_at dksX3_shorter_2 16 rfl rfl)
theorem dX3_shorter_65 : decode cX3_shorter 65 = .ok (.iload_n 2, 1) := dk_28 (dk_at dksX3_shorter_2 17 rfl rfl)
theorem dX3_shorter_66 : decode cX3_shorter 66 = .ok (.invokestatic 15, 3) := dk_184 0 15 (dk_at dksX3_shorter_2 18 rfl rfl)
theorem dX3_shorter_69 : decode cX3_shorter 69 = .ok (.ifCond .ne 9, 3) := dk_154 0 9 (dk_at dksX3_shorter_2 21 rfl rfl)
theorem dX3_shorter_72 : decode cX3_shorter 72 = .ok (.iinc 6 1, 3) := dk_132 6 1 (dk_at dksX3_shorter_3 0 rfl rfl)
theorem dX3_shorter_75 : decode cX3_shorter 75 = .ok (.goto (-38), 3) := dk_167 255 218 (dk_at dksX3_shorter_3 3 rfl rfl)
theorem dX3_shorter_78 : decode cX3_shorter 78 = .ok (.aload_n 0, 1) := dk_42 (dk_at dksX3_shorter_3 6 rfl rfl)
theorem dX3_shorter_79 : decode cX3_shorter 79 = .ok (.iconst 0, 1) := dk_3 (dk_at dksX3_shorter_3 7 rfl rfl)
theorem dX3_shorter_80 : decode cX3_shorter 80 = .ok (.putfield 233, 3) := dk_181 0 233 (dk_at dksX3_shorter_3 8 rfl rfl)
theorem dX3_shorter_83 : decode cX3_shorter 83 = .ok (.iconst 0, 1) := dk_3 (dk_at dksX3_shorter_3 11 rfl rfl)
theorem dX3_shorter_84 : decode cX3_shorter 84 = .ok (.istore 7, 2) := dk_54 7 (dk_at dksX3_shorter_3 12 rfl rfl)
theorem dX3_shorter_86 : decode cX3_shorter 86 = .ok (.iload 7, 2) := dk_21 7 (dk_at dksX3_shorter_3 14 rfl rfl)
theorem dX3_shorter_88 : decode cX3_shorter 88 = .ok (.aload_n 0, 1) := dk_42 (dk_at dksX3_shorter_3 16 rfl rfl)
theorem dX3_shorter_89 : decode cX3_shorter 89 = .ok (.getfield 70, 3) := dk_180 0 70 (dk_at dksX3_shorter_3 17 rfl rfl)
theorem dX3_shorter_92 : decode cX3_shorter 92 = .ok (.iload_n 1, 1) := dk_27 (dk_at dksX3_shorter_3 20 rfl rfl)
theorem dX3_shorter_93 : decode cX3_shorter 93 = .ok (.iaload, 1) := dk_46 (dk_at dksX3_shorter_3 21 rfl rfl)
theorem dX3_shorter_94 : decode cX3_shorter 94 = .ok (.if_icmp .ge 169, 3) := dk_162 0 169 (dk_at dksX3_shorter_4 0 rfl rfl)
theorem dX3_shorter_97 : decode cX3_shorter 97 = .ok (.aload_n 0, 1) := dk_42 (dk_at dksX3_shorter_4 3 rfl rfl)
theorem dX3_shorter_98 : decode cX3_shorter 98 = .ok (.getfield 73, 3) := dk_180 0 73 (dk_at dksX3_shorter_4 4 rfl rfl)
theorem dX3_shorter_101 : decode cX3_shorter 101 = .ok (.sipush 200, 3) := dk_17 0 200 (dk_at dksX3_shorter_4 7 rfl rfl)
theorem dX3_shorter_104 : decode cX3_shorter 104 = .ok (.iload_n 1, 1) := dk_27 (dk_at dksX3_shorter_4 10 rfl rfl)
theorem dX3_shorter_105 : decode cX3_shorter 105 = .ok (.imul, 1) := dk_104 (dk_at dksX3_shorter_4 11 rfl rfl)
theorem dX3_shorter_106 : decode cX3_shorter 106 = .ok (.iload 7, 2) := dk_21 7 (dk_at dksX3_shorter_4 12 rfl rfl)
theorem dX3_shorter_108 : decode cX3_shorter 108 = .ok (.iadd, 1) := dk_96 (dk_at dksX3_shorter_4 14 rfl rfl)
theorem dX3_shorter_109 : decode cX3_shorter 109 = .ok (.laload, 1) := dk_47 (dk_at dksX3_shorter_4 15 rfl rfl)
theorem dX3_shorter_110 : decode cX3_shorter 110 = .ok (.lstore 8, 2) := dk_55 8 (dk_at dksX3_shorter_4 16 rfl rfl)
theorem dX3_shorter_112 : decode cX3_shorter 112 = .ok (.iload 4, 2) := dk_21 4 (dk_at dksX3_shorter_4 18 rfl rfl)
theorem dX3_shorter_114 : decode cX3_shorter 114 = .ok (.iload 5, 2) := dk_21 5 (dk_at dksX3_shorter_4 20 rfl rfl)
theorem dX3_shorter_116 : decode cX3_shorter 116 = .ok (.lload 8, 2) := dk_22 8 (dk_at dksX3_shorter_4 22 rfl rfl)
theorem dX3_shorter_118 : decode cX3_shorter 118 = .ok (.iload_n 2, 1) := dk_28 (dk_at dksX3_shorter_5 0 rfl rfl)
theorem dX3_shorter_119 : decode cX3_shorter 119 = .ok (.invokestatic 15, 3) := dk_184 0 15 (dk_at dksX3_shorter_5 1 rfl rfl)
theorem dX3_shorter_122 : decode cX3_shorter 122 = .ok (.istore 10, 2) := dk_54 10 (dk_at dksX3_shorter_5 4 rfl rfl)
theorem dX3_shorter_124 : decode cX3_shorter 124 = .ok (.aload_n 0, 1) := dk_42 (dk_at dksX3_shorter_5 6 rfl rfl)
theorem dX3_shorter_125 : decode cX3_shorter 125 = .ok (.getfield 60, 3) := dk_180 0 60 (dk_at dksX3_shorter_5 7 rfl rfl)
theorem dX3_shorter_128 : decode cX3_shorter 128 = .ok (.iload_n 1, 1) := dk_27 (dk_at dksX3_shorter_5 10 rfl rfl)
theorem dX3_shorter_129 : decode cX3_shorter 129 = .ok (.iaload, 1) := dk_46 (dk_at dksX3_shorter_5 11 rfl rfl)
theorem dX3_shorter_130 : decode cX3_shorter 130 = .ok (.ifCond .ne 26, 3) := dk_154 0 26 (dk_at dksX3_shorter_5 12 rfl rfl)
theorem dX3_shorter_133 : decode cX3_shorter 133 = .ok (.iload 10, 2) := dk_21 10 (dk_at dksX3_shorter_5 15 rfl rfl)
theorem dX3_shorter_135 : decode cX3_shorter 135 = .ok (.ifCond .ne 122, 3) := dk_154 0 122 (dk_at dksX3_shorter_5 17 rfl rfl)
theorem dX3_shorter_138 : decode cX3_shorter 138 = .ok (.aload_n 0, 1) := dk_42 (dk_at dksX3_shorter_5 20 rfl rfl)
theorem dX3_shorter_139 : decode cX3_shorter 139 = .ok (.iload 4, 2) := dk_21 4 (dk_at dksX3_shorter_5 21 rfl rfl)
theorem dX3_shorter_141 : decode cX3_shorter 141 = .ok (.iload 5, 2) := dk_21 5 (dk_at dksX3_shorter_6 0 rfl rfl)
theorem dX3_shorter_143 : decode cX3_shorter 143 = .ok (.lload 8, 2) := dk_22 8 (dk_at dksX3_shorter_6 2 rfl rfl)
theorem dX3_shorter_145 : decode cX3_shorter 145 = .ok (.iload_n 2, 1) := dk_28 (dk_at dksX3_shorter_6 4 rfl rfl)
theorem dX3_shorter_146 : decode cX3_shorter 146 = .ok (.invokestatic 246, 3) := dk_184 0 246 (dk_at dksX3_shorter_6 5 rfl rfl)
theorem dX3_shorter_149 : decode cX3_shorter 149 = .ok (.iconst 0, 1) := dk_3 (dk_at dksX3_shorter_6 8 rfl rfl)
theorem dX3_shorter_150 : decode cX3_shorter 150 = .ok (.invokevirtual 250, 3) := dk_182 0 250 (dk_at dksX3_shorter_6 9 rfl rfl)
theorem dX3_shorter_153 : decode cX3_shorter 153 = .ok (.goto 104, 3) := dk_167 0 104 (dk_at dksX3_shorter_6 12 rfl rfl)
theorem dX3_shorter_156 : decode cX3_shorter 156 = .ok (.iload 7, 2) := dk_21 7 (dk_at dksX3_shorter_6 15 rfl rfl)
theorem dX3_shorter_158 : decode cX3_shorter 158 = .ok (.iload 6, 2) := dk_21 6 (dk_at dksX3_shorter_6 17 rfl rfl)
theorem dX3_shorter_160 : decode cX3_shorter 160 = .ok (.if_icmp .eq 97, 3) := dk_159 0 97 (dk_at dksX3_shorter_6 19 rfl rfl)
theorem dX3_shorter_163 : decode cX3_shorter 163 = .ok (.iload 6, 2) := dk_21 6 (dk_at dksX3_shorter_6 22 rfl rfl)
theorem dX3_shorter_165 : decode cX3_shorter 165 = .ok (.aload_n 0, 1) := dk_42 (dk_at dksX3_shorter_7 0 rfl rfl)
theorem dX3_shorter_166 : decode cX3_shorter 166 = .ok (.getfield 70, 3) := dk_180 0 70 (dk_at dksX3_shorter_7 1 rfl rfl)
theorem dX3_shorter_169 : decode cX3_shorter 169 = .ok (.iload_n 1, 1) := dk_27 (dk_at dksX3_shorter_7 4 rfl rfl)
theorem dX3_shorter_170 : decode cX3_shorter 170 = .ok (.iaload, 1) := dk_46 (dk_at dksX3_shorter_7 5 rfl rfl)
theorem dX3_shorter_171 : decode cX3_shorter 171 = .ok (.if_icmp .ge 19, 3) := dk_162 0 19 (dk_at dksX3_shorter_7 6 rfl rfl)
theorem dX3_shorter_174 : decode cX3_shorter 174 = .ok (.aload_n 0, 1) := dk_42 (dk_at dksX3_shorter_7 9 rfl rfl)
theorem dX3_shorter_175 : decode cX3_shorter 175 = .ok (.getfield 73, 3) := dk_180 0 73 (dk_at dksX3_shorter_7 10 rfl rfl)
theorem dX3_shorter_178 : decode cX3_shorter 178 = .ok (.sipush 200, 3) := dk_17 0 200 (dk_at dksX3_shorter_7 13 rfl rfl)
theorem dX3_shorter_181 : decode cX3_shorter 181 = .ok (.iload_n 1, 1) := dk_27 (dk_at dksX3_shorter_7 16 rfl rfl)
theorem dX3_shorter_182 : decode cX3_shorter 182 = .ok (.imul, 1) := dk_104 (dk_at dksX3_shorter_7 17 rfl rfl)
theorem dX3_shorter_183 : decode cX3_shorter 183 = .ok (.iload 6, 2) := dk_21 6 (dk_at dksX3_shorter_7 18 rfl rfl)
theorem dX3_shorter_185 : decode cX3_shorter 185 = .ok (.iadd, 1) := dk_96 (dk_at dksX3_shorter_7 20 rfl rfl)
theorem dX3_shorter_186 : decode cX3_shorter 186 = .ok (.laload, 1) := dk_47 (dk_at dksX3_shorter_7 21 rfl rfl)
theorem dX3_shorter_187 : decode cX3_shorter 187 = .ok (.goto 4, 3) := dk_167 0 4 (dk_at dksX3_shorter_8 0 rfl rfl)
theorem dX3_shorter_190 : decode cX3_shorter 190 = .ok (.lconst 0, 1) := dk_9 (dk_at dksX3_shorter_8 3 rfl rfl)
theorem dX3_shorter_191 : decode cX3_shorter 191 = .ok (.lstore 11, 2) := dk_55 11 (dk_at dksX3_shorter_8 4 rfl rfl)
theorem dX3_shorter_193 : decode cX3_shorter 193 = .ok (.iload 10, 2) := dk_21 10 (dk_at dksX3_shorter_8 6 rfl rfl)
theorem dX3_shorter_195 : decode cX3_shorter 195 = .ok (.ifCond .ne 7, 3) := dk_154 0 7 (dk_at dksX3_shorter_8 8 rfl rfl)
theorem dX3_shorter_198 : decode cX3_shorter 198 = .ok (.iconst 0, 1) := dk_3 (dk_at dksX3_shorter_8 11 rfl rfl)
theorem dX3_shorter_199 : decode cX3_shorter 199 = .ok (.goto 30, 3) := dk_167 0 30 (dk_at dksX3_shorter_8 12 rfl rfl)
theorem dX3_shorter_202 : decode cX3_shorter 202 = .ok (.iload 4, 2) := dk_21 4 (dk_at dksX3_shorter_8 15 rfl rfl)
theorem dX3_shorter_204 : decode cX3_shorter 204 = .ok (.iload 4, 2) := dk_21 4 (dk_at dksX3_shorter_8 17 rfl rfl)
theorem dX3_shorter_206 : decode cX3_shorter 206 = .ok (.iload 10, 2) := dk_21 10 (dk_at dksX3_shorter_8 19 rfl rfl)
theorem dX3_shorter_208 : decode cX3_shorter 208 = .ok (.iload 4, 2) := dk_21 4 (dk_at dksX3_shorter_8 21 rfl rfl)
theorem dX3_shorter_210 : decode cX3_shorter 210 = .ok (.iload 4, 2) := dk_21 4 (dk_at dksX3_shorter_9 0 rfl rfl)
theorem dX3_shorter_212 : decode cX3_shorter 212 = .ok (.iload 5, 2) := dk_21 5 (dk_at dksX3_shorter_9 2 rfl rfl)
theorem dX3_shorter_214 : decode cX3_shorter 214 = .ok (.lload 11, 2) := dk_22 11 (dk_at dksX3_shorter_9 4 rfl rfl)
theorem dX3_shorter_216 : decode cX3_shorter 216 = .ok (.iload_n 2, 1) := dk_28 (dk_at dksX3_shorter_9 6 rfl rfl)
theorem dX3_shorter_217 : decode cX3_shorter 217 = .ok (.invokestatic 15, 3) := dk_184 0 15 (dk_at dksX3_shorter_9 7 rfl rfl)
theorem dX3_shorter_220 : decode cX3_shorter 220 = .ok (.invokestatic 144, 3) := dk_184 0 144 (dk_at dksX3_shorter_9 10 rfl rfl)
theorem dX3_shorter_223 : decode cX3_shorter 223 = .ok (.invokestatic 7, 3) := dk_184 0 7 (dk_at dksX3_shorter_9 13 rfl rfl)
theorem dX3_shorter_226 : decode cX3_shorter 226 = .ok (.invokestatic 148, 3) := dk_184 0 148 (dk_at dksX3_shorter_9 16 rfl rfl)
theorem dX3_shorter_229 : decode cX3_shorter 229 = .ok (.istore 13, 2) := dk_54 13 (dk_at dksX3_shorter_9 19 rfl rfl)
theorem dX3_shorter_231 : decode cX3_shorter 231 = .ok (.aload_n 0, 1) := dk_42 (dk_at dksX3_shorter_9 21 rfl rfl)
theorem dX3_shorter_232 : decode cX3_shorter 232 = .ok (.iload 4, 2) := dk_21 4 (dk_at dksX3_shorter_9 22 rfl rfl)
theorem dX3_shorter_234 : decode cX3_shorter 234 = .ok (.iload 5, 2) := dk_21 5 (dk_at dksX3_shorter_10 0 rfl rfl)
theorem dX3_shorter_236 : decode cX3_shorter 236 = .ok (.iload 4, 2) := dk_21 4 (dk_at dksX3_shorter_10 2 rfl rfl)
theorem dX3_shorter_238 : decode cX3_shorter 238 = .ok (.iload 5, 2) := dk_21 5 (dk_at dksX3_shorter_10 4 rfl rfl)
theorem dX3_shorter_240 : decode cX3_shorter 240 = .ok (.lload 8, 2) := dk_22 8 (dk_at dksX3_shorter_10 6 rfl rfl)
theorem dX3_shorter_242 : decode cX3_shorter 242 = .ok (.lload 11, 2) := dk_22 11 (dk_at dksX3_shorter_10 8 rfl rfl)
theorem dX3_shorter_244 : decode cX3_shorter 244 = .ok (.iload 13, 2) := dk_21 13 (dk_at dksX3_shorter_10 10 rfl rfl)
theorem dX3_shorter_246 : decode cX3_shorter 246 = .ok (.invokestatic 42, 3) := dk_184 0 42 (dk_at dksX3_shorter_10 12 rfl rfl)
theorem dX3_shorter_249 : decode cX3_shorter 249 = .ok (.iload_n 2, 1) := dk_28 (dk_at dksX3_shorter_10 15 rfl rfl)
theorem dX3_shorter_250 : decode cX3_shorter 250 = .ok (.invokestatic 246, 3) := dk_184 0 246 (dk_at dksX3_shorter_10 16 rfl rfl)
theorem dX3_shorter_253 : decode cX3_shorter 253 = .ok (.iconst 0, 1) := dk_3 (dk_at dksX3_shorter_10 19 rfl rfl)
theorem dX3_shorter_254 : decode cX3_shorter 254 = .ok (.invokevirtual 250, 3) := dk_182 0 250 (dk_at dksX3_shorter_10 20 rfl rfl)
theorem dX3_shorter_257 : decode cX3_shorter 257 = .ok (.iinc 7 1, 3) := dk_132 7 1 (dk_at dksX3_shorter_11 0 rfl rfl)
theorem dX3_shorter_260 : decode cX3_shorter 260 = .ok (.goto (-174), 3) := dk_167 255 82 (dk_at dksX3_shorter_11 3 rfl rfl)
theorem dX3_shorter_263 : decode cX3_shorter 263 = .ok (.aload_n 0, 1) := dk_42 (dk_at dksX3_shorter_11 6 rfl rfl)
theorem dX3_shorter_264 : decode cX3_shorter 264 = .ok (.iload_n 3, 1) := dk_29 (dk_at dksX3_shorter_11 7 rfl rfl)
theorem dX3_shorter_265 : decode cX3_shorter 265 = .ok (.aload_n 0, 1) := dk_42 (dk_at dksX3_shorter_11 8 rfl rfl)
theorem dX3_shorter_266 : decode cX3_shorter 266 = .ok (.iload_n 1, 1) := dk_27 (dk_at dksX3_shorter_11 9 rfl rfl)
theorem dX3_shorter_267 : decode cX3_shorter 267 = .ok (.invokevirtual 236, 3) := dk_182 0 236 (dk_at dksX3_shorter_11 10 rfl rfl)
theorem dX3_shorter_270 : decode cX3_shorter 270 = .ok (.iload 4, 2) := dk_21 4 (dk_at dksX3_shorter_11 13 rfl rfl)
theorem dX3_shorter_272 : decode cX3_shorter 272 = .ok (.iload 5, 2) := dk_21 5 (dk_at dksX3_shorter_11 15 rfl rfl)
theorem dX3_shorter_274 : decode cX3_shorter 274 = .ok (.iconst 1, 1) := dk_4 (dk_at dksX3_shorter_11 17 rfl rfl)
theorem dX3_shorter_275 : decode cX3_shorter 275 = .ok (.isub, 1) := dk_100 (dk_at dksX3_shorter_11 18 rfl rfl)
theorem dX3_shorter_276 : decode cX3_shorter 276 = .ok (.invokevirtual 239, 3) := dk_182 0 239 (dk_at dksX3_shorter_11 19 rfl rfl)
theorem dX3_shorter_279 : decode cX3_shorter 279 = .ok (.ireturn, 1) := dk_172 (dk_at dksX3_shorter_11 22 rfl rfl)
abbrev cX3_join : ByteArray := prog_11_method_73_code
def yX3_join : MethodName := ⟨RX3, "join", "(IIII)I"⟩
def dkwX3_join_12 : List UInt8 := [167, 255, 224, 42, 21, 4, 4, 21, 5, 21, 6, 182, 0, 239, 172]
abbrev dktX3_join_12 : List UInt8 := dkwX3_join_12 ++ []
def dkwX3_join_11 : List UInt8 := [162, 0, 27, 42, 42, 180, 0, 73, 17, 0, 200, 28, 104, 21, 9, 96, 47, 3, 182, 0, 250, 132, 9, 1]
abbrev dktX3_join_11 : List UInt8 := dkwX3_join_11 ++ dktX3_join_12
def dkwX3_join_10 : List UInt8 := [9, 97, 3, 182, 0, 250, 132, 9, 1, 167, 255, 205, 3, 54, 9, 21, 9, 42, 180, 0, 70, 28, 46]
abbrev dktX3_join_10 : List UInt8 := dkwX3_join_10 ++ dktX3_join_11
def dkwX3_join_9 : List UInt8 := [27, 104, 21, 9, 96, 47, 55, 10, 42, 22, 10, 22, 7, 105, 29, 5, 160, 0, 8, 22, 10, 167, 0, 4]
abbrev dktX3_join_9 : List UInt8 := dkwX3_join_9 ++ dktX3_join_10
def dkwX3_join_8 : List UInt8 := [181, 0, 233, 3, 54, 9, 21, 9, 42, 180, 0, 70, 27, 46, 162, 0, 46, 42, 180, 0, 73, 17, 0, 200]
abbrev dktX3_join_8 : List UInt8 := dkwX3_join_8 ++ dktX3_join_9
def dkwX3_join_7 : List UInt8 := [154, 0, 7, 10, 167, 0, 14, 21, 5, 42, 180, 0, 67, 28, 46, 184, 0, 11, 55, 7, 42, 3]
abbrev dktX3_join_7 : List UInt8 := dkwX3_join_7 ++ dktX3_join_8
def dkwX3_join_6 : List UInt8 := [42, 180, 0, 70, 28, 46, 96, 16, 12, 163, 0, 10, 21, 6, 16, 12, 164, 0, 6, 16, 250, 172, 29]
abbrev dktX3_join_6 : List UInt8 := dkwX3_join_6 ++ dktX3_join_7
def dkwX3_join_5 : List UInt8 := [42, 180, 0, 67, 27, 46, 42, 180, 0, 67, 28, 46, 159, 0, 6, 16, 252, 172, 42, 180, 0, 70, 27, 46]
abbrev dktX3_join_5 : List UInt8 := dkwX3_join_5 ++ dktX3_join_6
def dkwX3_join_4 : List UInt8 := [180, 0, 67, 28, 46, 96, 54, 6, 42, 180, 0, 64, 28, 46, 21, 5, 160, 0, 23, 29, 4, 159, 0, 21]
abbrev dktX3_join_4 : List UInt8 := dkwX3_join_4 ++ dktX3_join_5
def dkwX3_join_3 : List UInt8 := [54, 5, 29, 154, 0, 12, 42, 180, 0, 67, 27, 46, 167, 0, 16, 42, 180, 0, 67, 27, 46, 42]
abbrev dktX3_join_3 : List UInt8 := dkwX3_join_3 ++ dktX3_join_4
def dkwX3_join_2 : List UInt8 := [182, 0, 254, 172, 42, 28, 182, 0, 254, 153, 0, 9, 42, 28, 182, 0, 254, 172, 42, 180, 0, 64, 27, 46]
abbrev dktX3_join_2 : List UInt8 := dkwX3_join_2 ++ dktX3_join_3
def dkwX3_join_1 : List UInt8 := [153, 0, 11, 21, 4, 184, 0, 119, 154, 0, 5, 2, 172, 42, 27, 182, 0, 254, 153, 0, 9, 42, 27]
abbrev dktX3_join_1 : List UInt8 := dkwX3_join_1 ++ dktX3_join_2
def dkwX3_join_0 : List UInt8 := [27, 184, 0, 119, 153, 0, 30, 28, 184, 0, 119, 153, 0, 23, 29, 133, 9, 20, 0, 22, 184, 0, 26]
abbrev dktX3_join_0 : List UInt8 := dkwX3_join_0 ++ dktX3_join_1
theorem dksX3_join_0 : cX3_join.data.toList.drop 0 = dktX3_join_0 := by decide +kernel
theorem dksX3_join_1 : cX3_join.data.toList.drop 23 = dktX3_join_1 := dk_seg dksX3_join_0 23 rfl rfl
theorem dksX3_join_2 : cX3_join.data.toList.drop 46 = dktX3_join_2 := dk_seg dksX3_join_1 23 rfl rfl
theorem dksX3_join_3 : cX3_join.data.toList.drop 70 = dktX3_join_3 := dk_seg dksX3_join_2 24 rfl rfl
theorem dksX3_join_4 : cX3_join.data.toList.drop 92 = dktX3_join_4 := dk_seg dksX3_join_3 22 rfl rfl
theorem dksX3_join_5 : cX3_join.data.toList.drop 116 = dktX3_join_5 := dk_seg dksX3_join_4 24 rfl rfl
theorem dksX3_join_6 : cX3_join.data.toList.drop 140 = dktX3_join_6 := dk_seg dksX3_join_5 24 rfl rfl
theorem dksX3_join_7 : cX3_join.data.toList.drop 163 = dktX3_join_7 := dk_seg dksX3_join_6 23 rfl rfl
theorem dksX3_join_8 : cX3_join.data.toList.drop 185 = dktX3_join_8 := dk_seg dksX3_join_7 22 rfl rfl
theorem dksX3_join_9 : cX3_join.data.toList.drop 209 = dktX3_join_9 := dk_seg dksX3_join_8 24 rfl rfl
theorem dksX3_join_10 : cX3_join.data.toList.drop 233 = dktX3_join_10 := dk_seg dksX3_join_9 24 rfl rfl
theorem dksX3_join_11 : cX3_join.data.toList.drop 256 = dktX3_join_11 := dk_seg dksX3_join_10 23 rfl rfl
theorem dksX3_join_12 : cX3_join.data.toList.drop 280 = dktX3_join_12 := dk_seg dksX3_join_11 24 rfl rfl
theorem dX3_join_0 : decode cX3_join 0 = .ok (.iload_n 1, 1) := dk_27 (dk_at dksX3_join_0 0 rfl rfl)
theorem dX3_join_1 : decode cX3_join 1 = .ok (.invokestatic 119, 3) := dk_184 0 119 (dk_at dksX3_join_0 1 rfl rfl)
theorem dX3_join_4 : decode cX3_join 4 = .ok (.ifCond .eq 30, 3) := dk_153 0 30 (dk_at dksX3_join_0 4 rfl rfl)
theorem dX3_join_7 : decode cX3_join 7 = .ok (.iload_n 2, 1) := dk_28 (dk_at dksX3_join_0 7 rfl rfl)
theorem dX3_join_8 : decode cX3_join 8 = .ok (.invokestatic 119, 3) := dk_184 0 119 (dk_at dksX3_join_0 8 rfl rfl)
theorem dX3_join_11 : decode cX3_join 11 = .ok (.ifCond .eq 23, 3) := dk_153 0 23 (dk_at dksX3_join_0 11 rfl rfl)
theorem dX3_join_14 : decode cX3_join 14 = .ok (.iload_n 3, 1) := dk_29 (dk_at dksX3_join_0 14 rfl rfl)
theorem dX3_join_15 : decode cX3_join 15 = .ok (.i2l, 1) := dk_133 (dk_at dksX3_join_0 15 rfl rfl)
theorem dX3_join_16 : decode cX3_join 16 = .ok (.lconst 0, 1) := dk_9 (dk_at dksX3_join_0 16 rfl rfl)
theorem dX3_join_17 : decode cX3_join 17 = .ok (.ldc2_w 22, 3) := dk_20 0 22 (dk_at dksX3_join_0 17 rfl rfl)
theorem dX3_join_20 : decode cX3_join 20 = .ok (.invokestatic 26, 3) := dk_184 0 26 (dk_at dksX3_join_0 20 rfl rfl)
theorem dX3_join_23 : decode cX3_join 23 = .ok (.ifCond .eq 11, 3) := dk_153 0 11 (dk_at dksX3_join_1 0 rfl rfl)
theorem dX3_join_26 : decode cX3_join 26 = .ok (.iload 4, 2) := dk_21 4 (dk_at dksX3_join_1 3 rfl rfl)
theorem dX3_join_28 : decode cX3_join 28 = .ok (.invokestatic 119, 3) := dk_184 0 119 (dk_at dksX3_join_1 5 rfl rfl)
theorem dX3_join_31 : decode cX3_join 31 = .ok (.ifCond .ne 5, 3) := dk_154 0 5 (dk_at dksX3_join_1 8 rfl rfl)
theorem dX3_join_34 : decode cX3_join 34 = .ok (.iconst (-1), 1) := dk_2 (dk_at dksX3_join_1 11 rfl rfl)
theorem dX3_join_35 : decode cX3_join 35 = .ok (.ireturn, 1) := dk_172 (dk_at dksX3_join_1 12 rfl rfl)
theorem dX3_join_36 : decode cX3_join 36 = .ok (.aload_n 0, 1) := dk_42 (dk_at dksX3_join_1 13 rfl rfl)
theorem dX3_join_37 : decode cX3_join 37 = .ok (.iload_n 1, 1) := dk_27 (dk_at dksX3_join_1 14 rfl rfl)
theorem dX3_join_38 : decode cX3_join 38 = .ok (.invokevirtual 254, 3) := dk_182 0 254 (dk_at dksX3_join_1 15 rfl rfl)
theorem dX3_join_41 : decode cX3_join 41 = .ok (.ifCond .eq 9, 3) := dk_153 0 9 (dk_at dksX3_join_1 18 rfl rfl)
theorem dX3_join_44 : decode cX3_join 44 = .ok (.aload_n 0, 1) := dk_42 (dk_at dksX3_join_1 21 rfl rfl)
theorem dX3_join_45 : decode cX3_join 45 = .ok (.iload_n 1, 1) := dk_27 (dk_at dksX3_join_1 22 rfl rfl)
theorem dX3_join_46 : decode cX3_join 46 = .ok (.invokevirtual 254, 3) := dk_182 0 254 (dk_at dksX3_join_2 0 rfl rfl)
theorem dX3_join_49 : decode cX3_join 49 = .ok (.ireturn, 1) := dk_172 (dk_at dksX3_join_2 3 rfl rfl)
theorem dX3_join_50 : decode cX3_join 50 = .ok (.aload_n 0, 1) := dk_42 (dk_at dksX3_join_2 4 rfl rfl)
theorem dX3_join_51 : decode cX3_join 51 = .ok (.iload_n 2, 1) := dk_28 (dk_at dksX3_join_2 5 rfl rfl)
theorem dX3_join_52 : decode cX3_join 52 = .ok (.invokevirtual 254, 3) := dk_182 0 254 (dk_at dksX3_join_2 6 rfl rfl)
theorem dX3_join_55 : decode cX3_join 55 = .ok (.ifCond .eq 9, 3) := dk_153 0 9 (dk_at dksX3_join_2 9 rfl rfl)
theorem dX3_join_58 : decode cX3_join 58 = .ok (.aload_n 0, 1) := dk_42 (dk_at dksX3_join_2 12 rfl rfl)
theorem dX3_join_59 : decode cX3_join 59 = .ok (.iload_n 2, 1) := dk_28 (dk_at dksX3_join_2 13 rfl rfl)
theorem dX3_join_60 : decode cX3_join 60 = .ok (.invokevirtual 254, 3) := dk_182 0 254 (dk_at dksX3_join_2 14 rfl rfl)
theorem dX3_join_63 : decode cX3_join 63 = .ok (.ireturn, 1) := dk_172 (dk_at dksX3_join_2 17 rfl rfl)
theorem dX3_join_64 : decode cX3_join 64 = .ok (.aload_n 0, 1) := dk_42 (dk_at dksX3_join_2 18 rfl rfl)
theorem dX3_join_65 : decode cX3_join 65 = .ok (.getfield 64, 3) := dk_180 0 64 (dk_at dksX3_join_2 19 rfl rfl)
theorem dX3_join_68 : decode cX3_join 68 = .ok (.iload_n 1, 1) := dk_27 (dk_at dksX3_join_2 22 rfl rfl)
theorem dX3_join_69 : decode cX3_join 69 = .ok (.iaload, 1) := dk_46 (dk_at dksX3_join_2 23 rfl rfl)
theorem dX3_join_70 : decode cX3_join 70 = .ok (.istore 5, 2) := dk_54 5 (dk_at dksX3_join_3 0 rfl rfl)
theorem dX3_join_72 : decode cX3_join 72 = .ok (.iload_n 3, 1) := dk_29 (dk_at dksX3_join_3 2 rfl rfl)
theorem dX3_join_73 : decode cX3_join 73 = .ok (.ifCond .ne 12, 3) := dk_154 0 12 (dk_at dksX3_join_3 3 rfl rfl)
theorem dX3_join_76 : decode cX3_join 76 = .ok (.aload_n 0, 1) := dk_42 (dk_at dksX3_join_3 6 rfl rfl)
theorem dX3_join_77 : decode cX3_join 77 = .ok (.getfield 67, 3) := dk_180 0 67 (dk_at dksX3_join_3 7 rfl rfl)
theorem dX3_join_80 : decode cX3_join 80 = .ok (.iload_n 1, 1) := dk_27 (dk_at dksX3_join_3 10 rfl rfl)
theorem dX3_join_81 : decode cX3_join 81 = .ok (.iaload, 1) := dk_46 (dk_at dksX3_join_3 11 rfl rfl)
theorem dX3_join_82 : decode cX3_join 82 = .ok (.goto 16, 3) := dk_167 0 16 (dk_at dksX3_join_3 12 rfl rfl)
theorem dX3_join_85 : decode cX3_join 85 = .ok (.aload_n 0, 1) := dk_42 (dk_at dksX3_join_3 15 rfl rfl)
theorem dX3_join_86 : decode cX3_join 86 = .ok (.getfield 67, 3) := dk_180 0 67 (dk_at dksX3_join_3 16 rfl rfl)
theorem dX3_join_89 : decode cX3_join 89 = .ok (.iload_n 1, 1) := dk_27 (dk_at dksX3_join_3 19 rfl rfl)
theorem dX3_join_90 : decode cX3_join 90 = .ok (.iaload, 1) := dk_46 (dk_at dksX3_join_3 20 rfl rfl)
theorem dX3_join_91 : decode cX3_join 91 = .ok (.aload_n 0, 1) := dk_42 (dk_at dksX3_join_3 21 rfl rfl)
theorem dX3_join_92 : decode cX3_join 92 = .ok (.getfield 67, 3) := dk_180 0 67 (dk_at dksX3_join_4 0 rfl rfl)
theorem dX3_join_95 : decode cX3_join 95 = .ok (.iload_n 2, 1) := dk_28 (dk_at dksX3_join_4 3 rfl rfl)
theorem dX3_join_96 : decode cX3_join 96 = .ok (.iaload, 1) := dk_46 (dk_at dksX3_join_4 4 rfl rfl)
theorem dX3_join_97 : decode cX3_join 97 = .ok (.iadd, 1) := dk_96 (dk_at dksX3_join_4 5 rfl rfl)
theorem dX3_join_98 : decode cX3_join 98 = .ok (.istore 6, 2) := dk_54 6 (dk_at dksX3_join_4 6 rfl rfl)
theorem dX3_join_100 : decode cX3_join 100 = .ok (.aload_n 0, 1) := dk_42 (dk_at dksX3_join_4 8 rfl rfl)
theorem dX3_join_101 : decode cX3_join 101 = .ok (.getfield 64, 3) := dk_180 0 64 (dk_at dksX3_join_4 9 rfl rfl)
theorem dX3_join_104 : decode cX3_join 104 = .ok (.iload_n 2, 1) := dk_28 (dk_at dksX3_join_4 12 rfl rfl)
theorem dX3_join_105 : decode cX3_join 105 = .ok (.iaload, 1) := dk_46 (dk_at dksX3_join_4 13 rfl rfl)
theorem dX3_join_106 : decode cX3_join 106 = .ok (.iload 5, 2) := dk_21 5 (dk_at dksX3_join_4 14 rfl rfl)
theorem dX3_join_108 : decode cX3_join 108 = .ok (.if_icmp .ne 23, 3) := dk_160 0 23 (dk_at dksX3_join_4 16 rfl rfl)
theorem dX3_join_111 : decode cX3_join 111 = .ok (.iload_n 3, 1) := dk_29 (dk_at dksX3_join_4 19 rfl rfl)
theorem dX3_join_112 : decode cX3_join 112 = .ok (.iconst 1, 1) := dk_4 (dk_at dksX3_join_4 20 rfl rfl)
theorem dX3_join_113 : decode cX3_join 113 = .ok (.if_icmp .eq 21, 3) := dk_159 0 21 (dk_at dksX3_join_4 21 rfl rfl)
theorem dX3_join_116 : decode cX3_join 116 = .ok (.aload_n 0, 1) := dk_42 (dk_at dksX3_join_5 0 rfl rfl)
theorem dX3_join_117 : decode cX3_join 117 = .ok (.getfield 67, 3) := dk_180 0 67 (dk_at dksX3_join_5 1 rfl rfl)
theorem dX3_join_120 : decode cX3_join 120 = .ok (.iload_n 1, 1) := dk_27 (dk_at dksX3_join_5 4 rfl rfl)
theorem dX3_join_121 : decode cX3_join 121 = .ok (.iaload, 1) := dk_46 (dk_at dksX3_join_5 5 rfl rfl)
theorem dX3_join_122 : decode cX3_join 122 = .ok (.aload_n 0, 1) := dk_42 (dk_at dksX3_join_5 6 rfl rfl)
theorem dX3_join_123 : decode cX3_join 123 = .ok (.getfield 67, 3) := dk_180 0 67 (dk_at dksX3_join_5 7 rfl rfl)
theorem dX3_join_126 : decode cX3_join 126 = .ok (.iload_n 2, 1) := dk_28 (dk_at dksX3_join_5 10 rfl rfl)
theorem dX3_join_127 : decode cX3_join 127 = .ok (.iaload, 1) := dk_46 (dk_at dksX3_join_5 11 rfl rfl)
theorem dX3_join_128 : decode cX3_join 128 = .ok (.if_icmp .eq 6, 3) := dk_159 0 6 (dk_at dksX3_join_5 12 rfl rfl)
theorem dX3_join_131 : decode cX3_join 131 = .ok (.bipush (-4), 2) := dk_16 252 (dk_at dksX3_join_5 15 rfl rfl)
theorem dX3_join_133 : decode cX3_join 133 = .ok (.ireturn, 1) := dk_172 (dk_at dksX3_join_5 17 rfl rfl)
theorem dX3_join_134 : decode cX3_join 134 = .ok (.aload_n 0, 1) := dk_42 (dk_at dksX3_join_5 18 rfl rfl)
theorem dX3_join_135 : decode cX3_join 135 = .ok (.getfield 70, 3) := dk_180 0 70 (dk_at dksX3_join_5 19 rfl rfl)
theorem dX3_join_138 : decode cX3_join 138 = .ok (.iload_n 1, 1) := dk_27 (dk_at dksX3_join_5 22 rfl rfl)
theorem dX3_join_139 : decode cX3_join 139 = .ok (.iaload, 1) := dk_46 (dk_at dksX3_join_5 23 rfl rfl)
theorem dX3_join_140 : decode cX3_join 140 = .ok (.aload_n 0, 1) := dk_42 (dk_at dksX3_join_6 0 rfl rfl)
theorem dX3_join_141 : decode cX3_join 141 = .ok (.getfield 70, 3) := dk_180 0 70 (dk_at dksX3_join_6 1 rfl rfl)
theorem dX3_join_144 : decode cX3_join 144 = .ok (.iload_n 2, 1) := dk_28 (dk_at dksX3_join_6 4 rfl rfl)
theorem dX3_join_145 : decode cX3_join 145 = .ok (.iaload, 1) := dk_46 (dk_at dksX3_join_6 5 rfl rfl)
theorem dX3_join_146 : decode cX3_join 146 = .ok (.iadd, 1) := dk_96 (dk_at dksX3_join_6 6 rfl rfl)
theorem dX3_join_147 : decode cX3_join 147 = .ok (.bipush 12, 2) := dk_16 12 (dk_at dksX3_join_6 7 rfl rfl)
theorem dX3_join_149 : decode cX3_join 149 = .ok (.if_icmp .gt 10, 3) := dk_163 0 10 (dk_at dksX3_join_6 9 rfl rfl)
theorem dX3_join_152 : decode cX3_join 152 = .ok (.iload 6, 2) := dk_21 6 (dk_at dksX3_join_6 12 rfl rfl)
theorem dX3_join_154 : decode cX3_join 154 = .ok (.bipush 12, 2) := dk_16 12 (dk_at dksX3_join_6 14 rfl rfl)
theorem dX3_join_156 : decode cX3_join 156 = .ok (.if_icmp .le 6, 3) := dk_164 0 6 (dk_at dksX3_join_6 16 rfl rfl)
theorem dX3_join_159 : decode cX3_join 159 = .ok (.bipush (-6), 2) := dk_16 250 (dk_at dksX3_join_6 19 rfl rfl)
theorem dX3_join_161 : decode cX3_join 161 = .ok (.ireturn, 1) := dk_172 (dk_at dksX3_join_6 21 rfl rfl)
theorem dX3_join_162 : decode cX3_join 162 = .ok (.iload_n 3, 1) := dk_29 (dk_at dksX3_join_6 22 rfl rfl)
theorem dX3_join_163 : decode cX3_join 163 = .ok (.ifCond .ne 7, 3) := dk_154 0 7 (dk_at dksX3_join_7 0 rfl rfl)
theorem dX3_join_166 : decode cX3_join 166 = .ok (.lconst 1, 1) := dk_10 (dk_at dksX3_join_7 3 rfl rfl)
theorem dX3_join_167 : decode cX3_join 167 = .ok (.goto 14, 3) := dk_167 0 14 (dk_at dksX3_join_7 4 rfl rfl)
theorem dX3_join_170 : decode cX3_join 170 = .ok (.iload 5, 2) := dk_21 5 (dk_at dksX3_join_7 7 rfl rfl)
theorem dX3_join_172 : decode cX3_join 172 = .ok (.aload_n 0, 1) := dk_42 (dk_at dksX3_join_7 9 rfl rfl)
theorem dX3_join_173 : decode cX3_join 173 = .ok (.getfield 67, 3) := dk_180 0 67 (dk_at dksX3_join_7 10 rfl rfl)
theorem dX3_join_176 : decode cX3_join 176 = .ok (.iload_n 2, 1) := dk_28 (dk_at dksX3_join_7 13 rfl rfl)
theorem dX3_join_177 : decode cX3_join 177 = .ok (.iaload, 1) := dk_46 (dk_at dksX3_join_7 14 rfl rfl)
theorem dX3_join_178 : decode cX3_join 178 = .ok (.invokestatic 11, 3) := dk_184 0 11 (dk_at dksX3_join_7 15 rfl rfl)
theorem dX3_join_181 : decode cX3_join 181 = .ok (.lstore 7, 2) := dk_55 7 (dk_at dksX3_join_7 18 rfl rfl)
theorem dX3_join_183 : decode cX3_join 183 = .ok (.aload_n 0, 1) := dk_42 (dk_at dksX3_join_7 20 rfl rfl)
theorem dX3_join_184 : decode cX3_join 184 = .ok (.iconst 0, 1) := dk_3 (dk_at dksX3_join_7 21 rfl rfl)
theorem dX3_join_185 : decode cX3_join 185 = .ok (.putfield 233, 3) := dk_181 0 233 (dk_at dksX3_join_8 0 rfl rfl)
theorem dX3_join_188 : decode cX3_join 188 = .ok (.iconst 0, 1) := dk_3 (dk_at dksX3_join_8 3 rfl rfl)
theorem dX3_join_189 : decode cX3_join 189 = .ok (.istore 9, 2) := dk_54 9 (dk_at dksX3_join_8 4 rfl rfl)
theorem dX3_join_191 : decode cX3_join 191 = .ok (.iload 9, 2) := dk_21 9 (dk_at dksX3_join_8 6 rfl rfl)
theorem dX3_join_193 : decode cX3_join 193 = .ok (.aload_n 0, 1) := dk_42 (dk_at dksX3_join_8 8 rfl rfl)
theorem dX3_join_194 : decode cX3_join 194 = .ok (.getfield 70, 3) := dk_180 0 70 (dk_at dksX3_join_8 9 rfl rfl)
theorem dX3_join_197 : decode cX3_join 197 = .ok (.iload_n 1, 1) := dk_27 (dk_at dksX3_join_8 12 rfl rfl)
theorem dX3_join_198 : decode cX3_join 198 = .ok (.iaload, 1) := dk_46 (dk_at dksX3_join_8 13 rfl rfl)
theorem dX3_join_199 : decode cX3_join 199 = .ok (.if_icmp .ge 46, 3) := dk_162 0 46 (dk_at dksX3_join_8 14 rfl rfl)
theorem dX3_join_202 : decode cX3_join 202 = .ok (.aload_n 0, 1) := dk_42 (dk_at dksX3_join_8 17 rfl rfl)
theorem dX3_join_203 : decode cX3_join 203 = .ok (.getfield 73, 3) := dk_180 0 73 (dk_at dksX3_join_8 18 rfl rfl)
theorem dX3_join_206 : decode cX3_join 206 = .ok (.sipush 200, 3) := dk_17 0 200 (dk_at dksX3_join_8 21 rfl rfl)
theorem dX3_join_209 : decode cX3_join 209 = .ok (.iload_n 1, 1) := dk_27 (dk_at dksX3_join_9 0 rfl rfl)
theorem dX3_join_210 : decode cX3_join 210 = .ok (.imul, 1) := dk_104 (dk_at dksX3_join_9 1 rfl rfl)
theorem dX3_join_211 : decode cX3_join 211 = .ok (.iload 9, 2) := dk_21 9 (dk_at dksX3_join_9 2 rfl rfl)
theorem dX3_join_213 : decode cX3_join 213 = .ok (.iadd, 1) := dk_96 (dk_at dksX3_join_9 4 rfl rfl)
theorem dX3_join_214 : decode cX3_join 214 = .ok (.laload, 1) := dk_47 (dk_at dksX3_join_9 5 rfl rfl)
theorem dX3_join_215 : decode cX3_join 215 = .ok (.lstore 10, 2) := dk_55 10 (dk_at dksX3_join_9 6 rfl rfl)
theorem dX3_join_217 : decode cX3_join 217 = .ok (.aload_n 0, 1) := dk_42 (dk_at dksX3_join_9 8 rfl rfl)
theorem dX3_join_218 : decode cX3_join 218 = .ok (.lload 10, 2) := dk_22 10 (dk_at dksX3_join_9 9 rfl rfl)
theorem dX3_join_220 : decode cX3_join 220 = .ok (.lload 7, 2) := dk_22 7 (dk_at dksX3_join_9 11 rfl rfl)
theorem dX3_join_222 : decode cX3_join 222 = .ok (.lmul, 1) := dk_105 (dk_at dksX3_join_9 13 rfl rfl)
theorem dX3_join_223 : decode cX3_join 223 = .ok (.iload_n 3, 1) := dk_29 (dk_at dksX3_join_9 14 rfl rfl)
theorem dX3_join_224 : decode cX3_join 224 = .ok (.iconst 2, 1) := dk_5 (dk_at dksX3_join_9 15 rfl rfl)
theorem dX3_join_225 : decode cX3_join 225 = .ok (.if_icmp .ne 8, 3) := dk_160 0 8 (dk_at dksX3_join_9 16 rfl rfl)
theorem dX3_join_228 : decode cX3_join 228 = .ok (.lload 10, 2) := dk_22 10 (dk_at dksX3_join_9 19 rfl rfl)
theorem dX3_join_230 : decode cX3_join 230 = .ok (.goto 4, 3) := dk_167 0 4 (dk_at dksX3_join_9 21 rfl rfl)
theorem dX3_join_233 : decode cX3_join 233 = .ok (.lconst 0, 1) := dk_9 (dk_at dksX3_join_10 0 rfl rfl)
theorem dX3_join_234 : decode cX3_join 234 = .ok (.ladd, 1) := dk_97 (dk_at dksX3_join_10 1 rfl rfl)
theorem dX3_join_235 : decode cX3_join 235 = .ok (.iconst 0, 1) := dk_3 (dk_at dksX3_join_10 2 rfl rfl)
theorem dX3_join_236 : decode cX3_join 236 = .ok (.invokevirtual 250, 3) := dk_182 0 250 (dk_at dksX3_join_10 3 rfl rfl)
theorem dX3_join_239 : decode cX3_join 239 = .ok (.iinc 9 1, 3) := dk_132 9 1 (dk_at dksX3_join_10 6 rfl rfl)
theorem dX3_join_242 : decode cX3_join 242 = .ok (.goto (-51), 3) := dk_167 255 205 (dk_at dksX3_join_10 9 rfl rfl)
theorem dX3_join_245 : decode cX3_join 245 = .ok (.iconst 0, 1) := dk_3 (dk_at dksX3_join_10 12 rfl rfl)
theorem dX3_join_246 : decode cX3_join 246 = .ok (.istore 9, 2) := dk_54 9 (dk_at dksX3_join_10 13 rfl rfl)
theorem dX3_join_248 : decode cX3_join 248 = .ok (.iload 9, 2) := dk_21 9 (dk_at dksX3_join_10 15 rfl rfl)
theorem dX3_join_250 : decode cX3_join 250 = .ok (.aload_n 0, 1) := dk_42 (dk_at dksX3_join_10 17 rfl rfl)
theorem dX3_join_251 : decode cX3_join 251 = .ok (.getfield 70, 3) := dk_180 0 70 (dk_at dksX3_join_10 18 rfl rfl)
theorem dX3_join_254 : decode cX3_join 254 = .ok (.iload_n 2, 1) := dk_28 (dk_at dksX3_join_10 21 rfl rfl)
theorem dX3_join_255 : decode cX3_join 255 = .ok (.iaload, 1) := dk_46 (dk_at dksX3_join_10 22 rfl rfl)
theorem dX3_join_256 : decode cX3_join 256 = .ok (.if_icmp .ge 27, 3) := dk_162 0 27 (dk_at dksX3_join_11 0 rfl rfl)
theorem dX3_join_259 : decode cX3_join 259 = .ok (.aload_n 0, 1) := dk_42 (dk_at dksX3_join_11 3 rfl rfl)
theorem dX3_join_260 : decode cX3_join 260 = .ok (.aload_n 0, 1) := dk_42 (dk_at dksX3_join_11 4 rfl rfl)
theorem dX3_join_261 : decode cX3_join 261 = .ok (.getfield 73, 3) := dk_180 0 73 (dk_at dksX3_join_11 5 rfl rfl)
theorem dX3_join_264 : decode cX3_join 264 = .ok (.sipush 200, 3) := dk_17 0 200 (dk_at dksX3_join_11 8 rfl rfl)
theorem dX3_join_267 : decode cX3_join 267 = .ok (.iload_n 2, 1) := dk_28 (dk_at dksX3_join_11 11 rfl rfl)
theorem dX3_join_268 : decode cX3_join 268 = .ok (.imul, 1) := dk_104 (dk_at dksX3_join_11 12 rfl rfl)
theorem dX3_join_269 : decode cX3_join 269 = .ok (.iload 9, 2) := dk_21 9 (dk_at dksX3_join_11 13 rfl rfl)
theorem dX3_join_271 : decode cX3_join 271 = .ok (.iadd, 1) := dk_96 (dk_at dksX3_join_11 15 rfl rfl)
theorem dX3_join_272 : decode cX3_join 272 = .ok (.laload, 1) := dk_47 (dk_at dksX3_join_11 16 rfl rfl)
theorem dX3_join_273 : decode cX3_join 273 = .ok (.iconst 0, 1) := dk_3 (dk_at dksX3_join_11 17 rfl rfl)
theorem dX3_join_274 : decode cX3_join 274 = .ok (.invokevirtual 250, 3) := dk_182 0 250 (dk_at dksX3_join_11 18 rfl rfl)
theorem dX3_join_277 : decode cX3_join 277 = .ok (.iinc 9 1, 3) := dk_132 9 1 (dk_at dksX3_join_11 21 rfl rfl)
theorem dX3_join_280 : decode cX3_join 280 = .ok (.goto (-32), 3) := dk_167 255 224 (dk_at dksX3_join_12 0 rfl rfl)
theorem dX3_join_283 : decode cX3_join 283 = .ok (.aload_n 0, 1) := dk_42 (dk_at dksX3_join_12 3 rfl rfl)
theorem dX3_join_284 : decode cX3_join 284 = .ok (.iload 4, 2) := dk_21 4 (dk_at dksX3_join_12 4 rfl rfl)
theorem dX3_join_286 : decode cX3_join 286 = .ok (.iconst 1, 1) := dk_4 (dk_at dksX3_join_12 6 rfl rfl)
theorem dX3_join_287 : decode cX3_join 287 = .ok (.iload 5, 2) := dk_21 5 (dk_at dksX3_join_12 7 rfl rfl)
theorem dX3_join_289 : decode cX3_join 289 = .ok (.iload 6, 2) := dk_21 6 (dk_at dksX3_join_12 9 rfl rfl)
theorem dX3_join_291 : decode cX3_join 291 = .ok (.invokevirtual 239, 3) := dk_182 0 239 (dk_at dksX3_join_12 11 rfl rfl)
theorem dX3_join_294 : decode cX3_join 294 = .ok (.ireturn, 1) := dk_172 (dk_at dksX3_join_12 14 rfl rfl)
abbrev cX3_lacksLine : ByteArray := prog_11_method_72_code
def yX3_lacksLine : MethodName := ⟨RX3, "lacksLine", "(I)I"⟩
def dkwX3_lacksLine_1 : List UInt8 := [167, 0, 4, 3, 172]
abbrev dktX3_lacksLine_1 : List UInt8 := dkwX3_lacksLine_1 ++ []
def dkwX3_lacksLine_0 : List UInt8 := [42, 27, 182, 0, 127, 153, 0, 8, 16, 245, 167, 0, 18, 42, 180, 0, 60, 27, 46, 154, 0, 8, 16, 244]
abbrev dktX3_lacksLine_0 : List UInt8 := dkwX3_lacksLine_0 ++ dktX3_lacksLine_1
theorem dksX3_lacksLine_0 : cX3_lacksLine.data.toList.drop 0 = dktX3_lacksLine_0 := by decide +kernel
theorem dksX3_lacksLine_1 : cX3_lacksLine.data.toList.drop 24 = dktX3_lacksLine_1 := dk_seg dksX3_lacksLine_0 24 rfl rfl
theorem dX3_lacksLine_0 : decode cX3_lacksLine 0 = .ok (.aload_n 0, 1) := dk_42 (dk_at dksX3_lacksLine_0 0 rfl rfl)
theorem dX3_lacksLine_1 : decode cX3_lacksLine 1 = .ok (.iload_n 1, 1) := dk_27 (dk_at dksX3_lacksLine_0 1 rfl rfl)
theorem dX3_lacksLine_2 : decode cX3_lacksLine 2 = .ok (.invokevirtual 127, 3) := dk_182 0 127 (dk_at dksX3_lacksLine_0 2 rfl rfl)
theorem dX3_lacksLine_5 : decode cX3_lacksLine 5 = .ok (.ifCond .eq 8, 3) := dk_153 0 8 (dk_at dksX3_lacksLine_0 5 rfl rfl)
theorem dX3_lacksLine_8 : decode cX3_lacksLine 8 = .ok (.bipush (-11), 2) := dk_16 245 (dk_at dksX3_lacksLine_0 8 rfl rfl)
theorem dX3_lacksLine_10 : decode cX3_lacksLine 10 = .ok (.goto 18, 3) := dk_167 0 18 (dk_at dksX3_lacksLine_0 10 rfl rfl)
theorem dX3_lacksLine_13 : decode cX3_lacksLine 13 = .ok (.aload_n 0, 1) := dk_42 (dk_at dksX3_lacksLine_0 13 rfl rfl)
theorem dX3_lacksLine_14 : decode cX3_lacksLine 14 = .ok (.getfield 60, 3) := dk_180 0 60 (dk_at dksX3_lacksLine_0 14 rfl rfl)
theorem dX3_lacksLine_17 : decode cX3_lacksLine 17 = .ok (.iload_n 1, 1) := dk_27 (dk_at dksX3_lacksLine_0 17 rfl rfl)
theorem dX3_lacksLine_18 : decode cX3_lacksLine 18 = .ok (.iaload, 1) := dk_46 (dk_at dksX3_lacksLine_0 18 rfl rfl)
theorem dX3_lacksLine_19 : decode cX3_lacksLine 19 = .ok (.ifCond .ne 8, 3) := dk_154 0 8 (dk_at dksX3_lacksLine_0 19 rfl rfl)
theorem dX3_lacksLine_22 : decode cX3_lacksLine 22 = .ok (.bipush (-12), 2) := dk_16 244 (dk_at dksX3_lacksLine_0 22 rfl rfl)
theorem dX3_lacksLine_24 : decode cX3_lacksLine 24 = .ok (.goto 4, 3) := dk_167 0 4 (dk_at dksX3_lacksLine_1 0 rfl rfl)
theorem dX3_lacksLine_27 : decode cX3_lacksLine 27 = .ok (.iconst 0, 1) := dk_3 (dk_at dksX3_lacksLine_1 3 rfl rfl)
theorem dX3_lacksLine_28 : decode cX3_lacksLine 28 = .ok (.ireturn, 1) := dk_172 (dk_at dksX3_lacksLine_1 4 rfl rfl)
abbrev cX3_list : ByteArray := prog_11_method_74_code
def yX3_list : MethodName := ⟨RX3, "list", "(II)I"⟩
def dkwX3_list_4 : List UInt8 := [42, 180, 0, 67, 27, 46, 182, 0, 239, 172]
abbrev dktX3_list_4 : List UInt8 := dkwX3_list_4 ++ []
def dkwX3_list_3 : List UInt8 := [180, 0, 86, 29, 47, 3, 182, 0, 250, 132, 3, 1, 167, 255, 234, 42, 28, 3, 42, 180, 0, 64, 27, 46]
abbrev dktX3_list_3 : List UInt8 := dkwX3_list_3 ++ dktX3_list_4
def dkwX3_list_2 : List UInt8 := [164, 0, 6, 16, 250, 172, 42, 3, 181, 0, 233, 3, 62, 29, 42, 180, 0, 175, 162, 0, 20, 42, 42]
abbrev dktX3_list_2 : List UInt8 := dkwX3_list_2 ++ dktX3_list_3
def dkwX3_list_1 : List UInt8 := [42, 27, 182, 0, 254, 172, 42, 27, 182, 0, 187, 154, 0, 6, 16, 251, 172, 42, 180, 0, 175, 17, 0, 200]
abbrev dktX3_list_1 : List UInt8 := dkwX3_list_1 ++ dktX3_list_2
def dkwX3_list_0 : List UInt8 := [27, 184, 0, 119, 153, 0, 10, 28, 184, 0, 119, 154, 0, 5, 2, 172, 42, 27, 182, 0, 254, 153, 0, 9]
abbrev dktX3_list_0 : List UInt8 := dkwX3_list_0 ++ dktX3_list_1
theorem dksX3_list_0 : cX3_list.data.toList.drop 0 = dktX3_list_0 := by decide +kernel
theorem dksX3_list_1 : cX3_list.data.toList.drop 24 = dktX3_list_1 := dk_seg dksX3_list_0 24 rfl rfl
theorem dksX3_list_2 : cX3_list.data.toList.drop 48 = dktX3_list_2 := dk_seg dksX3_list_1 24 rfl rfl
theorem dksX3_list_3 : cX3_list.data.toList.drop 71 = dktX3_list_3 := dk_seg dksX3_list_2 23 rfl rfl
theorem dksX3_list_4 : cX3_list.data.toList.drop 95 = dktX3_list_4 := dk_seg dksX3_list_3 24 rfl rfl
theorem dX3_list_0 : decode cX3_list 0 = .ok (.iload_n 1, 1) := dk_27 (dk_at dksX3_list_0 0 rfl rfl)
theorem dX3_list_1 : decode cX3_list 1 = .ok (.invokestatic 119, 3) := dk_184 0 119 (dk_at dksX3_list_0 1 rfl rfl)
theorem dX3_list_4 : decode cX3_list 4 = .ok (.ifCond .eq 10, 3) := dk_153 0 10 (dk_at dksX3_list_0 4 rfl rfl)
theorem dX3_list_7 : decode cX3_list 7 = .ok (.iload_n 2, 1) := dk_28 (dk_at dksX3_list_0 7 rfl rfl)
theorem dX3_list_8 : decode cX3_list 8 = .ok (.invokestatic 119, 3) := dk_184 0 119 (dk_at dksX3_list_0 8 rfl rfl)
theorem dX3_list_11 : decode cX3_list 11 = .ok (.ifCond .ne 5, 3) := dk_154 0 5 (dk_at dksX3_list_0 11 rfl rfl)
theorem dX3_list_14 : decode cX3_list 14 = .ok (.iconst (-1), 1) := dk_2 (dk_at dksX3_list_0 14 rfl rfl)
theorem dX3_list_15 : decode cX3_list 15 = .ok (.ireturn, 1) := dk_172 (dk_at dksX3_list_0 15 rfl rfl)
theorem dX3_list_16 : decode cX3_list 16 = .ok (.aload_n 0, 1) := dk_42 (dk_at dksX3_list_0 16 rfl rfl)
theorem dX3_list_17 : decode cX3_list 17 = .ok (.iload_n 1, 1) := dk_27 (dk_at dksX3_list_0 17 rfl rfl)
theorem dX3_list_18 : decode cX3_list 18 = .ok (.invokevirtual 254, 3) := dk_182 0 254 (dk_at dksX3_list_0 18 rfl rfl)
theorem dX3_list_21 : decode cX3_list 21 = .ok (.ifCond .eq 9, 3) := dk_153 0 9 (dk_at dksX3_list_0 21 rfl rfl)
theorem dX3_list_24 : decode cX3_list 24 = .ok (.aload_n 0, 1) := dk_42 (dk_at dksX3_list_1 0 rfl rfl)
theorem dX3_list_25 : decode cX3_list 25 = .ok (.iload_n 1, 1) := dk_27 (dk_at dksX3_list_1 1 rfl rfl)
theorem dX3_list_26 : decode cX3_list 26 = .ok (.invokevirtual 254, 3) := dk_182 0 254 (dk_at dksX3_list_1 2 rfl rfl)
theorem dX3_list_29 : decode cX3_list 29 = .ok (.ireturn, 1) := dk_172 (dk_at dksX3_list_1 5 rfl rfl)
theorem dX3_list_30 : decode cX3_list 30 = .ok (.aload_n 0, 1) := dk_42 (dk_at dksX3_list_1 6 rfl rfl)
theorem dX3_list_31 : decode cX3_list 31 = .ok (.iload_n 1, 1) := dk_27 (dk_at dksX3_list_1 7 rfl rfl)
theorem dX3_list_32 : decode cX3_list 32 = .ok (.invokevirtual 187, 3) := dk_182 0 187 (dk_at dksX3_list_1 8 rfl rfl)
theorem dX3_list_35 : decode cX3_list 35 = .ok (.ifCond .ne 6, 3) := dk_154 0 6 (dk_at dksX3_list_1 11 rfl rfl)
theorem dX3_list_38 : decode cX3_list 38 = .ok (.bipush (-5), 2) := dk_16 251 (dk_at dksX3_list_1 14 rfl rfl)
theorem dX3_list_40 : decode cX3_list 40 = .ok (.ireturn, 1) := dk_172 (dk_at dksX3_list_1 16 rfl rfl)
theorem dX3_list_41 : decode cX3_list 41 = .ok (.aload_n 0, 1) := dk_42 (dk_at dksX3_list_1 17 rfl rfl)
theorem dX3_list_42 : decode cX3_list 42 = .ok (.getfield 175, 3) := dk_180 0 175 (dk_at dksX3_list_1 18 rfl rfl)
theorem dX3_list_45 : decode cX3_list 45 = .ok (.sipush 200, 3) := dk_17 0 200 (dk_at dksX3_list_1 21 rfl rfl)
theorem dX3_list_48 : decode cX3_list 48 = .ok (.if_icmp .le 6, 3) := dk_164 0 6 (dk_at dksX3_list_2 0 rfl rfl)
theorem dX3_list_51 : decode cX3_list 51 = .ok (.bipush (-6), 2) := dk_16 250 (dk_at dksX3_list_2 3 rfl rfl)
theorem dX3_list_53 : decode cX3_list 53 = .ok (.ireturn, 1) := dk_172 (dk_at dksX3_list_2 5 rfl rfl)
theorem dX3_list_54 : decode cX3_list 54 = .ok (.aload_n 0, 1) := dk_42 (dk_at dksX3_list_2 6 rfl rfl)
theorem dX3_list_55 : decode cX3_list 55 = .ok (.iconst 0, 1) := dk_3 (dk_at dksX3_list_2 7 rfl rfl)
theorem dX3_list_56 : decode cX3_list 56 = .ok (.putfield 233, 3) := dk_181 0 233 (dk_at dksX3_list_2 8 rfl rfl)
theorem dX3_list_59 : decode cX3_list 59 = .ok (.iconst 0, 1) := dk_3 (dk_at dksX3_list_2 11 rfl rfl)
theorem dX3_list_60 : decode cX3_list 60 = .ok (.istore_n 3, 1) := dk_62 (dk_at dksX3_list_2 12 rfl rfl)
theorem dX3_list_61 : decode cX3_list 61 = .ok (.iload_n 3, 1) := dk_29 (dk_at dksX3_list_2 13 rfl rfl)
theorem dX3_list_62 : decode cX3_list 62 = .ok (.aload_n 0, 1) := dk_42 (dk_at dksX3_list_2 14 rfl rfl)
theorem dX3_list_63 : decode cX3_list 63 = .ok (.getfield 175, 3) := dk_180 0 175 (dk_at dksX3_list_2 15 rfl rfl)
theorem dX3_list_66 : decode cX3_list 66 = .ok (.if_icmp .ge 20, 3) := dk_162 0 20 (dk_at dksX3_list_2 18 rfl rfl)
theorem dX3_list_69 : decode cX3_list 69 = .ok (.aload_n 0, 1) := dk_42 (dk_at dksX3_list_2 21 rfl rfl)
theorem dX3_list_70 : decode cX3_list 70 = .ok (.aload_n 0, 1) := dk_42 (dk_at dksX3_list_2 22 rfl rfl)
theorem dX3_list_71 : decode cX3_list 71 = .ok (.getfield 86, 3) := dk_180 0 86 (dk_at dksX3_list_3 0 rfl rfl)
theorem dX3_list_74 : decode cX3_list 74 = .ok (.iload_n 3, 1) := dk_29 (dk_at dksX3_list_3 3 rfl rfl)
theorem dX3_list_75 : decode cX3_list 75 = .ok (.laload, 1) := dk_47 (dk_at dksX3_list_3 4 rfl rfl)
theorem dX3_list_76 : decode cX3_list 76 = .ok (.iconst 0, 1) := dk_3 (dk_at dksX3_list_3 5 rfl rfl)
theorem dX3_list_77 : decode cX3_list 77 = .ok (.invokevirtual 250, 3) := dk_182 0 250 (dk_at dksX3_list_3 6 rfl rfl)
theorem dX3_list_80 : decode cX3_list 80 = .ok (.iinc 3 1, 3) := dk_132 3 1 (dk_at dksX3_list_3 9 rfl rfl)
theorem dX3_list_83 : decode cX3_list 83 = .ok (.goto (-22), 3) := dk_167 255 234 (dk_at dksX3_list_3 12 rfl rfl)
theorem dX3_list_86 : decode cX3_list 86 = .ok (.aload_n 0, 1) := dk_42 (dk_at dksX3_list_3 15 rfl rfl)
theorem dX3_list_87 : decode cX3_list 87 = .ok (.iload_n 2, 1) := dk_28 (dk_at dksX3_list_3 16 rfl rfl)
theorem dX3_list_88 : decode cX3_list 88 = .ok (.iconst 0, 1) := dk_3 (dk_at dksX3_list_3 17 rfl rfl)
theorem dX3_list_89 : decode cX3_list 89 = .ok (.aload_n 0, 1) := dk_42 (dk_at dksX3_list_3 18 rfl rfl)
theorem dX3_list_90 : decode cX3_list 90 = .ok (.getfield 64, 3) := dk_180 0 64 (dk_at dksX3_list_3 19 rfl rfl)
theorem dX3_list_93 : decode cX3_list 93 = .ok (.iload_n 1, 1) := dk_27 (dk_at dksX3_list_3 22 rfl rfl)
theorem dX3_list_94 : decode cX3_list 94 = .ok (.iaload, 1) := dk_46 (dk_at dksX3_list_3 23 rfl rfl)
theorem dX3_list_95 : decode cX3_list 95 = .ok (.aload_n 0, 1) := dk_42 (dk_at dksX3_list_4 0 rfl rfl)
theorem dX3_list_96 : decode cX3_list 96 = .ok (.getfield 67, 3) := dk_180 0 67 (dk_at dksX3_list_4 1 rfl rfl)
theorem dX3_list_99 : decode cX3_list 99 = .ok (.iload_n 1, 1) := dk_27 (dk_at dksX3_list_4 4 rfl rfl)
theorem dX3_list_100 : decode cX3_list 100 = .ok (.iaload, 1) := dk_46 (dk_at dksX3_list_4 5 rfl rfl)
theorem dX3_list_101 : decode cX3_list 101 = .ok (.invokevirtual 239, 3) := dk_182 0 239 (dk_at dksX3_list_4 6 rfl rfl)
theorem dX3_list_104 : decode cX3_list 104 = .ok (.ireturn, 1) := dk_172 (dk_at dksX3_list_4 9 rfl rfl)
abbrev cX3_turn : ByteArray := prog_11_method_75_code
def yX3_turn : MethodName := ⟨RX3, "turn", "(IJII)I"⟩
def dkwX3_turn_11 : List UInt8 := [182, 0, 239, 172]
abbrev dktX3_turn_11 : List UInt8 := dkwX3_turn_11 ++ []
def dkwX3_turn_10 : List UInt8 := [180, 0, 60, 27, 46, 5, 160, 0, 7, 4, 167, 0, 9, 42, 180, 0, 60, 27, 46, 21, 6, 21, 7]
abbrev dktX3_turn_10 : List UInt8 := dkwX3_turn_10 ++ dktX3_turn_11
def dkwX3_turn_9 : List UInt8 := [132, 12, 1, 167, 255, 189, 42, 22, 10, 3, 182, 0, 250, 132, 9, 1, 167, 255, 159, 42, 21, 5, 42]
abbrev dktX3_turn_9 : List UInt8 := dkwX3_turn_9 ++ dktX3_turn_10
def dkwX3_turn_8 : List UInt8 := [21, 7, 4, 100, 32, 7, 21, 12, 104, 123, 20, 1, 1, 127, 136, 100, 184, 0, 11, 105, 97, 55, 10]
abbrev dktX3_turn_8 : List UInt8 := dkwX3_turn_8 ++ dktX3_turn_9
def dkwX3_turn_7 : List UInt8 := [180, 0, 73, 17, 0, 200, 27, 104, 21, 9, 96, 47, 21, 12, 184, 0, 15, 184, 0, 7, 133, 21, 6]
abbrev dktX3_turn_7 : List UInt8 := dkwX3_turn_7 ++ dktX3_turn_8
def dkwX3_turn_6 : List UInt8 := [9, 55, 10, 3, 54, 12, 21, 12, 21, 7, 162, 0, 66, 22, 10, 21, 6, 21, 4, 21, 6, 21, 7, 42]
abbrev dktX3_turn_6 : List UInt8 := dkwX3_turn_6 ++ dktX3_turn_7
def dkwX3_turn_5 : List UInt8 := [154, 0, 5, 2, 172, 42, 3, 181, 0, 233, 3, 54, 9, 21, 9, 42, 180, 0, 70, 27, 46, 162, 0, 92]
abbrev dktX3_turn_5 : List UInt8 := dkwX3_turn_5 ++ dktX3_turn_6
def dkwX3_turn_4 : List UInt8 := [7, 21, 7, 104, 123, 9, 148, 154, 0, 18, 21, 4, 133, 10, 21, 6, 4, 100, 133, 184, 0, 26]
abbrev dktX3_turn_4 : List UInt8 := dkwX3_turn_4 ++ dktX3_turn_5
def dkwX3_turn_3 : List UInt8 := [127, 136, 120, 128, 54, 8, 132, 9, 1, 167, 255, 228, 21, 8, 4, 21, 7, 120, 4, 100, 160, 0, 29, 32]
abbrev dktX3_turn_3 : List UInt8 := dkwX3_turn_3 ++ dktX3_turn_4
def dkwX3_turn_2 : List UInt8 := [54, 8, 3, 54, 9, 21, 9, 21, 7, 162, 0, 27, 21, 8, 4, 32, 7, 21, 9, 104, 123, 20, 1, 1]
abbrev dktX3_turn_2 : List UInt8 := dkwX3_turn_2 ++ dktX3_turn_3
def dkwX3_turn_1 : List UInt8 := [153, 0, 6, 16, 245, 172, 42, 180, 0, 64, 27, 46, 54, 6, 42, 180, 0, 67, 27, 46, 54, 7, 3]
abbrev dktX3_turn_1 : List UInt8 := dkwX3_turn_1 ++ dktX3_turn_2
def dkwX3_turn_0 : List UInt8 := [27, 184, 0, 119, 153, 0, 11, 21, 5, 184, 0, 119, 154, 0, 5, 2, 172, 42, 27, 182, 0, 127]
abbrev dktX3_turn_0 : List UInt8 := dkwX3_turn_0 ++ dktX3_turn_1
theorem dksX3_turn_0 : cX3_turn.data.toList.drop 0 = dktX3_turn_0 := by decide +kernel
theorem dksX3_turn_1 : cX3_turn.data.toList.drop 22 = dktX3_turn_1 := dk_seg dksX3_turn_0 22 rfl rfl
theorem dksX3_turn_2 : cX3_turn.data.toList.drop 45 = dktX3_turn_2 := dk_seg dksX3_turn_1 23 rfl rfl
theorem dksX3_turn_3 : cX3_turn.data.toList.drop 69 = dktX3_turn_3 := dk_seg dksX3_turn_2 24 rfl rfl
theorem dksX3_turn_4 : cX3_turn.data.toList.drop 93 = dktX3_turn_4 := dk_seg dksX3_turn_3 24 rfl rfl
theorem dksX3_turn_5 : cX3_turn.data.toList.drop 115 = dktX3_turn_5 := dk_seg dksX3_turn_4 22 rfl rfl
theorem dksX3_turn_6 : cX3_turn.data.toList.drop 139 = dktX3_turn_6 := dk_seg dksX3_turn_5 24 rfl rfl
theorem dksX3_turn_7 : cX3_turn.data.toList.drop 163 = dktX3_turn_7 := dk_seg dksX3_turn_6 24 rfl rfl
theorem dksX3_turn_8 : cX3_turn.data.toList.drop 186 = dktX3_turn_8 := dk_seg dksX3_turn_7 23 rfl rfl
theorem dksX3_turn_9 : cX3_turn.data.toList.drop 209 = dktX3_turn_9 := dk_seg dksX3_turn_8 23 rfl rfl
theorem dksX3_turn_10 : cX3_turn.data.toList.drop 232 = dktX3_turn_10 := dk_seg dksX3_turn_9 23 rfl rfl
theorem dksX3_turn_11 : cX3_turn.data.toList.drop 255 = dktX3_turn_11 := dk_seg dksX3_turn_10 23 rfl rfl
theorem dX3_turn_0 : decode cX3_turn 0 = .ok (.iload_n 1, 1) := dk_27 (dk_at dksX3_turn_0 0 rfl rfl)
theorem dX3_turn_1 : decode cX3_turn 1 = .ok (.invokestatic 119, 3) := dk_184 0 119 (dk_at dksX3_turn_0 1 rfl rfl)
theorem dX3_turn_4 : decode cX3_turn 4 = .ok (.ifCond .eq 11, 3) := dk_153 0 11 (dk_at dksX3_turn_0 4 rfl rfl)
theorem dX3_turn_7 : decode cX3_turn 7 = .ok (.iload 5, 2) := dk_21 5 (dk_at dksX3_turn_0 7 rfl rfl)
theorem dX3_turn_9 : decode cX3_turn 9 = .ok (.invokestatic 119, 3) := dk_184 0 119 (dk_at dksX3_turn_0 9 rfl rfl)
theorem dX3_turn_12 : decode cX3_turn 12 = .ok (.ifCond .ne 5, 3) := dk_154 0 5 (dk_at dksX3_turn_0 12 rfl rfl)
theorem dX3_turn_15 : decode cX3_turn 15 = .ok (.iconst (-1), 1) := dk_2 (dk_at dksX3_turn_0 15 rfl rfl)
theorem dX3_turn_16 : decode cX3_turn 16 = .ok (.ireturn, 1) := dk_172 (dk_at dksX3_turn_0 16 rfl rfl)
theorem dX3_turn_17 : decode cX3_turn 17 = .ok (.aload_n 0, 1) := dk_42 (dk_at dksX3_turn_0 17 rfl rfl)
theorem dX3_turn_18 : decode cX3_turn 18 = .ok (.iload_n 1, 1) := dk_27 (dk_at dksX3_turn_0 18 rfl rfl)
theorem dX3_turn_19 : decode cX3_turn 19 = .ok (.invokevirtual 127, 3) := dk_182 0 127 (dk_at dksX3_turn_0 19 rfl rfl)
theorem dX3_turn_22 : decode cX3_turn 22 = .ok (.ifCond .eq 6, 3) := dk_153 0 6 (dk_at dksX3_turn_1 0 rfl rfl)
theorem dX3_turn_25 : decode cX3_turn 25 = .ok (.bipush (-11), 2) := dk_16 245 (dk_at dksX3_turn_1 3 rfl rfl)
theorem dX3_turn_27 : decode cX3_turn 27 = .ok (.ireturn, 1) := dk_172 (dk_at dksX3_turn_1 5 rfl rfl)
theorem dX3_turn_28 : decode cX3_turn 28 = .ok (.aload_n 0, 1) := dk_42 (dk_at dksX3_turn_1 6 rfl rfl)
theorem dX3_turn_29 : decode cX3_turn 29 = .ok (.getfield 64, 3) := dk_180 0 64 (dk_at dksX3_turn_1 7 rfl rfl)
theorem dX3_turn_32 : decode cX3_turn 32 = .ok (.iload_n 1, 1) := dk_27 (dk_at dksX3_turn_1 10 rfl rfl)
theorem dX3_turn_33 : decode cX3_turn 33 = .ok (.iaload, 1) := dk_46 (dk_at dksX3_turn_1 11 rfl rfl)
theorem dX3_turn_34 : decode cX3_turn 34 = .ok (.istore 6, 2) := dk_54 6 (dk_at dksX3_turn_1 12 rfl rfl)
theorem dX3_turn_36 : decode cX3_turn 36 = .ok (.aload_n 0, 1) := dk_42 (dk_at dksX3_turn_1 14 rfl rfl)
theorem dX3_turn_37 : decode cX3_turn 37 = .ok (.getfield 67, 3) := dk_180 0 67 (dk_at dksX3_turn_1 15 rfl rfl)
theorem dX3_turn_40 : decode cX3_turn 40 = .ok (.iload_n 1, 1) := dk_27 (dk_at dksX3_turn_1 18 rfl rfl)
theorem dX3_turn_41 : decode cX3_turn 41 = .ok (.iaload, 1) := dk_46 (dk_at dksX3_turn_1 19 rfl rfl)
theorem dX3_turn_42 : decode cX3_turn 42 = .ok (.istore 7, 2) := dk_54 7 (dk_at dksX3_turn_1 20 rfl rfl)
theorem dX3_turn_44 : decode cX3_turn 44 = .ok (.iconst 0, 1) := dk_3 (dk_at dksX3_turn_1 22 rfl rfl)
theorem dX3_turn_45 : decode cX3_turn 45 = .ok (.istore 8, 2) := dk_54 8 (dk_at dksX3_turn_2 0 rfl rfl)
theorem dX3_turn_47 : decode cX3_turn 47 = .ok (.iconst 0, 1) := dk_3 (dk_at dksX3_turn_2 2 rfl rfl)
theorem dX3_turn_48 : decode cX3_turn 48 = .ok (.istore 9, 2) := dk_54 9 (dk_at dksX3_turn_2 3 rfl rfl)
theorem dX3_turn_50 : decode cX3_turn 50 = .ok (.iload 9, 2) := dk_21 9 (dk_at dksX3_turn_2 5 rfl rfl)
theorem dX3_turn_52 : decode cX3_turn 52 = .ok (.iload 7, 2) := dk_21 7 (dk_at dksX3_turn_2 7 rfl rfl)
theorem dX3_turn_54 : decode cX3_turn 54 = .ok (.if_icmp .ge 27, 3) := dk_162 0 27 (dk_at dksX3_turn_2 9 rfl rfl)
theorem dX3_turn_57 : decode cX3_turn 57 = .ok (.iload 8, 2) := dk_21 8 (dk_at dksX3_turn_2 12 rfl rfl)
theorem dX3_turn_59 : decode cX3_turn 59 = .ok (.iconst 1, 1) := dk_4 (dk_at dksX3_turn_2 14 rfl rfl)
theorem dX3_turn_60 : decode cX3_turn 60 = .ok (.lload_n 2, 1) := dk_32 (dk_at dksX3_turn_2 15 rfl rfl)
theorem dX3_turn_61 : decode cX3_turn 61 = .ok (.iconst 4, 1) := dk_7 (dk_at dksX3_turn_2 16 rfl rfl)
theorem dX3_turn_62 : decode cX3_turn 62 = .ok (.iload 9, 2) := dk_21 9 (dk_at dksX3_turn_2 17 rfl rfl)
theorem dX3_turn_64 : decode cX3_turn 64 = .ok (.imul, 1) := dk_104 (dk_at dksX3_turn_2 19 rfl rfl)
theorem dX3_turn_65 : decode cX3_turn 65 = .ok (.lshr, 1) := dk_123 (dk_at dksX3_turn_2 20 rfl rfl)
theorem dX3_turn_66 : decode cX3_turn 66 = .ok (.ldc2_w 257, 3) := dk_20 1 1 (dk_at dksX3_turn_2 21 rfl rfl)
theorem dX3_turn_69 : decode cX3_turn 69 = .ok (.land, 1) := dk_127 (dk_at dksX3_turn_3 0 rfl rfl)
theorem dX3_turn_70 : decode cX3_turn 70 = .ok (.l2i, 1) := dk_136 (dk_at dksX3_turn_3 1 rfl rfl)
theorem dX3_turn_71 : decode cX3_turn 71 = .ok (.ishl, 1) := dk_120 (dk_at dksX3_turn_3 2 rfl rfl)
theorem dX3_turn_72 : decode cX3_turn 72 = .ok (.ior, 1) := dk_128 (dk_at dksX3_turn_3 3 rfl rfl)
theorem dX3_turn_73 : decode cX3_turn 73 = .ok (.istore 8, 2) := dk_54 8 (dk_at dksX3_turn_3 4 rfl rfl)
theorem dX3_turn_75 : decode cX3_turn 75 = .ok (.iinc 9 1, 3) := dk_132 9 1 (dk_at dksX3_turn_3 6 rfl rfl)
theorem dX3_turn_78 : decode cX3_turn 78 = .ok (.goto (-28), 3) := dk_167 255 228 (dk_at dksX3_turn_3 9 rfl rfl)
theorem dX3_turn_81 : decode cX3_turn 81 = .ok (.iload 8, 2) := dk_21 8 (dk_at dksX3_turn_3 12 rfl rfl)
theorem dX3_turn_83 : decode cX3_turn 83 = .ok (.iconst 1, 1) := dk_4 (dk_at dksX3_turn_3 14 rfl rfl)
theorem dX3_turn_84 : decode cX3_turn 84 = .ok (.iload 7, 2) := dk_21 7 (dk_at dksX3_turn_3 15 rfl rfl)
theorem dX3_turn_86 : decode cX3_turn 86 = .ok (.ishl, 1) := dk_120 (dk_at dksX3_turn_3 17 rfl rfl)
theorem dX3_turn_87 : decode cX3_turn 87 = .ok (.iconst 1, 1) := dk_4 (dk_at dksX3_turn_3 18 rfl rfl)
theorem dX3_turn_88 : decode cX3_turn 88 = .ok (.isub, 1) := dk_100 (dk_at dksX3_turn_3 19 rfl rfl)
theorem dX3_turn_89 : decode cX3_turn 89 = .ok (.if_icmp .ne 29, 3) := dk_160 0 29 (dk_at dksX3_turn_3 20 rfl rfl)
theorem dX3_turn_92 : decode cX3_turn 92 = .ok (.lload_n 2, 1) := dk_32 (dk_at dksX3_turn_3 23 rfl rfl)
theorem dX3_turn_93 : decode cX3_turn 93 = .ok (.iconst 4, 1) := dk_7 (dk_at dksX3_turn_4 0 rfl rfl)
theorem dX3_turn_94 : decode cX3_turn 94 = .ok (.iload 7, 2) := dk_21 7 (dk_at dksX3_turn_4 1 rfl rfl)
theorem dX3_turn_96 : decode cX3_turn 96 = .ok (.imul, 1) := dk_104 (dk_at dksX3_turn_4 3 rfl rfl)
theorem dX3_turn_97 : decode cX3_turn 97 = .ok (.lshr, 1) := dk_123 (dk_at dksX3_turn_4 4 rfl rfl)
theorem dX3_turn_98 : decode cX3_turn 98 = .ok (.lconst 0, 1) := dk_9 (dk_at dksX3_turn_4 5 rfl rfl)
theorem dX3_turn_99 : decode cX3_turn 99 = .ok (.lcmp, 1) := dk_148 (dk_at dksX3_turn_4 6 rfl rfl)
theorem dX3_turn_100 : decode cX3_turn 100 = .ok (.ifCond .ne 18, 3) := dk_154 0 18 (dk_at dksX3_turn_4 7 rfl rfl)
theorem dX3_turn_103 : decode cX3_turn 103 = .ok (.iload 4, 2) := dk_21 4 (dk_at dksX3_turn_4 10 rfl rfl)
theorem dX3_turn_105 : decode cX3_turn 105 = .ok (.i2l, 1) := dk_133 (dk_at dksX3_turn_4 12 rfl rfl)
theorem dX3_turn_106 : decode cX3_turn 106 = .ok (.lconst 1, 1) := dk_10 (dk_at dksX3_turn_4 13 rfl rfl)
theorem dX3_turn_107 : decode cX3_turn 107 = .ok (.iload 6, 2) := dk_21 6 (dk_at dksX3_turn_4 14 rfl rfl)
theorem dX3_turn_109 : decode cX3_turn 109 = .ok (.iconst 1, 1) := dk_4 (dk_at dksX3_turn_4 16 rfl rfl)
theorem dX3_turn_110 : decode cX3_turn 110 = .ok (.isub, 1) := dk_100 (dk_at dksX3_turn_4 17 rfl rfl)
theorem dX3_turn_111 : decode cX3_turn 111 = .ok (.i2l, 1) := dk_133 (dk_at dksX3_turn_4 18 rfl rfl)
theorem dX3_turn_112 : decode cX3_turn 112 = .ok (.invokestatic 26, 3) := dk_184 0 26 (dk_at dksX3_turn_4 19 rfl rfl)
theorem dX3_turn_115 : decode cX3_turn 115 = .ok (.ifCond .ne 5, 3) := dk_154 0 5 (dk_at dksX3_turn_5 0 rfl rfl)
theorem dX3_turn_118 : decode cX3_turn 118 = .ok (.iconst (-1), 1) := dk_2 (dk_at dksX3_turn_5 3 rfl rfl)
theorem dX3_turn_119 : decode cX3_turn 119 = .ok (.ireturn, 1) := dk_172 (dk_at dksX3_turn_5 4 rfl rfl)
theorem dX3_turn_120 : decode cX3_turn 120 = .ok (.aload_n 0, 1) := dk_42 (dk_at dksX3_turn_5 5 rfl rfl)
theorem dX3_turn_121 : decode cX3_turn 121 = .ok (.iconst 0, 1) := dk_3 (dk_at dksX3_turn_5 6 rfl rfl)
theorem dX3_turn_122 : decode cX3_turn 122 = .ok (.putfield 233, 3) := dk_181 0 233 (dk_at dksX3_turn_5 7 rfl rfl)
theorem dX3_turn_125 : decode cX3_turn 125 = .ok (.iconst 0, 1) := dk_3 (dk_at dksX3_turn_5 10 rfl rfl)
theorem dX3_turn_126 : decode cX3_turn 126 = .ok (.istore 9, 2) := dk_54 9 (dk_at dksX3_turn_5 11 rfl rfl)
theorem dX3_turn_128 : decode cX3_turn 128 = .ok (.iload 9, 2) := dk_21 9 (dk_at dksX3_turn_5 13 rfl rfl)
theorem dX3_turn_130 : decode cX3_turn 130 = .ok (.aload_n 0, 1) := dk_42 (dk_at dksX3_turn_5 15 rfl rfl)
theorem dX3_turn_131 : decode cX3_turn 131 = .ok (.getfield 70, 3) := dk_180 0 70 (dk_at dksX3_turn_5 16 rfl rfl)
theorem dX3_turn_134 : decode cX3_turn 134 = .ok (.iload_n 1, 1) := dk_27 (dk_at dksX3_turn_5 19 rfl rfl)
theorem dX3_turn_135 : decode cX3_turn 135 = .ok (.iaload, 1) := dk_46 (dk_at dksX3_turn_5 20 rfl rfl)
theorem dX3_turn_136 : decode cX3_turn 136 = .ok (.if_icmp .ge 92, 3) := dk_162 0 92 (dk_at dksX3_turn_5 21 rfl rfl)
theorem dX3_turn_139 : decode cX3_turn 139 = .ok (.lconst 0, 1) := dk_9 (dk_at dksX3_turn_6 0 rfl rfl)
theorem dX3_turn_140 : decode cX3_turn 140 = .ok (.lstore 10, 2) := dk_55 10 (dk_at dksX3_turn_6 1 rfl rfl)
theorem dX3_turn_142 : decode cX3_turn 142 = .ok (.iconst 0, 1) := dk_3 (dk_at dksX3_turn_6 3 rfl rfl)
theorem dX3_turn_143 : decode cX3_turn 143 = .ok (.istore 12, 2) := dk_54 12 (dk_at dksX3_turn_6 4 rfl rfl)
theorem dX3_turn_145 : decode cX3_turn 145 = .ok (.iload 12, 2) := dk_21 12 (dk_at dksX3_turn_6 6 rfl rfl)
theorem dX3_turn_147 : decode cX3_turn 147 = .ok (.iload 7, 2) := dk_21 7 (dk_at dksX3_turn_6 8 rfl rfl)
theorem dX3_turn_149 : decode cX3_turn 149 = .ok (.if_icmp .ge 66, 3) := dk_162 0 66 (dk_at dksX3_turn_6 10 rfl rfl)
theorem dX3_turn_152 : decode cX3_turn 152 = .ok (.lload 10, 2) := dk_22 10 (dk_at dksX3_turn_6 13 rfl rfl)
theorem dX3_turn_154 : decode cX3_turn 154 = .ok (.iload 6, 2) := dk_21 6 (dk_at dksX3_turn_6 15 rfl rfl)
theorem dX3_turn_156 : decode cX3_turn 156 = .ok (.iload 4, 2) := dk_21 4 (dk_at dksX3_turn_6 17 rfl rfl)
theorem dX3_turn_158 : decode cX3_turn 158 = .ok (.iload 6, 2) := dk_21 6 (dk_at dksX3_turn_6 19 rfl rfl)
theorem dX3_turn_160 : decode cX3_turn 160 = .ok (.iload 7, 2) := dk_21 7 (dk_at dksX3_turn_6 21 rfl rfl)
theorem dX3_turn_162 : decode cX3_turn 162 = .ok (.aload_n 0, 1) := dk_42 (dk_at dksX3_turn_6 23 rfl rfl)
theorem dX3_turn_163 : decode cX3_turn 163 = .ok (.getfield 73, 3) := dk_180 0 73 (dk_at dksX3_turn_7 0 rfl rfl)
theorem dX3_turn_166 : decode cX3_turn 166 = .ok (.sipush 200, 3) := dk_17 0 200 (dk_at dksX3_turn_7 3 rfl rfl)
theorem dX3_turn_169 : decode cX3_turn 169 = .ok (.iload_n 1, 1) := dk_27 (dk_at dksX3_turn_7 6 rfl rfl)
theorem dX3_turn_170 : decode cX3_turn 170 = .ok (.imul, 1) := dk_104 (dk_at dksX3_turn_7 7 rfl rfl)
theorem dX3_turn_171 : decode cX3_turn 171 = .ok (.iload 9, 2) := dk_21 9 (dk_at dksX3_turn_7 8 rfl rfl)
theorem dX3_turn_173 : decode cX3_turn 173 = .ok (.iadd, 1) := dk_96 (dk_at dksX3_turn_7 10 rfl rfl)
theorem dX3_turn_174 : decode cX3_turn 174 = .ok (.laload, 1) := dk_47 (dk_at dksX3_turn_7 11 rfl rfl)
theorem dX3_turn_175 : decode cX3_turn 175 = .ok (.iload 12, 2) := dk_21 12 (dk_at dksX3_turn_7 12 rfl rfl)
theorem dX3_turn_177 : decode cX3_turn 177 = .ok (.invokestatic 15, 3) := dk_184 0 15 (dk_at dksX3_turn_7 14 rfl rfl)
theorem dX3_turn_180 : decode cX3_turn 180 = .ok (.invokestatic 7, 3) := dk_184 0 7 (dk_at dksX3_turn_7 17 rfl rfl)
theorem dX3_turn_183 : decode cX3_turn 183 = .ok (.i2l, 1) := dk_133 (dk_at dksX3_turn_7 20 rfl rfl)
theorem dX3_turn_184 : decode cX3_turn 184 = .ok (.iload 6, 2) := dk_21 6 (dk_at dksX3_turn_7 21 rfl rfl)
theorem dX3_turn_186 : decode cX3_turn 186 = .ok (.iload 7, 2) := dk_21 7 (dk_at dksX3_turn_8 0 rfl rfl)
theorem dX3_turn_188 : decode cX3_turn 188 = .ok (.iconst 1, 1) := dk_4 (dk_at dksX3_turn_8 2 rfl rfl)
theorem dX3_turn_189 : decode cX3_turn 189 = .ok (.isub, 1) := dk_100 (dk_at dksX3_turn_8 3 rfl rfl)
theorem dX3_turn_190 : decode cX3_turn 190 = .ok (.lload_n 2, 1) := dk_32 (dk_at dksX3_turn_8 4 rfl rfl)
theorem dX3_turn_191 : decode cX3_turn 191 = .ok (.iconst 4, 1) := dk_7 (dk_at dksX3_turn_8 5 rfl rfl)
theorem dX3_turn_192 : decode cX3_turn 192 = .ok (.iload 12, 2) := dk_21 12 (dk_at dksX3_turn_8 6 rfl rfl)
theorem dX3_turn_194 : decode cX3_turn 194 = .ok (.imul, 1) := dk_104 (dk_at dksX3_turn_8 8 rfl rfl)
theorem dX3_turn_195 : decode cX3_turn 195 = .ok (.lshr, 1) := dk_123 (dk_at dksX3_turn_8 9 rfl rfl)
theorem dX3_turn_196 : decode cX3_turn 196 = .ok (.ldc2_w 257, 3) := dk_20 1 1 (dk_at dksX3_turn_8 10 rfl rfl)
theorem dX3_turn_199 : decode cX3_turn 199 = .ok (.land, 1) := dk_127 (dk_at dksX3_turn_8 13 rfl rfl)
theorem dX3_turn_200 : decode cX3_turn 200 = .ok (.l2i, 1) := dk_136 (dk_at dksX3_turn_8 14 rfl rfl)
theorem dX3_turn_201 : decode cX3_turn 201 = .ok (.isub, 1) := dk_100 (dk_at dksX3_turn_8 15 rfl rfl)
theorem dX3_turn_202 : decode cX3_turn 202 = .ok (.invokestatic 11, 3) := dk_184 0 11 (dk_at dksX3_turn_8 16 rfl rfl)
theorem dX3_turn_205 : decode cX3_turn 205 = .ok (.lmul, 1) := dk_105 (dk_at dksX3_turn_8 19 rfl rfl)
theorem dX3_turn_206 : decode cX3_turn 206 = .ok (.ladd, 1) := dk_97 (dk_at dksX3_turn_8 20 rfl rfl)
theorem dX3_turn_207 : decode cX3_turn 207 = .ok (.lstore 10, 2) := dk_55 10 (dk_at dksX3_turn_8 21 rfl rfl)
theorem dX3_turn_209 : decode cX3_turn 209 = .ok (.iinc 12 1, 3) := dk_132 12 1 (dk_at dksX3_turn_9 0 rfl rfl)
theorem dX3_turn_212 : decode cX3_turn 212 = .ok (.goto (-67), 3) := dk_167 255 189 (dk_at dksX3_turn_9 3 rfl rfl)
theorem dX3_turn_215 : decode cX3_turn 215 = .ok (.aload_n 0, 1) := dk_42 (dk_at dksX3_turn_9 6 rfl rfl)
theorem dX3_turn_216 : decode cX3_turn 216 = .ok (.lload 10, 2) := dk_22 10 (dk_at dksX3_turn_9 7 rfl rfl)
theorem dX3_turn_218 : decode cX3_turn 218 = .ok (.iconst 0, 1) := dk_3 (dk_at dksX3_turn_9 9 rfl rfl)
theorem dX3_turn_219 : decode cX3_turn 219 = .ok (.invokevirtual 250, 3) := dk_182 0 250 (dk_at dksX3_turn_9 10 rfl rfl)
theorem dX3_turn_222 : decode cX3_turn 222 = .ok (.iinc 9 1, 3) := dk_132 9 1 (dk_at dksX3_turn_9 13 rfl rfl)
theorem dX3_turn_225 : decode cX3_turn 225 = .ok (.goto (-97), 3) := dk_167 255 159 (dk_at dksX3_turn_9 16 rfl rfl)
theorem dX3_turn_228 : decode cX3_turn 228 = .ok (.aload_n 0, 1) := dk_42 (dk_at dksX3_turn_9 19 rfl rfl)
theorem dX3_turn_229 : decode cX3_turn 229 = .ok (.iload 5, 2) := dk_21 5 (dk_at dksX3_turn_9 20 rfl rfl)
theorem dX3_turn_231 : decode cX3_turn 231 = .ok (.aload_n 0, 1) := dk_42 (dk_at dksX3_turn_9 22 rfl rfl)
theorem dX3_turn_232 : decode cX3_turn 232 = .ok (.getfield 60, 3) := dk_180 0 60 (dk_at dksX3_turn_10 0 rfl rfl)
theorem dX3_turn_235 : decode cX3_turn 235 = .ok (.iload_n 1, 1) := dk_27 (dk_at dksX3_turn_10 3 rfl rfl)
theorem dX3_turn_236 : decode cX3_turn 236 = .ok (.iaload, 1) := dk_46 (dk_at dksX3_turn_10 4 rfl rfl)
theorem dX3_turn_237 : decode cX3_turn 237 = .ok (.iconst 2, 1) := dk_5 (dk_at dksX3_turn_10 5 rfl rfl)
theorem dX3_turn_238 : decode cX3_turn 238 = .ok (.if_icmp .ne 7, 3) := dk_160 0 7 (dk_at dksX3_turn_10 6 rfl rfl)
theorem dX3_turn_241 : decode cX3_turn 241 = .ok (.iconst 1, 1) := dk_4 (dk_at dksX3_turn_10 9 rfl rfl)
theorem dX3_turn_242 : decode cX3_turn 242 = .ok (.goto 9, 3) := dk_167 0 9 (dk_at dksX3_turn_10 10 rfl rfl)
theorem dX3_turn_245 : decode cX3_turn 245 = .ok (.aload_n 0, 1) := dk_42 (dk_at dksX3_turn_10 13 rfl rfl)
theorem dX3_turn_246 : decode cX3_turn 246 = .ok (.getfield 60, 3) := dk_180 0 60 (dk_at dksX3_turn_10 14 rfl rfl)
theorem dX3_turn_249 : decode cX3_turn 249 = .ok (.iload_n 1, 1) := dk_27 (dk_at dksX3_turn_10 17 rfl rfl)
theorem dX3_turn_250 : decode cX3_turn 250 = .ok (.iaload, 1) := dk_46 (dk_at dksX3_turn_10 18 rfl rfl)
theorem dX3_turn_251 : decode cX3_turn 251 = .ok (.iload 6, 2) := dk_21 6 (dk_at dksX3_turn_10 19 rfl rfl)
theorem dX3_turn_253 : decode cX3_turn 253 = .ok (.iload 7, 2) := dk_21 7 (dk_at dksX3_turn_10 21 rfl rfl)
theorem dX3_turn_255 : decode cX3_turn 255 = .ok (.invokevirtual 239, 3) := dk_182 0 239 (dk_at dksX3_turn_11 0 rfl rfl)
theorem dX3_turn_258 : decode cX3_turn 258 = .ok (.ireturn, 1) := dk_172 (dk_at dksX3_turn_11 3 rfl rfl)
abbrev cX3_same : ByteArray := prog_11_method_77_code
def yX3_same : MethodName := ⟨RX3, "same", "(II)I"⟩
def dkwX3_same_10 : List UInt8 := [42, 28, 182, 1, 3, 153, 0, 7, 4, 167, 0, 4, 3, 172]
abbrev dktX3_same_10 : List UInt8 := dkwX3_same_10 ++ []
def dkwX3_same_9 : List UInt8 := [157, 0, 15, 42, 28, 182, 0, 160, 20, 0, 173, 148, 158, 0, 6, 16, 251, 172, 42, 27, 182, 0, 187, 62]
abbrev dktX3_same_9 : List UInt8 := dkwX3_same_9 ++ dktX3_same_10
def dkwX3_same_8 : List UInt8 := [167, 255, 217, 21, 4, 153, 0, 7, 4, 167, 0, 4, 3, 172, 42, 27, 182, 0, 160, 20, 0, 173, 148]
abbrev dktX3_same_8 : List UInt8 := dkwX3_same_8 ++ dktX3_same_9
def dkwX3_same_7 : List UInt8 := [21, 5, 47, 42, 180, 0, 77, 21, 5, 47, 148, 154, 0, 7, 4, 167, 0, 4, 3, 54, 4, 132, 5, 1]
abbrev dktX3_same_7 : List UInt8 := dkwX3_same_7 ++ dktX3_same_8
def dkwX3_same_6 : List UInt8 := [167, 0, 4, 3, 54, 4, 3, 54, 5, 21, 5, 29, 162, 0, 39, 21, 4, 153, 0, 34, 42, 180, 0, 83]
abbrev dktX3_same_6 : List UInt8 := dkwX3_same_6 ++ dktX3_same_7
def dkwX3_same_5 : List UInt8 := [21, 4, 47, 80, 132, 4, 1, 167, 255, 233, 42, 28, 182, 0, 154, 29, 42, 180, 0, 141, 160, 0, 7, 4]
abbrev dktX3_same_5 : List UInt8 := dkwX3_same_5 ++ dktX3_same_6
def dkwX3_same_4 : List UInt8 := [180, 0, 141, 62, 3, 54, 4, 21, 4, 29, 162, 0, 23, 42, 180, 0, 83, 21, 4, 42, 180, 0, 77]
abbrev dktX3_same_4 : List UInt8 := dkwX3_same_4 ++ dktX3_same_5
def dkwX3_same_3 : List UInt8 := [180, 0, 60, 27, 46, 153, 0, 127, 42, 180, 0, 60, 28, 46, 153, 0, 118, 42, 27, 182, 0, 154, 42]
abbrev dktX3_same_3 : List UInt8 := dkwX3_same_3 ++ dktX3_same_4
def dkwX3_same_2 : List UInt8 := [160, 0, 18, 42, 180, 0, 67, 27, 46, 42, 180, 0, 67, 28, 46, 159, 0, 6, 16, 252, 172, 42]
abbrev dktX3_same_2 : List UInt8 := dkwX3_same_2 ++ dktX3_same_3
def dkwX3_same_1 : List UInt8 := [42, 28, 182, 0, 127, 153, 0, 6, 16, 245, 172, 42, 180, 0, 64, 27, 46, 42, 180, 0, 64, 28, 46]
abbrev dktX3_same_1 : List UInt8 := dkwX3_same_1 ++ dktX3_same_2
def dkwX3_same_0 : List UInt8 := [27, 184, 0, 119, 153, 0, 10, 28, 184, 0, 119, 154, 0, 5, 2, 172, 42, 27, 182, 0, 127, 154, 0, 11]
abbrev dktX3_same_0 : List UInt8 := dkwX3_same_0 ++ dktX3_same_1
theorem dksX3_same_0 : cX3_same.data.toList.drop 0 = dktX3_same_0 := by decide +kernel
theorem dksX3_same_1 : cX3_same.data.toList.drop 24 = dktX3_same_1 := dk_seg dksX3_same_0 24 rfl rfl
theorem dksX3_same_2 : cX3_same.data.toList.drop 47 = dktX3_same_2 := dk_seg dksX3_same_1 23 rfl rfl
theorem dksX3_same_3 : cX3_same.data.toList.drop 69 = dktX3_same_3 := dk_seg dksX3_same_2 22 rfl rfl
theorem dksX3_same_4 : cX3_same.data.toList.drop 92 = dktX3_same_4 := dk_seg dksX3_same_3 23 rfl rfl
theorem dksX3_same_5 : cX3_same.data.toList.drop 115 = dktX3_same_5 := dk_seg dksX3_same_4 23 rfl rfl
theorem dksX3_same_6 : cX3_same.data.toList.drop 139 = dktX3_same_6 := dk_seg dksX3_same_5 24 rfl rfl
theorem dksX3_same_7 : cX3_same.data.toList.drop 163 = dktX3_same_7 := dk_seg dksX3_same_6 24 rfl rfl
theorem dksX3_same_8 : cX3_same.data.toList.drop 187 = dktX3_same_8 := dk_seg dksX3_same_7 24 rfl rfl
theorem dksX3_same_9 : cX3_same.data.toList.drop 210 = dktX3_same_9 := dk_seg dksX3_same_8 23 rfl rfl
theorem dksX3_same_10 : cX3_same.data.toList.drop 234 = dktX3_same_10 := dk_seg dksX3_same_9 24 rfl rfl
theorem dX3_same_0 : decode cX3_same 0 = .ok (.iload_n 1, 1) := dk_27 (dk_at dksX3_same_0 0 rfl rfl)
theorem dX3_same_1 : decode cX3_same 1 = .ok (.invokestatic 119, 3) := dk_184 0 119 (dk_at dksX3_same_0 1 rfl rfl)
theorem dX3_same_4 : decode cX3_same 4 = .ok (.ifCond .eq 10, 3) := dk_153 0 10 (dk_at dksX3_same_0 4 rfl rfl)
theorem dX3_same_7 : decode cX3_same 7 = .ok (.iload_n 2, 1) := dk_28 (dk_at dksX3_same_0 7 rfl rfl)
theorem dX3_same_8 : decode cX3_same 8 = .ok (.invokestatic 119, 3) := dk_184 0 119 (dk_at dksX3_same_0 8 rfl rfl)
theorem dX3_same_11 : decode cX3_same 11 = .ok (.ifCond .ne 5, 3) := dk_154 0 5 (dk_at dksX3_same_0 11 rfl rfl)
theorem dX3_same_14 : decode cX3_same 14 = .ok (.iconst (-1), 1) := dk_2 (dk_at dksX3_same_0 14 rfl rfl)
theorem dX3_same_15 : decode cX3_same 15 = .ok (.ireturn, 1) := dk_172 (dk_at dksX3_same_0 15 rfl rfl)
theorem dX3_same_16 : decode cX3_same 16 = .ok (.aload_n 0, 1) := dk_42 (dk_at dksX3_same_0 16 rfl rfl)
theorem dX3_same_17 : decode cX3_same 17 = .ok (.iload_n 1, 1) := dk_27 (dk_at dksX3_same_0 17 rfl rfl)
theorem dX3_same_18 : decode cX3_same 18 = .ok (.invokevirtual 127, 3) := dk_182 0 127 (dk_at dksX3_same_0 18 rfl rfl)
theorem dX3_same_21 : decode cX3_same 21 = .ok (.ifCond .ne 11, 3) := dk_154 0 11 (dk_at dksX3_same_0 21 rfl rfl)
theorem dX3_same_24 : decode cX3_same 24 = .ok (.aload_n 0, 1) := dk_42 (dk_at dksX3_same_1 0 rfl rfl)
theorem dX3_same_25 : decode cX3_same 25 = .ok (.iload_n 2, 1) := dk_28 (dk_at dksX3_same_1 1 rfl rfl)
theorem dX3_same_26 : decode cX3_same 26 = .ok (.invokevirtual 127, 3) := dk_182 0 127 (dk_at dksX3_same_1 2 rfl rfl)
theorem dX3_same_29 : decode cX3_same 29 = .ok (.ifCond .eq 6, 3) := dk_153 0 6 (dk_at dksX3_same_1 5 rfl rfl)
theorem dX3_same_32 : decode cX3_same 32 = .ok (.bipush (-11), 2) := dk_16 245 (dk_at dksX3_same_1 8 rfl rfl)
theorem dX3_same_34 : decode cX3_same 34 = .ok (.ireturn, 1) := dk_172 (dk_at dksX3_same_1 10 rfl rfl)
theorem dX3_same_35 : decode cX3_same 35 = .ok (.aload_n 0, 1) := dk_42 (dk_at dksX3_same_1 11 rfl rfl)
theorem dX3_same_36 : decode cX3_same 36 = .ok (.getfield 64, 3) := dk_180 0 64 (dk_at dksX3_same_1 12 rfl rfl)
theorem dX3_same_39 : decode cX3_same 39 = .ok (.iload_n 1, 1) := dk_27 (dk_at dksX3_same_1 15 rfl rfl)
theorem dX3_same_40 : decode cX3_same 40 = .ok (.iaload, 1) := dk_46 (dk_at dksX3_same_1 16 rfl rfl)
theorem dX3_same_41 : decode cX3_same 41 = .ok (.aload_n 0, 1) := dk_42 (dk_at dksX3_same_1 17 rfl rfl)
theorem dX3_same_42 : decode cX3_same 42 = .ok (.getfield 64, 3) := dk_180 0 64 (dk_at dksX3_same_1 18 rfl rfl)
theorem dX3_same_45 : decode cX3_same 45 = .ok (.iload_n 2, 1) := dk_28 (dk_at dksX3_same_1 21 rfl rfl)
theorem dX3_same_46 : decode cX3_same 46 = .ok (.iaload, 1) := dk_46 (dk_at dksX3_same_1 22 rfl rfl)
theorem dX3_same_47 : decode cX3_same 47 = .ok (.if_icmp .ne 18, 3) := dk_160 0 18 (dk_at dksX3_same_2 0 rfl rfl)
theorem dX3_same_50 : decode cX3_same 50 = .ok (.aload_n 0, 1) := dk_42 (dk_at dksX3_same_2 3 rfl rfl)
theorem dX3_same_51 : decode cX3_same 51 = .ok (.getfield 67, 3) := dk_180 0 67 (dk_at dksX3_same_2 4 rfl rfl)
theorem dX3_same_54 : decode cX3_same 54 = .ok (.iload_n 1, 1) := dk_27 (dk_at dksX3_same_2 7 rfl rfl)
theorem dX3_same_55 : decode cX3_same 55 = .ok (.iaload, 1) := dk_46 (dk_at dksX3_same_2 8 rfl rfl)
theorem dX3_same_56 : decode cX3_same 56 = .ok (.aload_n 0, 1) := dk_42 (dk_at dksX3_same_2 9 rfl rfl)
theorem dX3_same_57 : decode cX3_same 57 = .ok (.getfield 67, 3) := dk_180 0 67 (dk_at dksX3_same_2 10 rfl rfl)
theorem dX3_same_60 : decode cX3_same 60 = .ok (.iload_n 2, 1) := dk_28 (dk_at dksX3_same_2 13 rfl rfl)
theorem dX3_same_61 : decode cX3_same 61 = .ok (.iaload, 1) := dk_46 (dk_at dksX3_same_2 14 rfl rfl)
theorem dX3_same_62 : decode cX3_same 62 = .ok (.if_icmp .eq 6, 3) := dk_159 0 6 (dk_at dksX3_same_2 15 rfl rfl)
theorem dX3_same_65 : decode cX3_same 65 = .ok (.bipush (-4), 2) := dk_16 252 (dk_at dksX3_same_2 18 rfl rfl)
theorem dX3_same_67 : decode cX3_same 67 = .ok (.ireturn, 1) := dk_172 (dk_at dksX3_same_2 20 rfl rfl)
theorem dX3_same_68 : decode cX3_same 68 = .ok (.aload_n 0, 1) := dk_42 (dk_at dksX3_same_2 21 rfl rfl)
theorem dX3_same_69 : decode cX3_same 69 = .ok (.getfield 60, 3) := dk_180 0 60 (dk_at dksX3_same_3 0 rfl rfl)
theorem dX3_same_72 : decode cX3_same 72 = .ok (.iload_n 1, 1) := dk_27 (dk_at dksX3_same_3 3 rfl rfl)
theorem dX3_same_73 : decode cX3_same 73 = .ok (.iaload, 1) := dk_46 (dk_at dksX3_same_3 4 rfl rfl)
theorem dX3_same_74 : decode cX3_same 74 = .ok (.ifCond .eq 127, 3) := dk_153 0 127 (dk_at dksX3_same_3 5 rfl rfl)
theorem dX3_same_77 : decode cX3_same 77 = .ok (.aload_n 0, 1) := dk_42 (dk_at dksX3_same_3 8 rfl rfl)
theorem dX3_same_78 : decode cX3_same 78 = .ok (.getfield 60, 3) := dk_180 0 60 (dk_at dksX3_same_3 9 rfl rfl)
theorem dX3_same_81 : decode cX3_same 81 = .ok (.iload_n 2, 1) := dk_28 (dk_at dksX3_same_3 12 rfl rfl)
theorem dX3_same_82 : decode cX3_same 82 = .ok (.iaload, 1) := dk_46 (dk_at dksX3_same_3 13 rfl rfl)
theorem dX3_same_83 : decode cX3_same 83 = .ok (.ifCond .eq 118, 3) := dk_153 0 118 (dk_at dksX3_same_3 14 rfl rfl)
theorem dX3_same_86 : decode cX3_same 86 = .ok (.aload_n 0, 1) := dk_42 (dk_at dksX3_same_3 17 rfl rfl)
theorem dX3_same_87 : decode cX3_same 87 = .ok (.iload_n 1, 1) := dk_27 (dk_at dksX3_same_3 18 rfl rfl)
theorem dX3_same_88 : decode cX3_same 88 = .ok (.invokevirtual 154, 3) := dk_182 0 154 (dk_at dksX3_same_3 19 rfl rfl)
theorem dX3_same_91 : decode cX3_same 91 = .ok (.aload_n 0, 1) := dk_42 (dk_at dksX3_same_3 22 rfl rfl)
theorem dX3_same_92 : decode cX3_same 92 = .ok (.getfield 141, 3) := dk_180 0 141 (dk_at dksX3_same_4 0 rfl rfl)
theorem dX3_same_95 : decode cX3_same 95 = .ok (.istore_n 3, 1) := dk_62 (dk_at dksX3_same_4 3 rfl rfl)
theorem dX3_same_96 : decode cX3_same 96 = .ok (.iconst 0, 1) := dk_3 (dk_at dksX3_same_4 4 rfl rfl)
theorem dX3_same_97 : decode cX3_same 97 = .ok (.istore 4, 2) := dk_54 4 (dk_at dksX3_same_4 5 rfl rfl)
theorem dX3_same_99 : decode cX3_same 99 = .ok (.iload 4, 2) := dk_21 4 (dk_at dksX3_same_4 7 rfl rfl)
theorem dX3_same_101 : decode cX3_same 101 = .ok (.iload_n 3, 1) := dk_29 (dk_at dksX3_same_4 9 rfl rfl)
theorem dX3_same_102 : decode cX3_same 102 = .ok (.if_icmp .ge 23, 3) := dk_162 0 23 (dk_at dksX3_same_4 10 rfl rfl)
theorem dX3_same_105 : decode cX3_same 105 = .ok (.aload_n 0, 1) := dk_42 (dk_at dksX3_same_4 13 rfl rfl)
theorem dX3_same_106 : decode cX3_same 106 = .ok (.getfield 83, 3) := dk_180 0 83 (dk_at dksX3_same_4 14 rfl rfl)
theorem dX3_same_109 : decode cX3_same 109 = .ok (.iload 4, 2) := dk_21 4 (dk_at dksX3_same_4 17 rfl rfl)
theorem dX3_same_111 : decode cX3_same 111 = .ok (.aload_n 0, 1) := dk_42 (dk_at dksX3_same_4 19 rfl rfl)
theorem dX3_same_112 : decode cX3_same 112 = .ok (.getfield 77, 3) := dk_180 0 77 (dk_at dksX3_same_4 20 rfl rfl)
theorem dX3_same_115 : decode cX3_same 115 = .ok (.iload 4, 2) := dk_21 4 (dk_at dksX3_same_5 0 rfl rfl)
theorem dX3_same_117 : decode cX3_same 117 = .ok (.laload, 1) := dk_47 (dk_at dksX3_same_5 2 rfl rfl)
theorem dX3_same_118 : decode cX3_same 118 = .ok (.lastore, 1) := dk_80 (dk_at dksX3_same_5 3 rfl rfl)
theorem dX3_same_119 : decode cX3_same 119 = .ok (.iinc 4 1, 3) := dk_132 4 1 (dk_at dksX3_same_5 4 rfl rfl)
theorem dX3_same_122 : decode cX3_same 122 = .ok (.goto (-23), 3) := dk_167 255 233 (dk_at dksX3_same_5 7 rfl rfl)
theorem dX3_same_125 : decode cX3_same 125 = .ok (.aload_n 0, 1) := dk_42 (dk_at dksX3_same_5 10 rfl rfl)
theorem dX3_same_126 : decode cX3_same 126 = .ok (.iload_n 2, 1) := dk_28 (dk_at dksX3_same_5 11 rfl rfl)
theorem dX3_same_127 : decode cX3_same 127 = .ok (.invokevirtual 154, 3) := dk_182 0 154 (dk_at dksX3_same_5 12 rfl rfl)
theorem dX3_same_130 : decode cX3_same 130 = .ok (.iload_n 3, 1) := dk_29 (dk_at dksX3_same_5 15 rfl rfl)
theorem dX3_same_131 : decode cX3_same 131 = .ok (.aload_n 0, 1) := dk_42 (dk_at dksX3_same_5 16 rfl rfl)
theorem dX3_same_132 : decode cX3_same 132 = .ok (.getfield 141, 3) := dk_180 0 141 (dk_at dksX3_same_5 17 rfl rfl)
theorem dX3_same_135 : decode cX3_same 135 = .ok (.if_icmp .ne 7, 3) := dk_160 0 7 (dk_at dksX3_same_5 20 rfl rfl)
theorem dX3_same_138 : decode cX3_same 138 = .ok (.iconst 1, 1) := dk_4 (dk_at dksX3_same_5 23 rfl rfl)
theorem dX3_same_139 : decode cX3_same 139 = .ok (.goto 4, 3) := dk_167 0 4 (dk_at dksX3_same_6 0 rfl rfl)
theorem dX3_same_142 : decode cX3_same 142 = .ok (.iconst 0, 1) := dk_3 (dk_at dksX3_same_6 3 rfl rfl)
theorem dX3_same_143 : decode cX3_same 143 = .ok (.istore 4, 2) := dk_54 4 (dk_at dksX3_same_6 4 rfl rfl)
theorem dX3_same_145 : decode cX3_same 145 = .ok (.iconst 0, 1) := dk_3 (dk_at dksX3_same_6 6 rfl rfl)
theorem dX3_same_146 : decode cX3_same 146 = .ok (.istore 5, 2) := dk_54 5 (dk_at dksX3_same_6 7 rfl rfl)
theorem dX3_same_148 : decode cX3_same 148 = .ok (.iload 5, 2) := dk_21 5 (dk_at dksX3_same_6 9 rfl rfl)
theorem dX3_same_150 : decode cX3_same 150 = .ok (.iload_n 3, 1) := dk_29 (dk_at dksX3_same_6 11 rfl rfl)
theorem dX3_same_151 : decode cX3_same 151 = .ok (.if_icmp .ge 39, 3) := dk_162 0 39 (dk_at dksX3_same_6 12 rfl rfl)
theorem dX3_same_154 : decode cX3_same 154 = .ok (.iload 4, 2) := dk_21 4 (dk_at dksX3_same_6 15 rfl rfl)
theorem dX3_same_156 : decode cX3_same 156 = .ok (.ifCond .eq 34, 3) := dk_153 0 34 (dk_at dksX3_same_6 17 rfl rfl)
theorem dX3_same_159 : decode cX3_same 159 = .ok (.aload_n 0, 1) := dk_42 (dk_at dksX3_same_6 20 rfl rfl)
theorem dX3_same_160 : decode cX3_same 160 = .ok (.getfield 83, 3) := dk_180 0 83 (dk_at dksX3_same_6 21 rfl rfl)
theorem dX3_same_163 : decode cX3_same 163 = .ok (.iload 5, 2) := dk_21 5 (dk_at dksX3_same_7 0 rfl rfl)
theorem dX3_same_165 : decode cX3_same 165 = .ok (.laload, 1) := dk_47 (dk_at dksX3_same_7 2 rfl rfl)
theorem dX3_same_166 : decode cX3_same 166 = .ok (.aload_n 0, 1) := dk_42 (dk_at dksX3_same_7 3 rfl rfl)
theorem dX3_same_167 : decode cX3_same 167 = .ok (.getfield 77, 3) := dk_180 0 77 (dk_at dksX3_same_7 4 rfl rfl)
theorem dX3_same_170 : decode cX3_same 170 = .ok (.iload 5, 2) := dk_21 5 (dk_at dksX3_same_7 7 rfl rfl)
theorem dX3_same_172 : decode cX3_same 172 = .ok (.laload, 1) := dk_47 (dk_at dksX3_same_7 9 rfl rfl)
theorem dX3_same_173 : decode cX3_same 173 = .ok (.lcmp, 1) := dk_148 (dk_at dksX3_same_7 10 rfl rfl)
theorem dX3_same_174 : decode cX3_same 174 = .ok (.ifCond .ne 7, 3) := dk_154 0 7 (dk_at dksX3_same_7 11 rfl rfl)
theorem dX3_same_177 : decode cX3_same 177 = .ok (.iconst 1, 1) := dk_4 (dk_at dksX3_same_7 14 rfl rfl)
theorem dX3_same_178 : decode cX3_same 178 = .ok (.goto 4, 3) := dk_167 0 4 (dk_at dksX3_same_7 15 rfl rfl)
theorem dX3_same_181 : decode cX3_same 181 = .ok (.iconst 0, 1) := dk_3 (dk_at dksX3_same_7 18 rfl rfl)
theorem dX3_same_182 : decode cX3_same 182 = .ok (.istore 4, 2) := dk_54 4 (dk_at dksX3_same_7 19 rfl rfl)
theorem dX3_same_184 : decode cX3_same 184 = .ok (.iinc 5 1, 3) := dk_132 5 1 (dk_at dksX3_same_7 21 rfl rfl)
theorem dX3_same_187 : decode cX3_same 187 = .ok (.goto (-39), 3) := dk_167 255 217 (dk_at dksX3_same_8 0 rfl rfl)
theorem dX3_same_190 : decode cX3_same 190 = .ok (.iload 4, 2) := dk_21 4 (dk_at dksX3_same_8 3 rfl rfl)
theorem dX3_same_192 : decode cX3_same 192 = .ok (.ifCond .eq 7, 3) := dk_153 0 7 (dk_at dksX3_same_8 5 rfl rfl)
theorem dX3_same_195 : decode cX3_same 195 = .ok (.iconst 1, 1) := dk_4 (dk_at dksX3_same_8 8 rfl rfl)
theorem dX3_same_196 : decode cX3_same 196 = .ok (.goto 4, 3) := dk_167 0 4 (dk_at dksX3_same_8 9 rfl rfl)
theorem dX3_same_199 : decode cX3_same 199 = .ok (.iconst 0, 1) := dk_3 (dk_at dksX3_same_8 12 rfl rfl)
theorem dX3_same_200 : decode cX3_same 200 = .ok (.ireturn, 1) := dk_172 (dk_at dksX3_same_8 13 rfl rfl)
theorem dX3_same_201 : decode cX3_same 201 = .ok (.aload_n 0, 1) := dk_42 (dk_at dksX3_same_8 14 rfl rfl)
theorem dX3_same_202 : decode cX3_same 202 = .ok (.iload_n 1, 1) := dk_27 (dk_at dksX3_same_8 15 rfl rfl)
theorem dX3_same_203 : decode cX3_same 203 = .ok (.invokevirtual 160, 3) := dk_182 0 160 (dk_at dksX3_same_8 16 rfl rfl)
theorem dX3_same_206 : decode cX3_same 206 = .ok (.ldc2_w 173, 3) := dk_20 0 173 (dk_at dksX3_same_8 19 rfl rfl)
theorem dX3_same_209 : decode cX3_same 209 = .ok (.lcmp, 1) := dk_148 (dk_at dksX3_same_8 22 rfl rfl)
theorem dX3_same_210 : decode cX3_same 210 = .ok (.ifCond .gt 15, 3) := dk_157 0 15 (dk_at dksX3_same_9 0 rfl rfl)
theorem dX3_same_213 : decode cX3_same 213 = .ok (.aload_n 0, 1) := dk_42 (dk_at dksX3_same_9 3 rfl rfl)
theorem dX3_same_214 : decode cX3_same 214 = .ok (.iload_n 2, 1) := dk_28 (dk_at dksX3_same_9 4 rfl rfl)
theorem dX3_same_215 : decode cX3_same 215 = .ok (.invokevirtual 160, 3) := dk_182 0 160 (dk_at dksX3_same_9 5 rfl rfl)
theorem dX3_same_218 : decode cX3_same 218 = .ok (.ldc2_w 173, 3) := dk_20 0 173 (dk_at dksX3_same_9 8 rfl rfl)
theorem dX3_same_221 : decode cX3_same 221 = .ok (.lcmp, 1) := dk_148 (dk_at dksX3_same_9 11 rfl rfl)
theorem dX3_same_222 : decode cX3_same 222 = .ok (.ifCond .le 6, 3) := dk_158 0 6 (dk_at dksX3_same_9 12 rfl rfl)
theorem dX3_same_225 : decode cX3_same 225 = .ok (.bipush (-5), 2) := dk_16 251 (dk_at dksX3_same_9 15 rfl rfl)
theorem dX3_same_227 : decode cX3_same 227 = .ok (.ireturn, 1) := dk_172 (dk_at dksX3_same_9 17 rfl rfl)
theorem dX3_same_228 : decode cX3_same 228 = .ok (.aload_n 0, 1) := dk_42 (dk_at dksX3_same_9 18 rfl rfl)
theorem dX3_same_229 : decode cX3_same 229 = .ok (.iload_n 1, 1) := dk_27 (dk_at dksX3_same_9 19 rfl rfl)
theorem dX3_same_230 : decode cX3_same 230 = .ok (.invokevirtual 187, 3) := dk_182 0 187 (dk_at dksX3_same_9 20 rfl rfl)
theorem dX3_same_233 : decode cX3_same 233 = .ok (.istore_n 3, 1) := dk_62 (dk_at dksX3_same_9 23 rfl rfl)
theorem dX3_same_234 : decode cX3_same 234 = .ok (.aload_n 0, 1) := dk_42 (dk_at dksX3_same_10 0 rfl rfl)
theorem dX3_same_235 : decode cX3_same 235 = .ok (.iload_n 2, 1) := dk_28 (dk_at dksX3_same_10 1 rfl rfl)
theorem dX3_same_236 : decode cX3_same 236 = .ok (.invokevirtual 259, 3) := dk_182 1 3 (dk_at dksX3_same_10 2 rfl rfl)
theorem dX3_same_239 : decode cX3_same 239 = .ok (.ifCond .eq 7, 3) := dk_153 0 7 (dk_at dksX3_same_10 5 rfl rfl)
theorem dX3_same_242 : decode cX3_same 242 = .ok (.iconst 1, 1) := dk_4 (dk_at dksX3_same_10 8 rfl rfl)
theorem dX3_same_243 : decode cX3_same 243 = .ok (.goto 4, 3) := dk_167 0 4 (dk_at dksX3_same_10 9 rfl rfl)
theorem dX3_same_246 : decode cX3_same 246 = .ok (.iconst 0, 1) := dk_3 (dk_at dksX3_same_10 12 rfl rfl)
theorem dX3_same_247 : decode cX3_same 247 = .ok (.ireturn, 1) := dk_172 (dk_at dksX3_same_10 13 rfl rfl)
abbrev cX3_hasAll : ByteArray := prog_11_method_76_code
def yX3_hasAll : MethodName := ⟨RX3, "hasAll", "(I)Z"⟩
def dkwX3_hasAll_3 : List UInt8 := [132, 2, 1, 167, 255, 202, 4, 172]
abbrev dktX3_hasAll_3 : List UInt8 := dkwX3_hasAll_3 ++ []
def dkwX3_hasAll_2 : List UInt8 := [160, 0, 22, 167, 0, 17, 42, 27, 42, 180, 0, 86, 28, 47, 182, 0, 164, 154, 0, 5, 3, 172]
abbrev dktX3_hasAll_2 : List UInt8 := dkwX3_hasAll_2 ++ dktX3_hasAll_3
def dkwX3_hasAll_1 : List UInt8 := [162, 0, 52, 42, 180, 0, 60, 27, 46, 154, 0, 21, 42, 27, 42, 180, 0, 86, 28, 47, 182, 0, 134, 2]
abbrev dktX3_hasAll_1 : List UInt8 := dkwX3_hasAll_1 ++ dktX3_hasAll_2
def dkwX3_hasAll_0 : List UInt8 := [42, 27, 182, 0, 160, 42, 180, 0, 175, 133, 148, 153, 0, 5, 3, 172, 3, 61, 28, 42, 180, 0, 175]
abbrev dktX3_hasAll_0 : List UInt8 := dkwX3_hasAll_0 ++ dktX3_hasAll_1
theorem dksX3_hasAll_0 : cX3_hasAll.data.toList.drop 0 = dktX3_hasAll_0 := by decide +kernel
theorem dksX3_hasAll_1 : cX3_hasAll.data.toList.drop 23 = dktX3_hasAll_1 := dk_seg dksX3_hasAll_0 23 rfl rfl
theorem dksX3_hasAll_2 : cX3_hasAll.data.toList.drop 47 = dktX3_hasAll_2 := dk_seg dksX3_hasAll_1 24 rfl rfl
theorem dksX3_hasAll_3 : cX3_hasAll.data.toList.drop 69 = dktX3_hasAll_3 := dk_seg dksX3_hasAll_2 22 rfl rfl
theorem dX3_hasAll_0 : decode cX3_hasAll 0 = .ok (.aload_n 0, 1) := dk_42 (dk_at dksX3_hasAll_0 0 rfl rfl)
theorem dX3_hasAll_1 : decode cX3_hasAll 1 = .ok (.iload_n 1, 1) := dk_27 (dk_at dksX3_hasAll_0 1 rfl rfl)
theorem dX3_hasAll_2 : decode cX3_hasAll 2 = .ok (.invokevirtual 160, 3) := dk_182 0 160 (dk_at dksX3_hasAll_0 2 rfl rfl)
theorem dX3_hasAll_5 : decode cX3_hasAll 5 = .ok (.aload_n 0, 1) := dk_42 (dk_at dksX3_hasAll_0 5 rfl rfl)
theorem dX3_hasAll_6 : decode cX3_hasAll 6 = .ok (.getfield 175, 3) := dk_180 0 175 (dk_at dksX3_hasAll_0 6 rfl rfl)
theorem dX3_hasAll_9 : decode cX3_hasAll 9 = .ok (.i2l, 1) := dk_133 (dk_at dksX3_hasAll_0 9 rfl rfl)
theorem dX3_hasAll_10 : decode cX3_hasAll 10 = .ok (.lcmp, 1) := dk_148 (dk_at dksX3_hasAll_0 10 rfl rfl)
theorem dX3_hasAll_11 : decode cX3_hasAll 11 = .ok (.ifCond .eq 5, 3) := dk_153 0 5 (dk_at dksX3_hasAll_0 11 rfl rfl)
theorem dX3_hasAll_14 : decode cX3_hasAll 14 = .ok (.iconst 0, 1) := dk_3 (dk_at dksX3_hasAll_0 14 rfl rfl)
theorem dX3_hasAll_15 : decode cX3_hasAll 15 = .ok (.ireturn, 1) := dk_172 (dk_at dksX3_hasAll_0 15 rfl rfl)
theorem dX3_hasAll_16 : decode cX3_hasAll 16 = .ok (.iconst 0, 1) := dk_3 (dk_at dksX3_hasAll_0 16 rfl rfl)
theorem dX3_hasAll_17 : decode cX3_hasAll 17 = .ok (.istore_n 2, 1) := dk_61 (dk_at dksX3_hasAll_0 17 rfl rfl)
theorem dX3_hasAll_18 : decode cX3_hasAll 18 = .ok (.iload_n 2, 1) := dk_28 (dk_at dksX3_hasAll_0 18 rfl rfl)
theorem dX3_hasAll_19 : decode cX3_hasAll 19 = .ok (.aload_n 0, 1) := dk_42 (dk_at dksX3_hasAll_0 19 rfl rfl)
theorem dX3_hasAll_20 : decode cX3_hasAll 20 = .ok (.getfield 175, 3) := dk_180 0 175 (dk_at dksX3_hasAll_0 20 rfl rfl)
theorem dX3_hasAll_23 : decode cX3_hasAll 23 = .ok (.if_icmp .ge 52, 3) := dk_162 0 52 (dk_at dksX3_hasAll_1 0 rfl rfl)
theorem dX3_hasAll_26 : decode cX3_hasAll 26 = .ok (.aload_n 0, 1) := dk_42 (dk_at dksX3_hasAll_1 3 rfl rfl)
theorem dX3_hasAll_27 : decode cX3_hasAll 27 = .ok (.getfield 60, 3) := dk_180 0 60 (dk_at dksX3_hasAll_1 4 rfl rfl)
theorem dX3_hasAll_30 : decode cX3_hasAll 30 = .ok (.iload_n 1, 1) := dk_27 (dk_at dksX3_hasAll_1 7 rfl rfl)
theorem dX3_hasAll_31 : decode cX3_hasAll 31 = .ok (.iaload, 1) := dk_46 (dk_at dksX3_hasAll_1 8 rfl rfl)
theorem dX3_hasAll_32 : decode cX3_hasAll 32 = .ok (.ifCond .ne 21, 3) := dk_154 0 21 (dk_at dksX3_hasAll_1 9 rfl rfl)
theorem dX3_hasAll_35 : decode cX3_hasAll 35 = .ok (.aload_n 0, 1) := dk_42 (dk_at dksX3_hasAll_1 12 rfl rfl)
theorem dX3_hasAll_36 : decode cX3_hasAll 36 = .ok (.iload_n 1, 1) := dk_27 (dk_at dksX3_hasAll_1 13 rfl rfl)
theorem dX3_hasAll_37 : decode cX3_hasAll 37 = .ok (.aload_n 0, 1) := dk_42 (dk_at dksX3_hasAll_1 14 rfl rfl)
theorem dX3_hasAll_38 : decode cX3_hasAll 38 = .ok (.getfield 86, 3) := dk_180 0 86 (dk_at dksX3_hasAll_1 15 rfl rfl)
theorem dX3_hasAll_41 : decode cX3_hasAll 41 = .ok (.iload_n 2, 1) := dk_28 (dk_at dksX3_hasAll_1 18 rfl rfl)
theorem dX3_hasAll_42 : decode cX3_hasAll 42 = .ok (.laload, 1) := dk_47 (dk_at dksX3_hasAll_1 19 rfl rfl)
theorem dX3_hasAll_43 : decode cX3_hasAll 43 = .ok (.invokevirtual 134, 3) := dk_182 0 134 (dk_at dksX3_hasAll_1 20 rfl rfl)
theorem dX3_hasAll_46 : decode cX3_hasAll 46 = .ok (.iconst (-1), 1) := dk_2 (dk_at dksX3_hasAll_1 23 rfl rfl)
theorem dX3_hasAll_47 : decode cX3_hasAll 47 = .ok (.if_icmp .ne 22, 3) := dk_160 0 22 (dk_at dksX3_hasAll_2 0 rfl rfl)
theorem dX3_hasAll_50 : decode cX3_hasAll 50 = .ok (.goto 17, 3) := dk_167 0 17 (dk_at dksX3_hasAll_2 3 rfl rfl)
theorem dX3_hasAll_53 : decode cX3_hasAll 53 = .ok (.aload_n 0, 1) := dk_42 (dk_at dksX3_hasAll_2 6 rfl rfl)
theorem dX3_hasAll_54 : decode cX3_hasAll 54 = .ok (.iload_n 1, 1) := dk_27 (dk_at dksX3_hasAll_2 7 rfl rfl)
theorem dX3_hasAll_55 : decode cX3_hasAll 55 = .ok (.aload_n 0, 1) := dk_42 (dk_at dksX3_hasAll_2 8 rfl rfl)
theorem dX3_hasAll_56 : decode cX3_hasAll 56 = .ok (.getfield 86, 3) := dk_180 0 86 (dk_at dksX3_hasAll_2 9 rfl rfl)
theorem dX3_hasAll_59 : decode cX3_hasAll 59 = .ok (.iload_n 2, 1) := dk_28 (dk_at dksX3_hasAll_2 12 rfl rfl)
theorem dX3_hasAll_60 : decode cX3_hasAll 60 = .ok (.laload, 1) := dk_47 (dk_at dksX3_hasAll_2 13 rfl rfl)
theorem dX3_hasAll_61 : decode cX3_hasAll 61 = .ok (.invokevirtual 164, 3) := dk_182 0 164 (dk_at dksX3_hasAll_2 14 rfl rfl)
theorem dX3_hasAll_64 : decode cX3_hasAll 64 = .ok (.ifCond .ne 5, 3) := dk_154 0 5 (dk_at dksX3_hasAll_2 17 rfl rfl)
theorem dX3_hasAll_67 : decode cX3_hasAll 67 = .ok (.iconst 0, 1) := dk_3 (dk_at dksX3_hasAll_2 20 rfl rfl)
theorem dX3_hasAll_68 : decode cX3_hasAll 68 = .ok (.ireturn, 1) := dk_172 (dk_at dksX3_hasAll_2 21 rfl rfl)
theorem dX3_hasAll_69 : decode cX3_hasAll 69 = .ok (.iinc 2 1, 3) := dk_132 2 1 (dk_at dksX3_hasAll_3 0 rfl rfl)
theorem dX3_hasAll_72 : decode cX3_hasAll 72 = .ok (.goto (-54), 3) := dk_167 255 202 (dk_at dksX3_hasAll_3 3 rfl rfl)
theorem dX3_hasAll_75 : decode cX3_hasAll 75 = .ok (.iconst 1, 1) := dk_4 (dk_at dksX3_hasAll_3 6 rfl rfl)
theorem dX3_hasAll_76 : decode cX3_hasAll 76 = .ok (.ireturn, 1) := dk_172 (dk_at dksX3_hasAll_3 7 rfl rfl)
abbrev cX3_design : ByteArray := prog_11_method_78_code
def yX3_design : MethodName := ⟨RX3, "design", "(III)I"⟩
def dkwX3_design_8 : List UInt8 := [21, 4, 21, 7, 153, 0, 7, 4, 167, 0, 4, 3, 96, 54, 4, 132, 5, 1, 167, 255, 122, 21, 4, 172]
abbrev dktX3_design_8 : List UInt8 := dkwX3_design_8 ++ []
def dkwX3_design_7 : List UInt8 := [132, 8, 1, 167, 255, 179, 21, 7, 153, 0, 13, 21, 6, 28, 160, 0, 7, 4, 167, 0, 4, 3, 54, 7]
abbrev dktX3_design_7 : List UInt8 := dkwX3_design_7 ++ dktX3_design_8
def dkwX3_design_6 : List UInt8 := [180, 0, 90, 16, 12, 21, 5, 104, 21, 8, 96, 46, 153, 0, 7, 4, 167, 0, 4, 3, 54, 7]
abbrev dktX3_design_6 : List UInt8 := dkwX3_design_6 ++ dktX3_design_7
def dkwX3_design_5 : List UInt8 := [167, 0, 4, 3, 96, 54, 6, 21, 7, 153, 0, 32, 29, 21, 8, 122, 4, 126, 153, 0, 19, 42]
abbrev dktX3_design_5 : List UInt8 := dkwX3_design_5 ++ dktX3_design_6
def dkwX3_design_4 : List UInt8 := [162, 0, 72, 21, 6, 42, 180, 0, 90, 16, 12, 21, 5, 104, 21, 8, 96, 46, 153, 0, 7, 4]
abbrev dktX3_design_4 : List UInt8 := dkwX3_design_4 ++ dktX3_design_5
def dkwX3_design_3 : List UInt8 := [42, 180, 0, 175, 162, 0, 131, 3, 54, 6, 4, 54, 7, 3, 54, 8, 21, 8, 42, 180, 0, 67, 27, 46]
abbrev dktX3_design_3 : List UInt8 := dkwX3_design_3 ++ dktX3_design_4
def dkwX3_design_2 : List UInt8 := [154, 0, 5, 2, 172, 42, 27, 182, 0, 187, 154, 0, 6, 16, 251, 172, 3, 54, 4, 3, 54, 5, 21, 5]
abbrev dktX3_design_2 : List UInt8 := dkwX3_design_2 ++ dktX3_design_3
def dkwX3_design_1 : List UInt8 := [184, 0, 26, 153, 0, 23, 29, 133, 9, 4, 42, 180, 0, 67, 27, 46, 120, 4, 100, 133, 184, 0, 26]
abbrev dktX3_design_1 : List UInt8 := dkwX3_design_1 ++ dktX3_design_2
def dkwX3_design_0 : List UInt8 := [42, 27, 182, 0, 184, 153, 0, 9, 42, 27, 182, 0, 184, 172, 28, 133, 9, 42, 180, 0, 67, 27, 46, 133]
abbrev dktX3_design_0 : List UInt8 := dkwX3_design_0 ++ dktX3_design_1
theorem dksX3_design_0 : cX3_design.data.toList.drop 0 = dktX3_design_0 := by decide +kernel
theorem dksX3_design_1 : cX3_design.data.toList.drop 24 = dktX3_design_1 := dk_seg dksX3_design_0 24 rfl rfl
theorem dksX3_design_2 : cX3_design.data.toList.drop 47 = dktX3_design_2 := dk_seg dksX3_design_1 23 rfl rfl
theorem dksX3_design_3 : cX3_design.data.toList.drop 71 = dktX3_design_3 := dk_seg dksX3_design_2 24 rfl rfl
theorem dksX3_design_4 : cX3_design.data.toList.drop 95 = dktX3_design_4 := dk_seg dksX3_design_3 24 rfl rfl
theorem dksX3_design_5 : cX3_design.data.toList.drop 117 = dktX3_design_5 := dk_seg dksX3_design_4 22 rfl rfl
theorem dksX3_design_6 : cX3_design.data.toList.drop 139 = dktX3_design_6 := dk_seg dksX3_design_5 22 rfl rfl
theorem dksX3_design_7 : cX3_design.data.toList.drop 161 = dktX3_design_7 := dk_seg dksX3_design_6 22 rfl rfl
theorem dksX3_design_8 : cX3_design.data.toList.drop 185 = dktX3_design_8 := dk_seg dksX3_design_7 24 rfl rfl
theorem dX3_design_0 : decode cX3_design 0 = .ok (.aload_n 0, 1) := dk_42 (dk_at dksX3_design_0 0 rfl rfl)
theorem dX3_design_1 : decode cX3_design 1 = .ok (.iload_n 1, 1) := dk_27 (dk_at dksX3_design_0 1 rfl rfl)
theorem dX3_design_2 : decode cX3_design 2 = .ok (.invokevirtual 184, 3) := dk_182 0 184 (dk_at dksX3_design_0 2 rfl rfl)
theorem dX3_design_5 : decode cX3_design 5 = .ok (.ifCond .eq 9, 3) := dk_153 0 9 (dk_at dksX3_design_0 5 rfl rfl)
theorem dX3_design_8 : decode cX3_design 8 = .ok (.aload_n 0, 1) := dk_42 (dk_at dksX3_design_0 8 rfl rfl)
theorem dX3_design_9 : decode cX3_design 9 = .ok (.iload_n 1, 1) := dk_27 (dk_at dksX3_design_0 9 rfl rfl)
theorem dX3_design_10 : decode cX3_design 10 = .ok (.invokevirtual 184, 3) := dk_182 0 184 (dk_at dksX3_design_0 10 rfl rfl)
theorem dX3_design_13 : decode cX3_design 13 = .ok (.ireturn, 1) := dk_172 (dk_at dksX3_design_0 13 rfl rfl)
theorem dX3_design_14 : decode cX3_design 14 = .ok (.iload_n 2, 1) := dk_28 (dk_at dksX3_design_0 14 rfl rfl)
theorem dX3_design_15 : decode cX3_design 15 = .ok (.i2l, 1) := dk_133 (dk_at dksX3_design_0 15 rfl rfl)
theorem dX3_design_16 : decode cX3_design 16 = .ok (.lconst 0, 1) := dk_9 (dk_at dksX3_design_0 16 rfl rfl)
theorem dX3_design_17 : decode cX3_design 17 = .ok (.aload_n 0, 1) := dk_42 (dk_at dksX3_design_0 17 rfl rfl)
theorem dX3_design_18 : decode cX3_design 18 = .ok (.getfield 67, 3) := dk_180 0 67 (dk_at dksX3_design_0 18 rfl rfl)
theorem dX3_design_21 : decode cX3_design 21 = .ok (.iload_n 1, 1) := dk_27 (dk_at dksX3_design_0 21 rfl rfl)
theorem dX3_design_22 : decode cX3_design 22 = .ok (.iaload, 1) := dk_46 (dk_at dksX3_design_0 22 rfl rfl)
theorem dX3_design_23 : decode cX3_design 23 = .ok (.i2l, 1) := dk_133 (dk_at dksX3_design_0 23 rfl rfl)
theorem dX3_design_24 : decode cX3_design 24 = .ok (.invokestatic 26, 3) := dk_184 0 26 (dk_at dksX3_design_1 0 rfl rfl)
theorem dX3_design_27 : decode cX3_design 27 = .ok (.ifCond .eq 23, 3) := dk_153 0 23 (dk_at dksX3_design_1 3 rfl rfl)
theorem dX3_design_30 : decode cX3_design 30 = .ok (.iload_n 3, 1) := dk_29 (dk_at dksX3_design_1 6 rfl rfl)
theorem dX3_design_31 : decode cX3_design 31 = .ok (.i2l, 1) := dk_133 (dk_at dksX3_design_1 7 rfl rfl)
theorem dX3_design_32 : decode cX3_design 32 = .ok (.lconst 0, 1) := dk_9 (dk_at dksX3_design_1 8 rfl rfl)
theorem dX3_design_33 : decode cX3_design 33 = .ok (.iconst 1, 1) := dk_4 (dk_at dksX3_design_1 9 rfl rfl)
theorem dX3_design_34 : decode cX3_design 34 = .ok (.aload_n 0, 1) := dk_42 (dk_at dksX3_design_1 10 rfl rfl)
theorem dX3_design_35 : decode cX3_design 35 = .ok (.getfield 67, 3) := dk_180 0 67 (dk_at dksX3_design_1 11 rfl rfl)
theorem dX3_design_38 : decode cX3_design 38 = .ok (.iload_n 1, 1) := dk_27 (dk_at dksX3_design_1 14 rfl rfl)
theorem dX3_design_39 : decode cX3_design 39 = .ok (.iaload, 1) := dk_46 (dk_at dksX3_design_1 15 rfl rfl)
theorem dX3_design_40 : decode cX3_design 40 = .ok (.ishl, 1) := dk_120 (dk_at dksX3_design_1 16 rfl rfl)
theorem dX3_design_41 : decode cX3_design 41 = .ok (.iconst 1, 1) := dk_4 (dk_at dksX3_design_1 17 rfl rfl)
theorem dX3_design_42 : decode cX3_design 42 = .ok (.isub, 1) := dk_100 (dk_at dksX3_design_1 18 rfl rfl)
theorem dX3_design_43 : decode cX3_design 43 = .ok (.i2l, 1) := dk_133 (dk_at dksX3_design_1 19 rfl rfl)
theorem dX3_design_44 : decode cX3_design 44 = .ok (.invokestatic 26, 3) := dk_184 0 26 (dk_at dksX3_design_1 20 rfl rfl)
theorem dX3_design_47 : decode cX3_design 47 = .ok (.ifCond .ne 5, 3) := dk_154 0 5 (dk_at dksX3_design_2 0 rfl rfl)
theorem dX3_design_50 : decode cX3_design 50 = .ok (.iconst (-1), 1) := dk_2 (dk_at dksX3_design_2 3 rfl rfl)
theorem dX3_design_51 : decode cX3_design 51 = .ok (.ireturn, 1) := dk_172 (dk_at dksX3_design_2 4 rfl rfl)
theorem dX3_design_52 : decode cX3_design 52 = .ok (.aload_n 0, 1) := dk_42 (dk_at dksX3_design_2 5 rfl rfl)
theorem dX3_design_53 : decode cX3_design 53 = .ok (.iload_n 1, 1) := dk_27 (dk_at dksX3_design_2 6 rfl rfl)
theorem dX3_design_54 : decode cX3_design 54 = .ok (.invokevirtual 187, 3) := dk_182 0 187 (dk_at dksX3_design_2 7 rfl rfl)
theorem dX3_design_57 : decode cX3_design 57 = .ok (.ifCond .ne 6, 3) := dk_154 0 6 (dk_at dksX3_design_2 10 rfl rfl)
theorem dX3_design_60 : decode cX3_design 60 = .ok (.bipush (-5), 2) := dk_16 251 (dk_at dksX3_design_2 13 rfl rfl)
theorem dX3_design_62 : decode cX3_design 62 = .ok (.ireturn, 1) := dk_172 (dk_at dksX3_design_2 15 rfl rfl)
theorem dX3_design_63 : decode cX3_design 63 = .ok (.iconst 0, 1) := dk_3 (dk_at dksX3_design_2 16 rfl rfl)
theorem dX3_design_64 : decode cX3_design 64 = .ok (.istore 4, 2) := dk_54 4 (dk_at dksX3_design_2 17 rfl rfl)
theorem dX3_design_66 : decode cX3_design 66 = .ok (.iconst 0, 1) := dk_3 (dk_at dksX3_design_2 19 rfl rfl)
theorem dX3_design_67 : decode cX3_design 67 = .ok (.istore 5, 2) := dk_54 5 (dk_at dksX3_design_2 20 rfl rfl)
theorem dX3_design_69 : decode cX3_design 69 = .ok (.iload 5, 2) := dk_21 5 (dk_at dksX3_design_2 22 rfl rfl)
theorem dX3_design_71 : decode cX3_design 71 = .ok (.aload_n 0, 1) := dk_42 (dk_at dksX3_design_3 0 rfl rfl)
theorem dX3_design_72 : decode cX3_design 72 = .ok (.getfield 175, 3) := dk_180 0 175 (dk_at dksX3_design_3 1 rfl rfl)
theorem dX3_design_75 : decode cX3_design 75 = .ok (.if_icmp .ge 131, 3) := dk_162 0 131 (dk_at dksX3_design_3 4 rfl rfl)
theorem dX3_design_78 : decode cX3_design 78 = .ok (.iconst 0, 1) := dk_3 (dk_at dksX3_design_3 7 rfl rfl)
theorem dX3_design_79 : decode cX3_design 79 = .ok (.istore 6, 2) := dk_54 6 (dk_at dksX3_design_3 8 rfl rfl)
theorem dX3_design_81 : decode cX3_design 81 = .ok (.iconst 1, 1) := dk_4 (dk_at dksX3_design_3 10 rfl rfl)
theorem dX3_design_82 : decode cX3_design 82 = .ok (.istore 7, 2) := dk_54 7 (dk_at dksX3_design_3 11 rfl rfl)
theorem dX3_design_84 : decode cX3_design 84 = .ok (.iconst 0, 1) := dk_3 (dk_at dksX3_design_3 13 rfl rfl)
theorem dX3_design_85 : decode cX3_design 85 = .ok (.istore 8, 2) := dk_54 8 (dk_at dksX3_design_3 14 rfl rfl)
theorem dX3_design_87 : decode cX3_design 87 = .ok (.iload 8, 2) := dk_21 8 (dk_at dksX3_design_3 16 rfl rfl)
theorem dX3_design_89 : decode cX3_design 89 = .ok (.aload_n 0, 1) := dk_42 (dk_at dksX3_design_3 18 rfl rfl)
theorem dX3_design_90 : decode cX3_design 90 = .ok (.getfield 67, 3) := dk_180 0 67 (dk_at dksX3_design_3 19 rfl rfl)
theorem dX3_design_93 : decode cX3_design 93 = .ok (.iload_n 1, 1) := dk_27 (dk_at dksX3_design_3 22 rfl rfl)
theorem dX3_design_94 : decode cX3_design 94 = .ok (.iaload, 1) := dk_46 (dk_at dksX3_design_3 23 rfl rfl)
theorem dX3_design_95 : decode cX3_design 95 = .ok (.if_icmp .ge 72, 3) := dk_162 0 72 (dk_at dksX3_design_4 0 rfl rfl)
theorem dX3_design_98 : decode cX3_design 98 = .ok (.iload 6, 2) := dk_21 6 (dk_at dksX3_design_4 3 rfl rfl)
theorem dX3_design_100 : decode cX3_design 100 = .ok (.aload_n 0, 1) := dk_42 (dk_at dksX3_design_4 5 rfl rfl)
theorem dX3_design_101 : decode cX3_design 101 = .ok (.getfield 90, 3) := dk_180 0 90 (dk_at dksX3_design_4 6 rfl rfl)
theorem dX3_design_104 : decode cX3_design 104 = .ok (.bipush 12, 2) := dk_16 12 (dk_at dksX3_design_4 9 rfl rfl)
theorem dX3_design_106 : decode cX3_design 106 = .ok (.iload 5, 2) := dk_21 5 (dk_at dksX3_design_4 11 rfl rfl)
theorem dX3_design_108 : decode cX3_design 108 = .ok (.imul, 1) := dk_104 (dk_at dksX3_design_4 13 rfl rfl)
theorem dX3_design_109 : decode cX3_design 109 = .ok (.iload 8, 2) := dk_21 8 (dk_at dksX3_design_4 14 rfl rfl)
theorem dX3_design_111 : decode cX3_design 111 = .ok (.iadd, 1) := dk_96 (dk_at dksX3_design_4 16 rfl rfl)
theorem dX3_design_112 : decode cX3_design 112 = .ok (.iaload, 1) := dk_46 (dk_at dksX3_design_4 17 rfl rfl)
theorem dX3_design_113 : decode cX3_design 113 = .ok (.ifCond .eq 7, 3) := dk_153 0 7 (dk_at dksX3_design_4 18 rfl rfl)
theorem dX3_design_116 : decode cX3_design 116 = .ok (.iconst 1, 1) := dk_4 (dk_at dksX3_design_4 21 rfl rfl)
theorem dX3_design_117 : decode cX3_design 117 = .ok (.goto 4, 3) := dk_167 0 4 (dk_at dksX3_design_5 0 rfl rfl)
theorem dX3_design_120 : decode cX3_design 120 = .ok (.iconst 0, 1) := dk_3 (dk_at dksX3_design_5 3 rfl rfl)
theorem dX3_design_121 : decode cX3_design 121 = .ok (.iadd, 1) := dk_96 (dk_at dksX3_design_5 4 rfl rfl)
theorem dX3_design_122 : decode cX3_design 122 = .ok (.istore 6, 2) := dk_54 6 (dk_at dksX3_design_5 5 rfl rfl)
theorem dX3_design_124 : decode cX3_design 124 = .ok (.iload 7, 2) := dk_21 7 (dk_at dksX3_design_5 7 rfl rfl)
theorem dX3_design_126 : decode cX3_design 126 = .ok (.ifCond .eq 32, 3) := dk_153 0 32 (dk_at dksX3_design_5 9 rfl rfl)
theorem dX3_design_129 : decode cX3_design 129 = .ok (.iload_n 3, 1) := dk_29 (dk_at dksX3_design_5 12 rfl rfl)
theorem dX3_design_130 : decode cX3_design 130 = .ok (.iload 8, 2) := dk_21 8 (dk_at dksX3_design_5 13 rfl rfl)
theorem dX3_design_132 : decode cX3_design 132 = .ok (.ishr, 1) := dk_122 (dk_at dksX3_design_5 15 rfl rfl)
theorem dX3_design_133 : decode cX3_design 133 = .ok (.iconst 1, 1) := dk_4 (dk_at dksX3_design_5 16 rfl rfl)
theorem dX3_design_134 : decode cX3_design 134 = .ok (.iand, 1) := dk_126 (dk_at dksX3_design_5 17 rfl rfl)
theorem dX3_design_135 : decode cX3_design 135 = .ok (.ifCond .eq 19, 3) := dk_153 0 19 (dk_at dksX3_design_5 18 rfl rfl)
theorem dX3_design_138 : decode cX3_design 138 = .ok (.aload_n 0, 1) := dk_42 (dk_at dksX3_design_5 21 rfl rfl)
theorem dX3_design_139 : decode cX3_design 139 = .ok (.getfield 90, 3) := dk_180 0 90 (dk_at dksX3_design_6 0 rfl rfl)
theorem dX3_design_142 : decode cX3_design 142 = .ok (.bipush 12, 2) := dk_16 12 (dk_at dksX3_design_6 3 rfl rfl)
theorem dX3_design_144 : decode cX3_design 144 = .ok (.iload 5, 2) := dk_21 5 (dk_at dksX3_design_6 5 rfl rfl)
theorem dX3_design_146 : decode cX3_design 146 = .ok (.imul, 1) := dk_104 (dk_at dksX3_design_6 7 rfl rfl)
theorem dX3_design_147 : decode cX3_design 147 = .ok (.iload 8, 2) := dk_21 8 (dk_at dksX3_design_6 8 rfl rfl)
theorem dX3_design_149 : decode cX3_design 149 = .ok (.iadd, 1) := dk_96 (dk_at dksX3_design_6 10 rfl rfl)
theorem dX3_design_150 : decode cX3_design 150 = .ok (.iaload, 1) := dk_46 (dk_at dksX3_design_6 11 rfl rfl)
theorem dX3_design_151 : decode cX3_design 151 = .ok (.ifCond .eq 7, 3) := dk_153 0 7 (dk_at dksX3_design_6 12 rfl rfl)
theorem dX3_design_154 : decode cX3_design 154 = .ok (.iconst 1, 1) := dk_4 (dk_at dksX3_design_6 15 rfl rfl)
theorem dX3_design_155 : decode cX3_design 155 = .ok (.goto 4, 3) := dk_167 0 4 (dk_at dksX3_design_6 16 rfl rfl)
theorem dX3_design_158 : decode cX3_design 158 = .ok (.iconst 0, 1) := dk_3 (dk_at dksX3_design_6 19 rfl rfl)
theorem dX3_design_159 : decode cX3_design 159 = .ok (.istore 7, 2) := dk_54 7 (dk_at dksX3_design_6 20 rfl rfl)
theorem dX3_design_161 : decode cX3_design 161 = .ok (.iinc 8 1, 3) := dk_132 8 1 (dk_at dksX3_design_7 0 rfl rfl)
theorem dX3_design_164 : decode cX3_design 164 = .ok (.goto (-77), 3) := dk_167 255 179 (dk_at dksX3_design_7 3 rfl rfl)
theorem dX3_design_167 : decode cX3_design 167 = .ok (.iload 7, 2) := dk_21 7 (dk_at dksX3_design_7 6 rfl rfl)
theorem dX3_design_169 : decode cX3_design 169 = .ok (.ifCond .eq 13, 3) := dk_153 0 13 (dk_at dksX3_design_7 8 rfl rfl)
theorem dX3_design_172 : decode cX3_design 172 = .ok (.iload 6, 2) := dk_21 6 (dk_at dksX3_design_7 11 rfl rfl)
theorem dX3_design_174 : decode cX3_design 174 = .ok (.iload_n 2, 1) := dk_28 (dk_at dksX3_design_7 13 rfl rfl)
theorem dX3_design_175 : decode cX3_design 175 = .ok (.if_icmp .ne 7, 3) := dk_160 0 7 (dk_at dksX3_design_7 14 rfl rfl)
theorem dX3_design_178 : decode cX3_design 178 = .ok (.iconst 1, 1) := dk_4 (dk_at dksX3_design_7 17 rfl rfl)
theorem dX3_design_179 : decode cX3_design 179 = .ok (.goto 4, 3) := dk_167 0 4 (dk_at dksX3_design_7 18 rfl rfl)
theorem dX3_design_182 : decode cX3_design 182 = .ok (.iconst 0, 1) := dk_3 (dk_at dksX3_design_7 21 rfl rfl)
theorem dX3_design_183 : decode cX3_design 183 = .ok (.istore 7, 2) := dk_54 7 (dk_at dksX3_design_7 22 rfl rfl)
theorem dX3_design_185 : decode cX3_design 185 = .ok (.iload 4, 2) := dk_21 4 (dk_at dksX3_design_8 0 rfl rfl)
theorem dX3_design_187 : decode cX3_design 187 = .ok (.iload 7, 2) := dk_21 7 (dk_at dksX3_design_8 2 rfl rfl)
theorem dX3_design_189 : decode cX3_design 189 = .ok (.ifCond .eq 7, 3) := dk_153 0 7 (dk_at dksX3_design_8 4 rfl rfl)
theorem dX3_design_192 : decode cX3_design 192 = .ok (.iconst 1, 1) := dk_4 (dk_at dksX3_design_8 7 rfl rfl)
theorem dX3_design_193 : decode cX3_design 193 = .ok (.goto 4, 3) := dk_167 0 4 (dk_at dksX3_design_8 8 rfl rfl)
theorem dX3_design_196 : decode cX3_design 196 = .ok (.iconst 0, 1) := dk_3 (dk_at dksX3_design_8 11 rfl rfl)
theorem dX3_design_197 : decode cX3_design 197 = .ok (.iadd, 1) := dk_96 (dk_at dksX3_design_8 12 rfl rfl)
theorem dX3_design_198 : decode cX3_design 198 = .ok (.istore 4, 2) := dk_54 4 (dk_at dksX3_design_8 13 rfl rfl)
theorem dX3_design_200 : decode cX3_design 200 = .ok (.iinc 5 1, 3) := dk_132 5 1 (dk_at dksX3_design_8 15 rfl rfl)
theorem dX3_design_203 : decode cX3_design 203 = .ok (.goto (-134), 3) := dk_167 255 122 (dk_at dksX3_design_8 18 rfl rfl)
theorem dX3_design_206 : decode cX3_design 206 = .ok (.iload 4, 2) := dk_21 4 (dk_at dksX3_design_8 21 rfl rfl)
theorem dX3_design_208 : decode cX3_design 208 = .ok (.ireturn, 1) := dk_172 (dk_at dksX3_design_8 23 rfl rfl)
abbrev cX3_keep : ByteArray := prog_11_method_80_code
def yX3_keep : MethodName := ⟨RX3, "keep", "(IIII)I"⟩
def dkwX3_keep_9 : List UInt8 := [180, 0, 73, 17, 0, 200, 29, 104, 21, 5, 96, 47, 80, 132, 5, 1, 167, 255, 177, 3, 172]
abbrev dktX3_keep_9 : List UInt8 := dkwX3_keep_9 ++ []
def dkwX3_keep_8 : List UInt8 := [46, 42, 180, 0, 73, 17, 0, 200, 29, 104, 21, 4, 96, 47, 21, 5, 184, 0, 15, 133, 167, 0, 16, 42]
abbrev dktX3_keep_8 : List UInt8 := dkwX3_keep_8 ++ dktX3_keep_9
def dkwX3_keep_7 : List UInt8 := [17, 0, 200, 27, 104, 21, 5, 96, 28, 6, 160, 0, 37, 42, 180, 0, 64, 29, 46, 42, 180, 0, 67, 29]
abbrev dktX3_keep_7 : List UInt8 := dkwX3_keep_7 ++ dktX3_keep_8
def dkwX3_keep_6 : List UInt8 := [180, 0, 70, 29, 46, 79, 3, 54, 5, 21, 5, 42, 180, 0, 111, 27, 46, 162, 0, 74, 42, 180, 0, 114]
abbrev dktX3_keep_6 : List UInt8 := dkwX3_keep_6 ++ dktX3_keep_7
def dkwX3_keep_5 : List UInt8 := [46, 79, 42, 180, 0, 111, 27, 28, 6, 160, 0, 12, 42, 180, 0, 67, 29, 46, 167, 0, 9, 42]
abbrev dktX3_keep_5 : List UInt8 := dkwX3_keep_5 ++ dktX3_keep_6
def dkwX3_keep_4 : List UInt8 := [28, 79, 42, 180, 0, 105, 27, 42, 180, 0, 60, 29, 46, 79, 42, 180, 0, 108, 27, 42, 180, 0, 67, 29]
abbrev dktX3_keep_4 : List UInt8 := dkwX3_keep_4 ++ dktX3_keep_5
def dkwX3_keep_3 : List UInt8 := [9, 42, 180, 0, 70, 29, 46, 4, 100, 133, 184, 0, 26, 154, 0, 6, 16, 254, 172, 42, 180, 0, 102, 27]
abbrev dktX3_keep_3 : List UInt8 := dkwX3_keep_3 ++ dktX3_keep_4
def dkwX3_keep_2 : List UInt8 := [154, 0, 5, 2, 172, 42, 29, 182, 0, 127, 153, 0, 6, 16, 245, 172, 28, 6, 160, 0, 25, 21, 4, 133]
abbrev dktX3_keep_2 : List UInt8 := dkwX3_keep_2 ++ dktX3_keep_3
def dkwX3_keep_1 : List UInt8 := [159, 0, 5, 2, 172, 28, 154, 0, 12, 42, 180, 0, 102, 27, 3, 79, 3, 172, 29, 184, 0, 119]
abbrev dktX3_keep_1 : List UInt8 := dkwX3_keep_1 ++ dktX3_keep_2
def dkwX3_keep_0 : List UInt8 := [27, 184, 1, 6, 153, 0, 22, 28, 153, 0, 20, 28, 4, 159, 0, 15, 28, 6, 159, 0, 10, 28, 7]
abbrev dktX3_keep_0 : List UInt8 := dkwX3_keep_0 ++ dktX3_keep_1
theorem dksX3_keep_0 : cX3_keep.data.toList.drop 0 = dktX3_keep_0 := by decide +kernel
theorem dksX3_keep_1 : cX3_keep.data.toList.drop 23 = dktX3_keep_1 := dk_seg dksX3_keep_0 23 rfl rfl
theorem dksX3_keep_2 : cX3_keep.data.toList.drop 45 = dktX3_keep_2 := dk_seg dksX3_keep_1 22 rfl rfl
theorem dksX3_keep_3 : cX3_keep.data.toList.drop 69 = dktX3_keep_3 := dk_seg dksX3_keep_2 24 rfl rfl
theorem dksX3_keep_4 : cX3_keep.data.toList.drop 93 = dktX3_keep_4 := dk_seg dksX3_keep_3 24 rfl rfl
theorem dksX3_keep_5 : cX3_keep.data.toList.drop 117 = dktX3_keep_5 := dk_seg dksX3_keep_4 24 rfl rfl
theorem dksX3_keep_6 : cX3_keep.data.toList.drop 139 = dktX3_keep_6 := dk_seg dksX3_keep_5 22 rfl rfl
theorem dksX3_keep_7 : cX3_keep.data.toList.drop 163 = dktX3_keep_7 := dk_seg dksX3_keep_6 24 rfl rfl
theorem dksX3_keep_8 : cX3_keep.data.toList.drop 187 = dktX3_keep_8 := dk_seg dksX3_keep_7 24 rfl rfl
theorem dksX3_keep_9 : cX3_keep.data.toList.drop 211 = dktX3_keep_9 := dk_seg dksX3_keep_8 24 rfl rfl
theorem dX3_keep_0 : decode cX3_keep 0 = .ok (.iload_n 1, 1) := dk_27 (dk_at dksX3_keep_0 0 rfl rfl)
theorem dX3_keep_1 : decode cX3_keep 1 = .ok (.invokestatic 262, 3) := dk_184 1 6 (dk_at dksX3_keep_0 1 rfl rfl)
theorem dX3_keep_4 : decode cX3_keep 4 = .ok (.ifCond .eq 22, 3) := dk_153 0 22 (dk_at dksX3_keep_0 4 rfl rfl)
theorem dX3_keep_7 : decode cX3_keep 7 = .ok (.iload_n 2, 1) := dk_28 (dk_at dksX3_keep_0 7 rfl rfl)
theorem dX3_keep_8 : decode cX3_keep 8 = .ok (.ifCond .eq 20, 3) := dk_153 0 20 (dk_at dksX3_keep_0 8 rfl rfl)
theorem dX3_keep_11 : decode cX3_keep 11 = .ok (.iload_n 2, 1) := dk_28 (dk_at dksX3_keep_0 11 rfl rfl)
theorem dX3_keep_12 : decode cX3_keep 12 = .ok (.iconst 1, 1) := dk_4 (dk_at dksX3_keep_0 12 rfl rfl)
theorem dX3_keep_13 : decode cX3_keep 13 = .ok (.if_icmp .eq 15, 3) := dk_159 0 15 (dk_at dksX3_keep_0 13 rfl rfl)
theorem dX3_keep_16 : decode cX3_keep 16 = .ok (.iload_n 2, 1) := dk_28 (dk_at dksX3_keep_0 16 rfl rfl)
theorem dX3_keep_17 : decode cX3_keep 17 = .ok (.iconst 3, 1) := dk_6 (dk_at dksX3_keep_0 17 rfl rfl)
theorem dX3_keep_18 : decode cX3_keep 18 = .ok (.if_icmp .eq 10, 3) := dk_159 0 10 (dk_at dksX3_keep_0 18 rfl rfl)
theorem dX3_keep_21 : decode cX3_keep 21 = .ok (.iload_n 2, 1) := dk_28 (dk_at dksX3_keep_0 21 rfl rfl)
theorem dX3_keep_22 : decode cX3_keep 22 = .ok (.iconst 4, 1) := dk_7 (dk_at dksX3_keep_0 22 rfl rfl)
theorem dX3_keep_23 : decode cX3_keep 23 = .ok (.if_icmp .eq 5, 3) := dk_159 0 5 (dk_at dksX3_keep_1 0 rfl rfl)
theorem dX3_keep_26 : decode cX3_keep 26 = .ok (.iconst (-1), 1) := dk_2 (dk_at dksX3_keep_1 3 rfl rfl)
theorem dX3_keep_27 : decode cX3_keep 27 = .ok (.ireturn, 1) := dk_172 (dk_at dksX3_keep_1 4 rfl rfl)
theorem dX3_keep_28 : decode cX3_keep 28 = .ok (.iload_n 2, 1) := dk_28 (dk_at dksX3_keep_1 5 rfl rfl)
theorem dX3_keep_29 : decode cX3_keep 29 = .ok (.ifCond .ne 12, 3) := dk_154 0 12 (dk_at dksX3_keep_1 6 rfl rfl)
theorem dX3_keep_32 : decode cX3_keep 32 = .ok (.aload_n 0, 1) := dk_42 (dk_at dksX3_keep_1 9 rfl rfl)
theorem dX3_keep_33 : decode cX3_keep 33 = .ok (.getfield 102, 3) := dk_180 0 102 (dk_at dksX3_keep_1 10 rfl rfl)
theorem dX3_keep_36 : decode cX3_keep 36 = .ok (.iload_n 1, 1) := dk_27 (dk_at dksX3_keep_1 13 rfl rfl)
theorem dX3_keep_37 : decode cX3_keep 37 = .ok (.iconst 0, 1) := dk_3 (dk_at dksX3_keep_1 14 rfl rfl)
theorem dX3_keep_38 : decode cX3_keep 38 = .ok (.iastore, 1) := dk_79 (dk_at dksX3_keep_1 15 rfl rfl)
theorem dX3_keep_39 : decode cX3_keep 39 = .ok (.iconst 0, 1) := dk_3 (dk_at dksX3_keep_1 16 rfl rfl)
theorem dX3_keep_40 : decode cX3_keep 40 = .ok (.ireturn, 1) := dk_172 (dk_at dksX3_keep_1 17 rfl rfl)
theorem dX3_keep_41 : decode cX3_keep 41 = .ok (.iload_n 3, 1) := dk_29 (dk_at dksX3_keep_1 18 rfl rfl)
theorem dX3_keep_42 : decode cX3_keep 42 = .ok (.invokestatic 119, 3) := dk_184 0 119 (dk_at dksX3_keep_1 19 rfl rfl)
theorem dX3_keep_45 : decode cX3_keep 45 = .ok (.ifCond .ne 5, 3) := dk_154 0 5 (dk_at dksX3_keep_2 0 rfl rfl)
theorem dX3_keep_48 : decode cX3_keep 48 = .ok (.iconst (-1), 1) := dk_2 (dk_at dksX3_keep_2 3 rfl rfl)
theorem dX3_keep_49 : decode cX3_keep 49 = .ok (.ireturn, 1) := dk_172 (dk_at dksX3_keep_2 4 rfl rfl)
theorem dX3_keep_50 : decode cX3_keep 50 = .ok (.aload_n 0, 1) := dk_42 (dk_at dksX3_keep_2 5 rfl rfl)
theorem dX3_keep_51 : decode cX3_keep 51 = .ok (.iload_n 3, 1) := dk_29 (dk_at dksX3_keep_2 6 rfl rfl)
theorem dX3_keep_52 : decode cX3_keep 52 = .ok (.invokevirtual 127, 3) := dk_182 0 127 (dk_at dksX3_keep_2 7 rfl rfl)
theorem dX3_keep_55 : decode cX3_keep 55 = .ok (.ifCond .eq 6, 3) := dk_153 0 6 (dk_at dksX3_keep_2 10 rfl rfl)
theorem dX3_keep_58 : decode cX3_keep 58 = .ok (.bipush (-11), 2) := dk_16 245 (dk_at dksX3_keep_2 13 rfl rfl)
theorem dX3_keep_60 : decode cX3_keep 60 = .ok (.ireturn, 1) := dk_172 (dk_at dksX3_keep_2 15 rfl rfl)
theorem dX3_keep_61 : decode cX3_keep 61 = .ok (.iload_n 2, 1) := dk_28 (dk_at dksX3_keep_2 16 rfl rfl)
theorem dX3_keep_62 : decode cX3_keep 62 = .ok (.iconst 3, 1) := dk_6 (dk_at dksX3_keep_2 17 rfl rfl)
theorem dX3_keep_63 : decode cX3_keep 63 = .ok (.if_icmp .ne 25, 3) := dk_160 0 25 (dk_at dksX3_keep_2 18 rfl rfl)
theorem dX3_keep_66 : decode cX3_keep 66 = .ok (.iload 4, 2) := dk_21 4 (dk_at dksX3_keep_2 21 rfl rfl)
theorem dX3_keep_68 : decode cX3_keep 68 = .ok (.i2l, 1) := dk_133 (dk_at dksX3_keep_2 23 rfl rfl)
theorem dX3_keep_69 : decode cX3_keep 69 = .ok (.lconst 0, 1) := dk_9 (dk_at dksX3_keep_3 0 rfl rfl)
theorem dX3_keep_70 : decode cX3_keep 70 = .ok (.aload_n 0, 1) := dk_42 (dk_at dksX3_keep_3 1 rfl rfl)
theorem dX3_keep_71 : decode cX3_keep 71 = .ok (.getfield 70, 3) := dk_180 0 70 (dk_at dksX3_keep_3 2 rfl rfl)
theorem dX3_keep_74 : decode cX3_keep 74 = .ok (.iload_n 3, 1) := dk_29 (dk_at dksX3_keep_3 5 rfl rfl)
theorem dX3_keep_75 : decode cX3_keep 75 = .ok (.iaload, 1) := dk_46 (dk_at dksX3_keep_3 6 rfl rfl)
theorem dX3_keep_76 : decode cX3_keep 76 = .ok (.iconst 1, 1) := dk_4 (dk_at dksX3_keep_3 7 rfl rfl)
theorem dX3_keep_77 : decode cX3_keep 77 = .ok (.isub, 1) := dk_100 (dk_at dksX3_keep_3 8 rfl rfl)
theorem dX3_keep_78 : decode cX3_keep 78 = .ok (.i2l, 1) := dk_133 (dk_at dksX3_keep_3 9 rfl rfl)
theorem dX3_keep_79 : decode cX3_keep 79 = .ok (.invokestatic 26, 3) := dk_184 0 26 (dk_at dksX3_keep_3 10 rfl rfl)
theorem dX3_keep_82 : decode cX3_keep 82 = .ok (.ifCond .ne 6, 3) := dk_154 0 6 (dk_at dksX3_keep_3 13 rfl rfl)
theorem dX3_keep_85 : decode cX3_keep 85 = .ok (.bipush (-2), 2) := dk_16 254 (dk_at dksX3_keep_3 16 rfl rfl)
theorem dX3_keep_87 : decode cX3_keep 87 = .ok (.ireturn, 1) := dk_172 (dk_at dksX3_keep_3 18 rfl rfl)
theorem dX3_keep_88 : decode cX3_keep 88 = .ok (.aload_n 0, 1) := dk_42 (dk_at dksX3_keep_3 19 rfl rfl)
theorem dX3_keep_89 : decode cX3_keep 89 = .ok (.getfield 102, 3) := dk_180 0 102 (dk_at dksX3_keep_3 20 rfl rfl)
theorem dX3_keep_92 : decode cX3_keep 92 = .ok (.iload_n 1, 1) := dk_27 (dk_at dksX3_keep_3 23 rfl rfl)
theorem dX3_keep_93 : decode cX3_keep 93 = .ok (.iload_n 2, 1) := dk_28 (dk_at dksX3_keep_4 0 rfl rfl)
theorem dX3_keep_94 : decode cX3_keep 94 = .ok (.iastore, 1) := dk_79 (dk_at dksX3_keep_4 1 rfl rfl)
theorem dX3_keep_95 : decode cX3_keep 95 = .ok (.aload_n 0, 1) := dk_42 (dk_at dksX3_keep_4 2 rfl rfl)
theorem dX3_keep_96 : decode cX3_keep 96 = .ok (.getfield 105, 3) := dk_180 0 105 (dk_at dksX3_keep_4 3 rfl rfl)
theorem dX3_keep_99 : decode cX3_keep 99 = .ok (.iload_n 1, 1) := dk_27 (dk_at dksX3_keep_4 6 rfl rfl)
theorem dX3_keep_100 : decode cX3_keep 100 = .ok (.aload_n 0, 1) := dk_42 (dk_at dksX3_keep_4 7 rfl rfl)
theorem dX3_keep_101 : decode cX3_keep 101 = .ok (.getfield 60, 3) := dk_180 0 60 (dk_at dksX3_keep_4 8 rfl rfl)
theorem dX3_keep_104 : decode cX3_keep 104 = .ok (.iload_n 3, 1) := dk_29 (dk_at dksX3_keep_4 11 rfl rfl)
theorem dX3_keep_105 : decode cX3_keep 105 = .ok (.iaload, 1) := dk_46 (dk_at dksX3_keep_4 12 rfl rfl)
theorem dX3_keep_106 : decode cX3_keep 106 = .ok (.iastore, 1) := dk_79 (dk_at dksX3_keep_4 13 rfl rfl)
theorem dX3_keep_107 : decode cX3_keep 107 = .ok (.aload_n 0, 1) := dk_42 (dk_at dksX3_keep_4 14 rfl rfl)
theorem dX3_keep_108 : decode cX3_keep 108 = .ok (.getfield 108, 3) := dk_180 0 108 (dk_at dksX3_keep_4 15 rfl rfl)
theorem dX3_keep_111 : decode cX3_keep 111 = .ok (.iload_n 1, 1) := dk_27 (dk_at dksX3_keep_4 18 rfl rfl)
theorem dX3_keep_112 : decode cX3_keep 112 = .ok (.aload_n 0, 1) := dk_42 (dk_at dksX3_keep_4 19 rfl rfl)
theorem dX3_keep_113 : decode cX3_keep 113 = .ok (.getfield 67, 3) := dk_180 0 67 (dk_at dksX3_keep_4 20 rfl rfl)
theorem dX3_keep_116 : decode cX3_keep 116 = .ok (.iload_n 3, 1) := dk_29 (dk_at dksX3_keep_4 23 rfl rfl)
theorem dX3_keep_117 : decode cX3_keep 117 = .ok (.iaload, 1) := dk_46 (dk_at dksX3_keep_5 0 rfl rfl)
theorem dX3_keep_118 : decode cX3_keep 118 = .ok (.iastore, 1) := dk_79 (dk_at dksX3_keep_5 1 rfl rfl)
theorem dX3_keep_119 : decode cX3_keep 119 = .ok (.aload_n 0, 1) := dk_42 (dk_at dksX3_keep_5 2 rfl rfl)
theorem dX3_keep_120 : decode cX3_keep 120 = .ok (.getfield 111, 3) := dk_180 0 111 (dk_at dksX3_keep_5 3 rfl rfl)
theorem dX3_keep_123 : decode cX3_keep 123 = .ok (.iload_n 1, 1) := dk_27 (dk_at dksX3_keep_5 6 rfl rfl)
theorem dX3_keep_124 : decode cX3_keep 124 = .ok (.iload_n 2, 1) := dk_28 (dk_at dksX3_keep_5 7 rfl rfl)
theorem dX3_keep_125 : decode cX3_keep 125 = .ok (.iconst 3, 1) := dk_6 (dk_at dksX3_keep_5 8 rfl rfl)
theorem dX3_keep_126 : decode cX3_keep 126 = .ok (.if_icmp .ne 12, 3) := dk_160 0 12 (dk_at dksX3_keep_5 9 rfl rfl)
theorem dX3_keep_129 : decode cX3_keep 129 = .ok (.aload_n 0, 1) := dk_42 (dk_at dksX3_keep_5 12 rfl rfl)
theorem dX3_keep_130 : decode cX3_keep 130 = .ok (.getfield 67, 3) := dk_180 0 67 (dk_at dksX3_keep_5 13 rfl rfl)
theorem dX3_keep_133 : decode cX3_keep 133 = .ok (.iload_n 3, 1) := dk_29 (dk_at dksX3_keep_5 16 rfl rfl)
theorem dX3_keep_134 : decode cX3_keep 134 = .ok (.iaload, 1) := dk_46 (dk_at dksX3_keep_5 17 rfl rfl)
theorem dX3_keep_135 : decode cX3_keep 135 = .ok (.goto 9, 3) := dk_167 0 9 (dk_at dksX3_keep_5 18 rfl rfl)
theorem dX3_keep_138 : decode cX3_keep 138 = .ok (.aload_n 0, 1) := dk_42 (dk_at dksX3_keep_5 21 rfl rfl)
theorem dX3_keep_139 : decode cX3_keep 139 = .ok (.getfield 70, 3) := dk_180 0 70 (dk_at dksX3_keep_6 0 rfl rfl)
theorem dX3_keep_142 : decode cX3_keep 142 = .ok (.iload_n 3, 1) := dk_29 (dk_at dksX3_keep_6 3 rfl rfl)
theorem dX3_keep_143 : decode cX3_keep 143 = .ok (.iaload, 1) := dk_46 (dk_at dksX3_keep_6 4 rfl rfl)
theorem dX3_keep_144 : decode cX3_keep 144 = .ok (.iastore, 1) := dk_79 (dk_at dksX3_keep_6 5 rfl rfl)
theorem dX3_keep_145 : decode cX3_keep 145 = .ok (.iconst 0, 1) := dk_3 (dk_at dksX3_keep_6 6 rfl rfl)
theorem dX3_keep_146 : decode cX3_keep 146 = .ok (.istore 5, 2) := dk_54 5 (dk_at dksX3_keep_6 7 rfl rfl)
theorem dX3_keep_148 : decode cX3_keep 148 = .ok (.iload 5, 2) := dk_21 5 (dk_at dksX3_keep_6 9 rfl rfl)
theorem dX3_keep_150 : decode cX3_keep 150 = .ok (.aload_n 0, 1) := dk_42 (dk_at dksX3_keep_6 11 rfl rfl)
theorem dX3_keep_151 : decode cX3_keep 151 = .ok (.getfield 111, 3) := dk_180 0 111 (dk_at dksX3_keep_6 12 rfl rfl)
theorem dX3_keep_154 : decode cX3_keep 154 = .ok (.iload_n 1, 1) := dk_27 (dk_at dksX3_keep_6 15 rfl rfl)
theorem dX3_keep_155 : decode cX3_keep 155 = .ok (.iaload, 1) := dk_46 (dk_at dksX3_keep_6 16 rfl rfl)
theorem dX3_keep_156 : decode cX3_keep 156 = .ok (.if_icmp .ge 74, 3) := dk_162 0 74 (dk_at dksX3_keep_6 17 rfl rfl)
theorem dX3_keep_159 : decode cX3_keep 159 = .ok (.aload_n 0, 1) := dk_42 (dk_at dksX3_keep_6 20 rfl rfl)
theorem dX3_keep_160 : decode cX3_keep 160 = .ok (.getfield 114, 3) := dk_180 0 114 (dk_at dksX3_keep_6 21 rfl rfl)
theorem dX3_keep_163 : decode cX3_keep 163 = .ok (.sipush 200, 3) := dk_17 0 200 (dk_at dksX3_keep_7 0 rfl rfl)
theorem dX3_keep_166 : decode cX3_keep 166 = .ok (.iload_n 1, 1) := dk_27 (dk_at dksX3_keep_7 3 rfl rfl)
theorem dX3_keep_167 : decode cX3_keep 167 = .ok (.imul, 1) := dk_104 (dk_at dksX3_keep_7 4 rfl rfl)
theorem dX3_keep_168 : decode cX3_keep 168 = .ok (.iload 5, 2) := dk_21 5 (dk_at dksX3_keep_7 5 rfl rfl)
theorem dX3_keep_170 : decode cX3_keep 170 = .ok (.iadd, 1) := dk_96 (dk_at dksX3_keep_7 7 rfl rfl)
theorem dX3_keep_171 : decode cX3_keep 171 = .ok (.iload_n 2, 1) := dk_28 (dk_at dksX3_keep_7 8 rfl rfl)
theorem dX3_keep_172 : decode cX3_keep 172 = .ok (.iconst 3, 1) := dk_6 (dk_at dksX3_keep_7 9 rfl rfl)
theorem dX3_keep_173 : decode cX3_keep 173 = .ok (.if_icmp .ne 37, 3) := dk_160 0 37 (dk_at dksX3_keep_7 10 rfl rfl)
theorem dX3_keep_176 : decode cX3_keep 176 = .ok (.aload_n 0, 1) := dk_42 (dk_at dksX3_keep_7 13 rfl rfl)
theorem dX3_keep_177 : decode cX3_keep 177 = .ok (.getfield 64, 3) := dk_180 0 64 (dk_at dksX3_keep_7 14 rfl rfl)
theorem dX3_keep_180 : decode cX3_keep 180 = .ok (.iload_n 3, 1) := dk_29 (dk_at dksX3_keep_7 17 rfl rfl)
theorem dX3_keep_181 : decode cX3_keep 181 = .ok (.iaload, 1) := dk_46 (dk_at dksX3_keep_7 18 rfl rfl)
theorem dX3_keep_182 : decode cX3_keep 182 = .ok (.aload_n 0, 1) := dk_42 (dk_at dksX3_keep_7 19 rfl rfl)
theorem dX3_keep_183 : decode cX3_keep 183 = .ok (.getfield 67, 3) := dk_180 0 67 (dk_at dksX3_keep_7 20 rfl rfl)
theorem dX3_keep_186 : decode cX3_keep 186 = .ok (.iload_n 3, 1) := dk_29 (dk_at dksX3_keep_7 23 rfl rfl)
theorem dX3_keep_187 : decode cX3_keep 187 = .ok (.iaload, 1) := dk_46 (dk_at dksX3_keep_8 0 rfl rfl)
theorem dX3_keep_188 : decode cX3_keep 188 = .ok (.aload_n 0, 1) := dk_42 (dk_at dksX3_keep_8 1 rfl rfl)
theorem dX3_keep_189 : decode cX3_keep 189 = .ok (.getfield 73, 3) := dk_180 0 73 (dk_at dksX3_keep_8 2 rfl rfl)
theorem dX3_keep_192 : decode cX3_keep 192 = .ok (.sipush 200, 3) := dk_17 0 200 (dk_at dksX3_keep_8 5 rfl rfl)
theorem dX3_keep_195 : decode cX3_keep 195 = .ok (.iload_n 3, 1) := dk_29 (dk_at dksX3_keep_8 8 rfl rfl)
theorem dX3_keep_196 : decode cX3_keep 196 = .ok (.imul, 1) := dk_104 (dk_at dksX3_keep_8 9 rfl rfl)
theorem dX3_keep_197 : decode cX3_keep 197 = .ok (.iload 4, 2) := dk_21 4 (dk_at dksX3_keep_8 10 rfl rfl)
theorem dX3_keep_199 : decode cX3_keep 199 = .ok (.iadd, 1) := dk_96 (dk_at dksX3_keep_8 12 rfl rfl)
theorem dX3_keep_200 : decode cX3_keep 200 = .ok (.laload, 1) := dk_47 (dk_at dksX3_keep_8 13 rfl rfl)
theorem dX3_keep_201 : decode cX3_keep 201 = .ok (.iload 5, 2) := dk_21 5 (dk_at dksX3_keep_8 14 rfl rfl)
theorem dX3_keep_203 : decode cX3_keep 203 = .ok (.invokestatic 15, 3) := dk_184 0 15 (dk_at dksX3_keep_8 16 rfl rfl)
theorem dX3_keep_206 : decode cX3_keep 206 = .ok (.i2l, 1) := dk_133 (dk_at dksX3_keep_8 19 rfl rfl)
theorem dX3_keep_207 : decode cX3_keep 207 = .ok (.goto 16, 3) := dk_167 0 16 (dk_at dksX3_keep_8 20 rfl rfl)
theorem dX3_keep_210 : decode cX3_keep 210 = .ok (.aload_n 0, 1) := dk_42 (dk_at dksX3_keep_8 23 rfl rfl)
theorem dX3_keep_211 : decode cX3_keep 211 = .ok (.getfield 73, 3) := dk_180 0 73 (dk_at dksX3_keep_9 0 rfl rfl)
theorem dX3_keep_214 : decode cX3_keep 214 = .ok (.sipush 200, 3) := dk_17 0 200 (dk_at dksX3_keep_9 3 rfl rfl)
theorem dX3_keep_217 : decode cX3_keep 217 = .ok (.iload_n 3, 1) := dk_29 (dk_at dksX3_keep_9 6 rfl rfl)
theorem dX3_keep_218 : decode cX3_keep 218 = .ok (.imul, 1) := dk_104 (dk_at dksX3_keep_9 7 rfl rfl)
theorem dX3_keep_219 : decode cX3_keep 219 = .ok (.iload 5, 2) := dk_21 5 (dk_at dksX3_keep_9 8 rfl rfl)
theorem dX3_keep_221 : decode cX3_keep 221 = .ok (.iadd, 1) := dk_96 (dk_at dksX3_keep_9 10 rfl rfl)
theorem dX3_keep_222 : decode cX3_keep 222 = .ok (.laload, 1) := dk_47 (dk_at dksX3_keep_9 11 rfl rfl)
theorem dX3_keep_223 : decode cX3_keep 223 = .ok (.lastore, 1) := dk_80 (dk_at dksX3_keep_9 12 rfl rfl)
theorem dX3_keep_224 : decode cX3_keep 224 = .ok (.iinc 5 1, 3) := dk_132 5 1 (dk_at dksX3_keep_9 13 rfl rfl)
theorem dX3_keep_227 : decode cX3_keep 227 = .ok (.goto (-79), 3) := dk_167 255 177 (dk_at dksX3_keep_9 16 rfl rfl)
theorem dX3_keep_230 : decode cX3_keep 230 = .ok (.iconst 0, 1) := dk_3 (dk_at dksX3_keep_9 19 rfl rfl)
theorem dX3_keep_231 : decode cX3_keep 231 = .ok (.ireturn, 1) := dk_172 (dk_at dksX3_keep_9 20 rfl rfl)
abbrev cX3_isShelf : ByteArray := prog_11_method_79_code
def yX3_isShelf : MethodName := ⟨RX3, "isShelf", "(I)Z"⟩
def dkwX3_isShelf_0 : List UInt8 := [26, 133, 9, 20, 0, 24, 184, 0, 26, 172]
abbrev dktX3_isShelf_0 : List UInt8 := dkwX3_isShelf_0 ++ []
theorem dksX3_isShelf_0 : cX3_isShelf.data.toList.drop 0 = dktX3_isShelf_0 := by decide +kernel
theorem dX3_isShelf_0 : decode cX3_isShelf 0 = .ok (.iload_n 0, 1) := dk_26 (dk_at dksX3_isShelf_0 0 rfl rfl)
theorem dX3_isShelf_1 : decode cX3_isShelf 1 = .ok (.i2l, 1) := dk_133 (dk_at dksX3_isShelf_0 1 rfl rfl)
theorem dX3_isShelf_2 : decode cX3_isShelf 2 = .ok (.lconst 0, 1) := dk_9 (dk_at dksX3_isShelf_0 2 rfl rfl)
theorem dX3_isShelf_3 : decode cX3_isShelf 3 = .ok (.ldc2_w 24, 3) := dk_20 0 24 (dk_at dksX3_isShelf_0 3 rfl rfl)
theorem dX3_isShelf_6 : decode cX3_isShelf 6 = .ok (.invokestatic 26, 3) := dk_184 0 26 (dk_at dksX3_isShelf_0 6 rfl rfl)
theorem dX3_isShelf_9 : decode cX3_isShelf 9 = .ok (.ireturn, 1) := dk_172 (dk_at dksX3_isShelf_0 9 rfl rfl)
abbrev cX3_row : ByteArray := prog_11_method_81_code
def yX3_row : MethodName := ⟨RX3, "row", "(III)I"⟩
def dkwX3_row_3 : List UInt8 := [132, 4, 1, 167, 255, 233, 3, 172]
abbrev dktX3_row_3 : List UInt8 := dkwX3_row_3 ++ []
def dkwX3_row_2 : List UInt8 := [54, 4, 21, 4, 29, 162, 0, 23, 42, 180, 0, 114, 17, 0, 200, 27, 104, 21, 4, 96, 9, 80]
abbrev dktX3_row_2 : List UInt8 := dkwX3_row_2 ++ dktX3_row_3
def dkwX3_row_1 : List UInt8 := [172, 29, 156, 0, 6, 16, 242, 172, 42, 180, 0, 102, 27, 28, 79, 42, 180, 0, 111, 27, 29, 79, 3]
abbrev dktX3_row_1 : List UInt8 := dkwX3_row_1 ++ dktX3_row_2
def dkwX3_row_0 : List UInt8 := [27, 184, 1, 6, 153, 0, 19, 28, 6, 159, 0, 8, 28, 7, 160, 0, 9, 29, 16, 60, 164, 0, 5, 2]
abbrev dktX3_row_0 : List UInt8 := dkwX3_row_0 ++ dktX3_row_1
theorem dksX3_row_0 : cX3_row.data.toList.drop 0 = dktX3_row_0 := by decide +kernel
theorem dksX3_row_1 : cX3_row.data.toList.drop 24 = dktX3_row_1 := dk_seg dksX3_row_0 24 rfl rfl
theorem dksX3_row_2 : cX3_row.data.toList.drop 47 = dktX3_row_2 := dk_seg dksX3_row_1 23 rfl rfl
theorem dksX3_row_3 : cX3_row.data.toList.drop 69 = dktX3_row_3 := dk_seg dksX3_row_2 22 rfl rfl
theorem dX3_row_0 : decode cX3_row 0 = .ok (.iload_n 1, 1) := dk_27 (dk_at dksX3_row_0 0 rfl rfl)
theorem dX3_row_1 : decode cX3_row 1 = .ok (.invokestatic 262, 3) := dk_184 1 6 (dk_at dksX3_row_0 1 rfl rfl)
theorem dX3_row_4 : decode cX3_row 4 = .ok (.ifCond .eq 19, 3) := dk_153 0 19 (dk_at dksX3_row_0 4 rfl rfl)
theorem dX3_row_7 : decode cX3_row 7 = .ok (.iload_n 2, 1) := dk_28 (dk_at dksX3_row_0 7 rfl rfl)
theorem dX3_row_8 : decode cX3_row 8 = .ok (.iconst 3, 1) := dk_6 (dk_at dksX3_row_0 8 rfl rfl)
theorem dX3_row_9 : decode cX3_row 9 = .ok (.if_icmp .eq 8, 3) := dk_159 0 8 (dk_at dksX3_row_0 9 rfl rfl)
theorem dX3_row_12 : decode cX3_row 12 = .ok (.iload_n 2, 1) := dk_28 (dk_at dksX3_row_0 12 rfl rfl)
theorem dX3_row_13 : decode cX3_row 13 = .ok (.iconst 4, 1) := dk_7 (dk_at dksX3_row_0 13 rfl rfl)
theorem dX3_row_14 : decode cX3_row 14 = .ok (.if_icmp .ne 9, 3) := dk_160 0 9 (dk_at dksX3_row_0 14 rfl rfl)
theorem dX3_row_17 : decode cX3_row 17 = .ok (.iload_n 3, 1) := dk_29 (dk_at dksX3_row_0 17 rfl rfl)
theorem dX3_row_18 : decode cX3_row 18 = .ok (.bipush 60, 2) := dk_16 60 (dk_at dksX3_row_0 18 rfl rfl)
theorem dX3_row_20 : decode cX3_row 20 = .ok (.if_icmp .le 5, 3) := dk_164 0 5 (dk_at dksX3_row_0 20 rfl rfl)
theorem dX3_row_23 : decode cX3_row 23 = .ok (.iconst (-1), 1) := dk_2 (dk_at dksX3_row_0 23 rfl rfl)
theorem dX3_row_24 : decode cX3_row 24 = .ok (.ireturn, 1) := dk_172 (dk_at dksX3_row_1 0 rfl rfl)
theorem dX3_row_25 : decode cX3_row 25 = .ok (.iload_n 3, 1) := dk_29 (dk_at dksX3_row_1 1 rfl rfl)
theorem dX3_row_26 : decode cX3_row 26 = .ok (.ifCond .ge 6, 3) := dk_156 0 6 (dk_at dksX3_row_1 2 rfl rfl)
theorem dX3_row_29 : decode cX3_row 29 = .ok (.bipush (-14), 2) := dk_16 242 (dk_at dksX3_row_1 5 rfl rfl)
theorem dX3_row_31 : decode cX3_row 31 = .ok (.ireturn, 1) := dk_172 (dk_at dksX3_row_1 7 rfl rfl)
theorem dX3_row_32 : decode cX3_row 32 = .ok (.aload_n 0, 1) := dk_42 (dk_at dksX3_row_1 8 rfl rfl)
theorem dX3_row_33 : decode cX3_row 33 = .ok (.getfield 102, 3) := dk_180 0 102 (dk_at dksX3_row_1 9 rfl rfl)
theorem dX3_row_36 : decode cX3_row 36 = .ok (.iload_n 1, 1) := dk_27 (dk_at dksX3_row_1 12 rfl rfl)
theorem dX3_row_37 : decode cX3_row 37 = .ok (.iload_n 2, 1) := dk_28 (dk_at dksX3_row_1 13 rfl rfl)
theorem dX3_row_38 : decode cX3_row 38 = .ok (.iastore, 1) := dk_79 (dk_at dksX3_row_1 14 rfl rfl)
theorem dX3_row_39 : decode cX3_row 39 = .ok (.aload_n 0, 1) := dk_42 (dk_at dksX3_row_1 15 rfl rfl)
theorem dX3_row_40 : decode cX3_row 40 = .ok (.getfield 111, 3) := dk_180 0 111 (dk_at dksX3_row_1 16 rfl rfl)
theorem dX3_row_43 : decode cX3_row 43 = .ok (.iload_n 1, 1) := dk_27 (dk_at dksX3_row_1 19 rfl rfl)
theorem dX3_row_44 : decode cX3_row 44 = .ok (.iload_n 3, 1) := dk_29 (dk_at dksX3_row_1 20 rfl rfl)
theorem dX3_row_45 : decode cX3_row 45 = .ok (.iastore, 1) := dk_79 (dk_at dksX3_row_1 21 rfl rfl)
theorem dX3_row_46 : decode cX3_row 46 = .ok (.iconst 0, 1) := dk_3 (dk_at dksX3_row_1 22 rfl rfl)
theorem dX3_row_47 : decode cX3_row 47 = .ok (.istore 4, 2) := dk_54 4 (dk_at dksX3_row_2 0 rfl rfl)
theorem dX3_row_49 : decode cX3_row 49 = .ok (.iload 4, 2) := dk_21 4 (dk_at dksX3_row_2 2 rfl rfl)
theorem dX3_row_51 : decode cX3_row 51 = .ok (.iload_n 3, 1) := dk_29 (dk_at dksX3_row_2 4 rfl rfl)
theorem dX3_row_52 : decode cX3_row 52 = .ok (.if_icmp .ge 23, 3) := dk_162 0 23 (dk_at dksX3_row_2 5 rfl rfl)
theorem dX3_row_55 : decode cX3_row 55 = .ok (.aload_n 0, 1) := dk_42 (dk_at dksX3_row_2 8 rfl rfl)
theorem dX3_row_56 : decode cX3_row 56 = .ok (.getfield 114, 3) := dk_180 0 114 (dk_at dksX3_row_2 9 rfl rfl)
theorem dX3_row_59 : decode cX3_row 59 = .ok (.sipush 200, 3) := dk_17 0 200 (dk_at dksX3_row_2 12 rfl rfl)
theorem dX3_row_62 : decode cX3_row 62 = .ok (.iload_n 1, 1) := dk_27 (dk_at dksX3_row_2 15 rfl rfl)
theorem dX3_row_63 : decode cX3_row 63 = .ok (.imul, 1) := dk_104 (dk_at dksX3_row_2 16 rfl rfl)
theorem dX3_row_64 : decode cX3_row 64 = .ok (.iload 4, 2) := dk_21 4 (dk_at dksX3_row_2 17 rfl rfl)
theorem dX3_row_66 : decode cX3_row 66 = .ok (.iadd, 1) := dk_96 (dk_at dksX3_row_2 19 rfl rfl)
theorem dX3_row_67 : decode cX3_row 67 = .ok (.lconst 0, 1) := dk_9 (dk_at dksX3_row_2 20 rfl rfl)
theorem dX3_row_68 : decode cX3_row 68 = .ok (.lastore, 1) := dk_80 (dk_at dksX3_row_2 21 rfl rfl)
theorem dX3_row_69 : decode cX3_row 69 = .ok (.iinc 4 1, 3) := dk_132 4 1 (dk_at dksX3_row_3 0 rfl rfl)
theorem dX3_row_72 : decode cX3_row 72 = .ok (.goto (-23), 3) := dk_167 255 233 (dk_at dksX3_row_3 3 rfl rfl)
theorem dX3_row_75 : decode cX3_row 75 = .ok (.iconst 0, 1) := dk_3 (dk_at dksX3_row_3 6 rfl rfl)
theorem dX3_row_76 : decode cX3_row 76 = .ok (.ireturn, 1) := dk_172 (dk_at dksX3_row_3 7 rfl rfl)
abbrev cX3_element : ByteArray := prog_11_method_82_code
def yX3_element : MethodName := ⟨RX3, "element", "(II)J"⟩
def dkwX3_element_2 : List UInt8 := [42, 180, 0, 1, 158, 0, 7, 9, 167, 0, 15, 42, 180, 0, 114, 17, 0, 200, 27, 104, 28, 96, 47, 173]
abbrev dktX3_element_2 : List UInt8 := dkwX3_element_2 ++ []
def dkwX3_element_1 : List UInt8 := [9, 42, 180, 0, 111, 27, 46, 4, 100, 133, 184, 0, 26, 154, 0, 7, 5, 167, 0, 4, 3, 181, 0, 1]
abbrev dktX3_element_1 : List UInt8 := dkwX3_element_1 ++ dktX3_element_2
def dkwX3_element_0 : List UInt8 := [42, 27, 184, 1, 6, 154, 0, 7, 4, 167, 0, 36, 42, 180, 0, 102, 27, 46, 6, 161, 0, 21, 28, 133]
abbrev dktX3_element_0 : List UInt8 := dkwX3_element_0 ++ dktX3_element_1
theorem dksX3_element_0 : cX3_element.data.toList.drop 0 = dktX3_element_0 := by decide +kernel
theorem dksX3_element_1 : cX3_element.data.toList.drop 24 = dktX3_element_1 := dk_seg dksX3_element_0 24 rfl rfl
theorem dksX3_element_2 : cX3_element.data.toList.drop 48 = dktX3_element_2 := dk_seg dksX3_element_1 24 rfl rfl
theorem dX3_element_0 : decode cX3_element 0 = .ok (.aload_n 0, 1) := dk_42 (dk_at dksX3_element_0 0 rfl rfl)
theorem dX3_element_1 : decode cX3_element 1 = .ok (.iload_n 1, 1) := dk_27 (dk_at dksX3_element_0 1 rfl rfl)
theorem dX3_element_2 : decode cX3_element 2 = .ok (.invokestatic 262, 3) := dk_184 1 6 (dk_at dksX3_element_0 2 rfl rfl)
theorem dX3_element_5 : decode cX3_element 5 = .ok (.ifCond .ne 7, 3) := dk_154 0 7 (dk_at dksX3_element_0 5 rfl rfl)
theorem dX3_element_8 : decode cX3_element 8 = .ok (.iconst 1, 1) := dk_4 (dk_at dksX3_element_0 8 rfl rfl)
theorem dX3_element_9 : decode cX3_element 9 = .ok (.goto 36, 3) := dk_167 0 36 (dk_at dksX3_element_0 9 rfl rfl)
theorem dX3_element_12 : decode cX3_element 12 = .ok (.aload_n 0, 1) := dk_42 (dk_at dksX3_element_0 12 rfl rfl)
theorem dX3_element_13 : decode cX3_element 13 = .ok (.getfield 102, 3) := dk_180 0 102 (dk_at dksX3_element_0 13 rfl rfl)
theorem dX3_element_16 : decode cX3_element 16 = .ok (.iload_n 1, 1) := dk_27 (dk_at dksX3_element_0 16 rfl rfl)
theorem dX3_element_17 : decode cX3_element 17 = .ok (.iaload, 1) := dk_46 (dk_at dksX3_element_0 17 rfl rfl)
theorem dX3_element_18 : decode cX3_element 18 = .ok (.iconst 3, 1) := dk_6 (dk_at dksX3_element_0 18 rfl rfl)
theorem dX3_element_19 : decode cX3_element 19 = .ok (.if_icmp .lt 21, 3) := dk_161 0 21 (dk_at dksX3_element_0 19 rfl rfl)
theorem dX3_element_22 : decode cX3_element 22 = .ok (.iload_n 2, 1) := dk_28 (dk_at dksX3_element_0 22 rfl rfl)
theorem dX3_element_23 : decode cX3_element 23 = .ok (.i2l, 1) := dk_133 (dk_at dksX3_element_0 23 rfl rfl)
theorem dX3_element_24 : decode cX3_element 24 = .ok (.lconst 0, 1) := dk_9 (dk_at dksX3_element_1 0 rfl rfl)
theorem dX3_element_25 : decode cX3_element 25 = .ok (.aload_n 0, 1) := dk_42 (dk_at dksX3_element_1 1 rfl rfl)
theorem dX3_element_26 : decode cX3_element 26 = .ok (.getfield 111, 3) := dk_180 0 111 (dk_at dksX3_element_1 2 rfl rfl)
theorem dX3_element_29 : decode cX3_element 29 = .ok (.iload_n 1, 1) := dk_27 (dk_at dksX3_element_1 5 rfl rfl)
theorem dX3_element_30 : decode cX3_element 30 = .ok (.iaload, 1) := dk_46 (dk_at dksX3_element_1 6 rfl rfl)
theorem dX3_element_31 : decode cX3_element 31 = .ok (.iconst 1, 1) := dk_4 (dk_at dksX3_element_1 7 rfl rfl)
theorem dX3_element_32 : decode cX3_element 32 = .ok (.isub, 1) := dk_100 (dk_at dksX3_element_1 8 rfl rfl)
theorem dX3_element_33 : decode cX3_element 33 = .ok (.i2l, 1) := dk_133 (dk_at dksX3_element_1 9 rfl rfl)
theorem dX3_element_34 : decode cX3_element 34 = .ok (.invokestatic 26, 3) := dk_184 0 26 (dk_at dksX3_element_1 10 rfl rfl)
theorem dX3_element_37 : decode cX3_element 37 = .ok (.ifCond .ne 7, 3) := dk_154 0 7 (dk_at dksX3_element_1 13 rfl rfl)
theorem dX3_element_40 : decode cX3_element 40 = .ok (.iconst 2, 1) := dk_5 (dk_at dksX3_element_1 16 rfl rfl)
theorem dX3_element_41 : decode cX3_element 41 = .ok (.goto 4, 3) := dk_167 0 4 (dk_at dksX3_element_1 17 rfl rfl)
theorem dX3_element_44 : decode cX3_element 44 = .ok (.iconst 0, 1) := dk_3 (dk_at dksX3_element_1 20 rfl rfl)
theorem dX3_element_45 : decode cX3_element 45 = .ok (.putfield 1, 3) := dk_181 0 1 (dk_at dksX3_element_1 21 rfl rfl)
theorem dX3_element_48 : decode cX3_element 48 = .ok (.aload_n 0, 1) := dk_42 (dk_at dksX3_element_2 0 rfl rfl)
theorem dX3_element_49 : decode cX3_element 49 = .ok (.getfield 1, 3) := dk_180 0 1 (dk_at dksX3_element_2 1 rfl rfl)
theorem dX3_element_52 : decode cX3_element 52 = .ok (.ifCond .le 7, 3) := dk_158 0 7 (dk_at dksX3_element_2 4 rfl rfl)
theorem dX3_element_55 : decode cX3_element 55 = .ok (.lconst 0, 1) := dk_9 (dk_at dksX3_element_2 7 rfl rfl)
theorem dX3_element_56 : decode cX3_element 56 = .ok (.goto 15, 3) := dk_167 0 15 (dk_at dksX3_element_2 8 rfl rfl)
theorem dX3_element_59 : decode cX3_element 59 = .ok (.aload_n 0, 1) := dk_42 (dk_at dksX3_element_2 11 rfl rfl)
theorem dX3_element_60 : decode cX3_element 60 = .ok (.getfield 114, 3) := dk_180 0 114 (dk_at dksX3_element_2 12 rfl rfl)
theorem dX3_element_63 : decode cX3_element 63 = .ok (.sipush 200, 3) := dk_17 0 200 (dk_at dksX3_element_2 15 rfl rfl)
theorem dX3_element_66 : decode cX3_element 66 = .ok (.iload_n 1, 1) := dk_27 (dk_at dksX3_element_2 18 rfl rfl)
theorem dX3_element_67 : decode cX3_element 67 = .ok (.imul, 1) := dk_104 (dk_at dksX3_element_2 19 rfl rfl)
theorem dX3_element_68 : decode cX3_element 68 = .ok (.iload_n 2, 1) := dk_28 (dk_at dksX3_element_2 20 rfl rfl)
theorem dX3_element_69 : decode cX3_element 69 = .ok (.iadd, 1) := dk_96 (dk_at dksX3_element_2 21 rfl rfl)
theorem dX3_element_70 : decode cX3_element 70 = .ok (.laload, 1) := dk_47 (dk_at dksX3_element_2 22 rfl rfl)
theorem dX3_element_71 : decode cX3_element 71 = .ok (.lreturn, 1) := dk_173 (dk_at dksX3_element_2 23 rfl rfl)
abbrev cX3_copy : ByteArray := prog_11_method_83_code
def yX3_copy : MethodName := ⟨RX3, "copy", "(IIIII)I"⟩
def dkwX3_copy_8 : List UInt8 := [132, 6, 1, 167, 255, 223, 21, 5, 172]
abbrev dktX3_copy_8 : List UInt8 := dkwX3_copy_8 ++ []
def dkwX3_copy_7 : List UInt8 := [180, 0, 114, 17, 0, 200, 29, 104, 21, 4, 96, 21, 6, 96, 42, 180, 0, 99, 21, 6, 47, 80]
abbrev dktX3_copy_7 : List UInt8 := dkwX3_copy_7 ++ dktX3_copy_8
def dkwX3_copy_6 : List UInt8 := [21, 6, 96, 47, 80, 132, 6, 1, 167, 255, 224, 3, 54, 6, 21, 6, 21, 5, 162, 0, 32, 42]
abbrev dktX3_copy_6 : List UInt8 := dkwX3_copy_6 ++ dktX3_copy_7
def dkwX3_copy_5 : List UInt8 := [21, 6, 21, 5, 162, 0, 31, 42, 180, 0, 99, 21, 6, 42, 180, 0, 114, 17, 0, 200, 27, 104, 28, 96]
abbrev dktX3_copy_5 : List UInt8 := dkwX3_copy_5 ++ dktX3_copy_6
def dkwX3_copy_4 : List UInt8 := [163, 0, 17, 21, 4, 42, 180, 0, 111, 29, 46, 21, 5, 100, 164, 0, 6, 16, 243, 172, 3, 54, 6]
abbrev dktX3_copy_4 : List UInt8 := dkwX3_copy_4 ++ dktX3_copy_5
def dkwX3_copy_3 : List UInt8 := [155, 0, 39, 28, 155, 0, 35, 21, 4, 155, 0, 30, 28, 42, 180, 0, 111, 27, 46, 21, 5, 100]
abbrev dktX3_copy_3 : List UInt8 := dkwX3_copy_3 ++ dktX3_copy_4
def dkwX3_copy_2 : List UInt8 := [161, 0, 18, 42, 180, 0, 102, 29, 46, 42, 180, 0, 102, 27, 46, 159, 0, 6, 16, 244, 172, 21, 5]
abbrev dktX3_copy_2 : List UInt8 := dkwX3_copy_2 ++ dktX3_copy_3
def dkwX3_copy_1 : List UInt8 := [153, 0, 12, 42, 180, 0, 102, 29, 46, 154, 0, 6, 16, 245, 172, 42, 180, 0, 102, 27, 46, 6]
abbrev dktX3_copy_1 : List UInt8 := dkwX3_copy_1 ++ dktX3_copy_2
def dkwX3_copy_0 : List UInt8 := [27, 184, 1, 6, 153, 0, 10, 29, 184, 1, 6, 154, 0, 5, 2, 172, 42, 180, 0, 102, 27, 46]
abbrev dktX3_copy_0 : List UInt8 := dkwX3_copy_0 ++ dktX3_copy_1
theorem dksX3_copy_0 : cX3_copy.data.toList.drop 0 = dktX3_copy_0 := by decide +kernel
theorem dksX3_copy_1 : cX3_copy.data.toList.drop 22 = dktX3_copy_1 := dk_seg dksX3_copy_0 22 rfl rfl
theorem dksX3_copy_2 : cX3_copy.data.toList.drop 44 = dktX3_copy_2 := dk_seg dksX3_copy_1 22 rfl rfl
theorem dksX3_copy_3 : cX3_copy.data.toList.drop 67 = dktX3_copy_3 := dk_seg dksX3_copy_2 23 rfl rfl
theorem dksX3_copy_4 : cX3_copy.data.toList.drop 89 = dktX3_copy_4 := dk_seg dksX3_copy_3 22 rfl rfl
theorem dksX3_copy_5 : cX3_copy.data.toList.drop 112 = dktX3_copy_5 := dk_seg dksX3_copy_4 23 rfl rfl
theorem dksX3_copy_6 : cX3_copy.data.toList.drop 136 = dktX3_copy_6 := dk_seg dksX3_copy_5 24 rfl rfl
theorem dksX3_copy_7 : cX3_copy.data.toList.drop 158 = dktX3_copy_7 := dk_seg dksX3_copy_6 22 rfl rfl
theorem dksX3_copy_8 : cX3_copy.data.toList.drop 180 = dktX3_copy_8 := dk_seg dksX3_copy_7 22 rfl rfl
theorem dX3_copy_0 : decode cX3_copy 0 = .ok (.iload_n 1, 1) := dk_27 (dk_at dksX3_copy_0 0 rfl rfl)
theorem dX3_copy_1 : decode cX3_copy 1 = .ok (.invokestatic 262, 3) := dk_184 1 6 (dk_at dksX3_copy_0 1 rfl rfl)
theorem dX3_copy_4 : decode cX3_copy 4 = .ok (.ifCond .eq 10, 3) := dk_153 0 10 (dk_at dksX3_copy_0 4 rfl rfl)
theorem dX3_copy_7 : decode cX3_copy 7 = .ok (.iload_n 3, 1) := dk_29 (dk_at dksX3_copy_0 7 rfl rfl)
theorem dX3_copy_8 : decode cX3_copy 8 = .ok (.invokestatic 262, 3) := dk_184 1 6 (dk_at dksX3_copy_0 8 rfl rfl)
theorem dX3_copy_11 : decode cX3_copy 11 = .ok (.ifCond .ne 5, 3) := dk_154 0 5 (dk_at dksX3_copy_0 11 rfl rfl)
theorem dX3_copy_14 : decode cX3_copy 14 = .ok (.iconst (-1), 1) := dk_2 (dk_at dksX3_copy_0 14 rfl rfl)
theorem dX3_copy_15 : decode cX3_copy 15 = .ok (.ireturn, 1) := dk_172 (dk_at dksX3_copy_0 15 rfl rfl)
theorem dX3_copy_16 : decode cX3_copy 16 = .ok (.aload_n 0, 1) := dk_42 (dk_at dksX3_copy_0 16 rfl rfl)
theorem dX3_copy_17 : decode cX3_copy 17 = .ok (.getfield 102, 3) := dk_180 0 102 (dk_at dksX3_copy_0 17 rfl rfl)
theorem dX3_copy_20 : decode cX3_copy 20 = .ok (.iload_n 1, 1) := dk_27 (dk_at dksX3_copy_0 20 rfl rfl)
theorem dX3_copy_21 : decode cX3_copy 21 = .ok (.iaload, 1) := dk_46 (dk_at dksX3_copy_0 21 rfl rfl)
theorem dX3_copy_22 : decode cX3_copy 22 = .ok (.ifCond .eq 12, 3) := dk_153 0 12 (dk_at dksX3_copy_1 0 rfl rfl)
theorem dX3_copy_25 : decode cX3_copy 25 = .ok (.aload_n 0, 1) := dk_42 (dk_at dksX3_copy_1 3 rfl rfl)
theorem dX3_copy_26 : decode cX3_copy 26 = .ok (.getfield 102, 3) := dk_180 0 102 (dk_at dksX3_copy_1 4 rfl rfl)
theorem dX3_copy_29 : decode cX3_copy 29 = .ok (.iload_n 3, 1) := dk_29 (dk_at dksX3_copy_1 7 rfl rfl)
theorem dX3_copy_30 : decode cX3_copy 30 = .ok (.iaload, 1) := dk_46 (dk_at dksX3_copy_1 8 rfl rfl)
theorem dX3_copy_31 : decode cX3_copy 31 = .ok (.ifCond .ne 6, 3) := dk_154 0 6 (dk_at dksX3_copy_1 9 rfl rfl)
theorem dX3_copy_34 : decode cX3_copy 34 = .ok (.bipush (-11), 2) := dk_16 245 (dk_at dksX3_copy_1 12 rfl rfl)
theorem dX3_copy_36 : decode cX3_copy 36 = .ok (.ireturn, 1) := dk_172 (dk_at dksX3_copy_1 14 rfl rfl)
theorem dX3_copy_37 : decode cX3_copy 37 = .ok (.aload_n 0, 1) := dk_42 (dk_at dksX3_copy_1 15 rfl rfl)
theorem dX3_copy_38 : decode cX3_copy 38 = .ok (.getfield 102, 3) := dk_180 0 102 (dk_at dksX3_copy_1 16 rfl rfl)
theorem dX3_copy_41 : decode cX3_copy 41 = .ok (.iload_n 1, 1) := dk_27 (dk_at dksX3_copy_1 19 rfl rfl)
theorem dX3_copy_42 : decode cX3_copy 42 = .ok (.iaload, 1) := dk_46 (dk_at dksX3_copy_1 20 rfl rfl)
theorem dX3_copy_43 : decode cX3_copy 43 = .ok (.iconst 3, 1) := dk_6 (dk_at dksX3_copy_1 21 rfl rfl)
theorem dX3_copy_44 : decode cX3_copy 44 = .ok (.if_icmp .lt 18, 3) := dk_161 0 18 (dk_at dksX3_copy_2 0 rfl rfl)
theorem dX3_copy_47 : decode cX3_copy 47 = .ok (.aload_n 0, 1) := dk_42 (dk_at dksX3_copy_2 3 rfl rfl)
theorem dX3_copy_48 : decode cX3_copy 48 = .ok (.getfield 102, 3) := dk_180 0 102 (dk_at dksX3_copy_2 4 rfl rfl)
theorem dX3_copy_51 : decode cX3_copy 51 = .ok (.iload_n 3, 1) := dk_29 (dk_at dksX3_copy_2 7 rfl rfl)
theorem dX3_copy_52 : decode cX3_copy 52 = .ok (.iaload, 1) := dk_46 (dk_at dksX3_copy_2 8 rfl rfl)
theorem dX3_copy_53 : decode cX3_copy 53 = .ok (.aload_n 0, 1) := dk_42 (dk_at dksX3_copy_2 9 rfl rfl)
theorem dX3_copy_54 : decode cX3_copy 54 = .ok (.getfield 102, 3) := dk_180 0 102 (dk_at dksX3_copy_2 10 rfl rfl)
theorem dX3_copy_57 : decode cX3_copy 57 = .ok (.iload_n 1, 1) := dk_27 (dk_at dksX3_copy_2 13 rfl rfl)
theorem dX3_copy_58 : decode cX3_copy 58 = .ok (.iaload, 1) := dk_46 (dk_at dksX3_copy_2 14 rfl rfl)
theorem dX3_copy_59 : decode cX3_copy 59 = .ok (.if_icmp .eq 6, 3) := dk_159 0 6 (dk_at dksX3_copy_2 15 rfl rfl)
theorem dX3_copy_62 : decode cX3_copy 62 = .ok (.bipush (-12), 2) := dk_16 244 (dk_at dksX3_copy_2 18 rfl rfl)
theorem dX3_copy_64 : decode cX3_copy 64 = .ok (.ireturn, 1) := dk_172 (dk_at dksX3_copy_2 20 rfl rfl)
theorem dX3_copy_65 : decode cX3_copy 65 = .ok (.iload 5, 2) := dk_21 5 (dk_at dksX3_copy_2 21 rfl rfl)
theorem dX3_copy_67 : decode cX3_copy 67 = .ok (.ifCond .lt 39, 3) := dk_155 0 39 (dk_at dksX3_copy_3 0 rfl rfl)
theorem dX3_copy_70 : decode cX3_copy 70 = .ok (.iload_n 2, 1) := dk_28 (dk_at dksX3_copy_3 3 rfl rfl)
theorem dX3_copy_71 : decode cX3_copy 71 = .ok (.ifCond .lt 35, 3) := dk_155 0 35 (dk_at dksX3_copy_3 4 rfl rfl)
theorem dX3_copy_74 : decode cX3_copy 74 = .ok (.iload 4, 2) := dk_21 4 (dk_at dksX3_copy_3 7 rfl rfl)
theorem dX3_copy_76 : decode cX3_copy 76 = .ok (.ifCond .lt 30, 3) := dk_155 0 30 (dk_at dksX3_copy_3 9 rfl rfl)
theorem dX3_copy_79 : decode cX3_copy 79 = .ok (.iload_n 2, 1) := dk_28 (dk_at dksX3_copy_3 12 rfl rfl)
theorem dX3_copy_80 : decode cX3_copy 80 = .ok (.aload_n 0, 1) := dk_42 (dk_at dksX3_copy_3 13 rfl rfl)
theorem dX3_copy_81 : decode cX3_copy 81 = .ok (.getfield 111, 3) := dk_180 0 111 (dk_at dksX3_copy_3 14 rfl rfl)
theorem dX3_copy_84 : decode cX3_copy 84 = .ok (.iload_n 1, 1) := dk_27 (dk_at dksX3_copy_3 17 rfl rfl)
theorem dX3_copy_85 : decode cX3_copy 85 = .ok (.iaload, 1) := dk_46 (dk_at dksX3_copy_3 18 rfl rfl)
theorem dX3_copy_86 : decode cX3_copy 86 = .ok (.iload 5, 2) := dk_21 5 (dk_at dksX3_copy_3 19 rfl rfl)
theorem dX3_copy_88 : decode cX3_copy 88 = .ok (.isub, 1) := dk_100 (dk_at dksX3_copy_3 21 rfl rfl)
theorem dX3_copy_89 : decode cX3_copy 89 = .ok (.if_icmp .gt 17, 3) := dk_163 0 17 (dk_at dksX3_copy_4 0 rfl rfl)
theorem dX3_copy_92 : decode cX3_copy 92 = .ok (.iload 4, 2) := dk_21 4 (dk_at dksX3_copy_4 3 rfl rfl)
theorem dX3_copy_94 : decode cX3_copy 94 = .ok (.aload_n 0, 1) := dk_42 (dk_at dksX3_copy_4 5 rfl rfl)
theorem dX3_copy_95 : decode cX3_copy 95 = .ok (.getfield 111, 3) := dk_180 0 111 (dk_at dksX3_copy_4 6 rfl rfl)
theorem dX3_copy_98 : decode cX3_copy 98 = .ok (.iload_n 3, 1) := dk_29 (dk_at dksX3_copy_4 9 rfl rfl)
theorem dX3_copy_99 : decode cX3_copy 99 = .ok (.iaload, 1) := dk_46 (dk_at dksX3_copy_4 10 rfl rfl)
theorem dX3_copy_100 : decode cX3_copy 100 = .ok (.iload 5, 2) := dk_21 5 (dk_at dksX3_copy_4 11 rfl rfl)
theorem dX3_copy_102 : decode cX3_copy 102 = .ok (.isub, 1) := dk_100 (dk_at dksX3_copy_4 13 rfl rfl)
theorem dX3_copy_103 : decode cX3_copy 103 = .ok (.if_icmp .le 6, 3) := dk_164 0 6 (dk_at dksX3_copy_4 14 rfl rfl)
theorem dX3_copy_106 : decode cX3_copy 106 = .ok (.bipush (-13), 2) := dk_16 243 (dk_at dksX3_copy_4 17 rfl rfl)
theorem dX3_copy_108 : decode cX3_copy 108 = .ok (.ireturn, 1) := dk_172 (dk_at dksX3_copy_4 19 rfl rfl)
theorem dX3_copy_109 : decode cX3_copy 109 = .ok (.iconst 0, 1) := dk_3 (dk_at dksX3_copy_4 20 rfl rfl)
theorem dX3_copy_110 : decode cX3_copy 110 = .ok (.istore 6, 2) := dk_54 6 (dk_at dksX3_copy_4 21 rfl rfl)
theorem dX3_copy_112 : decode cX3_copy 112 = .ok (.iload 6, 2) := dk_21 6 (dk_at dksX3_copy_5 0 rfl rfl)
theorem dX3_copy_114 : decode cX3_copy 114 = .ok (.iload 5, 2) := dk_21 5 (dk_at dksX3_copy_5 2 rfl rfl)
theorem dX3_copy_116 : decode cX3_copy 116 = .ok (.if_icmp .ge 31, 3) := dk_162 0 31 (dk_at dksX3_copy_5 4 rfl rfl)
theorem dX3_copy_119 : decode cX3_copy 119 = .ok (.aload_n 0, 1) := dk_42 (dk_at dksX3_copy_5 7 rfl rfl)
theorem dX3_copy_120 : decode cX3_copy 120 = .ok (.getfield 99, 3) := dk_180 0 99 (dk_at dksX3_copy_5 8 rfl rfl)
theorem dX3_copy_123 : decode cX3_copy 123 = .ok (.iload 6, 2) := dk_21 6 (dk_at dksX3_copy_5 11 rfl rfl)
theorem dX3_copy_125 : decode cX3_copy 125 = .ok (.aload_n 0, 1) := dk_42 (dk_at dksX3_copy_5 13 rfl rfl)
theorem dX3_copy_126 : decode cX3_copy 126 = .ok (.getfield 114, 3) := dk_180 0 114 (dk_at dksX3_copy_5 14 rfl rfl)
theorem dX3_copy_129 : decode cX3_copy 129 = .ok (.sipush 200, 3) := dk_17 0 200 (dk_at dksX3_copy_5 17 rfl rfl)
theorem dX3_copy_132 : decode cX3_copy 132 = .ok (.iload_n 1, 1) := dk_27 (dk_at dksX3_copy_5 20 rfl rfl)
theorem dX3_copy_133 : decode cX3_copy 133 = .ok (.imul, 1) := dk_104 (dk_at dksX3_copy_5 21 rfl rfl)
theorem dX3_copy_134 : decode cX3_copy 134 = .ok (.iload_n 2, 1) := dk_28 (dk_at dksX3_copy_5 22 rfl rfl)
theorem dX3_copy_135 : decode cX3_copy 135 = .ok (.iadd, 1) := dk_96 (dk_at dksX3_copy_5 23 rfl rfl)
theorem dX3_copy_136 : decode cX3_copy 136 = .ok (.iload 6, 2) := dk_21 6 (dk_at dksX3_copy_6 0 rfl rfl)
theorem dX3_copy_138 : decode cX3_copy 138 = .ok (.iadd, 1) := dk_96 (dk_at dksX3_copy_6 2 rfl rfl)
theorem dX3_copy_139 : decode cX3_copy 139 = .ok (.laload, 1) := dk_47 (dk_at dksX3_copy_6 3 rfl rfl)
theorem dX3_copy_140 : decode cX3_copy 140 = .ok (.lastore, 1) := dk_80 (dk_at dksX3_copy_6 4 rfl rfl)
theorem dX3_copy_141 : decode cX3_copy 141 = .ok (.iinc 6 1, 3) := dk_132 6 1 (dk_at dksX3_copy_6 5 rfl rfl)
theorem dX3_copy_144 : decode cX3_copy 144 = .ok (.goto (-32), 3) := dk_167 255 224 (dk_at dksX3_copy_6 8 rfl rfl)
theorem dX3_copy_147 : decode cX3_copy 147 = .ok (.iconst 0, 1) := dk_3 (dk_at dksX3_copy_6 11 rfl rfl)
theorem dX3_copy_148 : decode cX3_copy 148 = .ok (.istore 6, 2) := dk_54 6 (dk_at dksX3_copy_6 12 rfl rfl)
theorem dX3_copy_150 : decode cX3_copy 150 = .ok (.iload 6, 2) := dk_21 6 (dk_at dksX3_copy_6 14 rfl rfl)
theorem dX3_copy_152 : decode cX3_copy 152 = .ok (.iload 5, 2) := dk_21 5 (dk_at dksX3_copy_6 16 rfl rfl)
theorem dX3_copy_154 : decode cX3_copy 154 = .ok (.if_icmp .ge 32, 3) := dk_162 0 32 (dk_at dksX3_copy_6 18 rfl rfl)
theorem dX3_copy_157 : decode cX3_copy 157 = .ok (.aload_n 0, 1) := dk_42 (dk_at dksX3_copy_6 21 rfl rfl)
theorem dX3_copy_158 : decode cX3_copy 158 = .ok (.getfield 114, 3) := dk_180 0 114 (dk_at dksX3_copy_7 0 rfl rfl)
theorem dX3_copy_161 : decode cX3_copy 161 = .ok (.sipush 200, 3) := dk_17 0 200 (dk_at dksX3_copy_7 3 rfl rfl)
theorem dX3_copy_164 : decode cX3_copy 164 = .ok (.iload_n 3, 1) := dk_29 (dk_at dksX3_copy_7 6 rfl rfl)
theorem dX3_copy_165 : decode cX3_copy 165 = .ok (.imul, 1) := dk_104 (dk_at dksX3_copy_7 7 rfl rfl)
theorem dX3_copy_166 : decode cX3_copy 166 = .ok (.iload 4, 2) := dk_21 4 (dk_at dksX3_copy_7 8 rfl rfl)
theorem dX3_copy_168 : decode cX3_copy 168 = .ok (.iadd, 1) := dk_96 (dk_at dksX3_copy_7 10 rfl rfl)
theorem dX3_copy_169 : decode cX3_copy 169 = .ok (.iload 6, 2) := dk_21 6 (dk_at dksX3_copy_7 11 rfl rfl)
theorem dX3_copy_171 : decode cX3_copy 171 = .ok (.iadd, 1) := dk_96 (dk_at dksX3_copy_7 13 rfl rfl)
theorem dX3_copy_172 : decode cX3_copy 172 = .ok (.aload_n 0, 1) := dk_42 (dk_at dksX3_copy_7 14 rfl rfl)
theorem dX3_copy_173 : decode cX3_copy 173 = .ok (.getfield 99, 3) := dk_180 0 99 (dk_at dksX3_copy_7 15 rfl rfl)
theorem dX3_copy_176 : decode cX3_copy 176 = .ok (.iload 6, 2) := dk_21 6 (dk_at dksX3_copy_7 18 rfl rfl)
theorem dX3_copy_178 : decode cX3_copy 178 = .ok (.laload, 1) := dk_47 (dk_at dksX3_copy_7 20 rfl rfl)
theorem dX3_copy_179 : decode cX3_copy 179 = .ok (.lastore, 1) := dk_80 (dk_at dksX3_copy_7 21 rfl rfl)
theorem dX3_copy_180 : decode cX3_copy 180 = .ok (.iinc 6 1, 3) := dk_132 6 1 (dk_at dksX3_copy_8 0 rfl rfl)
theorem dX3_copy_183 : decode cX3_copy 183 = .ok (.goto (-33), 3) := dk_167 255 223 (dk_at dksX3_copy_8 3 rfl rfl)
theorem dX3_copy_186 : decode cX3_copy 186 = .ok (.iload 5, 2) := dk_21 5 (dk_at dksX3_copy_8 6 rfl rfl)
theorem dX3_copy_188 : decode cX3_copy 188 = .ok (.ireturn, 1) := dk_172 (dk_at dksX3_copy_8 8 rfl rfl)
abbrev cX3_heft : ByteArray := prog_11_method_85_code
def yX3_heft : MethodName := ⟨RX3, "heft", "(I)I"⟩
def dkwX3_heft_3 : List UInt8 := [28, 104, 167, 0, 4, 28, 172]
abbrev dktX3_heft_3 : List UInt8 := dkwX3_heft_3 ++ []
def dkwX3_heft_2 : List UInt8 := [46, 5, 160, 0, 11, 28, 17, 3, 232, 96, 167, 0, 20, 42, 180, 0, 105, 27, 46, 6, 160, 0, 9, 5]
abbrev dktX3_heft_2 : List UInt8 := dkwX3_heft_2 ++ dktX3_heft_3
def dkwX3_heft_1 : List UInt8 := [180, 0, 111, 27, 46, 172, 16, 100, 16, 10, 42, 180, 0, 111, 27, 46, 104, 96, 61, 42, 180, 0, 105, 27]
abbrev dktX3_heft_1 : List UInt8 := dkwX3_heft_1 ++ dktX3_heft_2
def dkwX3_heft_0 : List UInt8 := [42, 27, 182, 1, 9, 153, 0, 9, 42, 27, 182, 1, 9, 172, 42, 180, 0, 105, 27, 46, 154, 0, 10, 42]
abbrev dktX3_heft_0 : List UInt8 := dkwX3_heft_0 ++ dktX3_heft_1
theorem dksX3_heft_0 : cX3_heft.data.toList.drop 0 = dktX3_heft_0 := by decide +kernel
theorem dksX3_heft_1 : cX3_heft.data.toList.drop 24 = dktX3_heft_1 := dk_seg dksX3_heft_0 24 rfl rfl
theorem dksX3_heft_2 : cX3_heft.data.toList.drop 48 = dktX3_heft_2 := dk_seg dksX3_heft_1 24 rfl rfl
theorem dksX3_heft_3 : cX3_heft.data.toList.drop 72 = dktX3_heft_3 := dk_seg dksX3_heft_2 24 rfl rfl
theorem dX3_heft_0 : decode cX3_heft 0 = .ok (.aload_n 0, 1) := dk_42 (dk_at dksX3_heft_0 0 rfl rfl)
theorem dX3_heft_1 : decode cX3_heft 1 = .ok (.iload_n 1, 1) := dk_27 (dk_at dksX3_heft_0 1 rfl rfl)
theorem dX3_heft_2 : decode cX3_heft 2 = .ok (.invokevirtual 265, 3) := dk_182 1 9 (dk_at dksX3_heft_0 2 rfl rfl)
theorem dX3_heft_5 : decode cX3_heft 5 = .ok (.ifCond .eq 9, 3) := dk_153 0 9 (dk_at dksX3_heft_0 5 rfl rfl)
theorem dX3_heft_8 : decode cX3_heft 8 = .ok (.aload_n 0, 1) := dk_42 (dk_at dksX3_heft_0 8 rfl rfl)
theorem dX3_heft_9 : decode cX3_heft 9 = .ok (.iload_n 1, 1) := dk_27 (dk_at dksX3_heft_0 9 rfl rfl)
theorem dX3_heft_10 : decode cX3_heft 10 = .ok (.invokevirtual 265, 3) := dk_182 1 9 (dk_at dksX3_heft_0 10 rfl rfl)
theorem dX3_heft_13 : decode cX3_heft 13 = .ok (.ireturn, 1) := dk_172 (dk_at dksX3_heft_0 13 rfl rfl)
theorem dX3_heft_14 : decode cX3_heft 14 = .ok (.aload_n 0, 1) := dk_42 (dk_at dksX3_heft_0 14 rfl rfl)
theorem dX3_heft_15 : decode cX3_heft 15 = .ok (.getfield 105, 3) := dk_180 0 105 (dk_at dksX3_heft_0 15 rfl rfl)
theorem dX3_heft_18 : decode cX3_heft 18 = .ok (.iload_n 1, 1) := dk_27 (dk_at dksX3_heft_0 18 rfl rfl)
theorem dX3_heft_19 : decode cX3_heft 19 = .ok (.iaload, 1) := dk_46 (dk_at dksX3_heft_0 19 rfl rfl)
theorem dX3_heft_20 : decode cX3_heft 20 = .ok (.ifCond .ne 10, 3) := dk_154 0 10 (dk_at dksX3_heft_0 20 rfl rfl)
theorem dX3_heft_23 : decode cX3_heft 23 = .ok (.aload_n 0, 1) := dk_42 (dk_at dksX3_heft_0 23 rfl rfl)
theorem dX3_heft_24 : decode cX3_heft 24 = .ok (.getfield 111, 3) := dk_180 0 111 (dk_at dksX3_heft_1 0 rfl rfl)
theorem dX3_heft_27 : decode cX3_heft 27 = .ok (.iload_n 1, 1) := dk_27 (dk_at dksX3_heft_1 3 rfl rfl)
theorem dX3_heft_28 : decode cX3_heft 28 = .ok (.iaload, 1) := dk_46 (dk_at dksX3_heft_1 4 rfl rfl)
theorem dX3_heft_29 : decode cX3_heft 29 = .ok (.ireturn, 1) := dk_172 (dk_at dksX3_heft_1 5 rfl rfl)
theorem dX3_heft_30 : decode cX3_heft 30 = .ok (.bipush 100, 2) := dk_16 100 (dk_at dksX3_heft_1 6 rfl rfl)
theorem dX3_heft_32 : decode cX3_heft 32 = .ok (.bipush 10, 2) := dk_16 10 (dk_at dksX3_heft_1 8 rfl rfl)
theorem dX3_heft_34 : decode cX3_heft 34 = .ok (.aload_n 0, 1) := dk_42 (dk_at dksX3_heft_1 10 rfl rfl)
theorem dX3_heft_35 : decode cX3_heft 35 = .ok (.getfield 111, 3) := dk_180 0 111 (dk_at dksX3_heft_1 11 rfl rfl)
theorem dX3_heft_38 : decode cX3_heft 38 = .ok (.iload_n 1, 1) := dk_27 (dk_at dksX3_heft_1 14 rfl rfl)
theorem dX3_heft_39 : decode cX3_heft 39 = .ok (.iaload, 1) := dk_46 (dk_at dksX3_heft_1 15 rfl rfl)
theorem dX3_heft_40 : decode cX3_heft 40 = .ok (.imul, 1) := dk_104 (dk_at dksX3_heft_1 16 rfl rfl)
theorem dX3_heft_41 : decode cX3_heft 41 = .ok (.iadd, 1) := dk_96 (dk_at dksX3_heft_1 17 rfl rfl)
theorem dX3_heft_42 : decode cX3_heft 42 = .ok (.istore_n 2, 1) := dk_61 (dk_at dksX3_heft_1 18 rfl rfl)
theorem dX3_heft_43 : decode cX3_heft 43 = .ok (.aload_n 0, 1) := dk_42 (dk_at dksX3_heft_1 19 rfl rfl)
theorem dX3_heft_44 : decode cX3_heft 44 = .ok (.getfield 105, 3) := dk_180 0 105 (dk_at dksX3_heft_1 20 rfl rfl)
theorem dX3_heft_47 : decode cX3_heft 47 = .ok (.iload_n 1, 1) := dk_27 (dk_at dksX3_heft_1 23 rfl rfl)
theorem dX3_heft_48 : decode cX3_heft 48 = .ok (.iaload, 1) := dk_46 (dk_at dksX3_heft_2 0 rfl rfl)
theorem dX3_heft_49 : decode cX3_heft 49 = .ok (.iconst 2, 1) := dk_5 (dk_at dksX3_heft_2 1 rfl rfl)
theorem dX3_heft_50 : decode cX3_heft 50 = .ok (.if_icmp .ne 11, 3) := dk_160 0 11 (dk_at dksX3_heft_2 2 rfl rfl)
theorem dX3_heft_53 : decode cX3_heft 53 = .ok (.iload_n 2, 1) := dk_28 (dk_at dksX3_heft_2 5 rfl rfl)
theorem dX3_heft_54 : decode cX3_heft 54 = .ok (.sipush 1000, 3) := dk_17 3 232 (dk_at dksX3_heft_2 6 rfl rfl)
theorem dX3_heft_57 : decode cX3_heft 57 = .ok (.iadd, 1) := dk_96 (dk_at dksX3_heft_2 9 rfl rfl)
theorem dX3_heft_58 : decode cX3_heft 58 = .ok (.goto 20, 3) := dk_167 0 20 (dk_at dksX3_heft_2 10 rfl rfl)
theorem dX3_heft_61 : decode cX3_heft 61 = .ok (.aload_n 0, 1) := dk_42 (dk_at dksX3_heft_2 13 rfl rfl)
theorem dX3_heft_62 : decode cX3_heft 62 = .ok (.getfield 105, 3) := dk_180 0 105 (dk_at dksX3_heft_2 14 rfl rfl)
theorem dX3_heft_65 : decode cX3_heft 65 = .ok (.iload_n 1, 1) := dk_27 (dk_at dksX3_heft_2 17 rfl rfl)
theorem dX3_heft_66 : decode cX3_heft 66 = .ok (.iaload, 1) := dk_46 (dk_at dksX3_heft_2 18 rfl rfl)
theorem dX3_heft_67 : decode cX3_heft 67 = .ok (.iconst 3, 1) := dk_6 (dk_at dksX3_heft_2 19 rfl rfl)
theorem dX3_heft_68 : decode cX3_heft 68 = .ok (.if_icmp .ne 9, 3) := dk_160 0 9 (dk_at dksX3_heft_2 20 rfl rfl)
theorem dX3_heft_71 : decode cX3_heft 71 = .ok (.iconst 2, 1) := dk_5 (dk_at dksX3_heft_2 23 rfl rfl)
theorem dX3_heft_72 : decode cX3_heft 72 = .ok (.iload_n 2, 1) := dk_28 (dk_at dksX3_heft_3 0 rfl rfl)
theorem dX3_heft_73 : decode cX3_heft 73 = .ok (.imul, 1) := dk_104 (dk_at dksX3_heft_3 1 rfl rfl)
theorem dX3_heft_74 : decode cX3_heft 74 = .ok (.goto 4, 3) := dk_167 0 4 (dk_at dksX3_heft_3 2 rfl rfl)
theorem dX3_heft_77 : decode cX3_heft 77 = .ok (.iload_n 2, 1) := dk_28 (dk_at dksX3_heft_3 5 rfl rfl)
theorem dX3_heft_78 : decode cX3_heft 78 = .ok (.ireturn, 1) := dk_172 (dk_at dksX3_heft_3 6 rfl rfl)
abbrev cX3_lacksCode : ByteArray := prog_11_method_84_code
def yX3_lacksCode : MethodName := ⟨RX3, "lacksCode", "(I)I"⟩
def dkwX3_lacksCode_1 : List UInt8 := [167, 0, 19, 42, 180, 0, 102, 27, 46, 4, 159, 0, 8, 16, 244, 167, 0, 4, 3, 172]
abbrev dktX3_lacksCode_1 : List UInt8 := dkwX3_lacksCode_1 ++ []
def dkwX3_lacksCode_0 : List UInt8 := [27, 184, 1, 6, 154, 0, 7, 2, 167, 0, 33, 42, 180, 0, 102, 27, 46, 154, 0, 8, 16, 245]
abbrev dktX3_lacksCode_0 : List UInt8 := dkwX3_lacksCode_0 ++ dktX3_lacksCode_1
theorem dksX3_lacksCode_0 : cX3_lacksCode.data.toList.drop 0 = dktX3_lacksCode_0 := by decide +kernel
theorem dksX3_lacksCode_1 : cX3_lacksCode.data.toList.drop 22 = dktX3_lacksCode_1 := dk_seg dksX3_lacksCode_0 22 rfl rfl
theorem dX3_lacksCode_0 : decode cX3_lacksCode 0 = .ok (.iload_n 1, 1) := dk_27 (dk_at dksX3_lacksCode_0 0 rfl rfl)
theorem dX3_lacksCode_1 : decode cX3_lacksCode 1 = .ok (.invokestatic 262, 3) := dk_184 1 6 (dk_at dksX3_lacksCode_0 1 rfl rfl)
theorem dX3_lacksCode_4 : decode cX3_lacksCode 4 = .ok (.ifCond .ne 7, 3) := dk_154 0 7 (dk_at dksX3_lacksCode_0 4 rfl rfl)
theorem dX3_lacksCode_7 : decode cX3_lacksCode 7 = .ok (.iconst (-1), 1) := dk_2 (dk_at dksX3_lacksCode_0 7 rfl rfl)
theorem dX3_lacksCode_8 : decode cX3_lacksCode 8 = .ok (.goto 33, 3) := dk_167 0 33 (dk_at dksX3_lacksCode_0 8 rfl rfl)
theorem dX3_lacksCode_11 : decode cX3_lacksCode 11 = .ok (.aload_n 0, 1) := dk_42 (dk_at dksX3_lacksCode_0 11 rfl rfl)
theorem dX3_lacksCode_12 : decode cX3_lacksCode 12 = .ok (.getfield 102, 3) := dk_180 0 102 (dk_at dksX3_lacksCode_0 12 rfl rfl)
theorem dX3_lacksCode_15 : decode cX3_lacksCode 15 = .ok (.iload_n 1, 1) := dk_27 (dk_at dksX3_lacksCode_0 15 rfl rfl)
theorem dX3_lacksCode_16 : decode cX3_lacksCode 16 = .ok (.iaload, 1) := dk_46 (dk_at dksX3_lacksCode_0 16 rfl rfl)
theorem dX3_lacksCode_17 : decode cX3_lacksCode 17 = .ok (.ifCond .ne 8, 3) := dk_154 0 8 (dk_at dksX3_lacksCode_0 17 rfl rfl)
theorem dX3_lacksCode_20 : decode cX3_lacksCode 20 = .ok (.bipush (-11), 2) := dk_16 245 (dk_at dksX3_lacksCode_0 20 rfl rfl)
theorem dX3_lacksCode_22 : decode cX3_lacksCode 22 = .ok (.goto 19, 3) := dk_167 0 19 (dk_at dksX3_lacksCode_1 0 rfl rfl)
theorem dX3_lacksCode_25 : decode cX3_lacksCode 25 = .ok (.aload_n 0, 1) := dk_42 (dk_at dksX3_lacksCode_1 3 rfl rfl)
theorem dX3_lacksCode_26 : decode cX3_lacksCode 26 = .ok (.getfield 102, 3) := dk_180 0 102 (dk_at dksX3_lacksCode_1 4 rfl rfl)
theorem dX3_lacksCode_29 : decode cX3_lacksCode 29 = .ok (.iload_n 1, 1) := dk_27 (dk_at dksX3_lacksCode_1 7 rfl rfl)
theorem dX3_lacksCode_30 : decode cX3_lacksCode 30 = .ok (.iaload, 1) := dk_46 (dk_at dksX3_lacksCode_1 8 rfl rfl)
theorem dX3_lacksCode_31 : decode cX3_lacksCode 31 = .ok (.iconst 1, 1) := dk_4 (dk_at dksX3_lacksCode_1 9 rfl rfl)
theorem dX3_lacksCode_32 : decode cX3_lacksCode 32 = .ok (.if_icmp .eq 8, 3) := dk_159 0 8 (dk_at dksX3_lacksCode_1 10 rfl rfl)
theorem dX3_lacksCode_35 : decode cX3_lacksCode 35 = .ok (.bipush (-12), 2) := dk_16 244 (dk_at dksX3_lacksCode_1 13 rfl rfl)
theorem dX3_lacksCode_37 : decode cX3_lacksCode 37 = .ok (.goto 4, 3) := dk_167 0 4 (dk_at dksX3_lacksCode_1 15 rfl rfl)
theorem dX3_lacksCode_40 : decode cX3_lacksCode 40 = .ok (.iconst 0, 1) := dk_3 (dk_at dksX3_lacksCode_1 18 rfl rfl)
theorem dX3_lacksCode_41 : decode cX3_lacksCode 41 = .ok (.ireturn, 1) := dk_172 (dk_at dksX3_lacksCode_1 19 rfl rfl)
abbrev cX3_toss : ByteArray := prog_11_method_86_code
def yX3_toss : MethodName := ⟨RX3, "toss", "(I)I"⟩
def dkwX3_toss_1 : List UInt8 := [16, 241, 167, 0, 9, 42, 180, 0, 108, 27, 46, 172]
abbrev dktX3_toss_1 : List UInt8 := dkwX3_toss_1 ++ []
def dkwX3_toss_0 : List UInt8 := [42, 27, 182, 1, 9, 153, 0, 9, 42, 27, 182, 1, 9, 172, 42, 180, 0, 105, 27, 46, 154, 0, 8]
abbrev dktX3_toss_0 : List UInt8 := dkwX3_toss_0 ++ dktX3_toss_1
theorem dksX3_toss_0 : cX3_toss.data.toList.drop 0 = dktX3_toss_0 := by decide +kernel
theorem dksX3_toss_1 : cX3_toss.data.toList.drop 23 = dktX3_toss_1 := dk_seg dksX3_toss_0 23 rfl rfl
theorem dX3_toss_0 : decode cX3_toss 0 = .ok (.aload_n 0, 1) := dk_42 (dk_at dksX3_toss_0 0 rfl rfl)
theorem dX3_toss_1 : decode cX3_toss 1 = .ok (.iload_n 1, 1) := dk_27 (dk_at dksX3_toss_0 1 rfl rfl)
theorem dX3_toss_2 : decode cX3_toss 2 = .ok (.invokevirtual 265, 3) := dk_182 1 9 (dk_at dksX3_toss_0 2 rfl rfl)
theorem dX3_toss_5 : decode cX3_toss 5 = .ok (.ifCond .eq 9, 3) := dk_153 0 9 (dk_at dksX3_toss_0 5 rfl rfl)
theorem dX3_toss_8 : decode cX3_toss 8 = .ok (.aload_n 0, 1) := dk_42 (dk_at dksX3_toss_0 8 rfl rfl)
theorem dX3_toss_9 : decode cX3_toss 9 = .ok (.iload_n 1, 1) := dk_27 (dk_at dksX3_toss_0 9 rfl rfl)
theorem dX3_toss_10 : decode cX3_toss 10 = .ok (.invokevirtual 265, 3) := dk_182 1 9 (dk_at dksX3_toss_0 10 rfl rfl)
theorem dX3_toss_13 : decode cX3_toss 13 = .ok (.ireturn, 1) := dk_172 (dk_at dksX3_toss_0 13 rfl rfl)
theorem dX3_toss_14 : decode cX3_toss 14 = .ok (.aload_n 0, 1) := dk_42 (dk_at dksX3_toss_0 14 rfl rfl)
theorem dX3_toss_15 : decode cX3_toss 15 = .ok (.getfield 105, 3) := dk_180 0 105 (dk_at dksX3_toss_0 15 rfl rfl)
theorem dX3_toss_18 : decode cX3_toss 18 = .ok (.iload_n 1, 1) := dk_27 (dk_at dksX3_toss_0 18 rfl rfl)
theorem dX3_toss_19 : decode cX3_toss 19 = .ok (.iaload, 1) := dk_46 (dk_at dksX3_toss_0 19 rfl rfl)
theorem dX3_toss_20 : decode cX3_toss 20 = .ok (.ifCond .ne 8, 3) := dk_154 0 8 (dk_at dksX3_toss_0 20 rfl rfl)
theorem dX3_toss_23 : decode cX3_toss 23 = .ok (.bipush (-15), 2) := dk_16 241 (dk_at dksX3_toss_1 0 rfl rfl)
theorem dX3_toss_25 : decode cX3_toss 25 = .ok (.goto 9, 3) := dk_167 0 9 (dk_at dksX3_toss_1 2 rfl rfl)
theorem dX3_toss_28 : decode cX3_toss 28 = .ok (.aload_n 0, 1) := dk_42 (dk_at dksX3_toss_1 5 rfl rfl)
theorem dX3_toss_29 : decode cX3_toss 29 = .ok (.getfield 108, 3) := dk_180 0 108 (dk_at dksX3_toss_1 6 rfl rfl)
theorem dX3_toss_32 : decode cX3_toss 32 = .ok (.iload_n 1, 1) := dk_27 (dk_at dksX3_toss_1 9 rfl rfl)
theorem dX3_toss_33 : decode cX3_toss 33 = .ok (.iaload, 1) := dk_46 (dk_at dksX3_toss_1 10 rfl rfl)
theorem dX3_toss_34 : decode cX3_toss 34 = .ok (.ireturn, 1) := dk_172 (dk_at dksX3_toss_1 11 rfl rfl)
theorem q57 : (Jvm.Cond.initialized "WordBenchModel") ∈ lw_all := lw_g (lw_at lw_m1 10 rfl) rfl
theorem q628 : (Jvm.Cond.selects "WordBenchModel" ({ cls := "java/lang/Object", name := "getClass", desc := "()Ljava/lang/Class;" } : Jvm.MethodName) ({ cls := "java/lang/Object", name := "getClass", desc := "()Ljava/lang/Class;" } : Jvm.MethodName)) ∈ lw_all := lw_g (lw_at lw_m3 101 rfl) rfl
theorem q1003 : (Jvm.Cond.instanceMethod ({ cls := "WordBenchModel", name := "thrown", desc := "()I" } : Jvm.MethodName)) ∈ lw_all := lw_g (lw_at lw_m4 236 rfl) rfl
theorem q1004 : (Jvm.Cond.selects "WordBenchModel" ({ cls := "WordBenchModel", name := "thrown", desc := "()I" } : Jvm.MethodName) ({ cls := "WordBenchModel", name := "thrown", desc := "()I" } : Jvm.MethodName)) ∈ lw_all := lw_g (lw_at lw_m4 237 rfl) rfl
theorem q1005 : (Jvm.Cond.code ({ cls := "WordBenchModel", name := "thrown", desc := "()I" } : Jvm.MethodName) prog_11_method_1_code (1 : Nat) (Option.some Jvm.ClassFile.FieldType.int)) ∈ lw_all := lw_g (lw_at lw_m4 238 rfl) rfl
theorem q1007 : (Jvm.Cond.instanceMethod ({ cls := "WordBenchModel", name := "sum", desc := "(IIJJI)J" } : Jvm.MethodName)) ∈ lw_all := lw_g (lw_at lw_m5 0 rfl) rfl
theorem q1008 : (Jvm.Cond.selects "WordBenchModel" ({ cls := "WordBenchModel", name := "sum", desc := "(IIJJI)J" } : Jvm.MethodName) ({ cls := "WordBenchModel", name := "sum", desc := "(IIJJI)J" } : Jvm.MethodName)) ∈ lw_all := lw_g (lw_at lw_m5 1 rfl) rfl
theorem q1009 : (Jvm.Cond.code ({ cls := "WordBenchModel", name := "sum", desc := "(IIJJI)J" } : Jvm.MethodName) prog_11_method_14_code (8 : Nat) (Option.some Jvm.ClassFile.FieldType.long)) ∈ lw_all := lw_g (lw_at lw_m5 2 rfl) rfl
theorem q1010 : (Jvm.Cond.methodLink "WordBenchModel" (32 : Nat) ({ cls := "WordBenchModel", name := "isField", desc := "(II)Z" } : Jvm.MethodName)) ∈ lw_all := lw_g (lw_at lw_m5 3 rfl) rfl
theorem q1011 : (Jvm.Cond.static ({ cls := "WordBenchModel", name := "isField", desc := "(II)Z" } : Jvm.MethodName)) ∈ lw_all := lw_g (lw_at lw_m5 4 rfl) rfl
theorem q1012 : (Jvm.Cond.code ({ cls := "WordBenchModel", name := "isField", desc := "(II)Z" } : Jvm.MethodName) prog_11_method_13_code (2 : Nat) (Option.some Jvm.ClassFile.FieldType.boolean)) ∈ lw_all := lw_g (lw_at lw_m5 5 rfl) rfl
theorem q1013 : (Jvm.Cond.constantLong "WordBenchModel" (22 : Nat) (2 : Int64)) ∈ lw_all := lw_g (lw_at lw_m5 6 rfl) rfl
theorem q1014 : (Jvm.Cond.constantLong "WordBenchModel" (24 : Nat) (5 : Int64)) ∈ lw_all := lw_g (lw_at lw_m5 7 rfl) rfl
theorem q1015 : (Jvm.Cond.methodLink "WordBenchModel" (26 : Nat) ({ cls := "WordBenchModel", name := "isIn", desc := "(JJJ)Z" } : Jvm.MethodName)) ∈ lw_all := lw_g (lw_at lw_m5 8 rfl) rfl
theorem q1016 : (Jvm.Cond.static ({ cls := "WordBenchModel", name := "isIn", desc := "(JJJ)Z" } : Jvm.MethodName)) ∈ lw_all := lw_g (lw_at lw_m5 9 rfl) rfl
theorem q1017 : (Jvm.Cond.code ({ cls := "WordBenchModel", name := "isIn", desc := "(JJJ)Z" } : Jvm.MethodName) prog_11_method_2_code (6 : Nat) (Option.some Jvm.ClassFile.FieldType.boolean)) ∈ lw_all := lw_g (lw_at lw_m5 10 rfl) rfl
theorem q1018 : (Jvm.Cond.constantLong "WordBenchModel" (30 : Nat) (12 : Int64)) ∈ lw_all := lw_g (lw_at lw_m5 11 rfl) rfl
theorem q1019 : (Jvm.Cond.methodLink "WordBenchModel" (36 : Nat) ({ cls := "WordBenchModel", name := "isWord", desc := "(IIJ)Z" } : Jvm.MethodName)) ∈ lw_all := lw_g (lw_at lw_m5 12 rfl) rfl
theorem q1020 : (Jvm.Cond.static ({ cls := "WordBenchModel", name := "isWord", desc := "(IIJ)Z" } : Jvm.MethodName)) ∈ lw_all := lw_g (lw_at lw_m5 13 rfl) rfl
theorem q1021 : (Jvm.Cond.code ({ cls := "WordBenchModel", name := "isWord", desc := "(IIJ)Z" } : Jvm.MethodName) prog_11_method_8_code (4 : Nat) (Option.some Jvm.ClassFile.FieldType.boolean)) ∈ lw_all := lw_g (lw_at lw_m5 14 rfl) rfl
theorem q1022 : (Jvm.Cond.methodLink "WordBenchModel" (11 : Nat) ({ cls := "WordBenchModel", name := "power", desc := "(II)J" } : Jvm.MethodName)) ∈ lw_all := lw_g (lw_at lw_m5 15 rfl) rfl
theorem q1023 : (Jvm.Cond.static ({ cls := "WordBenchModel", name := "power", desc := "(II)J" } : Jvm.MethodName)) ∈ lw_all := lw_g (lw_at lw_m5 16 rfl) rfl
theorem q1024 : (Jvm.Cond.code ({ cls := "WordBenchModel", name := "power", desc := "(II)J" } : Jvm.MethodName) prog_11_method_7_code (5 : Nat) (Option.some Jvm.ClassFile.FieldType.long)) ∈ lw_all := lw_g (lw_at lw_m5 17 rfl) rfl
theorem q1025 : (Jvm.Cond.constantLong "WordBenchModel" (40 : Nat) (-1 : Int64)) ∈ lw_all := lw_g (lw_at lw_m5 18 rfl) rfl
theorem q1026 : (Jvm.Cond.methodLink "WordBenchModel" (42 : Nat) ({ cls := "WordBenchModel", name := "sumOf", desc := "(IIJJI)J" } : Jvm.MethodName)) ∈ lw_all := lw_g (lw_at lw_m5 19 rfl) rfl
theorem q1027 : (Jvm.Cond.static ({ cls := "WordBenchModel", name := "sumOf", desc := "(IIJJI)J" } : Jvm.MethodName)) ∈ lw_all := lw_g (lw_at lw_m5 20 rfl) rfl
theorem q1028 : (Jvm.Cond.code ({ cls := "WordBenchModel", name := "sumOf", desc := "(IIJJI)J" } : Jvm.MethodName) prog_11_method_10_code (10 : Nat) (Option.some Jvm.ClassFile.FieldType.long)) ∈ lw_all := lw_g (lw_at lw_m5 21 rfl) rfl
theorem q1029 : (Jvm.Cond.methodLink "WordBenchModel" (15 : Nat) ({ cls := "WordBenchModel", name := "letter", desc := "(IIJI)I" } : Jvm.MethodName)) ∈ lw_all := lw_g (lw_at lw_m5 22 rfl) rfl
theorem q1030 : (Jvm.Cond.static ({ cls := "WordBenchModel", name := "letter", desc := "(IIJI)I" } : Jvm.MethodName)) ∈ lw_all := lw_g (lw_at lw_m5 23 rfl) rfl
theorem q1031 : (Jvm.Cond.code ({ cls := "WordBenchModel", name := "letter", desc := "(IIJI)I" } : Jvm.MethodName) prog_11_method_9_code (5 : Nat) (Option.some Jvm.ClassFile.FieldType.int)) ∈ lw_all := lw_g (lw_at lw_m5 24 rfl) rfl
theorem q1032 : (Jvm.Cond.methodLink "WordBenchModel" (7 : Nat) ({ cls := "WordBenchModel", name := "times", desc := "(III)I" } : Jvm.MethodName)) ∈ lw_all := lw_g (lw_at lw_m5 25 rfl) rfl
theorem q1033 : (Jvm.Cond.static ({ cls := "WordBenchModel", name := "times", desc := "(III)I" } : Jvm.MethodName)) ∈ lw_all := lw_g (lw_at lw_m5 26 rfl) rfl
theorem q1034 : (Jvm.Cond.code ({ cls := "WordBenchModel", name := "times", desc := "(III)I" } : Jvm.MethodName) prog_11_method_4_code (3 : Nat) (Option.some Jvm.ClassFile.FieldType.int)) ∈ lw_all := lw_g (lw_at lw_m5 27 rfl) rfl
theorem q1035 : (Jvm.Cond.methodLink "WordBenchModel" (19 : Nat) ({ cls := "WordBenchModel", name := "plus", desc := "(III)I" } : Jvm.MethodName)) ∈ lw_all := lw_g (lw_at lw_m5 28 rfl) rfl
theorem q1036 : (Jvm.Cond.static ({ cls := "WordBenchModel", name := "plus", desc := "(III)I" } : Jvm.MethodName)) ∈ lw_all := lw_g (lw_at lw_m5 29 rfl) rfl
theorem q1037 : (Jvm.Cond.code ({ cls := "WordBenchModel", name := "plus", desc := "(III)I" } : Jvm.MethodName) prog_11_method_3_code (3 : Nat) (Option.some Jvm.ClassFile.FieldType.int)) ∈ lw_all := lw_g (lw_at lw_m5 30 rfl) rfl
theorem q1039 : (Jvm.Cond.instanceMethod ({ cls := "WordBenchModel", name := "way", desc := "(IIJJ)I" } : Jvm.MethodName)) ∈ lw_all := lw_g (lw_at lw_m5 32 rfl) rfl
theorem q1040 : (Jvm.Cond.selects "WordBenchModel" ({ cls := "WordBenchModel", name := "way", desc := "(IIJJ)I" } : Jvm.MethodName) ({ cls := "WordBenchModel", name := "way", desc := "(IIJJ)I" } : Jvm.MethodName)) ∈ lw_all := lw_g (lw_at lw_m5 33 rfl) rfl
theorem q1041 : (Jvm.Cond.code ({ cls := "WordBenchModel", name := "way", desc := "(IIJJ)I" } : Jvm.MethodName) prog_11_method_15_code (7 : Nat) (Option.some Jvm.ClassFile.FieldType.int)) ∈ lw_all := lw_g (lw_at lw_m5 34 rfl) rfl
theorem q1042 : (Jvm.Cond.methodLink "WordBenchModel" (46 : Nat) ({ cls := "WordBenchModel", name := "wayOf", desc := "(IIJJI)I" } : Jvm.MethodName)) ∈ lw_all := lw_g (lw_at lw_m5 35 rfl) rfl
theorem q1043 : (Jvm.Cond.static ({ cls := "WordBenchModel", name := "wayOf", desc := "(IIJJI)I" } : Jvm.MethodName)) ∈ lw_all := lw_g (lw_at lw_m5 36 rfl) rfl
theorem q1044 : (Jvm.Cond.code ({ cls := "WordBenchModel", name := "wayOf", desc := "(IIJJI)I" } : Jvm.MethodName) prog_11_method_11_code (9 : Nat) (Option.some Jvm.ClassFile.FieldType.int)) ∈ lw_all := lw_g (lw_at lw_m5 37 rfl) rfl
theorem q1046 : (Jvm.Cond.instanceMethod ({ cls := "WordBenchModel", name := "product", desc := "(IIJJ)I" } : Jvm.MethodName)) ∈ lw_all := lw_g (lw_at lw_m5 39 rfl) rfl
theorem q1047 : (Jvm.Cond.selects "WordBenchModel" ({ cls := "WordBenchModel", name := "product", desc := "(IIJJ)I" } : Jvm.MethodName) ({ cls := "WordBenchModel", name := "product", desc := "(IIJJ)I" } : Jvm.MethodName)) ∈ lw_all := lw_g (lw_at lw_m5 40 rfl) rfl
theorem q1048 : (Jvm.Cond.code ({ cls := "WordBenchModel", name := "product", desc := "(IIJJ)I" } : Jvm.MethodName) prog_11_method_16_code (7 : Nat) (Option.some Jvm.ClassFile.FieldType.int)) ∈ lw_all := lw_g (lw_at lw_m5 41 rfl) rfl
theorem q1049 : (Jvm.Cond.methodLink "WordBenchModel" (50 : Nat) ({ cls := "WordBenchModel", name := "productOf", desc := "(IIJJ)I" } : Jvm.MethodName)) ∈ lw_all := lw_g (lw_at lw_m5 42 rfl) rfl
theorem q1050 : (Jvm.Cond.static ({ cls := "WordBenchModel", name := "productOf", desc := "(IIJJ)I" } : Jvm.MethodName)) ∈ lw_all := lw_g (lw_at lw_m5 43 rfl) rfl
theorem q1051 : (Jvm.Cond.code ({ cls := "WordBenchModel", name := "productOf", desc := "(IIJJ)I" } : Jvm.MethodName) prog_11_method_12_code (8 : Nat) (Option.some Jvm.ClassFile.FieldType.int)) ∈ lw_all := lw_g (lw_at lw_m5 44 rfl) rfl
theorem q1053 : (Jvm.Cond.instantiable "WordBenchModel" (24 : Nat)) ∈ lw_all := lw_g (lw_at lw_m5 46 rfl) rfl
theorem q1055 : (Jvm.Cond.instanceMethod ({ cls := "WordBenchModel", name := "<init>", desc := "()V" } : Jvm.MethodName)) ∈ lw_all := lw_g (lw_at lw_m5 48 rfl) rfl
theorem q1056 : (Jvm.Cond.code ({ cls := "WordBenchModel", name := "<init>", desc := "()V" } : Jvm.MethodName) prog_11_method_17_code (2 : Nat) (Option.none : Option Jvm.ClassFile.FieldType)) ∈ lw_all := lw_g (lw_at lw_m5 49 rfl) rfl
theorem q1057 : (Jvm.Cond.methodLink "WordBenchModel" (54 : Nat) ({ cls := "java/lang/Object", name := "<init>", desc := "()V" } : Jvm.MethodName)) ∈ lw_all := lw_g (lw_at lw_m5 50 rfl) rfl
theorem q1058 : (Jvm.Cond.constant "WordBenchModel" (89 : Nat) (49152 : Int32)) ∈ lw_all := lw_g (lw_at lw_m5 51 rfl) rfl
theorem q1059 : (Jvm.Cond.fieldLink "WordBenchModel" (1 : Nat) "WordBenchModel" "thrown" "I") ∈ lw_all := lw_g (lw_at lw_m5 52 rfl) rfl
theorem q1060 : (Jvm.Cond.fieldLink "WordBenchModel" (60 : Nat) "WordBenchModel" "kind" "[I") ∈ lw_all := lw_g (lw_at lw_m5 53 rfl) rfl
theorem q1061 : (Jvm.Cond.fieldLink "WordBenchModel" (64 : Nat) "WordBenchModel" "field" "[I") ∈ lw_all := lw_g (lw_at lw_m5 54 rfl) rfl
theorem q1062 : (Jvm.Cond.fieldLink "WordBenchModel" (67 : Nat) "WordBenchModel" "length" "[I") ∈ lw_all := lw_g (lw_at lw_m5 55 rfl) rfl
theorem q1063 : (Jvm.Cond.fieldLink "WordBenchModel" (70 : Nat) "WordBenchModel" "count" "[I") ∈ lw_all := lw_g (lw_at lw_m5 56 rfl) rfl
theorem q1064 : (Jvm.Cond.fieldLink "WordBenchModel" (73 : Nat) "WordBenchModel" "words" "[J") ∈ lw_all := lw_g (lw_at lw_m5 57 rfl) rfl
theorem q1065 : (Jvm.Cond.fieldLink "WordBenchModel" (77 : Nat) "WordBenchModel" "form" "[J") ∈ lw_all := lw_g (lw_at lw_m5 58 rfl) rfl
theorem q1066 : (Jvm.Cond.fieldLink "WordBenchModel" (80 : Nat) "WordBenchModel" "heads" "[I") ∈ lw_all := lw_g (lw_at lw_m5 59 rfl) rfl
theorem q1067 : (Jvm.Cond.fieldLink "WordBenchModel" (141 : Nat) "WordBenchModel" "rank" "I") ∈ lw_all := lw_g (lw_at lw_m5 60 rfl) rfl
theorem q1068 : (Jvm.Cond.fieldLink "WordBenchModel" (83 : Nat) "WordBenchModel" "duals" "[J") ∈ lw_all := lw_g (lw_at lw_m5 61 rfl) rfl
theorem q1069 : (Jvm.Cond.fieldLink "WordBenchModel" (86 : Nat) "WordBenchModel" "list" "[J") ∈ lw_all := lw_g (lw_at lw_m5 62 rfl) rfl
theorem q1070 : (Jvm.Cond.fieldLink "WordBenchModel" (175 : Nat) "WordBenchModel" "listed" "I") ∈ lw_all := lw_g (lw_at lw_m5 63 rfl) rfl
theorem q1071 : (Jvm.Cond.fieldLink "WordBenchModel" (90 : Nat) "WordBenchModel" "letters" "[I") ∈ lw_all := lw_g (lw_at lw_m5 64 rfl) rfl
theorem q1072 : (Jvm.Cond.fieldLink "WordBenchModel" (93 : Nat) "WordBenchModel" "given" "[I") ∈ lw_all := lw_g (lw_at lw_m5 65 rfl) rfl
theorem q1073 : (Jvm.Cond.fieldLink "WordBenchModel" (96 : Nat) "WordBenchModel" "counts" "[J") ∈ lw_all := lw_g (lw_at lw_m5 66 rfl) rfl
theorem q1074 : (Jvm.Cond.fieldLink "WordBenchModel" (226 : Nat) "WordBenchModel" "firstHole" "J") ∈ lw_all := lw_g (lw_at lw_m5 67 rfl) rfl
theorem q1075 : (Jvm.Cond.fieldLink "WordBenchModel" (223 : Nat) "WordBenchModel" "far" "I") ∈ lw_all := lw_g (lw_at lw_m5 68 rfl) rfl
theorem q1076 : (Jvm.Cond.fieldLink "WordBenchModel" (99 : Nat) "WordBenchModel" "aside" "[J") ∈ lw_all := lw_g (lw_at lw_m5 69 rfl) rfl
theorem q1077 : (Jvm.Cond.fieldLink "WordBenchModel" (233 : Nat) "WordBenchModel" "asides" "I") ∈ lw_all := lw_g (lw_at lw_m5 70 rfl) rfl
theorem q1078 : (Jvm.Cond.fieldLink "WordBenchModel" (102 : Nat) "WordBenchModel" "holds" "[I") ∈ lw_all := lw_g (lw_at lw_m5 71 rfl) rfl
theorem q1079 : (Jvm.Cond.fieldLink "WordBenchModel" (105 : Nat) "WordBenchModel" "heldKind" "[I") ∈ lw_all := lw_g (lw_at lw_m5 72 rfl) rfl
theorem q1080 : (Jvm.Cond.fieldLink "WordBenchModel" (108 : Nat) "WordBenchModel" "heldLength" "[I") ∈ lw_all := lw_g (lw_at lw_m5 73 rfl) rfl
theorem q1081 : (Jvm.Cond.fieldLink "WordBenchModel" (111 : Nat) "WordBenchModel" "heldCount" "[I") ∈ lw_all := lw_g (lw_at lw_m5 74 rfl) rfl
theorem q1082 : (Jvm.Cond.fieldLink "WordBenchModel" (114 : Nat) "WordBenchModel" "held" "[J") ∈ lw_all := lw_g (lw_at lw_m5 75 rfl) rfl
theorem q1083 : (Jvm.Cond.lays "WordBenchModel" "WordBenchModel" "thrown" "I") ∈ lw_all := lw_g (lw_at lw_m5 76 rfl) rfl
theorem q1084 : (Jvm.Cond.soleField "WordBenchModel" "thrown") ∈ lw_all := lw_g (lw_at lw_m5 77 rfl) rfl
theorem q1085 : (Jvm.Cond.laysFinal "WordBenchModel" "WordBenchModel" "kind" "[I") ∈ lw_all := lw_g (lw_at lw_m5 78 rfl) rfl
theorem q1086 : (Jvm.Cond.soleField "WordBenchModel" "kind") ∈ lw_all := lw_g (lw_at lw_m5 79 rfl) rfl
theorem q1087 : (Jvm.Cond.laysFinal "WordBenchModel" "WordBenchModel" "field" "[I") ∈ lw_all := lw_g (lw_at lw_m5 80 rfl) rfl
theorem q1088 : (Jvm.Cond.soleField "WordBenchModel" "field") ∈ lw_all := lw_g (lw_at lw_m5 81 rfl) rfl
theorem q1089 : (Jvm.Cond.laysFinal "WordBenchModel" "WordBenchModel" "length" "[I") ∈ lw_all := lw_g (lw_at lw_m5 82 rfl) rfl
theorem q1090 : (Jvm.Cond.soleField "WordBenchModel" "length") ∈ lw_all := lw_g (lw_at lw_m5 83 rfl) rfl
theorem q1091 : (Jvm.Cond.laysFinal "WordBenchModel" "WordBenchModel" "count" "[I") ∈ lw_all := lw_g (lw_at lw_m5 84 rfl) rfl
theorem q1092 : (Jvm.Cond.soleField "WordBenchModel" "count") ∈ lw_all := lw_g (lw_at lw_m5 85 rfl) rfl
theorem q1093 : (Jvm.Cond.laysFinal "WordBenchModel" "WordBenchModel" "words" "[J") ∈ lw_all := lw_g (lw_at lw_m5 86 rfl) rfl
theorem q1094 : (Jvm.Cond.soleField "WordBenchModel" "words") ∈ lw_all := lw_g (lw_at lw_m5 87 rfl) rfl
theorem q1095 : (Jvm.Cond.laysFinal "WordBenchModel" "WordBenchModel" "form" "[J") ∈ lw_all := lw_g (lw_at lw_m5 88 rfl) rfl
theorem q1096 : (Jvm.Cond.soleField "WordBenchModel" "form") ∈ lw_all := lw_g (lw_at lw_m5 89 rfl) rfl
theorem q1097 : (Jvm.Cond.laysFinal "WordBenchModel" "WordBenchModel" "heads" "[I") ∈ lw_all := lw_g (lw_at lw_m5 90 rfl) rfl
theorem q1098 : (Jvm.Cond.soleField "WordBenchModel" "heads") ∈ lw_all := lw_g (lw_at lw_m5 91 rfl) rfl
theorem q1099 : (Jvm.Cond.lays "WordBenchModel" "WordBenchModel" "rank" "I") ∈ lw_all := lw_g (lw_at lw_m5 92 rfl) rfl
theorem q1100 : (Jvm.Cond.soleField "WordBenchModel" "rank") ∈ lw_all := lw_g (lw_at lw_m5 93 rfl) rfl
theorem q1101 : (Jvm.Cond.laysFinal "WordBenchModel" "WordBenchModel" "duals" "[J") ∈ lw_all := lw_g (lw_at lw_m5 94 rfl) rfl
theorem q1102 : (Jvm.Cond.soleField "WordBenchModel" "duals") ∈ lw_all := lw_g (lw_at lw_m5 95 rfl) rfl
theorem q1103 : (Jvm.Cond.laysFinal "WordBenchModel" "WordBenchModel" "list" "[J") ∈ lw_all := lw_g (lw_at lw_m5 96 rfl) rfl
theorem q1104 : (Jvm.Cond.soleField "WordBenchModel" "list") ∈ lw_all := lw_g (lw_at lw_m5 97 rfl) rfl
theorem q1105 : (Jvm.Cond.lays "WordBenchModel" "WordBenchModel" "listed" "I") ∈ lw_all := lw_g (lw_at lw_m5 98 rfl) rfl
theorem q1106 : (Jvm.Cond.soleField "WordBenchModel" "listed") ∈ lw_all := lw_g (lw_at lw_m5 99 rfl) rfl
theorem q1107 : (Jvm.Cond.laysFinal "WordBenchModel" "WordBenchModel" "letters" "[I") ∈ lw_all := lw_g (lw_at lw_m5 100 rfl) rfl
theorem q1108 : (Jvm.Cond.soleField "WordBenchModel" "letters") ∈ lw_all := lw_g (lw_at lw_m5 101 rfl) rfl
theorem q1109 : (Jvm.Cond.laysFinal "WordBenchModel" "WordBenchModel" "given" "[I") ∈ lw_all := lw_g (lw_at lw_m5 102 rfl) rfl
theorem q1110 : (Jvm.Cond.soleField "WordBenchModel" "given") ∈ lw_all := lw_g (lw_at lw_m5 103 rfl) rfl
theorem q1111 : (Jvm.Cond.laysFinal "WordBenchModel" "WordBenchModel" "counts" "[J") ∈ lw_all := lw_g (lw_at lw_m5 104 rfl) rfl
theorem q1112 : (Jvm.Cond.soleField "WordBenchModel" "counts") ∈ lw_all := lw_g (lw_at lw_m5 105 rfl) rfl
theorem q1113 : (Jvm.Cond.lays "WordBenchModel" "WordBenchModel" "firstHole" "J") ∈ lw_all := lw_g (lw_at lw_m5 106 rfl) rfl
theorem q1114 : (Jvm.Cond.soleField "WordBenchModel" "firstHole") ∈ lw_all := lw_g (lw_at lw_m5 107 rfl) rfl
theorem q1115 : (Jvm.Cond.lays "WordBenchModel" "WordBenchModel" "far" "I") ∈ lw_all := lw_g (lw_at lw_m5 108 rfl) rfl
theorem q1116 : (Jvm.Cond.soleField "WordBenchModel" "far") ∈ lw_all := lw_g (lw_at lw_m5 109 rfl) rfl
theorem q1117 : (Jvm.Cond.laysFinal "WordBenchModel" "WordBenchModel" "aside" "[J") ∈ lw_all := lw_g (lw_at lw_m5 110 rfl) rfl
theorem q1118 : (Jvm.Cond.soleField "WordBenchModel" "aside") ∈ lw_all := lw_g (lw_at lw_m5 111 rfl) rfl
theorem q1119 : (Jvm.Cond.lays "WordBenchModel" "WordBenchModel" "asides" "I") ∈ lw_all := lw_g (lw_at lw_m5 112 rfl) rfl
theorem q1120 : (Jvm.Cond.soleField "WordBenchModel" "asides") ∈ lw_all := lw_g (lw_at lw_m5 113 rfl) rfl
theorem q1121 : (Jvm.Cond.laysFinal "WordBenchModel" "WordBenchModel" "holds" "[I") ∈ lw_all := lw_g (lw_at lw_m5 114 rfl) rfl
theorem q1122 : (Jvm.Cond.soleField "WordBenchModel" "holds") ∈ lw_all := lw_g (lw_at lw_m5 115 rfl) rfl
theorem q1123 : (Jvm.Cond.laysFinal "WordBenchModel" "WordBenchModel" "heldKind" "[I") ∈ lw_all := lw_g (lw_at lw_m5 116 rfl) rfl
theorem q1124 : (Jvm.Cond.soleField "WordBenchModel" "heldKind") ∈ lw_all := lw_g (lw_at lw_m5 117 rfl) rfl
theorem q1125 : (Jvm.Cond.laysFinal "WordBenchModel" "WordBenchModel" "heldLength" "[I") ∈ lw_all := lw_g (lw_at lw_m5 118 rfl) rfl
theorem q1126 : (Jvm.Cond.soleField "WordBenchModel" "heldLength") ∈ lw_all := lw_g (lw_at lw_m5 119 rfl) rfl
theorem q1127 : (Jvm.Cond.laysFinal "WordBenchModel" "WordBenchModel" "heldCount" "[I") ∈ lw_all := lw_g (lw_at lw_m5 120 rfl) rfl
theorem q1128 : (Jvm.Cond.soleField "WordBenchModel" "heldCount") ∈ lw_all := lw_g (lw_at lw_m5 121 rfl) rfl
theorem q1129 : (Jvm.Cond.laysFinal "WordBenchModel" "WordBenchModel" "held" "[J") ∈ lw_all := lw_g (lw_at lw_m5 122 rfl) rfl
theorem q1130 : (Jvm.Cond.soleField "WordBenchModel" "held") ∈ lw_all := lw_g (lw_at lw_m5 123 rfl) rfl
theorem q1131 : (Jvm.Cond.superclass "WordBenchModel" "java/lang/Object") ∈ lw_all := lw_g (lw_at lw_m5 124 rfl) rfl
theorem q1133 : (Jvm.Cond.instanceMethod ({ cls := "WordBenchModel", name := "make", desc := "(IIII)I" } : Jvm.MethodName)) ∈ lw_all := lw_g (lw_at lw_m5 126 rfl) rfl
theorem q1134 : (Jvm.Cond.selects "WordBenchModel" ({ cls := "WordBenchModel", name := "make", desc := "(IIII)I" } : Jvm.MethodName) ({ cls := "WordBenchModel", name := "make", desc := "(IIII)I" } : Jvm.MethodName)) ∈ lw_all := lw_g (lw_at lw_m5 127 rfl) rfl
theorem q1135 : (Jvm.Cond.code ({ cls := "WordBenchModel", name := "make", desc := "(IIII)I" } : Jvm.MethodName) prog_11_method_22_code (5 : Nat) (Option.some Jvm.ClassFile.FieldType.int)) ∈ lw_all := lw_g (lw_at lw_m5 128 rfl) rfl
theorem q1136 : (Jvm.Cond.methodLink "WordBenchModel" (119 : Nat) ({ cls := "WordBenchModel", name := "isPlace", desc := "(I)Z" } : Jvm.MethodName)) ∈ lw_all := lw_g (lw_at lw_m5 129 rfl) rfl
theorem q1137 : (Jvm.Cond.static ({ cls := "WordBenchModel", name := "isPlace", desc := "(I)Z" } : Jvm.MethodName)) ∈ lw_all := lw_g (lw_at lw_m5 130 rfl) rfl
theorem q1138 : (Jvm.Cond.code ({ cls := "WordBenchModel", name := "isPlace", desc := "(I)Z" } : Jvm.MethodName) prog_11_method_18_code (1 : Nat) (Option.some Jvm.ClassFile.FieldType.boolean)) ∈ lw_all := lw_g (lw_at lw_m5 131 rfl) rfl
theorem q1139 : (Jvm.Cond.constantLong "WordBenchModel" (117 : Nat) (11 : Int64)) ∈ lw_all := lw_g (lw_at lw_m5 132 rfl) rfl
theorem q1140 : (Jvm.Cond.methodLink "WordBenchModel" (123 : Nat) ({ cls := "WordBenchModel", name := "begin", desc := "(IIII)V" } : Jvm.MethodName)) ∈ lw_all := lw_g (lw_at lw_m5 133 rfl) rfl
theorem q1141 : (Jvm.Cond.privateMethod ({ cls := "WordBenchModel", name := "begin", desc := "(IIII)V" } : Jvm.MethodName)) ∈ lw_tbl := lw_at lw_m5 134 rfl
theorem q1142 : (Jvm.Cond.instanceMethod ({ cls := "WordBenchModel", name := "begin", desc := "(IIII)V" } : Jvm.MethodName)) ∈ lw_all := lw_g (lw_at lw_m5 135 rfl) rfl
theorem q1143 : (Jvm.Cond.code ({ cls := "WordBenchModel", name := "begin", desc := "(IIII)V" } : Jvm.MethodName) prog_11_method_21_code (5 : Nat) (Option.none : Option Jvm.ClassFile.FieldType)) ∈ lw_all := lw_g (lw_at lw_m5 136 rfl) rfl
theorem q1145 : (Jvm.Cond.instanceMethod ({ cls := "WordBenchModel", name := "add", desc := "(IJ)I" } : Jvm.MethodName)) ∈ lw_all := lw_g (lw_at lw_m5 138 rfl) rfl
theorem q1146 : (Jvm.Cond.selects "WordBenchModel" ({ cls := "WordBenchModel", name := "add", desc := "(IJ)I" } : Jvm.MethodName) ({ cls := "WordBenchModel", name := "add", desc := "(IJ)I" } : Jvm.MethodName)) ∈ lw_all := lw_g (lw_at lw_m5 139 rfl) rfl
theorem q1147 : (Jvm.Cond.code ({ cls := "WordBenchModel", name := "add", desc := "(IJ)I" } : Jvm.MethodName) prog_11_method_25_code (6 : Nat) (Option.some Jvm.ClassFile.FieldType.int)) ∈ lw_all := lw_g (lw_at lw_m5 140 rfl) rfl
theorem q1148 : (Jvm.Cond.methodLink "WordBenchModel" (127 : Nat) ({ cls := "WordBenchModel", name := "isEmpty", desc := "(I)Z" } : Jvm.MethodName)) ∈ lw_all := lw_g (lw_at lw_m5 141 rfl) rfl
theorem q1149 : (Jvm.Cond.privateMethod ({ cls := "WordBenchModel", name := "isEmpty", desc := "(I)Z" } : Jvm.MethodName)) ∈ lw_tbl := lw_at lw_m5 142 rfl
theorem q1150 : (Jvm.Cond.instanceMethod ({ cls := "WordBenchModel", name := "isEmpty", desc := "(I)Z" } : Jvm.MethodName)) ∈ lw_all := lw_g (lw_at lw_m5 143 rfl) rfl
theorem q1151 : (Jvm.Cond.code ({ cls := "WordBenchModel", name := "isEmpty", desc := "(I)Z" } : Jvm.MethodName) prog_11_method_19_code (2 : Nat) (Option.some Jvm.ClassFile.FieldType.boolean)) ∈ lw_all := lw_g (lw_at lw_m5 144 rfl) rfl
theorem q1152 : (Jvm.Cond.methodLink "WordBenchModel" (130 : Nat) ({ cls := "WordBenchModel", name := "hasWord", desc := "(IJ)Z" } : Jvm.MethodName)) ∈ lw_all := lw_g (lw_at lw_m5 145 rfl) rfl
theorem q1153 : (Jvm.Cond.privateMethod ({ cls := "WordBenchModel", name := "hasWord", desc := "(IJ)Z" } : Jvm.MethodName)) ∈ lw_tbl := lw_at lw_m5 146 rfl
theorem q1154 : (Jvm.Cond.instanceMethod ({ cls := "WordBenchModel", name := "hasWord", desc := "(IJ)Z" } : Jvm.MethodName)) ∈ lw_all := lw_g (lw_at lw_m5 147 rfl) rfl
theorem q1155 : (Jvm.Cond.code ({ cls := "WordBenchModel", name := "hasWord", desc := "(IJ)Z" } : Jvm.MethodName) prog_11_method_20_code (4 : Nat) (Option.some Jvm.ClassFile.FieldType.boolean)) ∈ lw_all := lw_g (lw_at lw_m5 148 rfl) rfl
theorem q1156 : (Jvm.Cond.methodLink "WordBenchModel" (134 : Nat) ({ cls := "WordBenchModel", name := "find", desc := "(IJ)I" } : Jvm.MethodName)) ∈ lw_all := lw_g (lw_at lw_m5 149 rfl) rfl
theorem q1157 : (Jvm.Cond.privateMethod ({ cls := "WordBenchModel", name := "find", desc := "(IJ)I" } : Jvm.MethodName)) ∈ lw_tbl := lw_at lw_m5 150 rfl
theorem q1158 : (Jvm.Cond.instanceMethod ({ cls := "WordBenchModel", name := "find", desc := "(IJ)I" } : Jvm.MethodName)) ∈ lw_all := lw_g (lw_at lw_m5 151 rfl) rfl
theorem q1159 : (Jvm.Cond.code ({ cls := "WordBenchModel", name := "find", desc := "(IJ)I" } : Jvm.MethodName) prog_11_method_23_code (5 : Nat) (Option.some Jvm.ClassFile.FieldType.int)) ∈ lw_all := lw_g (lw_at lw_m5 152 rfl) rfl
theorem q1160 : (Jvm.Cond.methodLink "WordBenchModel" (138 : Nat) ({ cls := "WordBenchModel", name := "push", desc := "(IJ)I" } : Jvm.MethodName)) ∈ lw_all := lw_g (lw_at lw_m5 153 rfl) rfl
theorem q1161 : (Jvm.Cond.privateMethod ({ cls := "WordBenchModel", name := "push", desc := "(IJ)I" } : Jvm.MethodName)) ∈ lw_tbl := lw_at lw_m5 154 rfl
theorem q1162 : (Jvm.Cond.instanceMethod ({ cls := "WordBenchModel", name := "push", desc := "(IJ)I" } : Jvm.MethodName)) ∈ lw_all := lw_g (lw_at lw_m5 155 rfl) rfl
theorem q1163 : (Jvm.Cond.code ({ cls := "WordBenchModel", name := "push", desc := "(IJ)I" } : Jvm.MethodName) prog_11_method_24_code (4 : Nat) (Option.some Jvm.ClassFile.FieldType.int)) ∈ lw_all := lw_g (lw_at lw_m5 156 rfl) rfl
theorem q1165 : (Jvm.Cond.instanceMethod ({ cls := "WordBenchModel", name := "ring", desc := "(IIIJ)I" } : Jvm.MethodName)) ∈ lw_all := lw_g (lw_at lw_m5 158 rfl) rfl
theorem q1166 : (Jvm.Cond.selects "WordBenchModel" ({ cls := "WordBenchModel", name := "ring", desc := "(IIIJ)I" } : Jvm.MethodName) ({ cls := "WordBenchModel", name := "ring", desc := "(IIIJ)I" } : Jvm.MethodName)) ∈ lw_all := lw_g (lw_at lw_m5 159 rfl) rfl
theorem q1167 : (Jvm.Cond.code ({ cls := "WordBenchModel", name := "ring", desc := "(IIIJ)I" } : Jvm.MethodName) prog_11_method_26_code (11 : Nat) (Option.some Jvm.ClassFile.FieldType.int)) ∈ lw_all := lw_g (lw_at lw_m5 160 rfl) rfl
theorem q1169 : (Jvm.Cond.instanceMethod ({ cls := "WordBenchModel", name := "empty", desc := "(I)I" } : Jvm.MethodName)) ∈ lw_all := lw_g (lw_at lw_m5 162 rfl) rfl
theorem q1170 : (Jvm.Cond.selects "WordBenchModel" ({ cls := "WordBenchModel", name := "empty", desc := "(I)I" } : Jvm.MethodName) ({ cls := "WordBenchModel", name := "empty", desc := "(I)I" } : Jvm.MethodName)) ∈ lw_all := lw_g (lw_at lw_m5 163 rfl) rfl
theorem q1171 : (Jvm.Cond.code ({ cls := "WordBenchModel", name := "empty", desc := "(I)I" } : Jvm.MethodName) prog_11_method_27_code (3 : Nat) (Option.some Jvm.ClassFile.FieldType.int)) ∈ lw_all := lw_g (lw_at lw_m5 164 rfl) rfl
theorem q1173 : (Jvm.Cond.instanceMethod ({ cls := "WordBenchModel", name := "look", desc := "(II)I" } : Jvm.MethodName)) ∈ lw_all := lw_g (lw_at lw_m5 166 rfl) rfl
theorem q1174 : (Jvm.Cond.selects "WordBenchModel" ({ cls := "WordBenchModel", name := "look", desc := "(II)I" } : Jvm.MethodName) ({ cls := "WordBenchModel", name := "look", desc := "(II)I" } : Jvm.MethodName)) ∈ lw_all := lw_g (lw_at lw_m5 167 rfl) rfl
theorem q1175 : (Jvm.Cond.code ({ cls := "WordBenchModel", name := "look", desc := "(II)I" } : Jvm.MethodName) prog_11_method_30_code (3 : Nat) (Option.some Jvm.ClassFile.FieldType.int)) ∈ lw_all := lw_g (lw_at lw_m5 168 rfl) rfl
theorem q1176 : (Jvm.Cond.methodLink "WordBenchModel" (151 : Nat) ({ cls := "WordBenchModel", name := "isWithin", desc := "(I)Z" } : Jvm.MethodName)) ∈ lw_all := lw_g (lw_at lw_m5 169 rfl) rfl
theorem q1177 : (Jvm.Cond.privateMethod ({ cls := "WordBenchModel", name := "isWithin", desc := "(I)Z" } : Jvm.MethodName)) ∈ lw_tbl := lw_at lw_m5 170 rfl
theorem q1178 : (Jvm.Cond.instanceMethod ({ cls := "WordBenchModel", name := "isWithin", desc := "(I)Z" } : Jvm.MethodName)) ∈ lw_all := lw_g (lw_at lw_m5 171 rfl) rfl
theorem q1179 : (Jvm.Cond.code ({ cls := "WordBenchModel", name := "isWithin", desc := "(I)Z" } : Jvm.MethodName) prog_11_method_29_code (4 : Nat) (Option.some Jvm.ClassFile.FieldType.boolean)) ∈ lw_all := lw_g (lw_at lw_m5 172 rfl) rfl
theorem q1180 : (Jvm.Cond.methodLink "WordBenchModel" (154 : Nat) ({ cls := "WordBenchModel", name := "clear", desc := "(I)V" } : Jvm.MethodName)) ∈ lw_all := lw_g (lw_at lw_m5 173 rfl) rfl
theorem q1181 : (Jvm.Cond.privateMethod ({ cls := "WordBenchModel", name := "clear", desc := "(I)V" } : Jvm.MethodName)) ∈ lw_tbl := lw_at lw_m5 174 rfl
theorem q1182 : (Jvm.Cond.instanceMethod ({ cls := "WordBenchModel", name := "clear", desc := "(I)V" } : Jvm.MethodName)) ∈ lw_all := lw_g (lw_at lw_m5 175 rfl) rfl
theorem q1183 : (Jvm.Cond.code ({ cls := "WordBenchModel", name := "clear", desc := "(I)V" } : Jvm.MethodName) prog_11_method_28_code (10 : Nat) (Option.none : Option Jvm.ClassFile.FieldType)) ∈ lw_all := lw_g (lw_at lw_m5 176 rfl) rfl
theorem q1184 : (Jvm.Cond.methodLink "WordBenchModel" (144 : Nat) ({ cls := "WordBenchModel", name := "inverse", desc := "(II)I" } : Jvm.MethodName)) ∈ lw_all := lw_g (lw_at lw_m5 177 rfl) rfl
theorem q1185 : (Jvm.Cond.static ({ cls := "WordBenchModel", name := "inverse", desc := "(II)I" } : Jvm.MethodName)) ∈ lw_all := lw_g (lw_at lw_m5 178 rfl) rfl
theorem q1186 : (Jvm.Cond.code ({ cls := "WordBenchModel", name := "inverse", desc := "(II)I" } : Jvm.MethodName) prog_11_method_6_code (3 : Nat) (Option.some Jvm.ClassFile.FieldType.int)) ∈ lw_all := lw_g (lw_at lw_m5 179 rfl) rfl
theorem q1187 : (Jvm.Cond.methodLink "WordBenchModel" (148 : Nat) ({ cls := "WordBenchModel", name := "minus", desc := "(II)I" } : Jvm.MethodName)) ∈ lw_all := lw_g (lw_at lw_m5 180 rfl) rfl
theorem q1188 : (Jvm.Cond.static ({ cls := "WordBenchModel", name := "minus", desc := "(II)I" } : Jvm.MethodName)) ∈ lw_all := lw_g (lw_at lw_m5 181 rfl) rfl
theorem q1189 : (Jvm.Cond.code ({ cls := "WordBenchModel", name := "minus", desc := "(II)I" } : Jvm.MethodName) prog_11_method_5_code (2 : Nat) (Option.some Jvm.ClassFile.FieldType.int)) ∈ lw_all := lw_g (lw_at lw_m5 182 rfl) rfl
theorem q1191 : (Jvm.Cond.instanceMethod ({ cls := "WordBenchModel", name := "word", desc := "(II)J" } : Jvm.MethodName)) ∈ lw_all := lw_g (lw_at lw_m5 184 rfl) rfl
theorem q1192 : (Jvm.Cond.selects "WordBenchModel" ({ cls := "WordBenchModel", name := "word", desc := "(II)J" } : Jvm.MethodName) ({ cls := "WordBenchModel", name := "word", desc := "(II)J" } : Jvm.MethodName)) ∈ lw_all := lw_g (lw_at lw_m5 185 rfl) rfl
theorem q1193 : (Jvm.Cond.code ({ cls := "WordBenchModel", name := "word", desc := "(II)J" } : Jvm.MethodName) prog_11_method_31_code (3 : Nat) (Option.some Jvm.ClassFile.FieldType.long)) ∈ lw_all := lw_g (lw_at lw_m5 186 rfl) rfl
theorem q1195 : (Jvm.Cond.instanceMethod ({ cls := "WordBenchModel", name := "size", desc := "(I)J" } : Jvm.MethodName)) ∈ lw_all := lw_g (lw_at lw_m5 188 rfl) rfl
theorem q1196 : (Jvm.Cond.selects "WordBenchModel" ({ cls := "WordBenchModel", name := "size", desc := "(I)J" } : Jvm.MethodName) ({ cls := "WordBenchModel", name := "size", desc := "(I)J" } : Jvm.MethodName)) ∈ lw_all := lw_g (lw_at lw_m5 189 rfl) rfl
theorem q1197 : (Jvm.Cond.code ({ cls := "WordBenchModel", name := "size", desc := "(I)J" } : Jvm.MethodName) prog_11_method_33_code (2 : Nat) (Option.some Jvm.ClassFile.FieldType.long)) ∈ lw_all := lw_g (lw_at lw_m5 190 rfl) rfl
theorem q1198 : (Jvm.Cond.constantLong "WordBenchModel" (158 : Nat) (-11 : Int64)) ∈ lw_all := lw_g (lw_at lw_m5 191 rfl) rfl
theorem q1199 : (Jvm.Cond.methodLink "WordBenchModel" (160 : Nat) ({ cls := "WordBenchModel", name := "sizeOf", desc := "(I)J" } : Jvm.MethodName)) ∈ lw_all := lw_g (lw_at lw_m5 192 rfl) rfl
theorem q1200 : (Jvm.Cond.privateMethod ({ cls := "WordBenchModel", name := "sizeOf", desc := "(I)J" } : Jvm.MethodName)) ∈ lw_tbl := lw_at lw_m5 193 rfl
theorem q1201 : (Jvm.Cond.instanceMethod ({ cls := "WordBenchModel", name := "sizeOf", desc := "(I)J" } : Jvm.MethodName)) ∈ lw_all := lw_g (lw_at lw_m5 194 rfl) rfl
theorem q1202 : (Jvm.Cond.code ({ cls := "WordBenchModel", name := "sizeOf", desc := "(I)J" } : Jvm.MethodName) prog_11_method_32_code (2 : Nat) (Option.some Jvm.ClassFile.FieldType.long)) ∈ lw_all := lw_g (lw_at lw_m5 195 rfl) rfl
theorem q1204 : (Jvm.Cond.instanceMethod ({ cls := "WordBenchModel", name := "in", desc := "(IJ)I" } : Jvm.MethodName)) ∈ lw_all := lw_g (lw_at lw_m5 197 rfl) rfl
theorem q1205 : (Jvm.Cond.selects "WordBenchModel" ({ cls := "WordBenchModel", name := "in", desc := "(IJ)I" } : Jvm.MethodName) ({ cls := "WordBenchModel", name := "in", desc := "(IJ)I" } : Jvm.MethodName)) ∈ lw_all := lw_g (lw_at lw_m5 198 rfl) rfl
theorem q1206 : (Jvm.Cond.code ({ cls := "WordBenchModel", name := "in", desc := "(IJ)I" } : Jvm.MethodName) prog_11_method_35_code (4 : Nat) (Option.some Jvm.ClassFile.FieldType.int)) ∈ lw_all := lw_g (lw_at lw_m5 199 rfl) rfl
theorem q1207 : (Jvm.Cond.methodLink "WordBenchModel" (164 : Nat) ({ cls := "WordBenchModel", name := "isInLine", desc := "(IJ)Z" } : Jvm.MethodName)) ∈ lw_all := lw_g (lw_at lw_m5 200 rfl) rfl
theorem q1208 : (Jvm.Cond.privateMethod ({ cls := "WordBenchModel", name := "isInLine", desc := "(IJ)Z" } : Jvm.MethodName)) ∈ lw_tbl := lw_at lw_m5 201 rfl
theorem q1209 : (Jvm.Cond.instanceMethod ({ cls := "WordBenchModel", name := "isInLine", desc := "(IJ)Z" } : Jvm.MethodName)) ∈ lw_all := lw_g (lw_at lw_m5 202 rfl) rfl
theorem q1210 : (Jvm.Cond.code ({ cls := "WordBenchModel", name := "isInLine", desc := "(IJ)Z" } : Jvm.MethodName) prog_11_method_34_code (7 : Nat) (Option.some Jvm.ClassFile.FieldType.boolean)) ∈ lw_all := lw_g (lw_at lw_m5 203 rfl) rfl
theorem q1212 : (Jvm.Cond.instanceMethod ({ cls := "WordBenchModel", name := "form", desc := "(I)I" } : Jvm.MethodName)) ∈ lw_all := lw_g (lw_at lw_m5 205 rfl) rfl
theorem q1213 : (Jvm.Cond.selects "WordBenchModel" ({ cls := "WordBenchModel", name := "form", desc := "(I)I" } : Jvm.MethodName) ({ cls := "WordBenchModel", name := "form", desc := "(I)I" } : Jvm.MethodName)) ∈ lw_all := lw_g (lw_at lw_m5 206 rfl) rfl
theorem q1214 : (Jvm.Cond.code ({ cls := "WordBenchModel", name := "form", desc := "(I)I" } : Jvm.MethodName) prog_11_method_36_code (3 : Nat) (Option.some Jvm.ClassFile.FieldType.int)) ∈ lw_all := lw_g (lw_at lw_m5 207 rfl) rfl
theorem q1216 : (Jvm.Cond.instanceMethod ({ cls := "WordBenchModel", name := "head", desc := "(II)I" } : Jvm.MethodName)) ∈ lw_all := lw_g (lw_at lw_m5 209 rfl) rfl
theorem q1217 : (Jvm.Cond.selects "WordBenchModel" ({ cls := "WordBenchModel", name := "head", desc := "(II)I" } : Jvm.MethodName) ({ cls := "WordBenchModel", name := "head", desc := "(II)I" } : Jvm.MethodName)) ∈ lw_all := lw_g (lw_at lw_m5 210 rfl) rfl
theorem q1218 : (Jvm.Cond.code ({ cls := "WordBenchModel", name := "head", desc := "(II)I" } : Jvm.MethodName) prog_11_method_37_code (3 : Nat) (Option.some Jvm.ClassFile.FieldType.int)) ∈ lw_all := lw_g (lw_at lw_m5 211 rfl) rfl
theorem q1220 : (Jvm.Cond.instanceMethod ({ cls := "WordBenchModel", name := "dual", desc := "(II)I" } : Jvm.MethodName)) ∈ lw_all := lw_g (lw_at lw_m5 213 rfl) rfl
theorem q1221 : (Jvm.Cond.selects "WordBenchModel" ({ cls := "WordBenchModel", name := "dual", desc := "(II)I" } : Jvm.MethodName) ({ cls := "WordBenchModel", name := "dual", desc := "(II)I" } : Jvm.MethodName)) ∈ lw_all := lw_g (lw_at lw_m5 214 rfl) rfl
theorem q1222 : (Jvm.Cond.code ({ cls := "WordBenchModel", name := "dual", desc := "(II)I" } : Jvm.MethodName) prog_11_method_39_code (6 : Nat) (Option.some Jvm.ClassFile.FieldType.int)) ∈ lw_all := lw_g (lw_at lw_m5 215 rfl) rfl
theorem q1223 : (Jvm.Cond.methodLink "WordBenchModel" (167 : Nat) ({ cls := "WordBenchModel", name := "dualOf", desc := "(I)I" } : Jvm.MethodName)) ∈ lw_all := lw_g (lw_at lw_m5 216 rfl) rfl
theorem q1224 : (Jvm.Cond.privateMethod ({ cls := "WordBenchModel", name := "dualOf", desc := "(I)I" } : Jvm.MethodName)) ∈ lw_tbl := lw_at lw_m5 217 rfl
theorem q1225 : (Jvm.Cond.instanceMethod ({ cls := "WordBenchModel", name := "dualOf", desc := "(I)I" } : Jvm.MethodName)) ∈ lw_all := lw_g (lw_at lw_m5 218 rfl) rfl
theorem q1226 : (Jvm.Cond.code ({ cls := "WordBenchModel", name := "dualOf", desc := "(I)I" } : Jvm.MethodName) prog_11_method_38_code (10 : Nat) (Option.some Jvm.ClassFile.FieldType.int)) ∈ lw_all := lw_g (lw_at lw_m5 219 rfl) rfl
theorem q1228 : (Jvm.Cond.instanceMethod ({ cls := "WordBenchModel", name := "checks", desc := "(IJ)J" } : Jvm.MethodName)) ∈ lw_all := lw_g (lw_at lw_m5 221 rfl) rfl
theorem q1229 : (Jvm.Cond.selects "WordBenchModel" ({ cls := "WordBenchModel", name := "checks", desc := "(IJ)J" } : Jvm.MethodName) ({ cls := "WordBenchModel", name := "checks", desc := "(IJ)J" } : Jvm.MethodName)) ∈ lw_all := lw_g (lw_at lw_m5 222 rfl) rfl
theorem q1230 : (Jvm.Cond.code ({ cls := "WordBenchModel", name := "checks", desc := "(IJ)J" } : Jvm.MethodName) prog_11_method_40_code (8 : Nat) (Option.some Jvm.ClassFile.FieldType.long)) ∈ lw_all := lw_g (lw_at lw_m5 223 rfl) rfl
theorem q1231 : (Jvm.Cond.constantLong "WordBenchModel" (171 : Nat) (-12 : Int64)) ∈ lw_all := lw_g (lw_at lw_m5 224 rfl) rfl
theorem q1233 : (Jvm.Cond.instanceMethod ({ cls := "WordBenchModel", name := "least", desc := "(I)I" } : Jvm.MethodName)) ∈ lw_all := lw_g (lw_at lw_m5 226 rfl) rfl
theorem q1234 : (Jvm.Cond.selects "WordBenchModel" ({ cls := "WordBenchModel", name := "least", desc := "(I)I" } : Jvm.MethodName) ({ cls := "WordBenchModel", name := "least", desc := "(I)I" } : Jvm.MethodName)) ∈ lw_all := lw_g (lw_at lw_m5 227 rfl) rfl
theorem q1235 : (Jvm.Cond.code ({ cls := "WordBenchModel", name := "least", desc := "(I)I" } : Jvm.MethodName) prog_11_method_48_code (2 : Nat) (Option.some Jvm.ClassFile.FieldType.int)) ∈ lw_all := lw_g (lw_at lw_m5 228 rfl) rfl
theorem q1236 : (Jvm.Cond.methodLink "WordBenchModel" (184 : Nat) ({ cls := "WordBenchModel", name := "lacks", desc := "(I)I" } : Jvm.MethodName)) ∈ lw_all := lw_g (lw_at lw_m5 229 rfl) rfl
theorem q1237 : (Jvm.Cond.privateMethod ({ cls := "WordBenchModel", name := "lacks", desc := "(I)I" } : Jvm.MethodName)) ∈ lw_tbl := lw_at lw_m5 230 rfl
theorem q1238 : (Jvm.Cond.instanceMethod ({ cls := "WordBenchModel", name := "lacks", desc := "(I)I" } : Jvm.MethodName)) ∈ lw_all := lw_g (lw_at lw_m5 231 rfl) rfl
theorem q1239 : (Jvm.Cond.code ({ cls := "WordBenchModel", name := "lacks", desc := "(I)I" } : Jvm.MethodName) prog_11_method_46_code (2 : Nat) (Option.some Jvm.ClassFile.FieldType.int)) ∈ lw_all := lw_g (lw_at lw_m5 232 rfl) rfl
theorem q1240 : (Jvm.Cond.methodLink "WordBenchModel" (187 : Nat) ({ cls := "WordBenchModel", name := "lays", desc := "(I)Z" } : Jvm.MethodName)) ∈ lw_all := lw_g (lw_at lw_m5 233 rfl) rfl
theorem q1241 : (Jvm.Cond.privateMethod ({ cls := "WordBenchModel", name := "lays", desc := "(I)Z" } : Jvm.MethodName)) ∈ lw_tbl := lw_at lw_m5 234 rfl
theorem q1242 : (Jvm.Cond.instanceMethod ({ cls := "WordBenchModel", name := "lays", desc := "(I)Z" } : Jvm.MethodName)) ∈ lw_all := lw_g (lw_at lw_m5 235 rfl) rfl
theorem q1243 : (Jvm.Cond.code ({ cls := "WordBenchModel", name := "lays", desc := "(I)Z" } : Jvm.MethodName) prog_11_method_41_code (6 : Nat) (Option.some Jvm.ClassFile.FieldType.boolean)) ∈ lw_all := lw_g (lw_at lw_m5 236 rfl) rfl
theorem q1244 : (Jvm.Cond.constantLong "WordBenchModel" (173 : Nat) (4096 : Int64)) ∈ lw_all := lw_g (lw_at lw_m5 237 rfl) rfl
theorem q1245 : (Jvm.Cond.methodLink "WordBenchModel" (178 : Nat) ({ cls := "WordBenchModel", name := "laysLine", desc := "(I)V" } : Jvm.MethodName)) ∈ lw_all := lw_g (lw_at lw_m5 238 rfl) rfl
theorem q1246 : (Jvm.Cond.privateMethod ({ cls := "WordBenchModel", name := "laysLine", desc := "(I)V" } : Jvm.MethodName)) ∈ lw_tbl := lw_at lw_m5 239 rfl
theorem q1247 : (Jvm.Cond.instanceMethod ({ cls := "WordBenchModel", name := "laysLine", desc := "(I)V" } : Jvm.MethodName)) ∈ lw_all := lw_g (lw_at lw_m6 0 rfl) rfl
theorem q1248 : (Jvm.Cond.code ({ cls := "WordBenchModel", name := "laysLine", desc := "(I)V" } : Jvm.MethodName) prog_11_method_42_code (6 : Nat) (Option.none : Option Jvm.ClassFile.FieldType)) ∈ lw_all := lw_g (lw_at lw_m6 1 rfl) rfl
theorem q1249 : (Jvm.Cond.methodLink "WordBenchModel" (190 : Nat) ({ cls := "WordBenchModel", name := "leastOf", desc := "(I)I" } : Jvm.MethodName)) ∈ lw_all := lw_g (lw_at lw_m6 2 rfl) rfl
theorem q1250 : (Jvm.Cond.privateMethod ({ cls := "WordBenchModel", name := "leastOf", desc := "(I)I" } : Jvm.MethodName)) ∈ lw_tbl := lw_at lw_m6 3 rfl
theorem q1251 : (Jvm.Cond.instanceMethod ({ cls := "WordBenchModel", name := "leastOf", desc := "(I)I" } : Jvm.MethodName)) ∈ lw_all := lw_g (lw_at lw_m6 4 rfl) rfl
theorem q1252 : (Jvm.Cond.code ({ cls := "WordBenchModel", name := "leastOf", desc := "(I)I" } : Jvm.MethodName) prog_11_method_47_code (6 : Nat) (Option.some Jvm.ClassFile.FieldType.int)) ∈ lw_all := lw_g (lw_at lw_m6 5 rfl) rfl
theorem q1253 : (Jvm.Cond.methodLink "WordBenchModel" (181 : Nat) ({ cls := "WordBenchModel", name := "wayOfTwo", desc := "(III)I" } : Jvm.MethodName)) ∈ lw_all := lw_g (lw_at lw_m6 6 rfl) rfl
theorem q1254 : (Jvm.Cond.privateMethod ({ cls := "WordBenchModel", name := "wayOfTwo", desc := "(III)I" } : Jvm.MethodName)) ∈ lw_tbl := lw_at lw_m6 7 rfl
theorem q1255 : (Jvm.Cond.instanceMethod ({ cls := "WordBenchModel", name := "wayOfTwo", desc := "(III)I" } : Jvm.MethodName)) ∈ lw_all := lw_g (lw_at lw_m6 8 rfl) rfl
theorem q1256 : (Jvm.Cond.code ({ cls := "WordBenchModel", name := "wayOfTwo", desc := "(III)I" } : Jvm.MethodName) prog_11_method_45_code (6 : Nat) (Option.some Jvm.ClassFile.FieldType.int)) ∈ lw_all := lw_g (lw_at lw_m6 9 rfl) rfl
theorem q1258 : (Jvm.Cond.instanceMethod ({ cls := "WordBenchModel", name := "weights", desc := "(II)J" } : Jvm.MethodName)) ∈ lw_all := lw_g (lw_at lw_m6 11 rfl) rfl
theorem q1259 : (Jvm.Cond.selects "WordBenchModel" ({ cls := "WordBenchModel", name := "weights", desc := "(II)J" } : Jvm.MethodName) ({ cls := "WordBenchModel", name := "weights", desc := "(II)J" } : Jvm.MethodName)) ∈ lw_all := lw_g (lw_at lw_m6 12 rfl) rfl
theorem q1260 : (Jvm.Cond.code ({ cls := "WordBenchModel", name := "weights", desc := "(II)J" } : Jvm.MethodName) prog_11_method_50_code (3 : Nat) (Option.some Jvm.ClassFile.FieldType.long)) ∈ lw_all := lw_g (lw_at lw_m6 13 rfl) rfl
theorem q1261 : (Jvm.Cond.constantLong "WordBenchModel" (193 : Nat) (-5 : Int64)) ∈ lw_all := lw_g (lw_at lw_m6 14 rfl) rfl
theorem q1262 : (Jvm.Cond.methodLink "WordBenchModel" (195 : Nat) ({ cls := "WordBenchModel", name := "weigh", desc := "(I)V" } : Jvm.MethodName)) ∈ lw_all := lw_g (lw_at lw_m6 15 rfl) rfl
theorem q1263 : (Jvm.Cond.privateMethod ({ cls := "WordBenchModel", name := "weigh", desc := "(I)V" } : Jvm.MethodName)) ∈ lw_tbl := lw_at lw_m6 16 rfl
theorem q1264 : (Jvm.Cond.instanceMethod ({ cls := "WordBenchModel", name := "weigh", desc := "(I)V" } : Jvm.MethodName)) ∈ lw_all := lw_g (lw_at lw_m6 17 rfl) rfl
theorem q1265 : (Jvm.Cond.code ({ cls := "WordBenchModel", name := "weigh", desc := "(I)V" } : Jvm.MethodName) prog_11_method_49_code (4 : Nat) (Option.none : Option Jvm.ClassFile.FieldType)) ∈ lw_all := lw_g (lw_at lw_m6 18 rfl) rfl
theorem q1267 : (Jvm.Cond.instanceMethod ({ cls := "WordBenchModel", name := "law", desc := "(II)J" } : Jvm.MethodName)) ∈ lw_all := lw_g (lw_at lw_m6 20 rfl) rfl
theorem q1268 : (Jvm.Cond.selects "WordBenchModel" ({ cls := "WordBenchModel", name := "law", desc := "(II)J" } : Jvm.MethodName) ({ cls := "WordBenchModel", name := "law", desc := "(II)J" } : Jvm.MethodName)) ∈ lw_all := lw_g (lw_at lw_m6 21 rfl) rfl
theorem q1269 : (Jvm.Cond.code ({ cls := "WordBenchModel", name := "law", desc := "(II)J" } : Jvm.MethodName) prog_11_method_53_code (6 : Nat) (Option.some Jvm.ClassFile.FieldType.long)) ∈ lw_all := lw_g (lw_at lw_m6 22 rfl) rfl
theorem q1270 : (Jvm.Cond.methodLink "WordBenchModel" (201 : Nat) ({ cls := "WordBenchModel", name := "turnsOf", desc := "(IIII)J" } : Jvm.MethodName)) ∈ lw_all := lw_g (lw_at lw_m6 23 rfl) rfl
theorem q1271 : (Jvm.Cond.static ({ cls := "WordBenchModel", name := "turnsOf", desc := "(IIII)J" } : Jvm.MethodName)) ∈ lw_all := lw_g (lw_at lw_m6 24 rfl) rfl
theorem q1272 : (Jvm.Cond.code ({ cls := "WordBenchModel", name := "turnsOf", desc := "(IIII)J" } : Jvm.MethodName) prog_11_method_52_code (7 : Nat) (Option.some Jvm.ClassFile.FieldType.long)) ∈ lw_all := lw_g (lw_at lw_m6 25 rfl) rfl
theorem q1273 : (Jvm.Cond.methodLink "WordBenchModel" (198 : Nat) ({ cls := "WordBenchModel", name := "choose", desc := "(II)J" } : Jvm.MethodName)) ∈ lw_all := lw_g (lw_at lw_m6 26 rfl) rfl
theorem q1274 : (Jvm.Cond.static ({ cls := "WordBenchModel", name := "choose", desc := "(II)J" } : Jvm.MethodName)) ∈ lw_all := lw_g (lw_at lw_m6 27 rfl) rfl
theorem q1275 : (Jvm.Cond.code ({ cls := "WordBenchModel", name := "choose", desc := "(II)J" } : Jvm.MethodName) prog_11_method_51_code (5 : Nat) (Option.some Jvm.ClassFile.FieldType.long)) ∈ lw_all := lw_g (lw_at lw_m6 28 rfl) rfl
theorem q1277 : (Jvm.Cond.instanceMethod ({ cls := "WordBenchModel", name := "beat", desc := "(I)I" } : Jvm.MethodName)) ∈ lw_all := lw_g (lw_at lw_m6 30 rfl) rfl
theorem q1278 : (Jvm.Cond.selects "WordBenchModel" ({ cls := "WordBenchModel", name := "beat", desc := "(I)I" } : Jvm.MethodName) ({ cls := "WordBenchModel", name := "beat", desc := "(I)I" } : Jvm.MethodName)) ∈ lw_all := lw_g (lw_at lw_m6 31 rfl) rfl
theorem q1279 : (Jvm.Cond.code ({ cls := "WordBenchModel", name := "beat", desc := "(I)I" } : Jvm.MethodName) prog_11_method_54_code (6 : Nat) (Option.some Jvm.ClassFile.FieldType.int)) ∈ lw_all := lw_g (lw_at lw_m6 32 rfl) rfl
theorem q1281 : (Jvm.Cond.instanceMethod ({ cls := "WordBenchModel", name := "bound", desc := "(IIII)J" } : Jvm.MethodName)) ∈ lw_all := lw_g (lw_at lw_m6 34 rfl) rfl
theorem q1282 : (Jvm.Cond.selects "WordBenchModel" ({ cls := "WordBenchModel", name := "bound", desc := "(IIII)J" } : Jvm.MethodName) ({ cls := "WordBenchModel", name := "bound", desc := "(IIII)J" } : Jvm.MethodName)) ∈ lw_all := lw_g (lw_at lw_m6 35 rfl) rfl
theorem q1283 : (Jvm.Cond.code ({ cls := "WordBenchModel", name := "bound", desc := "(IIII)J" } : Jvm.MethodName) prog_11_method_55_code (8 : Nat) (Option.some Jvm.ClassFile.FieldType.long)) ∈ lw_all := lw_g (lw_at lw_m6 36 rfl) rfl
theorem q1285 : (Jvm.Cond.instanceMethod ({ cls := "WordBenchModel", name := "read", desc := "(IJI)J" } : Jvm.MethodName)) ∈ lw_all := lw_g (lw_at lw_m6 38 rfl) rfl
theorem q1286 : (Jvm.Cond.selects "WordBenchModel" ({ cls := "WordBenchModel", name := "read", desc := "(IJI)J" } : Jvm.MethodName) ({ cls := "WordBenchModel", name := "read", desc := "(IJI)J" } : Jvm.MethodName)) ∈ lw_all := lw_g (lw_at lw_m6 39 rfl) rfl
theorem q1287 : (Jvm.Cond.code ({ cls := "WordBenchModel", name := "read", desc := "(IJI)J" } : Jvm.MethodName) prog_11_method_57_code (5 : Nat) (Option.some Jvm.ClassFile.FieldType.long)) ∈ lw_all := lw_g (lw_at lw_m6 40 rfl) rfl
theorem q1288 : (Jvm.Cond.constantLong "WordBenchModel" (212 : Nat) (-2 : Int64)) ∈ lw_all := lw_g (lw_at lw_m6 41 rfl) rfl
theorem q1289 : (Jvm.Cond.methodLink "WordBenchModel" (214 : Nat) ({ cls := "WordBenchModel", name := "nearest", desc := "(IJI)I" } : Jvm.MethodName)) ∈ lw_all := lw_g (lw_at lw_m6 42 rfl) rfl
theorem q1290 : (Jvm.Cond.privateMethod ({ cls := "WordBenchModel", name := "nearest", desc := "(IJI)I" } : Jvm.MethodName)) ∈ lw_tbl := lw_at lw_m6 43 rfl
theorem q1291 : (Jvm.Cond.instanceMethod ({ cls := "WordBenchModel", name := "nearest", desc := "(IJI)I" } : Jvm.MethodName)) ∈ lw_all := lw_g (lw_at lw_m6 44 rfl) rfl
theorem q1292 : (Jvm.Cond.code ({ cls := "WordBenchModel", name := "nearest", desc := "(IJI)I" } : Jvm.MethodName) prog_11_method_56_code (9 : Nat) (Option.some Jvm.ClassFile.FieldType.int)) ∈ lw_all := lw_g (lw_at lw_m6 45 rfl) rfl
theorem q1293 : (Jvm.Cond.methodLink "WordBenchModel" (205 : Nat) ({ cls := "WordBenchModel", name := "looksAt", desc := "(IJ)V" } : Jvm.MethodName)) ∈ lw_all := lw_g (lw_at lw_m6 46 rfl) rfl
theorem q1294 : (Jvm.Cond.privateMethod ({ cls := "WordBenchModel", name := "looksAt", desc := "(IJ)V" } : Jvm.MethodName)) ∈ lw_tbl := lw_at lw_m6 47 rfl
theorem q1295 : (Jvm.Cond.instanceMethod ({ cls := "WordBenchModel", name := "looksAt", desc := "(IJ)V" } : Jvm.MethodName)) ∈ lw_all := lw_g (lw_at lw_m6 48 rfl) rfl
theorem q1296 : (Jvm.Cond.code ({ cls := "WordBenchModel", name := "looksAt", desc := "(IJ)V" } : Jvm.MethodName) prog_11_method_43_code (7 : Nat) (Option.none : Option Jvm.ClassFile.FieldType)) ∈ lw_all := lw_g (lw_at lw_m6 49 rfl) rfl
theorem q1297 : (Jvm.Cond.methodLink "WordBenchModel" (209 : Nat) ({ cls := "WordBenchModel", name := "wayTo", desc := "(III)I" } : Jvm.MethodName)) ∈ lw_all := lw_g (lw_at lw_m6 50 rfl) rfl
theorem q1298 : (Jvm.Cond.privateMethod ({ cls := "WordBenchModel", name := "wayTo", desc := "(III)I" } : Jvm.MethodName)) ∈ lw_tbl := lw_at lw_m6 51 rfl
theorem q1299 : (Jvm.Cond.instanceMethod ({ cls := "WordBenchModel", name := "wayTo", desc := "(III)I" } : Jvm.MethodName)) ∈ lw_all := lw_g (lw_at lw_m6 52 rfl) rfl
theorem q1300 : (Jvm.Cond.code ({ cls := "WordBenchModel", name := "wayTo", desc := "(III)I" } : Jvm.MethodName) prog_11_method_44_code (6 : Nat) (Option.some Jvm.ClassFile.FieldType.int)) ∈ lw_all := lw_g (lw_at lw_m6 53 rfl) rfl
theorem q1302 : (Jvm.Cond.instanceMethod ({ cls := "WordBenchModel", name := "near", desc := "(IJI)I" } : Jvm.MethodName)) ∈ lw_all := lw_g (lw_at lw_m6 55 rfl) rfl
theorem q1303 : (Jvm.Cond.selects "WordBenchModel" ({ cls := "WordBenchModel", name := "near", desc := "(IJI)I" } : Jvm.MethodName) ({ cls := "WordBenchModel", name := "near", desc := "(IJI)I" } : Jvm.MethodName)) ∈ lw_all := lw_g (lw_at lw_m6 56 rfl) rfl
theorem q1304 : (Jvm.Cond.code ({ cls := "WordBenchModel", name := "near", desc := "(IJI)I" } : Jvm.MethodName) prog_11_method_59_code (5 : Nat) (Option.some Jvm.ClassFile.FieldType.int)) ∈ lw_all := lw_g (lw_at lw_m6 57 rfl) rfl
theorem q1305 : (Jvm.Cond.methodLink "WordBenchModel" (218 : Nat) ({ cls := "WordBenchModel", name := "nearOf", desc := "(IJI)I" } : Jvm.MethodName)) ∈ lw_all := lw_g (lw_at lw_m6 58 rfl) rfl
theorem q1306 : (Jvm.Cond.privateMethod ({ cls := "WordBenchModel", name := "nearOf", desc := "(IJI)I" } : Jvm.MethodName)) ∈ lw_tbl := lw_at lw_m6 59 rfl
theorem q1307 : (Jvm.Cond.instanceMethod ({ cls := "WordBenchModel", name := "nearOf", desc := "(IJI)I" } : Jvm.MethodName)) ∈ lw_all := lw_g (lw_at lw_m6 60 rfl) rfl
theorem q1308 : (Jvm.Cond.code ({ cls := "WordBenchModel", name := "nearOf", desc := "(IJI)I" } : Jvm.MethodName) prog_11_method_58_code (7 : Nat) (Option.some Jvm.ClassFile.FieldType.int)) ∈ lw_all := lw_g (lw_at lw_m6 61 rfl) rfl
theorem q1310 : (Jvm.Cond.instanceMethod ({ cls := "WordBenchModel", name := "cover", desc := "(I)I" } : Jvm.MethodName)) ∈ lw_all := lw_g (lw_at lw_m6 63 rfl) rfl
theorem q1311 : (Jvm.Cond.selects "WordBenchModel" ({ cls := "WordBenchModel", name := "cover", desc := "(I)I" } : Jvm.MethodName) ({ cls := "WordBenchModel", name := "cover", desc := "(I)I" } : Jvm.MethodName)) ∈ lw_all := lw_g (lw_at lw_m6 64 rfl) rfl
theorem q1312 : (Jvm.Cond.code ({ cls := "WordBenchModel", name := "cover", desc := "(I)I" } : Jvm.MethodName) prog_11_method_61_code (3 : Nat) (Option.some Jvm.ClassFile.FieldType.int)) ∈ lw_all := lw_g (lw_at lw_m6 65 rfl) rfl
theorem q1313 : (Jvm.Cond.methodLink "WordBenchModel" (230 : Nat) ({ cls := "WordBenchModel", name := "covers", desc := "(I)I" } : Jvm.MethodName)) ∈ lw_all := lw_g (lw_at lw_m6 66 rfl) rfl
theorem q1314 : (Jvm.Cond.privateMethod ({ cls := "WordBenchModel", name := "covers", desc := "(I)I" } : Jvm.MethodName)) ∈ lw_tbl := lw_at lw_m6 67 rfl
theorem q1315 : (Jvm.Cond.instanceMethod ({ cls := "WordBenchModel", name := "covers", desc := "(I)I" } : Jvm.MethodName)) ∈ lw_all := lw_g (lw_at lw_m6 68 rfl) rfl
theorem q1316 : (Jvm.Cond.code ({ cls := "WordBenchModel", name := "covers", desc := "(I)I" } : Jvm.MethodName) prog_11_method_60_code (5 : Nat) (Option.some Jvm.ClassFile.FieldType.int)) ∈ lw_all := lw_g (lw_at lw_m6 69 rfl) rfl
theorem q1317 : (Jvm.Cond.constantLong "WordBenchModel" (221 : Nat) (1024 : Int64)) ∈ lw_all := lw_g (lw_at lw_m6 70 rfl) rfl
theorem q1319 : (Jvm.Cond.instanceMethod ({ cls := "WordBenchModel", name := "hole", desc := "(I)J" } : Jvm.MethodName)) ∈ lw_all := lw_g (lw_at lw_m6 72 rfl) rfl
theorem q1320 : (Jvm.Cond.selects "WordBenchModel" ({ cls := "WordBenchModel", name := "hole", desc := "(I)J" } : Jvm.MethodName) ({ cls := "WordBenchModel", name := "hole", desc := "(I)J" } : Jvm.MethodName)) ∈ lw_all := lw_g (lw_at lw_m6 73 rfl) rfl
theorem q1321 : (Jvm.Cond.code ({ cls := "WordBenchModel", name := "hole", desc := "(I)J" } : Jvm.MethodName) prog_11_method_62_code (3 : Nat) (Option.some Jvm.ClassFile.FieldType.long)) ∈ lw_all := lw_g (lw_at lw_m6 74 rfl) rfl
theorem q1323 : (Jvm.Cond.instanceMethod ({ cls := "WordBenchModel", name := "whole", desc := "(I)I" } : Jvm.MethodName)) ∈ lw_all := lw_g (lw_at lw_m6 76 rfl) rfl
theorem q1324 : (Jvm.Cond.selects "WordBenchModel" ({ cls := "WordBenchModel", name := "whole", desc := "(I)I" } : Jvm.MethodName) ({ cls := "WordBenchModel", name := "whole", desc := "(I)I" } : Jvm.MethodName)) ∈ lw_all := lw_g (lw_at lw_m6 77 rfl) rfl
theorem q1325 : (Jvm.Cond.code ({ cls := "WordBenchModel", name := "whole", desc := "(I)I" } : Jvm.MethodName) prog_11_method_63_code (5 : Nat) (Option.some Jvm.ClassFile.FieldType.int)) ∈ lw_all := lw_g (lw_at lw_m6 78 rfl) rfl
theorem q1327 : (Jvm.Cond.instanceMethod ({ cls := "WordBenchModel", name := "longer", desc := "(II)I" } : Jvm.MethodName)) ∈ lw_all := lw_g (lw_at lw_m6 80 rfl) rfl
theorem q1328 : (Jvm.Cond.selects "WordBenchModel" ({ cls := "WordBenchModel", name := "longer", desc := "(II)I" } : Jvm.MethodName) ({ cls := "WordBenchModel", name := "longer", desc := "(II)I" } : Jvm.MethodName)) ∈ lw_all := lw_g (lw_at lw_m6 81 rfl) rfl
theorem q1329 : (Jvm.Cond.code ({ cls := "WordBenchModel", name := "longer", desc := "(II)I" } : Jvm.MethodName) prog_11_method_66_code (7 : Nat) (Option.some Jvm.ClassFile.FieldType.int)) ∈ lw_all := lw_g (lw_at lw_m6 82 rfl) rfl
theorem q1330 : (Jvm.Cond.methodLink "WordBenchModel" (236 : Nat) ({ cls := "WordBenchModel", name := "lineOr", desc := "(I)I" } : Jvm.MethodName)) ∈ lw_all := lw_g (lw_at lw_m6 83 rfl) rfl
theorem q1331 : (Jvm.Cond.privateMethod ({ cls := "WordBenchModel", name := "lineOr", desc := "(I)I" } : Jvm.MethodName)) ∈ lw_tbl := lw_at lw_m6 84 rfl
theorem q1332 : (Jvm.Cond.instanceMethod ({ cls := "WordBenchModel", name := "lineOr", desc := "(I)I" } : Jvm.MethodName)) ∈ lw_all := lw_g (lw_at lw_m6 85 rfl) rfl
theorem q1333 : (Jvm.Cond.code ({ cls := "WordBenchModel", name := "lineOr", desc := "(I)I" } : Jvm.MethodName) prog_11_method_65_code (2 : Nat) (Option.some Jvm.ClassFile.FieldType.int)) ∈ lw_all := lw_g (lw_at lw_m6 86 rfl) rfl
theorem q1334 : (Jvm.Cond.methodLink "WordBenchModel" (239 : Nat) ({ cls := "WordBenchModel", name := "comes", desc := "(IIII)I" } : Jvm.MethodName)) ∈ lw_all := lw_g (lw_at lw_m6 87 rfl) rfl
theorem q1335 : (Jvm.Cond.privateMethod ({ cls := "WordBenchModel", name := "comes", desc := "(IIII)I" } : Jvm.MethodName)) ∈ lw_tbl := lw_at lw_m6 88 rfl
theorem q1336 : (Jvm.Cond.instanceMethod ({ cls := "WordBenchModel", name := "comes", desc := "(IIII)I" } : Jvm.MethodName)) ∈ lw_all := lw_g (lw_at lw_m6 89 rfl) rfl
theorem q1337 : (Jvm.Cond.code ({ cls := "WordBenchModel", name := "comes", desc := "(IIII)I" } : Jvm.MethodName) prog_11_method_64_code (7 : Nat) (Option.some Jvm.ClassFile.FieldType.int)) ∈ lw_all := lw_g (lw_at lw_m6 90 rfl) rfl
theorem q1339 : (Jvm.Cond.instanceMethod ({ cls := "WordBenchModel", name := "cut", desc := "(III)I" } : Jvm.MethodName)) ∈ lw_all := lw_g (lw_at lw_m6 92 rfl) rfl
theorem q1340 : (Jvm.Cond.selects "WordBenchModel" ({ cls := "WordBenchModel", name := "cut", desc := "(III)I" } : Jvm.MethodName) ({ cls := "WordBenchModel", name := "cut", desc := "(III)I" } : Jvm.MethodName)) ∈ lw_all := lw_g (lw_at lw_m6 93 rfl) rfl
theorem q1341 : (Jvm.Cond.code ({ cls := "WordBenchModel", name := "cut", desc := "(III)I" } : Jvm.MethodName) prog_11_method_70_code (5 : Nat) (Option.some Jvm.ClassFile.FieldType.int)) ∈ lw_all := lw_g (lw_at lw_m6 94 rfl) rfl
theorem q1342 : (Jvm.Cond.methodLink "WordBenchModel" (243 : Nat) ({ cls := "WordBenchModel", name := "lacksPlace", desc := "(III)I" } : Jvm.MethodName)) ∈ lw_all := lw_g (lw_at lw_m6 95 rfl) rfl
theorem q1343 : (Jvm.Cond.privateMethod ({ cls := "WordBenchModel", name := "lacksPlace", desc := "(III)I" } : Jvm.MethodName)) ∈ lw_tbl := lw_at lw_m6 96 rfl
theorem q1344 : (Jvm.Cond.instanceMethod ({ cls := "WordBenchModel", name := "lacksPlace", desc := "(III)I" } : Jvm.MethodName)) ∈ lw_all := lw_g (lw_at lw_m6 97 rfl) rfl
theorem q1345 : (Jvm.Cond.code ({ cls := "WordBenchModel", name := "lacksPlace", desc := "(III)I" } : Jvm.MethodName) prog_11_method_69_code (4 : Nat) (Option.some Jvm.ClassFile.FieldType.int)) ∈ lw_all := lw_g (lw_at lw_m6 98 rfl) rfl
theorem q1346 : (Jvm.Cond.methodLink "WordBenchModel" (246 : Nat) ({ cls := "WordBenchModel", name := "without", desc := "(IIJI)J" } : Jvm.MethodName)) ∈ lw_all := lw_g (lw_at lw_m6 99 rfl) rfl
theorem q1347 : (Jvm.Cond.static ({ cls := "WordBenchModel", name := "without", desc := "(IIJI)J" } : Jvm.MethodName)) ∈ lw_all := lw_g (lw_at lw_m6 100 rfl) rfl
theorem q1348 : (Jvm.Cond.code ({ cls := "WordBenchModel", name := "without", desc := "(IIJI)J" } : Jvm.MethodName) prog_11_method_67_code (7 : Nat) (Option.some Jvm.ClassFile.FieldType.long)) ∈ lw_all := lw_g (lw_at lw_m6 101 rfl) rfl
theorem q1349 : (Jvm.Cond.methodLink "WordBenchModel" (250 : Nat) ({ cls := "WordBenchModel", name := "asideOnce", desc := "(JZ)V" } : Jvm.MethodName)) ∈ lw_all := lw_g (lw_at lw_m6 102 rfl) rfl
theorem q1350 : (Jvm.Cond.privateMethod ({ cls := "WordBenchModel", name := "asideOnce", desc := "(JZ)V" } : Jvm.MethodName)) ∈ lw_tbl := lw_at lw_m6 103 rfl
theorem q1351 : (Jvm.Cond.instanceMethod ({ cls := "WordBenchModel", name := "asideOnce", desc := "(JZ)V" } : Jvm.MethodName)) ∈ lw_all := lw_g (lw_at lw_m6 104 rfl) rfl
theorem q1352 : (Jvm.Cond.code ({ cls := "WordBenchModel", name := "asideOnce", desc := "(JZ)V" } : Jvm.MethodName) prog_11_method_68_code (5 : Nat) (Option.none : Option Jvm.ClassFile.FieldType)) ∈ lw_all := lw_g (lw_at lw_m6 105 rfl) rfl
theorem q1354 : (Jvm.Cond.instanceMethod ({ cls := "WordBenchModel", name := "shorter", desc := "(III)I" } : Jvm.MethodName)) ∈ lw_all := lw_g (lw_at lw_m6 107 rfl) rfl
theorem q1355 : (Jvm.Cond.selects "WordBenchModel" ({ cls := "WordBenchModel", name := "shorter", desc := "(III)I" } : Jvm.MethodName) ({ cls := "WordBenchModel", name := "shorter", desc := "(III)I" } : Jvm.MethodName)) ∈ lw_all := lw_g (lw_at lw_m6 108 rfl) rfl
theorem q1356 : (Jvm.Cond.code ({ cls := "WordBenchModel", name := "shorter", desc := "(III)I" } : Jvm.MethodName) prog_11_method_71_code (14 : Nat) (Option.some Jvm.ClassFile.FieldType.int)) ∈ lw_all := lw_g (lw_at lw_m6 109 rfl) rfl
theorem q1358 : (Jvm.Cond.instanceMethod ({ cls := "WordBenchModel", name := "join", desc := "(IIII)I" } : Jvm.MethodName)) ∈ lw_all := lw_g (lw_at lw_m6 111 rfl) rfl
theorem q1359 : (Jvm.Cond.selects "WordBenchModel" ({ cls := "WordBenchModel", name := "join", desc := "(IIII)I" } : Jvm.MethodName) ({ cls := "WordBenchModel", name := "join", desc := "(IIII)I" } : Jvm.MethodName)) ∈ lw_all := lw_g (lw_at lw_m6 112 rfl) rfl
theorem q1360 : (Jvm.Cond.code ({ cls := "WordBenchModel", name := "join", desc := "(IIII)I" } : Jvm.MethodName) prog_11_method_73_code (12 : Nat) (Option.some Jvm.ClassFile.FieldType.int)) ∈ lw_all := lw_g (lw_at lw_m6 113 rfl) rfl
theorem q1361 : (Jvm.Cond.methodLink "WordBenchModel" (254 : Nat) ({ cls := "WordBenchModel", name := "lacksLine", desc := "(I)I" } : Jvm.MethodName)) ∈ lw_all := lw_g (lw_at lw_m6 114 rfl) rfl
theorem q1362 : (Jvm.Cond.privateMethod ({ cls := "WordBenchModel", name := "lacksLine", desc := "(I)I" } : Jvm.MethodName)) ∈ lw_tbl := lw_at lw_m6 115 rfl
theorem q1363 : (Jvm.Cond.instanceMethod ({ cls := "WordBenchModel", name := "lacksLine", desc := "(I)I" } : Jvm.MethodName)) ∈ lw_all := lw_g (lw_at lw_m6 116 rfl) rfl
theorem q1364 : (Jvm.Cond.code ({ cls := "WordBenchModel", name := "lacksLine", desc := "(I)I" } : Jvm.MethodName) prog_11_method_72_code (2 : Nat) (Option.some Jvm.ClassFile.FieldType.int)) ∈ lw_all := lw_g (lw_at lw_m6 117 rfl) rfl
theorem q1366 : (Jvm.Cond.instanceMethod ({ cls := "WordBenchModel", name := "list", desc := "(II)I" } : Jvm.MethodName)) ∈ lw_all := lw_g (lw_at lw_m6 119 rfl) rfl
theorem q1367 : (Jvm.Cond.selects "WordBenchModel" ({ cls := "WordBenchModel", name := "list", desc := "(II)I" } : Jvm.MethodName) ({ cls := "WordBenchModel", name := "list", desc := "(II)I" } : Jvm.MethodName)) ∈ lw_all := lw_g (lw_at lw_m6 120 rfl) rfl
theorem q1368 : (Jvm.Cond.code ({ cls := "WordBenchModel", name := "list", desc := "(II)I" } : Jvm.MethodName) prog_11_method_74_code (4 : Nat) (Option.some Jvm.ClassFile.FieldType.int)) ∈ lw_all := lw_g (lw_at lw_m6 121 rfl) rfl
theorem q1370 : (Jvm.Cond.instanceMethod ({ cls := "WordBenchModel", name := "turn", desc := "(IJII)I" } : Jvm.MethodName)) ∈ lw_all := lw_g (lw_at lw_m6 123 rfl) rfl
theorem q1371 : (Jvm.Cond.selects "WordBenchModel" ({ cls := "WordBenchModel", name := "turn", desc := "(IJII)I" } : Jvm.MethodName) ({ cls := "WordBenchModel", name := "turn", desc := "(IJII)I" } : Jvm.MethodName)) ∈ lw_all := lw_g (lw_at lw_m6 124 rfl) rfl
theorem q1372 : (Jvm.Cond.code ({ cls := "WordBenchModel", name := "turn", desc := "(IJII)I" } : Jvm.MethodName) prog_11_method_75_code (13 : Nat) (Option.some Jvm.ClassFile.FieldType.int)) ∈ lw_all := lw_g (lw_at lw_m6 125 rfl) rfl
theorem q1373 : (Jvm.Cond.constantLong "WordBenchModel" (257 : Nat) (15 : Int64)) ∈ lw_all := lw_g (lw_at lw_m6 126 rfl) rfl
theorem q1375 : (Jvm.Cond.instanceMethod ({ cls := "WordBenchModel", name := "same", desc := "(II)I" } : Jvm.MethodName)) ∈ lw_all := lw_g (lw_at lw_m6 128 rfl) rfl
theorem q1376 : (Jvm.Cond.selects "WordBenchModel" ({ cls := "WordBenchModel", name := "same", desc := "(II)I" } : Jvm.MethodName) ({ cls := "WordBenchModel", name := "same", desc := "(II)I" } : Jvm.MethodName)) ∈ lw_all := lw_g (lw_at lw_m6 129 rfl) rfl
theorem q1377 : (Jvm.Cond.code ({ cls := "WordBenchModel", name := "same", desc := "(II)I" } : Jvm.MethodName) prog_11_method_77_code (6 : Nat) (Option.some Jvm.ClassFile.FieldType.int)) ∈ lw_all := lw_g (lw_at lw_m6 130 rfl) rfl
theorem q1378 : (Jvm.Cond.methodLink "WordBenchModel" (259 : Nat) ({ cls := "WordBenchModel", name := "hasAll", desc := "(I)Z" } : Jvm.MethodName)) ∈ lw_all := lw_g (lw_at lw_m6 131 rfl) rfl
theorem q1379 : (Jvm.Cond.privateMethod ({ cls := "WordBenchModel", name := "hasAll", desc := "(I)Z" } : Jvm.MethodName)) ∈ lw_tbl := lw_at lw_m6 132 rfl
theorem q1380 : (Jvm.Cond.instanceMethod ({ cls := "WordBenchModel", name := "hasAll", desc := "(I)Z" } : Jvm.MethodName)) ∈ lw_all := lw_g (lw_at lw_m6 133 rfl) rfl
theorem q1381 : (Jvm.Cond.code ({ cls := "WordBenchModel", name := "hasAll", desc := "(I)Z" } : Jvm.MethodName) prog_11_method_76_code (3 : Nat) (Option.some Jvm.ClassFile.FieldType.boolean)) ∈ lw_all := lw_g (lw_at lw_m6 134 rfl) rfl
theorem q1383 : (Jvm.Cond.instanceMethod ({ cls := "WordBenchModel", name := "design", desc := "(III)I" } : Jvm.MethodName)) ∈ lw_all := lw_g (lw_at lw_m6 136 rfl) rfl
theorem q1384 : (Jvm.Cond.selects "WordBenchModel" ({ cls := "WordBenchModel", name := "design", desc := "(III)I" } : Jvm.MethodName) ({ cls := "WordBenchModel", name := "design", desc := "(III)I" } : Jvm.MethodName)) ∈ lw_all := lw_g (lw_at lw_m6 137 rfl) rfl
theorem q1385 : (Jvm.Cond.code ({ cls := "WordBenchModel", name := "design", desc := "(III)I" } : Jvm.MethodName) prog_11_method_78_code (9 : Nat) (Option.some Jvm.ClassFile.FieldType.int)) ∈ lw_all := lw_g (lw_at lw_m6 138 rfl) rfl
theorem q1387 : (Jvm.Cond.instanceMethod ({ cls := "WordBenchModel", name := "keep", desc := "(IIII)I" } : Jvm.MethodName)) ∈ lw_all := lw_g (lw_at lw_m6 140 rfl) rfl
theorem q1388 : (Jvm.Cond.selects "WordBenchModel" ({ cls := "WordBenchModel", name := "keep", desc := "(IIII)I" } : Jvm.MethodName) ({ cls := "WordBenchModel", name := "keep", desc := "(IIII)I" } : Jvm.MethodName)) ∈ lw_all := lw_g (lw_at lw_m6 141 rfl) rfl
theorem q1389 : (Jvm.Cond.code ({ cls := "WordBenchModel", name := "keep", desc := "(IIII)I" } : Jvm.MethodName) prog_11_method_80_code (6 : Nat) (Option.some Jvm.ClassFile.FieldType.int)) ∈ lw_all := lw_g (lw_at lw_m6 142 rfl) rfl
theorem q1390 : (Jvm.Cond.methodLink "WordBenchModel" (262 : Nat) ({ cls := "WordBenchModel", name := "isShelf", desc := "(I)Z" } : Jvm.MethodName)) ∈ lw_all := lw_g (lw_at lw_m6 143 rfl) rfl
theorem q1391 : (Jvm.Cond.static ({ cls := "WordBenchModel", name := "isShelf", desc := "(I)Z" } : Jvm.MethodName)) ∈ lw_all := lw_g (lw_at lw_m6 144 rfl) rfl
theorem q1392 : (Jvm.Cond.code ({ cls := "WordBenchModel", name := "isShelf", desc := "(I)Z" } : Jvm.MethodName) prog_11_method_79_code (1 : Nat) (Option.some Jvm.ClassFile.FieldType.boolean)) ∈ lw_all := lw_g (lw_at lw_m6 145 rfl) rfl
theorem q1394 : (Jvm.Cond.instanceMethod ({ cls := "WordBenchModel", name := "row", desc := "(III)I" } : Jvm.MethodName)) ∈ lw_all := lw_g (lw_at lw_m6 147 rfl) rfl
theorem q1395 : (Jvm.Cond.selects "WordBenchModel" ({ cls := "WordBenchModel", name := "row", desc := "(III)I" } : Jvm.MethodName) ({ cls := "WordBenchModel", name := "row", desc := "(III)I" } : Jvm.MethodName)) ∈ lw_all := lw_g (lw_at lw_m6 148 rfl) rfl
theorem q1396 : (Jvm.Cond.code ({ cls := "WordBenchModel", name := "row", desc := "(III)I" } : Jvm.MethodName) prog_11_method_81_code (5 : Nat) (Option.some Jvm.ClassFile.FieldType.int)) ∈ lw_all := lw_g (lw_at lw_m6 149 rfl) rfl
theorem q1398 : (Jvm.Cond.instanceMethod ({ cls := "WordBenchModel", name := "element", desc := "(II)J" } : Jvm.MethodName)) ∈ lw_all := lw_g (lw_at lw_m6 151 rfl) rfl
theorem q1399 : (Jvm.Cond.selects "WordBenchModel" ({ cls := "WordBenchModel", name := "element", desc := "(II)J" } : Jvm.MethodName) ({ cls := "WordBenchModel", name := "element", desc := "(II)J" } : Jvm.MethodName)) ∈ lw_all := lw_g (lw_at lw_m6 152 rfl) rfl
theorem q1400 : (Jvm.Cond.code ({ cls := "WordBenchModel", name := "element", desc := "(II)J" } : Jvm.MethodName) prog_11_method_82_code (3 : Nat) (Option.some Jvm.ClassFile.FieldType.long)) ∈ lw_all := lw_g (lw_at lw_m6 153 rfl) rfl
theorem q1402 : (Jvm.Cond.instanceMethod ({ cls := "WordBenchModel", name := "copy", desc := "(IIIII)I" } : Jvm.MethodName)) ∈ lw_all := lw_g (lw_at lw_m6 155 rfl) rfl
theorem q1403 : (Jvm.Cond.selects "WordBenchModel" ({ cls := "WordBenchModel", name := "copy", desc := "(IIIII)I" } : Jvm.MethodName) ({ cls := "WordBenchModel", name := "copy", desc := "(IIIII)I" } : Jvm.MethodName)) ∈ lw_all := lw_g (lw_at lw_m6 156 rfl) rfl
theorem q1404 : (Jvm.Cond.code ({ cls := "WordBenchModel", name := "copy", desc := "(IIIII)I" } : Jvm.MethodName) prog_11_method_83_code (7 : Nat) (Option.some Jvm.ClassFile.FieldType.int)) ∈ lw_all := lw_g (lw_at lw_m6 157 rfl) rfl
theorem q1406 : (Jvm.Cond.instanceMethod ({ cls := "WordBenchModel", name := "heft", desc := "(I)I" } : Jvm.MethodName)) ∈ lw_all := lw_g (lw_at lw_m6 159 rfl) rfl
theorem q1407 : (Jvm.Cond.selects "WordBenchModel" ({ cls := "WordBenchModel", name := "heft", desc := "(I)I" } : Jvm.MethodName) ({ cls := "WordBenchModel", name := "heft", desc := "(I)I" } : Jvm.MethodName)) ∈ lw_all := lw_g (lw_at lw_m6 160 rfl) rfl
theorem q1408 : (Jvm.Cond.code ({ cls := "WordBenchModel", name := "heft", desc := "(I)I" } : Jvm.MethodName) prog_11_method_85_code (3 : Nat) (Option.some Jvm.ClassFile.FieldType.int)) ∈ lw_all := lw_g (lw_at lw_m6 161 rfl) rfl
theorem q1409 : (Jvm.Cond.methodLink "WordBenchModel" (265 : Nat) ({ cls := "WordBenchModel", name := "lacksCode", desc := "(I)I" } : Jvm.MethodName)) ∈ lw_all := lw_g (lw_at lw_m6 162 rfl) rfl
theorem q1410 : (Jvm.Cond.privateMethod ({ cls := "WordBenchModel", name := "lacksCode", desc := "(I)I" } : Jvm.MethodName)) ∈ lw_tbl := lw_at lw_m6 163 rfl
theorem q1411 : (Jvm.Cond.instanceMethod ({ cls := "WordBenchModel", name := "lacksCode", desc := "(I)I" } : Jvm.MethodName)) ∈ lw_all := lw_g (lw_at lw_m6 164 rfl) rfl
theorem q1412 : (Jvm.Cond.code ({ cls := "WordBenchModel", name := "lacksCode", desc := "(I)I" } : Jvm.MethodName) prog_11_method_84_code (2 : Nat) (Option.some Jvm.ClassFile.FieldType.int)) ∈ lw_all := lw_g (lw_at lw_m6 165 rfl) rfl
theorem q1414 : (Jvm.Cond.instanceMethod ({ cls := "WordBenchModel", name := "toss", desc := "(I)I" } : Jvm.MethodName)) ∈ lw_all := lw_g (lw_at lw_m6 167 rfl) rfl
theorem q1415 : (Jvm.Cond.selects "WordBenchModel" ({ cls := "WordBenchModel", name := "toss", desc := "(I)I" } : Jvm.MethodName) ({ cls := "WordBenchModel", name := "toss", desc := "(I)I" } : Jvm.MethodName)) ∈ lw_all := lw_g (lw_at lw_m6 168 rfl) rfl
theorem q1416 : (Jvm.Cond.code ({ cls := "WordBenchModel", name := "toss", desc := "(I)I" } : Jvm.MethodName) prog_11_method_86_code (2 : Nat) (Option.some Jvm.ClassFile.FieldType.int)) ∈ lw_all := lw_g (lw_at lw_m6 169 rfl) rfl
theorem q1432 : (Jvm.Cond.castable "WordBenchModel" "java/lang/Object") ∈ lw_tbl := lw_at lw_m6 185 rfl
theorem in_X3 : ∀ w ∈ wsX30, w ∈ lw_all := lw_in wsX30 [1083, 1085, 1087, 1089, 1091, 1093, 1095, 1097, 1099, 1101, 1103, 1105, 1107, 1109, 1111, 1113, 1115, 1117, 1119, 1121, 1123, 1125, 1127, 1129] (by decide +kernel) (by decide +kernel)
