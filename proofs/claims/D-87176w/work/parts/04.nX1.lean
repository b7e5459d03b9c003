/-! WordBench -/
set_option maxRecDepth 100000
def RX1 : String := "WordBench"
def TX1 : u_T := fun k => match k with
  | 0 => ("WordBench", "codes", "[LWordBench$Code;", true)
  | 1 => ("WordBench", "words", "[J", true)
  | 2 => ("WordBench", "wordCount", "I", false)
  | 3 => ("WordBench", "counts", "[J", true)
  | 4 => ("WordBench", "firstHole", "J", false)
  | _ => ("WordBench", "shelves", "Ljava/util/ArrayList;", true)
def tyX1 : Nat → FieldType := fun k => match k with
  | 0 => .array (.object "WordBench$Code")
  | 1 => .array .long
  | 2 => .int
  | 3 => .array .long
  | 4 => .long
  | _ => .object "java/util/ArrayList"
abbrev wsX10 : List Cond := u_ws RX1 TX1 6
theorem nmX1 : ∀ a, a < 6 → ∀ b, b < 6 → a ≠ b → (TX1 a).2.1 ≠ (TX1 b).2.1 := by decide +kernel
theorem tyX1_ok : ∀ k, k < 6 → parseFieldDescriptor (TX1 k).2.2.1 = some (tyX1 k) := by decide +kernel
abbrev cX1_make : ByteArray := prog_1_method_17_code
def yX1_make : MethodName := ⟨RX1, "make", "(IIII)I"⟩
def dkwX1_make_3 : List UInt8 := [89, 29, 21, 4, 183, 0, 55, 182, 0, 56, 172]
abbrev dktX1_make_3 : List UInt8 := dkwX1_make_3 ++ []
def dkwX1_make_2 : List UInt8 := [167, 0, 31, 28, 4, 160, 0, 16, 187, 0, 50, 89, 29, 21, 4, 183, 0, 52, 167, 0, 13, 187, 0, 53]
abbrev dktX1_make_2 : List UInt8 := dkwX1_make_2 ++ dktX1_make_3
def dkwX1_make_1 : List UInt8 := [184, 0, 40, 154, 0, 5, 2, 172, 42, 27, 28, 154, 0, 16, 187, 0, 44, 89, 29, 21, 4, 183, 0, 46]
abbrev dktX1_make_1 : List UInt8 := dkwX1_make_1 ++ dktX1_make_2
def dkwX1_make_0 : List UInt8 := [27, 184, 0, 36, 153, 0, 26, 28, 153, 0, 13, 28, 4, 159, 0, 8, 28, 6, 160, 0, 12, 29, 21, 4]
abbrev dktX1_make_0 : List UInt8 := dkwX1_make_0 ++ dktX1_make_1
theorem dksX1_make_0 : cX1_make.data.toList.drop 0 = dktX1_make_0 := by decide +kernel
theorem dksX1_make_1 : cX1_make.data.toList.drop 24 = dktX1_make_1 := dk_seg dksX1_make_0 24 rfl rfl
theorem dksX1_make_2 : cX1_make.data.toList.drop 48 = dktX1_make_2 := dk_seg dksX1_make_1 24 rfl rfl
theorem dksX1_make_3 : cX1_make.data.toList.drop 72 = dktX1_make_3 := dk_seg dksX1_make_2 24 rfl rfl
theorem dX1_make_0 : decode cX1_make 0 = .ok (.iload_n 1, 1) := dk_27 (dk_at dksX1_make_0 0 rfl rfl)
theorem dX1_make_1 : decode cX1_make 1 = .ok (.invokestatic 36, 3) := dk_184 0 36 (dk_at dksX1_make_0 1 rfl rfl)
theorem dX1_make_4 : decode cX1_make 4 = .ok (.ifCond .eq 26, 3) := dk_153 0 26 (dk_at dksX1_make_0 4 rfl rfl)
theorem dX1_make_7 : decode cX1_make 7 = .ok (.iload_n 2, 1) := dk_28 (dk_at dksX1_make_0 7 rfl rfl)
theorem dX1_make_8 : decode cX1_make 8 = .ok (.ifCond .eq 13, 3) := dk_153 0 13 (dk_at dksX1_make_0 8 rfl rfl)
theorem dX1_make_11 : decode cX1_make 11 = .ok (.iload_n 2, 1) := dk_28 (dk_at dksX1_make_0 11 rfl rfl)
theorem dX1_make_12 : decode cX1_make 12 = .ok (.iconst 1, 1) := dk_4 (dk_at dksX1_make_0 12 rfl rfl)
theorem dX1_make_13 : decode cX1_make 13 = .ok (.if_icmp .eq 8, 3) := dk_159 0 8 (dk_at dksX1_make_0 13 rfl rfl)
theorem dX1_make_16 : decode cX1_make 16 = .ok (.iload_n 2, 1) := dk_28 (dk_at dksX1_make_0 16 rfl rfl)
theorem dX1_make_17 : decode cX1_make 17 = .ok (.iconst 3, 1) := dk_6 (dk_at dksX1_make_0 17 rfl rfl)
theorem dX1_make_18 : decode cX1_make 18 = .ok (.if_icmp .ne 12, 3) := dk_160 0 12 (dk_at dksX1_make_0 18 rfl rfl)
theorem dX1_make_21 : decode cX1_make 21 = .ok (.iload_n 3, 1) := dk_29 (dk_at dksX1_make_0 21 rfl rfl)
theorem dX1_make_22 : decode cX1_make 22 = .ok (.iload 4, 2) := dk_21 4 (dk_at dksX1_make_0 22 rfl rfl)
theorem dX1_make_24 : decode cX1_make 24 = .ok (.invokestatic 40, 3) := dk_184 0 40 (dk_at dksX1_make_1 0 rfl rfl)
theorem dX1_make_27 : decode cX1_make 27 = .ok (.ifCond .ne 5, 3) := dk_154 0 5 (dk_at dksX1_make_1 3 rfl rfl)
theorem dX1_make_30 : decode cX1_make 30 = .ok (.iconst (-1), 1) := dk_2 (dk_at dksX1_make_1 6 rfl rfl)
theorem dX1_make_31 : decode cX1_make 31 = .ok (.ireturn, 1) := dk_172 (dk_at dksX1_make_1 7 rfl rfl)
theorem dX1_make_32 : decode cX1_make 32 = .ok (.aload_n 0, 1) := dk_42 (dk_at dksX1_make_1 8 rfl rfl)
theorem dX1_make_33 : decode cX1_make 33 = .ok (.iload_n 1, 1) := dk_27 (dk_at dksX1_make_1 9 rfl rfl)
theorem dX1_make_34 : decode cX1_make 34 = .ok (.iload_n 2, 1) := dk_28 (dk_at dksX1_make_1 10 rfl rfl)
theorem dX1_make_35 : decode cX1_make 35 = .ok (.ifCond .ne 16, 3) := dk_154 0 16 (dk_at dksX1_make_1 11 rfl rfl)
theorem dX1_make_38 : decode cX1_make 38 = .ok (.new 44, 3) := dk_187 0 44 (dk_at dksX1_make_1 14 rfl rfl)
theorem dX1_make_41 : decode cX1_make 41 = .ok (.dup, 1) := dk_89 (dk_at dksX1_make_1 17 rfl rfl)
theorem dX1_make_42 : decode cX1_make 42 = .ok (.iload_n 3, 1) := dk_29 (dk_at dksX1_make_1 18 rfl rfl)
theorem dX1_make_43 : decode cX1_make 43 = .ok (.iload 4, 2) := dk_21 4 (dk_at dksX1_make_1 19 rfl rfl)
theorem dX1_make_45 : decode cX1_make 45 = .ok (.invokespecial 46, 3) := dk_183 0 46 (dk_at dksX1_make_1 21 rfl rfl)
theorem dX1_make_48 : decode cX1_make 48 = .ok (.goto 31, 3) := dk_167 0 31 (dk_at dksX1_make_2 0 rfl rfl)
theorem dX1_make_51 : decode cX1_make 51 = .ok (.iload_n 2, 1) := dk_28 (dk_at dksX1_make_2 3 rfl rfl)
theorem dX1_make_52 : decode cX1_make 52 = .ok (.iconst 1, 1) := dk_4 (dk_at dksX1_make_2 4 rfl rfl)
theorem dX1_make_53 : decode cX1_make 53 = .ok (.if_icmp .ne 16, 3) := dk_160 0 16 (dk_at dksX1_make_2 5 rfl rfl)
theorem dX1_make_56 : decode cX1_make 56 = .ok (.new 50, 3) := dk_187 0 50 (dk_at dksX1_make_2 8 rfl rfl)
theorem dX1_make_59 : decode cX1_make 59 = .ok (.dup, 1) := dk_89 (dk_at dksX1_make_2 11 rfl rfl)
theorem dX1_make_60 : decode cX1_make 60 = .ok (.iload_n 3, 1) := dk_29 (dk_at dksX1_make_2 12 rfl rfl)
theorem dX1_make_61 : decode cX1_make 61 = .ok (.iload 4, 2) := dk_21 4 (dk_at dksX1_make_2 13 rfl rfl)
theorem dX1_make_63 : decode cX1_make 63 = .ok (.invokespecial 52, 3) := dk_183 0 52 (dk_at dksX1_make_2 15 rfl rfl)
theorem dX1_make_66 : decode cX1_make 66 = .ok (.goto 13, 3) := dk_167 0 13 (dk_at dksX1_make_2 18 rfl rfl)
theorem dX1_make_69 : decode cX1_make 69 = .ok (.new 53, 3) := dk_187 0 53 (dk_at dksX1_make_2 21 rfl rfl)
theorem dX1_make_72 : decode cX1_make 72 = .ok (.dup, 1) := dk_89 (dk_at dksX1_make_3 0 rfl rfl)
theorem dX1_make_73 : decode cX1_make 73 = .ok (.iload_n 3, 1) := dk_29 (dk_at dksX1_make_3 1 rfl rfl)
theorem dX1_make_74 : decode cX1_make 74 = .ok (.iload 4, 2) := dk_21 4 (dk_at dksX1_make_3 2 rfl rfl)
theorem dX1_make_76 : decode cX1_make 76 = .ok (.invokespecial 55, 3) := dk_183 0 55 (dk_at dksX1_make_3 4 rfl rfl)
theorem dX1_make_79 : decode cX1_make 79 = .ok (.invokevirtual 56, 3) := dk_182 0 56 (dk_at dksX1_make_3 7 rfl rfl)
theorem dX1_make_82 : decode cX1_make 82 = .ok (.ireturn, 1) := dk_172 (dk_at dksX1_make_3 10 rfl rfl)
abbrev cX1_isPlace : ByteArray := prog_1_method_13_code
def yX1_isPlace : MethodName := ⟨RX1, "isPlace", "(I)Z"⟩
def dkwX1_isPlace_0 : List UInt8 := [26, 133, 9, 20, 0, 14, 184, 0, 16, 172]
abbrev dktX1_isPlace_0 : List UInt8 := dkwX1_isPlace_0 ++ []
theorem dksX1_isPlace_0 : cX1_isPlace.data.toList.drop 0 = dktX1_isPlace_0 := by decide +kernel
theorem dX1_isPlace_0 : decode cX1_isPlace 0 = .ok (.iload_n 0, 1) := dk_26 (dk_at dksX1_isPlace_0 0 rfl rfl)
theorem dX1_isPlace_1 : decode cX1_isPlace 1 = .ok (.i2l, 1) := dk_133 (dk_at dksX1_isPlace_0 1 rfl rfl)
theorem dX1_isPlace_2 : decode cX1_isPlace 2 = .ok (.lconst 0, 1) := dk_9 (dk_at dksX1_isPlace_0 2 rfl rfl)
theorem dX1_isPlace_3 : decode cX1_isPlace 3 = .ok (.ldc2_w 14, 3) := dk_20 0 14 (dk_at dksX1_isPlace_0 3 rfl rfl)
theorem dX1_isPlace_6 : decode cX1_isPlace 6 = .ok (.invokestatic 16, 3) := dk_184 0 16 (dk_at dksX1_isPlace_0 6 rfl rfl)
theorem dX1_isPlace_9 : decode cX1_isPlace 9 = .ok (.ireturn, 1) := dk_172 (dk_at dksX1_isPlace_0 9 rfl rfl)
abbrev cX1_isIn : ByteArray := prog_1_method_12_code
def yX1_isIn : MethodName := ⟨RX1, "isIn", "(JJJ)Z"⟩
def dkwX1_isIn_0 : List UInt8 := [30, 32, 148, 155, 0, 14, 30, 22, 4, 148, 157, 0, 7, 4, 167, 0, 4, 3, 172]
abbrev dktX1_isIn_0 : List UInt8 := dkwX1_isIn_0 ++ []
theorem dksX1_isIn_0 : cX1_isIn.data.toList.drop 0 = dktX1_isIn_0 := by decide +kernel
theorem dX1_isIn_0 : decode cX1_isIn 0 = .ok (.lload_n 0, 1) := dk_30 (dk_at dksX1_isIn_0 0 rfl rfl)
theorem dX1_isIn_1 : decode cX1_isIn 1 = .ok (.lload_n 2, 1) := dk_32 (dk_at dksX1_isIn_0 1 rfl rfl)
theorem dX1_isIn_2 : decode cX1_isIn 2 = .ok (.lcmp, 1) := dk_148 (dk_at dksX1_isIn_0 2 rfl rfl)
theorem dX1_isIn_3 : decode cX1_isIn 3 = .ok (.ifCond .lt 14, 3) := dk_155 0 14 (dk_at dksX1_isIn_0 3 rfl rfl)
theorem dX1_isIn_6 : decode cX1_isIn 6 = .ok (.lload_n 0, 1) := dk_30 (dk_at dksX1_isIn_0 6 rfl rfl)
theorem dX1_isIn_7 : decode cX1_isIn 7 = .ok (.lload 4, 2) := dk_22 4 (dk_at dksX1_isIn_0 7 rfl rfl)
theorem dX1_isIn_9 : decode cX1_isIn 9 = .ok (.lcmp, 1) := dk_148 (dk_at dksX1_isIn_0 9 rfl rfl)
theorem dX1_isIn_10 : decode cX1_isIn 10 = .ok (.ifCond .gt 7, 3) := dk_157 0 7 (dk_at dksX1_isIn_0 10 rfl rfl)
theorem dX1_isIn_13 : decode cX1_isIn 13 = .ok (.iconst 1, 1) := dk_4 (dk_at dksX1_isIn_0 13 rfl rfl)
theorem dX1_isIn_14 : decode cX1_isIn 14 = .ok (.goto 4, 3) := dk_167 0 4 (dk_at dksX1_isIn_0 14 rfl rfl)
theorem dX1_isIn_17 : decode cX1_isIn 17 = .ok (.iconst 0, 1) := dk_3 (dk_at dksX1_isIn_0 17 rfl rfl)
theorem dX1_isIn_18 : decode cX1_isIn 18 = .ok (.ireturn, 1) := dk_172 (dk_at dksX1_isIn_0 18 rfl rfl)
abbrev cX1_isField : ByteArray := prog_1_method_14_code
def yX1_isField : MethodName := ⟨RX1, "isField", "(II)Z"⟩
def dkwX1_isField_1 : List UInt8 := [153, 0, 7, 4, 167, 0, 4, 3, 172]
abbrev dktX1_isField_1 : List UInt8 := dkwX1_isField_1 ++ []
def dkwX1_isField_0 : List UInt8 := [26, 133, 20, 0, 20, 20, 0, 22, 184, 0, 16, 153, 0, 19, 27, 133, 10, 20, 0, 24, 184, 0, 16]
abbrev dktX1_isField_0 : List UInt8 := dkwX1_isField_0 ++ dktX1_isField_1
theorem dksX1_isField_0 : cX1_isField.data.toList.drop 0 = dktX1_isField_0 := by decide +kernel
theorem dksX1_isField_1 : cX1_isField.data.toList.drop 23 = dktX1_isField_1 := dk_seg dksX1_isField_0 23 rfl rfl
theorem dX1_isField_0 : decode cX1_isField 0 = .ok (.iload_n 0, 1) := dk_26 (dk_at dksX1_isField_0 0 rfl rfl)
theorem dX1_isField_1 : decode cX1_isField 1 = .ok (.i2l, 1) := dk_133 (dk_at dksX1_isField_0 1 rfl rfl)
theorem dX1_isField_2 : decode cX1_isField 2 = .ok (.ldc2_w 20, 3) := dk_20 0 20 (dk_at dksX1_isField_0 2 rfl rfl)
theorem dX1_isField_5 : decode cX1_isField 5 = .ok (.ldc2_w 22, 3) := dk_20 0 22 (dk_at dksX1_isField_0 5 rfl rfl)
theorem dX1_isField_8 : decode cX1_isField 8 = .ok (.invokestatic 16, 3) := dk_184 0 16 (dk_at dksX1_isField_0 8 rfl rfl)
theorem dX1_isField_11 : decode cX1_isField 11 = .ok (.ifCond .eq 19, 3) := dk_153 0 19 (dk_at dksX1_isField_0 11 rfl rfl)
theorem dX1_isField_14 : decode cX1_isField 14 = .ok (.iload_n 1, 1) := dk_27 (dk_at dksX1_isField_0 14 rfl rfl)
theorem dX1_isField_15 : decode cX1_isField 15 = .ok (.i2l, 1) := dk_133 (dk_at dksX1_isField_0 15 rfl rfl)
theorem dX1_isField_16 : decode cX1_isField 16 = .ok (.lconst 1, 1) := dk_10 (dk_at dksX1_isField_0 16 rfl rfl)
theorem dX1_isField_17 : decode cX1_isField 17 = .ok (.ldc2_w 24, 3) := dk_20 0 24 (dk_at dksX1_isField_0 17 rfl rfl)
theorem dX1_isField_20 : decode cX1_isField 20 = .ok (.invokestatic 16, 3) := dk_184 0 16 (dk_at dksX1_isField_0 20 rfl rfl)
theorem dX1_isField_23 : decode cX1_isField 23 = .ok (.ifCond .eq 7, 3) := dk_153 0 7 (dk_at dksX1_isField_1 0 rfl rfl)
theorem dX1_isField_26 : decode cX1_isField 26 = .ok (.iconst 1, 1) := dk_4 (dk_at dksX1_isField_1 3 rfl rfl)
theorem dX1_isField_27 : decode cX1_isField 27 = .ok (.goto 4, 3) := dk_167 0 4 (dk_at dksX1_isField_1 4 rfl rfl)
theorem dX1_isField_30 : decode cX1_isField 30 = .ok (.iconst 0, 1) := dk_3 (dk_at dksX1_isField_1 7 rfl rfl)
theorem dX1_isField_31 : decode cX1_isField 31 = .ok (.ireturn, 1) := dk_172 (dk_at dksX1_isField_1 8 rfl rfl)
abbrev cX1_puts : ByteArray := prog_1_method_16_code
def yX1_puts : MethodName := ⟨RX1, "puts", "(ILWordBench$Code;)I"⟩
def dkwX1_puts_0 : List UInt8 := [42, 180, 0, 26, 27, 44, 83, 44, 180, 0, 30, 172]
abbrev dktX1_puts_0 : List UInt8 := dkwX1_puts_0 ++ []
theorem dksX1_puts_0 : cX1_puts.data.toList.drop 0 = dktX1_puts_0 := by decide +kernel
theorem dX1_puts_0 : decode cX1_puts 0 = .ok (.aload_n 0, 1) := dk_42 (dk_at dksX1_puts_0 0 rfl rfl)
theorem dX1_puts_1 : decode cX1_puts 1 = .ok (.getfield 26, 3) := dk_180 0 26 (dk_at dksX1_puts_0 1 rfl rfl)
theorem dX1_puts_4 : decode cX1_puts 4 = .ok (.iload_n 1, 1) := dk_27 (dk_at dksX1_puts_0 4 rfl rfl)
theorem dX1_puts_5 : decode cX1_puts 5 = .ok (.aload_n 2, 1) := dk_44 (dk_at dksX1_puts_0 5 rfl rfl)
theorem dX1_puts_6 : decode cX1_puts 6 = .ok (.aastore, 1) := dk_83 (dk_at dksX1_puts_0 6 rfl rfl)
theorem dX1_puts_7 : decode cX1_puts 7 = .ok (.aload_n 2, 1) := dk_44 (dk_at dksX1_puts_0 7 rfl rfl)
theorem dX1_puts_8 : decode cX1_puts 8 = .ok (.getfield 30, 3) := dk_180 0 30 (dk_at dksX1_puts_0 8 rfl rfl)
theorem dX1_puts_11 : decode cX1_puts 11 = .ok (.ireturn, 1) := dk_172 (dk_at dksX1_puts_0 11 rfl rfl)
abbrev cX1_add : ByteArray := prog_1_method_19_code
def yX1_add : MethodName := ⟨RX1, "add", "(IJ)I"⟩
def dkwX1_add_3 : List UInt8 := [172]
abbrev dktX1_add_3 : List UInt8 := dkwX1_add_3 ++ []
def dkwX1_add_2 : List UInt8 := [182, 0, 74, 54, 4, 21, 4, 153, 0, 6, 21, 4, 172, 25, 5, 32, 182, 0, 78, 25, 5, 180, 0, 30]
abbrev dktX1_add_2 : List UInt8 := dkwX1_add_2 ++ dktX1_add_3
def dkwX1_add_1 : List UInt8 := [25, 5, 180, 0, 64, 25, 5, 180, 0, 67, 32, 184, 0, 70, 154, 0, 5, 2, 172, 25, 5, 32]
abbrev dktX1_add_1 : List UInt8 := dkwX1_add_1 ++ dktX1_add_2
def dkwX1_add_0 : List UInt8 := [42, 27, 3, 182, 0, 60, 54, 4, 21, 4, 153, 0, 6, 21, 4, 172, 42, 180, 0, 26, 27, 50, 58, 5]
abbrev dktX1_add_0 : List UInt8 := dkwX1_add_0 ++ dktX1_add_1
theorem dksX1_add_0 : cX1_add.data.toList.drop 0 = dktX1_add_0 := by decide +kernel
theorem dksX1_add_1 : cX1_add.data.toList.drop 24 = dktX1_add_1 := dk_seg dksX1_add_0 24 rfl rfl
theorem dksX1_add_2 : cX1_add.data.toList.drop 46 = dktX1_add_2 := dk_seg dksX1_add_1 22 rfl rfl
theorem dksX1_add_3 : cX1_add.data.toList.drop 70 = dktX1_add_3 := dk_seg dksX1_add_2 24 rfl rfl
theorem dX1_add_0 : decode cX1_add 0 = .ok (.aload_n 0, 1) := dk_42 (dk_at dksX1_add_0 0 rfl rfl)
theorem dX1_add_1 : decode cX1_add 1 = .ok (.iload_n 1, 1) := dk_27 (dk_at dksX1_add_0 1 rfl rfl)
theorem dX1_add_2 : decode cX1_add 2 = .ok (.iconst 0, 1) := dk_3 (dk_at dksX1_add_0 2 rfl rfl)
theorem dX1_add_3 : decode cX1_add 3 = .ok (.invokevirtual 60, 3) := dk_182 0 60 (dk_at dksX1_add_0 3 rfl rfl)
theorem dX1_add_6 : decode cX1_add 6 = .ok (.istore 4, 2) := dk_54 4 (dk_at dksX1_add_0 6 rfl rfl)
theorem dX1_add_8 : decode cX1_add 8 = .ok (.iload 4, 2) := dk_21 4 (dk_at dksX1_add_0 8 rfl rfl)
theorem dX1_add_10 : decode cX1_add 10 = .ok (.ifCond .eq 6, 3) := dk_153 0 6 (dk_at dksX1_add_0 10 rfl rfl)
theorem dX1_add_13 : decode cX1_add 13 = .ok (.iload 4, 2) := dk_21 4 (dk_at dksX1_add_0 13 rfl rfl)
theorem dX1_add_15 : decode cX1_add 15 = .ok (.ireturn, 1) := dk_172 (dk_at dksX1_add_0 15 rfl rfl)
theorem dX1_add_16 : decode cX1_add 16 = .ok (.aload_n 0, 1) := dk_42 (dk_at dksX1_add_0 16 rfl rfl)
theorem dX1_add_17 : decode cX1_add 17 = .ok (.getfield 26, 3) := dk_180 0 26 (dk_at dksX1_add_0 17 rfl rfl)
theorem dX1_add_20 : decode cX1_add 20 = .ok (.iload_n 1, 1) := dk_27 (dk_at dksX1_add_0 20 rfl rfl)
theorem dX1_add_21 : decode cX1_add 21 = .ok (.aaload, 1) := dk_50 (dk_at dksX1_add_0 21 rfl rfl)
theorem dX1_add_22 : decode cX1_add 22 = .ok (.astore 5, 2) := dk_58 5 (dk_at dksX1_add_0 22 rfl rfl)
theorem dX1_add_24 : decode cX1_add 24 = .ok (.aload 5, 2) := dk_25 5 (dk_at dksX1_add_1 0 rfl rfl)
theorem dX1_add_26 : decode cX1_add 26 = .ok (.getfield 64, 3) := dk_180 0 64 (dk_at dksX1_add_1 2 rfl rfl)
theorem dX1_add_29 : decode cX1_add 29 = .ok (.aload 5, 2) := dk_25 5 (dk_at dksX1_add_1 5 rfl rfl)
theorem dX1_add_31 : decode cX1_add 31 = .ok (.getfield 67, 3) := dk_180 0 67 (dk_at dksX1_add_1 7 rfl rfl)
theorem dX1_add_34 : decode cX1_add 34 = .ok (.lload_n 2, 1) := dk_32 (dk_at dksX1_add_1 10 rfl rfl)
theorem dX1_add_35 : decode cX1_add 35 = .ok (.invokestatic 70, 3) := dk_184 0 70 (dk_at dksX1_add_1 11 rfl rfl)
theorem dX1_add_38 : decode cX1_add 38 = .ok (.ifCond .ne 5, 3) := dk_154 0 5 (dk_at dksX1_add_1 14 rfl rfl)
theorem dX1_add_41 : decode cX1_add 41 = .ok (.iconst (-1), 1) := dk_2 (dk_at dksX1_add_1 17 rfl rfl)
theorem dX1_add_42 : decode cX1_add 42 = .ok (.ireturn, 1) := dk_172 (dk_at dksX1_add_1 18 rfl rfl)
theorem dX1_add_43 : decode cX1_add 43 = .ok (.aload 5, 2) := dk_25 5 (dk_at dksX1_add_1 19 rfl rfl)
theorem dX1_add_45 : decode cX1_add 45 = .ok (.lload_n 2, 1) := dk_32 (dk_at dksX1_add_1 21 rfl rfl)
theorem dX1_add_46 : decode cX1_add 46 = .ok (.invokevirtual 74, 3) := dk_182 0 74 (dk_at dksX1_add_2 0 rfl rfl)
theorem dX1_add_49 : decode cX1_add 49 = .ok (.istore 4, 2) := dk_54 4 (dk_at dksX1_add_2 3 rfl rfl)
theorem dX1_add_51 : decode cX1_add 51 = .ok (.iload 4, 2) := dk_21 4 (dk_at dksX1_add_2 5 rfl rfl)
theorem dX1_add_53 : decode cX1_add 53 = .ok (.ifCond .eq 6, 3) := dk_153 0 6 (dk_at dksX1_add_2 7 rfl rfl)
theorem dX1_add_56 : decode cX1_add 56 = .ok (.iload 4, 2) := dk_21 4 (dk_at dksX1_add_2 10 rfl rfl)
theorem dX1_add_58 : decode cX1_add 58 = .ok (.ireturn, 1) := dk_172 (dk_at dksX1_add_2 12 rfl rfl)
theorem dX1_add_59 : decode cX1_add 59 = .ok (.aload 5, 2) := dk_25 5 (dk_at dksX1_add_2 13 rfl rfl)
theorem dX1_add_61 : decode cX1_add 61 = .ok (.lload_n 2, 1) := dk_32 (dk_at dksX1_add_2 15 rfl rfl)
theorem dX1_add_62 : decode cX1_add 62 = .ok (.invokevirtual 78, 3) := dk_182 0 78 (dk_at dksX1_add_2 16 rfl rfl)
theorem dX1_add_65 : decode cX1_add 65 = .ok (.aload 5, 2) := dk_25 5 (dk_at dksX1_add_2 19 rfl rfl)
theorem dX1_add_67 : decode cX1_add 67 = .ok (.getfield 30, 3) := dk_180 0 30 (dk_at dksX1_add_2 21 rfl rfl)
theorem dX1_add_70 : decode cX1_add 70 = .ok (.ireturn, 1) := dk_172 (dk_at dksX1_add_3 0 rfl rfl)
abbrev cX1_asks : ByteArray := prog_1_method_18_code
def yX1_asks : MethodName := ⟨RX1, "asks", "(IZ)I"⟩
def dkwX1_asks_1 : List UInt8 := [153, 0, 20, 42, 180, 0, 26, 27, 50, 193, 0, 50, 154, 0, 8, 16, 244, 167, 0, 4, 3, 172]
abbrev dktX1_asks_1 : List UInt8 := dkwX1_asks_1 ++ []
def dkwX1_asks_0 : List UInt8 := [27, 184, 0, 36, 154, 0, 5, 2, 172, 42, 180, 0, 26, 27, 50, 199, 0, 6, 16, 245, 172, 28]
abbrev dktX1_asks_0 : List UInt8 := dkwX1_asks_0 ++ dktX1_asks_1
theorem dksX1_asks_0 : cX1_asks.data.toList.drop 0 = dktX1_asks_0 := by decide +kernel
theorem dksX1_asks_1 : cX1_asks.data.toList.drop 22 = dktX1_asks_1 := dk_seg dksX1_asks_0 22 rfl rfl
theorem dX1_asks_0 : decode cX1_asks 0 = .ok (.iload_n 1, 1) := dk_27 (dk_at dksX1_asks_0 0 rfl rfl)
theorem dX1_asks_1 : decode cX1_asks 1 = .ok (.invokestatic 36, 3) := dk_184 0 36 (dk_at dksX1_asks_0 1 rfl rfl)
theorem dX1_asks_4 : decode cX1_asks 4 = .ok (.ifCond .ne 5, 3) := dk_154 0 5 (dk_at dksX1_asks_0 4 rfl rfl)
theorem dX1_asks_7 : decode cX1_asks 7 = .ok (.iconst (-1), 1) := dk_2 (dk_at dksX1_asks_0 7 rfl rfl)
theorem dX1_asks_8 : decode cX1_asks 8 = .ok (.ireturn, 1) := dk_172 (dk_at dksX1_asks_0 8 rfl rfl)
theorem dX1_asks_9 : decode cX1_asks 9 = .ok (.aload_n 0, 1) := dk_42 (dk_at dksX1_asks_0 9 rfl rfl)
theorem dX1_asks_10 : decode cX1_asks 10 = .ok (.getfield 26, 3) := dk_180 0 26 (dk_at dksX1_asks_0 10 rfl rfl)
theorem dX1_asks_13 : decode cX1_asks 13 = .ok (.iload_n 1, 1) := dk_27 (dk_at dksX1_asks_0 13 rfl rfl)
theorem dX1_asks_14 : decode cX1_asks 14 = .ok (.aaload, 1) := dk_50 (dk_at dksX1_asks_0 14 rfl rfl)
theorem dX1_asks_15 : decode cX1_asks 15 = .ok (.ifnonnull 6, 3) := dk_199 0 6 (dk_at dksX1_asks_0 15 rfl rfl)
theorem dX1_asks_18 : decode cX1_asks 18 = .ok (.bipush (-11), 2) := dk_16 245 (dk_at dksX1_asks_0 18 rfl rfl)
theorem dX1_asks_20 : decode cX1_asks 20 = .ok (.ireturn, 1) := dk_172 (dk_at dksX1_asks_0 20 rfl rfl)
theorem dX1_asks_21 : decode cX1_asks 21 = .ok (.iload_n 2, 1) := dk_28 (dk_at dksX1_asks_0 21 rfl rfl)
theorem dX1_asks_22 : decode cX1_asks 22 = .ok (.ifCond .eq 20, 3) := dk_153 0 20 (dk_at dksX1_asks_1 0 rfl rfl)
theorem dX1_asks_25 : decode cX1_asks 25 = .ok (.aload_n 0, 1) := dk_42 (dk_at dksX1_asks_1 3 rfl rfl)
theorem dX1_asks_26 : decode cX1_asks 26 = .ok (.getfield 26, 3) := dk_180 0 26 (dk_at dksX1_asks_1 4 rfl rfl)
theorem dX1_asks_29 : decode cX1_asks 29 = .ok (.iload_n 1, 1) := dk_27 (dk_at dksX1_asks_1 7 rfl rfl)
theorem dX1_asks_30 : decode cX1_asks 30 = .ok (.aaload, 1) := dk_50 (dk_at dksX1_asks_1 8 rfl rfl)
theorem dX1_asks_31 : decode cX1_asks 31 = .ok (.instanceof 50, 3) := dk_193 0 50 (dk_at dksX1_asks_1 9 rfl rfl)
theorem dX1_asks_34 : decode cX1_asks 34 = .ok (.ifCond .ne 8, 3) := dk_154 0 8 (dk_at dksX1_asks_1 12 rfl rfl)
theorem dX1_asks_37 : decode cX1_asks 37 = .ok (.bipush (-12), 2) := dk_16 244 (dk_at dksX1_asks_1 15 rfl rfl)
theorem dX1_asks_39 : decode cX1_asks 39 = .ok (.goto 4, 3) := dk_167 0 4 (dk_at dksX1_asks_1 17 rfl rfl)
theorem dX1_asks_42 : decode cX1_asks 42 = .ok (.iconst 0, 1) := dk_3 (dk_at dksX1_asks_1 20 rfl rfl)
theorem dX1_asks_43 : decode cX1_asks 43 = .ok (.ireturn, 1) := dk_172 (dk_at dksX1_asks_1 21 rfl rfl)
abbrev cX1_isWord : ByteArray := prog_1_method_15_code
def yX1_isWord : MethodName := ⟨RX1, "isWord", "(IIJ)Z"⟩
def dkwX1_isWord_0 : List UInt8 := [32, 9, 148, 155, 0, 17, 32, 26, 27, 184, 0, 7, 148, 156, 0, 7, 4, 167, 0, 4, 3, 172]
abbrev dktX1_isWord_0 : List UInt8 := dkwX1_isWord_0 ++ []
theorem dksX1_isWord_0 : cX1_isWord.data.toList.drop 0 = dktX1_isWord_0 := by decide +kernel
theorem dX1_isWord_0 : decode cX1_isWord 0 = .ok (.lload_n 2, 1) := dk_32 (dk_at dksX1_isWord_0 0 rfl rfl)
theorem dX1_isWord_1 : decode cX1_isWord 1 = .ok (.lconst 0, 1) := dk_9 (dk_at dksX1_isWord_0 1 rfl rfl)
theorem dX1_isWord_2 : decode cX1_isWord 2 = .ok (.lcmp, 1) := dk_148 (dk_at dksX1_isWord_0 2 rfl rfl)
theorem dX1_isWord_3 : decode cX1_isWord 3 = .ok (.ifCond .lt 17, 3) := dk_155 0 17 (dk_at dksX1_isWord_0 3 rfl rfl)
theorem dX1_isWord_6 : decode cX1_isWord 6 = .ok (.lload_n 2, 1) := dk_32 (dk_at dksX1_isWord_0 6 rfl rfl)
theorem dX1_isWord_7 : decode cX1_isWord 7 = .ok (.iload_n 0, 1) := dk_26 (dk_at dksX1_isWord_0 7 rfl rfl)
theorem dX1_isWord_8 : decode cX1_isWord 8 = .ok (.iload_n 1, 1) := dk_27 (dk_at dksX1_isWord_0 8 rfl rfl)
theorem dX1_isWord_9 : decode cX1_isWord 9 = .ok (.invokestatic 7, 3) := dk_184 0 7 (dk_at dksX1_isWord_0 9 rfl rfl)
theorem dX1_isWord_12 : decode cX1_isWord 12 = .ok (.lcmp, 1) := dk_148 (dk_at dksX1_isWord_0 12 rfl rfl)
theorem dX1_isWord_13 : decode cX1_isWord 13 = .ok (.ifCond .ge 7, 3) := dk_156 0 7 (dk_at dksX1_isWord_0 13 rfl rfl)
theorem dX1_isWord_16 : decode cX1_isWord 16 = .ok (.iconst 1, 1) := dk_4 (dk_at dksX1_isWord_0 16 rfl rfl)
theorem dX1_isWord_17 : decode cX1_isWord 17 = .ok (.goto 4, 3) := dk_167 0 4 (dk_at dksX1_isWord_0 17 rfl rfl)
theorem dX1_isWord_20 : decode cX1_isWord 20 = .ok (.iconst 0, 1) := dk_3 (dk_at dksX1_isWord_0 20 rfl rfl)
theorem dX1_isWord_21 : decode cX1_isWord 21 = .ok (.ireturn, 1) := dk_172 (dk_at dksX1_isWord_0 21 rfl rfl)
abbrev cX1_power : ByteArray := prog_1_method_5_code
def yX1_power : MethodName := ⟨RX1, "power", "(II)J"⟩
def dkwX1_power_0 : List UInt8 := [10, 65, 3, 54, 4, 21, 4, 27, 162, 0, 14, 32, 26, 133, 105, 65, 132, 4, 1, 167, 255, 242, 32, 173]
abbrev dktX1_power_0 : List UInt8 := dkwX1_power_0 ++ []
theorem dksX1_power_0 : cX1_power.data.toList.drop 0 = dktX1_power_0 := by decide +kernel
theorem dX1_power_0 : decode cX1_power 0 = .ok (.lconst 1, 1) := dk_10 (dk_at dksX1_power_0 0 rfl rfl)
theorem dX1_power_1 : decode cX1_power 1 = .ok (.lstore_n 2, 1) := dk_65 (dk_at dksX1_power_0 1 rfl rfl)
theorem dX1_power_2 : decode cX1_power 2 = .ok (.iconst 0, 1) := dk_3 (dk_at dksX1_power_0 2 rfl rfl)
theorem dX1_power_3 : decode cX1_power 3 = .ok (.istore 4, 2) := dk_54 4 (dk_at dksX1_power_0 3 rfl rfl)
theorem dX1_power_5 : decode cX1_power 5 = .ok (.iload 4, 2) := dk_21 4 (dk_at dksX1_power_0 5 rfl rfl)
theorem dX1_power_7 : decode cX1_power 7 = .ok (.iload_n 1, 1) := dk_27 (dk_at dksX1_power_0 7 rfl rfl)
theorem dX1_power_8 : decode cX1_power 8 = .ok (.if_icmp .ge 14, 3) := dk_162 0 14 (dk_at dksX1_power_0 8 rfl rfl)
theorem dX1_power_11 : decode cX1_power 11 = .ok (.lload_n 2, 1) := dk_32 (dk_at dksX1_power_0 11 rfl rfl)
theorem dX1_power_12 : decode cX1_power 12 = .ok (.iload_n 0, 1) := dk_26 (dk_at dksX1_power_0 12 rfl rfl)
theorem dX1_power_13 : decode cX1_power 13 = .ok (.i2l, 1) := dk_133 (dk_at dksX1_power_0 13 rfl rfl)
theorem dX1_power_14 : decode cX1_power 14 = .ok (.lmul, 1) := dk_105 (dk_at dksX1_power_0 14 rfl rfl)
theorem dX1_power_15 : decode cX1_power 15 = .ok (.lstore_n 2, 1) := dk_65 (dk_at dksX1_power_0 15 rfl rfl)
theorem dX1_power_16 : decode cX1_power 16 = .ok (.iinc 4 1, 3) := dk_132 4 1 (dk_at dksX1_power_0 16 rfl rfl)
theorem dX1_power_19 : decode cX1_power 19 = .ok (.goto (-14), 3) := dk_167 255 242 (dk_at dksX1_power_0 19 rfl rfl)
theorem dX1_power_22 : decode cX1_power 22 = .ok (.lload_n 2, 1) := dk_32 (dk_at dksX1_power_0 22 rfl rfl)
theorem dX1_power_23 : decode cX1_power 23 = .ok (.lreturn, 1) := dk_173 (dk_at dksX1_power_0 23 rfl rfl)
abbrev cX1_productOf : ByteArray := prog_1_method_11_code
def yX1_productOf : MethodName := ⟨RX1, "productOf", "(IIJJ)I"⟩
def dkwX1_productOf_2 : List UInt8 := [109, 55, 7, 22, 9, 26, 133, 109, 55, 9, 132, 11, 1, 167, 255, 209, 21, 6, 172]
abbrev dktX1_productOf_2 : List UInt8 := dkwX1_productOf_2 ++ []
def dkwX1_productOf_1 : List UInt8 := [22, 7, 26, 133, 113, 136, 22, 9, 26, 133, 113, 136, 184, 0, 1, 184, 0, 11, 54, 6, 22, 7, 26, 133]
abbrev dktX1_productOf_1 : List UInt8 := dkwX1_productOf_1 ++ dktX1_productOf_2
def dkwX1_productOf_0 : List UInt8 := [3, 54, 6, 32, 55, 7, 22, 4, 55, 9, 3, 54, 11, 21, 11, 27, 162, 0, 47, 26, 21, 6, 26]
abbrev dktX1_productOf_0 : List UInt8 := dkwX1_productOf_0 ++ dktX1_productOf_1
theorem dksX1_productOf_0 : cX1_productOf.data.toList.drop 0 = dktX1_productOf_0 := by decide +kernel
theorem dksX1_productOf_1 : cX1_productOf.data.toList.drop 23 = dktX1_productOf_1 := dk_seg dksX1_productOf_0 23 rfl rfl
theorem dksX1_productOf_2 : cX1_productOf.data.toList.drop 47 = dktX1_productOf_2 := dk_seg dksX1_productOf_1 24 rfl rfl
theorem dX1_productOf_0 : decode cX1_productOf 0 = .ok (.iconst 0, 1) := dk_3 (dk_at dksX1_productOf_0 0 rfl rfl)
theorem dX1_productOf_1 : decode cX1_productOf 1 = .ok (.istore 6, 2) := dk_54 6 (dk_at dksX1_productOf_0 1 rfl rfl)
theorem dX1_productOf_3 : decode cX1_productOf 3 = .ok (.lload_n 2, 1) := dk_32 (dk_at dksX1_productOf_0 3 rfl rfl)
theorem dX1_productOf_4 : decode cX1_productOf 4 = .ok (.lstore 7, 2) := dk_55 7 (dk_at dksX1_productOf_0 4 rfl rfl)
theorem dX1_productOf_6 : decode cX1_productOf 6 = .ok (.lload 4, 2) := dk_22 4 (dk_at dksX1_productOf_0 6 rfl rfl)
theorem dX1_productOf_8 : decode cX1_productOf 8 = .ok (.lstore 9, 2) := dk_55 9 (dk_at dksX1_productOf_0 8 rfl rfl)
theorem dX1_productOf_10 : decode cX1_productOf 10 = .ok (.iconst 0, 1) := dk_3 (dk_at dksX1_productOf_0 10 rfl rfl)
theorem dX1_productOf_11 : decode cX1_productOf 11 = .ok (.istore 11, 2) := dk_54 11 (dk_at dksX1_productOf_0 11 rfl rfl)
theorem dX1_productOf_13 : decode cX1_productOf 13 = .ok (.iload 11, 2) := dk_21 11 (dk_at dksX1_productOf_0 13 rfl rfl)
theorem dX1_productOf_15 : decode cX1_productOf 15 = .ok (.iload_n 1, 1) := dk_27 (dk_at dksX1_productOf_0 15 rfl rfl)
theorem dX1_productOf_16 : decode cX1_productOf 16 = .ok (.if_icmp .ge 47, 3) := dk_162 0 47 (dk_at dksX1_productOf_0 16 rfl rfl)
theorem dX1_productOf_19 : decode cX1_productOf 19 = .ok (.iload_n 0, 1) := dk_26 (dk_at dksX1_productOf_0 19 rfl rfl)
theorem dX1_productOf_20 : decode cX1_productOf 20 = .ok (.iload 6, 2) := dk_21 6 (dk_at dksX1_productOf_0 20 rfl rfl)
theorem dX1_productOf_22 : decode cX1_productOf 22 = .ok (.iload_n 0, 1) := dk_26 (dk_at dksX1_productOf_0 22 rfl rfl)
theorem dX1_productOf_23 : decode cX1_productOf 23 = .ok (.lload 7, 2) := dk_22 7 (dk_at dksX1_productOf_1 0 rfl rfl)
theorem dX1_productOf_25 : decode cX1_productOf 25 = .ok (.iload_n 0, 1) := dk_26 (dk_at dksX1_productOf_1 2 rfl rfl)
theorem dX1_productOf_26 : decode cX1_productOf 26 = .ok (.i2l, 1) := dk_133 (dk_at dksX1_productOf_1 3 rfl rfl)
theorem dX1_productOf_27 : decode cX1_productOf 27 = .ok (.lrem, 1) := dk_113 (dk_at dksX1_productOf_1 4 rfl rfl)
theorem dX1_productOf_28 : decode cX1_productOf 28 = .ok (.l2i, 1) := dk_136 (dk_at dksX1_productOf_1 5 rfl rfl)
theorem dX1_productOf_29 : decode cX1_productOf 29 = .ok (.lload 9, 2) := dk_22 9 (dk_at dksX1_productOf_1 6 rfl rfl)
theorem dX1_productOf_31 : decode cX1_productOf 31 = .ok (.iload_n 0, 1) := dk_26 (dk_at dksX1_productOf_1 8 rfl rfl)
theorem dX1_productOf_32 : decode cX1_productOf 32 = .ok (.i2l, 1) := dk_133 (dk_at dksX1_productOf_1 9 rfl rfl)
theorem dX1_productOf_33 : decode cX1_productOf 33 = .ok (.lrem, 1) := dk_113 (dk_at dksX1_productOf_1 10 rfl rfl)
theorem dX1_productOf_34 : decode cX1_productOf 34 = .ok (.l2i, 1) := dk_136 (dk_at dksX1_productOf_1 11 rfl rfl)
theorem dX1_productOf_35 : decode cX1_productOf 35 = .ok (.invokestatic 1, 3) := dk_184 0 1 (dk_at dksX1_productOf_1 12 rfl rfl)
theorem dX1_productOf_38 : decode cX1_productOf 38 = .ok (.invokestatic 11, 3) := dk_184 0 11 (dk_at dksX1_productOf_1 15 rfl rfl)
theorem dX1_productOf_41 : decode cX1_productOf 41 = .ok (.istore 6, 2) := dk_54 6 (dk_at dksX1_productOf_1 18 rfl rfl)
theorem dX1_productOf_43 : decode cX1_productOf 43 = .ok (.lload 7, 2) := dk_22 7 (dk_at dksX1_productOf_1 20 rfl rfl)
theorem dX1_productOf_45 : decode cX1_productOf 45 = .ok (.iload_n 0, 1) := dk_26 (dk_at dksX1_productOf_1 22 rfl rfl)
theorem dX1_productOf_46 : decode cX1_productOf 46 = .ok (.i2l, 1) := dk_133 (dk_at dksX1_productOf_1 23 rfl rfl)
theorem dX1_productOf_47 : decode cX1_productOf 47 = .ok (.ldiv, 1) := dk_109 (dk_at dksX1_productOf_2 0 rfl rfl)
theorem dX1_productOf_48 : decode cX1_productOf 48 = .ok (.lstore 7, 2) := dk_55 7 (dk_at dksX1_productOf_2 1 rfl rfl)
theorem dX1_productOf_50 : decode cX1_productOf 50 = .ok (.lload 9, 2) := dk_22 9 (dk_at dksX1_productOf_2 3 rfl rfl)
theorem dX1_productOf_52 : decode cX1_productOf 52 = .ok (.iload_n 0, 1) := dk_26 (dk_at dksX1_productOf_2 5 rfl rfl)
theorem dX1_productOf_53 : decode cX1_productOf 53 = .ok (.i2l, 1) := dk_133 (dk_at dksX1_productOf_2 6 rfl rfl)
theorem dX1_productOf_54 : decode cX1_productOf 54 = .ok (.ldiv, 1) := dk_109 (dk_at dksX1_productOf_2 7 rfl rfl)
theorem dX1_productOf_55 : decode cX1_productOf 55 = .ok (.lstore 9, 2) := dk_55 9 (dk_at dksX1_productOf_2 8 rfl rfl)
theorem dX1_productOf_57 : decode cX1_productOf 57 = .ok (.iinc 11 1, 3) := dk_132 11 1 (dk_at dksX1_productOf_2 10 rfl rfl)
theorem dX1_productOf_60 : decode cX1_productOf 60 = .ok (.goto (-47), 3) := dk_167 255 209 (dk_at dksX1_productOf_2 13 rfl rfl)
theorem dX1_productOf_63 : decode cX1_productOf 63 = .ok (.iload 6, 2) := dk_21 6 (dk_at dksX1_productOf_2 16 rfl rfl)
theorem dX1_productOf_65 : decode cX1_productOf 65 = .ok (.ireturn, 1) := dk_172 (dk_at dksX1_productOf_2 18 rfl rfl)
abbrev cX1_times : ByteArray := prog_1_method_2_code
def yX1_times : MethodName := ⟨RX1, "times", "(III)I"⟩
def dkwX1_times_1 : List UInt8 := [5, 100, 6, 112, 4, 96, 172]
abbrev dktX1_times_1 : List UInt8 := dkwX1_times_1 ++ []
def dkwX1_times_0 : List UInt8 := [26, 7, 159, 0, 9, 27, 28, 104, 26, 112, 172, 27, 153, 0, 7, 28, 154, 0, 5, 3, 172, 27, 28, 96]
abbrev dktX1_times_0 : List UInt8 := dkwX1_times_0 ++ dktX1_times_1
theorem dksX1_times_0 : cX1_times.data.toList.drop 0 = dktX1_times_0 := by decide +kernel
theorem dksX1_times_1 : cX1_times.data.toList.drop 24 = dktX1_times_1 := dk_seg dksX1_times_0 24 rfl rfl
theorem dX1_times_0 : decode cX1_times 0 = .ok (.iload_n 0, 1) := dk_26 (dk_at dksX1_times_0 0 rfl rfl)
theorem dX1_times_1 : decode cX1_times 1 = .ok (.iconst 4, 1) := dk_7 (dk_at dksX1_times_0 1 rfl rfl)
theorem dX1_times_2 : decode cX1_times 2 = .ok (.if_icmp .eq 9, 3) := dk_159 0 9 (dk_at dksX1_times_0 2 rfl rfl)
theorem dX1_times_5 : decode cX1_times 5 = .ok (.iload_n 1, 1) := dk_27 (dk_at dksX1_times_0 5 rfl rfl)
theorem dX1_times_6 : decode cX1_times 6 = .ok (.iload_n 2, 1) := dk_28 (dk_at dksX1_times_0 6 rfl rfl)
theorem dX1_times_7 : decode cX1_times 7 = .ok (.imul, 1) := dk_104 (dk_at dksX1_times_0 7 rfl rfl)
theorem dX1_times_8 : decode cX1_times 8 = .ok (.iload_n 0, 1) := dk_26 (dk_at dksX1_times_0 8 rfl rfl)
theorem dX1_times_9 : decode cX1_times 9 = .ok (.irem, 1) := dk_112 (dk_at dksX1_times_0 9 rfl rfl)
theorem dX1_times_10 : decode cX1_times 10 = .ok (.ireturn, 1) := dk_172 (dk_at dksX1_times_0 10 rfl rfl)
theorem dX1_times_11 : decode cX1_times 11 = .ok (.iload_n 1, 1) := dk_27 (dk_at dksX1_times_0 11 rfl rfl)
theorem dX1_times_12 : decode cX1_times 12 = .ok (.ifCond .eq 7, 3) := dk_153 0 7 (dk_at dksX1_times_0 12 rfl rfl)
theorem dX1_times_15 : decode cX1_times 15 = .ok (.iload_n 2, 1) := dk_28 (dk_at dksX1_times_0 15 rfl rfl)
theorem dX1_times_16 : decode cX1_times 16 = .ok (.ifCond .ne 5, 3) := dk_154 0 5 (dk_at dksX1_times_0 16 rfl rfl)
theorem dX1_times_19 : decode cX1_times 19 = .ok (.iconst 0, 1) := dk_3 (dk_at dksX1_times_0 19 rfl rfl)
theorem dX1_times_20 : decode cX1_times 20 = .ok (.ireturn, 1) := dk_172 (dk_at dksX1_times_0 20 rfl rfl)
theorem dX1_times_21 : decode cX1_times 21 = .ok (.iload_n 1, 1) := dk_27 (dk_at dksX1_times_0 21 rfl rfl)
theorem dX1_times_22 : decode cX1_times 22 = .ok (.iload_n 2, 1) := dk_28 (dk_at dksX1_times_0 22 rfl rfl)
theorem dX1_times_23 : decode cX1_times 23 = .ok (.iadd, 1) := dk_96 (dk_at dksX1_times_0 23 rfl rfl)
theorem dX1_times_24 : decode cX1_times 24 = .ok (.iconst 2, 1) := dk_5 (dk_at dksX1_times_1 0 rfl rfl)
theorem dX1_times_25 : decode cX1_times 25 = .ok (.isub, 1) := dk_100 (dk_at dksX1_times_1 1 rfl rfl)
theorem dX1_times_26 : decode cX1_times 26 = .ok (.iconst 3, 1) := dk_6 (dk_at dksX1_times_1 2 rfl rfl)
theorem dX1_times_27 : decode cX1_times 27 = .ok (.irem, 1) := dk_112 (dk_at dksX1_times_1 3 rfl rfl)
theorem dX1_times_28 : decode cX1_times 28 = .ok (.iconst 1, 1) := dk_4 (dk_at dksX1_times_1 4 rfl rfl)
theorem dX1_times_29 : decode cX1_times 29 = .ok (.iadd, 1) := dk_96 (dk_at dksX1_times_1 5 rfl rfl)
theorem dX1_times_30 : decode cX1_times 30 = .ok (.ireturn, 1) := dk_172 (dk_at dksX1_times_1 6 rfl rfl)
abbrev cX1_added : ByteArray := prog_1_method_1_code
def yX1_added : MethodName := ⟨RX1, "added", "(III)I"⟩
def dkwX1_added_0 : List UInt8 := [26, 7, 160, 0, 9, 27, 28, 130, 167, 0, 8, 27, 28, 96, 26, 112, 172]
abbrev dktX1_added_0 : List UInt8 := dkwX1_added_0 ++ []
theorem dksX1_added_0 : cX1_added.data.toList.drop 0 = dktX1_added_0 := by decide +kernel
theorem dX1_added_0 : decode cX1_added 0 = .ok (.iload_n 0, 1) := dk_26 (dk_at dksX1_added_0 0 rfl rfl)
theorem dX1_added_1 : decode cX1_added 1 = .ok (.iconst 4, 1) := dk_7 (dk_at dksX1_added_0 1 rfl rfl)
theorem dX1_added_2 : decode cX1_added 2 = .ok (.if_icmp .ne 9, 3) := dk_160 0 9 (dk_at dksX1_added_0 2 rfl rfl)
theorem dX1_added_5 : decode cX1_added 5 = .ok (.iload_n 1, 1) := dk_27 (dk_at dksX1_added_0 5 rfl rfl)
theorem dX1_added_6 : decode cX1_added 6 = .ok (.iload_n 2, 1) := dk_28 (dk_at dksX1_added_0 6 rfl rfl)
theorem dX1_added_7 : decode cX1_added 7 = .ok (.ixor, 1) := dk_130 (dk_at dksX1_added_0 7 rfl rfl)
theorem dX1_added_8 : decode cX1_added 8 = .ok (.goto 8, 3) := dk_167 0 8 (dk_at dksX1_added_0 8 rfl rfl)
theorem dX1_added_11 : decode cX1_added 11 = .ok (.iload_n 1, 1) := dk_27 (dk_at dksX1_added_0 11 rfl rfl)
theorem dX1_added_12 : decode cX1_added 12 = .ok (.iload_n 2, 1) := dk_28 (dk_at dksX1_added_0 12 rfl rfl)
theorem dX1_added_13 : decode cX1_added 13 = .ok (.iadd, 1) := dk_96 (dk_at dksX1_added_0 13 rfl rfl)
theorem dX1_added_14 : decode cX1_added 14 = .ok (.iload_n 0, 1) := dk_26 (dk_at dksX1_added_0 14 rfl rfl)
theorem dX1_added_15 : decode cX1_added 15 = .ok (.irem, 1) := dk_112 (dk_at dksX1_added_0 15 rfl rfl)
theorem dX1_added_16 : decode cX1_added 16 = .ok (.ireturn, 1) := dk_172 (dk_at dksX1_added_0 16 rfl rfl)
abbrev cX1_ring : ByteArray := prog_1_method_20_code
def yX1_ring : MethodName := ⟨RX1, "ring", "(IIIJ)I"⟩
def dkwX1_ring_6 : List UInt8 := [42, 27, 25, 10, 182, 0, 56, 172]
abbrev dktX1_ring_6 : List UInt8 := dkwX1_ring_6 ++ []
def dkwX1_ring_5 : List UInt8 := [21, 7, 4, 96, 184, 0, 85, 25, 10, 28, 25, 12, 184, 0, 91, 182, 0, 95, 132, 11, 1, 167, 255, 214]
abbrev dktX1_ring_5 : List UInt8 := dkwX1_ring_5 ++ dktX1_ring_6
def dkwX1_ring_4 : List UInt8 := [3, 54, 11, 21, 11, 29, 21, 7, 100, 162, 0, 39, 29, 188, 10, 58, 12, 25, 6, 3, 25, 12, 21, 11]
abbrev dktX1_ring_4 : List UInt8 := dkwX1_ring_4 ++ dktX1_ring_5
def dkwX1_ring_3 : List UInt8 := [109, 55, 8, 21, 10, 54, 7, 132, 10, 1, 167, 255, 224, 187, 0, 82, 89, 28, 29, 183, 0, 84, 58, 10]
abbrev dktX1_ring_3 : List UInt8 := dkwX1_ring_3 ++ dktX1_ring_4
def dkwX1_ring_2 : List UInt8 := [54, 10, 22, 8, 9, 148, 158, 0, 31, 25, 6, 21, 10, 22, 8, 28, 133, 113, 136, 79, 22, 8, 28, 133]
abbrev dktX1_ring_2 : List UInt8 := dkwX1_ring_2 ++ dktX1_ring_3
def dkwX1_ring_1 : List UInt8 := [28, 29, 184, 0, 7, 148, 155, 0, 5, 2, 172, 29, 188, 10, 58, 6, 3, 54, 7, 22, 4, 55, 8, 3]
abbrev dktX1_ring_1 : List UInt8 := dkwX1_ring_1 ++ dktX1_ring_2
def dkwX1_ring_0 : List UInt8 := [27, 184, 0, 36, 153, 0, 29, 28, 29, 184, 0, 40, 153, 0, 21, 22, 4, 10, 148, 155, 0, 14, 22, 4]
abbrev dktX1_ring_0 : List UInt8 := dkwX1_ring_0 ++ dktX1_ring_1
theorem dksX1_ring_0 : cX1_ring.data.toList.drop 0 = dktX1_ring_0 := by decide +kernel
theorem dksX1_ring_1 : cX1_ring.data.toList.drop 24 = dktX1_ring_1 := dk_seg dksX1_ring_0 24 rfl rfl
theorem dksX1_ring_2 : cX1_ring.data.toList.drop 48 = dktX1_ring_2 := dk_seg dksX1_ring_1 24 rfl rfl
theorem dksX1_ring_3 : cX1_ring.data.toList.drop 72 = dktX1_ring_3 := dk_seg dksX1_ring_2 24 rfl rfl
theorem dksX1_ring_4 : cX1_ring.data.toList.drop 96 = dktX1_ring_4 := dk_seg dksX1_ring_3 24 rfl rfl
theorem dksX1_ring_5 : cX1_ring.data.toList.drop 120 = dktX1_ring_5 := dk_seg dksX1_ring_4 24 rfl rfl
theorem dksX1_ring_6 : cX1_ring.data.toList.drop 144 = dktX1_ring_6 := dk_seg dksX1_ring_5 24 rfl rfl
theorem dX1_ring_0 : decode cX1_ring 0 = .ok (.iload_n 1, 1) := dk_27 (dk_at dksX1_ring_0 0 rfl rfl)
theorem dX1_ring_1 : decode cX1_ring 1 = .ok (.invokestatic 36, 3) := dk_184 0 36 (dk_at dksX1_ring_0 1 rfl rfl)
theorem dX1_ring_4 : decode cX1_ring 4 = .ok (.ifCond .eq 29, 3) := dk_153 0 29 (dk_at dksX1_ring_0 4 rfl rfl)
theorem dX1_ring_7 : decode cX1_ring 7 = .ok (.iload_n 2, 1) := dk_28 (dk_at dksX1_ring_0 7 rfl rfl)
theorem dX1_ring_8 : decode cX1_ring 8 = .ok (.iload_n 3, 1) := dk_29 (dk_at dksX1_ring_0 8 rfl rfl)
theorem dX1_ring_9 : decode cX1_ring 9 = .ok (.invokestatic 40, 3) := dk_184 0 40 (dk_at dksX1_ring_0 9 rfl rfl)
theorem dX1_ring_12 : decode cX1_ring 12 = .ok (.ifCond .eq 21, 3) := dk_153 0 21 (dk_at dksX1_ring_0 12 rfl rfl)
theorem dX1_ring_15 : decode cX1_ring 15 = .ok (.lload 4, 2) := dk_22 4 (dk_at dksX1_ring_0 15 rfl rfl)
theorem dX1_ring_17 : decode cX1_ring 17 = .ok (.lconst 1, 1) := dk_10 (dk_at dksX1_ring_0 17 rfl rfl)
theorem dX1_ring_18 : decode cX1_ring 18 = .ok (.lcmp, 1) := dk_148 (dk_at dksX1_ring_0 18 rfl rfl)
theorem dX1_ring_19 : decode cX1_ring 19 = .ok (.ifCond .lt 14, 3) := dk_155 0 14 (dk_at dksX1_ring_0 19 rfl rfl)
theorem dX1_ring_22 : decode cX1_ring 22 = .ok (.lload 4, 2) := dk_22 4 (dk_at dksX1_ring_0 22 rfl rfl)
theorem dX1_ring_24 : decode cX1_ring 24 = .ok (.iload_n 2, 1) := dk_28 (dk_at dksX1_ring_1 0 rfl rfl)
theorem dX1_ring_25 : decode cX1_ring 25 = .ok (.iload_n 3, 1) := dk_29 (dk_at dksX1_ring_1 1 rfl rfl)
theorem dX1_ring_26 : decode cX1_ring 26 = .ok (.invokestatic 7, 3) := dk_184 0 7 (dk_at dksX1_ring_1 2 rfl rfl)
theorem dX1_ring_29 : decode cX1_ring 29 = .ok (.lcmp, 1) := dk_148 (dk_at dksX1_ring_1 5 rfl rfl)
theorem dX1_ring_30 : decode cX1_ring 30 = .ok (.ifCond .lt 5, 3) := dk_155 0 5 (dk_at dksX1_ring_1 6 rfl rfl)
theorem dX1_ring_33 : decode cX1_ring 33 = .ok (.iconst (-1), 1) := dk_2 (dk_at dksX1_ring_1 9 rfl rfl)
theorem dX1_ring_34 : decode cX1_ring 34 = .ok (.ireturn, 1) := dk_172 (dk_at dksX1_ring_1 10 rfl rfl)
theorem dX1_ring_35 : decode cX1_ring 35 = .ok (.iload_n 3, 1) := dk_29 (dk_at dksX1_ring_1 11 rfl rfl)
theorem dX1_ring_36 : decode cX1_ring 36 = .ok (.newarray .int, 2) := dk_188_10 (dk_at dksX1_ring_1 12 rfl rfl)
theorem dX1_ring_38 : decode cX1_ring 38 = .ok (.astore 6, 2) := dk_58 6 (dk_at dksX1_ring_1 14 rfl rfl)
theorem dX1_ring_40 : decode cX1_ring 40 = .ok (.iconst 0, 1) := dk_3 (dk_at dksX1_ring_1 16 rfl rfl)
theorem dX1_ring_41 : decode cX1_ring 41 = .ok (.istore 7, 2) := dk_54 7 (dk_at dksX1_ring_1 17 rfl rfl)
theorem dX1_ring_43 : decode cX1_ring 43 = .ok (.lload 4, 2) := dk_22 4 (dk_at dksX1_ring_1 19 rfl rfl)
theorem dX1_ring_45 : decode cX1_ring 45 = .ok (.lstore 8, 2) := dk_55 8 (dk_at dksX1_ring_1 21 rfl rfl)
theorem dX1_ring_47 : decode cX1_ring 47 = .ok (.iconst 0, 1) := dk_3 (dk_at dksX1_ring_1 23 rfl rfl)
theorem dX1_ring_48 : decode cX1_ring 48 = .ok (.istore 10, 2) := dk_54 10 (dk_at dksX1_ring_2 0 rfl rfl)
theorem dX1_ring_50 : decode cX1_ring 50 = .ok (.lload 8, 2) := dk_22 8 (dk_at dksX1_ring_2 2 rfl rfl)
theorem dX1_ring_52 : decode cX1_ring 52 = .ok (.lconst 0, 1) := dk_9 (dk_at dksX1_ring_2 4 rfl rfl)
theorem dX1_ring_53 : decode cX1_ring 53 = .ok (.lcmp, 1) := dk_148 (dk_at dksX1_ring_2 5 rfl rfl)
theorem dX1_ring_54 : decode cX1_ring 54 = .ok (.ifCond .le 31, 3) := dk_158 0 31 (dk_at dksX1_ring_2 6 rfl rfl)
theorem dX1_ring_57 : decode cX1_ring 57 = .ok (.aload 6, 2) := dk_25 6 (dk_at dksX1_ring_2 9 rfl rfl)
theorem dX1_ring_59 : decode cX1_ring 59 = .ok (.iload 10, 2) := dk_21 10 (dk_at dksX1_ring_2 11 rfl rfl)
theorem dX1_ring_61 : decode cX1_ring 61 = .ok (.lload 8, 2) := dk_22 8 (dk_at dksX1_ring_2 13 rfl rfl)
theorem dX1_ring_63 : decode cX1_ring 63 = .ok (.iload_n 2, 1) := dk_28 (dk_at dksX1_ring_2 15 rfl rfl)
theorem dX1_ring_64 : decode cX1_ring 64 = .ok (.i2l, 1) := dk_133 (dk_at dksX1_ring_2 16 rfl rfl)
theorem dX1_ring_65 : decode cX1_ring 65 = .ok (.lrem, 1) := dk_113 (dk_at dksX1_ring_2 17 rfl rfl)
theorem dX1_ring_66 : decode cX1_ring 66 = .ok (.l2i, 1) := dk_136 (dk_at dksX1_ring_2 18 rfl rfl)
theorem dX1_ring_67 : decode cX1_ring 67 = .ok (.iastore, 1) := dk_79 (dk_at dksX1_ring_2 19 rfl rfl)
theorem dX1_ring_68 : decode cX1_ring 68 = .ok (.lload 8, 2) := dk_22 8 (dk_at dksX1_ring_2 20 rfl rfl)
theorem dX1_ring_70 : decode cX1_ring 70 = .ok (.iload_n 2, 1) := dk_28 (dk_at dksX1_ring_2 22 rfl rfl)
theorem dX1_ring_71 : decode cX1_ring 71 = .ok (.i2l, 1) := dk_133 (dk_at dksX1_ring_2 23 rfl rfl)
theorem dX1_ring_72 : decode cX1_ring 72 = .ok (.ldiv, 1) := dk_109 (dk_at dksX1_ring_3 0 rfl rfl)
theorem dX1_ring_73 : decode cX1_ring 73 = .ok (.lstore 8, 2) := dk_55 8 (dk_at dksX1_ring_3 1 rfl rfl)
theorem dX1_ring_75 : decode cX1_ring 75 = .ok (.iload 10, 2) := dk_21 10 (dk_at dksX1_ring_3 3 rfl rfl)
theorem dX1_ring_77 : decode cX1_ring 77 = .ok (.istore 7, 2) := dk_54 7 (dk_at dksX1_ring_3 5 rfl rfl)
theorem dX1_ring_79 : decode cX1_ring 79 = .ok (.iinc 10 1, 3) := dk_132 10 1 (dk_at dksX1_ring_3 7 rfl rfl)
theorem dX1_ring_82 : decode cX1_ring 82 = .ok (.goto (-32), 3) := dk_167 255 224 (dk_at dksX1_ring_3 10 rfl rfl)
theorem dX1_ring_85 : decode cX1_ring 85 = .ok (.new 82, 3) := dk_187 0 82 (dk_at dksX1_ring_3 13 rfl rfl)
theorem dX1_ring_88 : decode cX1_ring 88 = .ok (.dup, 1) := dk_89 (dk_at dksX1_ring_3 16 rfl rfl)
theorem dX1_ring_89 : decode cX1_ring 89 = .ok (.iload_n 2, 1) := dk_28 (dk_at dksX1_ring_3 17 rfl rfl)
theorem dX1_ring_90 : decode cX1_ring 90 = .ok (.iload_n 3, 1) := dk_29 (dk_at dksX1_ring_3 18 rfl rfl)
theorem dX1_ring_91 : decode cX1_ring 91 = .ok (.invokespecial 84, 3) := dk_183 0 84 (dk_at dksX1_ring_3 19 rfl rfl)
theorem dX1_ring_94 : decode cX1_ring 94 = .ok (.astore 10, 2) := dk_58 10 (dk_at dksX1_ring_3 22 rfl rfl)
theorem dX1_ring_96 : decode cX1_ring 96 = .ok (.iconst 0, 1) := dk_3 (dk_at dksX1_ring_4 0 rfl rfl)
theorem dX1_ring_97 : decode cX1_ring 97 = .ok (.istore 11, 2) := dk_54 11 (dk_at dksX1_ring_4 1 rfl rfl)
theorem dX1_ring_99 : decode cX1_ring 99 = .ok (.iload 11, 2) := dk_21 11 (dk_at dksX1_ring_4 3 rfl rfl)
theorem dX1_ring_101 : decode cX1_ring 101 = .ok (.iload_n 3, 1) := dk_29 (dk_at dksX1_ring_4 5 rfl rfl)
theorem dX1_ring_102 : decode cX1_ring 102 = .ok (.iload 7, 2) := dk_21 7 (dk_at dksX1_ring_4 6 rfl rfl)
theorem dX1_ring_104 : decode cX1_ring 104 = .ok (.isub, 1) := dk_100 (dk_at dksX1_ring_4 8 rfl rfl)
theorem dX1_ring_105 : decode cX1_ring 105 = .ok (.if_icmp .ge 39, 3) := dk_162 0 39 (dk_at dksX1_ring_4 9 rfl rfl)
theorem dX1_ring_108 : decode cX1_ring 108 = .ok (.iload_n 3, 1) := dk_29 (dk_at dksX1_ring_4 12 rfl rfl)
theorem dX1_ring_109 : decode cX1_ring 109 = .ok (.newarray .int, 2) := dk_188_10 (dk_at dksX1_ring_4 13 rfl rfl)
theorem dX1_ring_111 : decode cX1_ring 111 = .ok (.astore 12, 2) := dk_58 12 (dk_at dksX1_ring_4 15 rfl rfl)
theorem dX1_ring_113 : decode cX1_ring 113 = .ok (.aload 6, 2) := dk_25 6 (dk_at dksX1_ring_4 17 rfl rfl)
theorem dX1_ring_115 : decode cX1_ring 115 = .ok (.iconst 0, 1) := dk_3 (dk_at dksX1_ring_4 19 rfl rfl)
theorem dX1_ring_116 : decode cX1_ring 116 = .ok (.aload 12, 2) := dk_25 12 (dk_at dksX1_ring_4 20 rfl rfl)
theorem dX1_ring_118 : decode cX1_ring 118 = .ok (.iload 11, 2) := dk_21 11 (dk_at dksX1_ring_4 22 rfl rfl)
theorem dX1_ring_120 : decode cX1_ring 120 = .ok (.iload 7, 2) := dk_21 7 (dk_at dksX1_ring_5 0 rfl rfl)
theorem dX1_ring_122 : decode cX1_ring 122 = .ok (.iconst 1, 1) := dk_4 (dk_at dksX1_ring_5 2 rfl rfl)
theorem dX1_ring_123 : decode cX1_ring 123 = .ok (.iadd, 1) := dk_96 (dk_at dksX1_ring_5 3 rfl rfl)
theorem dX1_ring_124 : decode cX1_ring 124 = .ok (.invokestatic 85, 3) := dk_184 0 85 (dk_at dksX1_ring_5 4 rfl rfl)
theorem dX1_ring_127 : decode cX1_ring 127 = .ok (.aload 10, 2) := dk_25 10 (dk_at dksX1_ring_5 7 rfl rfl)
theorem dX1_ring_129 : decode cX1_ring 129 = .ok (.iload_n 2, 1) := dk_28 (dk_at dksX1_ring_5 9 rfl rfl)
theorem dX1_ring_130 : decode cX1_ring 130 = .ok (.aload 12, 2) := dk_25 12 (dk_at dksX1_ring_5 10 rfl rfl)
theorem dX1_ring_132 : decode cX1_ring 132 = .ok (.invokestatic 91, 3) := dk_184 0 91 (dk_at dksX1_ring_5 12 rfl rfl)
theorem dX1_ring_135 : decode cX1_ring 135 = .ok (.invokevirtual 95, 3) := dk_182 0 95 (dk_at dksX1_ring_5 15 rfl rfl)
theorem dX1_ring_138 : decode cX1_ring 138 = .ok (.iinc 11 1, 3) := dk_132 11 1 (dk_at dksX1_ring_5 18 rfl rfl)
theorem dX1_ring_141 : decode cX1_ring 141 = .ok (.goto (-42), 3) := dk_167 255 214 (dk_at dksX1_ring_5 21 rfl rfl)
theorem dX1_ring_144 : decode cX1_ring 144 = .ok (.aload_n 0, 1) := dk_42 (dk_at dksX1_ring_6 0 rfl rfl)
theorem dX1_ring_145 : decode cX1_ring 145 = .ok (.iload_n 1, 1) := dk_27 (dk_at dksX1_ring_6 1 rfl rfl)
theorem dX1_ring_146 : decode cX1_ring 146 = .ok (.aload 10, 2) := dk_25 10 (dk_at dksX1_ring_6 2 rfl rfl)
theorem dX1_ring_148 : decode cX1_ring 148 = .ok (.invokevirtual 56, 3) := dk_182 0 56 (dk_at dksX1_ring_6 4 rfl rfl)
theorem dX1_ring_151 : decode cX1_ring 151 = .ok (.ireturn, 1) := dk_172 (dk_at dksX1_ring_6 7 rfl rfl)
abbrev cX1_wordOf : ByteArray := prog_1_method_7_code
def yX1_wordOf : MethodName := ⟨RX1, "wordOf", "(I[I)J"⟩
def dkwX1_wordOf_1 : List UInt8 := [46, 54, 7, 32, 26, 133, 105, 21, 7, 133, 97, 65, 132, 6, 1, 167, 255, 230, 32, 173]
abbrev dktX1_wordOf_1 : List UInt8 := dkwX1_wordOf_1 ++ []
def dkwX1_wordOf_0 : List UInt8 := [9, 65, 43, 58, 4, 25, 4, 190, 54, 5, 3, 54, 6, 21, 6, 21, 5, 162, 0, 25, 25, 4, 21, 6]
abbrev dktX1_wordOf_0 : List UInt8 := dkwX1_wordOf_0 ++ dktX1_wordOf_1
theorem dksX1_wordOf_0 : cX1_wordOf.data.toList.drop 0 = dktX1_wordOf_0 := by decide +kernel
theorem dksX1_wordOf_1 : cX1_wordOf.data.toList.drop 24 = dktX1_wordOf_1 := dk_seg dksX1_wordOf_0 24 rfl rfl
theorem dX1_wordOf_0 : decode cX1_wordOf 0 = .ok (.lconst 0, 1) := dk_9 (dk_at dksX1_wordOf_0 0 rfl rfl)
theorem dX1_wordOf_1 : decode cX1_wordOf 1 = .ok (.lstore_n 2, 1) := dk_65 (dk_at dksX1_wordOf_0 1 rfl rfl)
theorem dX1_wordOf_2 : decode cX1_wordOf 2 = .ok (.aload_n 1, 1) := dk_43 (dk_at dksX1_wordOf_0 2 rfl rfl)
theorem dX1_wordOf_3 : decode cX1_wordOf 3 = .ok (.astore 4, 2) := dk_58 4 (dk_at dksX1_wordOf_0 3 rfl rfl)
theorem dX1_wordOf_5 : decode cX1_wordOf 5 = .ok (.aload 4, 2) := dk_25 4 (dk_at dksX1_wordOf_0 5 rfl rfl)
theorem dX1_wordOf_7 : decode cX1_wordOf 7 = .ok (.arraylength, 1) := dk_190 (dk_at dksX1_wordOf_0 7 rfl rfl)
theorem dX1_wordOf_8 : decode cX1_wordOf 8 = .ok (.istore 5, 2) := dk_54 5 (dk_at dksX1_wordOf_0 8 rfl rfl)
theorem dX1_wordOf_10 : decode cX1_wordOf 10 = .ok (.iconst 0, 1) := dk_3 (dk_at dksX1_wordOf_0 10 rfl rfl)
theorem dX1_wordOf_11 : decode cX1_wordOf 11 = .ok (.istore 6, 2) := dk_54 6 (dk_at dksX1_wordOf_0 11 rfl rfl)
theorem dX1_wordOf_13 : decode cX1_wordOf 13 = .ok (.iload 6, 2) := dk_21 6 (dk_at dksX1_wordOf_0 13 rfl rfl)
theorem dX1_wordOf_15 : decode cX1_wordOf 15 = .ok (.iload 5, 2) := dk_21 5 (dk_at dksX1_wordOf_0 15 rfl rfl)
theorem dX1_wordOf_17 : decode cX1_wordOf 17 = .ok (.if_icmp .ge 25, 3) := dk_162 0 25 (dk_at dksX1_wordOf_0 17 rfl rfl)
theorem dX1_wordOf_20 : decode cX1_wordOf 20 = .ok (.aload 4, 2) := dk_25 4 (dk_at dksX1_wordOf_0 20 rfl rfl)
theorem dX1_wordOf_22 : decode cX1_wordOf 22 = .ok (.iload 6, 2) := dk_21 6 (dk_at dksX1_wordOf_0 22 rfl rfl)
theorem dX1_wordOf_24 : decode cX1_wordOf 24 = .ok (.iaload, 1) := dk_46 (dk_at dksX1_wordOf_1 0 rfl rfl)
theorem dX1_wordOf_25 : decode cX1_wordOf 25 = .ok (.istore 7, 2) := dk_54 7 (dk_at dksX1_wordOf_1 1 rfl rfl)
theorem dX1_wordOf_27 : decode cX1_wordOf 27 = .ok (.lload_n 2, 1) := dk_32 (dk_at dksX1_wordOf_1 3 rfl rfl)
theorem dX1_wordOf_28 : decode cX1_wordOf 28 = .ok (.iload_n 0, 1) := dk_26 (dk_at dksX1_wordOf_1 4 rfl rfl)
theorem dX1_wordOf_29 : decode cX1_wordOf 29 = .ok (.i2l, 1) := dk_133 (dk_at dksX1_wordOf_1 5 rfl rfl)
theorem dX1_wordOf_30 : decode cX1_wordOf 30 = .ok (.lmul, 1) := dk_105 (dk_at dksX1_wordOf_1 6 rfl rfl)
theorem dX1_wordOf_31 : decode cX1_wordOf 31 = .ok (.iload 7, 2) := dk_21 7 (dk_at dksX1_wordOf_1 7 rfl rfl)
theorem dX1_wordOf_33 : decode cX1_wordOf 33 = .ok (.i2l, 1) := dk_133 (dk_at dksX1_wordOf_1 9 rfl rfl)
theorem dX1_wordOf_34 : decode cX1_wordOf 34 = .ok (.ladd, 1) := dk_97 (dk_at dksX1_wordOf_1 10 rfl rfl)
theorem dX1_wordOf_35 : decode cX1_wordOf 35 = .ok (.lstore_n 2, 1) := dk_65 (dk_at dksX1_wordOf_1 11 rfl rfl)
theorem dX1_wordOf_36 : decode cX1_wordOf 36 = .ok (.iinc 6 1, 3) := dk_132 6 1 (dk_at dksX1_wordOf_1 12 rfl rfl)
theorem dX1_wordOf_39 : decode cX1_wordOf 39 = .ok (.goto (-26), 3) := dk_167 255 230 (dk_at dksX1_wordOf_1 15 rfl rfl)
theorem dX1_wordOf_42 : decode cX1_wordOf 42 = .ok (.lload_n 2, 1) := dk_32 (dk_at dksX1_wordOf_1 18 rfl rfl)
theorem dX1_wordOf_43 : decode cX1_wordOf 43 = .ok (.lreturn, 1) := dk_173 (dk_at dksX1_wordOf_1 19 rfl rfl)
abbrev cX1_empty : ByteArray := prog_1_method_21_code
def yX1_empty : MethodName := ⟨RX1, "empty", "(I)I"⟩
def dkwX1_empty_1 : List UInt8 := [42, 180, 0, 26, 27, 1, 83, 28, 172]
abbrev dktX1_empty_1 : List UInt8 := dkwX1_empty_1 ++ []
def dkwX1_empty_0 : List UInt8 := [27, 184, 0, 36, 154, 0, 5, 2, 172, 42, 180, 0, 26, 27, 50, 199, 0, 7, 3, 167, 0, 4, 4, 61]
abbrev dktX1_empty_0 : List UInt8 := dkwX1_empty_0 ++ dktX1_empty_1
theorem dksX1_empty_0 : cX1_empty.data.toList.drop 0 = dktX1_empty_0 := by decide +kernel
theorem dksX1_empty_1 : cX1_empty.data.toList.drop 24 = dktX1_empty_1 := dk_seg dksX1_empty_0 24 rfl rfl
theorem dX1_empty_0 : decode cX1_empty 0 = .ok (.iload_n 1, 1) := dk_27 (dk_at dksX1_empty_0 0 rfl rfl)
theorem dX1_empty_1 : decode cX1_empty 1 = .ok (.invokestatic 36, 3) := dk_184 0 36 (dk_at dksX1_empty_0 1 rfl rfl)
theorem dX1_empty_4 : decode cX1_empty 4 = .ok (.ifCond .ne 5, 3) := dk_154 0 5 (dk_at dksX1_empty_0 4 rfl rfl)
theorem dX1_empty_7 : decode cX1_empty 7 = .ok (.iconst (-1), 1) := dk_2 (dk_at dksX1_empty_0 7 rfl rfl)
theorem dX1_empty_8 : decode cX1_empty 8 = .ok (.ireturn, 1) := dk_172 (dk_at dksX1_empty_0 8 rfl rfl)
theorem dX1_empty_9 : decode cX1_empty 9 = .ok (.aload_n 0, 1) := dk_42 (dk_at dksX1_empty_0 9 rfl rfl)
theorem dX1_empty_10 : decode cX1_empty 10 = .ok (.getfield 26, 3) := dk_180 0 26 (dk_at dksX1_empty_0 10 rfl rfl)
theorem dX1_empty_13 : decode cX1_empty 13 = .ok (.iload_n 1, 1) := dk_27 (dk_at dksX1_empty_0 13 rfl rfl)
theorem dX1_empty_14 : decode cX1_empty 14 = .ok (.aaload, 1) := dk_50 (dk_at dksX1_empty_0 14 rfl rfl)
theorem dX1_empty_15 : decode cX1_empty 15 = .ok (.ifnonnull 7, 3) := dk_199 0 7 (dk_at dksX1_empty_0 15 rfl rfl)
theorem dX1_empty_18 : decode cX1_empty 18 = .ok (.iconst 0, 1) := dk_3 (dk_at dksX1_empty_0 18 rfl rfl)
theorem dX1_empty_19 : decode cX1_empty 19 = .ok (.goto 4, 3) := dk_167 0 4 (dk_at dksX1_empty_0 19 rfl rfl)
theorem dX1_empty_22 : decode cX1_empty 22 = .ok (.iconst 1, 1) := dk_4 (dk_at dksX1_empty_0 22 rfl rfl)
theorem dX1_empty_23 : decode cX1_empty 23 = .ok (.istore_n 2, 1) := dk_61 (dk_at dksX1_empty_0 23 rfl rfl)
theorem dX1_empty_24 : decode cX1_empty 24 = .ok (.aload_n 0, 1) := dk_42 (dk_at dksX1_empty_1 0 rfl rfl)
theorem dX1_empty_25 : decode cX1_empty 25 = .ok (.getfield 26, 3) := dk_180 0 26 (dk_at dksX1_empty_1 1 rfl rfl)
theorem dX1_empty_28 : decode cX1_empty 28 = .ok (.iload_n 1, 1) := dk_27 (dk_at dksX1_empty_1 4 rfl rfl)
theorem dX1_empty_29 : decode cX1_empty 29 = .ok (.aconst_null, 1) := dk_1 (dk_at dksX1_empty_1 5 rfl rfl)
theorem dX1_empty_30 : decode cX1_empty 30 = .ok (.aastore, 1) := dk_83 (dk_at dksX1_empty_1 6 rfl rfl)
theorem dX1_empty_31 : decode cX1_empty 31 = .ok (.iload_n 2, 1) := dk_28 (dk_at dksX1_empty_1 7 rfl rfl)
theorem dX1_empty_32 : decode cX1_empty 32 = .ok (.ireturn, 1) := dk_172 (dk_at dksX1_empty_1 8 rfl rfl)
abbrev cX1_look : ByteArray := prog_1_method_22_code
def yX1_look : MethodName := ⟨RX1, "look", "(II)I"⟩
def dkwX1_look_6 : List UInt8 := [4, 167, 0, 4, 3, 172]
abbrev dktX1_look_6 : List UInt8 := dkwX1_look_6 ++ []
def dkwX1_look_5 : List UInt8 := [187, 0, 100, 89, 25, 4, 183, 0, 102, 180, 0, 105, 172, 25, 4, 192, 0, 50, 182, 0, 108, 153, 0, 7]
abbrev dktX1_look_5 : List UInt8 := dkwX1_look_5 ++ dktX1_look_6
def dkwX1_look_4 : List UInt8 := [25, 4, 182, 0, 96, 172, 25, 4, 180, 0, 64, 172, 25, 4, 180, 0, 67, 172, 25, 4, 180, 0, 30, 172]
abbrev dktX1_look_4 : List UInt8 := dkwX1_look_4 ++ dktX1_look_5
def dkwX1_look_3 : List UInt8 := [170, 0, 0, 0, 0, 0, 0, 73, 0, 0, 0, 0, 0, 0, 0, 4, 0, 0, 0, 36, 0, 0, 0, 42, 0, 0, 0, 48, 0, 0, 0, 54, 0, 0, 0, 60]
abbrev dktX1_look_3 : List UInt8 := dkwX1_look_3 ++ dktX1_look_4
def dkwX1_look_2 : List UInt8 := [50, 58, 4, 28]
abbrev dktX1_look_2 : List UInt8 := dkwX1_look_2 ++ dktX1_look_3
def dkwX1_look_1 : List UInt8 := [6, 164, 0, 7, 4, 167, 0, 4, 3, 182, 0, 60, 62, 29, 153, 0, 5, 29, 172, 42, 180, 0, 26, 27]
abbrev dktX1_look_1 : List UInt8 := dkwX1_look_1 ++ dktX1_look_2
def dkwX1_look_0 : List UInt8 := [27, 184, 0, 36, 153, 0, 15, 28, 133, 9, 20, 0, 22, 184, 0, 16, 154, 0, 5, 2, 172, 42, 27, 28]
abbrev dktX1_look_0 : List UInt8 := dkwX1_look_0 ++ dktX1_look_1
theorem dksX1_look_0 : cX1_look.data.toList.drop 0 = dktX1_look_0 := by decide +kernel
theorem dksX1_look_1 : cX1_look.data.toList.drop 24 = dktX1_look_1 := dk_seg dksX1_look_0 24 rfl rfl
theorem dksX1_look_2 : cX1_look.data.toList.drop 48 = dktX1_look_2 := dk_seg dksX1_look_1 24 rfl rfl
theorem dksX1_look_3 : cX1_look.data.toList.drop 52 = dktX1_look_3 := dk_seg dksX1_look_2 4 rfl rfl
theorem dksX1_look_4 : cX1_look.data.toList.drop 88 = dktX1_look_4 := dk_seg dksX1_look_3 36 rfl rfl
theorem dksX1_look_5 : cX1_look.data.toList.drop 112 = dktX1_look_5 := dk_seg dksX1_look_4 24 rfl rfl
theorem dksX1_look_6 : cX1_look.data.toList.drop 136 = dktX1_look_6 := dk_seg dksX1_look_5 24 rfl rfl
theorem dX1_look_0 : decode cX1_look 0 = .ok (.iload_n 1, 1) := dk_27 (dk_at dksX1_look_0 0 rfl rfl)
theorem dX1_look_1 : decode cX1_look 1 = .ok (.invokestatic 36, 3) := dk_184 0 36 (dk_at dksX1_look_0 1 rfl rfl)
theorem dX1_look_4 : decode cX1_look 4 = .ok (.ifCond .eq 15, 3) := dk_153 0 15 (dk_at dksX1_look_0 4 rfl rfl)
theorem dX1_look_7 : decode cX1_look 7 = .ok (.iload_n 2, 1) := dk_28 (dk_at dksX1_look_0 7 rfl rfl)
theorem dX1_look_8 : decode cX1_look 8 = .ok (.i2l, 1) := dk_133 (dk_at dksX1_look_0 8 rfl rfl)
theorem dX1_look_9 : decode cX1_look 9 = .ok (.lconst 0, 1) := dk_9 (dk_at dksX1_look_0 9 rfl rfl)
theorem dX1_look_10 : decode cX1_look 10 = .ok (.ldc2_w 22, 3) := dk_20 0 22 (dk_at dksX1_look_0 10 rfl rfl)
theorem dX1_look_13 : decode cX1_look 13 = .ok (.invokestatic 16, 3) := dk_184 0 16 (dk_at dksX1_look_0 13 rfl rfl)
theorem dX1_look_16 : decode cX1_look 16 = .ok (.ifCond .ne 5, 3) := dk_154 0 5 (dk_at dksX1_look_0 16 rfl rfl)
theorem dX1_look_19 : decode cX1_look 19 = .ok (.iconst (-1), 1) := dk_2 (dk_at dksX1_look_0 19 rfl rfl)
theorem dX1_look_20 : decode cX1_look 20 = .ok (.ireturn, 1) := dk_172 (dk_at dksX1_look_0 20 rfl rfl)
theorem dX1_look_21 : decode cX1_look 21 = .ok (.aload_n 0, 1) := dk_42 (dk_at dksX1_look_0 21 rfl rfl)
theorem dX1_look_22 : decode cX1_look 22 = .ok (.iload_n 1, 1) := dk_27 (dk_at dksX1_look_0 22 rfl rfl)
theorem dX1_look_23 : decode cX1_look 23 = .ok (.iload_n 2, 1) := dk_28 (dk_at dksX1_look_0 23 rfl rfl)
theorem dX1_look_24 : decode cX1_look 24 = .ok (.iconst 3, 1) := dk_6 (dk_at dksX1_look_1 0 rfl rfl)
theorem dX1_look_25 : decode cX1_look 25 = .ok (.if_icmp .le 7, 3) := dk_164 0 7 (dk_at dksX1_look_1 1 rfl rfl)
theorem dX1_look_28 : decode cX1_look 28 = .ok (.iconst 1, 1) := dk_4 (dk_at dksX1_look_1 4 rfl rfl)
theorem dX1_look_29 : decode cX1_look 29 = .ok (.goto 4, 3) := dk_167 0 4 (dk_at dksX1_look_1 5 rfl rfl)
theorem dX1_look_32 : decode cX1_look 32 = .ok (.iconst 0, 1) := dk_3 (dk_at dksX1_look_1 8 rfl rfl)
theorem dX1_look_33 : decode cX1_look 33 = .ok (.invokevirtual 60, 3) := dk_182 0 60 (dk_at dksX1_look_1 9 rfl rfl)
theorem dX1_look_36 : decode cX1_look 36 = .ok (.istore_n 3, 1) := dk_62 (dk_at dksX1_look_1 12 rfl rfl)
theorem dX1_look_37 : decode cX1_look 37 = .ok (.iload_n 3, 1) := dk_29 (dk_at dksX1_look_1 13 rfl rfl)
theorem dX1_look_38 : decode cX1_look 38 = .ok (.ifCond .eq 5, 3) := dk_153 0 5 (dk_at dksX1_look_1 14 rfl rfl)
theorem dX1_look_41 : decode cX1_look 41 = .ok (.iload_n 3, 1) := dk_29 (dk_at dksX1_look_1 17 rfl rfl)
theorem dX1_look_42 : decode cX1_look 42 = .ok (.ireturn, 1) := dk_172 (dk_at dksX1_look_1 18 rfl rfl)
theorem dX1_look_43 : decode cX1_look 43 = .ok (.aload_n 0, 1) := dk_42 (dk_at dksX1_look_1 19 rfl rfl)
theorem dX1_look_44 : decode cX1_look 44 = .ok (.getfield 26, 3) := dk_180 0 26 (dk_at dksX1_look_1 20 rfl rfl)
theorem dX1_look_47 : decode cX1_look 47 = .ok (.iload_n 1, 1) := dk_27 (dk_at dksX1_look_1 23 rfl rfl)
theorem dX1_look_48 : decode cX1_look 48 = .ok (.aaload, 1) := dk_50 (dk_at dksX1_look_2 0 rfl rfl)
theorem dX1_look_49 : decode cX1_look 49 = .ok (.astore 4, 2) := dk_58 4 (dk_at dksX1_look_2 1 rfl rfl)
theorem dX1_look_51 : decode cX1_look 51 = .ok (.iload_n 2, 1) := dk_28 (dk_at dksX1_look_2 3 rfl rfl)
theorem dX1_look_52 : decode cX1_look 52 = .ok (.tableswitch 73 0 4 #[36, 42, 48, 54, 60], 36) := by decide +kernel
theorem dX1_look_88 : decode cX1_look 88 = .ok (.aload 4, 2) := dk_25 4 (dk_at dksX1_look_4 0 rfl rfl)
theorem dX1_look_90 : decode cX1_look 90 = .ok (.invokevirtual 96, 3) := dk_182 0 96 (dk_at dksX1_look_4 2 rfl rfl)
theorem dX1_look_93 : decode cX1_look 93 = .ok (.ireturn, 1) := dk_172 (dk_at dksX1_look_4 5 rfl rfl)
theorem dX1_look_94 : decode cX1_look 94 = .ok (.aload 4, 2) := dk_25 4 (dk_at dksX1_look_4 6 rfl rfl)
theorem dX1_look_96 : decode cX1_look 96 = .ok (.getfield 64, 3) := dk_180 0 64 (dk_at dksX1_look_4 8 rfl rfl)
theorem dX1_look_99 : decode cX1_look 99 = .ok (.ireturn, 1) := dk_172 (dk_at dksX1_look_4 11 rfl rfl)
theorem dX1_look_100 : decode cX1_look 100 = .ok (.aload 4, 2) := dk_25 4 (dk_at dksX1_look_4 12 rfl rfl)
theorem dX1_look_102 : decode cX1_look 102 = .ok (.getfield 67, 3) := dk_180 0 67 (dk_at dksX1_look_4 14 rfl rfl)
theorem dX1_look_105 : decode cX1_look 105 = .ok (.ireturn, 1) := dk_172 (dk_at dksX1_look_4 17 rfl rfl)
theorem dX1_look_106 : decode cX1_look 106 = .ok (.aload 4, 2) := dk_25 4 (dk_at dksX1_look_4 18 rfl rfl)
theorem dX1_look_108 : decode cX1_look 108 = .ok (.getfield 30, 3) := dk_180 0 30 (dk_at dksX1_look_4 20 rfl rfl)
theorem dX1_look_111 : decode cX1_look 111 = .ok (.ireturn, 1) := dk_172 (dk_at dksX1_look_4 23 rfl rfl)
theorem dX1_look_112 : decode cX1_look 112 = .ok (.new 100, 3) := dk_187 0 100 (dk_at dksX1_look_5 0 rfl rfl)
theorem dX1_look_115 : decode cX1_look 115 = .ok (.dup, 1) := dk_89 (dk_at dksX1_look_5 3 rfl rfl)
theorem dX1_look_116 : decode cX1_look 116 = .ok (.aload 4, 2) := dk_25 4 (dk_at dksX1_look_5 4 rfl rfl)
theorem dX1_look_118 : decode cX1_look 118 = .ok (.invokespecial 102, 3) := dk_183 0 102 (dk_at dksX1_look_5 6 rfl rfl)
theorem dX1_look_121 : decode cX1_look 121 = .ok (.getfield 105, 3) := dk_180 0 105 (dk_at dksX1_look_5 9 rfl rfl)
theorem dX1_look_124 : decode cX1_look 124 = .ok (.ireturn, 1) := dk_172 (dk_at dksX1_look_5 12 rfl rfl)
theorem dX1_look_125 : decode cX1_look 125 = .ok (.aload 4, 2) := dk_25 4 (dk_at dksX1_look_5 13 rfl rfl)
theorem dX1_look_127 : decode cX1_look 127 = .ok (.checkcast 50, 3) := dk_192 0 50 (dk_at dksX1_look_5 15 rfl rfl)
theorem dX1_look_130 : decode cX1_look 130 = .ok (.invokevirtual 108, 3) := dk_182 0 108 (dk_at dksX1_look_5 18 rfl rfl)
theorem dX1_look_133 : decode cX1_look 133 = .ok (.ifCond .eq 7, 3) := dk_153 0 7 (dk_at dksX1_look_5 21 rfl rfl)
theorem dX1_look_136 : decode cX1_look 136 = .ok (.iconst 1, 1) := dk_4 (dk_at dksX1_look_6 0 rfl rfl)
theorem dX1_look_137 : decode cX1_look 137 = .ok (.goto 4, 3) := dk_167 0 4 (dk_at dksX1_look_6 1 rfl rfl)
theorem dX1_look_140 : decode cX1_look 140 = .ok (.iconst 0, 1) := dk_3 (dk_at dksX1_look_6 4 rfl rfl)
theorem dX1_look_141 : decode cX1_look 141 = .ok (.ireturn, 1) := dk_172 (dk_at dksX1_look_6 5 rfl rfl)
abbrev cX1_letters : ByteArray := prog_1_method_6_code
def yX1_letters : MethodName := ⟨RX1, "letters", "(IIJ)[I"⟩
def dkwX1_letters_1 : List UInt8 := [26, 133, 113, 136, 79, 22, 5, 26, 133, 109, 55, 5, 132, 7, 255, 167, 255, 230, 25, 4, 176]
abbrev dktX1_letters_1 : List UInt8 := dkwX1_letters_1 ++ []
def dkwX1_letters_0 : List UInt8 := [27, 188, 10, 58, 4, 32, 55, 5, 27, 4, 100, 54, 7, 21, 7, 155, 0, 27, 25, 4, 21, 7, 22, 5]
abbrev dktX1_letters_0 : List UInt8 := dkwX1_letters_0 ++ dktX1_letters_1
theorem dksX1_letters_0 : cX1_letters.data.toList.drop 0 = dktX1_letters_0 := by decide +kernel
theorem dksX1_letters_1 : cX1_letters.data.toList.drop 24 = dktX1_letters_1 := dk_seg dksX1_letters_0 24 rfl rfl
theorem dX1_letters_0 : decode cX1_letters 0 = .ok (.iload_n 1, 1) := dk_27 (dk_at dksX1_letters_0 0 rfl rfl)
theorem dX1_letters_1 : decode cX1_letters 1 = .ok (.newarray .int, 2) := dk_188_10 (dk_at dksX1_letters_0 1 rfl rfl)
theorem dX1_letters_3 : decode cX1_letters 3 = .ok (.astore 4, 2) := dk_58 4 (dk_at dksX1_letters_0 3 rfl rfl)
theorem dX1_letters_5 : decode cX1_letters 5 = .ok (.lload_n 2, 1) := dk_32 (dk_at dksX1_letters_0 5 rfl rfl)
theorem dX1_letters_6 : decode cX1_letters 6 = .ok (.lstore 5, 2) := dk_55 5 (dk_at dksX1_letters_0 6 rfl rfl)
theorem dX1_letters_8 : decode cX1_letters 8 = .ok (.iload_n 1, 1) := dk_27 (dk_at dksX1_letters_0 8 rfl rfl)
theorem dX1_letters_9 : decode cX1_letters 9 = .ok (.iconst 1, 1) := dk_4 (dk_at dksX1_letters_0 9 rfl rfl)
theorem dX1_letters_10 : decode cX1_letters 10 = .ok (.isub, 1) := dk_100 (dk_at dksX1_letters_0 10 rfl rfl)
theorem dX1_letters_11 : decode cX1_letters 11 = .ok (.istore 7, 2) := dk_54 7 (dk_at dksX1_letters_0 11 rfl rfl)
theorem dX1_letters_13 : decode cX1_letters 13 = .ok (.iload 7, 2) := dk_21 7 (dk_at dksX1_letters_0 13 rfl rfl)
theorem dX1_letters_15 : decode cX1_letters 15 = .ok (.ifCond .lt 27, 3) := dk_155 0 27 (dk_at dksX1_letters_0 15 rfl rfl)
theorem dX1_letters_18 : decode cX1_letters 18 = .ok (.aload 4, 2) := dk_25 4 (dk_at dksX1_letters_0 18 rfl rfl)
theorem dX1_letters_20 : decode cX1_letters 20 = .ok (.iload 7, 2) := dk_21 7 (dk_at dksX1_letters_0 20 rfl rfl)
theorem dX1_letters_22 : decode cX1_letters 22 = .ok (.lload 5, 2) := dk_22 5 (dk_at dksX1_letters_0 22 rfl rfl)
theorem dX1_letters_24 : decode cX1_letters 24 = .ok (.iload_n 0, 1) := dk_26 (dk_at dksX1_letters_1 0 rfl rfl)
theorem dX1_letters_25 : decode cX1_letters 25 = .ok (.i2l, 1) := dk_133 (dk_at dksX1_letters_1 1 rfl rfl)
theorem dX1_letters_26 : decode cX1_letters 26 = .ok (.lrem, 1) := dk_113 (dk_at dksX1_letters_1 2 rfl rfl)
theorem dX1_letters_27 : decode cX1_letters 27 = .ok (.l2i, 1) := dk_136 (dk_at dksX1_letters_1 3 rfl rfl)
theorem dX1_letters_28 : decode cX1_letters 28 = .ok (.iastore, 1) := dk_79 (dk_at dksX1_letters_1 4 rfl rfl)
theorem dX1_letters_29 : decode cX1_letters 29 = .ok (.lload 5, 2) := dk_22 5 (dk_at dksX1_letters_1 5 rfl rfl)
theorem dX1_letters_31 : decode cX1_letters 31 = .ok (.iload_n 0, 1) := dk_26 (dk_at dksX1_letters_1 7 rfl rfl)
theorem dX1_letters_32 : decode cX1_letters 32 = .ok (.i2l, 1) := dk_133 (dk_at dksX1_letters_1 8 rfl rfl)
theorem dX1_letters_33 : decode cX1_letters 33 = .ok (.ldiv, 1) := dk_109 (dk_at dksX1_letters_1 9 rfl rfl)
theorem dX1_letters_34 : decode cX1_letters 34 = .ok (.lstore 5, 2) := dk_55 5 (dk_at dksX1_letters_1 10 rfl rfl)
theorem dX1_letters_36 : decode cX1_letters 36 = .ok (.iinc 7 (-1), 3) := dk_132 7 255 (dk_at dksX1_letters_1 12 rfl rfl)
theorem dX1_letters_39 : decode cX1_letters 39 = .ok (.goto (-26), 3) := dk_167 255 230 (dk_at dksX1_letters_1 15 rfl rfl)
theorem dX1_letters_42 : decode cX1_letters 42 = .ok (.aload 4, 2) := dk_25 4 (dk_at dksX1_letters_1 18 rfl rfl)
theorem dX1_letters_44 : decode cX1_letters 44 = .ok (.areturn, 1) := dk_176 (dk_at dksX1_letters_1 20 rfl rfl)
abbrev cX1_inverse : ByteArray := prog_1_method_4_code
def yX1_inverse : MethodName := ⟨RX1, "inverse", "(II)I"⟩
def dkwX1_inverse_0 : List UInt8 := [4, 61, 26, 27, 28, 184, 0, 1, 4, 159, 0, 9, 132, 2, 1, 167, 255, 243, 28, 172]
abbrev dktX1_inverse_0 : List UInt8 := dkwX1_inverse_0 ++ []
theorem dksX1_inverse_0 : cX1_inverse.data.toList.drop 0 = dktX1_inverse_0 := by decide +kernel
theorem dX1_inverse_0 : decode cX1_inverse 0 = .ok (.iconst 1, 1) := dk_4 (dk_at dksX1_inverse_0 0 rfl rfl)
theorem dX1_inverse_1 : decode cX1_inverse 1 = .ok (.istore_n 2, 1) := dk_61 (dk_at dksX1_inverse_0 1 rfl rfl)
theorem dX1_inverse_2 : decode cX1_inverse 2 = .ok (.iload_n 0, 1) := dk_26 (dk_at dksX1_inverse_0 2 rfl rfl)
theorem dX1_inverse_3 : decode cX1_inverse 3 = .ok (.iload_n 1, 1) := dk_27 (dk_at dksX1_inverse_0 3 rfl rfl)
theorem dX1_inverse_4 : decode cX1_inverse 4 = .ok (.iload_n 2, 1) := dk_28 (dk_at dksX1_inverse_0 4 rfl rfl)
theorem dX1_inverse_5 : decode cX1_inverse 5 = .ok (.invokestatic 1, 3) := dk_184 0 1 (dk_at dksX1_inverse_0 5 rfl rfl)
theorem dX1_inverse_8 : decode cX1_inverse 8 = .ok (.iconst 1, 1) := dk_4 (dk_at dksX1_inverse_0 8 rfl rfl)
theorem dX1_inverse_9 : decode cX1_inverse 9 = .ok (.if_icmp .eq 9, 3) := dk_159 0 9 (dk_at dksX1_inverse_0 9 rfl rfl)
theorem dX1_inverse_12 : decode cX1_inverse 12 = .ok (.iinc 2 1, 3) := dk_132 2 1 (dk_at dksX1_inverse_0 12 rfl rfl)
theorem dX1_inverse_15 : decode cX1_inverse 15 = .ok (.goto (-13), 3) := dk_167 255 243 (dk_at dksX1_inverse_0 15 rfl rfl)
theorem dX1_inverse_18 : decode cX1_inverse 18 = .ok (.iload_n 2, 1) := dk_28 (dk_at dksX1_inverse_0 18 rfl rfl)
theorem dX1_inverse_19 : decode cX1_inverse 19 = .ok (.ireturn, 1) := dk_172 (dk_at dksX1_inverse_0 19 rfl rfl)
abbrev cX1_against : ByteArray := prog_1_method_3_code
def yX1_against : MethodName := ⟨RX1, "against", "(II)I"⟩
def dkwX1_against_0 : List UInt8 := [26, 7, 160, 0, 7, 27, 167, 0, 8, 26, 27, 100, 26, 112, 172]
abbrev dktX1_against_0 : List UInt8 := dkwX1_against_0 ++ []
theorem dksX1_against_0 : cX1_against.data.toList.drop 0 = dktX1_against_0 := by decide +kernel
theorem dX1_against_0 : decode cX1_against 0 = .ok (.iload_n 0, 1) := dk_26 (dk_at dksX1_against_0 0 rfl rfl)
theorem dX1_against_1 : decode cX1_against 1 = .ok (.iconst 4, 1) := dk_7 (dk_at dksX1_against_0 1 rfl rfl)
theorem dX1_against_2 : decode cX1_against 2 = .ok (.if_icmp .ne 7, 3) := dk_160 0 7 (dk_at dksX1_against_0 2 rfl rfl)
theorem dX1_against_5 : decode cX1_against 5 = .ok (.iload_n 1, 1) := dk_27 (dk_at dksX1_against_0 5 rfl rfl)
theorem dX1_against_6 : decode cX1_against 6 = .ok (.goto 8, 3) := dk_167 0 8 (dk_at dksX1_against_0 6 rfl rfl)
theorem dX1_against_9 : decode cX1_against 9 = .ok (.iload_n 0, 1) := dk_26 (dk_at dksX1_against_0 9 rfl rfl)
theorem dX1_against_10 : decode cX1_against 10 = .ok (.iload_n 1, 1) := dk_27 (dk_at dksX1_against_0 10 rfl rfl)
theorem dX1_against_11 : decode cX1_against 11 = .ok (.isub, 1) := dk_100 (dk_at dksX1_against_0 11 rfl rfl)
theorem dX1_against_12 : decode cX1_against 12 = .ok (.iload_n 0, 1) := dk_26 (dk_at dksX1_against_0 12 rfl rfl)
theorem dX1_against_13 : decode cX1_against 13 = .ok (.irem, 1) := dk_112 (dk_at dksX1_against_0 13 rfl rfl)
theorem dX1_against_14 : decode cX1_against 14 = .ok (.ireturn, 1) := dk_172 (dk_at dksX1_against_0 14 rfl rfl)
abbrev cX1_size : ByteArray := prog_1_method_25_code
def yX1_size : MethodName := ⟨RX1, "size", "(I)J"⟩
def dkwX1_size_1 : List UInt8 := [184, 0, 124, 173]
abbrev dktX1_size_1 : List UInt8 := dkwX1_size_1 ++ []
def dkwX1_size_0 : List UInt8 := [42, 27, 3, 182, 0, 60, 61, 28, 153, 0, 8, 28, 133, 167, 0, 12, 42, 180, 0, 26, 27, 50]
abbrev dktX1_size_0 : List UInt8 := dkwX1_size_0 ++ dktX1_size_1
theorem dksX1_size_0 : cX1_size.data.toList.drop 0 = dktX1_size_0 := by decide +kernel
theorem dksX1_size_1 : cX1_size.data.toList.drop 22 = dktX1_size_1 := dk_seg dksX1_size_0 22 rfl rfl
theorem dX1_size_0 : decode cX1_size 0 = .ok (.aload_n 0, 1) := dk_42 (dk_at dksX1_size_0 0 rfl rfl)
theorem dX1_size_1 : decode cX1_size 1 = .ok (.iload_n 1, 1) := dk_27 (dk_at dksX1_size_0 1 rfl rfl)
theorem dX1_size_2 : decode cX1_size 2 = .ok (.iconst 0, 1) := dk_3 (dk_at dksX1_size_0 2 rfl rfl)
theorem dX1_size_3 : decode cX1_size 3 = .ok (.invokevirtual 60, 3) := dk_182 0 60 (dk_at dksX1_size_0 3 rfl rfl)
theorem dX1_size_6 : decode cX1_size 6 = .ok (.istore_n 2, 1) := dk_61 (dk_at dksX1_size_0 6 rfl rfl)
theorem dX1_size_7 : decode cX1_size 7 = .ok (.iload_n 2, 1) := dk_28 (dk_at dksX1_size_0 7 rfl rfl)
theorem dX1_size_8 : decode cX1_size 8 = .ok (.ifCond .eq 8, 3) := dk_153 0 8 (dk_at dksX1_size_0 8 rfl rfl)
theorem dX1_size_11 : decode cX1_size 11 = .ok (.iload_n 2, 1) := dk_28 (dk_at dksX1_size_0 11 rfl rfl)
theorem dX1_size_12 : decode cX1_size 12 = .ok (.i2l, 1) := dk_133 (dk_at dksX1_size_0 12 rfl rfl)
theorem dX1_size_13 : decode cX1_size 13 = .ok (.goto 12, 3) := dk_167 0 12 (dk_at dksX1_size_0 13 rfl rfl)
theorem dX1_size_16 : decode cX1_size 16 = .ok (.aload_n 0, 1) := dk_42 (dk_at dksX1_size_0 16 rfl rfl)
theorem dX1_size_17 : decode cX1_size 17 = .ok (.getfield 26, 3) := dk_180 0 26 (dk_at dksX1_size_0 17 rfl rfl)
theorem dX1_size_20 : decode cX1_size 20 = .ok (.iload_n 1, 1) := dk_27 (dk_at dksX1_size_0 20 rfl rfl)
theorem dX1_size_21 : decode cX1_size 21 = .ok (.aaload, 1) := dk_50 (dk_at dksX1_size_0 21 rfl rfl)
theorem dX1_size_22 : decode cX1_size 22 = .ok (.invokestatic 124, 3) := dk_184 0 124 (dk_at dksX1_size_1 0 rfl rfl)
theorem dX1_size_25 : decode cX1_size 25 = .ok (.lreturn, 1) := dk_173 (dk_at dksX1_size_1 3 rfl rfl)
abbrev cX1_sizeOf : ByteArray := prog_1_method_24_code
def yX1_sizeOf : MethodName := ⟨RX1, "sizeOf", "(LWordBench$Code;)J"⟩
def dkwX1_sizeOf_1 : List UInt8 := [184, 0, 7, 167, 0, 8, 42, 180, 0, 30, 133, 173]
abbrev dktX1_sizeOf_1 : List UInt8 := dkwX1_sizeOf_1 ++ []
def dkwX1_sizeOf_0 : List UInt8 := [42, 193, 0, 50, 153, 0, 24, 42, 180, 0, 64, 187, 0, 100, 89, 42, 183, 0, 102, 180, 0, 105]
abbrev dktX1_sizeOf_0 : List UInt8 := dkwX1_sizeOf_0 ++ dktX1_sizeOf_1
theorem dksX1_sizeOf_0 : cX1_sizeOf.data.toList.drop 0 = dktX1_sizeOf_0 := by decide +kernel
theorem dksX1_sizeOf_1 : cX1_sizeOf.data.toList.drop 22 = dktX1_sizeOf_1 := dk_seg dksX1_sizeOf_0 22 rfl rfl
theorem dX1_sizeOf_0 : decode cX1_sizeOf 0 = .ok (.aload_n 0, 1) := dk_42 (dk_at dksX1_sizeOf_0 0 rfl rfl)
theorem dX1_sizeOf_1 : decode cX1_sizeOf 1 = .ok (.instanceof 50, 3) := dk_193 0 50 (dk_at dksX1_sizeOf_0 1 rfl rfl)
theorem dX1_sizeOf_4 : decode cX1_sizeOf 4 = .ok (.ifCond .eq 24, 3) := dk_153 0 24 (dk_at dksX1_sizeOf_0 4 rfl rfl)
theorem dX1_sizeOf_7 : decode cX1_sizeOf 7 = .ok (.aload_n 0, 1) := dk_42 (dk_at dksX1_sizeOf_0 7 rfl rfl)
theorem dX1_sizeOf_8 : decode cX1_sizeOf 8 = .ok (.getfield 64, 3) := dk_180 0 64 (dk_at dksX1_sizeOf_0 8 rfl rfl)
theorem dX1_sizeOf_11 : decode cX1_sizeOf 11 = .ok (.new 100, 3) := dk_187 0 100 (dk_at dksX1_sizeOf_0 11 rfl rfl)
theorem dX1_sizeOf_14 : decode cX1_sizeOf 14 = .ok (.dup, 1) := dk_89 (dk_at dksX1_sizeOf_0 14 rfl rfl)
theorem dX1_sizeOf_15 : decode cX1_sizeOf 15 = .ok (.aload_n 0, 1) := dk_42 (dk_at dksX1_sizeOf_0 15 rfl rfl)
theorem dX1_sizeOf_16 : decode cX1_sizeOf 16 = .ok (.invokespecial 102, 3) := dk_183 0 102 (dk_at dksX1_sizeOf_0 16 rfl rfl)
theorem dX1_sizeOf_19 : decode cX1_sizeOf 19 = .ok (.getfield 105, 3) := dk_180 0 105 (dk_at dksX1_sizeOf_0 19 rfl rfl)
theorem dX1_sizeOf_22 : decode cX1_sizeOf 22 = .ok (.invokestatic 7, 3) := dk_184 0 7 (dk_at dksX1_sizeOf_1 0 rfl rfl)
theorem dX1_sizeOf_25 : decode cX1_sizeOf 25 = .ok (.goto 8, 3) := dk_167 0 8 (dk_at dksX1_sizeOf_1 3 rfl rfl)
theorem dX1_sizeOf_28 : decode cX1_sizeOf 28 = .ok (.aload_n 0, 1) := dk_42 (dk_at dksX1_sizeOf_1 6 rfl rfl)
theorem dX1_sizeOf_29 : decode cX1_sizeOf 29 = .ok (.getfield 30, 3) := dk_180 0 30 (dk_at dksX1_sizeOf_1 7 rfl rfl)
theorem dX1_sizeOf_32 : decode cX1_sizeOf 32 = .ok (.i2l, 1) := dk_133 (dk_at dksX1_sizeOf_1 10 rfl rfl)
theorem dX1_sizeOf_33 : decode cX1_sizeOf 33 = .ok (.lreturn, 1) := dk_173 (dk_at dksX1_sizeOf_1 11 rfl rfl)
abbrev cX1_in : ByteArray := prog_1_method_27_code
def yX1_in : MethodName := ⟨RX1, "in", "(IJ)I"⟩
def dkwX1_in_1 : List UInt8 := [32, 184, 0, 137, 153, 0, 7, 4, 167, 0, 4, 3, 172]
abbrev dktX1_in_1 : List UInt8 := dkwX1_in_1 ++ []
def dkwX1_in_0 : List UInt8 := [42, 27, 32, 182, 0, 133, 54, 4, 21, 4, 153, 0, 8, 21, 4, 167, 0, 21, 42, 180, 0, 26, 27, 50]
abbrev dktX1_in_0 : List UInt8 := dkwX1_in_0 ++ dktX1_in_1
theorem dksX1_in_0 : cX1_in.data.toList.drop 0 = dktX1_in_0 := by decide +kernel
theorem dksX1_in_1 : cX1_in.data.toList.drop 24 = dktX1_in_1 := dk_seg dksX1_in_0 24 rfl rfl
theorem dX1_in_0 : decode cX1_in 0 = .ok (.aload_n 0, 1) := dk_42 (dk_at dksX1_in_0 0 rfl rfl)
theorem dX1_in_1 : decode cX1_in 1 = .ok (.iload_n 1, 1) := dk_27 (dk_at dksX1_in_0 1 rfl rfl)
theorem dX1_in_2 : decode cX1_in 2 = .ok (.lload_n 2, 1) := dk_32 (dk_at dksX1_in_0 2 rfl rfl)
theorem dX1_in_3 : decode cX1_in 3 = .ok (.invokevirtual 133, 3) := dk_182 0 133 (dk_at dksX1_in_0 3 rfl rfl)
theorem dX1_in_6 : decode cX1_in 6 = .ok (.istore 4, 2) := dk_54 4 (dk_at dksX1_in_0 6 rfl rfl)
theorem dX1_in_8 : decode cX1_in 8 = .ok (.iload 4, 2) := dk_21 4 (dk_at dksX1_in_0 8 rfl rfl)
theorem dX1_in_10 : decode cX1_in 10 = .ok (.ifCond .eq 8, 3) := dk_153 0 8 (dk_at dksX1_in_0 10 rfl rfl)
theorem dX1_in_13 : decode cX1_in 13 = .ok (.iload 4, 2) := dk_21 4 (dk_at dksX1_in_0 13 rfl rfl)
theorem dX1_in_15 : decode cX1_in 15 = .ok (.goto 21, 3) := dk_167 0 21 (dk_at dksX1_in_0 15 rfl rfl)
theorem dX1_in_18 : decode cX1_in 18 = .ok (.aload_n 0, 1) := dk_42 (dk_at dksX1_in_0 18 rfl rfl)
theorem dX1_in_19 : decode cX1_in 19 = .ok (.getfield 26, 3) := dk_180 0 26 (dk_at dksX1_in_0 19 rfl rfl)
theorem dX1_in_22 : decode cX1_in 22 = .ok (.iload_n 1, 1) := dk_27 (dk_at dksX1_in_0 22 rfl rfl)
theorem dX1_in_23 : decode cX1_in 23 = .ok (.aaload, 1) := dk_50 (dk_at dksX1_in_0 23 rfl rfl)
theorem dX1_in_24 : decode cX1_in 24 = .ok (.lload_n 2, 1) := dk_32 (dk_at dksX1_in_1 0 rfl rfl)
theorem dX1_in_25 : decode cX1_in 25 = .ok (.invokestatic 137, 3) := dk_184 0 137 (dk_at dksX1_in_1 1 rfl rfl)
theorem dX1_in_28 : decode cX1_in 28 = .ok (.ifCond .eq 7, 3) := dk_153 0 7 (dk_at dksX1_in_1 4 rfl rfl)
theorem dX1_in_31 : decode cX1_in 31 = .ok (.iconst 1, 1) := dk_4 (dk_at dksX1_in_1 7 rfl rfl)
theorem dX1_in_32 : decode cX1_in 32 = .ok (.goto 4, 3) := dk_167 0 4 (dk_at dksX1_in_1 8 rfl rfl)
theorem dX1_in_35 : decode cX1_in 35 = .ok (.iconst 0, 1) := dk_3 (dk_at dksX1_in_1 11 rfl rfl)
theorem dX1_in_36 : decode cX1_in 36 = .ok (.ireturn, 1) := dk_172 (dk_at dksX1_in_1 12 rfl rfl)
abbrev cX1_whyWord : ByteArray := prog_1_method_28_code
def yX1_whyWord : MethodName := ⟨RX1, "whyWord", "(IJ)I"⟩
def dkwX1_whyWord_2 : List UInt8 := [3, 167, 0, 4, 2, 172]
abbrev dktX1_whyWord_2 : List UInt8 := dkwX1_whyWord_2 ++ []
def dkwX1_whyWord_1 : List UInt8 := [180, 0, 26, 27, 50, 180, 0, 64, 42, 180, 0, 26, 27, 50, 180, 0, 67, 32, 184, 0, 70, 153, 0, 7]
abbrev dktX1_whyWord_1 : List UInt8 := dkwX1_whyWord_1 ++ dktX1_whyWord_2
def dkwX1_whyWord_0 : List UInt8 := [27, 184, 0, 36, 154, 0, 5, 2, 172, 42, 180, 0, 26, 27, 50, 199, 0, 6, 16, 245, 172, 42]
abbrev dktX1_whyWord_0 : List UInt8 := dkwX1_whyWord_0 ++ dktX1_whyWord_1
theorem dksX1_whyWord_0 : cX1_whyWord.data.toList.drop 0 = dktX1_whyWord_0 := by decide +kernel
theorem dksX1_whyWord_1 : cX1_whyWord.data.toList.drop 22 = dktX1_whyWord_1 := dk_seg dksX1_whyWord_0 22 rfl rfl
theorem dksX1_whyWord_2 : cX1_whyWord.data.toList.drop 46 = dktX1_whyWord_2 := dk_seg dksX1_whyWord_1 24 rfl rfl
theorem dX1_whyWord_0 : decode cX1_whyWord 0 = .ok (.iload_n 1, 1) := dk_27 (dk_at dksX1_whyWord_0 0 rfl rfl)
theorem dX1_whyWord_1 : decode cX1_whyWord 1 = .ok (.invokestatic 36, 3) := dk_184 0 36 (dk_at dksX1_whyWord_0 1 rfl rfl)
theorem dX1_whyWord_4 : decode cX1_whyWord 4 = .ok (.ifCond .ne 5, 3) := dk_154 0 5 (dk_at dksX1_whyWord_0 4 rfl rfl)
theorem dX1_whyWord_7 : decode cX1_whyWord 7 = .ok (.iconst (-1), 1) := dk_2 (dk_at dksX1_whyWord_0 7 rfl rfl)
theorem dX1_whyWord_8 : decode cX1_whyWord 8 = .ok (.ireturn, 1) := dk_172 (dk_at dksX1_whyWord_0 8 rfl rfl)
theorem dX1_whyWord_9 : decode cX1_whyWord 9 = .ok (.aload_n 0, 1) := dk_42 (dk_at dksX1_whyWord_0 9 rfl rfl)
theorem dX1_whyWord_10 : decode cX1_whyWord 10 = .ok (.getfield 26, 3) := dk_180 0 26 (dk_at dksX1_whyWord_0 10 rfl rfl)
theorem dX1_whyWord_13 : decode cX1_whyWord 13 = .ok (.iload_n 1, 1) := dk_27 (dk_at dksX1_whyWord_0 13 rfl rfl)
theorem dX1_whyWord_14 : decode cX1_whyWord 14 = .ok (.aaload, 1) := dk_50 (dk_at dksX1_whyWord_0 14 rfl rfl)
theorem dX1_whyWord_15 : decode cX1_whyWord 15 = .ok (.ifnonnull 6, 3) := dk_199 0 6 (dk_at dksX1_whyWord_0 15 rfl rfl)
theorem dX1_whyWord_18 : decode cX1_whyWord 18 = .ok (.bipush (-11), 2) := dk_16 245 (dk_at dksX1_whyWord_0 18 rfl rfl)
theorem dX1_whyWord_20 : decode cX1_whyWord 20 = .ok (.ireturn, 1) := dk_172 (dk_at dksX1_whyWord_0 20 rfl rfl)
theorem dX1_whyWord_21 : decode cX1_whyWord 21 = .ok (.aload_n 0, 1) := dk_42 (dk_at dksX1_whyWord_0 21 rfl rfl)
theorem dX1_whyWord_22 : decode cX1_whyWord 22 = .ok (.getfield 26, 3) := dk_180 0 26 (dk_at dksX1_whyWord_1 0 rfl rfl)
theorem dX1_whyWord_25 : decode cX1_whyWord 25 = .ok (.iload_n 1, 1) := dk_27 (dk_at dksX1_whyWord_1 3 rfl rfl)
theorem dX1_whyWord_26 : decode cX1_whyWord 26 = .ok (.aaload, 1) := dk_50 (dk_at dksX1_whyWord_1 4 rfl rfl)
theorem dX1_whyWord_27 : decode cX1_whyWord 27 = .ok (.getfield 64, 3) := dk_180 0 64 (dk_at dksX1_whyWord_1 5 rfl rfl)
theorem dX1_whyWord_30 : decode cX1_whyWord 30 = .ok (.aload_n 0, 1) := dk_42 (dk_at dksX1_whyWord_1 8 rfl rfl)
theorem dX1_whyWord_31 : decode cX1_whyWord 31 = .ok (.getfield 26, 3) := dk_180 0 26 (dk_at dksX1_whyWord_1 9 rfl rfl)
theorem dX1_whyWord_34 : decode cX1_whyWord 34 = .ok (.iload_n 1, 1) := dk_27 (dk_at dksX1_whyWord_1 12 rfl rfl)
theorem dX1_whyWord_35 : decode cX1_whyWord 35 = .ok (.aaload, 1) := dk_50 (dk_at dksX1_whyWord_1 13 rfl rfl)
theorem dX1_whyWord_36 : decode cX1_whyWord 36 = .ok (.getfield 67, 3) := dk_180 0 67 (dk_at dksX1_whyWord_1 14 rfl rfl)
theorem dX1_whyWord_39 : decode cX1_whyWord 39 = .ok (.lload_n 2, 1) := dk_32 (dk_at dksX1_whyWord_1 17 rfl rfl)
theorem dX1_whyWord_40 : decode cX1_whyWord 40 = .ok (.invokestatic 70, 3) := dk_184 0 70 (dk_at dksX1_whyWord_1 18 rfl rfl)
theorem dX1_whyWord_43 : decode cX1_whyWord 43 = .ok (.ifCond .eq 7, 3) := dk_153 0 7 (dk_at dksX1_whyWord_1 21 rfl rfl)
theorem dX1_whyWord_46 : decode cX1_whyWord 46 = .ok (.iconst 0, 1) := dk_3 (dk_at dksX1_whyWord_2 0 rfl rfl)
theorem dX1_whyWord_47 : decode cX1_whyWord 47 = .ok (.goto 4, 3) := dk_167 0 4 (dk_at dksX1_whyWord_2 1 rfl rfl)
theorem dX1_whyWord_50 : decode cX1_whyWord 50 = .ok (.iconst (-1), 1) := dk_2 (dk_at dksX1_whyWord_2 4 rfl rfl)
theorem dX1_whyWord_51 : decode cX1_whyWord 51 = .ok (.ireturn, 1) := dk_172 (dk_at dksX1_whyWord_2 5 rfl rfl)
abbrev cX1_has : ByteArray := prog_1_method_26_code
def yX1_has : MethodName := ⟨RX1, "has", "(LWordBench$Code;J)Z"⟩
def dkwX1_has_1 : List UInt8 := [192, 0, 44, 31, 182, 0, 132, 172]
abbrev dktX1_has_1 : List UInt8 := dkwX1_has_1 ++ []
def dkwX1_has_0 : List UInt8 := [42, 193, 0, 50, 153, 0, 18, 187, 0, 100, 89, 42, 183, 0, 102, 31, 182, 0, 128, 167, 0, 11, 42]
abbrev dktX1_has_0 : List UInt8 := dkwX1_has_0 ++ dktX1_has_1
theorem dksX1_has_0 : cX1_has.data.toList.drop 0 = dktX1_has_0 := by decide +kernel
theorem dksX1_has_1 : cX1_has.data.toList.drop 23 = dktX1_has_1 := dk_seg dksX1_has_0 23 rfl rfl
theorem dX1_has_0 : decode cX1_has 0 = .ok (.aload_n 0, 1) := dk_42 (dk_at dksX1_has_0 0 rfl rfl)
theorem dX1_has_1 : decode cX1_has 1 = .ok (.instanceof 50, 3) := dk_193 0 50 (dk_at dksX1_has_0 1 rfl rfl)
theorem dX1_has_4 : decode cX1_has 4 = .ok (.ifCond .eq 18, 3) := dk_153 0 18 (dk_at dksX1_has_0 4 rfl rfl)
theorem dX1_has_7 : decode cX1_has 7 = .ok (.new 100, 3) := dk_187 0 100 (dk_at dksX1_has_0 7 rfl rfl)
theorem dX1_has_10 : decode cX1_has 10 = .ok (.dup, 1) := dk_89 (dk_at dksX1_has_0 10 rfl rfl)
theorem dX1_has_11 : decode cX1_has 11 = .ok (.aload_n 0, 1) := dk_42 (dk_at dksX1_has_0 11 rfl rfl)
theorem dX1_has_12 : decode cX1_has 12 = .ok (.invokespecial 102, 3) := dk_183 0 102 (dk_at dksX1_has_0 12 rfl rfl)
theorem dX1_has_15 : decode cX1_has 15 = .ok (.lload_n 1, 1) := dk_31 (dk_at dksX1_has_0 15 rfl rfl)
theorem dX1_has_16 : decode cX1_has 16 = .ok (.invokevirtual 128, 3) := dk_182 0 128 (dk_at dksX1_has_0 16 rfl rfl)
theorem dX1_has_19 : decode cX1_has 19 = .ok (.goto 11, 3) := dk_167 0 11 (dk_at dksX1_has_0 19 rfl rfl)
theorem dX1_has_22 : decode cX1_has 22 = .ok (.aload_n 0, 1) := dk_42 (dk_at dksX1_has_0 22 rfl rfl)
theorem dX1_has_23 : decode cX1_has 23 = .ok (.checkcast 44, 3) := dk_192 0 44 (dk_at dksX1_has_1 0 rfl rfl)
theorem dX1_has_26 : decode cX1_has 26 = .ok (.lload_n 1, 1) := dk_31 (dk_at dksX1_has_1 3 rfl rfl)
theorem dX1_has_27 : decode cX1_has 27 = .ok (.invokevirtual 132, 3) := dk_182 0 132 (dk_at dksX1_has_1 4 rfl rfl)
theorem dX1_has_30 : decode cX1_has 30 = .ok (.ireturn, 1) := dk_172 (dk_at dksX1_has_1 7 rfl rfl)
abbrev cX1_letter : ByteArray := prog_1_method_8_code
def yX1_letter : MethodName := ⟨RX1, "letter", "(IIJI)I"⟩
def dkwX1_letter_0 : List UInt8 := [32, 26, 27, 4, 100, 21, 4, 100, 184, 0, 7, 109, 26, 133, 113, 136, 172]
abbrev dktX1_letter_0 : List UInt8 := dkwX1_letter_0 ++ []
theorem dksX1_letter_0 : cX1_letter.data.toList.drop 0 = dktX1_letter_0 := by decide +kernel
theorem dX1_letter_0 : decode cX1_letter 0 = .ok (.lload_n 2, 1) := dk_32 (dk_at dksX1_letter_0 0 rfl rfl)
theorem dX1_letter_1 : decode cX1_letter 1 = .ok (.iload_n 0, 1) := dk_26 (dk_at dksX1_letter_0 1 rfl rfl)
theorem dX1_letter_2 : decode cX1_letter 2 = .ok (.iload_n 1, 1) := dk_27 (dk_at dksX1_letter_0 2 rfl rfl)
theorem dX1_letter_3 : decode cX1_letter 3 = .ok (.iconst 1, 1) := dk_4 (dk_at dksX1_letter_0 3 rfl rfl)
theorem dX1_letter_4 : decode cX1_letter 4 = .ok (.isub, 1) := dk_100 (dk_at dksX1_letter_0 4 rfl rfl)
theorem dX1_letter_5 : decode cX1_letter 5 = .ok (.iload 4, 2) := dk_21 4 (dk_at dksX1_letter_0 5 rfl rfl)
theorem dX1_letter_7 : decode cX1_letter 7 = .ok (.isub, 1) := dk_100 (dk_at dksX1_letter_0 7 rfl rfl)
theorem dX1_letter_8 : decode cX1_letter 8 = .ok (.invokestatic 7, 3) := dk_184 0 7 (dk_at dksX1_letter_0 8 rfl rfl)
theorem dX1_letter_11 : decode cX1_letter 11 = .ok (.ldiv, 1) := dk_109 (dk_at dksX1_letter_0 11 rfl rfl)
theorem dX1_letter_12 : decode cX1_letter 12 = .ok (.iload_n 0, 1) := dk_26 (dk_at dksX1_letter_0 12 rfl rfl)
theorem dX1_letter_13 : decode cX1_letter 13 = .ok (.i2l, 1) := dk_133 (dk_at dksX1_letter_0 13 rfl rfl)
theorem dX1_letter_14 : decode cX1_letter 14 = .ok (.lrem, 1) := dk_113 (dk_at dksX1_letter_0 14 rfl rfl)
theorem dX1_letter_15 : decode cX1_letter 15 = .ok (.l2i, 1) := dk_136 (dk_at dksX1_letter_0 15 rfl rfl)
theorem dX1_letter_16 : decode cX1_letter 16 = .ok (.ireturn, 1) := dk_172 (dk_at dksX1_letter_0 16 rfl rfl)
abbrev cX1_sumOf : ByteArray := prog_1_method_10_code
def yX1_sumOf : MethodName := ⟨RX1, "sumOf", "(IIJJI)J"⟩
def dkwX1_sumOf_3 : List UInt8 := [55, 9, 132, 15, 1, 167, 255, 195, 22, 11, 173]
abbrev dktX1_sumOf_3 : List UInt8 := dkwX1_sumOf_3 ++ []
def dkwX1_sumOf_2 : List UInt8 := [133, 105, 97, 55, 11, 22, 13, 26, 133, 105, 55, 13, 22, 7, 26, 133, 109, 55, 7, 22, 9, 26, 133, 109]
abbrev dktX1_sumOf_2 : List UInt8 := dkwX1_sumOf_2 ++ dktX1_sumOf_3
def dkwX1_sumOf_1 : List UInt8 := [22, 13, 26, 22, 7, 26, 133, 113, 136, 26, 21, 6, 22, 9, 26, 133, 113, 136, 184, 0, 1, 184, 0, 11]
abbrev dktX1_sumOf_1 : List UInt8 := dkwX1_sumOf_1 ++ dktX1_sumOf_2
def dkwX1_sumOf_0 : List UInt8 := [32, 55, 7, 22, 4, 55, 9, 9, 55, 11, 10, 55, 13, 3, 54, 15, 21, 15, 27, 162, 0, 61, 22, 11]
abbrev dktX1_sumOf_0 : List UInt8 := dkwX1_sumOf_0 ++ dktX1_sumOf_1
theorem dksX1_sumOf_0 : cX1_sumOf.data.toList.drop 0 = dktX1_sumOf_0 := by decide +kernel
theorem dksX1_sumOf_1 : cX1_sumOf.data.toList.drop 24 = dktX1_sumOf_1 := dk_seg dksX1_sumOf_0 24 rfl rfl
theorem dksX1_sumOf_2 : cX1_sumOf.data.toList.drop 48 = dktX1_sumOf_2 := dk_seg dksX1_sumOf_1 24 rfl rfl
theorem dksX1_sumOf_3 : cX1_sumOf.data.toList.drop 72 = dktX1_sumOf_3 := dk_seg dksX1_sumOf_2 24 rfl rfl
theorem dX1_sumOf_0 : decode cX1_sumOf 0 = .ok (.lload_n 2, 1) := dk_32 (dk_at dksX1_sumOf_0 0 rfl rfl)
theorem dX1_sumOf_1 : decode cX1_sumOf 1 = .ok (.lstore 7, 2) := dk_55 7 (dk_at dksX1_sumOf_0 1 rfl rfl)
theorem dX1_sumOf_3 : decode cX1_sumOf 3 = .ok (.lload 4, 2) := dk_22 4 (dk_at dksX1_sumOf_0 3 rfl rfl)
theorem dX1_sumOf_5 : decode cX1_sumOf 5 = .ok (.lstore 9, 2) := dk_55 9 (dk_at dksX1_sumOf_0 5 rfl rfl)
theorem dX1_sumOf_7 : decode cX1_sumOf 7 = .ok (.lconst 0, 1) := dk_9 (dk_at dksX1_sumOf_0 7 rfl rfl)
theorem dX1_sumOf_8 : decode cX1_sumOf 8 = .ok (.lstore 11, 2) := dk_55 11 (dk_at dksX1_sumOf_0 8 rfl rfl)
theorem dX1_sumOf_10 : decode cX1_sumOf 10 = .ok (.lconst 1, 1) := dk_10 (dk_at dksX1_sumOf_0 10 rfl rfl)
theorem dX1_sumOf_11 : decode cX1_sumOf 11 = .ok (.lstore 13, 2) := dk_55 13 (dk_at dksX1_sumOf_0 11 rfl rfl)
theorem dX1_sumOf_13 : decode cX1_sumOf 13 = .ok (.iconst 0, 1) := dk_3 (dk_at dksX1_sumOf_0 13 rfl rfl)
theorem dX1_sumOf_14 : decode cX1_sumOf 14 = .ok (.istore 15, 2) := dk_54 15 (dk_at dksX1_sumOf_0 14 rfl rfl)
theorem dX1_sumOf_16 : decode cX1_sumOf 16 = .ok (.iload 15, 2) := dk_21 15 (dk_at dksX1_sumOf_0 16 rfl rfl)
theorem dX1_sumOf_18 : decode cX1_sumOf 18 = .ok (.iload_n 1, 1) := dk_27 (dk_at dksX1_sumOf_0 18 rfl rfl)
theorem dX1_sumOf_19 : decode cX1_sumOf 19 = .ok (.if_icmp .ge 61, 3) := dk_162 0 61 (dk_at dksX1_sumOf_0 19 rfl rfl)
theorem dX1_sumOf_22 : decode cX1_sumOf 22 = .ok (.lload 11, 2) := dk_22 11 (dk_at dksX1_sumOf_0 22 rfl rfl)
theorem dX1_sumOf_24 : decode cX1_sumOf 24 = .ok (.lload 13, 2) := dk_22 13 (dk_at dksX1_sumOf_1 0 rfl rfl)
theorem dX1_sumOf_26 : decode cX1_sumOf 26 = .ok (.iload_n 0, 1) := dk_26 (dk_at dksX1_sumOf_1 2 rfl rfl)
theorem dX1_sumOf_27 : decode cX1_sumOf 27 = .ok (.lload 7, 2) := dk_22 7 (dk_at dksX1_sumOf_1 3 rfl rfl)
theorem dX1_sumOf_29 : decode cX1_sumOf 29 = .ok (.iload_n 0, 1) := dk_26 (dk_at dksX1_sumOf_1 5 rfl rfl)
theorem dX1_sumOf_30 : decode cX1_sumOf 30 = .ok (.i2l, 1) := dk_133 (dk_at dksX1_sumOf_1 6 rfl rfl)
theorem dX1_sumOf_31 : decode cX1_sumOf 31 = .ok (.lrem, 1) := dk_113 (dk_at dksX1_sumOf_1 7 rfl rfl)
theorem dX1_sumOf_32 : decode cX1_sumOf 32 = .ok (.l2i, 1) := dk_136 (dk_at dksX1_sumOf_1 8 rfl rfl)
theorem dX1_sumOf_33 : decode cX1_sumOf 33 = .ok (.iload_n 0, 1) := dk_26 (dk_at dksX1_sumOf_1 9 rfl rfl)
theorem dX1_sumOf_34 : decode cX1_sumOf 34 = .ok (.iload 6, 2) := dk_21 6 (dk_at dksX1_sumOf_1 10 rfl rfl)
theorem dX1_sumOf_36 : decode cX1_sumOf 36 = .ok (.lload 9, 2) := dk_22 9 (dk_at dksX1_sumOf_1 12 rfl rfl)
theorem dX1_sumOf_38 : decode cX1_sumOf 38 = .ok (.iload_n 0, 1) := dk_26 (dk_at dksX1_sumOf_1 14 rfl rfl)
theorem dX1_sumOf_39 : decode cX1_sumOf 39 = .ok (.i2l, 1) := dk_133 (dk_at dksX1_sumOf_1 15 rfl rfl)
theorem dX1_sumOf_40 : decode cX1_sumOf 40 = .ok (.lrem, 1) := dk_113 (dk_at dksX1_sumOf_1 16 rfl rfl)
theorem dX1_sumOf_41 : decode cX1_sumOf 41 = .ok (.l2i, 1) := dk_136 (dk_at dksX1_sumOf_1 17 rfl rfl)
theorem dX1_sumOf_42 : decode cX1_sumOf 42 = .ok (.invokestatic 1, 3) := dk_184 0 1 (dk_at dksX1_sumOf_1 18 rfl rfl)
theorem dX1_sumOf_45 : decode cX1_sumOf 45 = .ok (.invokestatic 11, 3) := dk_184 0 11 (dk_at dksX1_sumOf_1 21 rfl rfl)
theorem dX1_sumOf_48 : decode cX1_sumOf 48 = .ok (.i2l, 1) := dk_133 (dk_at dksX1_sumOf_2 0 rfl rfl)
theorem dX1_sumOf_49 : decode cX1_sumOf 49 = .ok (.lmul, 1) := dk_105 (dk_at dksX1_sumOf_2 1 rfl rfl)
theorem dX1_sumOf_50 : decode cX1_sumOf 50 = .ok (.ladd, 1) := dk_97 (dk_at dksX1_sumOf_2 2 rfl rfl)
theorem dX1_sumOf_51 : decode cX1_sumOf 51 = .ok (.lstore 11, 2) := dk_55 11 (dk_at dksX1_sumOf_2 3 rfl rfl)
theorem dX1_sumOf_53 : decode cX1_sumOf 53 = .ok (.lload 13, 2) := dk_22 13 (dk_at dksX1_sumOf_2 5 rfl rfl)
theorem dX1_sumOf_55 : decode cX1_sumOf 55 = .ok (.iload_n 0, 1) := dk_26 (dk_at dksX1_sumOf_2 7 rfl rfl)
theorem dX1_sumOf_56 : decode cX1_sumOf 56 = .ok (.i2l, 1) := dk_133 (dk_at dksX1_sumOf_2 8 rfl rfl)
theorem dX1_sumOf_57 : decode cX1_sumOf 57 = .ok (.lmul, 1) := dk_105 (dk_at dksX1_sumOf_2 9 rfl rfl)
theorem dX1_sumOf_58 : decode cX1_sumOf 58 = .ok (.lstore 13, 2) := dk_55 13 (dk_at dksX1_sumOf_2 10 rfl rfl)
theorem dX1_sumOf_60 : decode cX1_sumOf 60 = .ok (.lload 7, 2) := dk_22 7 (dk_at dksX1_sumOf_2 12 rfl rfl)
theorem dX1_sumOf_62 : decode cX1_sumOf 62 = .ok (.iload_n 0, 1) := dk_26 (dk_at dksX1_sumOf_2 14 rfl rfl)
theorem dX1_sumOf_63 : decode cX1_sumOf 63 = .ok (.i2l, 1) := dk_133 (dk_at dksX1_sumOf_2 15 rfl rfl)
theorem dX1_sumOf_64 : decode cX1_sumOf 64 = .ok (.ldiv, 1) := dk_109 (dk_at dksX1_sumOf_2 16 rfl rfl)
theorem dX1_sumOf_65 : decode cX1_sumOf 65 = .ok (.lstore 7, 2) := dk_55 7 (dk_at dksX1_sumOf_2 17 rfl rfl)
theorem dX1_sumOf_67 : decode cX1_sumOf 67 = .ok (.lload 9, 2) := dk_22 9 (dk_at dksX1_sumOf_2 19 rfl rfl)
theorem dX1_sumOf_69 : decode cX1_sumOf 69 = .ok (.iload_n 0, 1) := dk_26 (dk_at dksX1_sumOf_2 21 rfl rfl)
theorem dX1_sumOf_70 : decode cX1_sumOf 70 = .ok (.i2l, 1) := dk_133 (dk_at dksX1_sumOf_2 22 rfl rfl)
theorem dX1_sumOf_71 : decode cX1_sumOf 71 = .ok (.ldiv, 1) := dk_109 (dk_at dksX1_sumOf_2 23 rfl rfl)
theorem dX1_sumOf_72 : decode cX1_sumOf 72 = .ok (.lstore 9, 2) := dk_55 9 (dk_at dksX1_sumOf_3 0 rfl rfl)
theorem dX1_sumOf_74 : decode cX1_sumOf 74 = .ok (.iinc 15 1, 3) := dk_132 15 1 (dk_at dksX1_sumOf_3 2 rfl rfl)
theorem dX1_sumOf_77 : decode cX1_sumOf 77 = .ok (.goto (-61), 3) := dk_167 255 195 (dk_at dksX1_sumOf_3 5 rfl rfl)
theorem dX1_sumOf_80 : decode cX1_sumOf 80 = .ok (.lload 11, 2) := dk_22 11 (dk_at dksX1_sumOf_3 8 rfl rfl)
theorem dX1_sumOf_82 : decode cX1_sumOf 82 = .ok (.lreturn, 1) := dk_173 (dk_at dksX1_sumOf_3 10 rfl rfl)
abbrev cX1_sum : ByteArray := prog_1_method_30_code
def yX1_sum : MethodName := ⟨RX1, "sum", "(IIJJI)J"⟩
def dkwX1_sum_1 : List UInt8 := [153, 0, 16, 27, 28, 33, 22, 5, 21, 7, 184, 0, 144, 167, 0, 6, 20, 0, 148, 173]
abbrev dktX1_sum_1 : List UInt8 := dkwX1_sum_1 ++ []
def dkwX1_sum_0 : List UInt8 := [27, 28, 33, 22, 5, 184, 0, 140, 153, 0, 30, 21, 7, 133, 9, 27, 4, 100, 133, 184, 0, 16]
abbrev dktX1_sum_0 : List UInt8 := dkwX1_sum_0 ++ dktX1_sum_1
theorem dksX1_sum_0 : cX1_sum.data.toList.drop 0 = dktX1_sum_0 := by decide +kernel
theorem dksX1_sum_1 : cX1_sum.data.toList.drop 22 = dktX1_sum_1 := dk_seg dksX1_sum_0 22 rfl rfl
theorem dX1_sum_0 : decode cX1_sum 0 = .ok (.iload_n 1, 1) := dk_27 (dk_at dksX1_sum_0 0 rfl rfl)
theorem dX1_sum_1 : decode cX1_sum 1 = .ok (.iload_n 2, 1) := dk_28 (dk_at dksX1_sum_0 1 rfl rfl)
theorem dX1_sum_2 : decode cX1_sum 2 = .ok (.lload_n 3, 1) := dk_33 (dk_at dksX1_sum_0 2 rfl rfl)
theorem dX1_sum_3 : decode cX1_sum 3 = .ok (.lload 5, 2) := dk_22 5 (dk_at dksX1_sum_0 3 rfl rfl)
theorem dX1_sum_5 : decode cX1_sum 5 = .ok (.invokestatic 140, 3) := dk_184 0 140 (dk_at dksX1_sum_0 5 rfl rfl)
theorem dX1_sum_8 : decode cX1_sum 8 = .ok (.ifCond .eq 30, 3) := dk_153 0 30 (dk_at dksX1_sum_0 8 rfl rfl)
theorem dX1_sum_11 : decode cX1_sum 11 = .ok (.iload 7, 2) := dk_21 7 (dk_at dksX1_sum_0 11 rfl rfl)
theorem dX1_sum_13 : decode cX1_sum 13 = .ok (.i2l, 1) := dk_133 (dk_at dksX1_sum_0 13 rfl rfl)
theorem dX1_sum_14 : decode cX1_sum 14 = .ok (.lconst 0, 1) := dk_9 (dk_at dksX1_sum_0 14 rfl rfl)
theorem dX1_sum_15 : decode cX1_sum 15 = .ok (.iload_n 1, 1) := dk_27 (dk_at dksX1_sum_0 15 rfl rfl)
theorem dX1_sum_16 : decode cX1_sum 16 = .ok (.iconst 1, 1) := dk_4 (dk_at dksX1_sum_0 16 rfl rfl)
theorem dX1_sum_17 : decode cX1_sum 17 = .ok (.isub, 1) := dk_100 (dk_at dksX1_sum_0 17 rfl rfl)
theorem dX1_sum_18 : decode cX1_sum 18 = .ok (.i2l, 1) := dk_133 (dk_at dksX1_sum_0 18 rfl rfl)
theorem dX1_sum_19 : decode cX1_sum 19 = .ok (.invokestatic 16, 3) := dk_184 0 16 (dk_at dksX1_sum_0 19 rfl rfl)
theorem dX1_sum_22 : decode cX1_sum 22 = .ok (.ifCond .eq 16, 3) := dk_153 0 16 (dk_at dksX1_sum_1 0 rfl rfl)
theorem dX1_sum_25 : decode cX1_sum 25 = .ok (.iload_n 1, 1) := dk_27 (dk_at dksX1_sum_1 3 rfl rfl)
theorem dX1_sum_26 : decode cX1_sum 26 = .ok (.iload_n 2, 1) := dk_28 (dk_at dksX1_sum_1 4 rfl rfl)
theorem dX1_sum_27 : decode cX1_sum 27 = .ok (.lload_n 3, 1) := dk_33 (dk_at dksX1_sum_1 5 rfl rfl)
theorem dX1_sum_28 : decode cX1_sum 28 = .ok (.lload 5, 2) := dk_22 5 (dk_at dksX1_sum_1 6 rfl rfl)
theorem dX1_sum_30 : decode cX1_sum 30 = .ok (.iload 7, 2) := dk_21 7 (dk_at dksX1_sum_1 8 rfl rfl)
theorem dX1_sum_32 : decode cX1_sum 32 = .ok (.invokestatic 144, 3) := dk_184 0 144 (dk_at dksX1_sum_1 10 rfl rfl)
theorem dX1_sum_35 : decode cX1_sum 35 = .ok (.goto 6, 3) := dk_167 0 6 (dk_at dksX1_sum_1 13 rfl rfl)
theorem dX1_sum_38 : decode cX1_sum 38 = .ok (.ldc2_w 148, 3) := dk_20 0 148 (dk_at dksX1_sum_1 16 rfl rfl)
theorem dX1_sum_41 : decode cX1_sum 41 = .ok (.lreturn, 1) := dk_173 (dk_at dksX1_sum_1 19 rfl rfl)
abbrev cX1_areWords : ByteArray := prog_1_method_29_code
def yX1_areWords : MethodName := ⟨RX1, "areWords", "(IIJJ)Z"⟩
def dkwX1_areWords_1 : List UInt8 := [153, 0, 7, 4, 167, 0, 4, 3, 172]
abbrev dktX1_areWords_1 : List UInt8 := dkwX1_areWords_1 ++ []
def dkwX1_areWords_0 : List UInt8 := [26, 27, 184, 0, 40, 153, 0, 26, 26, 27, 32, 184, 0, 70, 153, 0, 17, 26, 27, 22, 4, 184, 0, 70]
abbrev dktX1_areWords_0 : List UInt8 := dkwX1_areWords_0 ++ dktX1_areWords_1
theorem dksX1_areWords_0 : cX1_areWords.data.toList.drop 0 = dktX1_areWords_0 := by decide +kernel
theorem dksX1_areWords_1 : cX1_areWords.data.toList.drop 24 = dktX1_areWords_1 := dk_seg dksX1_areWords_0 24 rfl rfl
theorem dX1_areWords_0 : decode cX1_areWords 0 = .ok (.iload_n 0, 1) := dk_26 (dk_at dksX1_areWords_0 0 rfl rfl)
theorem dX1_areWords_1 : decode cX1_areWords 1 = .ok (.iload_n 1, 1) := dk_27 (dk_at dksX1_areWords_0 1 rfl rfl)
theorem dX1_areWords_2 : decode cX1_areWords 2 = .ok (.invokestatic 40, 3) := dk_184 0 40 (dk_at dksX1_areWords_0 2 rfl rfl)
theorem dX1_areWords_5 : decode cX1_areWords 5 = .ok (.ifCond .eq 26, 3) := dk_153 0 26 (dk_at dksX1_areWords_0 5 rfl rfl)
theorem dX1_areWords_8 : decode cX1_areWords 8 = .ok (.iload_n 0, 1) := dk_26 (dk_at dksX1_areWords_0 8 rfl rfl)
theorem dX1_areWords_9 : decode cX1_areWords 9 = .ok (.iload_n 1, 1) := dk_27 (dk_at dksX1_areWords_0 9 rfl rfl)
theorem dX1_areWords_10 : decode cX1_areWords 10 = .ok (.lload_n 2, 1) := dk_32 (dk_at dksX1_areWords_0 10 rfl rfl)
theorem dX1_areWords_11 : decode cX1_areWords 11 = .ok (.invokestatic 70, 3) := dk_184 0 70 (dk_at dksX1_areWords_0 11 rfl rfl)
theorem dX1_areWords_14 : decode cX1_areWords 14 = .ok (.ifCond .eq 17, 3) := dk_153 0 17 (dk_at dksX1_areWords_0 14 rfl rfl)
theorem dX1_areWords_17 : decode cX1_areWords 17 = .ok (.iload_n 0, 1) := dk_26 (dk_at dksX1_areWords_0 17 rfl rfl)
theorem dX1_areWords_18 : decode cX1_areWords 18 = .ok (.iload_n 1, 1) := dk_27 (dk_at dksX1_areWords_0 18 rfl rfl)
theorem dX1_areWords_19 : decode cX1_areWords 19 = .ok (.lload 4, 2) := dk_22 4 (dk_at dksX1_areWords_0 19 rfl rfl)
theorem dX1_areWords_21 : decode cX1_areWords 21 = .ok (.invokestatic 70, 3) := dk_184 0 70 (dk_at dksX1_areWords_0 21 rfl rfl)
theorem dX1_areWords_24 : decode cX1_areWords 24 = .ok (.ifCond .eq 7, 3) := dk_153 0 7 (dk_at dksX1_areWords_1 0 rfl rfl)
theorem dX1_areWords_27 : decode cX1_areWords 27 = .ok (.iconst 1, 1) := dk_4 (dk_at dksX1_areWords_1 3 rfl rfl)
theorem dX1_areWords_28 : decode cX1_areWords 28 = .ok (.goto 4, 3) := dk_167 0 4 (dk_at dksX1_areWords_1 4 rfl rfl)
theorem dX1_areWords_31 : decode cX1_areWords 31 = .ok (.iconst 0, 1) := dk_3 (dk_at dksX1_areWords_1 7 rfl rfl)
theorem dX1_areWords_32 : decode cX1_areWords 32 = .ok (.ireturn, 1) := dk_172 (dk_at dksX1_areWords_1 8 rfl rfl)
abbrev cX1_way : ByteArray := prog_1_method_31_code
def yX1_way : MethodName := ⟨RX1, "way", "(IIJJ)I"⟩
def dkwX1_way_1 : List UInt8 := [172]
abbrev dktX1_way_1 : List UInt8 := dkwX1_way_1 ++ []
def dkwX1_way_0 : List UInt8 := [27, 28, 33, 22, 5, 184, 0, 140, 153, 0, 15, 27, 28, 33, 22, 5, 3, 184, 0, 150, 167, 0, 4, 2]
abbrev dktX1_way_0 : List UInt8 := dkwX1_way_0 ++ dktX1_way_1
theorem dksX1_way_0 : cX1_way.data.toList.drop 0 = dktX1_way_0 := by decide +kernel
theorem dksX1_way_1 : cX1_way.data.toList.drop 24 = dktX1_way_1 := dk_seg dksX1_way_0 24 rfl rfl
theorem dX1_way_0 : decode cX1_way 0 = .ok (.iload_n 1, 1) := dk_27 (dk_at dksX1_way_0 0 rfl rfl)
theorem dX1_way_1 : decode cX1_way 1 = .ok (.iload_n 2, 1) := dk_28 (dk_at dksX1_way_0 1 rfl rfl)
theorem dX1_way_2 : decode cX1_way 2 = .ok (.lload_n 3, 1) := dk_33 (dk_at dksX1_way_0 2 rfl rfl)
theorem dX1_way_3 : decode cX1_way 3 = .ok (.lload 5, 2) := dk_22 5 (dk_at dksX1_way_0 3 rfl rfl)
theorem dX1_way_5 : decode cX1_way 5 = .ok (.invokestatic 140, 3) := dk_184 0 140 (dk_at dksX1_way_0 5 rfl rfl)
theorem dX1_way_8 : decode cX1_way 8 = .ok (.ifCond .eq 15, 3) := dk_153 0 15 (dk_at dksX1_way_0 8 rfl rfl)
theorem dX1_way_11 : decode cX1_way 11 = .ok (.iload_n 1, 1) := dk_27 (dk_at dksX1_way_0 11 rfl rfl)
theorem dX1_way_12 : decode cX1_way 12 = .ok (.iload_n 2, 1) := dk_28 (dk_at dksX1_way_0 12 rfl rfl)
theorem dX1_way_13 : decode cX1_way 13 = .ok (.lload_n 3, 1) := dk_33 (dk_at dksX1_way_0 13 rfl rfl)
theorem dX1_way_14 : decode cX1_way 14 = .ok (.lload 5, 2) := dk_22 5 (dk_at dksX1_way_0 14 rfl rfl)
theorem dX1_way_16 : decode cX1_way 16 = .ok (.iconst 0, 1) := dk_3 (dk_at dksX1_way_0 16 rfl rfl)
theorem dX1_way_17 : decode cX1_way 17 = .ok (.invokestatic 150, 3) := dk_184 0 150 (dk_at dksX1_way_0 17 rfl rfl)
theorem dX1_way_20 : decode cX1_way 20 = .ok (.goto 4, 3) := dk_167 0 4 (dk_at dksX1_way_0 20 rfl rfl)
theorem dX1_way_23 : decode cX1_way 23 = .ok (.iconst (-1), 1) := dk_2 (dk_at dksX1_way_0 23 rfl rfl)
theorem dX1_way_24 : decode cX1_way 24 = .ok (.ireturn, 1) := dk_172 (dk_at dksX1_way_1 0 rfl rfl)
abbrev cX1_wayOf : ByteArray := prog_1_method_9_code
def yX1_wayOf : MethodName := ⟨RX1, "wayOf", "(IIJJI)I"⟩
def dkwX1_wayOf_3 : List UInt8 := [167, 255, 200, 21, 7, 172]
abbrev dktX1_wayOf_3 : List UInt8 := dkwX1_wayOf_3 ++ []
def dkwX1_wayOf_2 : List UInt8 := [167, 0, 4, 3, 96, 54, 7, 22, 8, 26, 133, 109, 55, 8, 22, 10, 26, 133, 109, 55, 10, 132, 12, 255]
abbrev dktX1_wayOf_2 : List UInt8 := dkwX1_wayOf_2 ++ dktX1_wayOf_3
def dkwX1_wayOf_1 : List UInt8 := [26, 133, 113, 22, 10, 26, 133, 113, 148, 153, 0, 17, 21, 6, 21, 12, 122, 4, 126, 154, 0, 7, 4]
abbrev dktX1_wayOf_1 : List UInt8 := dkwX1_wayOf_1 ++ dktX1_wayOf_2
def dkwX1_wayOf_0 : List UInt8 := [3, 54, 7, 32, 55, 8, 22, 4, 55, 10, 27, 4, 100, 54, 12, 21, 12, 155, 0, 57, 21, 7, 22, 8]
abbrev dktX1_wayOf_0 : List UInt8 := dkwX1_wayOf_0 ++ dktX1_wayOf_1
theorem dksX1_wayOf_0 : cX1_wayOf.data.toList.drop 0 = dktX1_wayOf_0 := by decide +kernel
theorem dksX1_wayOf_1 : cX1_wayOf.data.toList.drop 24 = dktX1_wayOf_1 := dk_seg dksX1_wayOf_0 24 rfl rfl
theorem dksX1_wayOf_2 : cX1_wayOf.data.toList.drop 47 = dktX1_wayOf_2 := dk_seg dksX1_wayOf_1 23 rfl rfl
theorem dksX1_wayOf_3 : cX1_wayOf.data.toList.drop 71 = dktX1_wayOf_3 := dk_seg dksX1_wayOf_2 24 rfl rfl
theorem dX1_wayOf_0 : decode cX1_wayOf 0 = .ok (.iconst 0, 1) := dk_3 (dk_at dksX1_wayOf_0 0 rfl rfl)
theorem dX1_wayOf_1 : decode cX1_wayOf 1 = .ok (.istore 7, 2) := dk_54 7 (dk_at dksX1_wayOf_0 1 rfl rfl)
theorem dX1_wayOf_3 : decode cX1_wayOf 3 = .ok (.lload_n 2, 1) := dk_32 (dk_at dksX1_wayOf_0 3 rfl rfl)
theorem dX1_wayOf_4 : decode cX1_wayOf 4 = .ok (.lstore 8, 2) := dk_55 8 (dk_at dksX1_wayOf_0 4 rfl rfl)
theorem dX1_wayOf_6 : decode cX1_wayOf 6 = .ok (.lload 4, 2) := dk_22 4 (dk_at dksX1_wayOf_0 6 rfl rfl)
theorem dX1_wayOf_8 : decode cX1_wayOf 8 = .ok (.lstore 10, 2) := dk_55 10 (dk_at dksX1_wayOf_0 8 rfl rfl)
theorem dX1_wayOf_10 : decode cX1_wayOf 10 = .ok (.iload_n 1, 1) := dk_27 (dk_at dksX1_wayOf_0 10 rfl rfl)
theorem dX1_wayOf_11 : decode cX1_wayOf 11 = .ok (.iconst 1, 1) := dk_4 (dk_at dksX1_wayOf_0 11 rfl rfl)
theorem dX1_wayOf_12 : decode cX1_wayOf 12 = .ok (.isub, 1) := dk_100 (dk_at dksX1_wayOf_0 12 rfl rfl)
theorem dX1_wayOf_13 : decode cX1_wayOf 13 = .ok (.istore 12, 2) := dk_54 12 (dk_at dksX1_wayOf_0 13 rfl rfl)
theorem dX1_wayOf_15 : decode cX1_wayOf 15 = .ok (.iload 12, 2) := dk_21 12 (dk_at dksX1_wayOf_0 15 rfl rfl)
theorem dX1_wayOf_17 : decode cX1_wayOf 17 = .ok (.ifCond .lt 57, 3) := dk_155 0 57 (dk_at dksX1_wayOf_0 17 rfl rfl)
theorem dX1_wayOf_20 : decode cX1_wayOf 20 = .ok (.iload 7, 2) := dk_21 7 (dk_at dksX1_wayOf_0 20 rfl rfl)
theorem dX1_wayOf_22 : decode cX1_wayOf 22 = .ok (.lload 8, 2) := dk_22 8 (dk_at dksX1_wayOf_0 22 rfl rfl)
theorem dX1_wayOf_24 : decode cX1_wayOf 24 = .ok (.iload_n 0, 1) := dk_26 (dk_at dksX1_wayOf_1 0 rfl rfl)
theorem dX1_wayOf_25 : decode cX1_wayOf 25 = .ok (.i2l, 1) := dk_133 (dk_at dksX1_wayOf_1 1 rfl rfl)
theorem dX1_wayOf_26 : decode cX1_wayOf 26 = .ok (.lrem, 1) := dk_113 (dk_at dksX1_wayOf_1 2 rfl rfl)
theorem dX1_wayOf_27 : decode cX1_wayOf 27 = .ok (.lload 10, 2) := dk_22 10 (dk_at dksX1_wayOf_1 3 rfl rfl)
theorem dX1_wayOf_29 : decode cX1_wayOf 29 = .ok (.iload_n 0, 1) := dk_26 (dk_at dksX1_wayOf_1 5 rfl rfl)
theorem dX1_wayOf_30 : decode cX1_wayOf 30 = .ok (.i2l, 1) := dk_133 (dk_at dksX1_wayOf_1 6 rfl rfl)
theorem dX1_wayOf_31 : decode cX1_wayOf 31 = .ok (.lrem, 1) := dk_113 (dk_at dksX1_wayOf_1 7 rfl rfl)
theorem dX1_wayOf_32 : decode cX1_wayOf 32 = .ok (.lcmp, 1) := dk_148 (dk_at dksX1_wayOf_1 8 rfl rfl)
theorem dX1_wayOf_33 : decode cX1_wayOf 33 = .ok (.ifCond .eq 17, 3) := dk_153 0 17 (dk_at dksX1_wayOf_1 9 rfl rfl)
theorem dX1_wayOf_36 : decode cX1_wayOf 36 = .ok (.iload 6, 2) := dk_21 6 (dk_at dksX1_wayOf_1 12 rfl rfl)
theorem dX1_wayOf_38 : decode cX1_wayOf 38 = .ok (.iload 12, 2) := dk_21 12 (dk_at dksX1_wayOf_1 14 rfl rfl)
theorem dX1_wayOf_40 : decode cX1_wayOf 40 = .ok (.ishr, 1) := dk_122 (dk_at dksX1_wayOf_1 16 rfl rfl)
theorem dX1_wayOf_41 : decode cX1_wayOf 41 = .ok (.iconst 1, 1) := dk_4 (dk_at dksX1_wayOf_1 17 rfl rfl)
theorem dX1_wayOf_42 : decode cX1_wayOf 42 = .ok (.iand, 1) := dk_126 (dk_at dksX1_wayOf_1 18 rfl rfl)
theorem dX1_wayOf_43 : decode cX1_wayOf 43 = .ok (.ifCond .ne 7, 3) := dk_154 0 7 (dk_at dksX1_wayOf_1 19 rfl rfl)
theorem dX1_wayOf_46 : decode cX1_wayOf 46 = .ok (.iconst 1, 1) := dk_4 (dk_at dksX1_wayOf_1 22 rfl rfl)
theorem dX1_wayOf_47 : decode cX1_wayOf 47 = .ok (.goto 4, 3) := dk_167 0 4 (dk_at dksX1_wayOf_2 0 rfl rfl)
theorem dX1_wayOf_50 : decode cX1_wayOf 50 = .ok (.iconst 0, 1) := dk_3 (dk_at dksX1_wayOf_2 3 rfl rfl)
theorem dX1_wayOf_51 : decode cX1_wayOf 51 = .ok (.iadd, 1) := dk_96 (dk_at dksX1_wayOf_2 4 rfl rfl)
theorem dX1_wayOf_52 : decode cX1_wayOf 52 = .ok (.istore 7, 2) := dk_54 7 (dk_at dksX1_wayOf_2 5 rfl rfl)
theorem dX1_wayOf_54 : decode cX1_wayOf 54 = .ok (.lload 8, 2) := dk_22 8 (dk_at dksX1_wayOf_2 7 rfl rfl)
theorem dX1_wayOf_56 : decode cX1_wayOf 56 = .ok (.iload_n 0, 1) := dk_26 (dk_at dksX1_wayOf_2 9 rfl rfl)
theorem dX1_wayOf_57 : decode cX1_wayOf 57 = .ok (.i2l, 1) := dk_133 (dk_at dksX1_wayOf_2 10 rfl rfl)
theorem dX1_wayOf_58 : decode cX1_wayOf 58 = .ok (.ldiv, 1) := dk_109 (dk_at dksX1_wayOf_2 11 rfl rfl)
theorem dX1_wayOf_59 : decode cX1_wayOf 59 = .ok (.lstore 8, 2) := dk_55 8 (dk_at dksX1_wayOf_2 12 rfl rfl)
theorem dX1_wayOf_61 : decode cX1_wayOf 61 = .ok (.lload 10, 2) := dk_22 10 (dk_at dksX1_wayOf_2 14 rfl rfl)
theorem dX1_wayOf_63 : decode cX1_wayOf 63 = .ok (.iload_n 0, 1) := dk_26 (dk_at dksX1_wayOf_2 16 rfl rfl)
theorem dX1_wayOf_64 : decode cX1_wayOf 64 = .ok (.i2l, 1) := dk_133 (dk_at dksX1_wayOf_2 17 rfl rfl)
theorem dX1_wayOf_65 : decode cX1_wayOf 65 = .ok (.ldiv, 1) := dk_109 (dk_at dksX1_wayOf_2 18 rfl rfl)
theorem dX1_wayOf_66 : decode cX1_wayOf 66 = .ok (.lstore 10, 2) := dk_55 10 (dk_at dksX1_wayOf_2 19 rfl rfl)
theorem dX1_wayOf_68 : decode cX1_wayOf 68 = .ok (.iinc 12 (-1), 3) := dk_132 12 255 (dk_at dksX1_wayOf_2 21 rfl rfl)
theorem dX1_wayOf_71 : decode cX1_wayOf 71 = .ok (.goto (-56), 3) := dk_167 255 200 (dk_at dksX1_wayOf_3 0 rfl rfl)
theorem dX1_wayOf_74 : decode cX1_wayOf 74 = .ok (.iload 7, 2) := dk_21 7 (dk_at dksX1_wayOf_3 3 rfl rfl)
theorem dX1_wayOf_76 : decode cX1_wayOf 76 = .ok (.ireturn, 1) := dk_172 (dk_at dksX1_wayOf_3 5 rfl rfl)
abbrev cX1_product : ByteArray := prog_1_method_32_code
def yX1_product : MethodName := ⟨RX1, "product", "(IIJJ)I"⟩
def dkwX1_product_0 : List UInt8 := [27, 28, 33, 22, 5, 184, 0, 140, 153, 0, 14, 27, 28, 33, 22, 5, 184, 0, 154, 167, 0, 4, 2, 172]
abbrev dktX1_product_0 : List UInt8 := dkwX1_product_0 ++ []
theorem dksX1_product_0 : cX1_product.data.toList.drop 0 = dktX1_product_0 := by decide +kernel
theorem dX1_product_0 : decode cX1_product 0 = .ok (.iload_n 1, 1) := dk_27 (dk_at dksX1_product_0 0 rfl rfl)
theorem dX1_product_1 : decode cX1_product 1 = .ok (.iload_n 2, 1) := dk_28 (dk_at dksX1_product_0 1 rfl rfl)
theorem dX1_product_2 : decode cX1_product 2 = .ok (.lload_n 3, 1) := dk_33 (dk_at dksX1_product_0 2 rfl rfl)
theorem dX1_product_3 : decode cX1_product 3 = .ok (.lload 5, 2) := dk_22 5 (dk_at dksX1_product_0 3 rfl rfl)
theorem dX1_product_5 : decode cX1_product 5 = .ok (.invokestatic 140, 3) := dk_184 0 140 (dk_at dksX1_product_0 5 rfl rfl)
theorem dX1_product_8 : decode cX1_product 8 = .ok (.ifCond .eq 14, 3) := dk_153 0 14 (dk_at dksX1_product_0 8 rfl rfl)
theorem dX1_product_11 : decode cX1_product 11 = .ok (.iload_n 1, 1) := dk_27 (dk_at dksX1_product_0 11 rfl rfl)
theorem dX1_product_12 : decode cX1_product 12 = .ok (.iload_n 2, 1) := dk_28 (dk_at dksX1_product_0 12 rfl rfl)
theorem dX1_product_13 : decode cX1_product 13 = .ok (.lload_n 3, 1) := dk_33 (dk_at dksX1_product_0 13 rfl rfl)
theorem dX1_product_14 : decode cX1_product 14 = .ok (.lload 5, 2) := dk_22 5 (dk_at dksX1_product_0 14 rfl rfl)
theorem dX1_product_16 : decode cX1_product 16 = .ok (.invokestatic 154, 3) := dk_184 0 154 (dk_at dksX1_product_0 16 rfl rfl)
theorem dX1_product_19 : decode cX1_product 19 = .ok (.goto 4, 3) := dk_167 0 4 (dk_at dksX1_product_0 19 rfl rfl)
theorem dX1_product_22 : decode cX1_product 22 = .ok (.iconst (-1), 1) := dk_2 (dk_at dksX1_product_0 22 rfl rfl)
theorem dX1_product_23 : decode cX1_product 23 = .ok (.ireturn, 1) := dk_172 (dk_at dksX1_product_0 23 rfl rfl)
abbrev cX1_form : ByteArray := prog_1_method_33_code
def yX1_form : MethodName := ⟨RX1, "form", "(I)I"⟩
def dkwX1_form_4 : List UInt8 := [182, 0, 78, 132, 6, 1, 167, 255, 231, 42, 27, 25, 5, 182, 0, 56, 172]
abbrev dktX1_form_4 : List UInt8 := dkwX1_form_4 ++ []
def dkwX1_form_3 : List UInt8 := [58, 5, 3, 54, 6, 21, 6, 25, 4, 180, 0, 105, 162, 0, 21, 25, 5, 25, 4, 21, 6, 182, 0, 158]
abbrev dktX1_form_3 : List UInt8 := dkwX1_form_3 ++ dktX1_form_4
def dkwX1_form_2 : List UInt8 := [180, 0, 67, 183, 0, 55, 167, 0, 18, 187, 0, 50, 89, 45, 180, 0, 64, 45, 180, 0, 67, 183, 0, 52]
abbrev dktX1_form_2 : List UInt8 := dkwX1_form_2 ++ dktX1_form_3
def dkwX1_form_1 : List UInt8 := [45, 183, 0, 102, 58, 4, 45, 193, 0, 53, 153, 0, 21, 187, 0, 53, 89, 45, 180, 0, 64, 45]
abbrev dktX1_form_1 : List UInt8 := dkwX1_form_1 ++ dktX1_form_2
def dkwX1_form_0 : List UInt8 := [42, 27, 4, 182, 0, 60, 61, 28, 153, 0, 5, 28, 172, 42, 180, 0, 26, 27, 50, 78, 187, 0, 100, 89]
abbrev dktX1_form_0 : List UInt8 := dkwX1_form_0 ++ dktX1_form_1
theorem dksX1_form_0 : cX1_form.data.toList.drop 0 = dktX1_form_0 := by decide +kernel
theorem dksX1_form_1 : cX1_form.data.toList.drop 24 = dktX1_form_1 := dk_seg dksX1_form_0 24 rfl rfl
theorem dksX1_form_2 : cX1_form.data.toList.drop 46 = dktX1_form_2 := dk_seg dksX1_form_1 22 rfl rfl
theorem dksX1_form_3 : cX1_form.data.toList.drop 70 = dktX1_form_3 := dk_seg dksX1_form_2 24 rfl rfl
theorem dksX1_form_4 : cX1_form.data.toList.drop 94 = dktX1_form_4 := dk_seg dksX1_form_3 24 rfl rfl
theorem dX1_form_0 : decode cX1_form 0 = .ok (.aload_n 0, 1) := dk_42 (dk_at dksX1_form_0 0 rfl rfl)
theorem dX1_form_1 : decode cX1_form 1 = .ok (.iload_n 1, 1) := dk_27 (dk_at dksX1_form_0 1 rfl rfl)
theorem dX1_form_2 : decode cX1_form 2 = .ok (.iconst 1, 1) := dk_4 (dk_at dksX1_form_0 2 rfl rfl)
theorem dX1_form_3 : decode cX1_form 3 = .ok (.invokevirtual 60, 3) := dk_182 0 60 (dk_at dksX1_form_0 3 rfl rfl)
theorem dX1_form_6 : decode cX1_form 6 = .ok (.istore_n 2, 1) := dk_61 (dk_at dksX1_form_0 6 rfl rfl)
theorem dX1_form_7 : decode cX1_form 7 = .ok (.iload_n 2, 1) := dk_28 (dk_at dksX1_form_0 7 rfl rfl)
theorem dX1_form_8 : decode cX1_form 8 = .ok (.ifCond .eq 5, 3) := dk_153 0 5 (dk_at dksX1_form_0 8 rfl rfl)
theorem dX1_form_11 : decode cX1_form 11 = .ok (.iload_n 2, 1) := dk_28 (dk_at dksX1_form_0 11 rfl rfl)
theorem dX1_form_12 : decode cX1_form 12 = .ok (.ireturn, 1) := dk_172 (dk_at dksX1_form_0 12 rfl rfl)
theorem dX1_form_13 : decode cX1_form 13 = .ok (.aload_n 0, 1) := dk_42 (dk_at dksX1_form_0 13 rfl rfl)
theorem dX1_form_14 : decode cX1_form 14 = .ok (.getfield 26, 3) := dk_180 0 26 (dk_at dksX1_form_0 14 rfl rfl)
theorem dX1_form_17 : decode cX1_form 17 = .ok (.iload_n 1, 1) := dk_27 (dk_at dksX1_form_0 17 rfl rfl)
theorem dX1_form_18 : decode cX1_form 18 = .ok (.aaload, 1) := dk_50 (dk_at dksX1_form_0 18 rfl rfl)
theorem dX1_form_19 : decode cX1_form 19 = .ok (.astore_n 3, 1) := dk_78 (dk_at dksX1_form_0 19 rfl rfl)
theorem dX1_form_20 : decode cX1_form 20 = .ok (.new 100, 3) := dk_187 0 100 (dk_at dksX1_form_0 20 rfl rfl)
theorem dX1_form_23 : decode cX1_form 23 = .ok (.dup, 1) := dk_89 (dk_at dksX1_form_0 23 rfl rfl)
theorem dX1_form_24 : decode cX1_form 24 = .ok (.aload_n 3, 1) := dk_45 (dk_at dksX1_form_1 0 rfl rfl)
theorem dX1_form_25 : decode cX1_form 25 = .ok (.invokespecial 102, 3) := dk_183 0 102 (dk_at dksX1_form_1 1 rfl rfl)
theorem dX1_form_28 : decode cX1_form 28 = .ok (.astore 4, 2) := dk_58 4 (dk_at dksX1_form_1 4 rfl rfl)
theorem dX1_form_30 : decode cX1_form 30 = .ok (.aload_n 3, 1) := dk_45 (dk_at dksX1_form_1 6 rfl rfl)
theorem dX1_form_31 : decode cX1_form 31 = .ok (.instanceof 53, 3) := dk_193 0 53 (dk_at dksX1_form_1 7 rfl rfl)
theorem dX1_form_34 : decode cX1_form 34 = .ok (.ifCond .eq 21, 3) := dk_153 0 21 (dk_at dksX1_form_1 10 rfl rfl)
theorem dX1_form_37 : decode cX1_form 37 = .ok (.new 53, 3) := dk_187 0 53 (dk_at dksX1_form_1 13 rfl rfl)
theorem dX1_form_40 : decode cX1_form 40 = .ok (.dup, 1) := dk_89 (dk_at dksX1_form_1 16 rfl rfl)
theorem dX1_form_41 : decode cX1_form 41 = .ok (.aload_n 3, 1) := dk_45 (dk_at dksX1_form_1 17 rfl rfl)
theorem dX1_form_42 : decode cX1_form 42 = .ok (.getfield 64, 3) := dk_180 0 64 (dk_at dksX1_form_1 18 rfl rfl)
theorem dX1_form_45 : decode cX1_form 45 = .ok (.aload_n 3, 1) := dk_45 (dk_at dksX1_form_1 21 rfl rfl)
theorem dX1_form_46 : decode cX1_form 46 = .ok (.getfield 67, 3) := dk_180 0 67 (dk_at dksX1_form_2 0 rfl rfl)
theorem dX1_form_49 : decode cX1_form 49 = .ok (.invokespecial 55, 3) := dk_183 0 55 (dk_at dksX1_form_2 3 rfl rfl)
theorem dX1_form_52 : decode cX1_form 52 = .ok (.goto 18, 3) := dk_167 0 18 (dk_at dksX1_form_2 6 rfl rfl)
theorem dX1_form_55 : decode cX1_form 55 = .ok (.new 50, 3) := dk_187 0 50 (dk_at dksX1_form_2 9 rfl rfl)
theorem dX1_form_58 : decode cX1_form 58 = .ok (.dup, 1) := dk_89 (dk_at dksX1_form_2 12 rfl rfl)
theorem dX1_form_59 : decode cX1_form 59 = .ok (.aload_n 3, 1) := dk_45 (dk_at dksX1_form_2 13 rfl rfl)
theorem dX1_form_60 : decode cX1_form 60 = .ok (.getfield 64, 3) := dk_180 0 64 (dk_at dksX1_form_2 14 rfl rfl)
theorem dX1_form_63 : decode cX1_form 63 = .ok (.aload_n 3, 1) := dk_45 (dk_at dksX1_form_2 17 rfl rfl)
theorem dX1_form_64 : decode cX1_form 64 = .ok (.getfield 67, 3) := dk_180 0 67 (dk_at dksX1_form_2 18 rfl rfl)
theorem dX1_form_67 : decode cX1_form 67 = .ok (.invokespecial 52, 3) := dk_183 0 52 (dk_at dksX1_form_2 21 rfl rfl)
theorem dX1_form_70 : decode cX1_form 70 = .ok (.astore 5, 2) := dk_58 5 (dk_at dksX1_form_3 0 rfl rfl)
theorem dX1_form_72 : decode cX1_form 72 = .ok (.iconst 0, 1) := dk_3 (dk_at dksX1_form_3 2 rfl rfl)
theorem dX1_form_73 : decode cX1_form 73 = .ok (.istore 6, 2) := dk_54 6 (dk_at dksX1_form_3 3 rfl rfl)
theorem dX1_form_75 : decode cX1_form 75 = .ok (.iload 6, 2) := dk_21 6 (dk_at dksX1_form_3 5 rfl rfl)
theorem dX1_form_77 : decode cX1_form 77 = .ok (.aload 4, 2) := dk_25 4 (dk_at dksX1_form_3 7 rfl rfl)
theorem dX1_form_79 : decode cX1_form 79 = .ok (.getfield 105, 3) := dk_180 0 105 (dk_at dksX1_form_3 9 rfl rfl)
theorem dX1_form_82 : decode cX1_form 82 = .ok (.if_icmp .ge 21, 3) := dk_162 0 21 (dk_at dksX1_form_3 12 rfl rfl)
theorem dX1_form_85 : decode cX1_form 85 = .ok (.aload 5, 2) := dk_25 5 (dk_at dksX1_form_3 15 rfl rfl)
theorem dX1_form_87 : decode cX1_form 87 = .ok (.aload 4, 2) := dk_25 4 (dk_at dksX1_form_3 17 rfl rfl)
theorem dX1_form_89 : decode cX1_form 89 = .ok (.iload 6, 2) := dk_21 6 (dk_at dksX1_form_3 19 rfl rfl)
theorem dX1_form_91 : decode cX1_form 91 = .ok (.invokevirtual 158, 3) := dk_182 0 158 (dk_at dksX1_form_3 21 rfl rfl)
theorem dX1_form_94 : decode cX1_form 94 = .ok (.invokevirtual 78, 3) := dk_182 0 78 (dk_at dksX1_form_4 0 rfl rfl)
theorem dX1_form_97 : decode cX1_form 97 = .ok (.iinc 6 1, 3) := dk_132 6 1 (dk_at dksX1_form_4 3 rfl rfl)
theorem dX1_form_100 : decode cX1_form 100 = .ok (.goto (-25), 3) := dk_167 255 231 (dk_at dksX1_form_4 6 rfl rfl)
theorem dX1_form_103 : decode cX1_form 103 = .ok (.aload_n 0, 1) := dk_42 (dk_at dksX1_form_4 9 rfl rfl)
theorem dX1_form_104 : decode cX1_form 104 = .ok (.iload_n 1, 1) := dk_27 (dk_at dksX1_form_4 10 rfl rfl)
theorem dX1_form_105 : decode cX1_form 105 = .ok (.aload 5, 2) := dk_25 5 (dk_at dksX1_form_4 11 rfl rfl)
theorem dX1_form_107 : decode cX1_form 107 = .ok (.invokevirtual 56, 3) := dk_182 0 56 (dk_at dksX1_form_4 13 rfl rfl)
theorem dX1_form_110 : decode cX1_form 110 = .ok (.ireturn, 1) := dk_172 (dk_at dksX1_form_4 16 rfl rfl)
abbrev cX1_head : ByteArray := prog_1_method_34_code
def yX1_head : MethodName := ⟨RX1, "head", "(II)I"⟩
def dkwX1_head_2 : List UInt8 := [28, 46, 167, 0, 5, 16, 254, 172]
abbrev dktX1_head_2 : List UInt8 := dkwX1_head_2 ++ []
def dkwX1_head_1 : List UInt8 := [180, 0, 26, 27, 50, 183, 0, 102, 58, 4, 28, 25, 4, 180, 0, 105, 162, 0, 13, 25, 4, 180, 0, 162]
abbrev dktX1_head_1 : List UInt8 := dkwX1_head_1 ++ dktX1_head_2
def dkwX1_head_0 : List UInt8 := [28, 156, 0, 5, 2, 172, 42, 27, 4, 182, 0, 60, 62, 29, 153, 0, 5, 29, 172, 187, 0, 100, 89, 42]
abbrev dktX1_head_0 : List UInt8 := dkwX1_head_0 ++ dktX1_head_1
theorem dksX1_head_0 : cX1_head.data.toList.drop 0 = dktX1_head_0 := by decide +kernel
theorem dksX1_head_1 : cX1_head.data.toList.drop 24 = dktX1_head_1 := dk_seg dksX1_head_0 24 rfl rfl
theorem dksX1_head_2 : cX1_head.data.toList.drop 48 = dktX1_head_2 := dk_seg dksX1_head_1 24 rfl rfl
theorem dX1_head_0 : decode cX1_head 0 = .ok (.iload_n 2, 1) := dk_28 (dk_at dksX1_head_0 0 rfl rfl)
theorem dX1_head_1 : decode cX1_head 1 = .ok (.ifCond .ge 5, 3) := dk_156 0 5 (dk_at dksX1_head_0 1 rfl rfl)
theorem dX1_head_4 : decode cX1_head 4 = .ok (.iconst (-1), 1) := dk_2 (dk_at dksX1_head_0 4 rfl rfl)
theorem dX1_head_5 : decode cX1_head 5 = .ok (.ireturn, 1) := dk_172 (dk_at dksX1_head_0 5 rfl rfl)
theorem dX1_head_6 : decode cX1_head 6 = .ok (.aload_n 0, 1) := dk_42 (dk_at dksX1_head_0 6 rfl rfl)
theorem dX1_head_7 : decode cX1_head 7 = .ok (.iload_n 1, 1) := dk_27 (dk_at dksX1_head_0 7 rfl rfl)
theorem dX1_head_8 : decode cX1_head 8 = .ok (.iconst 1, 1) := dk_4 (dk_at dksX1_head_0 8 rfl rfl)
theorem dX1_head_9 : decode cX1_head 9 = .ok (.invokevirtual 60, 3) := dk_182 0 60 (dk_at dksX1_head_0 9 rfl rfl)
theorem dX1_head_12 : decode cX1_head 12 = .ok (.istore_n 3, 1) := dk_62 (dk_at dksX1_head_0 12 rfl rfl)
theorem dX1_head_13 : decode cX1_head 13 = .ok (.iload_n 3, 1) := dk_29 (dk_at dksX1_head_0 13 rfl rfl)
theorem dX1_head_14 : decode cX1_head 14 = .ok (.ifCond .eq 5, 3) := dk_153 0 5 (dk_at dksX1_head_0 14 rfl rfl)
theorem dX1_head_17 : decode cX1_head 17 = .ok (.iload_n 3, 1) := dk_29 (dk_at dksX1_head_0 17 rfl rfl)
theorem dX1_head_18 : decode cX1_head 18 = .ok (.ireturn, 1) := dk_172 (dk_at dksX1_head_0 18 rfl rfl)
theorem dX1_head_19 : decode cX1_head 19 = .ok (.new 100, 3) := dk_187 0 100 (dk_at dksX1_head_0 19 rfl rfl)
theorem dX1_head_22 : decode cX1_head 22 = .ok (.dup, 1) := dk_89 (dk_at dksX1_head_0 22 rfl rfl)
theorem dX1_head_23 : decode cX1_head 23 = .ok (.aload_n 0, 1) := dk_42 (dk_at dksX1_head_0 23 rfl rfl)
theorem dX1_head_24 : decode cX1_head 24 = .ok (.getfield 26, 3) := dk_180 0 26 (dk_at dksX1_head_1 0 rfl rfl)
theorem dX1_head_27 : decode cX1_head 27 = .ok (.iload_n 1, 1) := dk_27 (dk_at dksX1_head_1 3 rfl rfl)
theorem dX1_head_28 : decode cX1_head 28 = .ok (.aaload, 1) := dk_50 (dk_at dksX1_head_1 4 rfl rfl)
theorem dX1_head_29 : decode cX1_head 29 = .ok (.invokespecial 102, 3) := dk_183 0 102 (dk_at dksX1_head_1 5 rfl rfl)
theorem dX1_head_32 : decode cX1_head 32 = .ok (.astore 4, 2) := dk_58 4 (dk_at dksX1_head_1 8 rfl rfl)
theorem dX1_head_34 : decode cX1_head 34 = .ok (.iload_n 2, 1) := dk_28 (dk_at dksX1_head_1 10 rfl rfl)
theorem dX1_head_35 : decode cX1_head 35 = .ok (.aload 4, 2) := dk_25 4 (dk_at dksX1_head_1 11 rfl rfl)
theorem dX1_head_37 : decode cX1_head 37 = .ok (.getfield 105, 3) := dk_180 0 105 (dk_at dksX1_head_1 13 rfl rfl)
theorem dX1_head_40 : decode cX1_head 40 = .ok (.if_icmp .ge 13, 3) := dk_162 0 13 (dk_at dksX1_head_1 16 rfl rfl)
theorem dX1_head_43 : decode cX1_head 43 = .ok (.aload 4, 2) := dk_25 4 (dk_at dksX1_head_1 19 rfl rfl)
theorem dX1_head_45 : decode cX1_head 45 = .ok (.getfield 162, 3) := dk_180 0 162 (dk_at dksX1_head_1 21 rfl rfl)
theorem dX1_head_48 : decode cX1_head 48 = .ok (.iload_n 2, 1) := dk_28 (dk_at dksX1_head_2 0 rfl rfl)
theorem dX1_head_49 : decode cX1_head 49 = .ok (.iaload, 1) := dk_46 (dk_at dksX1_head_2 1 rfl rfl)
theorem dX1_head_50 : decode cX1_head 50 = .ok (.goto 5, 3) := dk_167 0 5 (dk_at dksX1_head_2 2 rfl rfl)
theorem dX1_head_53 : decode cX1_head 53 = .ok (.bipush (-2), 2) := dk_16 254 (dk_at dksX1_head_2 5 rfl rfl)
theorem dX1_head_55 : decode cX1_head 55 = .ok (.ireturn, 1) := dk_172 (dk_at dksX1_head_2 7 rfl rfl)
abbrev cX1_dual : ByteArray := prog_1_method_35_code
def yX1_dual : MethodName := ⟨RX1, "dual", "(II)I"⟩
def dkwX1_dual_2 : List UInt8 := [182, 0, 166, 182, 0, 56, 172]
abbrev dktX1_dual_2 : List UInt8 := dkwX1_dual_2 ++ []
def dkwX1_dual_1 : List UInt8 := [153, 0, 7, 29, 167, 0, 24, 42, 28, 187, 0, 100, 89, 42, 180, 0, 26, 27, 50, 183, 0, 102]
abbrev dktX1_dual_1 : List UInt8 := dkwX1_dual_1 ++ dktX1_dual_2
def dkwX1_dual_0 : List UInt8 := [27, 184, 0, 36, 153, 0, 10, 28, 184, 0, 36, 154, 0, 5, 2, 172, 42, 27, 4, 182, 0, 60, 62, 29]
abbrev dktX1_dual_0 : List UInt8 := dkwX1_dual_0 ++ dktX1_dual_1
theorem dksX1_dual_0 : cX1_dual.data.toList.drop 0 = dktX1_dual_0 := by decide +kernel
theorem dksX1_dual_1 : cX1_dual.data.toList.drop 24 = dktX1_dual_1 := dk_seg dksX1_dual_0 24 rfl rfl
theorem dksX1_dual_2 : cX1_dual.data.toList.drop 46 = dktX1_dual_2 := dk_seg dksX1_dual_1 22 rfl rfl
theorem dX1_dual_0 : decode cX1_dual 0 = .ok (.iload_n 1, 1) := dk_27 (dk_at dksX1_dual_0 0 rfl rfl)
theorem dX1_dual_1 : decode cX1_dual 1 = .ok (.invokestatic 36, 3) := dk_184 0 36 (dk_at dksX1_dual_0 1 rfl rfl)
theorem dX1_dual_4 : decode cX1_dual 4 = .ok (.ifCond .eq 10, 3) := dk_153 0 10 (dk_at dksX1_dual_0 4 rfl rfl)
theorem dX1_dual_7 : decode cX1_dual 7 = .ok (.iload_n 2, 1) := dk_28 (dk_at dksX1_dual_0 7 rfl rfl)
theorem dX1_dual_8 : decode cX1_dual 8 = .ok (.invokestatic 36, 3) := dk_184 0 36 (dk_at dksX1_dual_0 8 rfl rfl)
theorem dX1_dual_11 : decode cX1_dual 11 = .ok (.ifCond .ne 5, 3) := dk_154 0 5 (dk_at dksX1_dual_0 11 rfl rfl)
theorem dX1_dual_14 : decode cX1_dual 14 = .ok (.iconst (-1), 1) := dk_2 (dk_at dksX1_dual_0 14 rfl rfl)
theorem dX1_dual_15 : decode cX1_dual 15 = .ok (.ireturn, 1) := dk_172 (dk_at dksX1_dual_0 15 rfl rfl)
theorem dX1_dual_16 : decode cX1_dual 16 = .ok (.aload_n 0, 1) := dk_42 (dk_at dksX1_dual_0 16 rfl rfl)
theorem dX1_dual_17 : decode cX1_dual 17 = .ok (.iload_n 1, 1) := dk_27 (dk_at dksX1_dual_0 17 rfl rfl)
theorem dX1_dual_18 : decode cX1_dual 18 = .ok (.iconst 1, 1) := dk_4 (dk_at dksX1_dual_0 18 rfl rfl)
theorem dX1_dual_19 : decode cX1_dual 19 = .ok (.invokevirtual 60, 3) := dk_182 0 60 (dk_at dksX1_dual_0 19 rfl rfl)
theorem dX1_dual_22 : decode cX1_dual 22 = .ok (.istore_n 3, 1) := dk_62 (dk_at dksX1_dual_0 22 rfl rfl)
theorem dX1_dual_23 : decode cX1_dual 23 = .ok (.iload_n 3, 1) := dk_29 (dk_at dksX1_dual_0 23 rfl rfl)
theorem dX1_dual_24 : decode cX1_dual 24 = .ok (.ifCond .eq 7, 3) := dk_153 0 7 (dk_at dksX1_dual_1 0 rfl rfl)
theorem dX1_dual_27 : decode cX1_dual 27 = .ok (.iload_n 3, 1) := dk_29 (dk_at dksX1_dual_1 3 rfl rfl)
theorem dX1_dual_28 : decode cX1_dual 28 = .ok (.goto 24, 3) := dk_167 0 24 (dk_at dksX1_dual_1 4 rfl rfl)
theorem dX1_dual_31 : decode cX1_dual 31 = .ok (.aload_n 0, 1) := dk_42 (dk_at dksX1_dual_1 7 rfl rfl)
theorem dX1_dual_32 : decode cX1_dual 32 = .ok (.iload_n 2, 1) := dk_28 (dk_at dksX1_dual_1 8 rfl rfl)
theorem dX1_dual_33 : decode cX1_dual 33 = .ok (.new 100, 3) := dk_187 0 100 (dk_at dksX1_dual_1 9 rfl rfl)
theorem dX1_dual_36 : decode cX1_dual 36 = .ok (.dup, 1) := dk_89 (dk_at dksX1_dual_1 12 rfl rfl)
theorem dX1_dual_37 : decode cX1_dual 37 = .ok (.aload_n 0, 1) := dk_42 (dk_at dksX1_dual_1 13 rfl rfl)
theorem dX1_dual_38 : decode cX1_dual 38 = .ok (.getfield 26, 3) := dk_180 0 26 (dk_at dksX1_dual_1 14 rfl rfl)
theorem dX1_dual_41 : decode cX1_dual 41 = .ok (.iload_n 1, 1) := dk_27 (dk_at dksX1_dual_1 17 rfl rfl)
theorem dX1_dual_42 : decode cX1_dual 42 = .ok (.aaload, 1) := dk_50 (dk_at dksX1_dual_1 18 rfl rfl)
theorem dX1_dual_43 : decode cX1_dual 43 = .ok (.invokespecial 102, 3) := dk_183 0 102 (dk_at dksX1_dual_1 19 rfl rfl)
theorem dX1_dual_46 : decode cX1_dual 46 = .ok (.invokevirtual 166, 3) := dk_182 0 166 (dk_at dksX1_dual_2 0 rfl rfl)
theorem dX1_dual_49 : decode cX1_dual 49 = .ok (.invokevirtual 56, 3) := dk_182 0 56 (dk_at dksX1_dual_2 3 rfl rfl)
theorem dX1_dual_52 : decode cX1_dual 52 = .ok (.ireturn, 1) := dk_172 (dk_at dksX1_dual_2 6 rfl rfl)
abbrev cX1_checks : ByteArray := prog_1_method_36_code
def yX1_checks : MethodName := ⟨RX1, "checks", "(IJ)J"⟩
def dkwX1_checks_4 : List UInt8 := [184, 0, 154, 133, 97, 55, 6, 132, 8, 1, 167, 255, 208, 22, 6, 173]
abbrev dktX1_checks_4 : List UInt8 := dkwX1_checks_4 ++ []
def dkwX1_checks_3 : List UInt8 := [180, 0, 64, 133, 105, 25, 5, 180, 0, 64, 25, 5, 180, 0, 67, 32, 25, 5, 180, 0, 120, 21, 8, 47]
abbrev dktX1_checks_3 : List UInt8 := dkwX1_checks_3 ++ dktX1_checks_4
def dkwX1_checks_2 : List UInt8 := [58, 5, 9, 55, 6, 3, 54, 8, 21, 8, 25, 5, 180, 0, 30, 162, 0, 44, 22, 6, 25, 5]
abbrev dktX1_checks_2 : List UInt8 := dkwX1_checks_2 ++ dktX1_checks_3
def dkwX1_checks_1 : List UInt8 := [153, 0, 7, 21, 4, 133, 173, 187, 0, 100, 89, 42, 180, 0, 26, 27, 50, 183, 0, 102, 182, 0, 166]
abbrev dktX1_checks_1 : List UInt8 := dkwX1_checks_1 ++ dktX1_checks_2
def dkwX1_checks_0 : List UInt8 := [42, 27, 32, 182, 0, 133, 54, 4, 21, 4, 154, 0, 11, 42, 27, 4, 182, 0, 60, 54, 4, 21, 4]
abbrev dktX1_checks_0 : List UInt8 := dkwX1_checks_0 ++ dktX1_checks_1
theorem dksX1_checks_0 : cX1_checks.data.toList.drop 0 = dktX1_checks_0 := by decide +kernel
theorem dksX1_checks_1 : cX1_checks.data.toList.drop 23 = dktX1_checks_1 := dk_seg dksX1_checks_0 23 rfl rfl
theorem dksX1_checks_2 : cX1_checks.data.toList.drop 46 = dktX1_checks_2 := dk_seg dksX1_checks_1 23 rfl rfl
theorem dksX1_checks_3 : cX1_checks.data.toList.drop 68 = dktX1_checks_3 := dk_seg dksX1_checks_2 22 rfl rfl
theorem dksX1_checks_4 : cX1_checks.data.toList.drop 92 = dktX1_checks_4 := dk_seg dksX1_checks_3 24 rfl rfl
theorem dX1_checks_0 : decode cX1_checks 0 = .ok (.aload_n 0, 1) := dk_42 (dk_at dksX1_checks_0 0 rfl rfl)
theorem dX1_checks_1 : decode cX1_checks 1 = .ok (.iload_n 1, 1) := dk_27 (dk_at dksX1_checks_0 1 rfl rfl)
theorem dX1_checks_2 : decode cX1_checks 2 = .ok (.lload_n 2, 1) := dk_32 (dk_at dksX1_checks_0 2 rfl rfl)
theorem dX1_checks_3 : decode cX1_checks 3 = .ok (.invokevirtual 133, 3) := dk_182 0 133 (dk_at dksX1_checks_0 3 rfl rfl)
theorem dX1_checks_6 : decode cX1_checks 6 = .ok (.istore 4, 2) := dk_54 4 (dk_at dksX1_checks_0 6 rfl rfl)
theorem dX1_checks_8 : decode cX1_checks 8 = .ok (.iload 4, 2) := dk_21 4 (dk_at dksX1_checks_0 8 rfl rfl)
theorem dX1_checks_10 : decode cX1_checks 10 = .ok (.ifCond .ne 11, 3) := dk_154 0 11 (dk_at dksX1_checks_0 10 rfl rfl)
theorem dX1_checks_13 : decode cX1_checks 13 = .ok (.aload_n 0, 1) := dk_42 (dk_at dksX1_checks_0 13 rfl rfl)
theorem dX1_checks_14 : decode cX1_checks 14 = .ok (.iload_n 1, 1) := dk_27 (dk_at dksX1_checks_0 14 rfl rfl)
theorem dX1_checks_15 : decode cX1_checks 15 = .ok (.iconst 1, 1) := dk_4 (dk_at dksX1_checks_0 15 rfl rfl)
theorem dX1_checks_16 : decode cX1_checks 16 = .ok (.invokevirtual 60, 3) := dk_182 0 60 (dk_at dksX1_checks_0 16 rfl rfl)
theorem dX1_checks_19 : decode cX1_checks 19 = .ok (.istore 4, 2) := dk_54 4 (dk_at dksX1_checks_0 19 rfl rfl)
theorem dX1_checks_21 : decode cX1_checks 21 = .ok (.iload 4, 2) := dk_21 4 (dk_at dksX1_checks_0 21 rfl rfl)
theorem dX1_checks_23 : decode cX1_checks 23 = .ok (.ifCond .eq 7, 3) := dk_153 0 7 (dk_at dksX1_checks_1 0 rfl rfl)
theorem dX1_checks_26 : decode cX1_checks 26 = .ok (.iload 4, 2) := dk_21 4 (dk_at dksX1_checks_1 3 rfl rfl)
theorem dX1_checks_28 : decode cX1_checks 28 = .ok (.i2l, 1) := dk_133 (dk_at dksX1_checks_1 5 rfl rfl)
theorem dX1_checks_29 : decode cX1_checks 29 = .ok (.lreturn, 1) := dk_173 (dk_at dksX1_checks_1 6 rfl rfl)
theorem dX1_checks_30 : decode cX1_checks 30 = .ok (.new 100, 3) := dk_187 0 100 (dk_at dksX1_checks_1 7 rfl rfl)
theorem dX1_checks_33 : decode cX1_checks 33 = .ok (.dup, 1) := dk_89 (dk_at dksX1_checks_1 10 rfl rfl)
theorem dX1_checks_34 : decode cX1_checks 34 = .ok (.aload_n 0, 1) := dk_42 (dk_at dksX1_checks_1 11 rfl rfl)
theorem dX1_checks_35 : decode cX1_checks 35 = .ok (.getfield 26, 3) := dk_180 0 26 (dk_at dksX1_checks_1 12 rfl rfl)
theorem dX1_checks_38 : decode cX1_checks 38 = .ok (.iload_n 1, 1) := dk_27 (dk_at dksX1_checks_1 15 rfl rfl)
theorem dX1_checks_39 : decode cX1_checks 39 = .ok (.aaload, 1) := dk_50 (dk_at dksX1_checks_1 16 rfl rfl)
theorem dX1_checks_40 : decode cX1_checks 40 = .ok (.invokespecial 102, 3) := dk_183 0 102 (dk_at dksX1_checks_1 17 rfl rfl)
theorem dX1_checks_43 : decode cX1_checks 43 = .ok (.invokevirtual 166, 3) := dk_182 0 166 (dk_at dksX1_checks_1 20 rfl rfl)
theorem dX1_checks_46 : decode cX1_checks 46 = .ok (.astore 5, 2) := dk_58 5 (dk_at dksX1_checks_2 0 rfl rfl)
theorem dX1_checks_48 : decode cX1_checks 48 = .ok (.lconst 0, 1) := dk_9 (dk_at dksX1_checks_2 2 rfl rfl)
theorem dX1_checks_49 : decode cX1_checks 49 = .ok (.lstore 6, 2) := dk_55 6 (dk_at dksX1_checks_2 3 rfl rfl)
theorem dX1_checks_51 : decode cX1_checks 51 = .ok (.iconst 0, 1) := dk_3 (dk_at dksX1_checks_2 5 rfl rfl)
theorem dX1_checks_52 : decode cX1_checks 52 = .ok (.istore 8, 2) := dk_54 8 (dk_at dksX1_checks_2 6 rfl rfl)
theorem dX1_checks_54 : decode cX1_checks 54 = .ok (.iload 8, 2) := dk_21 8 (dk_at dksX1_checks_2 8 rfl rfl)
theorem dX1_checks_56 : decode cX1_checks 56 = .ok (.aload 5, 2) := dk_25 5 (dk_at dksX1_checks_2 10 rfl rfl)
theorem dX1_checks_58 : decode cX1_checks 58 = .ok (.getfield 30, 3) := dk_180 0 30 (dk_at dksX1_checks_2 12 rfl rfl)
theorem dX1_checks_61 : decode cX1_checks 61 = .ok (.if_icmp .ge 44, 3) := dk_162 0 44 (dk_at dksX1_checks_2 15 rfl rfl)
theorem dX1_checks_64 : decode cX1_checks 64 = .ok (.lload 6, 2) := dk_22 6 (dk_at dksX1_checks_2 18 rfl rfl)
theorem dX1_checks_66 : decode cX1_checks 66 = .ok (.aload 5, 2) := dk_25 5 (dk_at dksX1_checks_2 20 rfl rfl)
theorem dX1_checks_68 : decode cX1_checks 68 = .ok (.getfield 64, 3) := dk_180 0 64 (dk_at dksX1_checks_3 0 rfl rfl)
theorem dX1_checks_71 : decode cX1_checks 71 = .ok (.i2l, 1) := dk_133 (dk_at dksX1_checks_3 3 rfl rfl)
theorem dX1_checks_72 : decode cX1_checks 72 = .ok (.lmul, 1) := dk_105 (dk_at dksX1_checks_3 4 rfl rfl)
theorem dX1_checks_73 : decode cX1_checks 73 = .ok (.aload 5, 2) := dk_25 5 (dk_at dksX1_checks_3 5 rfl rfl)
theorem dX1_checks_75 : decode cX1_checks 75 = .ok (.getfield 64, 3) := dk_180 0 64 (dk_at dksX1_checks_3 7 rfl rfl)
theorem dX1_checks_78 : decode cX1_checks 78 = .ok (.aload 5, 2) := dk_25 5 (dk_at dksX1_checks_3 10 rfl rfl)
theorem dX1_checks_80 : decode cX1_checks 80 = .ok (.getfield 67, 3) := dk_180 0 67 (dk_at dksX1_checks_3 12 rfl rfl)
theorem dX1_checks_83 : decode cX1_checks 83 = .ok (.lload_n 2, 1) := dk_32 (dk_at dksX1_checks_3 15 rfl rfl)
theorem dX1_checks_84 : decode cX1_checks 84 = .ok (.aload 5, 2) := dk_25 5 (dk_at dksX1_checks_3 16 rfl rfl)
theorem dX1_checks_86 : decode cX1_checks 86 = .ok (.getfield 120, 3) := dk_180 0 120 (dk_at dksX1_checks_3 18 rfl rfl)
theorem dX1_checks_89 : decode cX1_checks 89 = .ok (.iload 8, 2) := dk_21 8 (dk_at dksX1_checks_3 21 rfl rfl)
theorem dX1_checks_91 : decode cX1_checks 91 = .ok (.laload, 1) := dk_47 (dk_at dksX1_checks_3 23 rfl rfl)
theorem dX1_checks_92 : decode cX1_checks 92 = .ok (.invokestatic 154, 3) := dk_184 0 154 (dk_at dksX1_checks_4 0 rfl rfl)
theorem dX1_checks_95 : decode cX1_checks 95 = .ok (.i2l, 1) := dk_133 (dk_at dksX1_checks_4 3 rfl rfl)
theorem dX1_checks_96 : decode cX1_checks 96 = .ok (.ladd, 1) := dk_97 (dk_at dksX1_checks_4 4 rfl rfl)
theorem dX1_checks_97 : decode cX1_checks 97 = .ok (.lstore 6, 2) := dk_55 6 (dk_at dksX1_checks_4 5 rfl rfl)
theorem dX1_checks_99 : decode cX1_checks 99 = .ok (.iinc 8 1, 3) := dk_132 8 1 (dk_at dksX1_checks_4 7 rfl rfl)
theorem dX1_checks_102 : decode cX1_checks 102 = .ok (.goto (-48), 3) := dk_167 255 208 (dk_at dksX1_checks_4 10 rfl rfl)
theorem dX1_checks_105 : decode cX1_checks 105 = .ok (.lload 6, 2) := dk_22 6 (dk_at dksX1_checks_4 13 rfl rfl)
theorem dX1_checks_107 : decode cX1_checks 107 = .ok (.lreturn, 1) := dk_173 (dk_at dksX1_checks_4 15 rfl rfl)
abbrev cX1_least : ByteArray := prog_1_method_41_code
def yX1_least : MethodName := ⟨RX1, "least", "(I)I"⟩
def dkwX1_least_1 : List UInt8 := [172]
abbrev dktX1_least_1 : List UInt8 := dkwX1_least_1 ++ []
def dkwX1_least_0 : List UInt8 := [42, 27, 182, 0, 187, 61, 28, 153, 0, 7, 28, 167, 0, 13, 42, 42, 180, 0, 26, 27, 50, 182, 0, 191]
abbrev dktX1_least_0 : List UInt8 := dkwX1_least_0 ++ dktX1_least_1
theorem dksX1_least_0 : cX1_least.data.toList.drop 0 = dktX1_least_0 := by decide +kernel
theorem dksX1_least_1 : cX1_least.data.toList.drop 24 = dktX1_least_1 := dk_seg dksX1_least_0 24 rfl rfl
theorem dX1_least_0 : decode cX1_least 0 = .ok (.aload_n 0, 1) := dk_42 (dk_at dksX1_least_0 0 rfl rfl)
theorem dX1_least_1 : decode cX1_least 1 = .ok (.iload_n 1, 1) := dk_27 (dk_at dksX1_least_0 1 rfl rfl)
theorem dX1_least_2 : decode cX1_least 2 = .ok (.invokevirtual 187, 3) := dk_182 0 187 (dk_at dksX1_least_0 2 rfl rfl)
theorem dX1_least_5 : decode cX1_least 5 = .ok (.istore_n 2, 1) := dk_61 (dk_at dksX1_least_0 5 rfl rfl)
theorem dX1_least_6 : decode cX1_least 6 = .ok (.iload_n 2, 1) := dk_28 (dk_at dksX1_least_0 6 rfl rfl)
theorem dX1_least_7 : decode cX1_least 7 = .ok (.ifCond .eq 7, 3) := dk_153 0 7 (dk_at dksX1_least_0 7 rfl rfl)
theorem dX1_least_10 : decode cX1_least 10 = .ok (.iload_n 2, 1) := dk_28 (dk_at dksX1_least_0 10 rfl rfl)
theorem dX1_least_11 : decode cX1_least 11 = .ok (.goto 13, 3) := dk_167 0 13 (dk_at dksX1_least_0 11 rfl rfl)
theorem dX1_least_14 : decode cX1_least 14 = .ok (.aload_n 0, 1) := dk_42 (dk_at dksX1_least_0 14 rfl rfl)
theorem dX1_least_15 : decode cX1_least 15 = .ok (.aload_n 0, 1) := dk_42 (dk_at dksX1_least_0 15 rfl rfl)
theorem dX1_least_16 : decode cX1_least 16 = .ok (.getfield 26, 3) := dk_180 0 26 (dk_at dksX1_least_0 16 rfl rfl)
theorem dX1_least_19 : decode cX1_least 19 = .ok (.iload_n 1, 1) := dk_27 (dk_at dksX1_least_0 19 rfl rfl)
theorem dX1_least_20 : decode cX1_least 20 = .ok (.aaload, 1) := dk_50 (dk_at dksX1_least_0 20 rfl rfl)
theorem dX1_least_21 : decode cX1_least 21 = .ok (.invokevirtual 191, 3) := dk_182 0 191 (dk_at dksX1_least_0 21 rfl rfl)
theorem dX1_least_24 : decode cX1_least 24 = .ok (.ireturn, 1) := dk_172 (dk_at dksX1_least_1 0 rfl rfl)
abbrev cX1_whyWords : ByteArray := prog_1_method_38_code
def yX1_whyWords : MethodName := ⟨RX1, "whyWords", "(I)I"⟩
def dkwX1_whyWords_1 : List UInt8 := [182, 0, 178, 153, 0, 7, 3, 167, 0, 5, 16, 251, 172]
abbrev dktX1_whyWords_1 : List UInt8 := dkwX1_whyWords_1 ++ []
def dkwX1_whyWords_0 : List UInt8 := [42, 27, 3, 182, 0, 60, 61, 28, 153, 0, 7, 28, 167, 0, 22, 42, 42, 180, 0, 26, 27, 50]
abbrev dktX1_whyWords_0 : List UInt8 := dkwX1_whyWords_0 ++ dktX1_whyWords_1
theorem dksX1_whyWords_0 : cX1_whyWords.data.toList.drop 0 = dktX1_whyWords_0 := by decide +kernel
theorem dksX1_whyWords_1 : cX1_whyWords.data.toList.drop 22 = dktX1_whyWords_1 := dk_seg dksX1_whyWords_0 22 rfl rfl
theorem dX1_whyWords_0 : decode cX1_whyWords 0 = .ok (.aload_n 0, 1) := dk_42 (dk_at dksX1_whyWords_0 0 rfl rfl)
theorem dX1_whyWords_1 : decode cX1_whyWords 1 = .ok (.iload_n 1, 1) := dk_27 (dk_at dksX1_whyWords_0 1 rfl rfl)
theorem dX1_whyWords_2 : decode cX1_whyWords 2 = .ok (.iconst 0, 1) := dk_3 (dk_at dksX1_whyWords_0 2 rfl rfl)
theorem dX1_whyWords_3 : decode cX1_whyWords 3 = .ok (.invokevirtual 60, 3) := dk_182 0 60 (dk_at dksX1_whyWords_0 3 rfl rfl)
theorem dX1_whyWords_6 : decode cX1_whyWords 6 = .ok (.istore_n 2, 1) := dk_61 (dk_at dksX1_whyWords_0 6 rfl rfl)
theorem dX1_whyWords_7 : decode cX1_whyWords 7 = .ok (.iload_n 2, 1) := dk_28 (dk_at dksX1_whyWords_0 7 rfl rfl)
theorem dX1_whyWords_8 : decode cX1_whyWords 8 = .ok (.ifCond .eq 7, 3) := dk_153 0 7 (dk_at dksX1_whyWords_0 8 rfl rfl)
theorem dX1_whyWords_11 : decode cX1_whyWords 11 = .ok (.iload_n 2, 1) := dk_28 (dk_at dksX1_whyWords_0 11 rfl rfl)
theorem dX1_whyWords_12 : decode cX1_whyWords 12 = .ok (.goto 22, 3) := dk_167 0 22 (dk_at dksX1_whyWords_0 12 rfl rfl)
theorem dX1_whyWords_15 : decode cX1_whyWords 15 = .ok (.aload_n 0, 1) := dk_42 (dk_at dksX1_whyWords_0 15 rfl rfl)
theorem dX1_whyWords_16 : decode cX1_whyWords 16 = .ok (.aload_n 0, 1) := dk_42 (dk_at dksX1_whyWords_0 16 rfl rfl)
theorem dX1_whyWords_17 : decode cX1_whyWords 17 = .ok (.getfield 26, 3) := dk_180 0 26 (dk_at dksX1_whyWords_0 17 rfl rfl)
theorem dX1_whyWords_20 : decode cX1_whyWords 20 = .ok (.iload_n 1, 1) := dk_27 (dk_at dksX1_whyWords_0 20 rfl rfl)
theorem dX1_whyWords_21 : decode cX1_whyWords 21 = .ok (.aaload, 1) := dk_50 (dk_at dksX1_whyWords_0 21 rfl rfl)
theorem dX1_whyWords_22 : decode cX1_whyWords 22 = .ok (.invokevirtual 178, 3) := dk_182 0 178 (dk_at dksX1_whyWords_1 0 rfl rfl)
theorem dX1_whyWords_25 : decode cX1_whyWords 25 = .ok (.ifCond .eq 7, 3) := dk_153 0 7 (dk_at dksX1_whyWords_1 3 rfl rfl)
theorem dX1_whyWords_28 : decode cX1_whyWords 28 = .ok (.iconst 0, 1) := dk_3 (dk_at dksX1_whyWords_1 6 rfl rfl)
theorem dX1_whyWords_29 : decode cX1_whyWords 29 = .ok (.goto 5, 3) := dk_167 0 5 (dk_at dksX1_whyWords_1 7 rfl rfl)
theorem dX1_whyWords_32 : decode cX1_whyWords 32 = .ok (.bipush (-5), 2) := dk_16 251 (dk_at dksX1_whyWords_1 10 rfl rfl)
theorem dX1_whyWords_34 : decode cX1_whyWords 34 = .ok (.ireturn, 1) := dk_172 (dk_at dksX1_whyWords_1 12 rfl rfl)
abbrev cX1_lays : ByteArray := prog_1_method_37_code
def yX1_lays : MethodName := ⟨RX1, "lays", "(LWordBench$Code;)Z"⟩
def dkwX1_lays_6 : List UInt8 := [54, 6, 132, 7, 255, 167, 255, 211, 42, 180, 0, 170, 29, 22, 4, 80, 132, 3, 1, 167, 255, 175, 4, 172]
abbrev dktX1_lays_6 : List UInt8 := dkwX1_lays_6 ++ []
def dkwX1_lays_5 : List UInt8 := [21, 7, 182, 0, 158, 21, 6, 43, 180, 0, 64, 112, 184, 0, 144, 55, 4, 21, 6, 43, 180, 0, 64, 108]
abbrev dktX1_lays_5 : List UInt8 := dkwX1_lays_5 ++ dktX1_lays_6
def dkwX1_lays_4 : List UInt8 := [180, 0, 105, 4, 100, 54, 7, 21, 7, 155, 0, 46, 43, 180, 0, 64, 43, 180, 0, 67, 22, 4, 44]
abbrev dktX1_lays_4 : List UInt8 := dkwX1_lays_4 ++ dktX1_lays_5
def dkwX1_lays_3 : List UInt8 := [184, 0, 7, 136, 181, 0, 173, 3, 62, 29, 42, 180, 0, 173, 162, 0, 79, 9, 55, 4, 29, 54, 6, 44]
abbrev dktX1_lays_3 : List UInt8 := dkwX1_lays_3 ++ dktX1_lays_4
def dkwX1_lays_2 : List UInt8 := [180, 0, 105, 184, 0, 7, 20, 0, 176, 148, 158, 0, 5, 3, 172, 42, 43, 180, 0, 64, 44, 180, 0, 105]
abbrev dktX1_lays_2 : List UInt8 := dkwX1_lays_2 ++ dktX1_lays_3
def dkwX1_lays_1 : List UInt8 := [42, 43, 180, 0, 30, 181, 0, 173, 4, 172, 187, 0, 100, 89, 43, 183, 0, 102, 77, 43, 180, 0, 64, 44]
abbrev dktX1_lays_1 : List UInt8 := dkwX1_lays_1 ++ dktX1_lays_2
def dkwX1_lays_0 : List UInt8 := [43, 193, 0, 50, 154, 0, 30, 43, 180, 0, 120, 3, 42, 180, 0, 170, 3, 43, 180, 0, 30, 184, 0, 85]
abbrev dktX1_lays_0 : List UInt8 := dkwX1_lays_0 ++ dktX1_lays_1
theorem dksX1_lays_0 : cX1_lays.data.toList.drop 0 = dktX1_lays_0 := by decide +kernel
theorem dksX1_lays_1 : cX1_lays.data.toList.drop 24 = dktX1_lays_1 := dk_seg dksX1_lays_0 24 rfl rfl
theorem dksX1_lays_2 : cX1_lays.data.toList.drop 48 = dktX1_lays_2 := dk_seg dksX1_lays_1 24 rfl rfl
theorem dksX1_lays_3 : cX1_lays.data.toList.drop 72 = dktX1_lays_3 := dk_seg dksX1_lays_2 24 rfl rfl
theorem dksX1_lays_4 : cX1_lays.data.toList.drop 96 = dktX1_lays_4 := dk_seg dksX1_lays_3 24 rfl rfl
theorem dksX1_lays_5 : cX1_lays.data.toList.drop 119 = dktX1_lays_5 := dk_seg dksX1_lays_4 23 rfl rfl
theorem dksX1_lays_6 : cX1_lays.data.toList.drop 143 = dktX1_lays_6 := dk_seg dksX1_lays_5 24 rfl rfl
theorem dX1_lays_0 : decode cX1_lays 0 = .ok (.aload_n 1, 1) := dk_43 (dk_at dksX1_lays_0 0 rfl rfl)
theorem dX1_lays_1 : decode cX1_lays 1 = .ok (.instanceof 50, 3) := dk_193 0 50 (dk_at dksX1_lays_0 1 rfl rfl)
theorem dX1_lays_4 : decode cX1_lays 4 = .ok (.ifCond .ne 30, 3) := dk_154 0 30 (dk_at dksX1_lays_0 4 rfl rfl)
theorem dX1_lays_7 : decode cX1_lays 7 = .ok (.aload_n 1, 1) := dk_43 (dk_at dksX1_lays_0 7 rfl rfl)
theorem dX1_lays_8 : decode cX1_lays 8 = .ok (.getfield 120, 3) := dk_180 0 120 (dk_at dksX1_lays_0 8 rfl rfl)
theorem dX1_lays_11 : decode cX1_lays 11 = .ok (.iconst 0, 1) := dk_3 (dk_at dksX1_lays_0 11 rfl rfl)
theorem dX1_lays_12 : decode cX1_lays 12 = .ok (.aload_n 0, 1) := dk_42 (dk_at dksX1_lays_0 12 rfl rfl)
theorem dX1_lays_13 : decode cX1_lays 13 = .ok (.getfield 170, 3) := dk_180 0 170 (dk_at dksX1_lays_0 13 rfl rfl)
theorem dX1_lays_16 : decode cX1_lays 16 = .ok (.iconst 0, 1) := dk_3 (dk_at dksX1_lays_0 16 rfl rfl)
theorem dX1_lays_17 : decode cX1_lays 17 = .ok (.aload_n 1, 1) := dk_43 (dk_at dksX1_lays_0 17 rfl rfl)
theorem dX1_lays_18 : decode cX1_lays 18 = .ok (.getfield 30, 3) := dk_180 0 30 (dk_at dksX1_lays_0 18 rfl rfl)
theorem dX1_lays_21 : decode cX1_lays 21 = .ok (.invokestatic 85, 3) := dk_184 0 85 (dk_at dksX1_lays_0 21 rfl rfl)
theorem dX1_lays_24 : decode cX1_lays 24 = .ok (.aload_n 0, 1) := dk_42 (dk_at dksX1_lays_1 0 rfl rfl)
theorem dX1_lays_25 : decode cX1_lays 25 = .ok (.aload_n 1, 1) := dk_43 (dk_at dksX1_lays_1 1 rfl rfl)
theorem dX1_lays_26 : decode cX1_lays 26 = .ok (.getfield 30, 3) := dk_180 0 30 (dk_at dksX1_lays_1 2 rfl rfl)
theorem dX1_lays_29 : decode cX1_lays 29 = .ok (.putfield 173, 3) := dk_181 0 173 (dk_at dksX1_lays_1 5 rfl rfl)
theorem dX1_lays_32 : decode cX1_lays 32 = .ok (.iconst 1, 1) := dk_4 (dk_at dksX1_lays_1 8 rfl rfl)
theorem dX1_lays_33 : decode cX1_lays 33 = .ok (.ireturn, 1) := dk_172 (dk_at dksX1_lays_1 9 rfl rfl)
theorem dX1_lays_34 : decode cX1_lays 34 = .ok (.new 100, 3) := dk_187 0 100 (dk_at dksX1_lays_1 10 rfl rfl)
theorem dX1_lays_37 : decode cX1_lays 37 = .ok (.dup, 1) := dk_89 (dk_at dksX1_lays_1 13 rfl rfl)
theorem dX1_lays_38 : decode cX1_lays 38 = .ok (.aload_n 1, 1) := dk_43 (dk_at dksX1_lays_1 14 rfl rfl)
theorem dX1_lays_39 : decode cX1_lays 39 = .ok (.invokespecial 102, 3) := dk_183 0 102 (dk_at dksX1_lays_1 15 rfl rfl)
theorem dX1_lays_42 : decode cX1_lays 42 = .ok (.astore_n 2, 1) := dk_77 (dk_at dksX1_lays_1 18 rfl rfl)
theorem dX1_lays_43 : decode cX1_lays 43 = .ok (.aload_n 1, 1) := dk_43 (dk_at dksX1_lays_1 19 rfl rfl)
theorem dX1_lays_44 : decode cX1_lays 44 = .ok (.getfield 64, 3) := dk_180 0 64 (dk_at dksX1_lays_1 20 rfl rfl)
theorem dX1_lays_47 : decode cX1_lays 47 = .ok (.aload_n 2, 1) := dk_44 (dk_at dksX1_lays_1 23 rfl rfl)
theorem dX1_lays_48 : decode cX1_lays 48 = .ok (.getfield 105, 3) := dk_180 0 105 (dk_at dksX1_lays_2 0 rfl rfl)
theorem dX1_lays_51 : decode cX1_lays 51 = .ok (.invokestatic 7, 3) := dk_184 0 7 (dk_at dksX1_lays_2 3 rfl rfl)
theorem dX1_lays_54 : decode cX1_lays 54 = .ok (.ldc2_w 176, 3) := dk_20 0 176 (dk_at dksX1_lays_2 6 rfl rfl)
theorem dX1_lays_57 : decode cX1_lays 57 = .ok (.lcmp, 1) := dk_148 (dk_at dksX1_lays_2 9 rfl rfl)
theorem dX1_lays_58 : decode cX1_lays 58 = .ok (.ifCond .le 5, 3) := dk_158 0 5 (dk_at dksX1_lays_2 10 rfl rfl)
theorem dX1_lays_61 : decode cX1_lays 61 = .ok (.iconst 0, 1) := dk_3 (dk_at dksX1_lays_2 13 rfl rfl)
theorem dX1_lays_62 : decode cX1_lays 62 = .ok (.ireturn, 1) := dk_172 (dk_at dksX1_lays_2 14 rfl rfl)
theorem dX1_lays_63 : decode cX1_lays 63 = .ok (.aload_n 0, 1) := dk_42 (dk_at dksX1_lays_2 15 rfl rfl)
theorem dX1_lays_64 : decode cX1_lays 64 = .ok (.aload_n 1, 1) := dk_43 (dk_at dksX1_lays_2 16 rfl rfl)
theorem dX1_lays_65 : decode cX1_lays 65 = .ok (.getfield 64, 3) := dk_180 0 64 (dk_at dksX1_lays_2 17 rfl rfl)
theorem dX1_lays_68 : decode cX1_lays 68 = .ok (.aload_n 2, 1) := dk_44 (dk_at dksX1_lays_2 20 rfl rfl)
theorem dX1_lays_69 : decode cX1_lays 69 = .ok (.getfield 105, 3) := dk_180 0 105 (dk_at dksX1_lays_2 21 rfl rfl)
theorem dX1_lays_72 : decode cX1_lays 72 = .ok (.invokestatic 7, 3) := dk_184 0 7 (dk_at dksX1_lays_3 0 rfl rfl)
theorem dX1_lays_75 : decode cX1_lays 75 = .ok (.l2i, 1) := dk_136 (dk_at dksX1_lays_3 3 rfl rfl)
theorem dX1_lays_76 : decode cX1_lays 76 = .ok (.putfield 173, 3) := dk_181 0 173 (dk_at dksX1_lays_3 4 rfl rfl)
theorem dX1_lays_79 : decode cX1_lays 79 = .ok (.iconst 0, 1) := dk_3 (dk_at dksX1_lays_3 7 rfl rfl)
theorem dX1_lays_80 : decode cX1_lays 80 = .ok (.istore_n 3, 1) := dk_62 (dk_at dksX1_lays_3 8 rfl rfl)
theorem dX1_lays_81 : decode cX1_lays 81 = .ok (.iload_n 3, 1) := dk_29 (dk_at dksX1_lays_3 9 rfl rfl)
theorem dX1_lays_82 : decode cX1_lays 82 = .ok (.aload_n 0, 1) := dk_42 (dk_at dksX1_lays_3 10 rfl rfl)
theorem dX1_lays_83 : decode cX1_lays 83 = .ok (.getfield 173, 3) := dk_180 0 173 (dk_at dksX1_lays_3 11 rfl rfl)
theorem dX1_lays_86 : decode cX1_lays 86 = .ok (.if_icmp .ge 79, 3) := dk_162 0 79 (dk_at dksX1_lays_3 14 rfl rfl)
theorem dX1_lays_89 : decode cX1_lays 89 = .ok (.lconst 0, 1) := dk_9 (dk_at dksX1_lays_3 17 rfl rfl)
theorem dX1_lays_90 : decode cX1_lays 90 = .ok (.lstore 4, 2) := dk_55 4 (dk_at dksX1_lays_3 18 rfl rfl)
theorem dX1_lays_92 : decode cX1_lays 92 = .ok (.iload_n 3, 1) := dk_29 (dk_at dksX1_lays_3 20 rfl rfl)
theorem dX1_lays_93 : decode cX1_lays 93 = .ok (.istore 6, 2) := dk_54 6 (dk_at dksX1_lays_3 21 rfl rfl)
theorem dX1_lays_95 : decode cX1_lays 95 = .ok (.aload_n 2, 1) := dk_44 (dk_at dksX1_lays_3 23 rfl rfl)
theorem dX1_lays_96 : decode cX1_lays 96 = .ok (.getfield 105, 3) := dk_180 0 105 (dk_at dksX1_lays_4 0 rfl rfl)
theorem dX1_lays_99 : decode cX1_lays 99 = .ok (.iconst 1, 1) := dk_4 (dk_at dksX1_lays_4 3 rfl rfl)
theorem dX1_lays_100 : decode cX1_lays 100 = .ok (.isub, 1) := dk_100 (dk_at dksX1_lays_4 4 rfl rfl)
theorem dX1_lays_101 : decode cX1_lays 101 = .ok (.istore 7, 2) := dk_54 7 (dk_at dksX1_lays_4 5 rfl rfl)
theorem dX1_lays_103 : decode cX1_lays 103 = .ok (.iload 7, 2) := dk_21 7 (dk_at dksX1_lays_4 7 rfl rfl)
theorem dX1_lays_105 : decode cX1_lays 105 = .ok (.ifCond .lt 46, 3) := dk_155 0 46 (dk_at dksX1_lays_4 9 rfl rfl)
theorem dX1_lays_108 : decode cX1_lays 108 = .ok (.aload_n 1, 1) := dk_43 (dk_at dksX1_lays_4 12 rfl rfl)
theorem dX1_lays_109 : decode cX1_lays 109 = .ok (.getfield 64, 3) := dk_180 0 64 (dk_at dksX1_lays_4 13 rfl rfl)
theorem dX1_lays_112 : decode cX1_lays 112 = .ok (.aload_n 1, 1) := dk_43 (dk_at dksX1_lays_4 16 rfl rfl)
theorem dX1_lays_113 : decode cX1_lays 113 = .ok (.getfield 67, 3) := dk_180 0 67 (dk_at dksX1_lays_4 17 rfl rfl)
theorem dX1_lays_116 : decode cX1_lays 116 = .ok (.lload 4, 2) := dk_22 4 (dk_at dksX1_lays_4 20 rfl rfl)
theorem dX1_lays_118 : decode cX1_lays 118 = .ok (.aload_n 2, 1) := dk_44 (dk_at dksX1_lays_4 22 rfl rfl)
theorem dX1_lays_119 : decode cX1_lays 119 = .ok (.iload 7, 2) := dk_21 7 (dk_at dksX1_lays_5 0 rfl rfl)
theorem dX1_lays_121 : decode cX1_lays 121 = .ok (.invokevirtual 158, 3) := dk_182 0 158 (dk_at dksX1_lays_5 2 rfl rfl)
theorem dX1_lays_124 : decode cX1_lays 124 = .ok (.iload 6, 2) := dk_21 6 (dk_at dksX1_lays_5 5 rfl rfl)
theorem dX1_lays_126 : decode cX1_lays 126 = .ok (.aload_n 1, 1) := dk_43 (dk_at dksX1_lays_5 7 rfl rfl)
theorem dX1_lays_127 : decode cX1_lays 127 = .ok (.getfield 64, 3) := dk_180 0 64 (dk_at dksX1_lays_5 8 rfl rfl)
theorem dX1_lays_130 : decode cX1_lays 130 = .ok (.irem, 1) := dk_112 (dk_at dksX1_lays_5 11 rfl rfl)
theorem dX1_lays_131 : decode cX1_lays 131 = .ok (.invokestatic 144, 3) := dk_184 0 144 (dk_at dksX1_lays_5 12 rfl rfl)
theorem dX1_lays_134 : decode cX1_lays 134 = .ok (.lstore 4, 2) := dk_55 4 (dk_at dksX1_lays_5 15 rfl rfl)
theorem dX1_lays_136 : decode cX1_lays 136 = .ok (.iload 6, 2) := dk_21 6 (dk_at dksX1_lays_5 17 rfl rfl)
theorem dX1_lays_138 : decode cX1_lays 138 = .ok (.aload_n 1, 1) := dk_43 (dk_at dksX1_lays_5 19 rfl rfl)
theorem dX1_lays_139 : decode cX1_lays 139 = .ok (.getfield 64, 3) := dk_180 0 64 (dk_at dksX1_lays_5 20 rfl rfl)
theorem dX1_lays_142 : decode cX1_lays 142 = .ok (.idiv, 1) := dk_108 (dk_at dksX1_lays_5 23 rfl rfl)
theorem dX1_lays_143 : decode cX1_lays 143 = .ok (.istore 6, 2) := dk_54 6 (dk_at dksX1_lays_6 0 rfl rfl)
theorem dX1_lays_145 : decode cX1_lays 145 = .ok (.iinc 7 (-1), 3) := dk_132 7 255 (dk_at dksX1_lays_6 2 rfl rfl)
theorem dX1_lays_148 : decode cX1_lays 148 = .ok (.goto (-45), 3) := dk_167 255 211 (dk_at dksX1_lays_6 5 rfl rfl)
theorem dX1_lays_151 : decode cX1_lays 151 = .ok (.aload_n 0, 1) := dk_42 (dk_at dksX1_lays_6 8 rfl rfl)
theorem dX1_lays_152 : decode cX1_lays 152 = .ok (.getfield 170, 3) := dk_180 0 170 (dk_at dksX1_lays_6 9 rfl rfl)
theorem dX1_lays_155 : decode cX1_lays 155 = .ok (.iload_n 3, 1) := dk_29 (dk_at dksX1_lays_6 12 rfl rfl)
theorem dX1_lays_156 : decode cX1_lays 156 = .ok (.lload 4, 2) := dk_22 4 (dk_at dksX1_lays_6 13 rfl rfl)
theorem dX1_lays_158 : decode cX1_lays 158 = .ok (.lastore, 1) := dk_80 (dk_at dksX1_lays_6 15 rfl rfl)
theorem dX1_lays_159 : decode cX1_lays 159 = .ok (.iinc 3 1, 3) := dk_132 3 1 (dk_at dksX1_lays_6 16 rfl rfl)
theorem dX1_lays_162 : decode cX1_lays 162 = .ok (.goto (-81), 3) := dk_167 255 175 (dk_at dksX1_lays_6 19 rfl rfl)
theorem dX1_lays_165 : decode cX1_lays 165 = .ok (.iconst 1, 1) := dk_4 (dk_at dksX1_lays_6 22 rfl rfl)
theorem dX1_lays_166 : decode cX1_lays 166 = .ok (.ireturn, 1) := dk_172 (dk_at dksX1_lays_6 23 rfl rfl)
abbrev cX1_leastOf : ByteArray := prog_1_method_40_code
def yX1_leastOf : MethodName := ⟨RX1, "leastOf", "(LWordBench$Code;)I"⟩
def dkwX1_leastOf_1 : List UInt8 := [153, 0, 5, 28, 172, 132, 2, 1, 167, 255, 232, 3, 172]
abbrev dktX1_leastOf_1 : List UInt8 := dkwX1_leastOf_1 ++ []
def dkwX1_leastOf_0 : List UInt8 := [42, 43, 182, 0, 185, 4, 61, 28, 43, 180, 0, 67, 163, 0, 22, 42, 180, 0, 182, 28, 47, 9, 148]
abbrev dktX1_leastOf_0 : List UInt8 := dkwX1_leastOf_0 ++ dktX1_leastOf_1
theorem dksX1_leastOf_0 : cX1_leastOf.data.toList.drop 0 = dktX1_leastOf_0 := by decide +kernel
theorem dksX1_leastOf_1 : cX1_leastOf.data.toList.drop 23 = dktX1_leastOf_1 := dk_seg dksX1_leastOf_0 23 rfl rfl
theorem dX1_leastOf_0 : decode cX1_leastOf 0 = .ok (.aload_n 0, 1) := dk_42 (dk_at dksX1_leastOf_0 0 rfl rfl)
theorem dX1_leastOf_1 : decode cX1_leastOf 1 = .ok (.aload_n 1, 1) := dk_43 (dk_at dksX1_leastOf_0 1 rfl rfl)
theorem dX1_leastOf_2 : decode cX1_leastOf 2 = .ok (.invokevirtual 185, 3) := dk_182 0 185 (dk_at dksX1_leastOf_0 2 rfl rfl)
theorem dX1_leastOf_5 : decode cX1_leastOf 5 = .ok (.iconst 1, 1) := dk_4 (dk_at dksX1_leastOf_0 5 rfl rfl)
theorem dX1_leastOf_6 : decode cX1_leastOf 6 = .ok (.istore_n 2, 1) := dk_61 (dk_at dksX1_leastOf_0 6 rfl rfl)
theorem dX1_leastOf_7 : decode cX1_leastOf 7 = .ok (.iload_n 2, 1) := dk_28 (dk_at dksX1_leastOf_0 7 rfl rfl)
theorem dX1_leastOf_8 : decode cX1_leastOf 8 = .ok (.aload_n 1, 1) := dk_43 (dk_at dksX1_leastOf_0 8 rfl rfl)
theorem dX1_leastOf_9 : decode cX1_leastOf 9 = .ok (.getfield 67, 3) := dk_180 0 67 (dk_at dksX1_leastOf_0 9 rfl rfl)
theorem dX1_leastOf_12 : decode cX1_leastOf 12 = .ok (.if_icmp .gt 22, 3) := dk_163 0 22 (dk_at dksX1_leastOf_0 12 rfl rfl)
theorem dX1_leastOf_15 : decode cX1_leastOf 15 = .ok (.aload_n 0, 1) := dk_42 (dk_at dksX1_leastOf_0 15 rfl rfl)
theorem dX1_leastOf_16 : decode cX1_leastOf 16 = .ok (.getfield 182, 3) := dk_180 0 182 (dk_at dksX1_leastOf_0 16 rfl rfl)
theorem dX1_leastOf_19 : decode cX1_leastOf 19 = .ok (.iload_n 2, 1) := dk_28 (dk_at dksX1_leastOf_0 19 rfl rfl)
theorem dX1_leastOf_20 : decode cX1_leastOf 20 = .ok (.laload, 1) := dk_47 (dk_at dksX1_leastOf_0 20 rfl rfl)
theorem dX1_leastOf_21 : decode cX1_leastOf 21 = .ok (.lconst 0, 1) := dk_9 (dk_at dksX1_leastOf_0 21 rfl rfl)
theorem dX1_leastOf_22 : decode cX1_leastOf 22 = .ok (.lcmp, 1) := dk_148 (dk_at dksX1_leastOf_0 22 rfl rfl)
theorem dX1_leastOf_23 : decode cX1_leastOf 23 = .ok (.ifCond .eq 5, 3) := dk_153 0 5 (dk_at dksX1_leastOf_1 0 rfl rfl)
theorem dX1_leastOf_26 : decode cX1_leastOf 26 = .ok (.iload_n 2, 1) := dk_28 (dk_at dksX1_leastOf_1 3 rfl rfl)
theorem dX1_leastOf_27 : decode cX1_leastOf 27 = .ok (.ireturn, 1) := dk_172 (dk_at dksX1_leastOf_1 4 rfl rfl)
theorem dX1_leastOf_28 : decode cX1_leastOf 28 = .ok (.iinc 2 1, 3) := dk_132 2 1 (dk_at dksX1_leastOf_1 5 rfl rfl)
theorem dX1_leastOf_31 : decode cX1_leastOf 31 = .ok (.goto (-24), 3) := dk_167 255 232 (dk_at dksX1_leastOf_1 8 rfl rfl)
theorem dX1_leastOf_34 : decode cX1_leastOf 34 = .ok (.iconst 0, 1) := dk_3 (dk_at dksX1_leastOf_1 11 rfl rfl)
theorem dX1_leastOf_35 : decode cX1_leastOf 35 = .ok (.ireturn, 1) := dk_172 (dk_at dksX1_leastOf_1 12 rfl rfl)
abbrev cX1_counts : ByteArray := prog_1_method_39_code
def yX1_counts : MethodName := ⟨RX1, "counts", "(LWordBench$Code;)V"⟩
def dkwX1_counts_9 : List UInt8 := [180, 0, 182, 29, 92, 47, 42, 180, 0, 173, 133, 109, 80, 132, 3, 1, 167, 255, 227, 177]
abbrev dktX1_counts_9 : List UInt8 := dkwX1_counts_9 ++ []
def dkwX1_counts_8 : List UInt8 := [3, 61, 132, 3, 1, 167, 255, 218, 3, 62, 29, 43, 180, 0, 67, 163, 0, 27, 28, 153, 0, 23, 42]
abbrev dktX1_counts_8 : List UInt8 := dkwX1_counts_8 ++ dktX1_counts_9
def dkwX1_counts_7 : List UInt8 := [153, 0, 32, 42, 180, 0, 182, 29, 47, 42, 180, 0, 173, 133, 113, 9, 148, 154, 0, 7, 4, 167, 0, 4]
abbrev dktX1_counts_7 : List UInt8 := dkwX1_counts_7 ++ dktX1_counts_8
def dkwX1_counts_6 : List UInt8 := [180, 0, 173, 158, 0, 7, 4, 167, 0, 4, 3, 61, 3, 62, 29, 43, 180, 0, 67, 163, 0, 36, 28]
abbrev dktX1_counts_6 : List UInt8 := dkwX1_counts_6 ++ dktX1_counts_7
def dkwX1_counts_5 : List UInt8 := [3, 184, 0, 150, 92, 47, 10, 97, 80, 132, 3, 1, 167, 255, 212, 132, 2, 1, 167, 255, 196, 42]
abbrev dktX1_counts_5 : List UInt8 := dkwX1_counts_5 ++ dktX1_counts_6
def dkwX1_counts_4 : List UInt8 := [42, 180, 0, 182, 43, 180, 0, 64, 43, 180, 0, 67, 42, 180, 0, 170, 28, 47, 42, 180, 0, 170, 29, 47]
abbrev dktX1_counts_4 : List UInt8 := dkwX1_counts_4 ++ dktX1_counts_5
def dkwX1_counts_3 : List UInt8 := [167, 255, 217, 177, 3, 61, 28, 42, 180, 0, 173, 162, 0, 58, 3, 62, 29, 42, 180, 0, 173, 162, 0, 42]
abbrev dktX1_counts_3 : List UInt8 := dkwX1_counts_3 ++ dktX1_counts_4
def dkwX1_counts_2 : List UInt8 := [43, 180, 0, 67, 42, 180, 0, 170, 28, 47, 9, 3, 184, 0, 150, 92, 47, 10, 97, 80, 132, 2, 1]
abbrev dktX1_counts_2 : List UInt8 := dkwX1_counts_2 ++ dktX1_counts_3
def dkwX1_counts_1 : List UInt8 := [193, 0, 50, 153, 0, 48, 3, 61, 28, 42, 180, 0, 173, 162, 0, 37, 42, 180, 0, 182, 43, 180, 0, 64]
abbrev dktX1_counts_1 : List UInt8 := dkwX1_counts_1 ++ dktX1_counts_2
def dkwX1_counts_0 : List UInt8 := [3, 61, 28, 16, 12, 163, 0, 16, 42, 180, 0, 182, 28, 9, 80, 132, 2, 1, 167, 255, 240, 43]
abbrev dktX1_counts_0 : List UInt8 := dkwX1_counts_0 ++ dktX1_counts_1
theorem dksX1_counts_0 : cX1_counts.data.toList.drop 0 = dktX1_counts_0 := by decide +kernel
theorem dksX1_counts_1 : cX1_counts.data.toList.drop 22 = dktX1_counts_1 := dk_seg dksX1_counts_0 22 rfl rfl
theorem dksX1_counts_2 : cX1_counts.data.toList.drop 46 = dktX1_counts_2 := dk_seg dksX1_counts_1 24 rfl rfl
theorem dksX1_counts_3 : cX1_counts.data.toList.drop 69 = dktX1_counts_3 := dk_seg dksX1_counts_2 23 rfl rfl
theorem dksX1_counts_4 : cX1_counts.data.toList.drop 93 = dktX1_counts_4 := dk_seg dksX1_counts_3 24 rfl rfl
theorem dksX1_counts_5 : cX1_counts.data.toList.drop 117 = dktX1_counts_5 := dk_seg dksX1_counts_4 24 rfl rfl
theorem dksX1_counts_6 : cX1_counts.data.toList.drop 139 = dktX1_counts_6 := dk_seg dksX1_counts_5 22 rfl rfl
theorem dksX1_counts_7 : cX1_counts.data.toList.drop 162 = dktX1_counts_7 := dk_seg dksX1_counts_6 23 rfl rfl
theorem dksX1_counts_8 : cX1_counts.data.toList.drop 186 = dktX1_counts_8 := dk_seg dksX1_counts_7 24 rfl rfl
theorem dksX1_counts_9 : cX1_counts.data.toList.drop 209 = dktX1_counts_9 := dk_seg dksX1_counts_8 23 rfl rfl
theorem dX1_counts_0 : decode cX1_counts 0 = .ok (.iconst 0, 1) := dk_3 (dk_at dksX1_counts_0 0 rfl rfl)
theorem dX1_counts_1 : decode cX1_counts 1 = .ok (.istore_n 2, 1) := dk_61 (dk_at dksX1_counts_0 1 rfl rfl)
theorem dX1_counts_2 : decode cX1_counts 2 = .ok (.iload_n 2, 1) := dk_28 (dk_at dksX1_counts_0 2 rfl rfl)
theorem dX1_counts_3 : decode cX1_counts 3 = .ok (.bipush 12, 2) := dk_16 12 (dk_at dksX1_counts_0 3 rfl rfl)
theorem dX1_counts_5 : decode cX1_counts 5 = .ok (.if_icmp .gt 16, 3) := dk_163 0 16 (dk_at dksX1_counts_0 5 rfl rfl)
theorem dX1_counts_8 : decode cX1_counts 8 = .ok (.aload_n 0, 1) := dk_42 (dk_at dksX1_counts_0 8 rfl rfl)
theorem dX1_counts_9 : decode cX1_counts 9 = .ok (.getfield 182, 3) := dk_180 0 182 (dk_at dksX1_counts_0 9 rfl rfl)
theorem dX1_counts_12 : decode cX1_counts 12 = .ok (.iload_n 2, 1) := dk_28 (dk_at dksX1_counts_0 12 rfl rfl)
theorem dX1_counts_13 : decode cX1_counts 13 = .ok (.lconst 0, 1) := dk_9 (dk_at dksX1_counts_0 13 rfl rfl)
theorem dX1_counts_14 : decode cX1_counts 14 = .ok (.lastore, 1) := dk_80 (dk_at dksX1_counts_0 14 rfl rfl)
theorem dX1_counts_15 : decode cX1_counts 15 = .ok (.iinc 2 1, 3) := dk_132 2 1 (dk_at dksX1_counts_0 15 rfl rfl)
theorem dX1_counts_18 : decode cX1_counts 18 = .ok (.goto (-16), 3) := dk_167 255 240 (dk_at dksX1_counts_0 18 rfl rfl)
theorem dX1_counts_21 : decode cX1_counts 21 = .ok (.aload_n 1, 1) := dk_43 (dk_at dksX1_counts_0 21 rfl rfl)
theorem dX1_counts_22 : decode cX1_counts 22 = .ok (.instanceof 50, 3) := dk_193 0 50 (dk_at dksX1_counts_1 0 rfl rfl)
theorem dX1_counts_25 : decode cX1_counts 25 = .ok (.ifCond .eq 48, 3) := dk_153 0 48 (dk_at dksX1_counts_1 3 rfl rfl)
theorem dX1_counts_28 : decode cX1_counts 28 = .ok (.iconst 0, 1) := dk_3 (dk_at dksX1_counts_1 6 rfl rfl)
theorem dX1_counts_29 : decode cX1_counts 29 = .ok (.istore_n 2, 1) := dk_61 (dk_at dksX1_counts_1 7 rfl rfl)
theorem dX1_counts_30 : decode cX1_counts 30 = .ok (.iload_n 2, 1) := dk_28 (dk_at dksX1_counts_1 8 rfl rfl)
theorem dX1_counts_31 : decode cX1_counts 31 = .ok (.aload_n 0, 1) := dk_42 (dk_at dksX1_counts_1 9 rfl rfl)
theorem dX1_counts_32 : decode cX1_counts 32 = .ok (.getfield 173, 3) := dk_180 0 173 (dk_at dksX1_counts_1 10 rfl rfl)
theorem dX1_counts_35 : decode cX1_counts 35 = .ok (.if_icmp .ge 37, 3) := dk_162 0 37 (dk_at dksX1_counts_1 13 rfl rfl)
theorem dX1_counts_38 : decode cX1_counts 38 = .ok (.aload_n 0, 1) := dk_42 (dk_at dksX1_counts_1 16 rfl rfl)
theorem dX1_counts_39 : decode cX1_counts 39 = .ok (.getfield 182, 3) := dk_180 0 182 (dk_at dksX1_counts_1 17 rfl rfl)
theorem dX1_counts_42 : decode cX1_counts 42 = .ok (.aload_n 1, 1) := dk_43 (dk_at dksX1_counts_1 20 rfl rfl)
theorem dX1_counts_43 : decode cX1_counts 43 = .ok (.getfield 64, 3) := dk_180 0 64 (dk_at dksX1_counts_1 21 rfl rfl)
theorem dX1_counts_46 : decode cX1_counts 46 = .ok (.aload_n 1, 1) := dk_43 (dk_at dksX1_counts_2 0 rfl rfl)
theorem dX1_counts_47 : decode cX1_counts 47 = .ok (.getfield 67, 3) := dk_180 0 67 (dk_at dksX1_counts_2 1 rfl rfl)
theorem dX1_counts_50 : decode cX1_counts 50 = .ok (.aload_n 0, 1) := dk_42 (dk_at dksX1_counts_2 4 rfl rfl)
theorem dX1_counts_51 : decode cX1_counts 51 = .ok (.getfield 170, 3) := dk_180 0 170 (dk_at dksX1_counts_2 5 rfl rfl)
theorem dX1_counts_54 : decode cX1_counts 54 = .ok (.iload_n 2, 1) := dk_28 (dk_at dksX1_counts_2 8 rfl rfl)
theorem dX1_counts_55 : decode cX1_counts 55 = .ok (.laload, 1) := dk_47 (dk_at dksX1_counts_2 9 rfl rfl)
theorem dX1_counts_56 : decode cX1_counts 56 = .ok (.lconst 0, 1) := dk_9 (dk_at dksX1_counts_2 10 rfl rfl)
theorem dX1_counts_57 : decode cX1_counts 57 = .ok (.iconst 0, 1) := dk_3 (dk_at dksX1_counts_2 11 rfl rfl)
theorem dX1_counts_58 : decode cX1_counts 58 = .ok (.invokestatic 150, 3) := dk_184 0 150 (dk_at dksX1_counts_2 12 rfl rfl)
theorem dX1_counts_61 : decode cX1_counts 61 = .ok (.dup2, 1) := dk_92 (dk_at dksX1_counts_2 15 rfl rfl)
theorem dX1_counts_62 : decode cX1_counts 62 = .ok (.laload, 1) := dk_47 (dk_at dksX1_counts_2 16 rfl rfl)
theorem dX1_counts_63 : decode cX1_counts 63 = .ok (.lconst 1, 1) := dk_10 (dk_at dksX1_counts_2 17 rfl rfl)
theorem dX1_counts_64 : decode cX1_counts 64 = .ok (.ladd, 1) := dk_97 (dk_at dksX1_counts_2 18 rfl rfl)
theorem dX1_counts_65 : decode cX1_counts 65 = .ok (.lastore, 1) := dk_80 (dk_at dksX1_counts_2 19 rfl rfl)
theorem dX1_counts_66 : decode cX1_counts 66 = .ok (.iinc 2 1, 3) := dk_132 2 1 (dk_at dksX1_counts_2 20 rfl rfl)
theorem dX1_counts_69 : decode cX1_counts 69 = .ok (.goto (-39), 3) := dk_167 255 217 (dk_at dksX1_counts_3 0 rfl rfl)
theorem dX1_counts_72 : decode cX1_counts 72 = .ok (.return_, 1) := dk_177 (dk_at dksX1_counts_3 3 rfl rfl)
theorem dX1_counts_73 : decode cX1_counts 73 = .ok (.iconst 0, 1) := dk_3 (dk_at dksX1_counts_3 4 rfl rfl)
theorem dX1_counts_74 : decode cX1_counts 74 = .ok (.istore_n 2, 1) := dk_61 (dk_at dksX1_counts_3 5 rfl rfl)
theorem dX1_counts_75 : decode cX1_counts 75 = .ok (.iload_n 2, 1) := dk_28 (dk_at dksX1_counts_3 6 rfl rfl)
theorem dX1_counts_76 : decode cX1_counts 76 = .ok (.aload_n 0, 1) := dk_42 (dk_at dksX1_counts_3 7 rfl rfl)
theorem dX1_counts_77 : decode cX1_counts 77 = .ok (.getfield 173, 3) := dk_180 0 173 (dk_at dksX1_counts_3 8 rfl rfl)
theorem dX1_counts_80 : decode cX1_counts 80 = .ok (.if_icmp .ge 58, 3) := dk_162 0 58 (dk_at dksX1_counts_3 11 rfl rfl)
theorem dX1_counts_83 : decode cX1_counts 83 = .ok (.iconst 0, 1) := dk_3 (dk_at dksX1_counts_3 14 rfl rfl)
theorem dX1_counts_84 : decode cX1_counts 84 = .ok (.istore_n 3, 1) := dk_62 (dk_at dksX1_counts_3 15 rfl rfl)
theorem dX1_counts_85 : decode cX1_counts 85 = .ok (.iload_n 3, 1) := dk_29 (dk_at dksX1_counts_3 16 rfl rfl)
theorem dX1_counts_86 : decode cX1_counts 86 = .ok (.aload_n 0, 1) := dk_42 (dk_at dksX1_counts_3 17 rfl rfl)
theorem dX1_counts_87 : decode cX1_counts 87 = .ok (.getfield 173, 3) := dk_180 0 173 (dk_at dksX1_counts_3 18 rfl rfl)
theorem dX1_counts_90 : decode cX1_counts 90 = .ok (.if_icmp .ge 42, 3) := dk_162 0 42 (dk_at dksX1_counts_3 21 rfl rfl)
theorem dX1_counts_93 : decode cX1_counts 93 = .ok (.aload_n 0, 1) := dk_42 (dk_at dksX1_counts_4 0 rfl rfl)
theorem dX1_counts_94 : decode cX1_counts 94 = .ok (.getfield 182, 3) := dk_180 0 182 (dk_at dksX1_counts_4 1 rfl rfl)
theorem dX1_counts_97 : decode cX1_counts 97 = .ok (.aload_n 1, 1) := dk_43 (dk_at dksX1_counts_4 4 rfl rfl)
theorem dX1_counts_98 : decode cX1_counts 98 = .ok (.getfield 64, 3) := dk_180 0 64 (dk_at dksX1_counts_4 5 rfl rfl)
theorem dX1_counts_101 : decode cX1_counts 101 = .ok (.aload_n 1, 1) := dk_43 (dk_at dksX1_counts_4 8 rfl rfl)
theorem dX1_counts_102 : decode cX1_counts 102 = .ok (.getfield 67, 3) := dk_180 0 67 (dk_at dksX1_counts_4 9 rfl rfl)
theorem dX1_counts_105 : decode cX1_counts 105 = .ok (.aload_n 0, 1) := dk_42 (dk_at dksX1_counts_4 12 rfl rfl)
theorem dX1_counts_106 : decode cX1_counts 106 = .ok (.getfield 170, 3) := dk_180 0 170 (dk_at dksX1_counts_4 13 rfl rfl)
theorem dX1_counts_109 : decode cX1_counts 109 = .ok (.iload_n 2, 1) := dk_28 (dk_at dksX1_counts_4 16 rfl rfl)
theorem dX1_counts_110 : decode cX1_counts 110 = .ok (.laload, 1) := dk_47 (dk_at dksX1_counts_4 17 rfl rfl)
theorem dX1_counts_111 : decode cX1_counts 111 = .ok (.aload_n 0, 1) := dk_42 (dk_at dksX1_counts_4 18 rfl rfl)
theorem dX1_counts_112 : decode cX1_counts 112 = .ok (.getfield 170, 3) := dk_180 0 170 (dk_at dksX1_counts_4 19 rfl rfl)
theorem dX1_counts_115 : decode cX1_counts 115 = .ok (.iload_n 3, 1) := dk_29 (dk_at dksX1_counts_4 22 rfl rfl)
theorem dX1_counts_116 : decode cX1_counts 116 = .ok (.laload, 1) := dk_47 (dk_at dksX1_counts_4 23 rfl rfl)
theorem dX1_counts_117 : decode cX1_counts 117 = .ok (.iconst 0, 1) := dk_3 (dk_at dksX1_counts_5 0 rfl rfl)
theorem dX1_counts_118 : decode cX1_counts 118 = .ok (.invokestatic 150, 3) := dk_184 0 150 (dk_at dksX1_counts_5 1 rfl rfl)
theorem dX1_counts_121 : decode cX1_counts 121 = .ok (.dup2, 1) := dk_92 (dk_at dksX1_counts_5 4 rfl rfl)
theorem dX1_counts_122 : decode cX1_counts 122 = .ok (.laload, 1) := dk_47 (dk_at dksX1_counts_5 5 rfl rfl)
theorem dX1_counts_123 : decode cX1_counts 123 = .ok (.lconst 1, 1) := dk_10 (dk_at dksX1_counts_5 6 rfl rfl)
theorem dX1_counts_124 : decode cX1_counts 124 = .ok (.ladd, 1) := dk_97 (dk_at dksX1_counts_5 7 rfl rfl)
theorem dX1_counts_125 : decode cX1_counts 125 = .ok (.lastore, 1) := dk_80 (dk_at dksX1_counts_5 8 rfl rfl)
theorem dX1_counts_126 : decode cX1_counts 126 = .ok (.iinc 3 1, 3) := dk_132 3 1 (dk_at dksX1_counts_5 9 rfl rfl)
theorem dX1_counts_129 : decode cX1_counts 129 = .ok (.goto (-44), 3) := dk_167 255 212 (dk_at dksX1_counts_5 12 rfl rfl)
theorem dX1_counts_132 : decode cX1_counts 132 = .ok (.iinc 2 1, 3) := dk_132 2 1 (dk_at dksX1_counts_5 15 rfl rfl)
theorem dX1_counts_135 : decode cX1_counts 135 = .ok (.goto (-60), 3) := dk_167 255 196 (dk_at dksX1_counts_5 18 rfl rfl)
theorem dX1_counts_138 : decode cX1_counts 138 = .ok (.aload_n 0, 1) := dk_42 (dk_at dksX1_counts_5 21 rfl rfl)
theorem dX1_counts_139 : decode cX1_counts 139 = .ok (.getfield 173, 3) := dk_180 0 173 (dk_at dksX1_counts_6 0 rfl rfl)
theorem dX1_counts_142 : decode cX1_counts 142 = .ok (.ifCond .le 7, 3) := dk_158 0 7 (dk_at dksX1_counts_6 3 rfl rfl)
theorem dX1_counts_145 : decode cX1_counts 145 = .ok (.iconst 1, 1) := dk_4 (dk_at dksX1_counts_6 6 rfl rfl)
theorem dX1_counts_146 : decode cX1_counts 146 = .ok (.goto 4, 3) := dk_167 0 4 (dk_at dksX1_counts_6 7 rfl rfl)
theorem dX1_counts_149 : decode cX1_counts 149 = .ok (.iconst 0, 1) := dk_3 (dk_at dksX1_counts_6 10 rfl rfl)
theorem dX1_counts_150 : decode cX1_counts 150 = .ok (.istore_n 2, 1) := dk_61 (dk_at dksX1_counts_6 11 rfl rfl)
theorem dX1_counts_151 : decode cX1_counts 151 = .ok (.iconst 0, 1) := dk_3 (dk_at dksX1_counts_6 12 rfl rfl)
theorem dX1_counts_152 : decode cX1_counts 152 = .ok (.istore_n 3, 1) := dk_62 (dk_at dksX1_counts_6 13 rfl rfl)
theorem dX1_counts_153 : decode cX1_counts 153 = .ok (.iload_n 3, 1) := dk_29 (dk_at dksX1_counts_6 14 rfl rfl)
theorem dX1_counts_154 : decode cX1_counts 154 = .ok (.aload_n 1, 1) := dk_43 (dk_at dksX1_counts_6 15 rfl rfl)
theorem dX1_counts_155 : decode cX1_counts 155 = .ok (.getfield 67, 3) := dk_180 0 67 (dk_at dksX1_counts_6 16 rfl rfl)
theorem dX1_counts_158 : decode cX1_counts 158 = .ok (.if_icmp .gt 36, 3) := dk_163 0 36 (dk_at dksX1_counts_6 19 rfl rfl)
theorem dX1_counts_161 : decode cX1_counts 161 = .ok (.iload_n 2, 1) := dk_28 (dk_at dksX1_counts_6 22 rfl rfl)
theorem dX1_counts_162 : decode cX1_counts 162 = .ok (.ifCond .eq 32, 3) := dk_153 0 32 (dk_at dksX1_counts_7 0 rfl rfl)
theorem dX1_counts_165 : decode cX1_counts 165 = .ok (.aload_n 0, 1) := dk_42 (dk_at dksX1_counts_7 3 rfl rfl)
theorem dX1_counts_166 : decode cX1_counts 166 = .ok (.getfield 182, 3) := dk_180 0 182 (dk_at dksX1_counts_7 4 rfl rfl)
theorem dX1_counts_169 : decode cX1_counts 169 = .ok (.iload_n 3, 1) := dk_29 (dk_at dksX1_counts_7 7 rfl rfl)
theorem dX1_counts_170 : decode cX1_counts 170 = .ok (.laload, 1) := dk_47 (dk_at dksX1_counts_7 8 rfl rfl)
theorem dX1_counts_171 : decode cX1_counts 171 = .ok (.aload_n 0, 1) := dk_42 (dk_at dksX1_counts_7 9 rfl rfl)
theorem dX1_counts_172 : decode cX1_counts 172 = .ok (.getfield 173, 3) := dk_180 0 173 (dk_at dksX1_counts_7 10 rfl rfl)
theorem dX1_counts_175 : decode cX1_counts 175 = .ok (.i2l, 1) := dk_133 (dk_at dksX1_counts_7 13 rfl rfl)
theorem dX1_counts_176 : decode cX1_counts 176 = .ok (.lrem, 1) := dk_113 (dk_at dksX1_counts_7 14 rfl rfl)
theorem dX1_counts_177 : decode cX1_counts 177 = .ok (.lconst 0, 1) := dk_9 (dk_at dksX1_counts_7 15 rfl rfl)
theorem dX1_counts_178 : decode cX1_counts 178 = .ok (.lcmp, 1) := dk_148 (dk_at dksX1_counts_7 16 rfl rfl)
theorem dX1_counts_179 : decode cX1_counts 179 = .ok (.ifCond .ne 7, 3) := dk_154 0 7 (dk_at dksX1_counts_7 17 rfl rfl)
theorem dX1_counts_182 : decode cX1_counts 182 = .ok (.iconst 1, 1) := dk_4 (dk_at dksX1_counts_7 20 rfl rfl)
theorem dX1_counts_183 : decode cX1_counts 183 = .ok (.goto 4, 3) := dk_167 0 4 (dk_at dksX1_counts_7 21 rfl rfl)
theorem dX1_counts_186 : decode cX1_counts 186 = .ok (.iconst 0, 1) := dk_3 (dk_at dksX1_counts_8 0 rfl rfl)
theorem dX1_counts_187 : decode cX1_counts 187 = .ok (.istore_n 2, 1) := dk_61 (dk_at dksX1_counts_8 1 rfl rfl)
theorem dX1_counts_188 : decode cX1_counts 188 = .ok (.iinc 3 1, 3) := dk_132 3 1 (dk_at dksX1_counts_8 2 rfl rfl)
theorem dX1_counts_191 : decode cX1_counts 191 = .ok (.goto (-38), 3) := dk_167 255 218 (dk_at dksX1_counts_8 5 rfl rfl)
theorem dX1_counts_194 : decode cX1_counts 194 = .ok (.iconst 0, 1) := dk_3 (dk_at dksX1_counts_8 8 rfl rfl)
theorem dX1_counts_195 : decode cX1_counts 195 = .ok (.istore_n 3, 1) := dk_62 (dk_at dksX1_counts_8 9 rfl rfl)
theorem dX1_counts_196 : decode cX1_counts 196 = .ok (.iload_n 3, 1) := dk_29 (dk_at dksX1_counts_8 10 rfl rfl)
theorem dX1_counts_197 : decode cX1_counts 197 = .ok (.aload_n 1, 1) := dk_43 (dk_at dksX1_counts_8 11 rfl rfl)
theorem dX1_counts_198 : decode cX1_counts 198 = .ok (.getfield 67, 3) := dk_180 0 67 (dk_at dksX1_counts_8 12 rfl rfl)
theorem dX1_counts_201 : decode cX1_counts 201 = .ok (.if_icmp .gt 27, 3) := dk_163 0 27 (dk_at dksX1_counts_8 15 rfl rfl)
theorem dX1_counts_204 : decode cX1_counts 204 = .ok (.iload_n 2, 1) := dk_28 (dk_at dksX1_counts_8 18 rfl rfl)
theorem dX1_counts_205 : decode cX1_counts 205 = .ok (.ifCond .eq 23, 3) := dk_153 0 23 (dk_at dksX1_counts_8 19 rfl rfl)
theorem dX1_counts_208 : decode cX1_counts 208 = .ok (.aload_n 0, 1) := dk_42 (dk_at dksX1_counts_8 22 rfl rfl)
theorem dX1_counts_209 : decode cX1_counts 209 = .ok (.getfield 182, 3) := dk_180 0 182 (dk_at dksX1_counts_9 0 rfl rfl)
theorem dX1_counts_212 : decode cX1_counts 212 = .ok (.iload_n 3, 1) := dk_29 (dk_at dksX1_counts_9 3 rfl rfl)
theorem dX1_counts_213 : decode cX1_counts 213 = .ok (.dup2, 1) := dk_92 (dk_at dksX1_counts_9 4 rfl rfl)
theorem dX1_counts_214 : decode cX1_counts 214 = .ok (.laload, 1) := dk_47 (dk_at dksX1_counts_9 5 rfl rfl)
theorem dX1_counts_215 : decode cX1_counts 215 = .ok (.aload_n 0, 1) := dk_42 (dk_at dksX1_counts_9 6 rfl rfl)
theorem dX1_counts_216 : decode cX1_counts 216 = .ok (.getfield 173, 3) := dk_180 0 173 (dk_at dksX1_counts_9 7 rfl rfl)
theorem dX1_counts_219 : decode cX1_counts 219 = .ok (.i2l, 1) := dk_133 (dk_at dksX1_counts_9 10 rfl rfl)
theorem dX1_counts_220 : decode cX1_counts 220 = .ok (.ldiv, 1) := dk_109 (dk_at dksX1_counts_9 11 rfl rfl)
theorem dX1_counts_221 : decode cX1_counts 221 = .ok (.lastore, 1) := dk_80 (dk_at dksX1_counts_9 12 rfl rfl)
theorem dX1_counts_222 : decode cX1_counts 222 = .ok (.iinc 3 1, 3) := dk_132 3 1 (dk_at dksX1_counts_9 13 rfl rfl)
theorem dX1_counts_225 : decode cX1_counts 225 = .ok (.goto (-29), 3) := dk_167 255 227 (dk_at dksX1_counts_9 16 rfl rfl)
theorem dX1_counts_228 : decode cX1_counts 228 = .ok (.return_, 1) := dk_177 (dk_at dksX1_counts_9 19 rfl rfl)
abbrev cX1_weights : ByteArray := prog_1_method_42_code
def yX1_weights : MethodName := ⟨RX1, "weights", "(II)J"⟩
def dkwX1_weights_2 : List UInt8 := [42, 180, 0, 26, 27, 50, 182, 0, 185, 42, 180, 0, 182, 28, 47, 173]
abbrev dktX1_weights_2 : List UInt8 := dkwX1_weights_2 ++ []
def dkwX1_weights_1 : List UInt8 := [184, 0, 16, 153, 0, 11, 42, 27, 182, 0, 187, 167, 0, 4, 2, 62, 29, 153, 0, 6, 29, 133, 173, 42]
abbrev dktX1_weights_1 : List UInt8 := dkwX1_weights_1 ++ dktX1_weights_2
def dkwX1_weights_0 : List UInt8 := [42, 27, 3, 182, 0, 60, 62, 29, 154, 0, 32, 28, 133, 9, 42, 180, 0, 26, 27, 50, 180, 0, 67, 133]
abbrev dktX1_weights_0 : List UInt8 := dkwX1_weights_0 ++ dktX1_weights_1
theorem dksX1_weights_0 : cX1_weights.data.toList.drop 0 = dktX1_weights_0 := by decide +kernel
theorem dksX1_weights_1 : cX1_weights.data.toList.drop 24 = dktX1_weights_1 := dk_seg dksX1_weights_0 24 rfl rfl
theorem dksX1_weights_2 : cX1_weights.data.toList.drop 48 = dktX1_weights_2 := dk_seg dksX1_weights_1 24 rfl rfl
theorem dX1_weights_0 : decode cX1_weights 0 = .ok (.aload_n 0, 1) := dk_42 (dk_at dksX1_weights_0 0 rfl rfl)
theorem dX1_weights_1 : decode cX1_weights 1 = .ok (.iload_n 1, 1) := dk_27 (dk_at dksX1_weights_0 1 rfl rfl)
theorem dX1_weights_2 : decode cX1_weights 2 = .ok (.iconst 0, 1) := dk_3 (dk_at dksX1_weights_0 2 rfl rfl)
theorem dX1_weights_3 : decode cX1_weights 3 = .ok (.invokevirtual 60, 3) := dk_182 0 60 (dk_at dksX1_weights_0 3 rfl rfl)
theorem dX1_weights_6 : decode cX1_weights 6 = .ok (.istore_n 3, 1) := dk_62 (dk_at dksX1_weights_0 6 rfl rfl)
theorem dX1_weights_7 : decode cX1_weights 7 = .ok (.iload_n 3, 1) := dk_29 (dk_at dksX1_weights_0 7 rfl rfl)
theorem dX1_weights_8 : decode cX1_weights 8 = .ok (.ifCond .ne 32, 3) := dk_154 0 32 (dk_at dksX1_weights_0 8 rfl rfl)
theorem dX1_weights_11 : decode cX1_weights 11 = .ok (.iload_n 2, 1) := dk_28 (dk_at dksX1_weights_0 11 rfl rfl)
theorem dX1_weights_12 : decode cX1_weights 12 = .ok (.i2l, 1) := dk_133 (dk_at dksX1_weights_0 12 rfl rfl)
theorem dX1_weights_13 : decode cX1_weights 13 = .ok (.lconst 0, 1) := dk_9 (dk_at dksX1_weights_0 13 rfl rfl)
theorem dX1_weights_14 : decode cX1_weights 14 = .ok (.aload_n 0, 1) := dk_42 (dk_at dksX1_weights_0 14 rfl rfl)
theorem dX1_weights_15 : decode cX1_weights 15 = .ok (.getfield 26, 3) := dk_180 0 26 (dk_at dksX1_weights_0 15 rfl rfl)
theorem dX1_weights_18 : decode cX1_weights 18 = .ok (.iload_n 1, 1) := dk_27 (dk_at dksX1_weights_0 18 rfl rfl)
theorem dX1_weights_19 : decode cX1_weights 19 = .ok (.aaload, 1) := dk_50 (dk_at dksX1_weights_0 19 rfl rfl)
theorem dX1_weights_20 : decode cX1_weights 20 = .ok (.getfield 67, 3) := dk_180 0 67 (dk_at dksX1_weights_0 20 rfl rfl)
theorem dX1_weights_23 : decode cX1_weights 23 = .ok (.i2l, 1) := dk_133 (dk_at dksX1_weights_0 23 rfl rfl)
theorem dX1_weights_24 : decode cX1_weights 24 = .ok (.invokestatic 16, 3) := dk_184 0 16 (dk_at dksX1_weights_1 0 rfl rfl)
theorem dX1_weights_27 : decode cX1_weights 27 = .ok (.ifCond .eq 11, 3) := dk_153 0 11 (dk_at dksX1_weights_1 3 rfl rfl)
theorem dX1_weights_30 : decode cX1_weights 30 = .ok (.aload_n 0, 1) := dk_42 (dk_at dksX1_weights_1 6 rfl rfl)
theorem dX1_weights_31 : decode cX1_weights 31 = .ok (.iload_n 1, 1) := dk_27 (dk_at dksX1_weights_1 7 rfl rfl)
theorem dX1_weights_32 : decode cX1_weights 32 = .ok (.invokevirtual 187, 3) := dk_182 0 187 (dk_at dksX1_weights_1 8 rfl rfl)
theorem dX1_weights_35 : decode cX1_weights 35 = .ok (.goto 4, 3) := dk_167 0 4 (dk_at dksX1_weights_1 11 rfl rfl)
theorem dX1_weights_38 : decode cX1_weights 38 = .ok (.iconst (-1), 1) := dk_2 (dk_at dksX1_weights_1 14 rfl rfl)
theorem dX1_weights_39 : decode cX1_weights 39 = .ok (.istore_n 3, 1) := dk_62 (dk_at dksX1_weights_1 15 rfl rfl)
theorem dX1_weights_40 : decode cX1_weights 40 = .ok (.iload_n 3, 1) := dk_29 (dk_at dksX1_weights_1 16 rfl rfl)
theorem dX1_weights_41 : decode cX1_weights 41 = .ok (.ifCond .eq 6, 3) := dk_153 0 6 (dk_at dksX1_weights_1 17 rfl rfl)
theorem dX1_weights_44 : decode cX1_weights 44 = .ok (.iload_n 3, 1) := dk_29 (dk_at dksX1_weights_1 20 rfl rfl)
theorem dX1_weights_45 : decode cX1_weights 45 = .ok (.i2l, 1) := dk_133 (dk_at dksX1_weights_1 21 rfl rfl)
theorem dX1_weights_46 : decode cX1_weights 46 = .ok (.lreturn, 1) := dk_173 (dk_at dksX1_weights_1 22 rfl rfl)
theorem dX1_weights_47 : decode cX1_weights 47 = .ok (.aload_n 0, 1) := dk_42 (dk_at dksX1_weights_1 23 rfl rfl)
theorem dX1_weights_48 : decode cX1_weights 48 = .ok (.aload_n 0, 1) := dk_42 (dk_at dksX1_weights_2 0 rfl rfl)
theorem dX1_weights_49 : decode cX1_weights 49 = .ok (.getfield 26, 3) := dk_180 0 26 (dk_at dksX1_weights_2 1 rfl rfl)
theorem dX1_weights_52 : decode cX1_weights 52 = .ok (.iload_n 1, 1) := dk_27 (dk_at dksX1_weights_2 4 rfl rfl)
theorem dX1_weights_53 : decode cX1_weights 53 = .ok (.aaload, 1) := dk_50 (dk_at dksX1_weights_2 5 rfl rfl)
theorem dX1_weights_54 : decode cX1_weights 54 = .ok (.invokevirtual 185, 3) := dk_182 0 185 (dk_at dksX1_weights_2 6 rfl rfl)
theorem dX1_weights_57 : decode cX1_weights 57 = .ok (.aload_n 0, 1) := dk_42 (dk_at dksX1_weights_2 9 rfl rfl)
theorem dX1_weights_58 : decode cX1_weights 58 = .ok (.getfield 182, 3) := dk_180 0 182 (dk_at dksX1_weights_2 10 rfl rfl)
theorem dX1_weights_61 : decode cX1_weights 61 = .ok (.iload_n 2, 1) := dk_28 (dk_at dksX1_weights_2 13 rfl rfl)
theorem dX1_weights_62 : decode cX1_weights 62 = .ok (.laload, 1) := dk_47 (dk_at dksX1_weights_2 14 rfl rfl)
theorem dX1_weights_63 : decode cX1_weights 63 = .ok (.lreturn, 1) := dk_173 (dk_at dksX1_weights_2 15 rfl rfl)
abbrev cX1_beat : ByteArray := prog_1_method_46_code
def yX1_beat : MethodName := ⟨RX1, "beat", "(I)I"⟩
def dkwX1_beat_3 : List UInt8 := [21, 5, 62, 21, 6, 54, 5, 167, 255, 238, 132, 4, 1, 167, 255, 198, 29, 172]
abbrev dktX1_beat_3 : List UInt8 := dkwX1_beat_3 ++ []
def dkwX1_beat_2 : List UInt8 := [9, 148, 154, 0, 7, 3, 167, 0, 5, 21, 4, 54, 5, 21, 5, 153, 0, 19, 29, 21, 5, 112, 54, 6]
abbrev dktX1_beat_2 : List UInt8 := dkwX1_beat_2 ++ dktX1_beat_3
def dkwX1_beat_1 : List UInt8 := [4, 54, 4, 21, 4, 42, 180, 0, 26, 27, 50, 180, 0, 67, 163, 0, 50, 42, 180, 0, 182, 21, 4, 47]
abbrev dktX1_beat_1 : List UInt8 := dkwX1_beat_1 ++ dktX1_beat_2
def dkwX1_beat_0 : List UInt8 := [42, 27, 182, 0, 187, 61, 28, 153, 0, 5, 28, 172, 42, 42, 180, 0, 26, 27, 50, 182, 0, 185, 3, 62]
abbrev dktX1_beat_0 : List UInt8 := dkwX1_beat_0 ++ dktX1_beat_1
theorem dksX1_beat_0 : cX1_beat.data.toList.drop 0 = dktX1_beat_0 := by decide +kernel
theorem dksX1_beat_1 : cX1_beat.data.toList.drop 24 = dktX1_beat_1 := dk_seg dksX1_beat_0 24 rfl rfl
theorem dksX1_beat_2 : cX1_beat.data.toList.drop 48 = dktX1_beat_2 := dk_seg dksX1_beat_1 24 rfl rfl
theorem dksX1_beat_3 : cX1_beat.data.toList.drop 72 = dktX1_beat_3 := dk_seg dksX1_beat_2 24 rfl rfl
theorem dX1_beat_0 : decode cX1_beat 0 = .ok (.aload_n 0, 1) := dk_42 (dk_at dksX1_beat_0 0 rfl rfl)
theorem dX1_beat_1 : decode cX1_beat 1 = .ok (.iload_n 1, 1) := dk_27 (dk_at dksX1_beat_0 1 rfl rfl)
theorem dX1_beat_2 : decode cX1_beat 2 = .ok (.invokevirtual 187, 3) := dk_182 0 187 (dk_at dksX1_beat_0 2 rfl rfl)
theorem dX1_beat_5 : decode cX1_beat 5 = .ok (.istore_n 2, 1) := dk_61 (dk_at dksX1_beat_0 5 rfl rfl)
theorem dX1_beat_6 : decode cX1_beat 6 = .ok (.iload_n 2, 1) := dk_28 (dk_at dksX1_beat_0 6 rfl rfl)
theorem dX1_beat_7 : decode cX1_beat 7 = .ok (.ifCond .eq 5, 3) := dk_153 0 5 (dk_at dksX1_beat_0 7 rfl rfl)
theorem dX1_beat_10 : decode cX1_beat 10 = .ok (.iload_n 2, 1) := dk_28 (dk_at dksX1_beat_0 10 rfl rfl)
theorem dX1_beat_11 : decode cX1_beat 11 = .ok (.ireturn, 1) := dk_172 (dk_at dksX1_beat_0 11 rfl rfl)
theorem dX1_beat_12 : decode cX1_beat 12 = .ok (.aload_n 0, 1) := dk_42 (dk_at dksX1_beat_0 12 rfl rfl)
theorem dX1_beat_13 : decode cX1_beat 13 = .ok (.aload_n 0, 1) := dk_42 (dk_at dksX1_beat_0 13 rfl rfl)
theorem dX1_beat_14 : decode cX1_beat 14 = .ok (.getfield 26, 3) := dk_180 0 26 (dk_at dksX1_beat_0 14 rfl rfl)
theorem dX1_beat_17 : decode cX1_beat 17 = .ok (.iload_n 1, 1) := dk_27 (dk_at dksX1_beat_0 17 rfl rfl)
theorem dX1_beat_18 : decode cX1_beat 18 = .ok (.aaload, 1) := dk_50 (dk_at dksX1_beat_0 18 rfl rfl)
theorem dX1_beat_19 : decode cX1_beat 19 = .ok (.invokevirtual 185, 3) := dk_182 0 185 (dk_at dksX1_beat_0 19 rfl rfl)
theorem dX1_beat_22 : decode cX1_beat 22 = .ok (.iconst 0, 1) := dk_3 (dk_at dksX1_beat_0 22 rfl rfl)
theorem dX1_beat_23 : decode cX1_beat 23 = .ok (.istore_n 3, 1) := dk_62 (dk_at dksX1_beat_0 23 rfl rfl)
theorem dX1_beat_24 : decode cX1_beat 24 = .ok (.iconst 1, 1) := dk_4 (dk_at dksX1_beat_1 0 rfl rfl)
theorem dX1_beat_25 : decode cX1_beat 25 = .ok (.istore 4, 2) := dk_54 4 (dk_at dksX1_beat_1 1 rfl rfl)
theorem dX1_beat_27 : decode cX1_beat 27 = .ok (.iload 4, 2) := dk_21 4 (dk_at dksX1_beat_1 3 rfl rfl)
theorem dX1_beat_29 : decode cX1_beat 29 = .ok (.aload_n 0, 1) := dk_42 (dk_at dksX1_beat_1 5 rfl rfl)
theorem dX1_beat_30 : decode cX1_beat 30 = .ok (.getfield 26, 3) := dk_180 0 26 (dk_at dksX1_beat_1 6 rfl rfl)
theorem dX1_beat_33 : decode cX1_beat 33 = .ok (.iload_n 1, 1) := dk_27 (dk_at dksX1_beat_1 9 rfl rfl)
theorem dX1_beat_34 : decode cX1_beat 34 = .ok (.aaload, 1) := dk_50 (dk_at dksX1_beat_1 10 rfl rfl)
theorem dX1_beat_35 : decode cX1_beat 35 = .ok (.getfield 67, 3) := dk_180 0 67 (dk_at dksX1_beat_1 11 rfl rfl)
theorem dX1_beat_38 : decode cX1_beat 38 = .ok (.if_icmp .gt 50, 3) := dk_163 0 50 (dk_at dksX1_beat_1 14 rfl rfl)
theorem dX1_beat_41 : decode cX1_beat 41 = .ok (.aload_n 0, 1) := dk_42 (dk_at dksX1_beat_1 17 rfl rfl)
theorem dX1_beat_42 : decode cX1_beat 42 = .ok (.getfield 182, 3) := dk_180 0 182 (dk_at dksX1_beat_1 18 rfl rfl)
theorem dX1_beat_45 : decode cX1_beat 45 = .ok (.iload 4, 2) := dk_21 4 (dk_at dksX1_beat_1 21 rfl rfl)
theorem dX1_beat_47 : decode cX1_beat 47 = .ok (.laload, 1) := dk_47 (dk_at dksX1_beat_1 23 rfl rfl)
theorem dX1_beat_48 : decode cX1_beat 48 = .ok (.lconst 0, 1) := dk_9 (dk_at dksX1_beat_2 0 rfl rfl)
theorem dX1_beat_49 : decode cX1_beat 49 = .ok (.lcmp, 1) := dk_148 (dk_at dksX1_beat_2 1 rfl rfl)
theorem dX1_beat_50 : decode cX1_beat 50 = .ok (.ifCond .ne 7, 3) := dk_154 0 7 (dk_at dksX1_beat_2 2 rfl rfl)
theorem dX1_beat_53 : decode cX1_beat 53 = .ok (.iconst 0, 1) := dk_3 (dk_at dksX1_beat_2 5 rfl rfl)
theorem dX1_beat_54 : decode cX1_beat 54 = .ok (.goto 5, 3) := dk_167 0 5 (dk_at dksX1_beat_2 6 rfl rfl)
theorem dX1_beat_57 : decode cX1_beat 57 = .ok (.iload 4, 2) := dk_21 4 (dk_at dksX1_beat_2 9 rfl rfl)
theorem dX1_beat_59 : decode cX1_beat 59 = .ok (.istore 5, 2) := dk_54 5 (dk_at dksX1_beat_2 11 rfl rfl)
theorem dX1_beat_61 : decode cX1_beat 61 = .ok (.iload 5, 2) := dk_21 5 (dk_at dksX1_beat_2 13 rfl rfl)
theorem dX1_beat_63 : decode cX1_beat 63 = .ok (.ifCond .eq 19, 3) := dk_153 0 19 (dk_at dksX1_beat_2 15 rfl rfl)
theorem dX1_beat_66 : decode cX1_beat 66 = .ok (.iload_n 3, 1) := dk_29 (dk_at dksX1_beat_2 18 rfl rfl)
theorem dX1_beat_67 : decode cX1_beat 67 = .ok (.iload 5, 2) := dk_21 5 (dk_at dksX1_beat_2 19 rfl rfl)
theorem dX1_beat_69 : decode cX1_beat 69 = .ok (.irem, 1) := dk_112 (dk_at dksX1_beat_2 21 rfl rfl)
theorem dX1_beat_70 : decode cX1_beat 70 = .ok (.istore 6, 2) := dk_54 6 (dk_at dksX1_beat_2 22 rfl rfl)
theorem dX1_beat_72 : decode cX1_beat 72 = .ok (.iload 5, 2) := dk_21 5 (dk_at dksX1_beat_3 0 rfl rfl)
theorem dX1_beat_74 : decode cX1_beat 74 = .ok (.istore_n 3, 1) := dk_62 (dk_at dksX1_beat_3 2 rfl rfl)
theorem dX1_beat_75 : decode cX1_beat 75 = .ok (.iload 6, 2) := dk_21 6 (dk_at dksX1_beat_3 3 rfl rfl)
theorem dX1_beat_77 : decode cX1_beat 77 = .ok (.istore 5, 2) := dk_54 5 (dk_at dksX1_beat_3 5 rfl rfl)
theorem dX1_beat_79 : decode cX1_beat 79 = .ok (.goto (-18), 3) := dk_167 255 238 (dk_at dksX1_beat_3 7 rfl rfl)
theorem dX1_beat_82 : decode cX1_beat 82 = .ok (.iinc 4 1, 3) := dk_132 4 1 (dk_at dksX1_beat_3 10 rfl rfl)
theorem dX1_beat_85 : decode cX1_beat 85 = .ok (.goto (-58), 3) := dk_167 255 198 (dk_at dksX1_beat_3 13 rfl rfl)
theorem dX1_beat_88 : decode cX1_beat 88 = .ok (.iload_n 3, 1) := dk_29 (dk_at dksX1_beat_3 16 rfl rfl)
theorem dX1_beat_89 : decode cX1_beat 89 = .ok (.ireturn, 1) := dk_172 (dk_at dksX1_beat_3 17 rfl rfl)
abbrev cX1_bound : ByteArray := prog_1_method_48_code
def yX1_bound : MethodName := ⟨RX1, "bound", "(IIII)J"⟩
def dkwX1_bound_2 : List UInt8 := [100, 5, 108, 184, 0, 202, 109, 167, 0, 12, 27, 28, 29, 100, 4, 96, 184, 0, 7, 173]
abbrev dktX1_bound_2 : List UInt8 := dkwX1_bound_2 ++ []
def dkwX1_bound_1 : List UInt8 := [184, 0, 16, 154, 0, 7, 20, 0, 148, 173, 21, 4, 154, 0, 22, 27, 28, 184, 0, 7, 27, 28, 29, 4]
abbrev dktX1_bound_1 : List UInt8 := dkwX1_bound_1 ++ dktX1_bound_2
def dkwX1_bound_0 : List UInt8 := [27, 28, 184, 0, 40, 153, 0, 25, 29, 133, 10, 28, 133, 184, 0, 16, 153, 0, 14, 21, 4, 133, 9, 10]
abbrev dktX1_bound_0 : List UInt8 := dkwX1_bound_0 ++ dktX1_bound_1
theorem dksX1_bound_0 : cX1_bound.data.toList.drop 0 = dktX1_bound_0 := by decide +kernel
theorem dksX1_bound_1 : cX1_bound.data.toList.drop 24 = dktX1_bound_1 := dk_seg dksX1_bound_0 24 rfl rfl
theorem dksX1_bound_2 : cX1_bound.data.toList.drop 48 = dktX1_bound_2 := dk_seg dksX1_bound_1 24 rfl rfl
theorem dX1_bound_0 : decode cX1_bound 0 = .ok (.iload_n 1, 1) := dk_27 (dk_at dksX1_bound_0 0 rfl rfl)
theorem dX1_bound_1 : decode cX1_bound 1 = .ok (.iload_n 2, 1) := dk_28 (dk_at dksX1_bound_0 1 rfl rfl)
theorem dX1_bound_2 : decode cX1_bound 2 = .ok (.invokestatic 40, 3) := dk_184 0 40 (dk_at dksX1_bound_0 2 rfl rfl)
theorem dX1_bound_5 : decode cX1_bound 5 = .ok (.ifCond .eq 25, 3) := dk_153 0 25 (dk_at dksX1_bound_0 5 rfl rfl)
theorem dX1_bound_8 : decode cX1_bound 8 = .ok (.iload_n 3, 1) := dk_29 (dk_at dksX1_bound_0 8 rfl rfl)
theorem dX1_bound_9 : decode cX1_bound 9 = .ok (.i2l, 1) := dk_133 (dk_at dksX1_bound_0 9 rfl rfl)
theorem dX1_bound_10 : decode cX1_bound 10 = .ok (.lconst 1, 1) := dk_10 (dk_at dksX1_bound_0 10 rfl rfl)
theorem dX1_bound_11 : decode cX1_bound 11 = .ok (.iload_n 2, 1) := dk_28 (dk_at dksX1_bound_0 11 rfl rfl)
theorem dX1_bound_12 : decode cX1_bound 12 = .ok (.i2l, 1) := dk_133 (dk_at dksX1_bound_0 12 rfl rfl)
theorem dX1_bound_13 : decode cX1_bound 13 = .ok (.invokestatic 16, 3) := dk_184 0 16 (dk_at dksX1_bound_0 13 rfl rfl)
theorem dX1_bound_16 : decode cX1_bound 16 = .ok (.ifCond .eq 14, 3) := dk_153 0 14 (dk_at dksX1_bound_0 16 rfl rfl)
theorem dX1_bound_19 : decode cX1_bound 19 = .ok (.iload 4, 2) := dk_21 4 (dk_at dksX1_bound_0 19 rfl rfl)
theorem dX1_bound_21 : decode cX1_bound 21 = .ok (.i2l, 1) := dk_133 (dk_at dksX1_bound_0 21 rfl rfl)
theorem dX1_bound_22 : decode cX1_bound 22 = .ok (.lconst 0, 1) := dk_9 (dk_at dksX1_bound_0 22 rfl rfl)
theorem dX1_bound_23 : decode cX1_bound 23 = .ok (.lconst 1, 1) := dk_10 (dk_at dksX1_bound_0 23 rfl rfl)
theorem dX1_bound_24 : decode cX1_bound 24 = .ok (.invokestatic 16, 3) := dk_184 0 16 (dk_at dksX1_bound_1 0 rfl rfl)
theorem dX1_bound_27 : decode cX1_bound 27 = .ok (.ifCond .ne 7, 3) := dk_154 0 7 (dk_at dksX1_bound_1 3 rfl rfl)
theorem dX1_bound_30 : decode cX1_bound 30 = .ok (.ldc2_w 148, 3) := dk_20 0 148 (dk_at dksX1_bound_1 6 rfl rfl)
theorem dX1_bound_33 : decode cX1_bound 33 = .ok (.lreturn, 1) := dk_173 (dk_at dksX1_bound_1 9 rfl rfl)
theorem dX1_bound_34 : decode cX1_bound 34 = .ok (.iload 4, 2) := dk_21 4 (dk_at dksX1_bound_1 10 rfl rfl)
theorem dX1_bound_36 : decode cX1_bound 36 = .ok (.ifCond .ne 22, 3) := dk_154 0 22 (dk_at dksX1_bound_1 12 rfl rfl)
theorem dX1_bound_39 : decode cX1_bound 39 = .ok (.iload_n 1, 1) := dk_27 (dk_at dksX1_bound_1 15 rfl rfl)
theorem dX1_bound_40 : decode cX1_bound 40 = .ok (.iload_n 2, 1) := dk_28 (dk_at dksX1_bound_1 16 rfl rfl)
theorem dX1_bound_41 : decode cX1_bound 41 = .ok (.invokestatic 7, 3) := dk_184 0 7 (dk_at dksX1_bound_1 17 rfl rfl)
theorem dX1_bound_44 : decode cX1_bound 44 = .ok (.iload_n 1, 1) := dk_27 (dk_at dksX1_bound_1 20 rfl rfl)
theorem dX1_bound_45 : decode cX1_bound 45 = .ok (.iload_n 2, 1) := dk_28 (dk_at dksX1_bound_1 21 rfl rfl)
theorem dX1_bound_46 : decode cX1_bound 46 = .ok (.iload_n 3, 1) := dk_29 (dk_at dksX1_bound_1 22 rfl rfl)
theorem dX1_bound_47 : decode cX1_bound 47 = .ok (.iconst 1, 1) := dk_4 (dk_at dksX1_bound_1 23 rfl rfl)
theorem dX1_bound_48 : decode cX1_bound 48 = .ok (.isub, 1) := dk_100 (dk_at dksX1_bound_2 0 rfl rfl)
theorem dX1_bound_49 : decode cX1_bound 49 = .ok (.iconst 2, 1) := dk_5 (dk_at dksX1_bound_2 1 rfl rfl)
theorem dX1_bound_50 : decode cX1_bound 50 = .ok (.idiv, 1) := dk_108 (dk_at dksX1_bound_2 2 rfl rfl)
theorem dX1_bound_51 : decode cX1_bound 51 = .ok (.invokestatic 202, 3) := dk_184 0 202 (dk_at dksX1_bound_2 3 rfl rfl)
theorem dX1_bound_54 : decode cX1_bound 54 = .ok (.ldiv, 1) := dk_109 (dk_at dksX1_bound_2 6 rfl rfl)
theorem dX1_bound_55 : decode cX1_bound 55 = .ok (.goto 12, 3) := dk_167 0 12 (dk_at dksX1_bound_2 7 rfl rfl)
theorem dX1_bound_58 : decode cX1_bound 58 = .ok (.iload_n 1, 1) := dk_27 (dk_at dksX1_bound_2 10 rfl rfl)
theorem dX1_bound_59 : decode cX1_bound 59 = .ok (.iload_n 2, 1) := dk_28 (dk_at dksX1_bound_2 11 rfl rfl)
theorem dX1_bound_60 : decode cX1_bound 60 = .ok (.iload_n 3, 1) := dk_29 (dk_at dksX1_bound_2 12 rfl rfl)
theorem dX1_bound_61 : decode cX1_bound 61 = .ok (.isub, 1) := dk_100 (dk_at dksX1_bound_2 13 rfl rfl)
theorem dX1_bound_62 : decode cX1_bound 62 = .ok (.iconst 1, 1) := dk_4 (dk_at dksX1_bound_2 14 rfl rfl)
theorem dX1_bound_63 : decode cX1_bound 63 = .ok (.iadd, 1) := dk_96 (dk_at dksX1_bound_2 15 rfl rfl)
theorem dX1_bound_64 : decode cX1_bound 64 = .ok (.invokestatic 7, 3) := dk_184 0 7 (dk_at dksX1_bound_2 16 rfl rfl)
theorem dX1_bound_67 : decode cX1_bound 67 = .ok (.lreturn, 1) := dk_173 (dk_at dksX1_bound_2 19 rfl rfl)
abbrev cX1_ball : ByteArray := prog_1_method_47_code
def yX1_ball : MethodName := ⟨RX1, "ball", "(III)J"⟩
def dkwX1_ball_1 : List UInt8 := [184, 0, 7, 105, 97, 66, 132, 5, 1, 167, 255, 229, 33, 173]
abbrev dktX1_ball_1 : List UInt8 := dkwX1_ball_1 ++ []
def dkwX1_ball_0 : List UInt8 := [9, 66, 3, 54, 5, 21, 5, 28, 163, 0, 27, 33, 27, 21, 5, 184, 0, 195, 26, 4, 100, 21, 5]
abbrev dktX1_ball_0 : List UInt8 := dkwX1_ball_0 ++ dktX1_ball_1
theorem dksX1_ball_0 : cX1_ball.data.toList.drop 0 = dktX1_ball_0 := by decide +kernel
theorem dksX1_ball_1 : cX1_ball.data.toList.drop 23 = dktX1_ball_1 := dk_seg dksX1_ball_0 23 rfl rfl
theorem dX1_ball_0 : decode cX1_ball 0 = .ok (.lconst 0, 1) := dk_9 (dk_at dksX1_ball_0 0 rfl rfl)
theorem dX1_ball_1 : decode cX1_ball 1 = .ok (.lstore_n 3, 1) := dk_66 (dk_at dksX1_ball_0 1 rfl rfl)
theorem dX1_ball_2 : decode cX1_ball 2 = .ok (.iconst 0, 1) := dk_3 (dk_at dksX1_ball_0 2 rfl rfl)
theorem dX1_ball_3 : decode cX1_ball 3 = .ok (.istore 5, 2) := dk_54 5 (dk_at dksX1_ball_0 3 rfl rfl)
theorem dX1_ball_5 : decode cX1_ball 5 = .ok (.iload 5, 2) := dk_21 5 (dk_at dksX1_ball_0 5 rfl rfl)
theorem dX1_ball_7 : decode cX1_ball 7 = .ok (.iload_n 2, 1) := dk_28 (dk_at dksX1_ball_0 7 rfl rfl)
theorem dX1_ball_8 : decode cX1_ball 8 = .ok (.if_icmp .gt 27, 3) := dk_163 0 27 (dk_at dksX1_ball_0 8 rfl rfl)
theorem dX1_ball_11 : decode cX1_ball 11 = .ok (.lload_n 3, 1) := dk_33 (dk_at dksX1_ball_0 11 rfl rfl)
theorem dX1_ball_12 : decode cX1_ball 12 = .ok (.iload_n 1, 1) := dk_27 (dk_at dksX1_ball_0 12 rfl rfl)
theorem dX1_ball_13 : decode cX1_ball 13 = .ok (.iload 5, 2) := dk_21 5 (dk_at dksX1_ball_0 13 rfl rfl)
theorem dX1_ball_15 : decode cX1_ball 15 = .ok (.invokestatic 195, 3) := dk_184 0 195 (dk_at dksX1_ball_0 15 rfl rfl)
theorem dX1_ball_18 : decode cX1_ball 18 = .ok (.iload_n 0, 1) := dk_26 (dk_at dksX1_ball_0 18 rfl rfl)
theorem dX1_ball_19 : decode cX1_ball 19 = .ok (.iconst 1, 1) := dk_4 (dk_at dksX1_ball_0 19 rfl rfl)
theorem dX1_ball_20 : decode cX1_ball 20 = .ok (.isub, 1) := dk_100 (dk_at dksX1_ball_0 20 rfl rfl)
theorem dX1_ball_21 : decode cX1_ball 21 = .ok (.iload 5, 2) := dk_21 5 (dk_at dksX1_ball_0 21 rfl rfl)
theorem dX1_ball_23 : decode cX1_ball 23 = .ok (.invokestatic 7, 3) := dk_184 0 7 (dk_at dksX1_ball_1 0 rfl rfl)
theorem dX1_ball_26 : decode cX1_ball 26 = .ok (.lmul, 1) := dk_105 (dk_at dksX1_ball_1 3 rfl rfl)
theorem dX1_ball_27 : decode cX1_ball 27 = .ok (.ladd, 1) := dk_97 (dk_at dksX1_ball_1 4 rfl rfl)
theorem dX1_ball_28 : decode cX1_ball 28 = .ok (.lstore_n 3, 1) := dk_66 (dk_at dksX1_ball_1 5 rfl rfl)
theorem dX1_ball_29 : decode cX1_ball 29 = .ok (.iinc 5 1, 3) := dk_132 5 1 (dk_at dksX1_ball_1 6 rfl rfl)
theorem dX1_ball_32 : decode cX1_ball 32 = .ok (.goto (-27), 3) := dk_167 255 229 (dk_at dksX1_ball_1 9 rfl rfl)
theorem dX1_ball_35 : decode cX1_ball 35 = .ok (.lload_n 3, 1) := dk_33 (dk_at dksX1_ball_1 12 rfl rfl)
theorem dX1_ball_36 : decode cX1_ball 36 = .ok (.lreturn, 1) := dk_173 (dk_at dksX1_ball_1 13 rfl rfl)
abbrev cX1_chosen : ByteArray := prog_1_method_43_code
def yX1_chosen : MethodName := ⟨RX1, "chosen", "(II)J"⟩
def dkwX1_chosen_1 : List UInt8 := [27, 100, 21, 4, 96, 133, 105, 21, 4, 133, 109, 65, 132, 4, 1, 167, 255, 233, 32, 173]
abbrev dktX1_chosen_1 : List UInt8 := dkwX1_chosen_1 ++ []
def dkwX1_chosen_0 : List UInt8 := [27, 155, 0, 8, 27, 26, 164, 0, 5, 9, 173, 10, 65, 4, 54, 4, 21, 4, 27, 163, 0, 23, 32, 26]
abbrev dktX1_chosen_0 : List UInt8 := dkwX1_chosen_0 ++ dktX1_chosen_1
theorem dksX1_chosen_0 : cX1_chosen.data.toList.drop 0 = dktX1_chosen_0 := by decide +kernel
theorem dksX1_chosen_1 : cX1_chosen.data.toList.drop 24 = dktX1_chosen_1 := dk_seg dksX1_chosen_0 24 rfl rfl
theorem dX1_chosen_0 : decode cX1_chosen 0 = .ok (.iload_n 1, 1) := dk_27 (dk_at dksX1_chosen_0 0 rfl rfl)
theorem dX1_chosen_1 : decode cX1_chosen 1 = .ok (.ifCond .lt 8, 3) := dk_155 0 8 (dk_at dksX1_chosen_0 1 rfl rfl)
theorem dX1_chosen_4 : decode cX1_chosen 4 = .ok (.iload_n 1, 1) := dk_27 (dk_at dksX1_chosen_0 4 rfl rfl)
theorem dX1_chosen_5 : decode cX1_chosen 5 = .ok (.iload_n 0, 1) := dk_26 (dk_at dksX1_chosen_0 5 rfl rfl)
theorem dX1_chosen_6 : decode cX1_chosen 6 = .ok (.if_icmp .le 5, 3) := dk_164 0 5 (dk_at dksX1_chosen_0 6 rfl rfl)
theorem dX1_chosen_9 : decode cX1_chosen 9 = .ok (.lconst 0, 1) := dk_9 (dk_at dksX1_chosen_0 9 rfl rfl)
theorem dX1_chosen_10 : decode cX1_chosen 10 = .ok (.lreturn, 1) := dk_173 (dk_at dksX1_chosen_0 10 rfl rfl)
theorem dX1_chosen_11 : decode cX1_chosen 11 = .ok (.lconst 1, 1) := dk_10 (dk_at dksX1_chosen_0 11 rfl rfl)
theorem dX1_chosen_12 : decode cX1_chosen 12 = .ok (.lstore_n 2, 1) := dk_65 (dk_at dksX1_chosen_0 12 rfl rfl)
theorem dX1_chosen_13 : decode cX1_chosen 13 = .ok (.iconst 1, 1) := dk_4 (dk_at dksX1_chosen_0 13 rfl rfl)
theorem dX1_chosen_14 : decode cX1_chosen 14 = .ok (.istore 4, 2) := dk_54 4 (dk_at dksX1_chosen_0 14 rfl rfl)
theorem dX1_chosen_16 : decode cX1_chosen 16 = .ok (.iload 4, 2) := dk_21 4 (dk_at dksX1_chosen_0 16 rfl rfl)
theorem dX1_chosen_18 : decode cX1_chosen 18 = .ok (.iload_n 1, 1) := dk_27 (dk_at dksX1_chosen_0 18 rfl rfl)
theorem dX1_chosen_19 : decode cX1_chosen 19 = .ok (.if_icmp .gt 23, 3) := dk_163 0 23 (dk_at dksX1_chosen_0 19 rfl rfl)
theorem dX1_chosen_22 : decode cX1_chosen 22 = .ok (.lload_n 2, 1) := dk_32 (dk_at dksX1_chosen_0 22 rfl rfl)
theorem dX1_chosen_23 : decode cX1_chosen 23 = .ok (.iload_n 0, 1) := dk_26 (dk_at dksX1_chosen_0 23 rfl rfl)
theorem dX1_chosen_24 : decode cX1_chosen 24 = .ok (.iload_n 1, 1) := dk_27 (dk_at dksX1_chosen_1 0 rfl rfl)
theorem dX1_chosen_25 : decode cX1_chosen 25 = .ok (.isub, 1) := dk_100 (dk_at dksX1_chosen_1 1 rfl rfl)
theorem dX1_chosen_26 : decode cX1_chosen 26 = .ok (.iload 4, 2) := dk_21 4 (dk_at dksX1_chosen_1 2 rfl rfl)
theorem dX1_chosen_28 : decode cX1_chosen 28 = .ok (.iadd, 1) := dk_96 (dk_at dksX1_chosen_1 4 rfl rfl)
theorem dX1_chosen_29 : decode cX1_chosen 29 = .ok (.i2l, 1) := dk_133 (dk_at dksX1_chosen_1 5 rfl rfl)
theorem dX1_chosen_30 : decode cX1_chosen 30 = .ok (.lmul, 1) := dk_105 (dk_at dksX1_chosen_1 6 rfl rfl)
theorem dX1_chosen_31 : decode cX1_chosen 31 = .ok (.iload 4, 2) := dk_21 4 (dk_at dksX1_chosen_1 7 rfl rfl)
theorem dX1_chosen_33 : decode cX1_chosen 33 = .ok (.i2l, 1) := dk_133 (dk_at dksX1_chosen_1 9 rfl rfl)
theorem dX1_chosen_34 : decode cX1_chosen 34 = .ok (.ldiv, 1) := dk_109 (dk_at dksX1_chosen_1 10 rfl rfl)
theorem dX1_chosen_35 : decode cX1_chosen 35 = .ok (.lstore_n 2, 1) := dk_65 (dk_at dksX1_chosen_1 11 rfl rfl)
theorem dX1_chosen_36 : decode cX1_chosen 36 = .ok (.iinc 4 1, 3) := dk_132 4 1 (dk_at dksX1_chosen_1 12 rfl rfl)
theorem dX1_chosen_39 : decode cX1_chosen 39 = .ok (.goto (-23), 3) := dk_167 255 233 (dk_at dksX1_chosen_1 15 rfl rfl)
theorem dX1_chosen_42 : decode cX1_chosen 42 = .ok (.lload_n 2, 1) := dk_32 (dk_at dksX1_chosen_1 18 rfl rfl)
theorem dX1_chosen_43 : decode cX1_chosen 43 = .ok (.lreturn, 1) := dk_173 (dk_at dksX1_chosen_1 19 rfl rfl)
abbrev cX1_read : ByteArray := prog_1_method_50_code
def yX1_read : MethodName := ⟨RX1, "read", "(IJI)J"⟩
def dkwX1_read_4 : List UInt8 := [47, 173]
abbrev dktX1_read_4 : List UInt8 := dkwX1_read_4 ++ []
def dkwX1_read_3 : List UInt8 := [182, 0, 206, 54, 6, 21, 6, 16, 254, 160, 0, 9, 20, 0, 210, 167, 0, 10, 42, 180, 0, 170, 21, 6]
abbrev dktX1_read_3 : List UInt8 := dkwX1_read_3 ++ dktX1_read_4
def dkwX1_read_2 : List UInt8 := [182, 0, 187, 54, 5, 21, 5, 153, 0, 7, 21, 5, 133, 173, 42, 42, 180, 0, 26, 27, 50, 32, 21, 4]
abbrev dktX1_read_2 : List UInt8 := dkwX1_read_2 ++ dktX1_read_3
def dkwX1_read_1 : List UInt8 := [180, 0, 67, 120, 4, 100, 133, 184, 0, 16, 154, 0, 6, 2, 54, 5, 21, 5, 154, 0, 10, 42, 27]
abbrev dktX1_read_1 : List UInt8 := dkwX1_read_1 ++ dktX1_read_2
def dkwX1_read_0 : List UInt8 := [42, 27, 32, 182, 0, 133, 54, 5, 21, 5, 154, 0, 30, 21, 4, 133, 9, 4, 42, 180, 0, 26, 27, 50]
abbrev dktX1_read_0 : List UInt8 := dkwX1_read_0 ++ dktX1_read_1
theorem dksX1_read_0 : cX1_read.data.toList.drop 0 = dktX1_read_0 := by decide +kernel
theorem dksX1_read_1 : cX1_read.data.toList.drop 24 = dktX1_read_1 := dk_seg dksX1_read_0 24 rfl rfl
theorem dksX1_read_2 : cX1_read.data.toList.drop 47 = dktX1_read_2 := dk_seg dksX1_read_1 23 rfl rfl
theorem dksX1_read_3 : cX1_read.data.toList.drop 71 = dktX1_read_3 := dk_seg dksX1_read_2 24 rfl rfl
theorem dksX1_read_4 : cX1_read.data.toList.drop 95 = dktX1_read_4 := dk_seg dksX1_read_3 24 rfl rfl
theorem dX1_read_0 : decode cX1_read 0 = .ok (.aload_n 0, 1) := dk_42 (dk_at dksX1_read_0 0 rfl rfl)
theorem dX1_read_1 : decode cX1_read 1 = .ok (.iload_n 1, 1) := dk_27 (dk_at dksX1_read_0 1 rfl rfl)
theorem dX1_read_2 : decode cX1_read 2 = .ok (.lload_n 2, 1) := dk_32 (dk_at dksX1_read_0 2 rfl rfl)
theorem dX1_read_3 : decode cX1_read 3 = .ok (.invokevirtual 133, 3) := dk_182 0 133 (dk_at dksX1_read_0 3 rfl rfl)
theorem dX1_read_6 : decode cX1_read 6 = .ok (.istore 5, 2) := dk_54 5 (dk_at dksX1_read_0 6 rfl rfl)
theorem dX1_read_8 : decode cX1_read 8 = .ok (.iload 5, 2) := dk_21 5 (dk_at dksX1_read_0 8 rfl rfl)
theorem dX1_read_10 : decode cX1_read 10 = .ok (.ifCond .ne 30, 3) := dk_154 0 30 (dk_at dksX1_read_0 10 rfl rfl)
theorem dX1_read_13 : decode cX1_read 13 = .ok (.iload 4, 2) := dk_21 4 (dk_at dksX1_read_0 13 rfl rfl)
theorem dX1_read_15 : decode cX1_read 15 = .ok (.i2l, 1) := dk_133 (dk_at dksX1_read_0 15 rfl rfl)
theorem dX1_read_16 : decode cX1_read 16 = .ok (.lconst 0, 1) := dk_9 (dk_at dksX1_read_0 16 rfl rfl)
theorem dX1_read_17 : decode cX1_read 17 = .ok (.iconst 1, 1) := dk_4 (dk_at dksX1_read_0 17 rfl rfl)
theorem dX1_read_18 : decode cX1_read 18 = .ok (.aload_n 0, 1) := dk_42 (dk_at dksX1_read_0 18 rfl rfl)
theorem dX1_read_19 : decode cX1_read 19 = .ok (.getfield 26, 3) := dk_180 0 26 (dk_at dksX1_read_0 19 rfl rfl)
theorem dX1_read_22 : decode cX1_read 22 = .ok (.iload_n 1, 1) := dk_27 (dk_at dksX1_read_0 22 rfl rfl)
theorem dX1_read_23 : decode cX1_read 23 = .ok (.aaload, 1) := dk_50 (dk_at dksX1_read_0 23 rfl rfl)
theorem dX1_read_24 : decode cX1_read 24 = .ok (.getfield 67, 3) := dk_180 0 67 (dk_at dksX1_read_1 0 rfl rfl)
theorem dX1_read_27 : decode cX1_read 27 = .ok (.ishl, 1) := dk_120 (dk_at dksX1_read_1 3 rfl rfl)
theorem dX1_read_28 : decode cX1_read 28 = .ok (.iconst 1, 1) := dk_4 (dk_at dksX1_read_1 4 rfl rfl)
theorem dX1_read_29 : decode cX1_read 29 = .ok (.isub, 1) := dk_100 (dk_at dksX1_read_1 5 rfl rfl)
theorem dX1_read_30 : decode cX1_read 30 = .ok (.i2l, 1) := dk_133 (dk_at dksX1_read_1 6 rfl rfl)
theorem dX1_read_31 : decode cX1_read 31 = .ok (.invokestatic 16, 3) := dk_184 0 16 (dk_at dksX1_read_1 7 rfl rfl)
theorem dX1_read_34 : decode cX1_read 34 = .ok (.ifCond .ne 6, 3) := dk_154 0 6 (dk_at dksX1_read_1 10 rfl rfl)
theorem dX1_read_37 : decode cX1_read 37 = .ok (.iconst (-1), 1) := dk_2 (dk_at dksX1_read_1 13 rfl rfl)
theorem dX1_read_38 : decode cX1_read 38 = .ok (.istore 5, 2) := dk_54 5 (dk_at dksX1_read_1 14 rfl rfl)
theorem dX1_read_40 : decode cX1_read 40 = .ok (.iload 5, 2) := dk_21 5 (dk_at dksX1_read_1 16 rfl rfl)
theorem dX1_read_42 : decode cX1_read 42 = .ok (.ifCond .ne 10, 3) := dk_154 0 10 (dk_at dksX1_read_1 18 rfl rfl)
theorem dX1_read_45 : decode cX1_read 45 = .ok (.aload_n 0, 1) := dk_42 (dk_at dksX1_read_1 21 rfl rfl)
theorem dX1_read_46 : decode cX1_read 46 = .ok (.iload_n 1, 1) := dk_27 (dk_at dksX1_read_1 22 rfl rfl)
theorem dX1_read_47 : decode cX1_read 47 = .ok (.invokevirtual 187, 3) := dk_182 0 187 (dk_at dksX1_read_2 0 rfl rfl)
theorem dX1_read_50 : decode cX1_read 50 = .ok (.istore 5, 2) := dk_54 5 (dk_at dksX1_read_2 3 rfl rfl)
theorem dX1_read_52 : decode cX1_read 52 = .ok (.iload 5, 2) := dk_21 5 (dk_at dksX1_read_2 5 rfl rfl)
theorem dX1_read_54 : decode cX1_read 54 = .ok (.ifCond .eq 7, 3) := dk_153 0 7 (dk_at dksX1_read_2 7 rfl rfl)
theorem dX1_read_57 : decode cX1_read 57 = .ok (.iload 5, 2) := dk_21 5 (dk_at dksX1_read_2 10 rfl rfl)
theorem dX1_read_59 : decode cX1_read 59 = .ok (.i2l, 1) := dk_133 (dk_at dksX1_read_2 12 rfl rfl)
theorem dX1_read_60 : decode cX1_read 60 = .ok (.lreturn, 1) := dk_173 (dk_at dksX1_read_2 13 rfl rfl)
theorem dX1_read_61 : decode cX1_read 61 = .ok (.aload_n 0, 1) := dk_42 (dk_at dksX1_read_2 14 rfl rfl)
theorem dX1_read_62 : decode cX1_read 62 = .ok (.aload_n 0, 1) := dk_42 (dk_at dksX1_read_2 15 rfl rfl)
theorem dX1_read_63 : decode cX1_read 63 = .ok (.getfield 26, 3) := dk_180 0 26 (dk_at dksX1_read_2 16 rfl rfl)
theorem dX1_read_66 : decode cX1_read 66 = .ok (.iload_n 1, 1) := dk_27 (dk_at dksX1_read_2 19 rfl rfl)
theorem dX1_read_67 : decode cX1_read 67 = .ok (.aaload, 1) := dk_50 (dk_at dksX1_read_2 20 rfl rfl)
theorem dX1_read_68 : decode cX1_read 68 = .ok (.lload_n 2, 1) := dk_32 (dk_at dksX1_read_2 21 rfl rfl)
theorem dX1_read_69 : decode cX1_read 69 = .ok (.iload 4, 2) := dk_21 4 (dk_at dksX1_read_2 22 rfl rfl)
theorem dX1_read_71 : decode cX1_read 71 = .ok (.invokevirtual 206, 3) := dk_182 0 206 (dk_at dksX1_read_3 0 rfl rfl)
theorem dX1_read_74 : decode cX1_read 74 = .ok (.istore 6, 2) := dk_54 6 (dk_at dksX1_read_3 3 rfl rfl)
theorem dX1_read_76 : decode cX1_read 76 = .ok (.iload 6, 2) := dk_21 6 (dk_at dksX1_read_3 5 rfl rfl)
theorem dX1_read_78 : decode cX1_read 78 = .ok (.bipush (-2), 2) := dk_16 254 (dk_at dksX1_read_3 7 rfl rfl)
theorem dX1_read_80 : decode cX1_read 80 = .ok (.if_icmp .ne 9, 3) := dk_160 0 9 (dk_at dksX1_read_3 9 rfl rfl)
theorem dX1_read_83 : decode cX1_read 83 = .ok (.ldc2_w 210, 3) := dk_20 0 210 (dk_at dksX1_read_3 12 rfl rfl)
theorem dX1_read_86 : decode cX1_read 86 = .ok (.goto 10, 3) := dk_167 0 10 (dk_at dksX1_read_3 15 rfl rfl)
theorem dX1_read_89 : decode cX1_read 89 = .ok (.aload_n 0, 1) := dk_42 (dk_at dksX1_read_3 18 rfl rfl)
theorem dX1_read_90 : decode cX1_read 90 = .ok (.getfield 170, 3) := dk_180 0 170 (dk_at dksX1_read_3 19 rfl rfl)
theorem dX1_read_93 : decode cX1_read 93 = .ok (.iload 6, 2) := dk_21 6 (dk_at dksX1_read_3 22 rfl rfl)
theorem dX1_read_95 : decode cX1_read 95 = .ok (.laload, 1) := dk_47 (dk_at dksX1_read_4 0 rfl rfl)
theorem dX1_read_96 : decode cX1_read 96 = .ok (.lreturn, 1) := dk_173 (dk_at dksX1_read_4 1 rfl rfl)
abbrev cX1_readBy : ByteArray := prog_1_method_49_code
def yX1_readBy : MethodName := ⟨RX1, "readBy", "(LWordBench$Code;JI)I"⟩
def dkwX1_readBy_2 : List UInt8 := [161, 0, 6, 167, 0, 11, 21, 8, 54, 6, 21, 7, 54, 5, 132, 7, 1, 167, 255, 203, 21, 5, 172]
abbrev dktX1_readBy_2 : List UInt8 := dkwX1_readBy_2 ++ []
def dkwX1_readBy_1 : List UInt8 := [43, 180, 0, 67, 42, 180, 0, 170, 21, 7, 47, 32, 21, 4, 184, 0, 150, 54, 8, 21, 8, 21, 6]
abbrev dktX1_readBy_1 : List UInt8 := dkwX1_readBy_1 ++ dktX1_readBy_2
def dkwX1_readBy_0 : List UInt8 := [16, 254, 54, 5, 16, 13, 54, 6, 3, 54, 7, 21, 7, 42, 180, 0, 173, 162, 0, 50, 43, 180, 0, 64]
abbrev dktX1_readBy_0 : List UInt8 := dkwX1_readBy_0 ++ dktX1_readBy_1
theorem dksX1_readBy_0 : cX1_readBy.data.toList.drop 0 = dktX1_readBy_0 := by decide +kernel
theorem dksX1_readBy_1 : cX1_readBy.data.toList.drop 24 = dktX1_readBy_1 := dk_seg dksX1_readBy_0 24 rfl rfl
theorem dksX1_readBy_2 : cX1_readBy.data.toList.drop 47 = dktX1_readBy_2 := dk_seg dksX1_readBy_1 23 rfl rfl
theorem dX1_readBy_0 : decode cX1_readBy 0 = .ok (.bipush (-2), 2) := dk_16 254 (dk_at dksX1_readBy_0 0 rfl rfl)
theorem dX1_readBy_2 : decode cX1_readBy 2 = .ok (.istore 5, 2) := dk_54 5 (dk_at dksX1_readBy_0 2 rfl rfl)
theorem dX1_readBy_4 : decode cX1_readBy 4 = .ok (.bipush 13, 2) := dk_16 13 (dk_at dksX1_readBy_0 4 rfl rfl)
theorem dX1_readBy_6 : decode cX1_readBy 6 = .ok (.istore 6, 2) := dk_54 6 (dk_at dksX1_readBy_0 6 rfl rfl)
theorem dX1_readBy_8 : decode cX1_readBy 8 = .ok (.iconst 0, 1) := dk_3 (dk_at dksX1_readBy_0 8 rfl rfl)
theorem dX1_readBy_9 : decode cX1_readBy 9 = .ok (.istore 7, 2) := dk_54 7 (dk_at dksX1_readBy_0 9 rfl rfl)
theorem dX1_readBy_11 : decode cX1_readBy 11 = .ok (.iload 7, 2) := dk_21 7 (dk_at dksX1_readBy_0 11 rfl rfl)
theorem dX1_readBy_13 : decode cX1_readBy 13 = .ok (.aload_n 0, 1) := dk_42 (dk_at dksX1_readBy_0 13 rfl rfl)
theorem dX1_readBy_14 : decode cX1_readBy 14 = .ok (.getfield 173, 3) := dk_180 0 173 (dk_at dksX1_readBy_0 14 rfl rfl)
theorem dX1_readBy_17 : decode cX1_readBy 17 = .ok (.if_icmp .ge 50, 3) := dk_162 0 50 (dk_at dksX1_readBy_0 17 rfl rfl)
theorem dX1_readBy_20 : decode cX1_readBy 20 = .ok (.aload_n 1, 1) := dk_43 (dk_at dksX1_readBy_0 20 rfl rfl)
theorem dX1_readBy_21 : decode cX1_readBy 21 = .ok (.getfield 64, 3) := dk_180 0 64 (dk_at dksX1_readBy_0 21 rfl rfl)
theorem dX1_readBy_24 : decode cX1_readBy 24 = .ok (.aload_n 1, 1) := dk_43 (dk_at dksX1_readBy_1 0 rfl rfl)
theorem dX1_readBy_25 : decode cX1_readBy 25 = .ok (.getfield 67, 3) := dk_180 0 67 (dk_at dksX1_readBy_1 1 rfl rfl)
theorem dX1_readBy_28 : decode cX1_readBy 28 = .ok (.aload_n 0, 1) := dk_42 (dk_at dksX1_readBy_1 4 rfl rfl)
theorem dX1_readBy_29 : decode cX1_readBy 29 = .ok (.getfield 170, 3) := dk_180 0 170 (dk_at dksX1_readBy_1 5 rfl rfl)
theorem dX1_readBy_32 : decode cX1_readBy 32 = .ok (.iload 7, 2) := dk_21 7 (dk_at dksX1_readBy_1 8 rfl rfl)
theorem dX1_readBy_34 : decode cX1_readBy 34 = .ok (.laload, 1) := dk_47 (dk_at dksX1_readBy_1 10 rfl rfl)
theorem dX1_readBy_35 : decode cX1_readBy 35 = .ok (.lload_n 2, 1) := dk_32 (dk_at dksX1_readBy_1 11 rfl rfl)
theorem dX1_readBy_36 : decode cX1_readBy 36 = .ok (.iload 4, 2) := dk_21 4 (dk_at dksX1_readBy_1 12 rfl rfl)
theorem dX1_readBy_38 : decode cX1_readBy 38 = .ok (.invokestatic 150, 3) := dk_184 0 150 (dk_at dksX1_readBy_1 14 rfl rfl)
theorem dX1_readBy_41 : decode cX1_readBy 41 = .ok (.istore 8, 2) := dk_54 8 (dk_at dksX1_readBy_1 17 rfl rfl)
theorem dX1_readBy_43 : decode cX1_readBy 43 = .ok (.iload 8, 2) := dk_21 8 (dk_at dksX1_readBy_1 19 rfl rfl)
theorem dX1_readBy_45 : decode cX1_readBy 45 = .ok (.iload 6, 2) := dk_21 6 (dk_at dksX1_readBy_1 21 rfl rfl)
theorem dX1_readBy_47 : decode cX1_readBy 47 = .ok (.if_icmp .lt 6, 3) := dk_161 0 6 (dk_at dksX1_readBy_2 0 rfl rfl)
theorem dX1_readBy_50 : decode cX1_readBy 50 = .ok (.goto 11, 3) := dk_167 0 11 (dk_at dksX1_readBy_2 3 rfl rfl)
theorem dX1_readBy_53 : decode cX1_readBy 53 = .ok (.iload 8, 2) := dk_21 8 (dk_at dksX1_readBy_2 6 rfl rfl)
theorem dX1_readBy_55 : decode cX1_readBy 55 = .ok (.istore 6, 2) := dk_54 6 (dk_at dksX1_readBy_2 8 rfl rfl)
theorem dX1_readBy_57 : decode cX1_readBy 57 = .ok (.iload 7, 2) := dk_21 7 (dk_at dksX1_readBy_2 10 rfl rfl)
theorem dX1_readBy_59 : decode cX1_readBy 59 = .ok (.istore 5, 2) := dk_54 5 (dk_at dksX1_readBy_2 12 rfl rfl)
theorem dX1_readBy_61 : decode cX1_readBy 61 = .ok (.iinc 7 1, 3) := dk_132 7 1 (dk_at dksX1_readBy_2 14 rfl rfl)
theorem dX1_readBy_64 : decode cX1_readBy 64 = .ok (.goto (-53), 3) := dk_167 255 203 (dk_at dksX1_readBy_2 17 rfl rfl)
theorem dX1_readBy_67 : decode cX1_readBy 67 = .ok (.iload 5, 2) := dk_21 5 (dk_at dksX1_readBy_2 20 rfl rfl)
theorem dX1_readBy_69 : decode cX1_readBy 69 = .ok (.ireturn, 1) := dk_172 (dk_at dksX1_readBy_2 22 rfl rfl)
abbrev cX1_near : ByteArray := prog_1_method_51_code
def yX1_near : MethodName := ⟨RX1, "near", "(IJI)I"⟩
def dkwX1_near_5 : List UInt8 := [132, 7, 1, 167, 255, 199, 21, 6, 172]
abbrev dktX1_near_5 : List UInt8 := dkwX1_near_5 ++ []
def dkwX1_near_4 : List UInt8 := [180, 0, 170, 21, 7, 47, 32, 3, 184, 0, 150, 21, 4, 163, 0, 7, 4, 167, 0, 4, 3, 96, 54, 6]
abbrev dktX1_near_4 : List UInt8 := dkwX1_near_4 ++ dktX1_near_5
def dkwX1_near_3 : List UInt8 := [162, 0, 54, 21, 6, 42, 180, 0, 26, 27, 50, 180, 0, 64, 42, 180, 0, 26, 27, 50, 180, 0, 67, 42]
abbrev dktX1_near_3 : List UInt8 := dkwX1_near_3 ++ dktX1_near_4
def dkwX1_near_2 : List UInt8 := [54, 5, 21, 5, 153, 0, 6, 21, 5, 172, 3, 54, 6, 3, 54, 7, 21, 7, 42, 180, 0, 173]
abbrev dktX1_near_2 : List UInt8 := dkwX1_near_2 ++ dktX1_near_3
def dkwX1_near_1 : List UInt8 := [180, 0, 67, 133, 184, 0, 16, 154, 0, 6, 2, 54, 5, 21, 5, 154, 0, 10, 42, 27, 182, 0, 187]
abbrev dktX1_near_1 : List UInt8 := dkwX1_near_1 ++ dktX1_near_2
def dkwX1_near_0 : List UInt8 := [42, 27, 32, 182, 0, 133, 54, 5, 21, 5, 154, 0, 26, 21, 4, 133, 9, 42, 180, 0, 26, 27, 50]
abbrev dktX1_near_0 : List UInt8 := dkwX1_near_0 ++ dktX1_near_1
theorem dksX1_near_0 : cX1_near.data.toList.drop 0 = dktX1_near_0 := by decide +kernel
theorem dksX1_near_1 : cX1_near.data.toList.drop 23 = dktX1_near_1 := dk_seg dksX1_near_0 23 rfl rfl
theorem dksX1_near_2 : cX1_near.data.toList.drop 46 = dktX1_near_2 := dk_seg dksX1_near_1 23 rfl rfl
theorem dksX1_near_3 : cX1_near.data.toList.drop 68 = dktX1_near_3 := dk_seg dksX1_near_2 22 rfl rfl
theorem dksX1_near_4 : cX1_near.data.toList.drop 92 = dktX1_near_4 := dk_seg dksX1_near_3 24 rfl rfl
theorem dksX1_near_5 : cX1_near.data.toList.drop 116 = dktX1_near_5 := dk_seg dksX1_near_4 24 rfl rfl
theorem dX1_near_0 : decode cX1_near 0 = .ok (.aload_n 0, 1) := dk_42 (dk_at dksX1_near_0 0 rfl rfl)
theorem dX1_near_1 : decode cX1_near 1 = .ok (.iload_n 1, 1) := dk_27 (dk_at dksX1_near_0 1 rfl rfl)
theorem dX1_near_2 : decode cX1_near 2 = .ok (.lload_n 2, 1) := dk_32 (dk_at dksX1_near_0 2 rfl rfl)
theorem dX1_near_3 : decode cX1_near 3 = .ok (.invokevirtual 133, 3) := dk_182 0 133 (dk_at dksX1_near_0 3 rfl rfl)
theorem dX1_near_6 : decode cX1_near 6 = .ok (.istore 5, 2) := dk_54 5 (dk_at dksX1_near_0 6 rfl rfl)
theorem dX1_near_8 : decode cX1_near 8 = .ok (.iload 5, 2) := dk_21 5 (dk_at dksX1_near_0 8 rfl rfl)
theorem dX1_near_10 : decode cX1_near 10 = .ok (.ifCond .ne 26, 3) := dk_154 0 26 (dk_at dksX1_near_0 10 rfl rfl)
theorem dX1_near_13 : decode cX1_near 13 = .ok (.iload 4, 2) := dk_21 4 (dk_at dksX1_near_0 13 rfl rfl)
theorem dX1_near_15 : decode cX1_near 15 = .ok (.i2l, 1) := dk_133 (dk_at dksX1_near_0 15 rfl rfl)
theorem dX1_near_16 : decode cX1_near 16 = .ok (.lconst 0, 1) := dk_9 (dk_at dksX1_near_0 16 rfl rfl)
theorem dX1_near_17 : decode cX1_near 17 = .ok (.aload_n 0, 1) := dk_42 (dk_at dksX1_near_0 17 rfl rfl)
theorem dX1_near_18 : decode cX1_near 18 = .ok (.getfield 26, 3) := dk_180 0 26 (dk_at dksX1_near_0 18 rfl rfl)
theorem dX1_near_21 : decode cX1_near 21 = .ok (.iload_n 1, 1) := dk_27 (dk_at dksX1_near_0 21 rfl rfl)
theorem dX1_near_22 : decode cX1_near 22 = .ok (.aaload, 1) := dk_50 (dk_at dksX1_near_0 22 rfl rfl)
theorem dX1_near_23 : decode cX1_near 23 = .ok (.getfield 67, 3) := dk_180 0 67 (dk_at dksX1_near_1 0 rfl rfl)
theorem dX1_near_26 : decode cX1_near 26 = .ok (.i2l, 1) := dk_133 (dk_at dksX1_near_1 3 rfl rfl)
theorem dX1_near_27 : decode cX1_near 27 = .ok (.invokestatic 16, 3) := dk_184 0 16 (dk_at dksX1_near_1 4 rfl rfl)
theorem dX1_near_30 : decode cX1_near 30 = .ok (.ifCond .ne 6, 3) := dk_154 0 6 (dk_at dksX1_near_1 7 rfl rfl)
theorem dX1_near_33 : decode cX1_near 33 = .ok (.iconst (-1), 1) := dk_2 (dk_at dksX1_near_1 10 rfl rfl)
theorem dX1_near_34 : decode cX1_near 34 = .ok (.istore 5, 2) := dk_54 5 (dk_at dksX1_near_1 11 rfl rfl)
theorem dX1_near_36 : decode cX1_near 36 = .ok (.iload 5, 2) := dk_21 5 (dk_at dksX1_near_1 13 rfl rfl)
theorem dX1_near_38 : decode cX1_near 38 = .ok (.ifCond .ne 10, 3) := dk_154 0 10 (dk_at dksX1_near_1 15 rfl rfl)
theorem dX1_near_41 : decode cX1_near 41 = .ok (.aload_n 0, 1) := dk_42 (dk_at dksX1_near_1 18 rfl rfl)
theorem dX1_near_42 : decode cX1_near 42 = .ok (.iload_n 1, 1) := dk_27 (dk_at dksX1_near_1 19 rfl rfl)
theorem dX1_near_43 : decode cX1_near 43 = .ok (.invokevirtual 187, 3) := dk_182 0 187 (dk_at dksX1_near_1 20 rfl rfl)
theorem dX1_near_46 : decode cX1_near 46 = .ok (.istore 5, 2) := dk_54 5 (dk_at dksX1_near_2 0 rfl rfl)
theorem dX1_near_48 : decode cX1_near 48 = .ok (.iload 5, 2) := dk_21 5 (dk_at dksX1_near_2 2 rfl rfl)
theorem dX1_near_50 : decode cX1_near 50 = .ok (.ifCond .eq 6, 3) := dk_153 0 6 (dk_at dksX1_near_2 4 rfl rfl)
theorem dX1_near_53 : decode cX1_near 53 = .ok (.iload 5, 2) := dk_21 5 (dk_at dksX1_near_2 7 rfl rfl)
theorem dX1_near_55 : decode cX1_near 55 = .ok (.ireturn, 1) := dk_172 (dk_at dksX1_near_2 9 rfl rfl)
theorem dX1_near_56 : decode cX1_near 56 = .ok (.iconst 0, 1) := dk_3 (dk_at dksX1_near_2 10 rfl rfl)
theorem dX1_near_57 : decode cX1_near 57 = .ok (.istore 6, 2) := dk_54 6 (dk_at dksX1_near_2 11 rfl rfl)
theorem dX1_near_59 : decode cX1_near 59 = .ok (.iconst 0, 1) := dk_3 (dk_at dksX1_near_2 13 rfl rfl)
theorem dX1_near_60 : decode cX1_near 60 = .ok (.istore 7, 2) := dk_54 7 (dk_at dksX1_near_2 14 rfl rfl)
theorem dX1_near_62 : decode cX1_near 62 = .ok (.iload 7, 2) := dk_21 7 (dk_at dksX1_near_2 16 rfl rfl)
theorem dX1_near_64 : decode cX1_near 64 = .ok (.aload_n 0, 1) := dk_42 (dk_at dksX1_near_2 18 rfl rfl)
theorem dX1_near_65 : decode cX1_near 65 = .ok (.getfield 173, 3) := dk_180 0 173 (dk_at dksX1_near_2 19 rfl rfl)
theorem dX1_near_68 : decode cX1_near 68 = .ok (.if_icmp .ge 54, 3) := dk_162 0 54 (dk_at dksX1_near_3 0 rfl rfl)
theorem dX1_near_71 : decode cX1_near 71 = .ok (.iload 6, 2) := dk_21 6 (dk_at dksX1_near_3 3 rfl rfl)
theorem dX1_near_73 : decode cX1_near 73 = .ok (.aload_n 0, 1) := dk_42 (dk_at dksX1_near_3 5 rfl rfl)
theorem dX1_near_74 : decode cX1_near 74 = .ok (.getfield 26, 3) := dk_180 0 26 (dk_at dksX1_near_3 6 rfl rfl)
theorem dX1_near_77 : decode cX1_near 77 = .ok (.iload_n 1, 1) := dk_27 (dk_at dksX1_near_3 9 rfl rfl)
theorem dX1_near_78 : decode cX1_near 78 = .ok (.aaload, 1) := dk_50 (dk_at dksX1_near_3 10 rfl rfl)
theorem dX1_near_79 : decode cX1_near 79 = .ok (.getfield 64, 3) := dk_180 0 64 (dk_at dksX1_near_3 11 rfl rfl)
theorem dX1_near_82 : decode cX1_near 82 = .ok (.aload_n 0, 1) := dk_42 (dk_at dksX1_near_3 14 rfl rfl)
theorem dX1_near_83 : decode cX1_near 83 = .ok (.getfield 26, 3) := dk_180 0 26 (dk_at dksX1_near_3 15 rfl rfl)
theorem dX1_near_86 : decode cX1_near 86 = .ok (.iload_n 1, 1) := dk_27 (dk_at dksX1_near_3 18 rfl rfl)
theorem dX1_near_87 : decode cX1_near 87 = .ok (.aaload, 1) := dk_50 (dk_at dksX1_near_3 19 rfl rfl)
theorem dX1_near_88 : decode cX1_near 88 = .ok (.getfield 67, 3) := dk_180 0 67 (dk_at dksX1_near_3 20 rfl rfl)
theorem dX1_near_91 : decode cX1_near 91 = .ok (.aload_n 0, 1) := dk_42 (dk_at dksX1_near_3 23 rfl rfl)
theorem dX1_near_92 : decode cX1_near 92 = .ok (.getfield 170, 3) := dk_180 0 170 (dk_at dksX1_near_4 0 rfl rfl)
theorem dX1_near_95 : decode cX1_near 95 = .ok (.iload 7, 2) := dk_21 7 (dk_at dksX1_near_4 3 rfl rfl)
theorem dX1_near_97 : decode cX1_near 97 = .ok (.laload, 1) := dk_47 (dk_at dksX1_near_4 5 rfl rfl)
theorem dX1_near_98 : decode cX1_near 98 = .ok (.lload_n 2, 1) := dk_32 (dk_at dksX1_near_4 6 rfl rfl)
theorem dX1_near_99 : decode cX1_near 99 = .ok (.iconst 0, 1) := dk_3 (dk_at dksX1_near_4 7 rfl rfl)
theorem dX1_near_100 : decode cX1_near 100 = .ok (.invokestatic 150, 3) := dk_184 0 150 (dk_at dksX1_near_4 8 rfl rfl)
theorem dX1_near_103 : decode cX1_near 103 = .ok (.iload 4, 2) := dk_21 4 (dk_at dksX1_near_4 11 rfl rfl)
theorem dX1_near_105 : decode cX1_near 105 = .ok (.if_icmp .gt 7, 3) := dk_163 0 7 (dk_at dksX1_near_4 13 rfl rfl)
theorem dX1_near_108 : decode cX1_near 108 = .ok (.iconst 1, 1) := dk_4 (dk_at dksX1_near_4 16 rfl rfl)
theorem dX1_near_109 : decode cX1_near 109 = .ok (.goto 4, 3) := dk_167 0 4 (dk_at dksX1_near_4 17 rfl rfl)
theorem dX1_near_112 : decode cX1_near 112 = .ok (.iconst 0, 1) := dk_3 (dk_at dksX1_near_4 20 rfl rfl)
theorem dX1_near_113 : decode cX1_near 113 = .ok (.iadd, 1) := dk_96 (dk_at dksX1_near_4 21 rfl rfl)
theorem dX1_near_114 : decode cX1_near 114 = .ok (.istore 6, 2) := dk_54 6 (dk_at dksX1_near_4 22 rfl rfl)
theorem dX1_near_116 : decode cX1_near 116 = .ok (.iinc 7 1, 3) := dk_132 7 1 (dk_at dksX1_near_5 0 rfl rfl)
theorem dX1_near_119 : decode cX1_near 119 = .ok (.goto (-57), 3) := dk_167 255 199 (dk_at dksX1_near_5 3 rfl rfl)
theorem dX1_near_122 : decode cX1_near 122 = .ok (.iload 6, 2) := dk_21 6 (dk_at dksX1_near_5 6 rfl rfl)
theorem dX1_near_124 : decode cX1_near 124 = .ok (.ireturn, 1) := dk_172 (dk_at dksX1_near_5 8 rfl rfl)
abbrev cX1_cover : ByteArray := prog_1_method_54_code
def yX1_cover : MethodName := ⟨RX1, "cover", "(I)I"⟩
def dkwX1_cover_1 : List UInt8 := [172]
abbrev dktX1_cover_1 : List UInt8 := dkwX1_cover_1 ++ []
def dkwX1_cover_0 : List UInt8 := [42, 27, 182, 0, 218, 61, 28, 153, 0, 7, 28, 167, 0, 13, 42, 42, 180, 0, 26, 27, 50, 182, 0, 221]
abbrev dktX1_cover_0 : List UInt8 := dkwX1_cover_0 ++ dktX1_cover_1
theorem dksX1_cover_0 : cX1_cover.data.toList.drop 0 = dktX1_cover_0 := by decide +kernel
theorem dksX1_cover_1 : cX1_cover.data.toList.drop 24 = dktX1_cover_1 := dk_seg dksX1_cover_0 24 rfl rfl
theorem dX1_cover_0 : decode cX1_cover 0 = .ok (.aload_n 0, 1) := dk_42 (dk_at dksX1_cover_0 0 rfl rfl)
theorem dX1_cover_1 : decode cX1_cover 1 = .ok (.iload_n 1, 1) := dk_27 (dk_at dksX1_cover_0 1 rfl rfl)
theorem dX1_cover_2 : decode cX1_cover 2 = .ok (.invokevirtual 218, 3) := dk_182 0 218 (dk_at dksX1_cover_0 2 rfl rfl)
theorem dX1_cover_5 : decode cX1_cover 5 = .ok (.istore_n 2, 1) := dk_61 (dk_at dksX1_cover_0 5 rfl rfl)
theorem dX1_cover_6 : decode cX1_cover 6 = .ok (.iload_n 2, 1) := dk_28 (dk_at dksX1_cover_0 6 rfl rfl)
theorem dX1_cover_7 : decode cX1_cover 7 = .ok (.ifCond .eq 7, 3) := dk_153 0 7 (dk_at dksX1_cover_0 7 rfl rfl)
theorem dX1_cover_10 : decode cX1_cover 10 = .ok (.iload_n 2, 1) := dk_28 (dk_at dksX1_cover_0 10 rfl rfl)
theorem dX1_cover_11 : decode cX1_cover 11 = .ok (.goto 13, 3) := dk_167 0 13 (dk_at dksX1_cover_0 11 rfl rfl)
theorem dX1_cover_14 : decode cX1_cover 14 = .ok (.aload_n 0, 1) := dk_42 (dk_at dksX1_cover_0 14 rfl rfl)
theorem dX1_cover_15 : decode cX1_cover 15 = .ok (.aload_n 0, 1) := dk_42 (dk_at dksX1_cover_0 15 rfl rfl)
theorem dX1_cover_16 : decode cX1_cover 16 = .ok (.getfield 26, 3) := dk_180 0 26 (dk_at dksX1_cover_0 16 rfl rfl)
theorem dX1_cover_19 : decode cX1_cover 19 = .ok (.iload_n 1, 1) := dk_27 (dk_at dksX1_cover_0 19 rfl rfl)
theorem dX1_cover_20 : decode cX1_cover 20 = .ok (.aaload, 1) := dk_50 (dk_at dksX1_cover_0 20 rfl rfl)
theorem dX1_cover_21 : decode cX1_cover 21 = .ok (.invokevirtual 221, 3) := dk_182 0 221 (dk_at dksX1_cover_0 21 rfl rfl)
theorem dX1_cover_24 : decode cX1_cover 24 = .ok (.ireturn, 1) := dk_172 (dk_at dksX1_cover_1 0 rfl rfl)
abbrev cX1_whyHoles : ByteArray := prog_1_method_53_code
def yX1_whyHoles : MethodName := ⟨RX1, "whyHoles", "(I)I"⟩
def dkwX1_whyHoles_2 : List UInt8 := [180, 0, 26, 27, 50, 182, 0, 178, 62, 42, 180, 0, 173, 154, 0, 8, 16, 254, 167, 0, 4, 3, 172]
abbrev dktX1_whyHoles_2 : List UInt8 := dkwX1_whyHoles_2 ++ []
def dkwX1_whyHoles_1 : List UInt8 := [180, 0, 26, 27, 50, 180, 0, 67, 184, 0, 7, 20, 0, 216, 148, 158, 0, 6, 16, 251, 172, 42, 42]
abbrev dktX1_whyHoles_1 : List UInt8 := dkwX1_whyHoles_1 ++ dktX1_whyHoles_2
def dkwX1_whyHoles_0 : List UInt8 := [42, 27, 3, 182, 0, 60, 61, 28, 153, 0, 5, 28, 172, 42, 180, 0, 26, 27, 50, 180, 0, 64, 42]
abbrev dktX1_whyHoles_0 : List UInt8 := dkwX1_whyHoles_0 ++ dktX1_whyHoles_1
theorem dksX1_whyHoles_0 : cX1_whyHoles.data.toList.drop 0 = dktX1_whyHoles_0 := by decide +kernel
theorem dksX1_whyHoles_1 : cX1_whyHoles.data.toList.drop 23 = dktX1_whyHoles_1 := dk_seg dksX1_whyHoles_0 23 rfl rfl
theorem dksX1_whyHoles_2 : cX1_whyHoles.data.toList.drop 46 = dktX1_whyHoles_2 := dk_seg dksX1_whyHoles_1 23 rfl rfl
theorem dX1_whyHoles_0 : decode cX1_whyHoles 0 = .ok (.aload_n 0, 1) := dk_42 (dk_at dksX1_whyHoles_0 0 rfl rfl)
theorem dX1_whyHoles_1 : decode cX1_whyHoles 1 = .ok (.iload_n 1, 1) := dk_27 (dk_at dksX1_whyHoles_0 1 rfl rfl)
theorem dX1_whyHoles_2 : decode cX1_whyHoles 2 = .ok (.iconst 0, 1) := dk_3 (dk_at dksX1_whyHoles_0 2 rfl rfl)
theorem dX1_whyHoles_3 : decode cX1_whyHoles 3 = .ok (.invokevirtual 60, 3) := dk_182 0 60 (dk_at dksX1_whyHoles_0 3 rfl rfl)
theorem dX1_whyHoles_6 : decode cX1_whyHoles 6 = .ok (.istore_n 2, 1) := dk_61 (dk_at dksX1_whyHoles_0 6 rfl rfl)
theorem dX1_whyHoles_7 : decode cX1_whyHoles 7 = .ok (.iload_n 2, 1) := dk_28 (dk_at dksX1_whyHoles_0 7 rfl rfl)
theorem dX1_whyHoles_8 : decode cX1_whyHoles 8 = .ok (.ifCond .eq 5, 3) := dk_153 0 5 (dk_at dksX1_whyHoles_0 8 rfl rfl)
theorem dX1_whyHoles_11 : decode cX1_whyHoles 11 = .ok (.iload_n 2, 1) := dk_28 (dk_at dksX1_whyHoles_0 11 rfl rfl)
theorem dX1_whyHoles_12 : decode cX1_whyHoles 12 = .ok (.ireturn, 1) := dk_172 (dk_at dksX1_whyHoles_0 12 rfl rfl)
theorem dX1_whyHoles_13 : decode cX1_whyHoles 13 = .ok (.aload_n 0, 1) := dk_42 (dk_at dksX1_whyHoles_0 13 rfl rfl)
theorem dX1_whyHoles_14 : decode cX1_whyHoles 14 = .ok (.getfield 26, 3) := dk_180 0 26 (dk_at dksX1_whyHoles_0 14 rfl rfl)
theorem dX1_whyHoles_17 : decode cX1_whyHoles 17 = .ok (.iload_n 1, 1) := dk_27 (dk_at dksX1_whyHoles_0 17 rfl rfl)
theorem dX1_whyHoles_18 : decode cX1_whyHoles 18 = .ok (.aaload, 1) := dk_50 (dk_at dksX1_whyHoles_0 18 rfl rfl)
theorem dX1_whyHoles_19 : decode cX1_whyHoles 19 = .ok (.getfield 64, 3) := dk_180 0 64 (dk_at dksX1_whyHoles_0 19 rfl rfl)
theorem dX1_whyHoles_22 : decode cX1_whyHoles 22 = .ok (.aload_n 0, 1) := dk_42 (dk_at dksX1_whyHoles_0 22 rfl rfl)
theorem dX1_whyHoles_23 : decode cX1_whyHoles 23 = .ok (.getfield 26, 3) := dk_180 0 26 (dk_at dksX1_whyHoles_1 0 rfl rfl)
theorem dX1_whyHoles_26 : decode cX1_whyHoles 26 = .ok (.iload_n 1, 1) := dk_27 (dk_at dksX1_whyHoles_1 3 rfl rfl)
theorem dX1_whyHoles_27 : decode cX1_whyHoles 27 = .ok (.aaload, 1) := dk_50 (dk_at dksX1_whyHoles_1 4 rfl rfl)
theorem dX1_whyHoles_28 : decode cX1_whyHoles 28 = .ok (.getfield 67, 3) := dk_180 0 67 (dk_at dksX1_whyHoles_1 5 rfl rfl)
theorem dX1_whyHoles_31 : decode cX1_whyHoles 31 = .ok (.invokestatic 7, 3) := dk_184 0 7 (dk_at dksX1_whyHoles_1 8 rfl rfl)
theorem dX1_whyHoles_34 : decode cX1_whyHoles 34 = .ok (.ldc2_w 216, 3) := dk_20 0 216 (dk_at dksX1_whyHoles_1 11 rfl rfl)
theorem dX1_whyHoles_37 : decode cX1_whyHoles 37 = .ok (.lcmp, 1) := dk_148 (dk_at dksX1_whyHoles_1 14 rfl rfl)
theorem dX1_whyHoles_38 : decode cX1_whyHoles 38 = .ok (.ifCond .le 6, 3) := dk_158 0 6 (dk_at dksX1_whyHoles_1 15 rfl rfl)
theorem dX1_whyHoles_41 : decode cX1_whyHoles 41 = .ok (.bipush (-5), 2) := dk_16 251 (dk_at dksX1_whyHoles_1 18 rfl rfl)
theorem dX1_whyHoles_43 : decode cX1_whyHoles 43 = .ok (.ireturn, 1) := dk_172 (dk_at dksX1_whyHoles_1 20 rfl rfl)
theorem dX1_whyHoles_44 : decode cX1_whyHoles 44 = .ok (.aload_n 0, 1) := dk_42 (dk_at dksX1_whyHoles_1 21 rfl rfl)
theorem dX1_whyHoles_45 : decode cX1_whyHoles 45 = .ok (.aload_n 0, 1) := dk_42 (dk_at dksX1_whyHoles_1 22 rfl rfl)
theorem dX1_whyHoles_46 : decode cX1_whyHoles 46 = .ok (.getfield 26, 3) := dk_180 0 26 (dk_at dksX1_whyHoles_2 0 rfl rfl)
theorem dX1_whyHoles_49 : decode cX1_whyHoles 49 = .ok (.iload_n 1, 1) := dk_27 (dk_at dksX1_whyHoles_2 3 rfl rfl)
theorem dX1_whyHoles_50 : decode cX1_whyHoles 50 = .ok (.aaload, 1) := dk_50 (dk_at dksX1_whyHoles_2 4 rfl rfl)
theorem dX1_whyHoles_51 : decode cX1_whyHoles 51 = .ok (.invokevirtual 178, 3) := dk_182 0 178 (dk_at dksX1_whyHoles_2 5 rfl rfl)
theorem dX1_whyHoles_54 : decode cX1_whyHoles 54 = .ok (.istore_n 3, 1) := dk_62 (dk_at dksX1_whyHoles_2 8 rfl rfl)
theorem dX1_whyHoles_55 : decode cX1_whyHoles 55 = .ok (.aload_n 0, 1) := dk_42 (dk_at dksX1_whyHoles_2 9 rfl rfl)
theorem dX1_whyHoles_56 : decode cX1_whyHoles 56 = .ok (.getfield 173, 3) := dk_180 0 173 (dk_at dksX1_whyHoles_2 10 rfl rfl)
theorem dX1_whyHoles_59 : decode cX1_whyHoles 59 = .ok (.ifCond .ne 8, 3) := dk_154 0 8 (dk_at dksX1_whyHoles_2 13 rfl rfl)
theorem dX1_whyHoles_62 : decode cX1_whyHoles 62 = .ok (.bipush (-2), 2) := dk_16 254 (dk_at dksX1_whyHoles_2 16 rfl rfl)
theorem dX1_whyHoles_64 : decode cX1_whyHoles 64 = .ok (.goto 4, 3) := dk_167 0 4 (dk_at dksX1_whyHoles_2 18 rfl rfl)
theorem dX1_whyHoles_67 : decode cX1_whyHoles 67 = .ok (.iconst 0, 1) := dk_3 (dk_at dksX1_whyHoles_2 21 rfl rfl)
theorem dX1_whyHoles_68 : decode cX1_whyHoles 68 = .ok (.ireturn, 1) := dk_172 (dk_at dksX1_whyHoles_2 22 rfl rfl)
abbrev cX1_covers : ByteArray := prog_1_method_52_code
def yX1_covers : MethodName := ⟨RX1, "covers", "(LWordBench$Code;)I"⟩
def dkwX1_covers_3 : List UInt8 := [28, 172]
abbrev dktX1_covers_3 : List UInt8 := dkwX1_covers_3 ++ []
def dkwX1_covers_2 : List UInt8 := [21, 5, 28, 163, 0, 6, 167, 0, 11, 21, 5, 61, 42, 33, 181, 0, 212, 33, 10, 97, 66, 167, 255, 192]
abbrev dktX1_covers_2 : List UInt8 := dkwX1_covers_2 ++ dktX1_covers_3
def dkwX1_covers_1 : List UInt8 := [43, 180, 0, 67, 42, 180, 0, 170, 42, 43, 33, 3, 182, 0, 206, 47, 33, 3, 184, 0, 150, 54, 5]
abbrev dktX1_covers_1 : List UInt8 := dkwX1_covers_1 ++ dktX1_covers_2
def dkwX1_covers_0 : List UInt8 := [2, 61, 9, 66, 33, 43, 180, 0, 64, 43, 180, 0, 67, 184, 0, 7, 148, 156, 0, 54, 43, 180, 0, 64]
abbrev dktX1_covers_0 : List UInt8 := dkwX1_covers_0 ++ dktX1_covers_1
theorem dksX1_covers_0 : cX1_covers.data.toList.drop 0 = dktX1_covers_0 := by decide +kernel
theorem dksX1_covers_1 : cX1_covers.data.toList.drop 24 = dktX1_covers_1 := dk_seg dksX1_covers_0 24 rfl rfl
theorem dksX1_covers_2 : cX1_covers.data.toList.drop 47 = dktX1_covers_2 := dk_seg dksX1_covers_1 23 rfl rfl
theorem dksX1_covers_3 : cX1_covers.data.toList.drop 71 = dktX1_covers_3 := dk_seg dksX1_covers_2 24 rfl rfl
theorem dX1_covers_0 : decode cX1_covers 0 = .ok (.iconst (-1), 1) := dk_2 (dk_at dksX1_covers_0 0 rfl rfl)
theorem dX1_covers_1 : decode cX1_covers 1 = .ok (.istore_n 2, 1) := dk_61 (dk_at dksX1_covers_0 1 rfl rfl)
theorem dX1_covers_2 : decode cX1_covers 2 = .ok (.lconst 0, 1) := dk_9 (dk_at dksX1_covers_0 2 rfl rfl)
theorem dX1_covers_3 : decode cX1_covers 3 = .ok (.lstore_n 3, 1) := dk_66 (dk_at dksX1_covers_0 3 rfl rfl)
theorem dX1_covers_4 : decode cX1_covers 4 = .ok (.lload_n 3, 1) := dk_33 (dk_at dksX1_covers_0 4 rfl rfl)
theorem dX1_covers_5 : decode cX1_covers 5 = .ok (.aload_n 1, 1) := dk_43 (dk_at dksX1_covers_0 5 rfl rfl)
theorem dX1_covers_6 : decode cX1_covers 6 = .ok (.getfield 64, 3) := dk_180 0 64 (dk_at dksX1_covers_0 6 rfl rfl)
theorem dX1_covers_9 : decode cX1_covers 9 = .ok (.aload_n 1, 1) := dk_43 (dk_at dksX1_covers_0 9 rfl rfl)
theorem dX1_covers_10 : decode cX1_covers 10 = .ok (.getfield 67, 3) := dk_180 0 67 (dk_at dksX1_covers_0 10 rfl rfl)
theorem dX1_covers_13 : decode cX1_covers 13 = .ok (.invokestatic 7, 3) := dk_184 0 7 (dk_at dksX1_covers_0 13 rfl rfl)
theorem dX1_covers_16 : decode cX1_covers 16 = .ok (.lcmp, 1) := dk_148 (dk_at dksX1_covers_0 16 rfl rfl)
theorem dX1_covers_17 : decode cX1_covers 17 = .ok (.ifCond .ge 54, 3) := dk_156 0 54 (dk_at dksX1_covers_0 17 rfl rfl)
theorem dX1_covers_20 : decode cX1_covers 20 = .ok (.aload_n 1, 1) := dk_43 (dk_at dksX1_covers_0 20 rfl rfl)
theorem dX1_covers_21 : decode cX1_covers 21 = .ok (.getfield 64, 3) := dk_180 0 64 (dk_at dksX1_covers_0 21 rfl rfl)
theorem dX1_covers_24 : decode cX1_covers 24 = .ok (.aload_n 1, 1) := dk_43 (dk_at dksX1_covers_1 0 rfl rfl)
theorem dX1_covers_25 : decode cX1_covers 25 = .ok (.getfield 67, 3) := dk_180 0 67 (dk_at dksX1_covers_1 1 rfl rfl)
theorem dX1_covers_28 : decode cX1_covers 28 = .ok (.aload_n 0, 1) := dk_42 (dk_at dksX1_covers_1 4 rfl rfl)
theorem dX1_covers_29 : decode cX1_covers 29 = .ok (.getfield 170, 3) := dk_180 0 170 (dk_at dksX1_covers_1 5 rfl rfl)
theorem dX1_covers_32 : decode cX1_covers 32 = .ok (.aload_n 0, 1) := dk_42 (dk_at dksX1_covers_1 8 rfl rfl)
theorem dX1_covers_33 : decode cX1_covers 33 = .ok (.aload_n 1, 1) := dk_43 (dk_at dksX1_covers_1 9 rfl rfl)
theorem dX1_covers_34 : decode cX1_covers 34 = .ok (.lload_n 3, 1) := dk_33 (dk_at dksX1_covers_1 10 rfl rfl)
theorem dX1_covers_35 : decode cX1_covers 35 = .ok (.iconst 0, 1) := dk_3 (dk_at dksX1_covers_1 11 rfl rfl)
theorem dX1_covers_36 : decode cX1_covers 36 = .ok (.invokevirtual 206, 3) := dk_182 0 206 (dk_at dksX1_covers_1 12 rfl rfl)
theorem dX1_covers_39 : decode cX1_covers 39 = .ok (.laload, 1) := dk_47 (dk_at dksX1_covers_1 15 rfl rfl)
theorem dX1_covers_40 : decode cX1_covers 40 = .ok (.lload_n 3, 1) := dk_33 (dk_at dksX1_covers_1 16 rfl rfl)
theorem dX1_covers_41 : decode cX1_covers 41 = .ok (.iconst 0, 1) := dk_3 (dk_at dksX1_covers_1 17 rfl rfl)
theorem dX1_covers_42 : decode cX1_covers 42 = .ok (.invokestatic 150, 3) := dk_184 0 150 (dk_at dksX1_covers_1 18 rfl rfl)
theorem dX1_covers_45 : decode cX1_covers 45 = .ok (.istore 5, 2) := dk_54 5 (dk_at dksX1_covers_1 21 rfl rfl)
theorem dX1_covers_47 : decode cX1_covers 47 = .ok (.iload 5, 2) := dk_21 5 (dk_at dksX1_covers_2 0 rfl rfl)
theorem dX1_covers_49 : decode cX1_covers 49 = .ok (.iload_n 2, 1) := dk_28 (dk_at dksX1_covers_2 2 rfl rfl)
theorem dX1_covers_50 : decode cX1_covers 50 = .ok (.if_icmp .gt 6, 3) := dk_163 0 6 (dk_at dksX1_covers_2 3 rfl rfl)
theorem dX1_covers_53 : decode cX1_covers 53 = .ok (.goto 11, 3) := dk_167 0 11 (dk_at dksX1_covers_2 6 rfl rfl)
theorem dX1_covers_56 : decode cX1_covers 56 = .ok (.iload 5, 2) := dk_21 5 (dk_at dksX1_covers_2 9 rfl rfl)
theorem dX1_covers_58 : decode cX1_covers 58 = .ok (.istore_n 2, 1) := dk_61 (dk_at dksX1_covers_2 11 rfl rfl)
theorem dX1_covers_59 : decode cX1_covers 59 = .ok (.aload_n 0, 1) := dk_42 (dk_at dksX1_covers_2 12 rfl rfl)
theorem dX1_covers_60 : decode cX1_covers 60 = .ok (.lload_n 3, 1) := dk_33 (dk_at dksX1_covers_2 13 rfl rfl)
theorem dX1_covers_61 : decode cX1_covers 61 = .ok (.putfield 212, 3) := dk_181 0 212 (dk_at dksX1_covers_2 14 rfl rfl)
theorem dX1_covers_64 : decode cX1_covers 64 = .ok (.lload_n 3, 1) := dk_33 (dk_at dksX1_covers_2 17 rfl rfl)
theorem dX1_covers_65 : decode cX1_covers 65 = .ok (.lconst 1, 1) := dk_10 (dk_at dksX1_covers_2 18 rfl rfl)
theorem dX1_covers_66 : decode cX1_covers 66 = .ok (.ladd, 1) := dk_97 (dk_at dksX1_covers_2 19 rfl rfl)
theorem dX1_covers_67 : decode cX1_covers 67 = .ok (.lstore_n 3, 1) := dk_66 (dk_at dksX1_covers_2 20 rfl rfl)
theorem dX1_covers_68 : decode cX1_covers 68 = .ok (.goto (-64), 3) := dk_167 255 192 (dk_at dksX1_covers_2 21 rfl rfl)
theorem dX1_covers_71 : decode cX1_covers 71 = .ok (.iload_n 2, 1) := dk_28 (dk_at dksX1_covers_3 0 rfl rfl)
theorem dX1_covers_72 : decode cX1_covers 72 = .ok (.ireturn, 1) := dk_172 (dk_at dksX1_covers_3 1 rfl rfl)
abbrev cX1_hole : ByteArray := prog_1_method_55_code
def yX1_hole : MethodName := ⟨RX1, "hole", "(I)J"⟩
def dkwX1_hole_1 : List UInt8 := [42, 180, 0, 212, 173]
abbrev dktX1_hole_1 : List UInt8 := dkwX1_hole_1 ++ []
def dkwX1_hole_0 : List UInt8 := [42, 27, 182, 0, 218, 61, 28, 153, 0, 6, 28, 133, 173, 42, 42, 180, 0, 26, 27, 50, 182, 0, 221, 62]
abbrev dktX1_hole_0 : List UInt8 := dkwX1_hole_0 ++ dktX1_hole_1
theorem dksX1_hole_0 : cX1_hole.data.toList.drop 0 = dktX1_hole_0 := by decide +kernel
theorem dksX1_hole_1 : cX1_hole.data.toList.drop 24 = dktX1_hole_1 := dk_seg dksX1_hole_0 24 rfl rfl
theorem dX1_hole_0 : decode cX1_hole 0 = .ok (.aload_n 0, 1) := dk_42 (dk_at dksX1_hole_0 0 rfl rfl)
theorem dX1_hole_1 : decode cX1_hole 1 = .ok (.iload_n 1, 1) := dk_27 (dk_at dksX1_hole_0 1 rfl rfl)
theorem dX1_hole_2 : decode cX1_hole 2 = .ok (.invokevirtual 218, 3) := dk_182 0 218 (dk_at dksX1_hole_0 2 rfl rfl)
theorem dX1_hole_5 : decode cX1_hole 5 = .ok (.istore_n 2, 1) := dk_61 (dk_at dksX1_hole_0 5 rfl rfl)
theorem dX1_hole_6 : decode cX1_hole 6 = .ok (.iload_n 2, 1) := dk_28 (dk_at dksX1_hole_0 6 rfl rfl)
theorem dX1_hole_7 : decode cX1_hole 7 = .ok (.ifCond .eq 6, 3) := dk_153 0 6 (dk_at dksX1_hole_0 7 rfl rfl)
theorem dX1_hole_10 : decode cX1_hole 10 = .ok (.iload_n 2, 1) := dk_28 (dk_at dksX1_hole_0 10 rfl rfl)
theorem dX1_hole_11 : decode cX1_hole 11 = .ok (.i2l, 1) := dk_133 (dk_at dksX1_hole_0 11 rfl rfl)
theorem dX1_hole_12 : decode cX1_hole 12 = .ok (.lreturn, 1) := dk_173 (dk_at dksX1_hole_0 12 rfl rfl)
theorem dX1_hole_13 : decode cX1_hole 13 = .ok (.aload_n 0, 1) := dk_42 (dk_at dksX1_hole_0 13 rfl rfl)
theorem dX1_hole_14 : decode cX1_hole 14 = .ok (.aload_n 0, 1) := dk_42 (dk_at dksX1_hole_0 14 rfl rfl)
theorem dX1_hole_15 : decode cX1_hole 15 = .ok (.getfield 26, 3) := dk_180 0 26 (dk_at dksX1_hole_0 15 rfl rfl)
theorem dX1_hole_18 : decode cX1_hole 18 = .ok (.iload_n 1, 1) := dk_27 (dk_at dksX1_hole_0 18 rfl rfl)
theorem dX1_hole_19 : decode cX1_hole 19 = .ok (.aaload, 1) := dk_50 (dk_at dksX1_hole_0 19 rfl rfl)
theorem dX1_hole_20 : decode cX1_hole 20 = .ok (.invokevirtual 221, 3) := dk_182 0 221 (dk_at dksX1_hole_0 20 rfl rfl)
theorem dX1_hole_23 : decode cX1_hole 23 = .ok (.istore_n 3, 1) := dk_62 (dk_at dksX1_hole_0 23 rfl rfl)
theorem dX1_hole_24 : decode cX1_hole 24 = .ok (.aload_n 0, 1) := dk_42 (dk_at dksX1_hole_1 0 rfl rfl)
theorem dX1_hole_25 : decode cX1_hole 25 = .ok (.getfield 212, 3) := dk_180 0 212 (dk_at dksX1_hole_1 1 rfl rfl)
theorem dX1_hole_28 : decode cX1_hole 28 = .ok (.lreturn, 1) := dk_173 (dk_at dksX1_hole_1 4 rfl rfl)
abbrev cX1_whole : ByteArray := prog_1_method_56_code
def yX1_whole : MethodName := ⟨RX1, "whole", "(I)I"⟩
def dkwX1_whole_6 : List UInt8 := [167, 255, 168, 4, 172]
abbrev dktX1_whole_6 : List UInt8 := dkwX1_whole_6 ++ []
def dkwX1_whole_5 : List UInt8 := [54, 8, 132, 9, 1, 167, 255, 208, 21, 8, 4, 159, 0, 5, 3, 172, 22, 6, 10, 97, 55, 6]
abbrev dktX1_whole_5 : List UInt8 := dkwX1_whole_5 ++ dktX1_whole_6
def dkwX1_whole_4 : List UInt8 := [180, 0, 170, 21, 9, 47, 22, 6, 3, 184, 0, 150, 21, 5, 163, 0, 7, 4, 167, 0, 4, 3, 96]
abbrev dktX1_whole_4 : List UInt8 := dkwX1_whole_4 ++ dktX1_whole_5
def dkwX1_whole_3 : List UInt8 := [54, 9, 21, 9, 42, 180, 0, 173, 162, 0, 45, 21, 8, 45, 180, 0, 64, 45, 180, 0, 67, 42]
abbrev dktX1_whole_3 : List UInt8 := dkwX1_whole_3 ++ dktX1_whole_4
def dkwX1_whole_2 : List UInt8 := [55, 6, 22, 6, 45, 180, 0, 64, 45, 180, 0, 67, 184, 0, 7, 148, 156, 0, 77, 3, 54, 8, 3]
abbrev dktX1_whole_2 : List UInt8 := dkwX1_whole_2 ++ dktX1_whole_3
def dkwX1_whole_1 : List UInt8 := [78, 42, 45, 182, 0, 191, 54, 4, 21, 4, 154, 0, 5, 3, 172, 21, 4, 4, 100, 5, 108, 54, 5, 9]
abbrev dktX1_whole_1 : List UInt8 := dkwX1_whole_1 ++ dktX1_whole_2
def dkwX1_whole_0 : List UInt8 := [42, 27, 182, 0, 218, 61, 28, 153, 0, 11, 28, 16, 254, 159, 0, 5, 28, 172, 42, 180, 0, 26, 27, 50]
abbrev dktX1_whole_0 : List UInt8 := dkwX1_whole_0 ++ dktX1_whole_1
theorem dksX1_whole_0 : cX1_whole.data.toList.drop 0 = dktX1_whole_0 := by decide +kernel
theorem dksX1_whole_1 : cX1_whole.data.toList.drop 24 = dktX1_whole_1 := dk_seg dksX1_whole_0 24 rfl rfl
theorem dksX1_whole_2 : cX1_whole.data.toList.drop 48 = dktX1_whole_2 := dk_seg dksX1_whole_1 24 rfl rfl
theorem dksX1_whole_3 : cX1_whole.data.toList.drop 71 = dktX1_whole_3 := dk_seg dksX1_whole_2 23 rfl rfl
theorem dksX1_whole_4 : cX1_whole.data.toList.drop 93 = dktX1_whole_4 := dk_seg dksX1_whole_3 22 rfl rfl
theorem dksX1_whole_5 : cX1_whole.data.toList.drop 116 = dktX1_whole_5 := dk_seg dksX1_whole_4 23 rfl rfl
theorem dksX1_whole_6 : cX1_whole.data.toList.drop 138 = dktX1_whole_6 := dk_seg dksX1_whole_5 22 rfl rfl
theorem dX1_whole_0 : decode cX1_whole 0 = .ok (.aload_n 0, 1) := dk_42 (dk_at dksX1_whole_0 0 rfl rfl)
theorem dX1_whole_1 : decode cX1_whole 1 = .ok (.iload_n 1, 1) := dk_27 (dk_at dksX1_whole_0 1 rfl rfl)
theorem dX1_whole_2 : decode cX1_whole 2 = .ok (.invokevirtual 218, 3) := dk_182 0 218 (dk_at dksX1_whole_0 2 rfl rfl)
theorem dX1_whole_5 : decode cX1_whole 5 = .ok (.istore_n 2, 1) := dk_61 (dk_at dksX1_whole_0 5 rfl rfl)
theorem dX1_whole_6 : decode cX1_whole 6 = .ok (.iload_n 2, 1) := dk_28 (dk_at dksX1_whole_0 6 rfl rfl)
theorem dX1_whole_7 : decode cX1_whole 7 = .ok (.ifCond .eq 11, 3) := dk_153 0 11 (dk_at dksX1_whole_0 7 rfl rfl)
theorem dX1_whole_10 : decode cX1_whole 10 = .ok (.iload_n 2, 1) := dk_28 (dk_at dksX1_whole_0 10 rfl rfl)
theorem dX1_whole_11 : decode cX1_whole 11 = .ok (.bipush (-2), 2) := dk_16 254 (dk_at dksX1_whole_0 11 rfl rfl)
theorem dX1_whole_13 : decode cX1_whole 13 = .ok (.if_icmp .eq 5, 3) := dk_159 0 5 (dk_at dksX1_whole_0 13 rfl rfl)
theorem dX1_whole_16 : decode cX1_whole 16 = .ok (.iload_n 2, 1) := dk_28 (dk_at dksX1_whole_0 16 rfl rfl)
theorem dX1_whole_17 : decode cX1_whole 17 = .ok (.ireturn, 1) := dk_172 (dk_at dksX1_whole_0 17 rfl rfl)
theorem dX1_whole_18 : decode cX1_whole 18 = .ok (.aload_n 0, 1) := dk_42 (dk_at dksX1_whole_0 18 rfl rfl)
theorem dX1_whole_19 : decode cX1_whole 19 = .ok (.getfield 26, 3) := dk_180 0 26 (dk_at dksX1_whole_0 19 rfl rfl)
theorem dX1_whole_22 : decode cX1_whole 22 = .ok (.iload_n 1, 1) := dk_27 (dk_at dksX1_whole_0 22 rfl rfl)
theorem dX1_whole_23 : decode cX1_whole 23 = .ok (.aaload, 1) := dk_50 (dk_at dksX1_whole_0 23 rfl rfl)
theorem dX1_whole_24 : decode cX1_whole 24 = .ok (.astore_n 3, 1) := dk_78 (dk_at dksX1_whole_1 0 rfl rfl)
theorem dX1_whole_25 : decode cX1_whole 25 = .ok (.aload_n 0, 1) := dk_42 (dk_at dksX1_whole_1 1 rfl rfl)
theorem dX1_whole_26 : decode cX1_whole 26 = .ok (.aload_n 3, 1) := dk_45 (dk_at dksX1_whole_1 2 rfl rfl)
theorem dX1_whole_27 : decode cX1_whole 27 = .ok (.invokevirtual 191, 3) := dk_182 0 191 (dk_at dksX1_whole_1 3 rfl rfl)
theorem dX1_whole_30 : decode cX1_whole 30 = .ok (.istore 4, 2) := dk_54 4 (dk_at dksX1_whole_1 6 rfl rfl)
theorem dX1_whole_32 : decode cX1_whole 32 = .ok (.iload 4, 2) := dk_21 4 (dk_at dksX1_whole_1 8 rfl rfl)
theorem dX1_whole_34 : decode cX1_whole 34 = .ok (.ifCond .ne 5, 3) := dk_154 0 5 (dk_at dksX1_whole_1 10 rfl rfl)
theorem dX1_whole_37 : decode cX1_whole 37 = .ok (.iconst 0, 1) := dk_3 (dk_at dksX1_whole_1 13 rfl rfl)
theorem dX1_whole_38 : decode cX1_whole 38 = .ok (.ireturn, 1) := dk_172 (dk_at dksX1_whole_1 14 rfl rfl)
theorem dX1_whole_39 : decode cX1_whole 39 = .ok (.iload 4, 2) := dk_21 4 (dk_at dksX1_whole_1 15 rfl rfl)
theorem dX1_whole_41 : decode cX1_whole 41 = .ok (.iconst 1, 1) := dk_4 (dk_at dksX1_whole_1 17 rfl rfl)
theorem dX1_whole_42 : decode cX1_whole 42 = .ok (.isub, 1) := dk_100 (dk_at dksX1_whole_1 18 rfl rfl)
theorem dX1_whole_43 : decode cX1_whole 43 = .ok (.iconst 2, 1) := dk_5 (dk_at dksX1_whole_1 19 rfl rfl)
theorem dX1_whole_44 : decode cX1_whole 44 = .ok (.idiv, 1) := dk_108 (dk_at dksX1_whole_1 20 rfl rfl)
theorem dX1_whole_45 : decode cX1_whole 45 = .ok (.istore 5, 2) := dk_54 5 (dk_at dksX1_whole_1 21 rfl rfl)
theorem dX1_whole_47 : decode cX1_whole 47 = .ok (.lconst 0, 1) := dk_9 (dk_at dksX1_whole_1 23 rfl rfl)
theorem dX1_whole_48 : decode cX1_whole 48 = .ok (.lstore 6, 2) := dk_55 6 (dk_at dksX1_whole_2 0 rfl rfl)
theorem dX1_whole_50 : decode cX1_whole 50 = .ok (.lload 6, 2) := dk_22 6 (dk_at dksX1_whole_2 2 rfl rfl)
theorem dX1_whole_52 : decode cX1_whole 52 = .ok (.aload_n 3, 1) := dk_45 (dk_at dksX1_whole_2 4 rfl rfl)
theorem dX1_whole_53 : decode cX1_whole 53 = .ok (.getfield 64, 3) := dk_180 0 64 (dk_at dksX1_whole_2 5 rfl rfl)
theorem dX1_whole_56 : decode cX1_whole 56 = .ok (.aload_n 3, 1) := dk_45 (dk_at dksX1_whole_2 8 rfl rfl)
theorem dX1_whole_57 : decode cX1_whole 57 = .ok (.getfield 67, 3) := dk_180 0 67 (dk_at dksX1_whole_2 9 rfl rfl)
theorem dX1_whole_60 : decode cX1_whole 60 = .ok (.invokestatic 7, 3) := dk_184 0 7 (dk_at dksX1_whole_2 12 rfl rfl)
theorem dX1_whole_63 : decode cX1_whole 63 = .ok (.lcmp, 1) := dk_148 (dk_at dksX1_whole_2 15 rfl rfl)
theorem dX1_whole_64 : decode cX1_whole 64 = .ok (.ifCond .ge 77, 3) := dk_156 0 77 (dk_at dksX1_whole_2 16 rfl rfl)
theorem dX1_whole_67 : decode cX1_whole 67 = .ok (.iconst 0, 1) := dk_3 (dk_at dksX1_whole_2 19 rfl rfl)
theorem dX1_whole_68 : decode cX1_whole 68 = .ok (.istore 8, 2) := dk_54 8 (dk_at dksX1_whole_2 20 rfl rfl)
theorem dX1_whole_70 : decode cX1_whole 70 = .ok (.iconst 0, 1) := dk_3 (dk_at dksX1_whole_2 22 rfl rfl)
theorem dX1_whole_71 : decode cX1_whole 71 = .ok (.istore 9, 2) := dk_54 9 (dk_at dksX1_whole_3 0 rfl rfl)
theorem dX1_whole_73 : decode cX1_whole 73 = .ok (.iload 9, 2) := dk_21 9 (dk_at dksX1_whole_3 2 rfl rfl)
theorem dX1_whole_75 : decode cX1_whole 75 = .ok (.aload_n 0, 1) := dk_42 (dk_at dksX1_whole_3 4 rfl rfl)
theorem dX1_whole_76 : decode cX1_whole 76 = .ok (.getfield 173, 3) := dk_180 0 173 (dk_at dksX1_whole_3 5 rfl rfl)
theorem dX1_whole_79 : decode cX1_whole 79 = .ok (.if_icmp .ge 45, 3) := dk_162 0 45 (dk_at dksX1_whole_3 8 rfl rfl)
theorem dX1_whole_82 : decode cX1_whole 82 = .ok (.iload 8, 2) := dk_21 8 (dk_at dksX1_whole_3 11 rfl rfl)
theorem dX1_whole_84 : decode cX1_whole 84 = .ok (.aload_n 3, 1) := dk_45 (dk_at dksX1_whole_3 13 rfl rfl)
theorem dX1_whole_85 : decode cX1_whole 85 = .ok (.getfield 64, 3) := dk_180 0 64 (dk_at dksX1_whole_3 14 rfl rfl)
theorem dX1_whole_88 : decode cX1_whole 88 = .ok (.aload_n 3, 1) := dk_45 (dk_at dksX1_whole_3 17 rfl rfl)
theorem dX1_whole_89 : decode cX1_whole 89 = .ok (.getfield 67, 3) := dk_180 0 67 (dk_at dksX1_whole_3 18 rfl rfl)
theorem dX1_whole_92 : decode cX1_whole 92 = .ok (.aload_n 0, 1) := dk_42 (dk_at dksX1_whole_3 21 rfl rfl)
theorem dX1_whole_93 : decode cX1_whole 93 = .ok (.getfield 170, 3) := dk_180 0 170 (dk_at dksX1_whole_4 0 rfl rfl)
theorem dX1_whole_96 : decode cX1_whole 96 = .ok (.iload 9, 2) := dk_21 9 (dk_at dksX1_whole_4 3 rfl rfl)
theorem dX1_whole_98 : decode cX1_whole 98 = .ok (.laload, 1) := dk_47 (dk_at dksX1_whole_4 5 rfl rfl)
theorem dX1_whole_99 : decode cX1_whole 99 = .ok (.lload 6, 2) := dk_22 6 (dk_at dksX1_whole_4 6 rfl rfl)
theorem dX1_whole_101 : decode cX1_whole 101 = .ok (.iconst 0, 1) := dk_3 (dk_at dksX1_whole_4 8 rfl rfl)
theorem dX1_whole_102 : decode cX1_whole 102 = .ok (.invokestatic 150, 3) := dk_184 0 150 (dk_at dksX1_whole_4 9 rfl rfl)
theorem dX1_whole_105 : decode cX1_whole 105 = .ok (.iload 5, 2) := dk_21 5 (dk_at dksX1_whole_4 12 rfl rfl)
theorem dX1_whole_107 : decode cX1_whole 107 = .ok (.if_icmp .gt 7, 3) := dk_163 0 7 (dk_at dksX1_whole_4 14 rfl rfl)
theorem dX1_whole_110 : decode cX1_whole 110 = .ok (.iconst 1, 1) := dk_4 (dk_at dksX1_whole_4 17 rfl rfl)
theorem dX1_whole_111 : decode cX1_whole 111 = .ok (.goto 4, 3) := dk_167 0 4 (dk_at dksX1_whole_4 18 rfl rfl)
theorem dX1_whole_114 : decode cX1_whole 114 = .ok (.iconst 0, 1) := dk_3 (dk_at dksX1_whole_4 21 rfl rfl)
theorem dX1_whole_115 : decode cX1_whole 115 = .ok (.iadd, 1) := dk_96 (dk_at dksX1_whole_4 22 rfl rfl)
theorem dX1_whole_116 : decode cX1_whole 116 = .ok (.istore 8, 2) := dk_54 8 (dk_at dksX1_whole_5 0 rfl rfl)
theorem dX1_whole_118 : decode cX1_whole 118 = .ok (.iinc 9 1, 3) := dk_132 9 1 (dk_at dksX1_whole_5 2 rfl rfl)
theorem dX1_whole_121 : decode cX1_whole 121 = .ok (.goto (-48), 3) := dk_167 255 208 (dk_at dksX1_whole_5 5 rfl rfl)
theorem dX1_whole_124 : decode cX1_whole 124 = .ok (.iload 8, 2) := dk_21 8 (dk_at dksX1_whole_5 8 rfl rfl)
theorem dX1_whole_126 : decode cX1_whole 126 = .ok (.iconst 1, 1) := dk_4 (dk_at dksX1_whole_5 10 rfl rfl)
theorem dX1_whole_127 : decode cX1_whole 127 = .ok (.if_icmp .eq 5, 3) := dk_159 0 5 (dk_at dksX1_whole_5 11 rfl rfl)
theorem dX1_whole_130 : decode cX1_whole 130 = .ok (.iconst 0, 1) := dk_3 (dk_at dksX1_whole_5 14 rfl rfl)
theorem dX1_whole_131 : decode cX1_whole 131 = .ok (.ireturn, 1) := dk_172 (dk_at dksX1_whole_5 15 rfl rfl)
theorem dX1_whole_132 : decode cX1_whole 132 = .ok (.lload 6, 2) := dk_22 6 (dk_at dksX1_whole_5 16 rfl rfl)
theorem dX1_whole_134 : decode cX1_whole 134 = .ok (.lconst 1, 1) := dk_10 (dk_at dksX1_whole_5 18 rfl rfl)
theorem dX1_whole_135 : decode cX1_whole 135 = .ok (.ladd, 1) := dk_97 (dk_at dksX1_whole_5 19 rfl rfl)
theorem dX1_whole_136 : decode cX1_whole 136 = .ok (.lstore 6, 2) := dk_55 6 (dk_at dksX1_whole_5 20 rfl rfl)
theorem dX1_whole_138 : decode cX1_whole 138 = .ok (.goto (-88), 3) := dk_167 255 168 (dk_at dksX1_whole_6 0 rfl rfl)
theorem dX1_whole_141 : decode cX1_whole 141 = .ok (.iconst 1, 1) := dk_4 (dk_at dksX1_whole_6 3 rfl rfl)
theorem dX1_whole_142 : decode cX1_whole 142 = .ok (.ireturn, 1) := dk_172 (dk_at dksX1_whole_6 4 rfl rfl)
abbrev cX1_longer : ByteArray := prog_1_method_60_code
def yX1_longer : MethodName := ⟨RX1, "longer", "(II)I"⟩
def dkwX1_longer_7 : List UInt8 := [182, 0, 78, 132, 6, 1, 167, 255, 154, 42, 28, 25, 5, 182, 0, 56, 172]
abbrev dktX1_longer_7 : List UInt8 := dkwX1_longer_7 ++ []
def dkwX1_longer_6 : List UInt8 := [21, 6, 47, 25, 4, 180, 0, 64, 133, 105, 25, 4, 180, 0, 64, 21, 7, 184, 0, 232, 133, 97]
abbrev dktX1_longer_6 : List UInt8 := dkwX1_longer_6 ++ dktX1_longer_7
def dkwX1_longer_5 : List UInt8 := [21, 8, 184, 0, 228, 184, 0, 11, 54, 7, 132, 8, 1, 167, 255, 208, 25, 5, 25, 4, 180, 0, 120]
abbrev dktX1_longer_5 : List UInt8 := dkwX1_longer_5 ++ dktX1_longer_6
def dkwX1_longer_4 : List UInt8 := [180, 0, 64, 21, 7, 25, 4, 180, 0, 64, 25, 4, 180, 0, 67, 25, 4, 180, 0, 120, 21, 6, 47]
abbrev dktX1_longer_4 : List UInt8 := dkwX1_longer_4 ++ dktX1_longer_5
def dkwX1_longer_3 : List UInt8 := [180, 0, 30, 162, 0, 98, 3, 54, 7, 3, 54, 8, 21, 8, 25, 4, 180, 0, 67, 162, 0, 44, 25, 4]
abbrev dktX1_longer_3 : List UInt8 := dkwX1_longer_3 ++ dktX1_longer_4
def dkwX1_longer_2 : List UInt8 := [16, 250, 172, 25, 4, 25, 4, 180, 0, 67, 4, 96, 184, 0, 224, 58, 5, 3, 54, 6, 21, 6, 25, 4]
abbrev dktX1_longer_2 : List UInt8 := dkwX1_longer_2 ++ dktX1_longer_3
def dkwX1_longer_1 : List UInt8 := [153, 0, 5, 29, 172, 42, 180, 0, 26, 27, 50, 58, 4, 25, 4, 180, 0, 67, 16, 12, 160, 0, 6]
abbrev dktX1_longer_1 : List UInt8 := dkwX1_longer_1 ++ dktX1_longer_2
def dkwX1_longer_0 : List UInt8 := [27, 184, 0, 36, 153, 0, 10, 28, 184, 0, 36, 154, 0, 5, 2, 172, 42, 27, 3, 182, 0, 60, 62, 29]
abbrev dktX1_longer_0 : List UInt8 := dkwX1_longer_0 ++ dktX1_longer_1
theorem dksX1_longer_0 : cX1_longer.data.toList.drop 0 = dktX1_longer_0 := by decide +kernel
theorem dksX1_longer_1 : cX1_longer.data.toList.drop 24 = dktX1_longer_1 := dk_seg dksX1_longer_0 24 rfl rfl
theorem dksX1_longer_2 : cX1_longer.data.toList.drop 47 = dktX1_longer_2 := dk_seg dksX1_longer_1 23 rfl rfl
theorem dksX1_longer_3 : cX1_longer.data.toList.drop 71 = dktX1_longer_3 := dk_seg dksX1_longer_2 24 rfl rfl
theorem dksX1_longer_4 : cX1_longer.data.toList.drop 95 = dktX1_longer_4 := dk_seg dksX1_longer_3 24 rfl rfl
theorem dksX1_longer_5 : cX1_longer.data.toList.drop 118 = dktX1_longer_5 := dk_seg dksX1_longer_4 23 rfl rfl
theorem dksX1_longer_6 : cX1_longer.data.toList.drop 141 = dktX1_longer_6 := dk_seg dksX1_longer_5 23 rfl rfl
theorem dksX1_longer_7 : cX1_longer.data.toList.drop 163 = dktX1_longer_7 := dk_seg dksX1_longer_6 22 rfl rfl
theorem dX1_longer_0 : decode cX1_longer 0 = .ok (.iload_n 1, 1) := dk_27 (dk_at dksX1_longer_0 0 rfl rfl)
theorem dX1_longer_1 : decode cX1_longer 1 = .ok (.invokestatic 36, 3) := dk_184 0 36 (dk_at dksX1_longer_0 1 rfl rfl)
theorem dX1_longer_4 : decode cX1_longer 4 = .ok (.ifCond .eq 10, 3) := dk_153 0 10 (dk_at dksX1_longer_0 4 rfl rfl)
theorem dX1_longer_7 : decode cX1_longer 7 = .ok (.iload_n 2, 1) := dk_28 (dk_at dksX1_longer_0 7 rfl rfl)
theorem dX1_longer_8 : decode cX1_longer 8 = .ok (.invokestatic 36, 3) := dk_184 0 36 (dk_at dksX1_longer_0 8 rfl rfl)
theorem dX1_longer_11 : decode cX1_longer 11 = .ok (.ifCond .ne 5, 3) := dk_154 0 5 (dk_at dksX1_longer_0 11 rfl rfl)
theorem dX1_longer_14 : decode cX1_longer 14 = .ok (.iconst (-1), 1) := dk_2 (dk_at dksX1_longer_0 14 rfl rfl)
theorem dX1_longer_15 : decode cX1_longer 15 = .ok (.ireturn, 1) := dk_172 (dk_at dksX1_longer_0 15 rfl rfl)
theorem dX1_longer_16 : decode cX1_longer 16 = .ok (.aload_n 0, 1) := dk_42 (dk_at dksX1_longer_0 16 rfl rfl)
theorem dX1_longer_17 : decode cX1_longer 17 = .ok (.iload_n 1, 1) := dk_27 (dk_at dksX1_longer_0 17 rfl rfl)
theorem dX1_longer_18 : decode cX1_longer 18 = .ok (.iconst 0, 1) := dk_3 (dk_at dksX1_longer_0 18 rfl rfl)
theorem dX1_longer_19 : decode cX1_longer 19 = .ok (.invokevirtual 60, 3) := dk_182 0 60 (dk_at dksX1_longer_0 19 rfl rfl)
theorem dX1_longer_22 : decode cX1_longer 22 = .ok (.istore_n 3, 1) := dk_62 (dk_at dksX1_longer_0 22 rfl rfl)
theorem dX1_longer_23 : decode cX1_longer 23 = .ok (.iload_n 3, 1) := dk_29 (dk_at dksX1_longer_0 23 rfl rfl)
theorem dX1_longer_24 : decode cX1_longer 24 = .ok (.ifCond .eq 5, 3) := dk_153 0 5 (dk_at dksX1_longer_1 0 rfl rfl)
theorem dX1_longer_27 : decode cX1_longer 27 = .ok (.iload_n 3, 1) := dk_29 (dk_at dksX1_longer_1 3 rfl rfl)
theorem dX1_longer_28 : decode cX1_longer 28 = .ok (.ireturn, 1) := dk_172 (dk_at dksX1_longer_1 4 rfl rfl)
theorem dX1_longer_29 : decode cX1_longer 29 = .ok (.aload_n 0, 1) := dk_42 (dk_at dksX1_longer_1 5 rfl rfl)
theorem dX1_longer_30 : decode cX1_longer 30 = .ok (.getfield 26, 3) := dk_180 0 26 (dk_at dksX1_longer_1 6 rfl rfl)
theorem dX1_longer_33 : decode cX1_longer 33 = .ok (.iload_n 1, 1) := dk_27 (dk_at dksX1_longer_1 9 rfl rfl)
theorem dX1_longer_34 : decode cX1_longer 34 = .ok (.aaload, 1) := dk_50 (dk_at dksX1_longer_1 10 rfl rfl)
theorem dX1_longer_35 : decode cX1_longer 35 = .ok (.astore 4, 2) := dk_58 4 (dk_at dksX1_longer_1 11 rfl rfl)
theorem dX1_longer_37 : decode cX1_longer 37 = .ok (.aload 4, 2) := dk_25 4 (dk_at dksX1_longer_1 13 rfl rfl)
theorem dX1_longer_39 : decode cX1_longer 39 = .ok (.getfield 67, 3) := dk_180 0 67 (dk_at dksX1_longer_1 15 rfl rfl)
theorem dX1_longer_42 : decode cX1_longer 42 = .ok (.bipush 12, 2) := dk_16 12 (dk_at dksX1_longer_1 18 rfl rfl)
theorem dX1_longer_44 : decode cX1_longer 44 = .ok (.if_icmp .ne 6, 3) := dk_160 0 6 (dk_at dksX1_longer_1 20 rfl rfl)
theorem dX1_longer_47 : decode cX1_longer 47 = .ok (.bipush (-6), 2) := dk_16 250 (dk_at dksX1_longer_2 0 rfl rfl)
theorem dX1_longer_49 : decode cX1_longer 49 = .ok (.ireturn, 1) := dk_172 (dk_at dksX1_longer_2 2 rfl rfl)
theorem dX1_longer_50 : decode cX1_longer 50 = .ok (.aload 4, 2) := dk_25 4 (dk_at dksX1_longer_2 3 rfl rfl)
theorem dX1_longer_52 : decode cX1_longer 52 = .ok (.aload 4, 2) := dk_25 4 (dk_at dksX1_longer_2 5 rfl rfl)
theorem dX1_longer_54 : decode cX1_longer 54 = .ok (.getfield 67, 3) := dk_180 0 67 (dk_at dksX1_longer_2 7 rfl rfl)
theorem dX1_longer_57 : decode cX1_longer 57 = .ok (.iconst 1, 1) := dk_4 (dk_at dksX1_longer_2 10 rfl rfl)
theorem dX1_longer_58 : decode cX1_longer 58 = .ok (.iadd, 1) := dk_96 (dk_at dksX1_longer_2 11 rfl rfl)
theorem dX1_longer_59 : decode cX1_longer 59 = .ok (.invokestatic 224, 3) := dk_184 0 224 (dk_at dksX1_longer_2 12 rfl rfl)
theorem dX1_longer_62 : decode cX1_longer 62 = .ok (.astore 5, 2) := dk_58 5 (dk_at dksX1_longer_2 15 rfl rfl)
theorem dX1_longer_64 : decode cX1_longer 64 = .ok (.iconst 0, 1) := dk_3 (dk_at dksX1_longer_2 17 rfl rfl)
theorem dX1_longer_65 : decode cX1_longer 65 = .ok (.istore 6, 2) := dk_54 6 (dk_at dksX1_longer_2 18 rfl rfl)
theorem dX1_longer_67 : decode cX1_longer 67 = .ok (.iload 6, 2) := dk_21 6 (dk_at dksX1_longer_2 20 rfl rfl)
theorem dX1_longer_69 : decode cX1_longer 69 = .ok (.aload 4, 2) := dk_25 4 (dk_at dksX1_longer_2 22 rfl rfl)
theorem dX1_longer_71 : decode cX1_longer 71 = .ok (.getfield 30, 3) := dk_180 0 30 (dk_at dksX1_longer_3 0 rfl rfl)
theorem dX1_longer_74 : decode cX1_longer 74 = .ok (.if_icmp .ge 98, 3) := dk_162 0 98 (dk_at dksX1_longer_3 3 rfl rfl)
theorem dX1_longer_77 : decode cX1_longer 77 = .ok (.iconst 0, 1) := dk_3 (dk_at dksX1_longer_3 6 rfl rfl)
theorem dX1_longer_78 : decode cX1_longer 78 = .ok (.istore 7, 2) := dk_54 7 (dk_at dksX1_longer_3 7 rfl rfl)
theorem dX1_longer_80 : decode cX1_longer 80 = .ok (.iconst 0, 1) := dk_3 (dk_at dksX1_longer_3 9 rfl rfl)
theorem dX1_longer_81 : decode cX1_longer 81 = .ok (.istore 8, 2) := dk_54 8 (dk_at dksX1_longer_3 10 rfl rfl)
theorem dX1_longer_83 : decode cX1_longer 83 = .ok (.iload 8, 2) := dk_21 8 (dk_at dksX1_longer_3 12 rfl rfl)
theorem dX1_longer_85 : decode cX1_longer 85 = .ok (.aload 4, 2) := dk_25 4 (dk_at dksX1_longer_3 14 rfl rfl)
theorem dX1_longer_87 : decode cX1_longer 87 = .ok (.getfield 67, 3) := dk_180 0 67 (dk_at dksX1_longer_3 16 rfl rfl)
theorem dX1_longer_90 : decode cX1_longer 90 = .ok (.if_icmp .ge 44, 3) := dk_162 0 44 (dk_at dksX1_longer_3 19 rfl rfl)
theorem dX1_longer_93 : decode cX1_longer 93 = .ok (.aload 4, 2) := dk_25 4 (dk_at dksX1_longer_3 22 rfl rfl)
theorem dX1_longer_95 : decode cX1_longer 95 = .ok (.getfield 64, 3) := dk_180 0 64 (dk_at dksX1_longer_4 0 rfl rfl)
theorem dX1_longer_98 : decode cX1_longer 98 = .ok (.iload 7, 2) := dk_21 7 (dk_at dksX1_longer_4 3 rfl rfl)
theorem dX1_longer_100 : decode cX1_longer 100 = .ok (.aload 4, 2) := dk_25 4 (dk_at dksX1_longer_4 5 rfl rfl)
theorem dX1_longer_102 : decode cX1_longer 102 = .ok (.getfield 64, 3) := dk_180 0 64 (dk_at dksX1_longer_4 7 rfl rfl)
theorem dX1_longer_105 : decode cX1_longer 105 = .ok (.aload 4, 2) := dk_25 4 (dk_at dksX1_longer_4 10 rfl rfl)
theorem dX1_longer_107 : decode cX1_longer 107 = .ok (.getfield 67, 3) := dk_180 0 67 (dk_at dksX1_longer_4 12 rfl rfl)
theorem dX1_longer_110 : decode cX1_longer 110 = .ok (.aload 4, 2) := dk_25 4 (dk_at dksX1_longer_4 15 rfl rfl)
theorem dX1_longer_112 : decode cX1_longer 112 = .ok (.getfield 120, 3) := dk_180 0 120 (dk_at dksX1_longer_4 17 rfl rfl)
theorem dX1_longer_115 : decode cX1_longer 115 = .ok (.iload 6, 2) := dk_21 6 (dk_at dksX1_longer_4 20 rfl rfl)
theorem dX1_longer_117 : decode cX1_longer 117 = .ok (.laload, 1) := dk_47 (dk_at dksX1_longer_4 22 rfl rfl)
theorem dX1_longer_118 : decode cX1_longer 118 = .ok (.iload 8, 2) := dk_21 8 (dk_at dksX1_longer_5 0 rfl rfl)
theorem dX1_longer_120 : decode cX1_longer 120 = .ok (.invokestatic 228, 3) := dk_184 0 228 (dk_at dksX1_longer_5 2 rfl rfl)
theorem dX1_longer_123 : decode cX1_longer 123 = .ok (.invokestatic 11, 3) := dk_184 0 11 (dk_at dksX1_longer_5 5 rfl rfl)
theorem dX1_longer_126 : decode cX1_longer 126 = .ok (.istore 7, 2) := dk_54 7 (dk_at dksX1_longer_5 8 rfl rfl)
theorem dX1_longer_128 : decode cX1_longer 128 = .ok (.iinc 8 1, 3) := dk_132 8 1 (dk_at dksX1_longer_5 10 rfl rfl)
theorem dX1_longer_131 : decode cX1_longer 131 = .ok (.goto (-48), 3) := dk_167 255 208 (dk_at dksX1_longer_5 13 rfl rfl)
theorem dX1_longer_134 : decode cX1_longer 134 = .ok (.aload 5, 2) := dk_25 5 (dk_at dksX1_longer_5 16 rfl rfl)
theorem dX1_longer_136 : decode cX1_longer 136 = .ok (.aload 4, 2) := dk_25 4 (dk_at dksX1_longer_5 18 rfl rfl)
theorem dX1_longer_138 : decode cX1_longer 138 = .ok (.getfield 120, 3) := dk_180 0 120 (dk_at dksX1_longer_5 20 rfl rfl)
theorem dX1_longer_141 : decode cX1_longer 141 = .ok (.iload 6, 2) := dk_21 6 (dk_at dksX1_longer_6 0 rfl rfl)
theorem dX1_longer_143 : decode cX1_longer 143 = .ok (.laload, 1) := dk_47 (dk_at dksX1_longer_6 2 rfl rfl)
theorem dX1_longer_144 : decode cX1_longer 144 = .ok (.aload 4, 2) := dk_25 4 (dk_at dksX1_longer_6 3 rfl rfl)
theorem dX1_longer_146 : decode cX1_longer 146 = .ok (.getfield 64, 3) := dk_180 0 64 (dk_at dksX1_longer_6 5 rfl rfl)
theorem dX1_longer_149 : decode cX1_longer 149 = .ok (.i2l, 1) := dk_133 (dk_at dksX1_longer_6 8 rfl rfl)
theorem dX1_longer_150 : decode cX1_longer 150 = .ok (.lmul, 1) := dk_105 (dk_at dksX1_longer_6 9 rfl rfl)
theorem dX1_longer_151 : decode cX1_longer 151 = .ok (.aload 4, 2) := dk_25 4 (dk_at dksX1_longer_6 10 rfl rfl)
theorem dX1_longer_153 : decode cX1_longer 153 = .ok (.getfield 64, 3) := dk_180 0 64 (dk_at dksX1_longer_6 12 rfl rfl)
theorem dX1_longer_156 : decode cX1_longer 156 = .ok (.iload 7, 2) := dk_21 7 (dk_at dksX1_longer_6 15 rfl rfl)
theorem dX1_longer_158 : decode cX1_longer 158 = .ok (.invokestatic 232, 3) := dk_184 0 232 (dk_at dksX1_longer_6 17 rfl rfl)
theorem dX1_longer_161 : decode cX1_longer 161 = .ok (.i2l, 1) := dk_133 (dk_at dksX1_longer_6 20 rfl rfl)
theorem dX1_longer_162 : decode cX1_longer 162 = .ok (.ladd, 1) := dk_97 (dk_at dksX1_longer_6 21 rfl rfl)
theorem dX1_longer_163 : decode cX1_longer 163 = .ok (.invokevirtual 78, 3) := dk_182 0 78 (dk_at dksX1_longer_7 0 rfl rfl)
theorem dX1_longer_166 : decode cX1_longer 166 = .ok (.iinc 6 1, 3) := dk_132 6 1 (dk_at dksX1_longer_7 3 rfl rfl)
theorem dX1_longer_169 : decode cX1_longer 169 = .ok (.goto (-102), 3) := dk_167 255 154 (dk_at dksX1_longer_7 6 rfl rfl)
theorem dX1_longer_172 : decode cX1_longer 172 = .ok (.aload_n 0, 1) := dk_42 (dk_at dksX1_longer_7 9 rfl rfl)
theorem dX1_longer_173 : decode cX1_longer 173 = .ok (.iload_n 2, 1) := dk_28 (dk_at dksX1_longer_7 10 rfl rfl)
theorem dX1_longer_174 : decode cX1_longer 174 = .ok (.aload 5, 2) := dk_25 5 (dk_at dksX1_longer_7 11 rfl rfl)
theorem dX1_longer_176 : decode cX1_longer 176 = .ok (.invokevirtual 56, 3) := dk_182 0 56 (dk_at dksX1_longer_7 13 rfl rfl)
theorem dX1_longer_179 : decode cX1_longer 179 = .ok (.ireturn, 1) := dk_172 (dk_at dksX1_longer_7 16 rfl rfl)
abbrev cX1_like : ByteArray := prog_1_method_57_code
def yX1_like : MethodName := ⟨RX1, "like", "(LWordBench$Code;I)LWordBench$Code;"⟩
def dkwX1_like_1 : List UInt8 := [187, 0, 44, 89, 42, 180, 0, 64, 27, 183, 0, 46, 176]
abbrev dktX1_like_1 : List UInt8 := dkwX1_like_1 ++ []
def dkwX1_like_0 : List UInt8 := [42, 193, 0, 50, 153, 0, 18, 187, 0, 50, 89, 42, 180, 0, 64, 27, 183, 0, 52, 167, 0, 15]
abbrev dktX1_like_0 : List UInt8 := dkwX1_like_0 ++ dktX1_like_1
theorem dksX1_like_0 : cX1_like.data.toList.drop 0 = dktX1_like_0 := by decide +kernel
theorem dksX1_like_1 : cX1_like.data.toList.drop 22 = dktX1_like_1 := dk_seg dksX1_like_0 22 rfl rfl
theorem dX1_like_0 : decode cX1_like 0 = .ok (.aload_n 0, 1) := dk_42 (dk_at dksX1_like_0 0 rfl rfl)
theorem dX1_like_1 : decode cX1_like 1 = .ok (.instanceof 50, 3) := dk_193 0 50 (dk_at dksX1_like_0 1 rfl rfl)
theorem dX1_like_4 : decode cX1_like 4 = .ok (.ifCond .eq 18, 3) := dk_153 0 18 (dk_at dksX1_like_0 4 rfl rfl)
theorem dX1_like_7 : decode cX1_like 7 = .ok (.new 50, 3) := dk_187 0 50 (dk_at dksX1_like_0 7 rfl rfl)
theorem dX1_like_10 : decode cX1_like 10 = .ok (.dup, 1) := dk_89 (dk_at dksX1_like_0 10 rfl rfl)
theorem dX1_like_11 : decode cX1_like 11 = .ok (.aload_n 0, 1) := dk_42 (dk_at dksX1_like_0 11 rfl rfl)
theorem dX1_like_12 : decode cX1_like 12 = .ok (.getfield 64, 3) := dk_180 0 64 (dk_at dksX1_like_0 12 rfl rfl)
theorem dX1_like_15 : decode cX1_like 15 = .ok (.iload_n 1, 1) := dk_27 (dk_at dksX1_like_0 15 rfl rfl)
theorem dX1_like_16 : decode cX1_like 16 = .ok (.invokespecial 52, 3) := dk_183 0 52 (dk_at dksX1_like_0 16 rfl rfl)
theorem dX1_like_19 : decode cX1_like 19 = .ok (.goto 15, 3) := dk_167 0 15 (dk_at dksX1_like_0 19 rfl rfl)
theorem dX1_like_22 : decode cX1_like 22 = .ok (.new 44, 3) := dk_187 0 44 (dk_at dksX1_like_1 0 rfl rfl)
theorem dX1_like_25 : decode cX1_like 25 = .ok (.dup, 1) := dk_89 (dk_at dksX1_like_1 3 rfl rfl)
theorem dX1_like_26 : decode cX1_like 26 = .ok (.aload_n 0, 1) := dk_42 (dk_at dksX1_like_1 4 rfl rfl)
theorem dX1_like_27 : decode cX1_like 27 = .ok (.getfield 64, 3) := dk_180 0 64 (dk_at dksX1_like_1 5 rfl rfl)
theorem dX1_like_30 : decode cX1_like 30 = .ok (.iload_n 1, 1) := dk_27 (dk_at dksX1_like_1 8 rfl rfl)
theorem dX1_like_31 : decode cX1_like 31 = .ok (.invokespecial 46, 3) := dk_183 0 46 (dk_at dksX1_like_1 9 rfl rfl)
theorem dX1_like_34 : decode cX1_like 34 = .ok (.areturn, 1) := dk_176 (dk_at dksX1_like_1 12 rfl rfl)
abbrev cX1_cut : ByteArray := prog_1_method_62_code
def yX1_cut : MethodName := ⟨RX1, "cut", "(III)I"⟩
def dkwX1_cut_3 : List UInt8 := [21, 7, 47, 28, 184, 0, 239, 184, 0, 243, 132, 7, 1, 167, 255, 216, 42, 29, 25, 6, 182, 0, 56, 172]
abbrev dktX1_cut_3 : List UInt8 := dkwX1_cut_3 ++ []
def dkwX1_cut_2 : List UInt8 := [180, 0, 30, 162, 0, 36, 25, 6, 25, 5, 180, 0, 64, 25, 5, 180, 0, 67, 25, 5, 180, 0, 120]
abbrev dktX1_cut_2 : List UInt8 := dkwX1_cut_2 ++ dktX1_cut_3
def dkwX1_cut_1 : List UInt8 := [58, 5, 25, 5, 25, 5, 180, 0, 67, 4, 100, 184, 0, 224, 58, 6, 3, 54, 7, 21, 7, 25, 5]
abbrev dktX1_cut_1 : List UInt8 := dkwX1_cut_1 ++ dktX1_cut_2
def dkwX1_cut_0 : List UInt8 := [42, 27, 28, 29, 182, 0, 236, 54, 4, 21, 4, 153, 0, 6, 21, 4, 172, 42, 180, 0, 26, 27, 50]
abbrev dktX1_cut_0 : List UInt8 := dkwX1_cut_0 ++ dktX1_cut_1
theorem dksX1_cut_0 : cX1_cut.data.toList.drop 0 = dktX1_cut_0 := by decide +kernel
theorem dksX1_cut_1 : cX1_cut.data.toList.drop 23 = dktX1_cut_1 := dk_seg dksX1_cut_0 23 rfl rfl
theorem dksX1_cut_2 : cX1_cut.data.toList.drop 46 = dktX1_cut_2 := dk_seg dksX1_cut_1 23 rfl rfl
theorem dksX1_cut_3 : cX1_cut.data.toList.drop 69 = dktX1_cut_3 := dk_seg dksX1_cut_2 23 rfl rfl
theorem dX1_cut_0 : decode cX1_cut 0 = .ok (.aload_n 0, 1) := dk_42 (dk_at dksX1_cut_0 0 rfl rfl)
theorem dX1_cut_1 : decode cX1_cut 1 = .ok (.iload_n 1, 1) := dk_27 (dk_at dksX1_cut_0 1 rfl rfl)
theorem dX1_cut_2 : decode cX1_cut 2 = .ok (.iload_n 2, 1) := dk_28 (dk_at dksX1_cut_0 2 rfl rfl)
theorem dX1_cut_3 : decode cX1_cut 3 = .ok (.iload_n 3, 1) := dk_29 (dk_at dksX1_cut_0 3 rfl rfl)
theorem dX1_cut_4 : decode cX1_cut 4 = .ok (.invokevirtual 236, 3) := dk_182 0 236 (dk_at dksX1_cut_0 4 rfl rfl)
theorem dX1_cut_7 : decode cX1_cut 7 = .ok (.istore 4, 2) := dk_54 4 (dk_at dksX1_cut_0 7 rfl rfl)
theorem dX1_cut_9 : decode cX1_cut 9 = .ok (.iload 4, 2) := dk_21 4 (dk_at dksX1_cut_0 9 rfl rfl)
theorem dX1_cut_11 : decode cX1_cut 11 = .ok (.ifCond .eq 6, 3) := dk_153 0 6 (dk_at dksX1_cut_0 11 rfl rfl)
theorem dX1_cut_14 : decode cX1_cut 14 = .ok (.iload 4, 2) := dk_21 4 (dk_at dksX1_cut_0 14 rfl rfl)
theorem dX1_cut_16 : decode cX1_cut 16 = .ok (.ireturn, 1) := dk_172 (dk_at dksX1_cut_0 16 rfl rfl)
theorem dX1_cut_17 : decode cX1_cut 17 = .ok (.aload_n 0, 1) := dk_42 (dk_at dksX1_cut_0 17 rfl rfl)
theorem dX1_cut_18 : decode cX1_cut 18 = .ok (.getfield 26, 3) := dk_180 0 26 (dk_at dksX1_cut_0 18 rfl rfl)
theorem dX1_cut_21 : decode cX1_cut 21 = .ok (.iload_n 1, 1) := dk_27 (dk_at dksX1_cut_0 21 rfl rfl)
theorem dX1_cut_22 : decode cX1_cut 22 = .ok (.aaload, 1) := dk_50 (dk_at dksX1_cut_0 22 rfl rfl)
theorem dX1_cut_23 : decode cX1_cut 23 = .ok (.astore 5, 2) := dk_58 5 (dk_at dksX1_cut_1 0 rfl rfl)
theorem dX1_cut_25 : decode cX1_cut 25 = .ok (.aload 5, 2) := dk_25 5 (dk_at dksX1_cut_1 2 rfl rfl)
theorem dX1_cut_27 : decode cX1_cut 27 = .ok (.aload 5, 2) := dk_25 5 (dk_at dksX1_cut_1 4 rfl rfl)
theorem dX1_cut_29 : decode cX1_cut 29 = .ok (.getfield 67, 3) := dk_180 0 67 (dk_at dksX1_cut_1 6 rfl rfl)
theorem dX1_cut_32 : decode cX1_cut 32 = .ok (.iconst 1, 1) := dk_4 (dk_at dksX1_cut_1 9 rfl rfl)
theorem dX1_cut_33 : decode cX1_cut 33 = .ok (.isub, 1) := dk_100 (dk_at dksX1_cut_1 10 rfl rfl)
theorem dX1_cut_34 : decode cX1_cut 34 = .ok (.invokestatic 224, 3) := dk_184 0 224 (dk_at dksX1_cut_1 11 rfl rfl)
theorem dX1_cut_37 : decode cX1_cut 37 = .ok (.astore 6, 2) := dk_58 6 (dk_at dksX1_cut_1 14 rfl rfl)
theorem dX1_cut_39 : decode cX1_cut 39 = .ok (.iconst 0, 1) := dk_3 (dk_at dksX1_cut_1 16 rfl rfl)
theorem dX1_cut_40 : decode cX1_cut 40 = .ok (.istore 7, 2) := dk_54 7 (dk_at dksX1_cut_1 17 rfl rfl)
theorem dX1_cut_42 : decode cX1_cut 42 = .ok (.iload 7, 2) := dk_21 7 (dk_at dksX1_cut_1 19 rfl rfl)
theorem dX1_cut_44 : decode cX1_cut 44 = .ok (.aload 5, 2) := dk_25 5 (dk_at dksX1_cut_1 21 rfl rfl)
theorem dX1_cut_46 : decode cX1_cut 46 = .ok (.getfield 30, 3) := dk_180 0 30 (dk_at dksX1_cut_2 0 rfl rfl)
theorem dX1_cut_49 : decode cX1_cut 49 = .ok (.if_icmp .ge 36, 3) := dk_162 0 36 (dk_at dksX1_cut_2 3 rfl rfl)
theorem dX1_cut_52 : decode cX1_cut 52 = .ok (.aload 6, 2) := dk_25 6 (dk_at dksX1_cut_2 6 rfl rfl)
theorem dX1_cut_54 : decode cX1_cut 54 = .ok (.aload 5, 2) := dk_25 5 (dk_at dksX1_cut_2 8 rfl rfl)
theorem dX1_cut_56 : decode cX1_cut 56 = .ok (.getfield 64, 3) := dk_180 0 64 (dk_at dksX1_cut_2 10 rfl rfl)
theorem dX1_cut_59 : decode cX1_cut 59 = .ok (.aload 5, 2) := dk_25 5 (dk_at dksX1_cut_2 13 rfl rfl)
theorem dX1_cut_61 : decode cX1_cut 61 = .ok (.getfield 67, 3) := dk_180 0 67 (dk_at dksX1_cut_2 15 rfl rfl)
theorem dX1_cut_64 : decode cX1_cut 64 = .ok (.aload 5, 2) := dk_25 5 (dk_at dksX1_cut_2 18 rfl rfl)
theorem dX1_cut_66 : decode cX1_cut 66 = .ok (.getfield 120, 3) := dk_180 0 120 (dk_at dksX1_cut_2 20 rfl rfl)
theorem dX1_cut_69 : decode cX1_cut 69 = .ok (.iload 7, 2) := dk_21 7 (dk_at dksX1_cut_3 0 rfl rfl)
theorem dX1_cut_71 : decode cX1_cut 71 = .ok (.laload, 1) := dk_47 (dk_at dksX1_cut_3 2 rfl rfl)
theorem dX1_cut_72 : decode cX1_cut 72 = .ok (.iload_n 2, 1) := dk_28 (dk_at dksX1_cut_3 3 rfl rfl)
theorem dX1_cut_73 : decode cX1_cut 73 = .ok (.invokestatic 239, 3) := dk_184 0 239 (dk_at dksX1_cut_3 4 rfl rfl)
theorem dX1_cut_76 : decode cX1_cut 76 = .ok (.invokestatic 243, 3) := dk_184 0 243 (dk_at dksX1_cut_3 7 rfl rfl)
theorem dX1_cut_79 : decode cX1_cut 79 = .ok (.iinc 7 1, 3) := dk_132 7 1 (dk_at dksX1_cut_3 10 rfl rfl)
theorem dX1_cut_82 : decode cX1_cut 82 = .ok (.goto (-40), 3) := dk_167 255 216 (dk_at dksX1_cut_3 13 rfl rfl)
theorem dX1_cut_85 : decode cX1_cut 85 = .ok (.aload_n 0, 1) := dk_42 (dk_at dksX1_cut_3 16 rfl rfl)
theorem dX1_cut_86 : decode cX1_cut 86 = .ok (.iload_n 3, 1) := dk_29 (dk_at dksX1_cut_3 17 rfl rfl)
theorem dX1_cut_87 : decode cX1_cut 87 = .ok (.aload 6, 2) := dk_25 6 (dk_at dksX1_cut_3 18 rfl rfl)
theorem dX1_cut_89 : decode cX1_cut 89 = .ok (.invokevirtual 56, 3) := dk_182 0 56 (dk_at dksX1_cut_3 20 rfl rfl)
theorem dX1_cut_92 : decode cX1_cut 92 = .ok (.ireturn, 1) := dk_172 (dk_at dksX1_cut_3 23 rfl rfl)
abbrev cX1_whyPlace : ByteArray := prog_1_method_61_code
def yX1_whyPlace : MethodName := ⟨RX1, "whyPlace", "(III)I"⟩
def dkwX1_whyPlace_2 : List UInt8 := [180, 0, 26, 27, 50, 180, 0, 67, 4, 100, 133, 184, 0, 16, 154, 0, 7, 2, 167, 0, 4, 3, 172]
abbrev dktX1_whyPlace_2 : List UInt8 := dkwX1_whyPlace_2 ++ []
def dkwX1_whyPlace_1 : List UInt8 := [199, 0, 6, 16, 245, 172, 42, 180, 0, 26, 27, 50, 180, 0, 67, 4, 159, 0, 24, 28, 133, 9, 42]
abbrev dktX1_whyPlace_1 : List UInt8 := dkwX1_whyPlace_1 ++ dktX1_whyPlace_2
def dkwX1_whyPlace_0 : List UInt8 := [27, 184, 0, 36, 153, 0, 10, 29, 184, 0, 36, 154, 0, 5, 2, 172, 42, 180, 0, 26, 27, 50]
abbrev dktX1_whyPlace_0 : List UInt8 := dkwX1_whyPlace_0 ++ dktX1_whyPlace_1
theorem dksX1_whyPlace_0 : cX1_whyPlace.data.toList.drop 0 = dktX1_whyPlace_0 := by decide +kernel
theorem dksX1_whyPlace_1 : cX1_whyPlace.data.toList.drop 22 = dktX1_whyPlace_1 := dk_seg dksX1_whyPlace_0 22 rfl rfl
theorem dksX1_whyPlace_2 : cX1_whyPlace.data.toList.drop 45 = dktX1_whyPlace_2 := dk_seg dksX1_whyPlace_1 23 rfl rfl
theorem dX1_whyPlace_0 : decode cX1_whyPlace 0 = .ok (.iload_n 1, 1) := dk_27 (dk_at dksX1_whyPlace_0 0 rfl rfl)
theorem dX1_whyPlace_1 : decode cX1_whyPlace 1 = .ok (.invokestatic 36, 3) := dk_184 0 36 (dk_at dksX1_whyPlace_0 1 rfl rfl)
theorem dX1_whyPlace_4 : decode cX1_whyPlace 4 = .ok (.ifCond .eq 10, 3) := dk_153 0 10 (dk_at dksX1_whyPlace_0 4 rfl rfl)
theorem dX1_whyPlace_7 : decode cX1_whyPlace 7 = .ok (.iload_n 3, 1) := dk_29 (dk_at dksX1_whyPlace_0 7 rfl rfl)
theorem dX1_whyPlace_8 : decode cX1_whyPlace 8 = .ok (.invokestatic 36, 3) := dk_184 0 36 (dk_at dksX1_whyPlace_0 8 rfl rfl)
theorem dX1_whyPlace_11 : decode cX1_whyPlace 11 = .ok (.ifCond .ne 5, 3) := dk_154 0 5 (dk_at dksX1_whyPlace_0 11 rfl rfl)
theorem dX1_whyPlace_14 : decode cX1_whyPlace 14 = .ok (.iconst (-1), 1) := dk_2 (dk_at dksX1_whyPlace_0 14 rfl rfl)
theorem dX1_whyPlace_15 : decode cX1_whyPlace 15 = .ok (.ireturn, 1) := dk_172 (dk_at dksX1_whyPlace_0 15 rfl rfl)
theorem dX1_whyPlace_16 : decode cX1_whyPlace 16 = .ok (.aload_n 0, 1) := dk_42 (dk_at dksX1_whyPlace_0 16 rfl rfl)
theorem dX1_whyPlace_17 : decode cX1_whyPlace 17 = .ok (.getfield 26, 3) := dk_180 0 26 (dk_at dksX1_whyPlace_0 17 rfl rfl)
theorem dX1_whyPlace_20 : decode cX1_whyPlace 20 = .ok (.iload_n 1, 1) := dk_27 (dk_at dksX1_whyPlace_0 20 rfl rfl)
theorem dX1_whyPlace_21 : decode cX1_whyPlace 21 = .ok (.aaload, 1) := dk_50 (dk_at dksX1_whyPlace_0 21 rfl rfl)
theorem dX1_whyPlace_22 : decode cX1_whyPlace 22 = .ok (.ifnonnull 6, 3) := dk_199 0 6 (dk_at dksX1_whyPlace_1 0 rfl rfl)
theorem dX1_whyPlace_25 : decode cX1_whyPlace 25 = .ok (.bipush (-11), 2) := dk_16 245 (dk_at dksX1_whyPlace_1 3 rfl rfl)
theorem dX1_whyPlace_27 : decode cX1_whyPlace 27 = .ok (.ireturn, 1) := dk_172 (dk_at dksX1_whyPlace_1 5 rfl rfl)
theorem dX1_whyPlace_28 : decode cX1_whyPlace 28 = .ok (.aload_n 0, 1) := dk_42 (dk_at dksX1_whyPlace_1 6 rfl rfl)
theorem dX1_whyPlace_29 : decode cX1_whyPlace 29 = .ok (.getfield 26, 3) := dk_180 0 26 (dk_at dksX1_whyPlace_1 7 rfl rfl)
theorem dX1_whyPlace_32 : decode cX1_whyPlace 32 = .ok (.iload_n 1, 1) := dk_27 (dk_at dksX1_whyPlace_1 10 rfl rfl)
theorem dX1_whyPlace_33 : decode cX1_whyPlace 33 = .ok (.aaload, 1) := dk_50 (dk_at dksX1_whyPlace_1 11 rfl rfl)
theorem dX1_whyPlace_34 : decode cX1_whyPlace 34 = .ok (.getfield 67, 3) := dk_180 0 67 (dk_at dksX1_whyPlace_1 12 rfl rfl)
theorem dX1_whyPlace_37 : decode cX1_whyPlace 37 = .ok (.iconst 1, 1) := dk_4 (dk_at dksX1_whyPlace_1 15 rfl rfl)
theorem dX1_whyPlace_38 : decode cX1_whyPlace 38 = .ok (.if_icmp .eq 24, 3) := dk_159 0 24 (dk_at dksX1_whyPlace_1 16 rfl rfl)
theorem dX1_whyPlace_41 : decode cX1_whyPlace 41 = .ok (.iload_n 2, 1) := dk_28 (dk_at dksX1_whyPlace_1 19 rfl rfl)
theorem dX1_whyPlace_42 : decode cX1_whyPlace 42 = .ok (.i2l, 1) := dk_133 (dk_at dksX1_whyPlace_1 20 rfl rfl)
theorem dX1_whyPlace_43 : decode cX1_whyPlace 43 = .ok (.lconst 0, 1) := dk_9 (dk_at dksX1_whyPlace_1 21 rfl rfl)
theorem dX1_whyPlace_44 : decode cX1_whyPlace 44 = .ok (.aload_n 0, 1) := dk_42 (dk_at dksX1_whyPlace_1 22 rfl rfl)
theorem dX1_whyPlace_45 : decode cX1_whyPlace 45 = .ok (.getfield 26, 3) := dk_180 0 26 (dk_at dksX1_whyPlace_2 0 rfl rfl)
theorem dX1_whyPlace_48 : decode cX1_whyPlace 48 = .ok (.iload_n 1, 1) := dk_27 (dk_at dksX1_whyPlace_2 3 rfl rfl)
theorem dX1_whyPlace_49 : decode cX1_whyPlace 49 = .ok (.aaload, 1) := dk_50 (dk_at dksX1_whyPlace_2 4 rfl rfl)
theorem dX1_whyPlace_50 : decode cX1_whyPlace 50 = .ok (.getfield 67, 3) := dk_180 0 67 (dk_at dksX1_whyPlace_2 5 rfl rfl)
theorem dX1_whyPlace_53 : decode cX1_whyPlace 53 = .ok (.iconst 1, 1) := dk_4 (dk_at dksX1_whyPlace_2 8 rfl rfl)
theorem dX1_whyPlace_54 : decode cX1_whyPlace 54 = .ok (.isub, 1) := dk_100 (dk_at dksX1_whyPlace_2 9 rfl rfl)
theorem dX1_whyPlace_55 : decode cX1_whyPlace 55 = .ok (.i2l, 1) := dk_133 (dk_at dksX1_whyPlace_2 10 rfl rfl)
theorem dX1_whyPlace_56 : decode cX1_whyPlace 56 = .ok (.invokestatic 16, 3) := dk_184 0 16 (dk_at dksX1_whyPlace_2 11 rfl rfl)
theorem dX1_whyPlace_59 : decode cX1_whyPlace 59 = .ok (.ifCond .ne 7, 3) := dk_154 0 7 (dk_at dksX1_whyPlace_2 14 rfl rfl)
theorem dX1_whyPlace_62 : decode cX1_whyPlace 62 = .ok (.iconst (-1), 1) := dk_2 (dk_at dksX1_whyPlace_2 17 rfl rfl)
theorem dX1_whyPlace_63 : decode cX1_whyPlace 63 = .ok (.goto 4, 3) := dk_167 0 4 (dk_at dksX1_whyPlace_2 18 rfl rfl)
theorem dX1_whyPlace_66 : decode cX1_whyPlace 66 = .ok (.iconst 0, 1) := dk_3 (dk_at dksX1_whyPlace_2 21 rfl rfl)
theorem dX1_whyPlace_67 : decode cX1_whyPlace 67 = .ok (.ireturn, 1) := dk_172 (dk_at dksX1_whyPlace_2 22 rfl rfl)
abbrev cX1_without : ByteArray := prog_1_method_59_code
def yX1_without : MethodName := ⟨RX1, "without", "(IIJI)J"⟩
def dkwX1_without_1 : List UInt8 := [22, 5, 113, 97, 173]
abbrev dktX1_without_1 : List UInt8 := dkwX1_without_1 ++ []
def dkwX1_without_0 : List UInt8 := [26, 27, 4, 100, 21, 4, 100, 184, 0, 7, 55, 5, 32, 22, 5, 26, 133, 105, 109, 22, 5, 105, 32]
abbrev dktX1_without_0 : List UInt8 := dkwX1_without_0 ++ dktX1_without_1
theorem dksX1_without_0 : cX1_without.data.toList.drop 0 = dktX1_without_0 := by decide +kernel
theorem dksX1_without_1 : cX1_without.data.toList.drop 23 = dktX1_without_1 := dk_seg dksX1_without_0 23 rfl rfl
theorem dX1_without_0 : decode cX1_without 0 = .ok (.iload_n 0, 1) := dk_26 (dk_at dksX1_without_0 0 rfl rfl)
theorem dX1_without_1 : decode cX1_without 1 = .ok (.iload_n 1, 1) := dk_27 (dk_at dksX1_without_0 1 rfl rfl)
theorem dX1_without_2 : decode cX1_without 2 = .ok (.iconst 1, 1) := dk_4 (dk_at dksX1_without_0 2 rfl rfl)
theorem dX1_without_3 : decode cX1_without 3 = .ok (.isub, 1) := dk_100 (dk_at dksX1_without_0 3 rfl rfl)
theorem dX1_without_4 : decode cX1_without 4 = .ok (.iload 4, 2) := dk_21 4 (dk_at dksX1_without_0 4 rfl rfl)
theorem dX1_without_6 : decode cX1_without 6 = .ok (.isub, 1) := dk_100 (dk_at dksX1_without_0 6 rfl rfl)
theorem dX1_without_7 : decode cX1_without 7 = .ok (.invokestatic 7, 3) := dk_184 0 7 (dk_at dksX1_without_0 7 rfl rfl)
theorem dX1_without_10 : decode cX1_without 10 = .ok (.lstore 5, 2) := dk_55 5 (dk_at dksX1_without_0 10 rfl rfl)
theorem dX1_without_12 : decode cX1_without 12 = .ok (.lload_n 2, 1) := dk_32 (dk_at dksX1_without_0 12 rfl rfl)
theorem dX1_without_13 : decode cX1_without 13 = .ok (.lload 5, 2) := dk_22 5 (dk_at dksX1_without_0 13 rfl rfl)
theorem dX1_without_15 : decode cX1_without 15 = .ok (.iload_n 0, 1) := dk_26 (dk_at dksX1_without_0 15 rfl rfl)
theorem dX1_without_16 : decode cX1_without 16 = .ok (.i2l, 1) := dk_133 (dk_at dksX1_without_0 16 rfl rfl)
theorem dX1_without_17 : decode cX1_without 17 = .ok (.lmul, 1) := dk_105 (dk_at dksX1_without_0 17 rfl rfl)
theorem dX1_without_18 : decode cX1_without 18 = .ok (.ldiv, 1) := dk_109 (dk_at dksX1_without_0 18 rfl rfl)
theorem dX1_without_19 : decode cX1_without 19 = .ok (.lload 5, 2) := dk_22 5 (dk_at dksX1_without_0 19 rfl rfl)
theorem dX1_without_21 : decode cX1_without 21 = .ok (.lmul, 1) := dk_105 (dk_at dksX1_without_0 21 rfl rfl)
theorem dX1_without_22 : decode cX1_without 22 = .ok (.lload_n 2, 1) := dk_32 (dk_at dksX1_without_0 22 rfl rfl)
theorem dX1_without_23 : decode cX1_without 23 = .ok (.lload 5, 2) := dk_22 5 (dk_at dksX1_without_1 0 rfl rfl)
theorem dX1_without_25 : decode cX1_without 25 = .ok (.lrem, 1) := dk_113 (dk_at dksX1_without_1 2 rfl rfl)
theorem dX1_without_26 : decode cX1_without 26 = .ok (.ladd, 1) := dk_97 (dk_at dksX1_without_1 3 rfl rfl)
theorem dX1_without_27 : decode cX1_without 27 = .ok (.lreturn, 1) := dk_173 (dk_at dksX1_without_1 4 rfl rfl)
abbrev cX1_comes : ByteArray := prog_1_method_58_code
def yX1_comes : MethodName := ⟨RX1, "comes", "(LWordBench$Code;J)V"⟩
def dkwX1_comes_1 : List UInt8 := [177]
abbrev dktX1_comes_1 : List UInt8 := dkwX1_comes_1 ++ []
def dkwX1_comes_0 : List UInt8 := [42, 193, 0, 44, 153, 0, 15, 42, 192, 0, 44, 31, 182, 0, 132, 153, 0, 4, 177, 42, 31, 182, 0, 78]
abbrev dktX1_comes_0 : List UInt8 := dkwX1_comes_0 ++ dktX1_comes_1
theorem dksX1_comes_0 : cX1_comes.data.toList.drop 0 = dktX1_comes_0 := by decide +kernel
theorem dksX1_comes_1 : cX1_comes.data.toList.drop 24 = dktX1_comes_1 := dk_seg dksX1_comes_0 24 rfl rfl
theorem dX1_comes_0 : decode cX1_comes 0 = .ok (.aload_n 0, 1) := dk_42 (dk_at dksX1_comes_0 0 rfl rfl)
theorem dX1_comes_1 : decode cX1_comes 1 = .ok (.instanceof 44, 3) := dk_193 0 44 (dk_at dksX1_comes_0 1 rfl rfl)
theorem dX1_comes_4 : decode cX1_comes 4 = .ok (.ifCond .eq 15, 3) := dk_153 0 15 (dk_at dksX1_comes_0 4 rfl rfl)
theorem dX1_comes_7 : decode cX1_comes 7 = .ok (.aload_n 0, 1) := dk_42 (dk_at dksX1_comes_0 7 rfl rfl)
theorem dX1_comes_8 : decode cX1_comes 8 = .ok (.checkcast 44, 3) := dk_192 0 44 (dk_at dksX1_comes_0 8 rfl rfl)
theorem dX1_comes_11 : decode cX1_comes 11 = .ok (.lload_n 1, 1) := dk_31 (dk_at dksX1_comes_0 11 rfl rfl)
theorem dX1_comes_12 : decode cX1_comes 12 = .ok (.invokevirtual 132, 3) := dk_182 0 132 (dk_at dksX1_comes_0 12 rfl rfl)
theorem dX1_comes_15 : decode cX1_comes 15 = .ok (.ifCond .eq 4, 3) := dk_153 0 4 (dk_at dksX1_comes_0 15 rfl rfl)
theorem dX1_comes_18 : decode cX1_comes 18 = .ok (.return_, 1) := dk_177 (dk_at dksX1_comes_0 18 rfl rfl)
theorem dX1_comes_19 : decode cX1_comes 19 = .ok (.aload_n 0, 1) := dk_42 (dk_at dksX1_comes_0 19 rfl rfl)
theorem dX1_comes_20 : decode cX1_comes 20 = .ok (.lload_n 1, 1) := dk_31 (dk_at dksX1_comes_0 20 rfl rfl)
theorem dX1_comes_21 : decode cX1_comes 21 = .ok (.invokevirtual 78, 3) := dk_182 0 78 (dk_at dksX1_comes_0 21 rfl rfl)
theorem dX1_comes_24 : decode cX1_comes 24 = .ok (.return_, 1) := dk_177 (dk_at dksX1_comes_1 0 rfl rfl)
abbrev cX1_shorter : ByteArray := prog_1_method_63_code
def yX1_shorter : MethodName := ⟨RX1, "shorter", "(III)I"⟩
def dkwX1_shorter_11 : List UInt8 := [184, 0, 239, 182, 0, 78, 132, 8, 1, 167, 255, 87, 42, 29, 25, 6, 182, 0, 56, 172]
abbrev dktX1_shorter_11 : List UInt8 := dkwX1_shorter_11 ++ []
def dkwX1_shorter_10 : List UInt8 := [184, 0, 232, 184, 0, 144, 55, 9, 25, 6, 25, 5, 180, 0, 64, 25, 5, 180, 0, 67, 22, 9, 28]
abbrev dktX1_shorter_10 : List UInt8 := dkwX1_shorter_10 ++ dktX1_shorter_11
def dkwX1_shorter_9 : List UInt8 := [25, 5, 180, 0, 64, 25, 5, 180, 0, 67, 22, 12, 28, 184, 0, 228, 184, 0, 247, 184, 0, 1]
abbrev dktX1_shorter_9 : List UInt8 := dkwX1_shorter_9 ++ dktX1_shorter_10
def dkwX1_shorter_8 : List UInt8 := [180, 0, 67, 22, 9, 22, 12, 25, 5, 180, 0, 64, 25, 5, 180, 0, 64, 21, 11, 25, 5, 180, 0, 64]
abbrev dktX1_shorter_8 : List UInt8 := dkwX1_shorter_8 ++ dktX1_shorter_9
def dkwX1_shorter_7 : List UInt8 := [21, 11, 153, 0, 74, 25, 5, 180, 0, 120, 21, 7, 47, 55, 12, 25, 5, 180, 0, 64, 25, 5]
abbrev dktX1_shorter_7 : List UInt8 := dkwX1_shorter_7 ++ dktX1_shorter_8
def dkwX1_shorter_6 : List UInt8 := [21, 8, 21, 7, 159, 0, 116, 25, 5, 193, 0, 50, 154, 0, 11, 21, 11, 153, 0, 6, 167, 0, 100]
abbrev dktX1_shorter_6 : List UInt8 := dkwX1_shorter_6 ++ dktX1_shorter_7
def dkwX1_shorter_5 : List UInt8 := [180, 0, 64, 25, 5, 180, 0, 67, 22, 9, 28, 184, 0, 228, 54, 11, 25, 5, 193, 0, 50, 153, 0, 10]
abbrev dktX1_shorter_5 : List UInt8 := dkwX1_shorter_5 ++ dktX1_shorter_6
def dkwX1_shorter_4 : List UInt8 := [21, 8, 25, 5, 180, 0, 30, 162, 0, 165, 25, 5, 180, 0, 120, 21, 8, 47, 55, 9, 25, 5]
abbrev dktX1_shorter_4 : List UInt8 := dkwX1_shorter_4 ++ dktX1_shorter_5
def dkwX1_shorter_3 : List UInt8 := [25, 5, 180, 0, 120, 21, 7, 47, 28, 184, 0, 228, 154, 0, 9, 132, 7, 1, 167, 255, 210, 3, 54, 8]
abbrev dktX1_shorter_3 : List UInt8 := dkwX1_shorter_3 ++ dktX1_shorter_4
def dkwX1_shorter_2 : List UInt8 := [153, 0, 44, 21, 7, 25, 5, 180, 0, 30, 162, 0, 34, 25, 5, 180, 0, 64, 25, 5, 180, 0, 67]
abbrev dktX1_shorter_2 : List UInt8 := dkwX1_shorter_2 ++ dktX1_shorter_3
def dkwX1_shorter_1 : List UInt8 := [58, 5, 25, 5, 25, 5, 180, 0, 67, 4, 100, 184, 0, 224, 58, 6, 3, 54, 7, 25, 5, 193, 0, 50]
abbrev dktX1_shorter_1 : List UInt8 := dkwX1_shorter_1 ++ dktX1_shorter_2
def dkwX1_shorter_0 : List UInt8 := [42, 27, 28, 29, 182, 0, 236, 54, 4, 21, 4, 153, 0, 6, 21, 4, 172, 42, 180, 0, 26, 27, 50]
abbrev dktX1_shorter_0 : List UInt8 := dkwX1_shorter_0 ++ dktX1_shorter_1
theorem dksX1_shorter_0 : cX1_shorter.data.toList.drop 0 = dktX1_shorter_0 := by decide +kernel
theorem dksX1_shorter_1 : cX1_shorter.data.toList.drop 23 = dktX1_shorter_1 := dk_seg dksX1_shorter_0 23 rfl rfl
theorem dksX1_shorter_2 : cX1_shorter.data.toList.drop 47 = dktX1_shorter_2 := dk_seg dksX1_shorter_1 24 rfl rfl
theorem dksX1_shorter_3 : cX1_shorter.data.toList.drop 70 = dktX1_shorter_3 := dk_seg dksX1_shorter_2 23 rfl rfl
theorem dksX1_shorter_4 : cX1_shorter.data.toList.drop 94 = dktX1_shorter_4 := dk_seg dksX1_shorter_3 24 rfl rfl
theorem dksX1_shorter_5 : cX1_shorter.data.toList.drop 116 = dktX1_shorter_5 := dk_seg dksX1_shorter_4 22 rfl rfl
theorem dksX1_shorter_6 : cX1_shorter.data.toList.drop 140 = dktX1_shorter_6 := dk_seg dksX1_shorter_5 24 rfl rfl
theorem dksX1_shorter_7 : cX1_shorter.data.toList.drop 163 = dktX1_shorter_7 := dk_seg dksX1_shorter_6 23 rfl rfl
theorem dksX1_shorter_8 : cX1_shorter.data.toList.drop 185 = dktX1_shorter_8 := dk_seg dksX1_shorter_7 22 rfl rfl
theorem dksX1_shorter_9 : cX1_shorter.data.toList.drop 209 = dktX1_shorter_9 := dk_seg dksX1_shorter_8 24 rfl rfl
theorem dksX1_shorter_10 : cX1_shorter.data.toList.drop 231 = dktX1_shorter_10 := dk_seg dksX1_shorter_9 22 rfl rfl
theorem dksX1_shorter_11 : cX1_shorter.data.toList.drop 254 = dktX1_shorter_11 := dk_seg dksX1_shorter_10 23 rfl rfl
theorem dX1_shorter_0 : decode cX1_shorter 0 = .ok (.aload_n 0, 1) := dk_42 (dk_at dksX1_shorter_0 0 rfl rfl)
theorem dX1_shorter_1 : decode cX1_shorter 1 = .ok (.iload_n 1, 1) := dk_27 (dk_at dksX1_shorter_0 1 rfl rfl)
theorem dX1_shorter_2 : decode cX1_shorter 2 = .ok (.iload_n 2, 1) := dk_28 (dk_at dksX1_shorter_0 2 rfl rfl)
theorem dX1_shorter_3 : decode cX1_shorter 3 = .ok (.iload_n 3, 1) := dk_29 (dk_at dksX1_shorter_0 3 rfl rfl)
theorem dX1_shorter_4 : decode cX1_shorter 4 = .ok (.invokevirtual 236, 3) := dk_182 0 236 (dk_at dksX1_shorter_0 4 rfl rfl)
theorem dX1_shorter_7 : decode cX1_shorter 7 = .ok (.istore 4, 2) := dk_54 4 (dk_at dksX1_shorter_0 7 rfl rfl)
theorem dX1_shorter_9 : decode cX1_shorter 9 = .ok (.iload 4, 2) := dk_21 4 (dk_at dksX1_shorter_0 9 rfl rfl)
theorem dX1_shorter_11 : decode cX1_shorter 11 = .ok (.ifCond .eq 6, 3) := dk_153 0 6 (dk_at dksX1_shorter_0 11 rfl rfl)
theorem dX1_shorter_14 : decode cX1_shorter 14 = .ok (.iload 4, 2) := dk_21 4 (dk_at dksX1_shorter_0 14 rfl rfl)
theorem dX1_shorter_16 : decode cX1_shorter 16 = .ok (.ireturn, 1) := dk_172 (dk_at dksX1_shorter_0 16 rfl rfl)
theorem dX1_shorter_17 : decode cX1_shorter 17 = .ok (.aload_n 0, 1) := dk_42 (dk_at dksX1_shorter_0 17 rfl rfl)
theorem dX1_shorter_18 : decode cX1_shorter 18 = .ok (.getfield 26, 3) := dk_180 0 26 (dk_at dksX1_shorter_0 18 rfl rfl)
theorem dX1_shorter_21 : decode cX1_shorter 21 = .ok (.iload_n 1, 1) := dk_27 (dk_at dksX1_shorter_0 21 rfl rfl)
theorem dX1_shorter_22 : decode cX1_shorter 22 = .ok (.aaload, 1) := dk_50 (dk_at dksX1_shorter_0 22 rfl rfl)
theorem dX1_shorter_23 : decode cX1_shorter 23 = .ok (.astore 5, 2) := dk_58 5 (dk_at dksX1_shorter_1 0 rfl rfl)
theorem dX1_shorter_25 : decode cX1_shorter 25 = .ok (.aload 5, 2) := dk_25 5 (dk_at dksX1_shorter_1 2 rfl rfl)
theorem dX1_shorter_27 : decode cX1_shorter 27 = .ok (.aload 5, 2) := dk_25 5 (dk_at dksX1_shorter_1 4 rfl rfl)
theorem dX1_shorter_29 : decode cX1_shorter 29 = .ok (.getfield 67, 3) := dk_180 0 67 (dk_at dksX1_shorter_1 6 rfl rfl)
theorem dX1_shorter_32 : decode cX1_shorter 32 = .ok (.iconst 1, 1) := dk_4 (dk_at dksX1_shorter_1 9 rfl rfl)
theorem dX1_shorter_33 : decode cX1_shorter 33 = .ok (.isub, 1) := dk_100 (dk_at dksX1_shorter_1 10 rfl rfl)
theorem dX1_shorter_34 : decode cX1_shorter 34 = .ok (.invokestatic 224, 3) := dk_184 0 224 (dk_at dksX1_shorter_1 11 rfl rfl)
theorem dX1_shorter_37 : decode cX1_shorter 37 = .ok (.astore 6, 2) := dk_58 6 (dk_at dksX1_shorter_1 14 rfl rfl)
theorem dX1_shorter_39 : decode cX1_shorter 39 = .ok (.iconst 0, 1) := dk_3 (dk_at dksX1_shorter_1 16 rfl rfl)
theorem dX1_shorter_40 : decode cX1_shorter 40 = .ok (.istore 7, 2) := dk_54 7 (dk_at dksX1_shorter_1 17 rfl rfl)
theorem dX1_shorter_42 : decode cX1_shorter 42 = .ok (.aload 5, 2) := dk_25 5 (dk_at dksX1_shorter_1 19 rfl rfl)
theorem dX1_shorter_44 : decode cX1_shorter 44 = .ok (.instanceof 50, 3) := dk_193 0 50 (dk_at dksX1_shorter_1 21 rfl rfl)
theorem dX1_shorter_47 : decode cX1_shorter 47 = .ok (.ifCond .eq 44, 3) := dk_153 0 44 (dk_at dksX1_shorter_2 0 rfl rfl)
theorem dX1_shorter_50 : decode cX1_shorter 50 = .ok (.iload 7, 2) := dk_21 7 (dk_at dksX1_shorter_2 3 rfl rfl)
theorem dX1_shorter_52 : decode cX1_shorter 52 = .ok (.aload 5, 2) := dk_25 5 (dk_at dksX1_shorter_2 5 rfl rfl)
theorem dX1_shorter_54 : decode cX1_shorter 54 = .ok (.getfield 30, 3) := dk_180 0 30 (dk_at dksX1_shorter_2 7 rfl rfl)
theorem dX1_shorter_57 : decode cX1_shorter 57 = .ok (.if_icmp .ge 34, 3) := dk_162 0 34 (dk_at dksX1_shorter_2 10 rfl rfl)
theorem dX1_shorter_60 : decode cX1_shorter 60 = .ok (.aload 5, 2) := dk_25 5 (dk_at dksX1_shorter_2 13 rfl rfl)
theorem dX1_shorter_62 : decode cX1_shorter 62 = .ok (.getfield 64, 3) := dk_180 0 64 (dk_at dksX1_shorter_2 15 rfl rfl)
theorem dX1_shorter_65 : decode cX1_shorter 65 = .ok (.aload 5, 2) := dk_25 5 (dk_at dksX1_shorter_2 18 rfl rfl)
theorem dX1_shorter_67 : decode cX1_shorter 67 = .ok (.getfield 67, 3) := dk_180 0 67 (dk_at dksX1_shorter_2 20 rfl rfl)
theorem dX1_shorter_70 : decode cX1_shorter 70 = .ok (.aload 5, 2) := dk_25 5 (dk_at dksX1_shorter_3 0 rfl rfl)
theorem dX1_shorter_72 : decode cX1_shorter 72 = .ok (.getfield 120, 3) := dk_180 0 120 (dk_at dksX1_shorter_3 2 rfl rfl)
theorem dX1_shorter_75 : decode cX1_shorter 75 = .ok (.iload 7, 2) := dk_21 7 (dk_at dksX1_shorter_3 5 rfl rfl)
theorem dX1_shorter_77 : decode cX1_shorter 77 = .ok (.laload, 1) := dk_47 (dk_at dksX1_shorter_3 7 rfl rfl)
theorem dX1_shorter_78 : decode cX1_shorter 78 = .ok (.iload_n 2, 1) := dk_28 (dk_at dksX1_shorter_3 8 rfl rfl)
theorem dX1_shorter_79 : decode cX1_shorter 79 = .ok (.invokestatic 228, 3) := dk_184 0 228 (dk_at dksX1_shorter_3 9 rfl rfl)
theorem dX1_shorter_82 : decode cX1_shorter 82 = .ok (.ifCond .ne 9, 3) := dk_154 0 9 (dk_at dksX1_shorter_3 12 rfl rfl)
theorem dX1_shorter_85 : decode cX1_shorter 85 = .ok (.iinc 7 1, 3) := dk_132 7 1 (dk_at dksX1_shorter_3 15 rfl rfl)
theorem dX1_shorter_88 : decode cX1_shorter 88 = .ok (.goto (-46), 3) := dk_167 255 210 (dk_at dksX1_shorter_3 18 rfl rfl)
theorem dX1_shorter_91 : decode cX1_shorter 91 = .ok (.iconst 0, 1) := dk_3 (dk_at dksX1_shorter_3 21 rfl rfl)
theorem dX1_shorter_92 : decode cX1_shorter 92 = .ok (.istore 8, 2) := dk_54 8 (dk_at dksX1_shorter_3 22 rfl rfl)
theorem dX1_shorter_94 : decode cX1_shorter 94 = .ok (.iload 8, 2) := dk_21 8 (dk_at dksX1_shorter_4 0 rfl rfl)
theorem dX1_shorter_96 : decode cX1_shorter 96 = .ok (.aload 5, 2) := dk_25 5 (dk_at dksX1_shorter_4 2 rfl rfl)
theorem dX1_shorter_98 : decode cX1_shorter 98 = .ok (.getfield 30, 3) := dk_180 0 30 (dk_at dksX1_shorter_4 4 rfl rfl)
theorem dX1_shorter_101 : decode cX1_shorter 101 = .ok (.if_icmp .ge 165, 3) := dk_162 0 165 (dk_at dksX1_shorter_4 7 rfl rfl)
theorem dX1_shorter_104 : decode cX1_shorter 104 = .ok (.aload 5, 2) := dk_25 5 (dk_at dksX1_shorter_4 10 rfl rfl)
theorem dX1_shorter_106 : decode cX1_shorter 106 = .ok (.getfield 120, 3) := dk_180 0 120 (dk_at dksX1_shorter_4 12 rfl rfl)
theorem dX1_shorter_109 : decode cX1_shorter 109 = .ok (.iload 8, 2) := dk_21 8 (dk_at dksX1_shorter_4 15 rfl rfl)
theorem dX1_shorter_111 : decode cX1_shorter 111 = .ok (.laload, 1) := dk_47 (dk_at dksX1_shorter_4 17 rfl rfl)
theorem dX1_shorter_112 : decode cX1_shorter 112 = .ok (.lstore 9, 2) := dk_55 9 (dk_at dksX1_shorter_4 18 rfl rfl)
theorem dX1_shorter_114 : decode cX1_shorter 114 = .ok (.aload 5, 2) := dk_25 5 (dk_at dksX1_shorter_4 20 rfl rfl)
theorem dX1_shorter_116 : decode cX1_shorter 116 = .ok (.getfield 64, 3) := dk_180 0 64 (dk_at dksX1_shorter_5 0 rfl rfl)
theorem dX1_shorter_119 : decode cX1_shorter 119 = .ok (.aload 5, 2) := dk_25 5 (dk_at dksX1_shorter_5 3 rfl rfl)
theorem dX1_shorter_121 : decode cX1_shorter 121 = .ok (.getfield 67, 3) := dk_180 0 67 (dk_at dksX1_shorter_5 5 rfl rfl)
theorem dX1_shorter_124 : decode cX1_shorter 124 = .ok (.lload 9, 2) := dk_22 9 (dk_at dksX1_shorter_5 8 rfl rfl)
theorem dX1_shorter_126 : decode cX1_shorter 126 = .ok (.iload_n 2, 1) := dk_28 (dk_at dksX1_shorter_5 10 rfl rfl)
theorem dX1_shorter_127 : decode cX1_shorter 127 = .ok (.invokestatic 228, 3) := dk_184 0 228 (dk_at dksX1_shorter_5 11 rfl rfl)
theorem dX1_shorter_130 : decode cX1_shorter 130 = .ok (.istore 11, 2) := dk_54 11 (dk_at dksX1_shorter_5 14 rfl rfl)
theorem dX1_shorter_132 : decode cX1_shorter 132 = .ok (.aload 5, 2) := dk_25 5 (dk_at dksX1_shorter_5 16 rfl rfl)
theorem dX1_shorter_134 : decode cX1_shorter 134 = .ok (.instanceof 50, 3) := dk_193 0 50 (dk_at dksX1_shorter_5 18 rfl rfl)
theorem dX1_shorter_137 : decode cX1_shorter 137 = .ok (.ifCond .eq 10, 3) := dk_153 0 10 (dk_at dksX1_shorter_5 21 rfl rfl)
theorem dX1_shorter_140 : decode cX1_shorter 140 = .ok (.iload 8, 2) := dk_21 8 (dk_at dksX1_shorter_6 0 rfl rfl)
theorem dX1_shorter_142 : decode cX1_shorter 142 = .ok (.iload 7, 2) := dk_21 7 (dk_at dksX1_shorter_6 2 rfl rfl)
theorem dX1_shorter_144 : decode cX1_shorter 144 = .ok (.if_icmp .eq 116, 3) := dk_159 0 116 (dk_at dksX1_shorter_6 4 rfl rfl)
theorem dX1_shorter_147 : decode cX1_shorter 147 = .ok (.aload 5, 2) := dk_25 5 (dk_at dksX1_shorter_6 7 rfl rfl)
theorem dX1_shorter_149 : decode cX1_shorter 149 = .ok (.instanceof 50, 3) := dk_193 0 50 (dk_at dksX1_shorter_6 9 rfl rfl)
theorem dX1_shorter_152 : decode cX1_shorter 152 = .ok (.ifCond .ne 11, 3) := dk_154 0 11 (dk_at dksX1_shorter_6 12 rfl rfl)
theorem dX1_shorter_155 : decode cX1_shorter 155 = .ok (.iload 11, 2) := dk_21 11 (dk_at dksX1_shorter_6 15 rfl rfl)
theorem dX1_shorter_157 : decode cX1_shorter 157 = .ok (.ifCond .eq 6, 3) := dk_153 0 6 (dk_at dksX1_shorter_6 17 rfl rfl)
theorem dX1_shorter_160 : decode cX1_shorter 160 = .ok (.goto 100, 3) := dk_167 0 100 (dk_at dksX1_shorter_6 20 rfl rfl)
theorem dX1_shorter_163 : decode cX1_shorter 163 = .ok (.iload 11, 2) := dk_21 11 (dk_at dksX1_shorter_7 0 rfl rfl)
theorem dX1_shorter_165 : decode cX1_shorter 165 = .ok (.ifCond .eq 74, 3) := dk_153 0 74 (dk_at dksX1_shorter_7 2 rfl rfl)
theorem dX1_shorter_168 : decode cX1_shorter 168 = .ok (.aload 5, 2) := dk_25 5 (dk_at dksX1_shorter_7 5 rfl rfl)
theorem dX1_shorter_170 : decode cX1_shorter 170 = .ok (.getfield 120, 3) := dk_180 0 120 (dk_at dksX1_shorter_7 7 rfl rfl)
theorem dX1_shorter_173 : decode cX1_shorter 173 = .ok (.iload 7, 2) := dk_21 7 (dk_at dksX1_shorter_7 10 rfl rfl)
theorem dX1_shorter_175 : decode cX1_shorter 175 = .ok (.laload, 1) := dk_47 (dk_at dksX1_shorter_7 12 rfl rfl)
theorem dX1_shorter_176 : decode cX1_shorter 176 = .ok (.lstore 12, 2) := dk_55 12 (dk_at dksX1_shorter_7 13 rfl rfl)
theorem dX1_shorter_178 : decode cX1_shorter 178 = .ok (.aload 5, 2) := dk_25 5 (dk_at dksX1_shorter_7 15 rfl rfl)
theorem dX1_shorter_180 : decode cX1_shorter 180 = .ok (.getfield 64, 3) := dk_180 0 64 (dk_at dksX1_shorter_7 17 rfl rfl)
theorem dX1_shorter_183 : decode cX1_shorter 183 = .ok (.aload 5, 2) := dk_25 5 (dk_at dksX1_shorter_7 20 rfl rfl)
theorem dX1_shorter_185 : decode cX1_shorter 185 = .ok (.getfield 67, 3) := dk_180 0 67 (dk_at dksX1_shorter_8 0 rfl rfl)
theorem dX1_shorter_188 : decode cX1_shorter 188 = .ok (.lload 9, 2) := dk_22 9 (dk_at dksX1_shorter_8 3 rfl rfl)
theorem dX1_shorter_190 : decode cX1_shorter 190 = .ok (.lload 12, 2) := dk_22 12 (dk_at dksX1_shorter_8 5 rfl rfl)
theorem dX1_shorter_192 : decode cX1_shorter 192 = .ok (.aload 5, 2) := dk_25 5 (dk_at dksX1_shorter_8 7 rfl rfl)
theorem dX1_shorter_194 : decode cX1_shorter 194 = .ok (.getfield 64, 3) := dk_180 0 64 (dk_at dksX1_shorter_8 9 rfl rfl)
theorem dX1_shorter_197 : decode cX1_shorter 197 = .ok (.aload 5, 2) := dk_25 5 (dk_at dksX1_shorter_8 12 rfl rfl)
theorem dX1_shorter_199 : decode cX1_shorter 199 = .ok (.getfield 64, 3) := dk_180 0 64 (dk_at dksX1_shorter_8 14 rfl rfl)
theorem dX1_shorter_202 : decode cX1_shorter 202 = .ok (.iload 11, 2) := dk_21 11 (dk_at dksX1_shorter_8 17 rfl rfl)
theorem dX1_shorter_204 : decode cX1_shorter 204 = .ok (.aload 5, 2) := dk_25 5 (dk_at dksX1_shorter_8 19 rfl rfl)
theorem dX1_shorter_206 : decode cX1_shorter 206 = .ok (.getfield 64, 3) := dk_180 0 64 (dk_at dksX1_shorter_8 21 rfl rfl)
theorem dX1_shorter_209 : decode cX1_shorter 209 = .ok (.aload 5, 2) := dk_25 5 (dk_at dksX1_shorter_9 0 rfl rfl)
theorem dX1_shorter_211 : decode cX1_shorter 211 = .ok (.getfield 64, 3) := dk_180 0 64 (dk_at dksX1_shorter_9 2 rfl rfl)
theorem dX1_shorter_214 : decode cX1_shorter 214 = .ok (.aload 5, 2) := dk_25 5 (dk_at dksX1_shorter_9 5 rfl rfl)
theorem dX1_shorter_216 : decode cX1_shorter 216 = .ok (.getfield 67, 3) := dk_180 0 67 (dk_at dksX1_shorter_9 7 rfl rfl)
theorem dX1_shorter_219 : decode cX1_shorter 219 = .ok (.lload 12, 2) := dk_22 12 (dk_at dksX1_shorter_9 10 rfl rfl)
theorem dX1_shorter_221 : decode cX1_shorter 221 = .ok (.iload_n 2, 1) := dk_28 (dk_at dksX1_shorter_9 12 rfl rfl)
theorem dX1_shorter_222 : decode cX1_shorter 222 = .ok (.invokestatic 228, 3) := dk_184 0 228 (dk_at dksX1_shorter_9 13 rfl rfl)
theorem dX1_shorter_225 : decode cX1_shorter 225 = .ok (.invokestatic 247, 3) := dk_184 0 247 (dk_at dksX1_shorter_9 16 rfl rfl)
theorem dX1_shorter_228 : decode cX1_shorter 228 = .ok (.invokestatic 1, 3) := dk_184 0 1 (dk_at dksX1_shorter_9 19 rfl rfl)
theorem dX1_shorter_231 : decode cX1_shorter 231 = .ok (.invokestatic 232, 3) := dk_184 0 232 (dk_at dksX1_shorter_10 0 rfl rfl)
theorem dX1_shorter_234 : decode cX1_shorter 234 = .ok (.invokestatic 144, 3) := dk_184 0 144 (dk_at dksX1_shorter_10 3 rfl rfl)
theorem dX1_shorter_237 : decode cX1_shorter 237 = .ok (.lstore 9, 2) := dk_55 9 (dk_at dksX1_shorter_10 6 rfl rfl)
theorem dX1_shorter_239 : decode cX1_shorter 239 = .ok (.aload 6, 2) := dk_25 6 (dk_at dksX1_shorter_10 8 rfl rfl)
theorem dX1_shorter_241 : decode cX1_shorter 241 = .ok (.aload 5, 2) := dk_25 5 (dk_at dksX1_shorter_10 10 rfl rfl)
theorem dX1_shorter_243 : decode cX1_shorter 243 = .ok (.getfield 64, 3) := dk_180 0 64 (dk_at dksX1_shorter_10 12 rfl rfl)
theorem dX1_shorter_246 : decode cX1_shorter 246 = .ok (.aload 5, 2) := dk_25 5 (dk_at dksX1_shorter_10 15 rfl rfl)
theorem dX1_shorter_248 : decode cX1_shorter 248 = .ok (.getfield 67, 3) := dk_180 0 67 (dk_at dksX1_shorter_10 17 rfl rfl)
theorem dX1_shorter_251 : decode cX1_shorter 251 = .ok (.lload 9, 2) := dk_22 9 (dk_at dksX1_shorter_10 20 rfl rfl)
theorem dX1_shorter_253 : decode cX1_shorter 253 = .ok (.iload_n 2, 1) := dk_28 (dk_at dksX1_shorter_10 22 rfl rfl)
theorem dX1_shorter_254 : decode cX1_shorter 254 = .ok (.invokestatic 239, 3) := dk_184 0 239 (dk_at dksX1_shorter_11 0 rfl rfl)
theorem dX1_shorter_257 : decode cX1_shorter 257 = .ok (.invokevirtual 78, 3) := dk_182 0 78 (dk_at dksX1_shorter_11 3 rfl rfl)
theorem dX1_shorter_260 : decode cX1_shorter 260 = .ok (.iinc 8 1, 3) := dk_132 8 1 (dk_at dksX1_shorter_11 6 rfl rfl)
theorem dX1_shorter_263 : decode cX1_shorter 263 = .ok (.goto (-169), 3) := dk_167 255 87 (dk_at dksX1_shorter_11 9 rfl rfl)
theorem dX1_shorter_266 : decode cX1_shorter 266 = .ok (.aload_n 0, 1) := dk_42 (dk_at dksX1_shorter_11 12 rfl rfl)
theorem dX1_shorter_267 : decode cX1_shorter 267 = .ok (.iload_n 3, 1) := dk_29 (dk_at dksX1_shorter_11 13 rfl rfl)
theorem dX1_shorter_268 : decode cX1_shorter 268 = .ok (.aload 6, 2) := dk_25 6 (dk_at dksX1_shorter_11 14 rfl rfl)
theorem dX1_shorter_270 : decode cX1_shorter 270 = .ok (.invokevirtual 56, 3) := dk_182 0 56 (dk_at dksX1_shorter_11 16 rfl rfl)
theorem dX1_shorter_273 : decode cX1_shorter 273 = .ok (.ireturn, 1) := dk_172 (dk_at dksX1_shorter_11 19 rfl rfl)
abbrev cX1_join : ByteArray := prog_1_method_64_code
def yX1_join : MethodName := ⟨RX1, "join", "(IIII)I"⟩
def dkwX1_join_12 : List UInt8 := [21, 12, 47, 182, 0, 250, 132, 12, 1, 167, 255, 230, 42, 21, 4, 25, 9, 182, 0, 56, 172]
abbrev dktX1_join_12 : List UInt8 := dkwX1_join_12 ++ []
def dkwX1_join_11 : List UInt8 := [167, 255, 209, 3, 54, 12, 21, 12, 25, 7, 180, 0, 30, 162, 0, 22, 25, 9, 25, 7, 180, 0, 120]
abbrev dktX1_join_11 : List UInt8 := dkwX1_join_11 ++ dktX1_join_12
def dkwX1_join_10 : List UInt8 := [160, 0, 14, 25, 6, 180, 0, 120, 21, 12, 47, 167, 0, 4, 9, 97, 182, 0, 250, 132, 12, 1]
abbrev dktX1_join_10 : List UInt8 := dkwX1_join_10 ++ dktX1_join_11
def dkwX1_join_9 : List UInt8 := [25, 6, 180, 0, 30, 162, 0, 43, 25, 9, 25, 6, 180, 0, 120, 21, 12, 47, 22, 10, 105, 29, 5]
abbrev dktX1_join_9 : List UInt8 := dkwX1_join_9 ++ dktX1_join_10
def dkwX1_join_8 : List UInt8 := [167, 0, 16, 25, 6, 180, 0, 64, 25, 7, 180, 0, 67, 184, 0, 7, 55, 10, 3, 54, 12, 21, 12]
abbrev dktX1_join_8 : List UInt8 := dkwX1_join_8 ++ dktX1_join_9
def dkwX1_join_7 : List UInt8 := [16, 250, 172, 187, 0, 50, 89, 25, 6, 180, 0, 64, 21, 8, 183, 0, 52, 58, 9, 29, 154, 0, 7, 10]
abbrev dktX1_join_7 : List UInt8 := dkwX1_join_7 ++ dktX1_join_8
def dkwX1_join_6 : List UInt8 := [25, 6, 180, 0, 30, 25, 7, 180, 0, 30, 96, 16, 12, 163, 0, 10, 21, 8, 16, 12, 164, 0, 6]
abbrev dktX1_join_6 : List UInt8 := dkwX1_join_6 ++ dktX1_join_7
def dkwX1_join_5 : List UInt8 := [154, 0, 11, 25, 6, 180, 0, 67, 167, 0, 14, 25, 6, 180, 0, 67, 25, 7, 180, 0, 67, 96, 54, 8]
abbrev dktX1_join_5 : List UInt8 := dkwX1_join_5 ++ dktX1_join_6
def dkwX1_join_4 : List UInt8 := [29, 4, 159, 0, 19, 25, 6, 180, 0, 67, 25, 7, 180, 0, 67, 159, 0, 6, 16, 252, 172, 29]
abbrev dktX1_join_4 : List UInt8 := dkwX1_join_4 ++ dktX1_join_5
def dkwX1_join_3 : List UInt8 := [50, 58, 6, 42, 180, 0, 26, 28, 50, 58, 7, 25, 6, 180, 0, 64, 25, 7, 180, 0, 64, 160, 0, 21]
abbrev dktX1_join_3 : List UInt8 := dkwX1_join_3 ++ dktX1_join_4
def dkwX1_join_2 : List UInt8 := [154, 0, 11, 42, 28, 4, 182, 0, 60, 54, 5, 21, 5, 153, 0, 6, 21, 5, 172, 42, 180, 0, 26, 27]
abbrev dktX1_join_2 : List UInt8 := dkwX1_join_2 ++ dktX1_join_3
def dkwX1_join_1 : List UInt8 := [153, 0, 11, 21, 4, 184, 0, 36, 154, 0, 5, 2, 172, 42, 27, 4, 182, 0, 60, 54, 5, 21, 5]
abbrev dktX1_join_1 : List UInt8 := dkwX1_join_1 ++ dktX1_join_2
def dkwX1_join_0 : List UInt8 := [27, 184, 0, 36, 153, 0, 30, 28, 184, 0, 36, 153, 0, 23, 29, 133, 9, 20, 0, 20, 184, 0, 16]
abbrev dktX1_join_0 : List UInt8 := dkwX1_join_0 ++ dktX1_join_1
theorem dksX1_join_0 : cX1_join.data.toList.drop 0 = dktX1_join_0 := by decide +kernel
theorem dksX1_join_1 : cX1_join.data.toList.drop 23 = dktX1_join_1 := dk_seg dksX1_join_0 23 rfl rfl
theorem dksX1_join_2 : cX1_join.data.toList.drop 46 = dktX1_join_2 := dk_seg dksX1_join_1 23 rfl rfl
theorem dksX1_join_3 : cX1_join.data.toList.drop 70 = dktX1_join_3 := dk_seg dksX1_join_2 24 rfl rfl
theorem dksX1_join_4 : cX1_join.data.toList.drop 94 = dktX1_join_4 := dk_seg dksX1_join_3 24 rfl rfl
theorem dksX1_join_5 : cX1_join.data.toList.drop 116 = dktX1_join_5 := dk_seg dksX1_join_4 22 rfl rfl
theorem dksX1_join_6 : cX1_join.data.toList.drop 140 = dktX1_join_6 := dk_seg dksX1_join_5 24 rfl rfl
theorem dksX1_join_7 : cX1_join.data.toList.drop 163 = dktX1_join_7 := dk_seg dksX1_join_6 23 rfl rfl
theorem dksX1_join_8 : cX1_join.data.toList.drop 187 = dktX1_join_8 := dk_seg dksX1_join_7 24 rfl rfl
theorem dksX1_join_9 : cX1_join.data.toList.drop 210 = dktX1_join_9 := dk_seg dksX1_join_8 23 rfl rfl
theorem dksX1_join_10 : cX1_join.data.toList.drop 233 = dktX1_join_10 := dk_seg dksX1_join_9 23 rfl rfl
theorem dksX1_join_11 : cX1_join.data.toList.drop 255 = dktX1_join_11 := dk_seg dksX1_join_10 22 rfl rfl
theorem dksX1_join_12 : cX1_join.data.toList.drop 278 = dktX1_join_12 := dk_seg dksX1_join_11 23 rfl rfl
theorem dX1_join_0 : decode cX1_join 0 = .ok (.iload_n 1, 1) := dk_27 (dk_at dksX1_join_0 0 rfl rfl)
theorem dX1_join_1 : decode cX1_join 1 = .ok (.invokestatic 36, 3) := dk_184 0 36 (dk_at dksX1_join_0 1 rfl rfl)
theorem dX1_join_4 : decode cX1_join 4 = .ok (.ifCond .eq 30, 3) := dk_153 0 30 (dk_at dksX1_join_0 4 rfl rfl)
theorem dX1_join_7 : decode cX1_join 7 = .ok (.iload_n 2, 1) := dk_28 (dk_at dksX1_join_0 7 rfl rfl)
theorem dX1_join_8 : decode cX1_join 8 = .ok (.invokestatic 36, 3) := dk_184 0 36 (dk_at dksX1_join_0 8 rfl rfl)
theorem dX1_join_11 : decode cX1_join 11 = .ok (.ifCond .eq 23, 3) := dk_153 0 23 (dk_at dksX1_join_0 11 rfl rfl)
theorem dX1_join_14 : decode cX1_join 14 = .ok (.iload_n 3, 1) := dk_29 (dk_at dksX1_join_0 14 rfl rfl)
theorem dX1_join_15 : decode cX1_join 15 = .ok (.i2l, 1) := dk_133 (dk_at dksX1_join_0 15 rfl rfl)
theorem dX1_join_16 : decode cX1_join 16 = .ok (.lconst 0, 1) := dk_9 (dk_at dksX1_join_0 16 rfl rfl)
theorem dX1_join_17 : decode cX1_join 17 = .ok (.ldc2_w 20, 3) := dk_20 0 20 (dk_at dksX1_join_0 17 rfl rfl)
theorem dX1_join_20 : decode cX1_join 20 = .ok (.invokestatic 16, 3) := dk_184 0 16 (dk_at dksX1_join_0 20 rfl rfl)
theorem dX1_join_23 : decode cX1_join 23 = .ok (.ifCond .eq 11, 3) := dk_153 0 11 (dk_at dksX1_join_1 0 rfl rfl)
theorem dX1_join_26 : decode cX1_join 26 = .ok (.iload 4, 2) := dk_21 4 (dk_at dksX1_join_1 3 rfl rfl)
theorem dX1_join_28 : decode cX1_join 28 = .ok (.invokestatic 36, 3) := dk_184 0 36 (dk_at dksX1_join_1 5 rfl rfl)
theorem dX1_join_31 : decode cX1_join 31 = .ok (.ifCond .ne 5, 3) := dk_154 0 5 (dk_at dksX1_join_1 8 rfl rfl)
theorem dX1_join_34 : decode cX1_join 34 = .ok (.iconst (-1), 1) := dk_2 (dk_at dksX1_join_1 11 rfl rfl)
theorem dX1_join_35 : decode cX1_join 35 = .ok (.ireturn, 1) := dk_172 (dk_at dksX1_join_1 12 rfl rfl)
theorem dX1_join_36 : decode cX1_join 36 = .ok (.aload_n 0, 1) := dk_42 (dk_at dksX1_join_1 13 rfl rfl)
theorem dX1_join_37 : decode cX1_join 37 = .ok (.iload_n 1, 1) := dk_27 (dk_at dksX1_join_1 14 rfl rfl)
theorem dX1_join_38 : decode cX1_join 38 = .ok (.iconst 1, 1) := dk_4 (dk_at dksX1_join_1 15 rfl rfl)
theorem dX1_join_39 : decode cX1_join 39 = .ok (.invokevirtual 60, 3) := dk_182 0 60 (dk_at dksX1_join_1 16 rfl rfl)
theorem dX1_join_42 : decode cX1_join 42 = .ok (.istore 5, 2) := dk_54 5 (dk_at dksX1_join_1 19 rfl rfl)
theorem dX1_join_44 : decode cX1_join 44 = .ok (.iload 5, 2) := dk_21 5 (dk_at dksX1_join_1 21 rfl rfl)
theorem dX1_join_46 : decode cX1_join 46 = .ok (.ifCond .ne 11, 3) := dk_154 0 11 (dk_at dksX1_join_2 0 rfl rfl)
theorem dX1_join_49 : decode cX1_join 49 = .ok (.aload_n 0, 1) := dk_42 (dk_at dksX1_join_2 3 rfl rfl)
theorem dX1_join_50 : decode cX1_join 50 = .ok (.iload_n 2, 1) := dk_28 (dk_at dksX1_join_2 4 rfl rfl)
theorem dX1_join_51 : decode cX1_join 51 = .ok (.iconst 1, 1) := dk_4 (dk_at dksX1_join_2 5 rfl rfl)
theorem dX1_join_52 : decode cX1_join 52 = .ok (.invokevirtual 60, 3) := dk_182 0 60 (dk_at dksX1_join_2 6 rfl rfl)
theorem dX1_join_55 : decode cX1_join 55 = .ok (.istore 5, 2) := dk_54 5 (dk_at dksX1_join_2 9 rfl rfl)
theorem dX1_join_57 : decode cX1_join 57 = .ok (.iload 5, 2) := dk_21 5 (dk_at dksX1_join_2 11 rfl rfl)
theorem dX1_join_59 : decode cX1_join 59 = .ok (.ifCond .eq 6, 3) := dk_153 0 6 (dk_at dksX1_join_2 13 rfl rfl)
theorem dX1_join_62 : decode cX1_join 62 = .ok (.iload 5, 2) := dk_21 5 (dk_at dksX1_join_2 16 rfl rfl)
theorem dX1_join_64 : decode cX1_join 64 = .ok (.ireturn, 1) := dk_172 (dk_at dksX1_join_2 18 rfl rfl)
theorem dX1_join_65 : decode cX1_join 65 = .ok (.aload_n 0, 1) := dk_42 (dk_at dksX1_join_2 19 rfl rfl)
theorem dX1_join_66 : decode cX1_join 66 = .ok (.getfield 26, 3) := dk_180 0 26 (dk_at dksX1_join_2 20 rfl rfl)
theorem dX1_join_69 : decode cX1_join 69 = .ok (.iload_n 1, 1) := dk_27 (dk_at dksX1_join_2 23 rfl rfl)
theorem dX1_join_70 : decode cX1_join 70 = .ok (.aaload, 1) := dk_50 (dk_at dksX1_join_3 0 rfl rfl)
theorem dX1_join_71 : decode cX1_join 71 = .ok (.astore 6, 2) := dk_58 6 (dk_at dksX1_join_3 1 rfl rfl)
theorem dX1_join_73 : decode cX1_join 73 = .ok (.aload_n 0, 1) := dk_42 (dk_at dksX1_join_3 3 rfl rfl)
theorem dX1_join_74 : decode cX1_join 74 = .ok (.getfield 26, 3) := dk_180 0 26 (dk_at dksX1_join_3 4 rfl rfl)
theorem dX1_join_77 : decode cX1_join 77 = .ok (.iload_n 2, 1) := dk_28 (dk_at dksX1_join_3 7 rfl rfl)
theorem dX1_join_78 : decode cX1_join 78 = .ok (.aaload, 1) := dk_50 (dk_at dksX1_join_3 8 rfl rfl)
theorem dX1_join_79 : decode cX1_join 79 = .ok (.astore 7, 2) := dk_58 7 (dk_at dksX1_join_3 9 rfl rfl)
theorem dX1_join_81 : decode cX1_join 81 = .ok (.aload 6, 2) := dk_25 6 (dk_at dksX1_join_3 11 rfl rfl)
theorem dX1_join_83 : decode cX1_join 83 = .ok (.getfield 64, 3) := dk_180 0 64 (dk_at dksX1_join_3 13 rfl rfl)
theorem dX1_join_86 : decode cX1_join 86 = .ok (.aload 7, 2) := dk_25 7 (dk_at dksX1_join_3 16 rfl rfl)
theorem dX1_join_88 : decode cX1_join 88 = .ok (.getfield 64, 3) := dk_180 0 64 (dk_at dksX1_join_3 18 rfl rfl)
theorem dX1_join_91 : decode cX1_join 91 = .ok (.if_icmp .ne 21, 3) := dk_160 0 21 (dk_at dksX1_join_3 21 rfl rfl)
theorem dX1_join_94 : decode cX1_join 94 = .ok (.iload_n 3, 1) := dk_29 (dk_at dksX1_join_4 0 rfl rfl)
theorem dX1_join_95 : decode cX1_join 95 = .ok (.iconst 1, 1) := dk_4 (dk_at dksX1_join_4 1 rfl rfl)
theorem dX1_join_96 : decode cX1_join 96 = .ok (.if_icmp .eq 19, 3) := dk_159 0 19 (dk_at dksX1_join_4 2 rfl rfl)
theorem dX1_join_99 : decode cX1_join 99 = .ok (.aload 6, 2) := dk_25 6 (dk_at dksX1_join_4 5 rfl rfl)
theorem dX1_join_101 : decode cX1_join 101 = .ok (.getfield 67, 3) := dk_180 0 67 (dk_at dksX1_join_4 7 rfl rfl)
theorem dX1_join_104 : decode cX1_join 104 = .ok (.aload 7, 2) := dk_25 7 (dk_at dksX1_join_4 10 rfl rfl)
theorem dX1_join_106 : decode cX1_join 106 = .ok (.getfield 67, 3) := dk_180 0 67 (dk_at dksX1_join_4 12 rfl rfl)
theorem dX1_join_109 : decode cX1_join 109 = .ok (.if_icmp .eq 6, 3) := dk_159 0 6 (dk_at dksX1_join_4 15 rfl rfl)
theorem dX1_join_112 : decode cX1_join 112 = .ok (.bipush (-4), 2) := dk_16 252 (dk_at dksX1_join_4 18 rfl rfl)
theorem dX1_join_114 : decode cX1_join 114 = .ok (.ireturn, 1) := dk_172 (dk_at dksX1_join_4 20 rfl rfl)
theorem dX1_join_115 : decode cX1_join 115 = .ok (.iload_n 3, 1) := dk_29 (dk_at dksX1_join_4 21 rfl rfl)
theorem dX1_join_116 : decode cX1_join 116 = .ok (.ifCond .ne 11, 3) := dk_154 0 11 (dk_at dksX1_join_5 0 rfl rfl)
theorem dX1_join_119 : decode cX1_join 119 = .ok (.aload 6, 2) := dk_25 6 (dk_at dksX1_join_5 3 rfl rfl)
theorem dX1_join_121 : decode cX1_join 121 = .ok (.getfield 67, 3) := dk_180 0 67 (dk_at dksX1_join_5 5 rfl rfl)
theorem dX1_join_124 : decode cX1_join 124 = .ok (.goto 14, 3) := dk_167 0 14 (dk_at dksX1_join_5 8 rfl rfl)
theorem dX1_join_127 : decode cX1_join 127 = .ok (.aload 6, 2) := dk_25 6 (dk_at dksX1_join_5 11 rfl rfl)
theorem dX1_join_129 : decode cX1_join 129 = .ok (.getfield 67, 3) := dk_180 0 67 (dk_at dksX1_join_5 13 rfl rfl)
theorem dX1_join_132 : decode cX1_join 132 = .ok (.aload 7, 2) := dk_25 7 (dk_at dksX1_join_5 16 rfl rfl)
theorem dX1_join_134 : decode cX1_join 134 = .ok (.getfield 67, 3) := dk_180 0 67 (dk_at dksX1_join_5 18 rfl rfl)
theorem dX1_join_137 : decode cX1_join 137 = .ok (.iadd, 1) := dk_96 (dk_at dksX1_join_5 21 rfl rfl)
theorem dX1_join_138 : decode cX1_join 138 = .ok (.istore 8, 2) := dk_54 8 (dk_at dksX1_join_5 22 rfl rfl)
theorem dX1_join_140 : decode cX1_join 140 = .ok (.aload 6, 2) := dk_25 6 (dk_at dksX1_join_6 0 rfl rfl)
theorem dX1_join_142 : decode cX1_join 142 = .ok (.getfield 30, 3) := dk_180 0 30 (dk_at dksX1_join_6 2 rfl rfl)
theorem dX1_join_145 : decode cX1_join 145 = .ok (.aload 7, 2) := dk_25 7 (dk_at dksX1_join_6 5 rfl rfl)
theorem dX1_join_147 : decode cX1_join 147 = .ok (.getfield 30, 3) := dk_180 0 30 (dk_at dksX1_join_6 7 rfl rfl)
theorem dX1_join_150 : decode cX1_join 150 = .ok (.iadd, 1) := dk_96 (dk_at dksX1_join_6 10 rfl rfl)
theorem dX1_join_151 : decode cX1_join 151 = .ok (.bipush 12, 2) := dk_16 12 (dk_at dksX1_join_6 11 rfl rfl)
theorem dX1_join_153 : decode cX1_join 153 = .ok (.if_icmp .gt 10, 3) := dk_163 0 10 (dk_at dksX1_join_6 13 rfl rfl)
theorem dX1_join_156 : decode cX1_join 156 = .ok (.iload 8, 2) := dk_21 8 (dk_at dksX1_join_6 16 rfl rfl)
theorem dX1_join_158 : decode cX1_join 158 = .ok (.bipush 12, 2) := dk_16 12 (dk_at dksX1_join_6 18 rfl rfl)
theorem dX1_join_160 : decode cX1_join 160 = .ok (.if_icmp .le 6, 3) := dk_164 0 6 (dk_at dksX1_join_6 20 rfl rfl)
theorem dX1_join_163 : decode cX1_join 163 = .ok (.bipush (-6), 2) := dk_16 250 (dk_at dksX1_join_7 0 rfl rfl)
theorem dX1_join_165 : decode cX1_join 165 = .ok (.ireturn, 1) := dk_172 (dk_at dksX1_join_7 2 rfl rfl)
theorem dX1_join_166 : decode cX1_join 166 = .ok (.new 50, 3) := dk_187 0 50 (dk_at dksX1_join_7 3 rfl rfl)
theorem dX1_join_169 : decode cX1_join 169 = .ok (.dup, 1) := dk_89 (dk_at dksX1_join_7 6 rfl rfl)
theorem dX1_join_170 : decode cX1_join 170 = .ok (.aload 6, 2) := dk_25 6 (dk_at dksX1_join_7 7 rfl rfl)
theorem dX1_join_172 : decode cX1_join 172 = .ok (.getfield 64, 3) := dk_180 0 64 (dk_at dksX1_join_7 9 rfl rfl)
theorem dX1_join_175 : decode cX1_join 175 = .ok (.iload 8, 2) := dk_21 8 (dk_at dksX1_join_7 12 rfl rfl)
theorem dX1_join_177 : decode cX1_join 177 = .ok (.invokespecial 52, 3) := dk_183 0 52 (dk_at dksX1_join_7 14 rfl rfl)
theorem dX1_join_180 : decode cX1_join 180 = .ok (.astore 9, 2) := dk_58 9 (dk_at dksX1_join_7 17 rfl rfl)
theorem dX1_join_182 : decode cX1_join 182 = .ok (.iload_n 3, 1) := dk_29 (dk_at dksX1_join_7 19 rfl rfl)
theorem dX1_join_183 : decode cX1_join 183 = .ok (.ifCond .ne 7, 3) := dk_154 0 7 (dk_at dksX1_join_7 20 rfl rfl)
theorem dX1_join_186 : decode cX1_join 186 = .ok (.lconst 1, 1) := dk_10 (dk_at dksX1_join_7 23 rfl rfl)
theorem dX1_join_187 : decode cX1_join 187 = .ok (.goto 16, 3) := dk_167 0 16 (dk_at dksX1_join_8 0 rfl rfl)
theorem dX1_join_190 : decode cX1_join 190 = .ok (.aload 6, 2) := dk_25 6 (dk_at dksX1_join_8 3 rfl rfl)
theorem dX1_join_192 : decode cX1_join 192 = .ok (.getfield 64, 3) := dk_180 0 64 (dk_at dksX1_join_8 5 rfl rfl)
theorem dX1_join_195 : decode cX1_join 195 = .ok (.aload 7, 2) := dk_25 7 (dk_at dksX1_join_8 8 rfl rfl)
theorem dX1_join_197 : decode cX1_join 197 = .ok (.getfield 67, 3) := dk_180 0 67 (dk_at dksX1_join_8 10 rfl rfl)
theorem dX1_join_200 : decode cX1_join 200 = .ok (.invokestatic 7, 3) := dk_184 0 7 (dk_at dksX1_join_8 13 rfl rfl)
theorem dX1_join_203 : decode cX1_join 203 = .ok (.lstore 10, 2) := dk_55 10 (dk_at dksX1_join_8 16 rfl rfl)
theorem dX1_join_205 : decode cX1_join 205 = .ok (.iconst 0, 1) := dk_3 (dk_at dksX1_join_8 18 rfl rfl)
theorem dX1_join_206 : decode cX1_join 206 = .ok (.istore 12, 2) := dk_54 12 (dk_at dksX1_join_8 19 rfl rfl)
theorem dX1_join_208 : decode cX1_join 208 = .ok (.iload 12, 2) := dk_21 12 (dk_at dksX1_join_8 21 rfl rfl)
theorem dX1_join_210 : decode cX1_join 210 = .ok (.aload 6, 2) := dk_25 6 (dk_at dksX1_join_9 0 rfl rfl)
theorem dX1_join_212 : decode cX1_join 212 = .ok (.getfield 30, 3) := dk_180 0 30 (dk_at dksX1_join_9 2 rfl rfl)
theorem dX1_join_215 : decode cX1_join 215 = .ok (.if_icmp .ge 43, 3) := dk_162 0 43 (dk_at dksX1_join_9 5 rfl rfl)
theorem dX1_join_218 : decode cX1_join 218 = .ok (.aload 9, 2) := dk_25 9 (dk_at dksX1_join_9 8 rfl rfl)
theorem dX1_join_220 : decode cX1_join 220 = .ok (.aload 6, 2) := dk_25 6 (dk_at dksX1_join_9 10 rfl rfl)
theorem dX1_join_222 : decode cX1_join 222 = .ok (.getfield 120, 3) := dk_180 0 120 (dk_at dksX1_join_9 12 rfl rfl)
theorem dX1_join_225 : decode cX1_join 225 = .ok (.iload 12, 2) := dk_21 12 (dk_at dksX1_join_9 15 rfl rfl)
theorem dX1_join_227 : decode cX1_join 227 = .ok (.laload, 1) := dk_47 (dk_at dksX1_join_9 17 rfl rfl)
theorem dX1_join_228 : decode cX1_join 228 = .ok (.lload 10, 2) := dk_22 10 (dk_at dksX1_join_9 18 rfl rfl)
theorem dX1_join_230 : decode cX1_join 230 = .ok (.lmul, 1) := dk_105 (dk_at dksX1_join_9 20 rfl rfl)
theorem dX1_join_231 : decode cX1_join 231 = .ok (.iload_n 3, 1) := dk_29 (dk_at dksX1_join_9 21 rfl rfl)
theorem dX1_join_232 : decode cX1_join 232 = .ok (.iconst 2, 1) := dk_5 (dk_at dksX1_join_9 22 rfl rfl)
theorem dX1_join_233 : decode cX1_join 233 = .ok (.if_icmp .ne 14, 3) := dk_160 0 14 (dk_at dksX1_join_10 0 rfl rfl)
theorem dX1_join_236 : decode cX1_join 236 = .ok (.aload 6, 2) := dk_25 6 (dk_at dksX1_join_10 3 rfl rfl)
theorem dX1_join_238 : decode cX1_join 238 = .ok (.getfield 120, 3) := dk_180 0 120 (dk_at dksX1_join_10 5 rfl rfl)
theorem dX1_join_241 : decode cX1_join 241 = .ok (.iload 12, 2) := dk_21 12 (dk_at dksX1_join_10 8 rfl rfl)
theorem dX1_join_243 : decode cX1_join 243 = .ok (.laload, 1) := dk_47 (dk_at dksX1_join_10 10 rfl rfl)
theorem dX1_join_244 : decode cX1_join 244 = .ok (.goto 4, 3) := dk_167 0 4 (dk_at dksX1_join_10 11 rfl rfl)
theorem dX1_join_247 : decode cX1_join 247 = .ok (.lconst 0, 1) := dk_9 (dk_at dksX1_join_10 14 rfl rfl)
theorem dX1_join_248 : decode cX1_join 248 = .ok (.ladd, 1) := dk_97 (dk_at dksX1_join_10 15 rfl rfl)
theorem dX1_join_249 : decode cX1_join 249 = .ok (.invokevirtual 250, 3) := dk_182 0 250 (dk_at dksX1_join_10 16 rfl rfl)
theorem dX1_join_252 : decode cX1_join 252 = .ok (.iinc 12 1, 3) := dk_132 12 1 (dk_at dksX1_join_10 19 rfl rfl)
theorem dX1_join_255 : decode cX1_join 255 = .ok (.goto (-47), 3) := dk_167 255 209 (dk_at dksX1_join_11 0 rfl rfl)
theorem dX1_join_258 : decode cX1_join 258 = .ok (.iconst 0, 1) := dk_3 (dk_at dksX1_join_11 3 rfl rfl)
theorem dX1_join_259 : decode cX1_join 259 = .ok (.istore 12, 2) := dk_54 12 (dk_at dksX1_join_11 4 rfl rfl)
theorem dX1_join_261 : decode cX1_join 261 = .ok (.iload 12, 2) := dk_21 12 (dk_at dksX1_join_11 6 rfl rfl)
theorem dX1_join_263 : decode cX1_join 263 = .ok (.aload 7, 2) := dk_25 7 (dk_at dksX1_join_11 8 rfl rfl)
theorem dX1_join_265 : decode cX1_join 265 = .ok (.getfield 30, 3) := dk_180 0 30 (dk_at dksX1_join_11 10 rfl rfl)
theorem dX1_join_268 : decode cX1_join 268 = .ok (.if_icmp .ge 22, 3) := dk_162 0 22 (dk_at dksX1_join_11 13 rfl rfl)
theorem dX1_join_271 : decode cX1_join 271 = .ok (.aload 9, 2) := dk_25 9 (dk_at dksX1_join_11 16 rfl rfl)
theorem dX1_join_273 : decode cX1_join 273 = .ok (.aload 7, 2) := dk_25 7 (dk_at dksX1_join_11 18 rfl rfl)
theorem dX1_join_275 : decode cX1_join 275 = .ok (.getfield 120, 3) := dk_180 0 120 (dk_at dksX1_join_11 20 rfl rfl)
theorem dX1_join_278 : decode cX1_join 278 = .ok (.iload 12, 2) := dk_21 12 (dk_at dksX1_join_12 0 rfl rfl)
theorem dX1_join_280 : decode cX1_join 280 = .ok (.laload, 1) := dk_47 (dk_at dksX1_join_12 2 rfl rfl)
theorem dX1_join_281 : decode cX1_join 281 = .ok (.invokevirtual 250, 3) := dk_182 0 250 (dk_at dksX1_join_12 3 rfl rfl)
theorem dX1_join_284 : decode cX1_join 284 = .ok (.iinc 12 1, 3) := dk_132 12 1 (dk_at dksX1_join_12 6 rfl rfl)
theorem dX1_join_287 : decode cX1_join 287 = .ok (.goto (-26), 3) := dk_167 255 230 (dk_at dksX1_join_12 9 rfl rfl)
theorem dX1_join_290 : decode cX1_join 290 = .ok (.aload_n 0, 1) := dk_42 (dk_at dksX1_join_12 12 rfl rfl)
theorem dX1_join_291 : decode cX1_join 291 = .ok (.iload 4, 2) := dk_21 4 (dk_at dksX1_join_12 13 rfl rfl)
theorem dX1_join_293 : decode cX1_join 293 = .ok (.aload 9, 2) := dk_25 9 (dk_at dksX1_join_12 15 rfl rfl)
theorem dX1_join_295 : decode cX1_join 295 = .ok (.invokevirtual 56, 3) := dk_182 0 56 (dk_at dksX1_join_12 17 rfl rfl)
theorem dX1_join_298 : decode cX1_join 298 = .ok (.ireturn, 1) := dk_172 (dk_at dksX1_join_12 20 rfl rfl)
abbrev cX1_list : ByteArray := prog_1_method_65_code
def yX1_list : MethodName := ⟨RX1, "list", "(II)I"⟩
def dkwX1_list_4 : List UInt8 := [180, 0, 170, 21, 5, 47, 182, 0, 78, 132, 5, 1, 167, 255, 232, 42, 28, 25, 4, 182, 0, 56, 172]
abbrev dktX1_list_4 : List UInt8 := dkwX1_list_4 ++ []
def dkwX1_list_3 : List UInt8 := [50, 180, 0, 67, 183, 0, 46, 58, 4, 3, 54, 5, 21, 5, 42, 180, 0, 173, 162, 0, 21, 25, 4, 42]
abbrev dktX1_list_3 : List UInt8 := dkwX1_list_3 ++ dktX1_list_4
def dkwX1_list_2 : List UInt8 := [164, 0, 6, 16, 250, 172, 187, 0, 44, 89, 42, 180, 0, 26, 27, 50, 180, 0, 64, 42, 180, 0, 26, 27]
abbrev dktX1_list_2 : List UInt8 := dkwX1_list_2 ++ dktX1_list_3
def dkwX1_list_1 : List UInt8 := [154, 0, 9, 42, 27, 182, 0, 187, 62, 29, 153, 0, 5, 29, 172, 42, 180, 0, 173, 17, 0, 200]
abbrev dktX1_list_1 : List UInt8 := dkwX1_list_1 ++ dktX1_list_2
def dkwX1_list_0 : List UInt8 := [27, 184, 0, 36, 153, 0, 10, 28, 184, 0, 36, 154, 0, 5, 2, 172, 42, 27, 4, 182, 0, 60, 62, 29]
abbrev dktX1_list_0 : List UInt8 := dkwX1_list_0 ++ dktX1_list_1
theorem dksX1_list_0 : cX1_list.data.toList.drop 0 = dktX1_list_0 := by decide +kernel
theorem dksX1_list_1 : cX1_list.data.toList.drop 24 = dktX1_list_1 := dk_seg dksX1_list_0 24 rfl rfl
theorem dksX1_list_2 : cX1_list.data.toList.drop 46 = dktX1_list_2 := dk_seg dksX1_list_1 22 rfl rfl
theorem dksX1_list_3 : cX1_list.data.toList.drop 70 = dktX1_list_3 := dk_seg dksX1_list_2 24 rfl rfl
theorem dksX1_list_4 : cX1_list.data.toList.drop 94 = dktX1_list_4 := dk_seg dksX1_list_3 24 rfl rfl
theorem dX1_list_0 : decode cX1_list 0 = .ok (.iload_n 1, 1) := dk_27 (dk_at dksX1_list_0 0 rfl rfl)
theorem dX1_list_1 : decode cX1_list 1 = .ok (.invokestatic 36, 3) := dk_184 0 36 (dk_at dksX1_list_0 1 rfl rfl)
theorem dX1_list_4 : decode cX1_list 4 = .ok (.ifCond .eq 10, 3) := dk_153 0 10 (dk_at dksX1_list_0 4 rfl rfl)
theorem dX1_list_7 : decode cX1_list 7 = .ok (.iload_n 2, 1) := dk_28 (dk_at dksX1_list_0 7 rfl rfl)
theorem dX1_list_8 : decode cX1_list 8 = .ok (.invokestatic 36, 3) := dk_184 0 36 (dk_at dksX1_list_0 8 rfl rfl)
theorem dX1_list_11 : decode cX1_list 11 = .ok (.ifCond .ne 5, 3) := dk_154 0 5 (dk_at dksX1_list_0 11 rfl rfl)
theorem dX1_list_14 : decode cX1_list 14 = .ok (.iconst (-1), 1) := dk_2 (dk_at dksX1_list_0 14 rfl rfl)
theorem dX1_list_15 : decode cX1_list 15 = .ok (.ireturn, 1) := dk_172 (dk_at dksX1_list_0 15 rfl rfl)
theorem dX1_list_16 : decode cX1_list 16 = .ok (.aload_n 0, 1) := dk_42 (dk_at dksX1_list_0 16 rfl rfl)
theorem dX1_list_17 : decode cX1_list 17 = .ok (.iload_n 1, 1) := dk_27 (dk_at dksX1_list_0 17 rfl rfl)
theorem dX1_list_18 : decode cX1_list 18 = .ok (.iconst 1, 1) := dk_4 (dk_at dksX1_list_0 18 rfl rfl)
theorem dX1_list_19 : decode cX1_list 19 = .ok (.invokevirtual 60, 3) := dk_182 0 60 (dk_at dksX1_list_0 19 rfl rfl)
theorem dX1_list_22 : decode cX1_list 22 = .ok (.istore_n 3, 1) := dk_62 (dk_at dksX1_list_0 22 rfl rfl)
theorem dX1_list_23 : decode cX1_list 23 = .ok (.iload_n 3, 1) := dk_29 (dk_at dksX1_list_0 23 rfl rfl)
theorem dX1_list_24 : decode cX1_list 24 = .ok (.ifCond .ne 9, 3) := dk_154 0 9 (dk_at dksX1_list_1 0 rfl rfl)
theorem dX1_list_27 : decode cX1_list 27 = .ok (.aload_n 0, 1) := dk_42 (dk_at dksX1_list_1 3 rfl rfl)
theorem dX1_list_28 : decode cX1_list 28 = .ok (.iload_n 1, 1) := dk_27 (dk_at dksX1_list_1 4 rfl rfl)
theorem dX1_list_29 : decode cX1_list 29 = .ok (.invokevirtual 187, 3) := dk_182 0 187 (dk_at dksX1_list_1 5 rfl rfl)
theorem dX1_list_32 : decode cX1_list 32 = .ok (.istore_n 3, 1) := dk_62 (dk_at dksX1_list_1 8 rfl rfl)
theorem dX1_list_33 : decode cX1_list 33 = .ok (.iload_n 3, 1) := dk_29 (dk_at dksX1_list_1 9 rfl rfl)
theorem dX1_list_34 : decode cX1_list 34 = .ok (.ifCond .eq 5, 3) := dk_153 0 5 (dk_at dksX1_list_1 10 rfl rfl)
theorem dX1_list_37 : decode cX1_list 37 = .ok (.iload_n 3, 1) := dk_29 (dk_at dksX1_list_1 13 rfl rfl)
theorem dX1_list_38 : decode cX1_list 38 = .ok (.ireturn, 1) := dk_172 (dk_at dksX1_list_1 14 rfl rfl)
theorem dX1_list_39 : decode cX1_list 39 = .ok (.aload_n 0, 1) := dk_42 (dk_at dksX1_list_1 15 rfl rfl)
theorem dX1_list_40 : decode cX1_list 40 = .ok (.getfield 173, 3) := dk_180 0 173 (dk_at dksX1_list_1 16 rfl rfl)
theorem dX1_list_43 : decode cX1_list 43 = .ok (.sipush 200, 3) := dk_17 0 200 (dk_at dksX1_list_1 19 rfl rfl)
theorem dX1_list_46 : decode cX1_list 46 = .ok (.if_icmp .le 6, 3) := dk_164 0 6 (dk_at dksX1_list_2 0 rfl rfl)
theorem dX1_list_49 : decode cX1_list 49 = .ok (.bipush (-6), 2) := dk_16 250 (dk_at dksX1_list_2 3 rfl rfl)
theorem dX1_list_51 : decode cX1_list 51 = .ok (.ireturn, 1) := dk_172 (dk_at dksX1_list_2 5 rfl rfl)
theorem dX1_list_52 : decode cX1_list 52 = .ok (.new 44, 3) := dk_187 0 44 (dk_at dksX1_list_2 6 rfl rfl)
theorem dX1_list_55 : decode cX1_list 55 = .ok (.dup, 1) := dk_89 (dk_at dksX1_list_2 9 rfl rfl)
theorem dX1_list_56 : decode cX1_list 56 = .ok (.aload_n 0, 1) := dk_42 (dk_at dksX1_list_2 10 rfl rfl)
theorem dX1_list_57 : decode cX1_list 57 = .ok (.getfield 26, 3) := dk_180 0 26 (dk_at dksX1_list_2 11 rfl rfl)
theorem dX1_list_60 : decode cX1_list 60 = .ok (.iload_n 1, 1) := dk_27 (dk_at dksX1_list_2 14 rfl rfl)
theorem dX1_list_61 : decode cX1_list 61 = .ok (.aaload, 1) := dk_50 (dk_at dksX1_list_2 15 rfl rfl)
theorem dX1_list_62 : decode cX1_list 62 = .ok (.getfield 64, 3) := dk_180 0 64 (dk_at dksX1_list_2 16 rfl rfl)
theorem dX1_list_65 : decode cX1_list 65 = .ok (.aload_n 0, 1) := dk_42 (dk_at dksX1_list_2 19 rfl rfl)
theorem dX1_list_66 : decode cX1_list 66 = .ok (.getfield 26, 3) := dk_180 0 26 (dk_at dksX1_list_2 20 rfl rfl)
theorem dX1_list_69 : decode cX1_list 69 = .ok (.iload_n 1, 1) := dk_27 (dk_at dksX1_list_2 23 rfl rfl)
theorem dX1_list_70 : decode cX1_list 70 = .ok (.aaload, 1) := dk_50 (dk_at dksX1_list_3 0 rfl rfl)
theorem dX1_list_71 : decode cX1_list 71 = .ok (.getfield 67, 3) := dk_180 0 67 (dk_at dksX1_list_3 1 rfl rfl)
theorem dX1_list_74 : decode cX1_list 74 = .ok (.invokespecial 46, 3) := dk_183 0 46 (dk_at dksX1_list_3 4 rfl rfl)
theorem dX1_list_77 : decode cX1_list 77 = .ok (.astore 4, 2) := dk_58 4 (dk_at dksX1_list_3 7 rfl rfl)
theorem dX1_list_79 : decode cX1_list 79 = .ok (.iconst 0, 1) := dk_3 (dk_at dksX1_list_3 9 rfl rfl)
theorem dX1_list_80 : decode cX1_list 80 = .ok (.istore 5, 2) := dk_54 5 (dk_at dksX1_list_3 10 rfl rfl)
theorem dX1_list_82 : decode cX1_list 82 = .ok (.iload 5, 2) := dk_21 5 (dk_at dksX1_list_3 12 rfl rfl)
theorem dX1_list_84 : decode cX1_list 84 = .ok (.aload_n 0, 1) := dk_42 (dk_at dksX1_list_3 14 rfl rfl)
theorem dX1_list_85 : decode cX1_list 85 = .ok (.getfield 173, 3) := dk_180 0 173 (dk_at dksX1_list_3 15 rfl rfl)
theorem dX1_list_88 : decode cX1_list 88 = .ok (.if_icmp .ge 21, 3) := dk_162 0 21 (dk_at dksX1_list_3 18 rfl rfl)
theorem dX1_list_91 : decode cX1_list 91 = .ok (.aload 4, 2) := dk_25 4 (dk_at dksX1_list_3 21 rfl rfl)
theorem dX1_list_93 : decode cX1_list 93 = .ok (.aload_n 0, 1) := dk_42 (dk_at dksX1_list_3 23 rfl rfl)
theorem dX1_list_94 : decode cX1_list 94 = .ok (.getfield 170, 3) := dk_180 0 170 (dk_at dksX1_list_4 0 rfl rfl)
theorem dX1_list_97 : decode cX1_list 97 = .ok (.iload 5, 2) := dk_21 5 (dk_at dksX1_list_4 3 rfl rfl)
theorem dX1_list_99 : decode cX1_list 99 = .ok (.laload, 1) := dk_47 (dk_at dksX1_list_4 5 rfl rfl)
theorem dX1_list_100 : decode cX1_list 100 = .ok (.invokevirtual 78, 3) := dk_182 0 78 (dk_at dksX1_list_4 6 rfl rfl)
theorem dX1_list_103 : decode cX1_list 103 = .ok (.iinc 5 1, 3) := dk_132 5 1 (dk_at dksX1_list_4 9 rfl rfl)
theorem dX1_list_106 : decode cX1_list 106 = .ok (.goto (-24), 3) := dk_167 255 232 (dk_at dksX1_list_4 12 rfl rfl)
theorem dX1_list_109 : decode cX1_list 109 = .ok (.aload_n 0, 1) := dk_42 (dk_at dksX1_list_4 15 rfl rfl)
theorem dX1_list_110 : decode cX1_list 110 = .ok (.iload_n 2, 1) := dk_28 (dk_at dksX1_list_4 16 rfl rfl)
theorem dX1_list_111 : decode cX1_list 111 = .ok (.aload 4, 2) := dk_25 4 (dk_at dksX1_list_4 17 rfl rfl)
theorem dX1_list_113 : decode cX1_list 113 = .ok (.invokevirtual 56, 3) := dk_182 0 56 (dk_at dksX1_list_4 19 rfl rfl)
theorem dX1_list_116 : decode cX1_list 116 = .ok (.ireturn, 1) := dk_172 (dk_at dksX1_list_4 22 rfl rfl)
abbrev cX1_turn : ByteArray := prog_1_method_67_code
def yX1_turn : MethodName := ⟨RX1, "turn", "(IJII)I"⟩
def dkwX1_turn_10 : List UInt8 := [25, 7, 182, 0, 56, 172]
abbrev dktX1_turn_10 : List UInt8 := dkwX1_turn_10 ++ []
def dkwX1_turn_9 : List UInt8 := [55, 9, 132, 11, 1, 167, 255, 172, 25, 7, 22, 9, 182, 0, 78, 132, 8, 1, 167, 255, 143, 42, 21, 5]
abbrev dktX1_turn_9 : List UInt8 := dkwX1_turn_9 ++ dktX1_turn_10
def dkwX1_turn_8 : List UInt8 := [25, 6, 180, 0, 67, 25, 6, 180, 0, 120, 21, 8, 47, 21, 11, 184, 0, 228, 184, 0, 1, 133, 105, 97]
abbrev dktX1_turn_8 : List UInt8 := dkwX1_turn_8 ++ dktX1_turn_9
def dkwX1_turn_7 : List UInt8 := [180, 0, 67, 4, 100, 21, 12, 100, 184, 0, 7, 25, 6, 180, 0, 64, 21, 4, 25, 6, 180, 0, 64]
abbrev dktX1_turn_7 : List UInt8 := dkwX1_turn_7 ++ dktX1_turn_8
def dkwX1_turn_6 : List UInt8 := [32, 7, 21, 11, 104, 123, 20, 0, 251, 127, 136, 54, 12, 22, 9, 25, 6, 180, 0, 64, 25, 6]
abbrev dktX1_turn_6 : List UInt8 := dkwX1_turn_6 ++ dktX1_turn_7
def dkwX1_turn_5 : List UInt8 := [25, 6, 180, 0, 30, 162, 0, 109, 9, 55, 9, 3, 54, 11, 21, 11, 25, 6, 180, 0, 67, 162, 0, 80]
abbrev dktX1_turn_5 : List UInt8 := dkwX1_turn_5 ++ dktX1_turn_6
def dkwX1_turn_4 : List UInt8 := [183, 0, 55, 167, 0, 13, 25, 6, 25, 6, 180, 0, 67, 184, 0, 224, 58, 7, 3, 54, 8, 21, 8]
abbrev dktX1_turn_4 : List UInt8 := dkwX1_turn_4 ++ dktX1_turn_5
def dkwX1_turn_3 : List UInt8 := [25, 6, 193, 0, 53, 153, 0, 23, 187, 0, 53, 89, 25, 6, 180, 0, 64, 25, 6, 180, 0, 67]
abbrev dktX1_turn_3 : List UInt8 := dkwX1_turn_3 ++ dktX1_turn_4
def dkwX1_turn_2 : List UInt8 := [153, 0, 21, 21, 4, 133, 10, 25, 6, 180, 0, 64, 4, 100, 133, 184, 0, 16, 154, 0, 5, 2, 172]
abbrev dktX1_turn_2 : List UInt8 := dkwX1_turn_2 ++ dktX1_turn_3
def dkwX1_turn_1 : List UInt8 := [199, 0, 6, 16, 245, 172, 42, 180, 0, 26, 27, 50, 58, 6, 25, 6, 180, 0, 67, 32, 184, 0, 253]
abbrev dktX1_turn_1 : List UInt8 := dkwX1_turn_1 ++ dktX1_turn_2
def dkwX1_turn_0 : List UInt8 := [27, 184, 0, 36, 153, 0, 11, 21, 5, 184, 0, 36, 154, 0, 5, 2, 172, 42, 180, 0, 26, 27, 50]
abbrev dktX1_turn_0 : List UInt8 := dkwX1_turn_0 ++ dktX1_turn_1
theorem dksX1_turn_0 : cX1_turn.data.toList.drop 0 = dktX1_turn_0 := by decide +kernel
theorem dksX1_turn_1 : cX1_turn.data.toList.drop 23 = dktX1_turn_1 := dk_seg dksX1_turn_0 23 rfl rfl
theorem dksX1_turn_2 : cX1_turn.data.toList.drop 46 = dktX1_turn_2 := dk_seg dksX1_turn_1 23 rfl rfl
theorem dksX1_turn_3 : cX1_turn.data.toList.drop 69 = dktX1_turn_3 := dk_seg dksX1_turn_2 23 rfl rfl
theorem dksX1_turn_4 : cX1_turn.data.toList.drop 91 = dktX1_turn_4 := dk_seg dksX1_turn_3 22 rfl rfl
theorem dksX1_turn_5 : cX1_turn.data.toList.drop 114 = dktX1_turn_5 := dk_seg dksX1_turn_4 23 rfl rfl
theorem dksX1_turn_6 : cX1_turn.data.toList.drop 138 = dktX1_turn_6 := dk_seg dksX1_turn_5 24 rfl rfl
theorem dksX1_turn_7 : cX1_turn.data.toList.drop 160 = dktX1_turn_7 := dk_seg dksX1_turn_6 22 rfl rfl
theorem dksX1_turn_8 : cX1_turn.data.toList.drop 183 = dktX1_turn_8 := dk_seg dksX1_turn_7 23 rfl rfl
theorem dksX1_turn_9 : cX1_turn.data.toList.drop 207 = dktX1_turn_9 := dk_seg dksX1_turn_8 24 rfl rfl
theorem dksX1_turn_10 : cX1_turn.data.toList.drop 231 = dktX1_turn_10 := dk_seg dksX1_turn_9 24 rfl rfl
theorem dX1_turn_0 : decode cX1_turn 0 = .ok (.iload_n 1, 1) := dk_27 (dk_at dksX1_turn_0 0 rfl rfl)
theorem dX1_turn_1 : decode cX1_turn 1 = .ok (.invokestatic 36, 3) := dk_184 0 36 (dk_at dksX1_turn_0 1 rfl rfl)
theorem dX1_turn_4 : decode cX1_turn 4 = .ok (.ifCond .eq 11, 3) := dk_153 0 11 (dk_at dksX1_turn_0 4 rfl rfl)
theorem dX1_turn_7 : decode cX1_turn 7 = .ok (.iload 5, 2) := dk_21 5 (dk_at dksX1_turn_0 7 rfl rfl)
theorem dX1_turn_9 : decode cX1_turn 9 = .ok (.invokestatic 36, 3) := dk_184 0 36 (dk_at dksX1_turn_0 9 rfl rfl)
theorem dX1_turn_12 : decode cX1_turn 12 = .ok (.ifCond .ne 5, 3) := dk_154 0 5 (dk_at dksX1_turn_0 12 rfl rfl)
theorem dX1_turn_15 : decode cX1_turn 15 = .ok (.iconst (-1), 1) := dk_2 (dk_at dksX1_turn_0 15 rfl rfl)
theorem dX1_turn_16 : decode cX1_turn 16 = .ok (.ireturn, 1) := dk_172 (dk_at dksX1_turn_0 16 rfl rfl)
theorem dX1_turn_17 : decode cX1_turn 17 = .ok (.aload_n 0, 1) := dk_42 (dk_at dksX1_turn_0 17 rfl rfl)
theorem dX1_turn_18 : decode cX1_turn 18 = .ok (.getfield 26, 3) := dk_180 0 26 (dk_at dksX1_turn_0 18 rfl rfl)
theorem dX1_turn_21 : decode cX1_turn 21 = .ok (.iload_n 1, 1) := dk_27 (dk_at dksX1_turn_0 21 rfl rfl)
theorem dX1_turn_22 : decode cX1_turn 22 = .ok (.aaload, 1) := dk_50 (dk_at dksX1_turn_0 22 rfl rfl)
theorem dX1_turn_23 : decode cX1_turn 23 = .ok (.ifnonnull 6, 3) := dk_199 0 6 (dk_at dksX1_turn_1 0 rfl rfl)
theorem dX1_turn_26 : decode cX1_turn 26 = .ok (.bipush (-11), 2) := dk_16 245 (dk_at dksX1_turn_1 3 rfl rfl)
theorem dX1_turn_28 : decode cX1_turn 28 = .ok (.ireturn, 1) := dk_172 (dk_at dksX1_turn_1 5 rfl rfl)
theorem dX1_turn_29 : decode cX1_turn 29 = .ok (.aload_n 0, 1) := dk_42 (dk_at dksX1_turn_1 6 rfl rfl)
theorem dX1_turn_30 : decode cX1_turn 30 = .ok (.getfield 26, 3) := dk_180 0 26 (dk_at dksX1_turn_1 7 rfl rfl)
theorem dX1_turn_33 : decode cX1_turn 33 = .ok (.iload_n 1, 1) := dk_27 (dk_at dksX1_turn_1 10 rfl rfl)
theorem dX1_turn_34 : decode cX1_turn 34 = .ok (.aaload, 1) := dk_50 (dk_at dksX1_turn_1 11 rfl rfl)
theorem dX1_turn_35 : decode cX1_turn 35 = .ok (.astore 6, 2) := dk_58 6 (dk_at dksX1_turn_1 12 rfl rfl)
theorem dX1_turn_37 : decode cX1_turn 37 = .ok (.aload 6, 2) := dk_25 6 (dk_at dksX1_turn_1 14 rfl rfl)
theorem dX1_turn_39 : decode cX1_turn 39 = .ok (.getfield 67, 3) := dk_180 0 67 (dk_at dksX1_turn_1 16 rfl rfl)
theorem dX1_turn_42 : decode cX1_turn 42 = .ok (.lload_n 2, 1) := dk_32 (dk_at dksX1_turn_1 19 rfl rfl)
theorem dX1_turn_43 : decode cX1_turn 43 = .ok (.invokestatic 253, 3) := dk_184 0 253 (dk_at dksX1_turn_1 20 rfl rfl)
theorem dX1_turn_46 : decode cX1_turn 46 = .ok (.ifCond .eq 21, 3) := dk_153 0 21 (dk_at dksX1_turn_2 0 rfl rfl)
theorem dX1_turn_49 : decode cX1_turn 49 = .ok (.iload 4, 2) := dk_21 4 (dk_at dksX1_turn_2 3 rfl rfl)
theorem dX1_turn_51 : decode cX1_turn 51 = .ok (.i2l, 1) := dk_133 (dk_at dksX1_turn_2 5 rfl rfl)
theorem dX1_turn_52 : decode cX1_turn 52 = .ok (.lconst 1, 1) := dk_10 (dk_at dksX1_turn_2 6 rfl rfl)
theorem dX1_turn_53 : decode cX1_turn 53 = .ok (.aload 6, 2) := dk_25 6 (dk_at dksX1_turn_2 7 rfl rfl)
theorem dX1_turn_55 : decode cX1_turn 55 = .ok (.getfield 64, 3) := dk_180 0 64 (dk_at dksX1_turn_2 9 rfl rfl)
theorem dX1_turn_58 : decode cX1_turn 58 = .ok (.iconst 1, 1) := dk_4 (dk_at dksX1_turn_2 12 rfl rfl)
theorem dX1_turn_59 : decode cX1_turn 59 = .ok (.isub, 1) := dk_100 (dk_at dksX1_turn_2 13 rfl rfl)
theorem dX1_turn_60 : decode cX1_turn 60 = .ok (.i2l, 1) := dk_133 (dk_at dksX1_turn_2 14 rfl rfl)
theorem dX1_turn_61 : decode cX1_turn 61 = .ok (.invokestatic 16, 3) := dk_184 0 16 (dk_at dksX1_turn_2 15 rfl rfl)
theorem dX1_turn_64 : decode cX1_turn 64 = .ok (.ifCond .ne 5, 3) := dk_154 0 5 (dk_at dksX1_turn_2 18 rfl rfl)
theorem dX1_turn_67 : decode cX1_turn 67 = .ok (.iconst (-1), 1) := dk_2 (dk_at dksX1_turn_2 21 rfl rfl)
theorem dX1_turn_68 : decode cX1_turn 68 = .ok (.ireturn, 1) := dk_172 (dk_at dksX1_turn_2 22 rfl rfl)
theorem dX1_turn_69 : decode cX1_turn 69 = .ok (.aload 6, 2) := dk_25 6 (dk_at dksX1_turn_3 0 rfl rfl)
theorem dX1_turn_71 : decode cX1_turn 71 = .ok (.instanceof 53, 3) := dk_193 0 53 (dk_at dksX1_turn_3 2 rfl rfl)
theorem dX1_turn_74 : decode cX1_turn 74 = .ok (.ifCond .eq 23, 3) := dk_153 0 23 (dk_at dksX1_turn_3 5 rfl rfl)
theorem dX1_turn_77 : decode cX1_turn 77 = .ok (.new 53, 3) := dk_187 0 53 (dk_at dksX1_turn_3 8 rfl rfl)
theorem dX1_turn_80 : decode cX1_turn 80 = .ok (.dup, 1) := dk_89 (dk_at dksX1_turn_3 11 rfl rfl)
theorem dX1_turn_81 : decode cX1_turn 81 = .ok (.aload 6, 2) := dk_25 6 (dk_at dksX1_turn_3 12 rfl rfl)
theorem dX1_turn_83 : decode cX1_turn 83 = .ok (.getfield 64, 3) := dk_180 0 64 (dk_at dksX1_turn_3 14 rfl rfl)
theorem dX1_turn_86 : decode cX1_turn 86 = .ok (.aload 6, 2) := dk_25 6 (dk_at dksX1_turn_3 17 rfl rfl)
theorem dX1_turn_88 : decode cX1_turn 88 = .ok (.getfield 67, 3) := dk_180 0 67 (dk_at dksX1_turn_3 19 rfl rfl)
theorem dX1_turn_91 : decode cX1_turn 91 = .ok (.invokespecial 55, 3) := dk_183 0 55 (dk_at dksX1_turn_4 0 rfl rfl)
theorem dX1_turn_94 : decode cX1_turn 94 = .ok (.goto 13, 3) := dk_167 0 13 (dk_at dksX1_turn_4 3 rfl rfl)
theorem dX1_turn_97 : decode cX1_turn 97 = .ok (.aload 6, 2) := dk_25 6 (dk_at dksX1_turn_4 6 rfl rfl)
theorem dX1_turn_99 : decode cX1_turn 99 = .ok (.aload 6, 2) := dk_25 6 (dk_at dksX1_turn_4 8 rfl rfl)
theorem dX1_turn_101 : decode cX1_turn 101 = .ok (.getfield 67, 3) := dk_180 0 67 (dk_at dksX1_turn_4 10 rfl rfl)
theorem dX1_turn_104 : decode cX1_turn 104 = .ok (.invokestatic 224, 3) := dk_184 0 224 (dk_at dksX1_turn_4 13 rfl rfl)
theorem dX1_turn_107 : decode cX1_turn 107 = .ok (.astore 7, 2) := dk_58 7 (dk_at dksX1_turn_4 16 rfl rfl)
theorem dX1_turn_109 : decode cX1_turn 109 = .ok (.iconst 0, 1) := dk_3 (dk_at dksX1_turn_4 18 rfl rfl)
theorem dX1_turn_110 : decode cX1_turn 110 = .ok (.istore 8, 2) := dk_54 8 (dk_at dksX1_turn_4 19 rfl rfl)
theorem dX1_turn_112 : decode cX1_turn 112 = .ok (.iload 8, 2) := dk_21 8 (dk_at dksX1_turn_4 21 rfl rfl)
theorem dX1_turn_114 : decode cX1_turn 114 = .ok (.aload 6, 2) := dk_25 6 (dk_at dksX1_turn_5 0 rfl rfl)
theorem dX1_turn_116 : decode cX1_turn 116 = .ok (.getfield 30, 3) := dk_180 0 30 (dk_at dksX1_turn_5 2 rfl rfl)
theorem dX1_turn_119 : decode cX1_turn 119 = .ok (.if_icmp .ge 109, 3) := dk_162 0 109 (dk_at dksX1_turn_5 5 rfl rfl)
theorem dX1_turn_122 : decode cX1_turn 122 = .ok (.lconst 0, 1) := dk_9 (dk_at dksX1_turn_5 8 rfl rfl)
theorem dX1_turn_123 : decode cX1_turn 123 = .ok (.lstore 9, 2) := dk_55 9 (dk_at dksX1_turn_5 9 rfl rfl)
theorem dX1_turn_125 : decode cX1_turn 125 = .ok (.iconst 0, 1) := dk_3 (dk_at dksX1_turn_5 11 rfl rfl)
theorem dX1_turn_126 : decode cX1_turn 126 = .ok (.istore 11, 2) := dk_54 11 (dk_at dksX1_turn_5 12 rfl rfl)
theorem dX1_turn_128 : decode cX1_turn 128 = .ok (.iload 11, 2) := dk_21 11 (dk_at dksX1_turn_5 14 rfl rfl)
theorem dX1_turn_130 : decode cX1_turn 130 = .ok (.aload 6, 2) := dk_25 6 (dk_at dksX1_turn_5 16 rfl rfl)
theorem dX1_turn_132 : decode cX1_turn 132 = .ok (.getfield 67, 3) := dk_180 0 67 (dk_at dksX1_turn_5 18 rfl rfl)
theorem dX1_turn_135 : decode cX1_turn 135 = .ok (.if_icmp .ge 80, 3) := dk_162 0 80 (dk_at dksX1_turn_5 21 rfl rfl)
theorem dX1_turn_138 : decode cX1_turn 138 = .ok (.lload_n 2, 1) := dk_32 (dk_at dksX1_turn_6 0 rfl rfl)
theorem dX1_turn_139 : decode cX1_turn 139 = .ok (.iconst 4, 1) := dk_7 (dk_at dksX1_turn_6 1 rfl rfl)
theorem dX1_turn_140 : decode cX1_turn 140 = .ok (.iload 11, 2) := dk_21 11 (dk_at dksX1_turn_6 2 rfl rfl)
theorem dX1_turn_142 : decode cX1_turn 142 = .ok (.imul, 1) := dk_104 (dk_at dksX1_turn_6 4 rfl rfl)
theorem dX1_turn_143 : decode cX1_turn 143 = .ok (.lshr, 1) := dk_123 (dk_at dksX1_turn_6 5 rfl rfl)
theorem dX1_turn_144 : decode cX1_turn 144 = .ok (.ldc2_w 251, 3) := dk_20 0 251 (dk_at dksX1_turn_6 6 rfl rfl)
theorem dX1_turn_147 : decode cX1_turn 147 = .ok (.land, 1) := dk_127 (dk_at dksX1_turn_6 9 rfl rfl)
theorem dX1_turn_148 : decode cX1_turn 148 = .ok (.l2i, 1) := dk_136 (dk_at dksX1_turn_6 10 rfl rfl)
theorem dX1_turn_149 : decode cX1_turn 149 = .ok (.istore 12, 2) := dk_54 12 (dk_at dksX1_turn_6 11 rfl rfl)
theorem dX1_turn_151 : decode cX1_turn 151 = .ok (.lload 9, 2) := dk_22 9 (dk_at dksX1_turn_6 13 rfl rfl)
theorem dX1_turn_153 : decode cX1_turn 153 = .ok (.aload 6, 2) := dk_25 6 (dk_at dksX1_turn_6 15 rfl rfl)
theorem dX1_turn_155 : decode cX1_turn 155 = .ok (.getfield 64, 3) := dk_180 0 64 (dk_at dksX1_turn_6 17 rfl rfl)
theorem dX1_turn_158 : decode cX1_turn 158 = .ok (.aload 6, 2) := dk_25 6 (dk_at dksX1_turn_6 20 rfl rfl)
theorem dX1_turn_160 : decode cX1_turn 160 = .ok (.getfield 67, 3) := dk_180 0 67 (dk_at dksX1_turn_7 0 rfl rfl)
theorem dX1_turn_163 : decode cX1_turn 163 = .ok (.iconst 1, 1) := dk_4 (dk_at dksX1_turn_7 3 rfl rfl)
theorem dX1_turn_164 : decode cX1_turn 164 = .ok (.isub, 1) := dk_100 (dk_at dksX1_turn_7 4 rfl rfl)
theorem dX1_turn_165 : decode cX1_turn 165 = .ok (.iload 12, 2) := dk_21 12 (dk_at dksX1_turn_7 5 rfl rfl)
theorem dX1_turn_167 : decode cX1_turn 167 = .ok (.isub, 1) := dk_100 (dk_at dksX1_turn_7 7 rfl rfl)
theorem dX1_turn_168 : decode cX1_turn 168 = .ok (.invokestatic 7, 3) := dk_184 0 7 (dk_at dksX1_turn_7 8 rfl rfl)
theorem dX1_turn_171 : decode cX1_turn 171 = .ok (.aload 6, 2) := dk_25 6 (dk_at dksX1_turn_7 11 rfl rfl)
theorem dX1_turn_173 : decode cX1_turn 173 = .ok (.getfield 64, 3) := dk_180 0 64 (dk_at dksX1_turn_7 13 rfl rfl)
theorem dX1_turn_176 : decode cX1_turn 176 = .ok (.iload 4, 2) := dk_21 4 (dk_at dksX1_turn_7 16 rfl rfl)
theorem dX1_turn_178 : decode cX1_turn 178 = .ok (.aload 6, 2) := dk_25 6 (dk_at dksX1_turn_7 18 rfl rfl)
theorem dX1_turn_180 : decode cX1_turn 180 = .ok (.getfield 64, 3) := dk_180 0 64 (dk_at dksX1_turn_7 20 rfl rfl)
theorem dX1_turn_183 : decode cX1_turn 183 = .ok (.aload 6, 2) := dk_25 6 (dk_at dksX1_turn_8 0 rfl rfl)
theorem dX1_turn_185 : decode cX1_turn 185 = .ok (.getfield 67, 3) := dk_180 0 67 (dk_at dksX1_turn_8 2 rfl rfl)
theorem dX1_turn_188 : decode cX1_turn 188 = .ok (.aload 6, 2) := dk_25 6 (dk_at dksX1_turn_8 5 rfl rfl)
theorem dX1_turn_190 : decode cX1_turn 190 = .ok (.getfield 120, 3) := dk_180 0 120 (dk_at dksX1_turn_8 7 rfl rfl)
theorem dX1_turn_193 : decode cX1_turn 193 = .ok (.iload 8, 2) := dk_21 8 (dk_at dksX1_turn_8 10 rfl rfl)
theorem dX1_turn_195 : decode cX1_turn 195 = .ok (.laload, 1) := dk_47 (dk_at dksX1_turn_8 12 rfl rfl)
theorem dX1_turn_196 : decode cX1_turn 196 = .ok (.iload 11, 2) := dk_21 11 (dk_at dksX1_turn_8 13 rfl rfl)
theorem dX1_turn_198 : decode cX1_turn 198 = .ok (.invokestatic 228, 3) := dk_184 0 228 (dk_at dksX1_turn_8 15 rfl rfl)
theorem dX1_turn_201 : decode cX1_turn 201 = .ok (.invokestatic 1, 3) := dk_184 0 1 (dk_at dksX1_turn_8 18 rfl rfl)
theorem dX1_turn_204 : decode cX1_turn 204 = .ok (.i2l, 1) := dk_133 (dk_at dksX1_turn_8 21 rfl rfl)
theorem dX1_turn_205 : decode cX1_turn 205 = .ok (.lmul, 1) := dk_105 (dk_at dksX1_turn_8 22 rfl rfl)
theorem dX1_turn_206 : decode cX1_turn 206 = .ok (.ladd, 1) := dk_97 (dk_at dksX1_turn_8 23 rfl rfl)
theorem dX1_turn_207 : decode cX1_turn 207 = .ok (.lstore 9, 2) := dk_55 9 (dk_at dksX1_turn_9 0 rfl rfl)
theorem dX1_turn_209 : decode cX1_turn 209 = .ok (.iinc 11 1, 3) := dk_132 11 1 (dk_at dksX1_turn_9 2 rfl rfl)
theorem dX1_turn_212 : decode cX1_turn 212 = .ok (.goto (-84), 3) := dk_167 255 172 (dk_at dksX1_turn_9 5 rfl rfl)
theorem dX1_turn_215 : decode cX1_turn 215 = .ok (.aload 7, 2) := dk_25 7 (dk_at dksX1_turn_9 8 rfl rfl)
theorem dX1_turn_217 : decode cX1_turn 217 = .ok (.lload 9, 2) := dk_22 9 (dk_at dksX1_turn_9 10 rfl rfl)
theorem dX1_turn_219 : decode cX1_turn 219 = .ok (.invokevirtual 78, 3) := dk_182 0 78 (dk_at dksX1_turn_9 12 rfl rfl)
theorem dX1_turn_222 : decode cX1_turn 222 = .ok (.iinc 8 1, 3) := dk_132 8 1 (dk_at dksX1_turn_9 15 rfl rfl)
theorem dX1_turn_225 : decode cX1_turn 225 = .ok (.goto (-113), 3) := dk_167 255 143 (dk_at dksX1_turn_9 18 rfl rfl)
theorem dX1_turn_228 : decode cX1_turn 228 = .ok (.aload_n 0, 1) := dk_42 (dk_at dksX1_turn_9 21 rfl rfl)
theorem dX1_turn_229 : decode cX1_turn 229 = .ok (.iload 5, 2) := dk_21 5 (dk_at dksX1_turn_9 22 rfl rfl)
theorem dX1_turn_231 : decode cX1_turn 231 = .ok (.aload 7, 2) := dk_25 7 (dk_at dksX1_turn_10 0 rfl rfl)
theorem dX1_turn_233 : decode cX1_turn 233 = .ok (.invokevirtual 56, 3) := dk_182 0 56 (dk_at dksX1_turn_10 2 rfl rfl)
theorem dX1_turn_236 : decode cX1_turn 236 = .ok (.ireturn, 1) := dk_172 (dk_at dksX1_turn_10 5 rfl rfl)
abbrev cX1_isTurn : ByteArray := prog_1_method_66_code
def yX1_isTurn : MethodName := ⟨RX1, "isTurn", "(IJ)Z"⟩
def dkwX1_isTurn_2 : List UInt8 := [156, 0, 16, 29, 4, 26, 120, 4, 100, 160, 0, 7, 4, 167, 0, 4, 3, 172]
abbrev dktX1_isTurn_2 : List UInt8 := dkwX1_isTurn_2 ++ []
def dkwX1_isTurn_1 : List UInt8 := [120, 128, 62, 132, 4, 1, 167, 255, 231, 31, 9, 148, 155, 0, 26, 31, 10, 7, 26, 104, 121, 148]
abbrev dktX1_isTurn_1 : List UInt8 := dkwX1_isTurn_1 ++ dktX1_isTurn_2
def dkwX1_isTurn_0 : List UInt8 := [3, 62, 3, 54, 4, 21, 4, 26, 162, 0, 25, 29, 4, 31, 7, 21, 4, 104, 123, 20, 0, 251, 127, 136]
abbrev dktX1_isTurn_0 : List UInt8 := dkwX1_isTurn_0 ++ dktX1_isTurn_1
theorem dksX1_isTurn_0 : cX1_isTurn.data.toList.drop 0 = dktX1_isTurn_0 := by decide +kernel
theorem dksX1_isTurn_1 : cX1_isTurn.data.toList.drop 24 = dktX1_isTurn_1 := dk_seg dksX1_isTurn_0 24 rfl rfl
theorem dksX1_isTurn_2 : cX1_isTurn.data.toList.drop 46 = dktX1_isTurn_2 := dk_seg dksX1_isTurn_1 22 rfl rfl
theorem dX1_isTurn_0 : decode cX1_isTurn 0 = .ok (.iconst 0, 1) := dk_3 (dk_at dksX1_isTurn_0 0 rfl rfl)
theorem dX1_isTurn_1 : decode cX1_isTurn 1 = .ok (.istore_n 3, 1) := dk_62 (dk_at dksX1_isTurn_0 1 rfl rfl)
theorem dX1_isTurn_2 : decode cX1_isTurn 2 = .ok (.iconst 0, 1) := dk_3 (dk_at dksX1_isTurn_0 2 rfl rfl)
theorem dX1_isTurn_3 : decode cX1_isTurn 3 = .ok (.istore 4, 2) := dk_54 4 (dk_at dksX1_isTurn_0 3 rfl rfl)
theorem dX1_isTurn_5 : decode cX1_isTurn 5 = .ok (.iload 4, 2) := dk_21 4 (dk_at dksX1_isTurn_0 5 rfl rfl)
theorem dX1_isTurn_7 : decode cX1_isTurn 7 = .ok (.iload_n 0, 1) := dk_26 (dk_at dksX1_isTurn_0 7 rfl rfl)
theorem dX1_isTurn_8 : decode cX1_isTurn 8 = .ok (.if_icmp .ge 25, 3) := dk_162 0 25 (dk_at dksX1_isTurn_0 8 rfl rfl)
theorem dX1_isTurn_11 : decode cX1_isTurn 11 = .ok (.iload_n 3, 1) := dk_29 (dk_at dksX1_isTurn_0 11 rfl rfl)
theorem dX1_isTurn_12 : decode cX1_isTurn 12 = .ok (.iconst 1, 1) := dk_4 (dk_at dksX1_isTurn_0 12 rfl rfl)
theorem dX1_isTurn_13 : decode cX1_isTurn 13 = .ok (.lload_n 1, 1) := dk_31 (dk_at dksX1_isTurn_0 13 rfl rfl)
theorem dX1_isTurn_14 : decode cX1_isTurn 14 = .ok (.iconst 4, 1) := dk_7 (dk_at dksX1_isTurn_0 14 rfl rfl)
theorem dX1_isTurn_15 : decode cX1_isTurn 15 = .ok (.iload 4, 2) := dk_21 4 (dk_at dksX1_isTurn_0 15 rfl rfl)
theorem dX1_isTurn_17 : decode cX1_isTurn 17 = .ok (.imul, 1) := dk_104 (dk_at dksX1_isTurn_0 17 rfl rfl)
theorem dX1_isTurn_18 : decode cX1_isTurn 18 = .ok (.lshr, 1) := dk_123 (dk_at dksX1_isTurn_0 18 rfl rfl)
theorem dX1_isTurn_19 : decode cX1_isTurn 19 = .ok (.ldc2_w 251, 3) := dk_20 0 251 (dk_at dksX1_isTurn_0 19 rfl rfl)
theorem dX1_isTurn_22 : decode cX1_isTurn 22 = .ok (.land, 1) := dk_127 (dk_at dksX1_isTurn_0 22 rfl rfl)
theorem dX1_isTurn_23 : decode cX1_isTurn 23 = .ok (.l2i, 1) := dk_136 (dk_at dksX1_isTurn_0 23 rfl rfl)
theorem dX1_isTurn_24 : decode cX1_isTurn 24 = .ok (.ishl, 1) := dk_120 (dk_at dksX1_isTurn_1 0 rfl rfl)
theorem dX1_isTurn_25 : decode cX1_isTurn 25 = .ok (.ior, 1) := dk_128 (dk_at dksX1_isTurn_1 1 rfl rfl)
theorem dX1_isTurn_26 : decode cX1_isTurn 26 = .ok (.istore_n 3, 1) := dk_62 (dk_at dksX1_isTurn_1 2 rfl rfl)
theorem dX1_isTurn_27 : decode cX1_isTurn 27 = .ok (.iinc 4 1, 3) := dk_132 4 1 (dk_at dksX1_isTurn_1 3 rfl rfl)
theorem dX1_isTurn_30 : decode cX1_isTurn 30 = .ok (.goto (-25), 3) := dk_167 255 231 (dk_at dksX1_isTurn_1 6 rfl rfl)
theorem dX1_isTurn_33 : decode cX1_isTurn 33 = .ok (.lload_n 1, 1) := dk_31 (dk_at dksX1_isTurn_1 9 rfl rfl)
theorem dX1_isTurn_34 : decode cX1_isTurn 34 = .ok (.lconst 0, 1) := dk_9 (dk_at dksX1_isTurn_1 10 rfl rfl)
theorem dX1_isTurn_35 : decode cX1_isTurn 35 = .ok (.lcmp, 1) := dk_148 (dk_at dksX1_isTurn_1 11 rfl rfl)
theorem dX1_isTurn_36 : decode cX1_isTurn 36 = .ok (.ifCond .lt 26, 3) := dk_155 0 26 (dk_at dksX1_isTurn_1 12 rfl rfl)
theorem dX1_isTurn_39 : decode cX1_isTurn 39 = .ok (.lload_n 1, 1) := dk_31 (dk_at dksX1_isTurn_1 15 rfl rfl)
theorem dX1_isTurn_40 : decode cX1_isTurn 40 = .ok (.lconst 1, 1) := dk_10 (dk_at dksX1_isTurn_1 16 rfl rfl)
theorem dX1_isTurn_41 : decode cX1_isTurn 41 = .ok (.iconst 4, 1) := dk_7 (dk_at dksX1_isTurn_1 17 rfl rfl)
theorem dX1_isTurn_42 : decode cX1_isTurn 42 = .ok (.iload_n 0, 1) := dk_26 (dk_at dksX1_isTurn_1 18 rfl rfl)
theorem dX1_isTurn_43 : decode cX1_isTurn 43 = .ok (.imul, 1) := dk_104 (dk_at dksX1_isTurn_1 19 rfl rfl)
theorem dX1_isTurn_44 : decode cX1_isTurn 44 = .ok (.lshl, 1) := dk_121 (dk_at dksX1_isTurn_1 20 rfl rfl)
theorem dX1_isTurn_45 : decode cX1_isTurn 45 = .ok (.lcmp, 1) := dk_148 (dk_at dksX1_isTurn_1 21 rfl rfl)
theorem dX1_isTurn_46 : decode cX1_isTurn 46 = .ok (.ifCond .ge 16, 3) := dk_156 0 16 (dk_at dksX1_isTurn_2 0 rfl rfl)
theorem dX1_isTurn_49 : decode cX1_isTurn 49 = .ok (.iload_n 3, 1) := dk_29 (dk_at dksX1_isTurn_2 3 rfl rfl)
theorem dX1_isTurn_50 : decode cX1_isTurn 50 = .ok (.iconst 1, 1) := dk_4 (dk_at dksX1_isTurn_2 4 rfl rfl)
theorem dX1_isTurn_51 : decode cX1_isTurn 51 = .ok (.iload_n 0, 1) := dk_26 (dk_at dksX1_isTurn_2 5 rfl rfl)
theorem dX1_isTurn_52 : decode cX1_isTurn 52 = .ok (.ishl, 1) := dk_120 (dk_at dksX1_isTurn_2 6 rfl rfl)
theorem dX1_isTurn_53 : decode cX1_isTurn 53 = .ok (.iconst 1, 1) := dk_4 (dk_at dksX1_isTurn_2 7 rfl rfl)
theorem dX1_isTurn_54 : decode cX1_isTurn 54 = .ok (.isub, 1) := dk_100 (dk_at dksX1_isTurn_2 8 rfl rfl)
theorem dX1_isTurn_55 : decode cX1_isTurn 55 = .ok (.if_icmp .ne 7, 3) := dk_160 0 7 (dk_at dksX1_isTurn_2 9 rfl rfl)
theorem dX1_isTurn_58 : decode cX1_isTurn 58 = .ok (.iconst 1, 1) := dk_4 (dk_at dksX1_isTurn_2 12 rfl rfl)
theorem dX1_isTurn_59 : decode cX1_isTurn 59 = .ok (.goto 4, 3) := dk_167 0 4 (dk_at dksX1_isTurn_2 13 rfl rfl)
theorem dX1_isTurn_62 : decode cX1_isTurn 62 = .ok (.iconst 0, 1) := dk_3 (dk_at dksX1_isTurn_2 16 rfl rfl)
theorem dX1_isTurn_63 : decode cX1_isTurn 63 = .ok (.ireturn, 1) := dk_172 (dk_at dksX1_isTurn_2 17 rfl rfl)
abbrev cX1_same : ByteArray := prog_1_method_68_code
def yX1_same : MethodName := ⟨RX1, "same", "(II)I"⟩
def dkwX1_same_13 : List UInt8 := [4, 167, 0, 4, 3, 172]
abbrev dktX1_same_13 : List UInt8 := dkwX1_same_13 ++ []
def dkwX1_same_12 : List UInt8 := [25, 6, 180, 0, 120, 21, 9, 47, 182, 0, 128, 54, 5, 132, 9, 1, 167, 255, 199, 21, 5, 153, 0, 7]
abbrev dktX1_same_12 : List UInt8 := dkwX1_same_12 ++ dktX1_same_13
def dkwX1_same_11 : List UInt8 := [199, 0, 22, 25, 7, 192, 0, 44, 25, 6, 180, 0, 120, 21, 9, 47, 182, 0, 132, 167, 0, 16, 25, 8]
abbrev dktX1_same_11 : List UInt8 := dkwX1_same_11 ++ dktX1_same_12
def dkwX1_same_10 : List UInt8 := [58, 8, 3, 54, 9, 21, 9, 25, 6, 180, 0, 30, 162, 0, 53, 21, 5, 153, 0, 48, 25, 8]
abbrev dktX1_same_10 : List UInt8 := dkwX1_same_10 ++ dktX1_same_11
def dkwX1_same_9 : List UInt8 := [58, 7, 25, 7, 193, 0, 50, 153, 0, 15, 187, 0, 100, 89, 25, 7, 183, 0, 102, 167, 0, 4, 1]
abbrev dktX1_same_9 : List UInt8 := dkwX1_same_9 ++ dktX1_same_10
def dkwX1_same_8 : List UInt8 := [153, 0, 7, 45, 167, 0, 5, 25, 4, 58, 6, 25, 6, 45, 166, 0, 8, 25, 4, 167, 0, 4, 45]
abbrev dktX1_same_8 : List UInt8 := dkwX1_same_8 ++ dktX1_same_9
def dkwX1_same_7 : List UInt8 := [184, 0, 124, 25, 4, 184, 0, 124, 148, 154, 0, 7, 4, 167, 0, 4, 3, 54, 5, 45, 193, 0, 44]
abbrev dktX1_same_7 : List UInt8 := dkwX1_same_7 ++ dktX1_same_8
def dkwX1_same_6 : List UInt8 := [193, 0, 50, 153, 0, 7, 45, 167, 0, 5, 25, 4, 182, 0, 178, 154, 0, 6, 16, 251, 172, 45]
abbrev dktX1_same_6 : List UInt8 := dkwX1_same_6 ++ dktX1_same_7
def dkwX1_same_5 : List UInt8 := [153, 0, 7, 4, 167, 0, 4, 3, 172, 45, 193, 0, 50, 25, 4, 193, 0, 50, 159, 0, 26, 42, 45]
abbrev dktX1_same_5 : List UInt8 := dkwX1_same_5 ++ dktX1_same_6
def dkwX1_same_4 : List UInt8 := [153, 0, 32, 187, 0, 100, 89, 45, 183, 0, 102, 187, 0, 100, 89, 25, 4, 183, 0, 102, 182, 1, 1]
abbrev dktX1_same_4 : List UInt8 := dkwX1_same_4 ++ dktX1_same_5
def dkwX1_same_3 : List UInt8 := [25, 4, 180, 0, 67, 159, 0, 6, 16, 252, 172, 45, 193, 0, 50, 153, 0, 40, 25, 4, 193, 0, 50]
abbrev dktX1_same_3 : List UInt8 := dkwX1_same_3 ++ dktX1_same_4
def dkwX1_same_2 : List UInt8 := [180, 0, 26, 28, 50, 58, 4, 45, 180, 0, 64, 25, 4, 180, 0, 64, 160, 0, 15, 45, 180, 0, 67]
abbrev dktX1_same_2 : List UInt8 := dkwX1_same_2 ++ dktX1_same_3
def dkwX1_same_1 : List UInt8 := [198, 0, 12, 42, 180, 0, 26, 28, 50, 199, 0, 6, 16, 245, 172, 42, 180, 0, 26, 27, 50, 78, 42]
abbrev dktX1_same_1 : List UInt8 := dkwX1_same_1 ++ dktX1_same_2
def dkwX1_same_0 : List UInt8 := [27, 184, 0, 36, 153, 0, 10, 28, 184, 0, 36, 154, 0, 5, 2, 172, 42, 180, 0, 26, 27, 50]
abbrev dktX1_same_0 : List UInt8 := dkwX1_same_0 ++ dktX1_same_1
theorem dksX1_same_0 : cX1_same.data.toList.drop 0 = dktX1_same_0 := by decide +kernel
theorem dksX1_same_1 : cX1_same.data.toList.drop 22 = dktX1_same_1 := dk_seg dksX1_same_0 22 rfl rfl
theorem dksX1_same_2 : cX1_same.data.toList.drop 45 = dktX1_same_2 := dk_seg dksX1_same_1 23 rfl rfl
theorem dksX1_same_3 : cX1_same.data.toList.drop 68 = dktX1_same_3 := dk_seg dksX1_same_2 23 rfl rfl
theorem dksX1_same_4 : cX1_same.data.toList.drop 91 = dktX1_same_4 := dk_seg dksX1_same_3 23 rfl rfl
theorem dksX1_same_5 : cX1_same.data.toList.drop 114 = dktX1_same_5 := dk_seg dksX1_same_4 23 rfl rfl
theorem dksX1_same_6 : cX1_same.data.toList.drop 137 = dktX1_same_6 := dk_seg dksX1_same_5 23 rfl rfl
theorem dksX1_same_7 : cX1_same.data.toList.drop 159 = dktX1_same_7 := dk_seg dksX1_same_6 22 rfl rfl
theorem dksX1_same_8 : cX1_same.data.toList.drop 182 = dktX1_same_8 := dk_seg dksX1_same_7 23 rfl rfl
theorem dksX1_same_9 : cX1_same.data.toList.drop 205 = dktX1_same_9 := dk_seg dksX1_same_8 23 rfl rfl
theorem dksX1_same_10 : cX1_same.data.toList.drop 228 = dktX1_same_10 := dk_seg dksX1_same_9 23 rfl rfl
theorem dksX1_same_11 : cX1_same.data.toList.drop 250 = dktX1_same_11 := dk_seg dksX1_same_10 22 rfl rfl
theorem dksX1_same_12 : cX1_same.data.toList.drop 274 = dktX1_same_12 := dk_seg dksX1_same_11 24 rfl rfl
theorem dksX1_same_13 : cX1_same.data.toList.drop 298 = dktX1_same_13 := dk_seg dksX1_same_12 24 rfl rfl
theorem dX1_same_0 : decode cX1_same 0 = .ok (.iload_n 1, 1) := dk_27 (dk_at dksX1_same_0 0 rfl rfl)
theorem dX1_same_1 : decode cX1_same 1 = .ok (.invokestatic 36, 3) := dk_184 0 36 (dk_at dksX1_same_0 1 rfl rfl)
theorem dX1_same_4 : decode cX1_same 4 = .ok (.ifCond .eq 10, 3) := dk_153 0 10 (dk_at dksX1_same_0 4 rfl rfl)
theorem dX1_same_7 : decode cX1_same 7 = .ok (.iload_n 2, 1) := dk_28 (dk_at dksX1_same_0 7 rfl rfl)
theorem dX1_same_8 : decode cX1_same 8 = .ok (.invokestatic 36, 3) := dk_184 0 36 (dk_at dksX1_same_0 8 rfl rfl)
theorem dX1_same_11 : decode cX1_same 11 = .ok (.ifCond .ne 5, 3) := dk_154 0 5 (dk_at dksX1_same_0 11 rfl rfl)
theorem dX1_same_14 : decode cX1_same 14 = .ok (.iconst (-1), 1) := dk_2 (dk_at dksX1_same_0 14 rfl rfl)
theorem dX1_same_15 : decode cX1_same 15 = .ok (.ireturn, 1) := dk_172 (dk_at dksX1_same_0 15 rfl rfl)
theorem dX1_same_16 : decode cX1_same 16 = .ok (.aload_n 0, 1) := dk_42 (dk_at dksX1_same_0 16 rfl rfl)
theorem dX1_same_17 : decode cX1_same 17 = .ok (.getfield 26, 3) := dk_180 0 26 (dk_at dksX1_same_0 17 rfl rfl)
theorem dX1_same_20 : decode cX1_same 20 = .ok (.iload_n 1, 1) := dk_27 (dk_at dksX1_same_0 20 rfl rfl)
theorem dX1_same_21 : decode cX1_same 21 = .ok (.aaload, 1) := dk_50 (dk_at dksX1_same_0 21 rfl rfl)
theorem dX1_same_22 : decode cX1_same 22 = .ok (.ifnull 12, 3) := dk_198 0 12 (dk_at dksX1_same_1 0 rfl rfl)
theorem dX1_same_25 : decode cX1_same 25 = .ok (.aload_n 0, 1) := dk_42 (dk_at dksX1_same_1 3 rfl rfl)
theorem dX1_same_26 : decode cX1_same 26 = .ok (.getfield 26, 3) := dk_180 0 26 (dk_at dksX1_same_1 4 rfl rfl)
theorem dX1_same_29 : decode cX1_same 29 = .ok (.iload_n 2, 1) := dk_28 (dk_at dksX1_same_1 7 rfl rfl)
theorem dX1_same_30 : decode cX1_same 30 = .ok (.aaload, 1) := dk_50 (dk_at dksX1_same_1 8 rfl rfl)
theorem dX1_same_31 : decode cX1_same 31 = .ok (.ifnonnull 6, 3) := dk_199 0 6 (dk_at dksX1_same_1 9 rfl rfl)
theorem dX1_same_34 : decode cX1_same 34 = .ok (.bipush (-11), 2) := dk_16 245 (dk_at dksX1_same_1 12 rfl rfl)
theorem dX1_same_36 : decode cX1_same 36 = .ok (.ireturn, 1) := dk_172 (dk_at dksX1_same_1 14 rfl rfl)
theorem dX1_same_37 : decode cX1_same 37 = .ok (.aload_n 0, 1) := dk_42 (dk_at dksX1_same_1 15 rfl rfl)
theorem dX1_same_38 : decode cX1_same 38 = .ok (.getfield 26, 3) := dk_180 0 26 (dk_at dksX1_same_1 16 rfl rfl)
theorem dX1_same_41 : decode cX1_same 41 = .ok (.iload_n 1, 1) := dk_27 (dk_at dksX1_same_1 19 rfl rfl)
theorem dX1_same_42 : decode cX1_same 42 = .ok (.aaload, 1) := dk_50 (dk_at dksX1_same_1 20 rfl rfl)
theorem dX1_same_43 : decode cX1_same 43 = .ok (.astore_n 3, 1) := dk_78 (dk_at dksX1_same_1 21 rfl rfl)
theorem dX1_same_44 : decode cX1_same 44 = .ok (.aload_n 0, 1) := dk_42 (dk_at dksX1_same_1 22 rfl rfl)
theorem dX1_same_45 : decode cX1_same 45 = .ok (.getfield 26, 3) := dk_180 0 26 (dk_at dksX1_same_2 0 rfl rfl)
theorem dX1_same_48 : decode cX1_same 48 = .ok (.iload_n 2, 1) := dk_28 (dk_at dksX1_same_2 3 rfl rfl)
theorem dX1_same_49 : decode cX1_same 49 = .ok (.aaload, 1) := dk_50 (dk_at dksX1_same_2 4 rfl rfl)
theorem dX1_same_50 : decode cX1_same 50 = .ok (.astore 4, 2) := dk_58 4 (dk_at dksX1_same_2 5 rfl rfl)
theorem dX1_same_52 : decode cX1_same 52 = .ok (.aload_n 3, 1) := dk_45 (dk_at dksX1_same_2 7 rfl rfl)
theorem dX1_same_53 : decode cX1_same 53 = .ok (.getfield 64, 3) := dk_180 0 64 (dk_at dksX1_same_2 8 rfl rfl)
theorem dX1_same_56 : decode cX1_same 56 = .ok (.aload 4, 2) := dk_25 4 (dk_at dksX1_same_2 11 rfl rfl)
theorem dX1_same_58 : decode cX1_same 58 = .ok (.getfield 64, 3) := dk_180 0 64 (dk_at dksX1_same_2 13 rfl rfl)
theorem dX1_same_61 : decode cX1_same 61 = .ok (.if_icmp .ne 15, 3) := dk_160 0 15 (dk_at dksX1_same_2 16 rfl rfl)
theorem dX1_same_64 : decode cX1_same 64 = .ok (.aload_n 3, 1) := dk_45 (dk_at dksX1_same_2 19 rfl rfl)
theorem dX1_same_65 : decode cX1_same 65 = .ok (.getfield 67, 3) := dk_180 0 67 (dk_at dksX1_same_2 20 rfl rfl)
theorem dX1_same_68 : decode cX1_same 68 = .ok (.aload 4, 2) := dk_25 4 (dk_at dksX1_same_3 0 rfl rfl)
theorem dX1_same_70 : decode cX1_same 70 = .ok (.getfield 67, 3) := dk_180 0 67 (dk_at dksX1_same_3 2 rfl rfl)
theorem dX1_same_73 : decode cX1_same 73 = .ok (.if_icmp .eq 6, 3) := dk_159 0 6 (dk_at dksX1_same_3 5 rfl rfl)
theorem dX1_same_76 : decode cX1_same 76 = .ok (.bipush (-4), 2) := dk_16 252 (dk_at dksX1_same_3 8 rfl rfl)
theorem dX1_same_78 : decode cX1_same 78 = .ok (.ireturn, 1) := dk_172 (dk_at dksX1_same_3 10 rfl rfl)
theorem dX1_same_79 : decode cX1_same 79 = .ok (.aload_n 3, 1) := dk_45 (dk_at dksX1_same_3 11 rfl rfl)
theorem dX1_same_80 : decode cX1_same 80 = .ok (.instanceof 50, 3) := dk_193 0 50 (dk_at dksX1_same_3 12 rfl rfl)
theorem dX1_same_83 : decode cX1_same 83 = .ok (.ifCond .eq 40, 3) := dk_153 0 40 (dk_at dksX1_same_3 15 rfl rfl)
theorem dX1_same_86 : decode cX1_same 86 = .ok (.aload 4, 2) := dk_25 4 (dk_at dksX1_same_3 18 rfl rfl)
theorem dX1_same_88 : decode cX1_same 88 = .ok (.instanceof 50, 3) := dk_193 0 50 (dk_at dksX1_same_3 20 rfl rfl)
theorem dX1_same_91 : decode cX1_same 91 = .ok (.ifCond .eq 32, 3) := dk_153 0 32 (dk_at dksX1_same_4 0 rfl rfl)
theorem dX1_same_94 : decode cX1_same 94 = .ok (.new 100, 3) := dk_187 0 100 (dk_at dksX1_same_4 3 rfl rfl)
theorem dX1_same_97 : decode cX1_same 97 = .ok (.dup, 1) := dk_89 (dk_at dksX1_same_4 6 rfl rfl)
theorem dX1_same_98 : decode cX1_same 98 = .ok (.aload_n 3, 1) := dk_45 (dk_at dksX1_same_4 7 rfl rfl)
theorem dX1_same_99 : decode cX1_same 99 = .ok (.invokespecial 102, 3) := dk_183 0 102 (dk_at dksX1_same_4 8 rfl rfl)
theorem dX1_same_102 : decode cX1_same 102 = .ok (.new 100, 3) := dk_187 0 100 (dk_at dksX1_same_4 11 rfl rfl)
theorem dX1_same_105 : decode cX1_same 105 = .ok (.dup, 1) := dk_89 (dk_at dksX1_same_4 14 rfl rfl)
theorem dX1_same_106 : decode cX1_same 106 = .ok (.aload 4, 2) := dk_25 4 (dk_at dksX1_same_4 15 rfl rfl)
theorem dX1_same_108 : decode cX1_same 108 = .ok (.invokespecial 102, 3) := dk_183 0 102 (dk_at dksX1_same_4 17 rfl rfl)
theorem dX1_same_111 : decode cX1_same 111 = .ok (.invokevirtual 257, 3) := dk_182 1 1 (dk_at dksX1_same_4 20 rfl rfl)
theorem dX1_same_114 : decode cX1_same 114 = .ok (.ifCond .eq 7, 3) := dk_153 0 7 (dk_at dksX1_same_5 0 rfl rfl)
theorem dX1_same_117 : decode cX1_same 117 = .ok (.iconst 1, 1) := dk_4 (dk_at dksX1_same_5 3 rfl rfl)
theorem dX1_same_118 : decode cX1_same 118 = .ok (.goto 4, 3) := dk_167 0 4 (dk_at dksX1_same_5 4 rfl rfl)
theorem dX1_same_121 : decode cX1_same 121 = .ok (.iconst 0, 1) := dk_3 (dk_at dksX1_same_5 7 rfl rfl)
theorem dX1_same_122 : decode cX1_same 122 = .ok (.ireturn, 1) := dk_172 (dk_at dksX1_same_5 8 rfl rfl)
theorem dX1_same_123 : decode cX1_same 123 = .ok (.aload_n 3, 1) := dk_45 (dk_at dksX1_same_5 9 rfl rfl)
theorem dX1_same_124 : decode cX1_same 124 = .ok (.instanceof 50, 3) := dk_193 0 50 (dk_at dksX1_same_5 10 rfl rfl)
theorem dX1_same_127 : decode cX1_same 127 = .ok (.aload 4, 2) := dk_25 4 (dk_at dksX1_same_5 13 rfl rfl)
theorem dX1_same_129 : decode cX1_same 129 = .ok (.instanceof 50, 3) := dk_193 0 50 (dk_at dksX1_same_5 15 rfl rfl)
theorem dX1_same_132 : decode cX1_same 132 = .ok (.if_icmp .eq 26, 3) := dk_159 0 26 (dk_at dksX1_same_5 18 rfl rfl)
theorem dX1_same_135 : decode cX1_same 135 = .ok (.aload_n 0, 1) := dk_42 (dk_at dksX1_same_5 21 rfl rfl)
theorem dX1_same_136 : decode cX1_same 136 = .ok (.aload_n 3, 1) := dk_45 (dk_at dksX1_same_5 22 rfl rfl)
theorem dX1_same_137 : decode cX1_same 137 = .ok (.instanceof 50, 3) := dk_193 0 50 (dk_at dksX1_same_6 0 rfl rfl)
theorem dX1_same_140 : decode cX1_same 140 = .ok (.ifCond .eq 7, 3) := dk_153 0 7 (dk_at dksX1_same_6 3 rfl rfl)
theorem dX1_same_143 : decode cX1_same 143 = .ok (.aload_n 3, 1) := dk_45 (dk_at dksX1_same_6 6 rfl rfl)
theorem dX1_same_144 : decode cX1_same 144 = .ok (.goto 5, 3) := dk_167 0 5 (dk_at dksX1_same_6 7 rfl rfl)
theorem dX1_same_147 : decode cX1_same 147 = .ok (.aload 4, 2) := dk_25 4 (dk_at dksX1_same_6 10 rfl rfl)
theorem dX1_same_149 : decode cX1_same 149 = .ok (.invokevirtual 178, 3) := dk_182 0 178 (dk_at dksX1_same_6 12 rfl rfl)
theorem dX1_same_152 : decode cX1_same 152 = .ok (.ifCond .ne 6, 3) := dk_154 0 6 (dk_at dksX1_same_6 15 rfl rfl)
theorem dX1_same_155 : decode cX1_same 155 = .ok (.bipush (-5), 2) := dk_16 251 (dk_at dksX1_same_6 18 rfl rfl)
theorem dX1_same_157 : decode cX1_same 157 = .ok (.ireturn, 1) := dk_172 (dk_at dksX1_same_6 20 rfl rfl)
theorem dX1_same_158 : decode cX1_same 158 = .ok (.aload_n 3, 1) := dk_45 (dk_at dksX1_same_6 21 rfl rfl)
theorem dX1_same_159 : decode cX1_same 159 = .ok (.invokestatic 124, 3) := dk_184 0 124 (dk_at dksX1_same_7 0 rfl rfl)
theorem dX1_same_162 : decode cX1_same 162 = .ok (.aload 4, 2) := dk_25 4 (dk_at dksX1_same_7 3 rfl rfl)
theorem dX1_same_164 : decode cX1_same 164 = .ok (.invokestatic 124, 3) := dk_184 0 124 (dk_at dksX1_same_7 5 rfl rfl)
theorem dX1_same_167 : decode cX1_same 167 = .ok (.lcmp, 1) := dk_148 (dk_at dksX1_same_7 8 rfl rfl)
theorem dX1_same_168 : decode cX1_same 168 = .ok (.ifCond .ne 7, 3) := dk_154 0 7 (dk_at dksX1_same_7 9 rfl rfl)
theorem dX1_same_171 : decode cX1_same 171 = .ok (.iconst 1, 1) := dk_4 (dk_at dksX1_same_7 12 rfl rfl)
theorem dX1_same_172 : decode cX1_same 172 = .ok (.goto 4, 3) := dk_167 0 4 (dk_at dksX1_same_7 13 rfl rfl)
theorem dX1_same_175 : decode cX1_same 175 = .ok (.iconst 0, 1) := dk_3 (dk_at dksX1_same_7 16 rfl rfl)
theorem dX1_same_176 : decode cX1_same 176 = .ok (.istore 5, 2) := dk_54 5 (dk_at dksX1_same_7 17 rfl rfl)
theorem dX1_same_178 : decode cX1_same 178 = .ok (.aload_n 3, 1) := dk_45 (dk_at dksX1_same_7 19 rfl rfl)
theorem dX1_same_179 : decode cX1_same 179 = .ok (.instanceof 44, 3) := dk_193 0 44 (dk_at dksX1_same_7 20 rfl rfl)
theorem dX1_same_182 : decode cX1_same 182 = .ok (.ifCond .eq 7, 3) := dk_153 0 7 (dk_at dksX1_same_8 0 rfl rfl)
theorem dX1_same_185 : decode cX1_same 185 = .ok (.aload_n 3, 1) := dk_45 (dk_at dksX1_same_8 3 rfl rfl)
theorem dX1_same_186 : decode cX1_same 186 = .ok (.goto 5, 3) := dk_167 0 5 (dk_at dksX1_same_8 4 rfl rfl)
theorem dX1_same_189 : decode cX1_same 189 = .ok (.aload 4, 2) := dk_25 4 (dk_at dksX1_same_8 7 rfl rfl)
theorem dX1_same_191 : decode cX1_same 191 = .ok (.astore 6, 2) := dk_58 6 (dk_at dksX1_same_8 9 rfl rfl)
theorem dX1_same_193 : decode cX1_same 193 = .ok (.aload 6, 2) := dk_25 6 (dk_at dksX1_same_8 11 rfl rfl)
theorem dX1_same_195 : decode cX1_same 195 = .ok (.aload_n 3, 1) := dk_45 (dk_at dksX1_same_8 13 rfl rfl)
theorem dX1_same_196 : decode cX1_same 196 = .ok (.if_acmp .ne 8, 3) := dk_166 0 8 (dk_at dksX1_same_8 14 rfl rfl)
theorem dX1_same_199 : decode cX1_same 199 = .ok (.aload 4, 2) := dk_25 4 (dk_at dksX1_same_8 17 rfl rfl)
theorem dX1_same_201 : decode cX1_same 201 = .ok (.goto 4, 3) := dk_167 0 4 (dk_at dksX1_same_8 19 rfl rfl)
theorem dX1_same_204 : decode cX1_same 204 = .ok (.aload_n 3, 1) := dk_45 (dk_at dksX1_same_8 22 rfl rfl)
theorem dX1_same_205 : decode cX1_same 205 = .ok (.astore 7, 2) := dk_58 7 (dk_at dksX1_same_9 0 rfl rfl)
theorem dX1_same_207 : decode cX1_same 207 = .ok (.aload 7, 2) := dk_25 7 (dk_at dksX1_same_9 2 rfl rfl)
theorem dX1_same_209 : decode cX1_same 209 = .ok (.instanceof 50, 3) := dk_193 0 50 (dk_at dksX1_same_9 4 rfl rfl)
theorem dX1_same_212 : decode cX1_same 212 = .ok (.ifCond .eq 15, 3) := dk_153 0 15 (dk_at dksX1_same_9 7 rfl rfl)
theorem dX1_same_215 : decode cX1_same 215 = .ok (.new 100, 3) := dk_187 0 100 (dk_at dksX1_same_9 10 rfl rfl)
theorem dX1_same_218 : decode cX1_same 218 = .ok (.dup, 1) := dk_89 (dk_at dksX1_same_9 13 rfl rfl)
theorem dX1_same_219 : decode cX1_same 219 = .ok (.aload 7, 2) := dk_25 7 (dk_at dksX1_same_9 14 rfl rfl)
theorem dX1_same_221 : decode cX1_same 221 = .ok (.invokespecial 102, 3) := dk_183 0 102 (dk_at dksX1_same_9 16 rfl rfl)
theorem dX1_same_224 : decode cX1_same 224 = .ok (.goto 4, 3) := dk_167 0 4 (dk_at dksX1_same_9 19 rfl rfl)
theorem dX1_same_227 : decode cX1_same 227 = .ok (.aconst_null, 1) := dk_1 (dk_at dksX1_same_9 22 rfl rfl)
theorem dX1_same_228 : decode cX1_same 228 = .ok (.astore 8, 2) := dk_58 8 (dk_at dksX1_same_10 0 rfl rfl)
theorem dX1_same_230 : decode cX1_same 230 = .ok (.iconst 0, 1) := dk_3 (dk_at dksX1_same_10 2 rfl rfl)
theorem dX1_same_231 : decode cX1_same 231 = .ok (.istore 9, 2) := dk_54 9 (dk_at dksX1_same_10 3 rfl rfl)
theorem dX1_same_233 : decode cX1_same 233 = .ok (.iload 9, 2) := dk_21 9 (dk_at dksX1_same_10 5 rfl rfl)
theorem dX1_same_235 : decode cX1_same 235 = .ok (.aload 6, 2) := dk_25 6 (dk_at dksX1_same_10 7 rfl rfl)
theorem dX1_same_237 : decode cX1_same 237 = .ok (.getfield 30, 3) := dk_180 0 30 (dk_at dksX1_same_10 9 rfl rfl)
theorem dX1_same_240 : decode cX1_same 240 = .ok (.if_icmp .ge 53, 3) := dk_162 0 53 (dk_at dksX1_same_10 12 rfl rfl)
theorem dX1_same_243 : decode cX1_same 243 = .ok (.iload 5, 2) := dk_21 5 (dk_at dksX1_same_10 15 rfl rfl)
theorem dX1_same_245 : decode cX1_same 245 = .ok (.ifCond .eq 48, 3) := dk_153 0 48 (dk_at dksX1_same_10 17 rfl rfl)
theorem dX1_same_248 : decode cX1_same 248 = .ok (.aload 8, 2) := dk_25 8 (dk_at dksX1_same_10 20 rfl rfl)
theorem dX1_same_250 : decode cX1_same 250 = .ok (.ifnonnull 22, 3) := dk_199 0 22 (dk_at dksX1_same_11 0 rfl rfl)
theorem dX1_same_253 : decode cX1_same 253 = .ok (.aload 7, 2) := dk_25 7 (dk_at dksX1_same_11 3 rfl rfl)
theorem dX1_same_255 : decode cX1_same 255 = .ok (.checkcast 44, 3) := dk_192 0 44 (dk_at dksX1_same_11 5 rfl rfl)
theorem dX1_same_258 : decode cX1_same 258 = .ok (.aload 6, 2) := dk_25 6 (dk_at dksX1_same_11 8 rfl rfl)
theorem dX1_same_260 : decode cX1_same 260 = .ok (.getfield 120, 3) := dk_180 0 120 (dk_at dksX1_same_11 10 rfl rfl)
theorem dX1_same_263 : decode cX1_same 263 = .ok (.iload 9, 2) := dk_21 9 (dk_at dksX1_same_11 13 rfl rfl)
theorem dX1_same_265 : decode cX1_same 265 = .ok (.laload, 1) := dk_47 (dk_at dksX1_same_11 15 rfl rfl)
theorem dX1_same_266 : decode cX1_same 266 = .ok (.invokevirtual 132, 3) := dk_182 0 132 (dk_at dksX1_same_11 16 rfl rfl)
theorem dX1_same_269 : decode cX1_same 269 = .ok (.goto 16, 3) := dk_167 0 16 (dk_at dksX1_same_11 19 rfl rfl)
theorem dX1_same_272 : decode cX1_same 272 = .ok (.aload 8, 2) := dk_25 8 (dk_at dksX1_same_11 22 rfl rfl)
theorem dX1_same_274 : decode cX1_same 274 = .ok (.aload 6, 2) := dk_25 6 (dk_at dksX1_same_12 0 rfl rfl)
theorem dX1_same_276 : decode cX1_same 276 = .ok (.getfield 120, 3) := dk_180 0 120 (dk_at dksX1_same_12 2 rfl rfl)
theorem dX1_same_279 : decode cX1_same 279 = .ok (.iload 9, 2) := dk_21 9 (dk_at dksX1_same_12 5 rfl rfl)
theorem dX1_same_281 : decode cX1_same 281 = .ok (.laload, 1) := dk_47 (dk_at dksX1_same_12 7 rfl rfl)
theorem dX1_same_282 : decode cX1_same 282 = .ok (.invokevirtual 128, 3) := dk_182 0 128 (dk_at dksX1_same_12 8 rfl rfl)
theorem dX1_same_285 : decode cX1_same 285 = .ok (.istore 5, 2) := dk_54 5 (dk_at dksX1_same_12 11 rfl rfl)
theorem dX1_same_287 : decode cX1_same 287 = .ok (.iinc 9 1, 3) := dk_132 9 1 (dk_at dksX1_same_12 13 rfl rfl)
theorem dX1_same_290 : decode cX1_same 290 = .ok (.goto (-57), 3) := dk_167 255 199 (dk_at dksX1_same_12 16 rfl rfl)
theorem dX1_same_293 : decode cX1_same 293 = .ok (.iload 5, 2) := dk_21 5 (dk_at dksX1_same_12 19 rfl rfl)
theorem dX1_same_295 : decode cX1_same 295 = .ok (.ifCond .eq 7, 3) := dk_153 0 7 (dk_at dksX1_same_12 21 rfl rfl)
theorem dX1_same_298 : decode cX1_same 298 = .ok (.iconst 1, 1) := dk_4 (dk_at dksX1_same_13 0 rfl rfl)
theorem dX1_same_299 : decode cX1_same 299 = .ok (.goto 4, 3) := dk_167 0 4 (dk_at dksX1_same_13 1 rfl rfl)
theorem dX1_same_302 : decode cX1_same 302 = .ok (.iconst 0, 1) := dk_3 (dk_at dksX1_same_13 4 rfl rfl)
theorem dX1_same_303 : decode cX1_same 303 = .ok (.ireturn, 1) := dk_172 (dk_at dksX1_same_13 5 rfl rfl)
abbrev cX1_design : ByteArray := prog_1_method_69_code
def yX1_design : MethodName := ⟨RX1, "design", "(III)I"⟩
def dkwX1_design_8 : List UInt8 := [153, 0, 7, 4, 167, 0, 4, 3, 96, 54, 6, 132, 7, 1, 167, 255, 133, 21, 6, 172]
abbrev dktX1_design_8 : List UInt8 := dkwX1_design_8 ++ []
def dkwX1_design_7 : List UInt8 := [184, 0, 228, 153, 0, 7, 4, 167, 0, 4, 3, 126, 54, 8, 132, 9, 1, 167, 255, 199, 21, 6, 21, 8]
abbrev dktX1_design_7 : List UInt8 := dkwX1_design_7 ++ dktX1_design_8
def dkwX1_design_6 : List UInt8 := [153, 0, 28, 25, 5, 180, 0, 64, 25, 5, 180, 0, 67, 42, 180, 0, 170, 21, 7, 47, 21, 9]
abbrev dktX1_design_6 : List UInt8 := dkwX1_design_6 ++ dktX1_design_7
def dkwX1_design_5 : List UInt8 := [54, 8, 3, 54, 9, 21, 9, 25, 5, 180, 0, 67, 162, 0, 53, 21, 8, 29, 21, 9, 122, 4, 126]
abbrev dktX1_design_5 : List UInt8 := dkwX1_design_5 ++ dktX1_design_6
def dkwX1_design_4 : List UInt8 := [180, 0, 67, 42, 180, 0, 170, 21, 7, 47, 9, 3, 184, 0, 150, 28, 160, 0, 7, 4, 167, 0, 4, 3]
abbrev dktX1_design_4 : List UInt8 := dkwX1_design_4 ++ dktX1_design_5
def dkwX1_design_3 : List UInt8 := [3, 54, 6, 3, 54, 7, 21, 7, 42, 180, 0, 173, 162, 0, 120, 25, 5, 180, 0, 64, 25, 5]
abbrev dktX1_design_3 : List UInt8 := dkwX1_design_3 ++ dktX1_design_4
def dkwX1_design_2 : List UInt8 := [120, 4, 100, 133, 184, 0, 16, 154, 0, 5, 2, 172, 42, 25, 5, 182, 0, 178, 154, 0, 6, 16, 251, 172]
abbrev dktX1_design_2 : List UInt8 := dkwX1_design_2 ++ dktX1_design_3
def dkwX1_design_1 : List UInt8 := [28, 133, 9, 25, 5, 180, 0, 67, 133, 184, 0, 16, 153, 0, 22, 29, 133, 9, 4, 25, 5, 180, 0, 67]
abbrev dktX1_design_1 : List UInt8 := dkwX1_design_1 ++ dktX1_design_2
def dkwX1_design_0 : List UInt8 := [42, 27, 3, 182, 0, 60, 54, 4, 21, 4, 153, 0, 6, 21, 4, 172, 42, 180, 0, 26, 27, 50, 58, 5]
abbrev dktX1_design_0 : List UInt8 := dkwX1_design_0 ++ dktX1_design_1
theorem dksX1_design_0 : cX1_design.data.toList.drop 0 = dktX1_design_0 := by decide +kernel
theorem dksX1_design_1 : cX1_design.data.toList.drop 24 = dktX1_design_1 := dk_seg dksX1_design_0 24 rfl rfl
theorem dksX1_design_2 : cX1_design.data.toList.drop 48 = dktX1_design_2 := dk_seg dksX1_design_1 24 rfl rfl
theorem dksX1_design_3 : cX1_design.data.toList.drop 72 = dktX1_design_3 := dk_seg dksX1_design_2 24 rfl rfl
theorem dksX1_design_4 : cX1_design.data.toList.drop 94 = dktX1_design_4 := dk_seg dksX1_design_3 22 rfl rfl
theorem dksX1_design_5 : cX1_design.data.toList.drop 118 = dktX1_design_5 := dk_seg dksX1_design_4 24 rfl rfl
theorem dksX1_design_6 : cX1_design.data.toList.drop 141 = dktX1_design_6 := dk_seg dksX1_design_5 23 rfl rfl
theorem dksX1_design_7 : cX1_design.data.toList.drop 163 = dktX1_design_7 := dk_seg dksX1_design_6 22 rfl rfl
theorem dksX1_design_8 : cX1_design.data.toList.drop 187 = dktX1_design_8 := dk_seg dksX1_design_7 24 rfl rfl
theorem dX1_design_0 : decode cX1_design 0 = .ok (.aload_n 0, 1) := dk_42 (dk_at dksX1_design_0 0 rfl rfl)
theorem dX1_design_1 : decode cX1_design 1 = .ok (.iload_n 1, 1) := dk_27 (dk_at dksX1_design_0 1 rfl rfl)
theorem dX1_design_2 : decode cX1_design 2 = .ok (.iconst 0, 1) := dk_3 (dk_at dksX1_design_0 2 rfl rfl)
theorem dX1_design_3 : decode cX1_design 3 = .ok (.invokevirtual 60, 3) := dk_182 0 60 (dk_at dksX1_design_0 3 rfl rfl)
theorem dX1_design_6 : decode cX1_design 6 = .ok (.istore 4, 2) := dk_54 4 (dk_at dksX1_design_0 6 rfl rfl)
theorem dX1_design_8 : decode cX1_design 8 = .ok (.iload 4, 2) := dk_21 4 (dk_at dksX1_design_0 8 rfl rfl)
theorem dX1_design_10 : decode cX1_design 10 = .ok (.ifCond .eq 6, 3) := dk_153 0 6 (dk_at dksX1_design_0 10 rfl rfl)
theorem dX1_design_13 : decode cX1_design 13 = .ok (.iload 4, 2) := dk_21 4 (dk_at dksX1_design_0 13 rfl rfl)
theorem dX1_design_15 : decode cX1_design 15 = .ok (.ireturn, 1) := dk_172 (dk_at dksX1_design_0 15 rfl rfl)
theorem dX1_design_16 : decode cX1_design 16 = .ok (.aload_n 0, 1) := dk_42 (dk_at dksX1_design_0 16 rfl rfl)
theorem dX1_design_17 : decode cX1_design 17 = .ok (.getfield 26, 3) := dk_180 0 26 (dk_at dksX1_design_0 17 rfl rfl)
theorem dX1_design_20 : decode cX1_design 20 = .ok (.iload_n 1, 1) := dk_27 (dk_at dksX1_design_0 20 rfl rfl)
theorem dX1_design_21 : decode cX1_design 21 = .ok (.aaload, 1) := dk_50 (dk_at dksX1_design_0 21 rfl rfl)
theorem dX1_design_22 : decode cX1_design 22 = .ok (.astore 5, 2) := dk_58 5 (dk_at dksX1_design_0 22 rfl rfl)
theorem dX1_design_24 : decode cX1_design 24 = .ok (.iload_n 2, 1) := dk_28 (dk_at dksX1_design_1 0 rfl rfl)
theorem dX1_design_25 : decode cX1_design 25 = .ok (.i2l, 1) := dk_133 (dk_at dksX1_design_1 1 rfl rfl)
theorem dX1_design_26 : decode cX1_design 26 = .ok (.lconst 0, 1) := dk_9 (dk_at dksX1_design_1 2 rfl rfl)
theorem dX1_design_27 : decode cX1_design 27 = .ok (.aload 5, 2) := dk_25 5 (dk_at dksX1_design_1 3 rfl rfl)
theorem dX1_design_29 : decode cX1_design 29 = .ok (.getfield 67, 3) := dk_180 0 67 (dk_at dksX1_design_1 5 rfl rfl)
theorem dX1_design_32 : decode cX1_design 32 = .ok (.i2l, 1) := dk_133 (dk_at dksX1_design_1 8 rfl rfl)
theorem dX1_design_33 : decode cX1_design 33 = .ok (.invokestatic 16, 3) := dk_184 0 16 (dk_at dksX1_design_1 9 rfl rfl)
theorem dX1_design_36 : decode cX1_design 36 = .ok (.ifCond .eq 22, 3) := dk_153 0 22 (dk_at dksX1_design_1 12 rfl rfl)
theorem dX1_design_39 : decode cX1_design 39 = .ok (.iload_n 3, 1) := dk_29 (dk_at dksX1_design_1 15 rfl rfl)
theorem dX1_design_40 : decode cX1_design 40 = .ok (.i2l, 1) := dk_133 (dk_at dksX1_design_1 16 rfl rfl)
theorem dX1_design_41 : decode cX1_design 41 = .ok (.lconst 0, 1) := dk_9 (dk_at dksX1_design_1 17 rfl rfl)
theorem dX1_design_42 : decode cX1_design 42 = .ok (.iconst 1, 1) := dk_4 (dk_at dksX1_design_1 18 rfl rfl)
theorem dX1_design_43 : decode cX1_design 43 = .ok (.aload 5, 2) := dk_25 5 (dk_at dksX1_design_1 19 rfl rfl)
theorem dX1_design_45 : decode cX1_design 45 = .ok (.getfield 67, 3) := dk_180 0 67 (dk_at dksX1_design_1 21 rfl rfl)
theorem dX1_design_48 : decode cX1_design 48 = .ok (.ishl, 1) := dk_120 (dk_at dksX1_design_2 0 rfl rfl)
theorem dX1_design_49 : decode cX1_design 49 = .ok (.iconst 1, 1) := dk_4 (dk_at dksX1_design_2 1 rfl rfl)
theorem dX1_design_50 : decode cX1_design 50 = .ok (.isub, 1) := dk_100 (dk_at dksX1_design_2 2 rfl rfl)
theorem dX1_design_51 : decode cX1_design 51 = .ok (.i2l, 1) := dk_133 (dk_at dksX1_design_2 3 rfl rfl)
theorem dX1_design_52 : decode cX1_design 52 = .ok (.invokestatic 16, 3) := dk_184 0 16 (dk_at dksX1_design_2 4 rfl rfl)
theorem dX1_design_55 : decode cX1_design 55 = .ok (.ifCond .ne 5, 3) := dk_154 0 5 (dk_at dksX1_design_2 7 rfl rfl)
theorem dX1_design_58 : decode cX1_design 58 = .ok (.iconst (-1), 1) := dk_2 (dk_at dksX1_design_2 10 rfl rfl)
theorem dX1_design_59 : decode cX1_design 59 = .ok (.ireturn, 1) := dk_172 (dk_at dksX1_design_2 11 rfl rfl)
theorem dX1_design_60 : decode cX1_design 60 = .ok (.aload_n 0, 1) := dk_42 (dk_at dksX1_design_2 12 rfl rfl)
theorem dX1_design_61 : decode cX1_design 61 = .ok (.aload 5, 2) := dk_25 5 (dk_at dksX1_design_2 13 rfl rfl)
theorem dX1_design_63 : decode cX1_design 63 = .ok (.invokevirtual 178, 3) := dk_182 0 178 (dk_at dksX1_design_2 15 rfl rfl)
theorem dX1_design_66 : decode cX1_design 66 = .ok (.ifCond .ne 6, 3) := dk_154 0 6 (dk_at dksX1_design_2 18 rfl rfl)
theorem dX1_design_69 : decode cX1_design 69 = .ok (.bipush (-5), 2) := dk_16 251 (dk_at dksX1_design_2 21 rfl rfl)
theorem dX1_design_71 : decode cX1_design 71 = .ok (.ireturn, 1) := dk_172 (dk_at dksX1_design_2 23 rfl rfl)
theorem dX1_design_72 : decode cX1_design 72 = .ok (.iconst 0, 1) := dk_3 (dk_at dksX1_design_3 0 rfl rfl)
theorem dX1_design_73 : decode cX1_design 73 = .ok (.istore 6, 2) := dk_54 6 (dk_at dksX1_design_3 1 rfl rfl)
theorem dX1_design_75 : decode cX1_design 75 = .ok (.iconst 0, 1) := dk_3 (dk_at dksX1_design_3 3 rfl rfl)
theorem dX1_design_76 : decode cX1_design 76 = .ok (.istore 7, 2) := dk_54 7 (dk_at dksX1_design_3 4 rfl rfl)
theorem dX1_design_78 : decode cX1_design 78 = .ok (.iload 7, 2) := dk_21 7 (dk_at dksX1_design_3 6 rfl rfl)
theorem dX1_design_80 : decode cX1_design 80 = .ok (.aload_n 0, 1) := dk_42 (dk_at dksX1_design_3 8 rfl rfl)
theorem dX1_design_81 : decode cX1_design 81 = .ok (.getfield 173, 3) := dk_180 0 173 (dk_at dksX1_design_3 9 rfl rfl)
theorem dX1_design_84 : decode cX1_design 84 = .ok (.if_icmp .ge 120, 3) := dk_162 0 120 (dk_at dksX1_design_3 12 rfl rfl)
theorem dX1_design_87 : decode cX1_design 87 = .ok (.aload 5, 2) := dk_25 5 (dk_at dksX1_design_3 15 rfl rfl)
theorem dX1_design_89 : decode cX1_design 89 = .ok (.getfield 64, 3) := dk_180 0 64 (dk_at dksX1_design_3 17 rfl rfl)
theorem dX1_design_92 : decode cX1_design 92 = .ok (.aload 5, 2) := dk_25 5 (dk_at dksX1_design_3 20 rfl rfl)
theorem dX1_design_94 : decode cX1_design 94 = .ok (.getfield 67, 3) := dk_180 0 67 (dk_at dksX1_design_4 0 rfl rfl)
theorem dX1_design_97 : decode cX1_design 97 = .ok (.aload_n 0, 1) := dk_42 (dk_at dksX1_design_4 3 rfl rfl)
theorem dX1_design_98 : decode cX1_design 98 = .ok (.getfield 170, 3) := dk_180 0 170 (dk_at dksX1_design_4 4 rfl rfl)
theorem dX1_design_101 : decode cX1_design 101 = .ok (.iload 7, 2) := dk_21 7 (dk_at dksX1_design_4 7 rfl rfl)
theorem dX1_design_103 : decode cX1_design 103 = .ok (.laload, 1) := dk_47 (dk_at dksX1_design_4 9 rfl rfl)
theorem dX1_design_104 : decode cX1_design 104 = .ok (.lconst 0, 1) := dk_9 (dk_at dksX1_design_4 10 rfl rfl)
theorem dX1_design_105 : decode cX1_design 105 = .ok (.iconst 0, 1) := dk_3 (dk_at dksX1_design_4 11 rfl rfl)
theorem dX1_design_106 : decode cX1_design 106 = .ok (.invokestatic 150, 3) := dk_184 0 150 (dk_at dksX1_design_4 12 rfl rfl)
theorem dX1_design_109 : decode cX1_design 109 = .ok (.iload_n 2, 1) := dk_28 (dk_at dksX1_design_4 15 rfl rfl)
theorem dX1_design_110 : decode cX1_design 110 = .ok (.if_icmp .ne 7, 3) := dk_160 0 7 (dk_at dksX1_design_4 16 rfl rfl)
theorem dX1_design_113 : decode cX1_design 113 = .ok (.iconst 1, 1) := dk_4 (dk_at dksX1_design_4 19 rfl rfl)
theorem dX1_design_114 : decode cX1_design 114 = .ok (.goto 4, 3) := dk_167 0 4 (dk_at dksX1_design_4 20 rfl rfl)
theorem dX1_design_117 : decode cX1_design 117 = .ok (.iconst 0, 1) := dk_3 (dk_at dksX1_design_4 23 rfl rfl)
theorem dX1_design_118 : decode cX1_design 118 = .ok (.istore 8, 2) := dk_54 8 (dk_at dksX1_design_5 0 rfl rfl)
theorem dX1_design_120 : decode cX1_design 120 = .ok (.iconst 0, 1) := dk_3 (dk_at dksX1_design_5 2 rfl rfl)
theorem dX1_design_121 : decode cX1_design 121 = .ok (.istore 9, 2) := dk_54 9 (dk_at dksX1_design_5 3 rfl rfl)
theorem dX1_design_123 : decode cX1_design 123 = .ok (.iload 9, 2) := dk_21 9 (dk_at dksX1_design_5 5 rfl rfl)
theorem dX1_design_125 : decode cX1_design 125 = .ok (.aload 5, 2) := dk_25 5 (dk_at dksX1_design_5 7 rfl rfl)
theorem dX1_design_127 : decode cX1_design 127 = .ok (.getfield 67, 3) := dk_180 0 67 (dk_at dksX1_design_5 9 rfl rfl)
theorem dX1_design_130 : decode cX1_design 130 = .ok (.if_icmp .ge 53, 3) := dk_162 0 53 (dk_at dksX1_design_5 12 rfl rfl)
theorem dX1_design_133 : decode cX1_design 133 = .ok (.iload 8, 2) := dk_21 8 (dk_at dksX1_design_5 15 rfl rfl)
theorem dX1_design_135 : decode cX1_design 135 = .ok (.iload_n 3, 1) := dk_29 (dk_at dksX1_design_5 17 rfl rfl)
theorem dX1_design_136 : decode cX1_design 136 = .ok (.iload 9, 2) := dk_21 9 (dk_at dksX1_design_5 18 rfl rfl)
theorem dX1_design_138 : decode cX1_design 138 = .ok (.ishr, 1) := dk_122 (dk_at dksX1_design_5 20 rfl rfl)
theorem dX1_design_139 : decode cX1_design 139 = .ok (.iconst 1, 1) := dk_4 (dk_at dksX1_design_5 21 rfl rfl)
theorem dX1_design_140 : decode cX1_design 140 = .ok (.iand, 1) := dk_126 (dk_at dksX1_design_5 22 rfl rfl)
theorem dX1_design_141 : decode cX1_design 141 = .ok (.ifCond .eq 28, 3) := dk_153 0 28 (dk_at dksX1_design_6 0 rfl rfl)
theorem dX1_design_144 : decode cX1_design 144 = .ok (.aload 5, 2) := dk_25 5 (dk_at dksX1_design_6 3 rfl rfl)
theorem dX1_design_146 : decode cX1_design 146 = .ok (.getfield 64, 3) := dk_180 0 64 (dk_at dksX1_design_6 5 rfl rfl)
theorem dX1_design_149 : decode cX1_design 149 = .ok (.aload 5, 2) := dk_25 5 (dk_at dksX1_design_6 8 rfl rfl)
theorem dX1_design_151 : decode cX1_design 151 = .ok (.getfield 67, 3) := dk_180 0 67 (dk_at dksX1_design_6 10 rfl rfl)
theorem dX1_design_154 : decode cX1_design 154 = .ok (.aload_n 0, 1) := dk_42 (dk_at dksX1_design_6 13 rfl rfl)
theorem dX1_design_155 : decode cX1_design 155 = .ok (.getfield 170, 3) := dk_180 0 170 (dk_at dksX1_design_6 14 rfl rfl)
theorem dX1_design_158 : decode cX1_design 158 = .ok (.iload 7, 2) := dk_21 7 (dk_at dksX1_design_6 17 rfl rfl)
theorem dX1_design_160 : decode cX1_design 160 = .ok (.laload, 1) := dk_47 (dk_at dksX1_design_6 19 rfl rfl)
theorem dX1_design_161 : decode cX1_design 161 = .ok (.iload 9, 2) := dk_21 9 (dk_at dksX1_design_6 20 rfl rfl)
theorem dX1_design_163 : decode cX1_design 163 = .ok (.invokestatic 228, 3) := dk_184 0 228 (dk_at dksX1_design_7 0 rfl rfl)
theorem dX1_design_166 : decode cX1_design 166 = .ok (.ifCond .eq 7, 3) := dk_153 0 7 (dk_at dksX1_design_7 3 rfl rfl)
theorem dX1_design_169 : decode cX1_design 169 = .ok (.iconst 1, 1) := dk_4 (dk_at dksX1_design_7 6 rfl rfl)
theorem dX1_design_170 : decode cX1_design 170 = .ok (.goto 4, 3) := dk_167 0 4 (dk_at dksX1_design_7 7 rfl rfl)
theorem dX1_design_173 : decode cX1_design 173 = .ok (.iconst 0, 1) := dk_3 (dk_at dksX1_design_7 10 rfl rfl)
theorem dX1_design_174 : decode cX1_design 174 = .ok (.iand, 1) := dk_126 (dk_at dksX1_design_7 11 rfl rfl)
theorem dX1_design_175 : decode cX1_design 175 = .ok (.istore 8, 2) := dk_54 8 (dk_at dksX1_design_7 12 rfl rfl)
theorem dX1_design_177 : decode cX1_design 177 = .ok (.iinc 9 1, 3) := dk_132 9 1 (dk_at dksX1_design_7 14 rfl rfl)
theorem dX1_design_180 : decode cX1_design 180 = .ok (.goto (-57), 3) := dk_167 255 199 (dk_at dksX1_design_7 17 rfl rfl)
theorem dX1_design_183 : decode cX1_design 183 = .ok (.iload 6, 2) := dk_21 6 (dk_at dksX1_design_7 20 rfl rfl)
theorem dX1_design_185 : decode cX1_design 185 = .ok (.iload 8, 2) := dk_21 8 (dk_at dksX1_design_7 22 rfl rfl)
theorem dX1_design_187 : decode cX1_design 187 = .ok (.ifCond .eq 7, 3) := dk_153 0 7 (dk_at dksX1_design_8 0 rfl rfl)
theorem dX1_design_190 : decode cX1_design 190 = .ok (.iconst 1, 1) := dk_4 (dk_at dksX1_design_8 3 rfl rfl)
theorem dX1_design_191 : decode cX1_design 191 = .ok (.goto 4, 3) := dk_167 0 4 (dk_at dksX1_design_8 4 rfl rfl)
theorem dX1_design_194 : decode cX1_design 194 = .ok (.iconst 0, 1) := dk_3 (dk_at dksX1_design_8 7 rfl rfl)
theorem dX1_design_195 : decode cX1_design 195 = .ok (.iadd, 1) := dk_96 (dk_at dksX1_design_8 8 rfl rfl)
theorem dX1_design_196 : decode cX1_design 196 = .ok (.istore 6, 2) := dk_54 6 (dk_at dksX1_design_8 9 rfl rfl)
theorem dX1_design_198 : decode cX1_design 198 = .ok (.iinc 7 1, 3) := dk_132 7 1 (dk_at dksX1_design_8 11 rfl rfl)
theorem dX1_design_201 : decode cX1_design 201 = .ok (.goto (-123), 3) := dk_167 255 133 (dk_at dksX1_design_8 14 rfl rfl)
theorem dX1_design_204 : decode cX1_design 204 = .ok (.iload 6, 2) := dk_21 6 (dk_at dksX1_design_8 17 rfl rfl)
theorem dX1_design_206 : decode cX1_design 206 = .ok (.ireturn, 1) := dk_172 (dk_at dksX1_design_8 19 rfl rfl)
abbrev cX1_init : ByteArray := prog_1_method_70_code
def yX1_init : MethodName := ⟨RX1, "<init>", "()V"⟩
def dkwX1_init_3 : List UInt8 := [177]
abbrev dktX1_init_3 : List UInt8 := dkwX1_init_3 ++ []
def dkwX1_init_2 : List UInt8 := [162, 0, 24, 42, 180, 1, 11, 187, 1, 15, 89, 183, 1, 17, 182, 1, 18, 87, 132, 1, 1, 167, 255, 232]
abbrev dktX1_init_2 : List UInt8 := dkwX1_init_2 ++ dktX1_init_3
def dkwX1_init_1 : List UInt8 := [16, 13, 188, 11, 181, 0, 182, 42, 187, 1, 8, 89, 183, 1, 10, 181, 1, 11, 3, 60, 27, 16, 6]
abbrev dktX1_init_1 : List UInt8 := dkwX1_init_1 ++ dktX1_init_2
def dkwX1_init_0 : List UInt8 := [42, 183, 1, 5, 42, 16, 12, 189, 0, 31, 181, 0, 26, 42, 17, 16, 0, 188, 11, 181, 0, 170, 42]
abbrev dktX1_init_0 : List UInt8 := dkwX1_init_0 ++ dktX1_init_1
theorem dksX1_init_0 : cX1_init.data.toList.drop 0 = dktX1_init_0 := by decide +kernel
theorem dksX1_init_1 : cX1_init.data.toList.drop 23 = dktX1_init_1 := dk_seg dksX1_init_0 23 rfl rfl
theorem dksX1_init_2 : cX1_init.data.toList.drop 46 = dktX1_init_2 := dk_seg dksX1_init_1 23 rfl rfl
theorem dksX1_init_3 : cX1_init.data.toList.drop 70 = dktX1_init_3 := dk_seg dksX1_init_2 24 rfl rfl
theorem dX1_init_0 : decode cX1_init 0 = .ok (.aload_n 0, 1) := dk_42 (dk_at dksX1_init_0 0 rfl rfl)
theorem dX1_init_1 : decode cX1_init 1 = .ok (.invokespecial 261, 3) := dk_183 1 5 (dk_at dksX1_init_0 1 rfl rfl)
theorem dX1_init_4 : decode cX1_init 4 = .ok (.aload_n 0, 1) := dk_42 (dk_at dksX1_init_0 4 rfl rfl)
theorem dX1_init_5 : decode cX1_init 5 = .ok (.bipush 12, 2) := dk_16 12 (dk_at dksX1_init_0 5 rfl rfl)
theorem dX1_init_7 : decode cX1_init 7 = .ok (.anewarray 31, 3) := dk_189 0 31 (dk_at dksX1_init_0 7 rfl rfl)
theorem dX1_init_10 : decode cX1_init 10 = .ok (.putfield 26, 3) := dk_181 0 26 (dk_at dksX1_init_0 10 rfl rfl)
theorem dX1_init_13 : decode cX1_init 13 = .ok (.aload_n 0, 1) := dk_42 (dk_at dksX1_init_0 13 rfl rfl)
theorem dX1_init_14 : decode cX1_init 14 = .ok (.sipush 4096, 3) := dk_17 16 0 (dk_at dksX1_init_0 14 rfl rfl)
theorem dX1_init_17 : decode cX1_init 17 = .ok (.newarray .long, 2) := dk_188_11 (dk_at dksX1_init_0 17 rfl rfl)
theorem dX1_init_19 : decode cX1_init 19 = .ok (.putfield 170, 3) := dk_181 0 170 (dk_at dksX1_init_0 19 rfl rfl)
theorem dX1_init_22 : decode cX1_init 22 = .ok (.aload_n 0, 1) := dk_42 (dk_at dksX1_init_0 22 rfl rfl)
theorem dX1_init_23 : decode cX1_init 23 = .ok (.bipush 13, 2) := dk_16 13 (dk_at dksX1_init_1 0 rfl rfl)
theorem dX1_init_25 : decode cX1_init 25 = .ok (.newarray .long, 2) := dk_188_11 (dk_at dksX1_init_1 2 rfl rfl)
theorem dX1_init_27 : decode cX1_init 27 = .ok (.putfield 182, 3) := dk_181 0 182 (dk_at dksX1_init_1 4 rfl rfl)
theorem dX1_init_30 : decode cX1_init 30 = .ok (.aload_n 0, 1) := dk_42 (dk_at dksX1_init_1 7 rfl rfl)
theorem dX1_init_31 : decode cX1_init 31 = .ok (.new 264, 3) := dk_187 1 8 (dk_at dksX1_init_1 8 rfl rfl)
theorem dX1_init_34 : decode cX1_init 34 = .ok (.dup, 1) := dk_89 (dk_at dksX1_init_1 11 rfl rfl)
theorem dX1_init_35 : decode cX1_init 35 = .ok (.invokespecial 266, 3) := dk_183 1 10 (dk_at dksX1_init_1 12 rfl rfl)
theorem dX1_init_38 : decode cX1_init 38 = .ok (.putfield 267, 3) := dk_181 1 11 (dk_at dksX1_init_1 15 rfl rfl)
theorem dX1_init_41 : decode cX1_init 41 = .ok (.iconst 0, 1) := dk_3 (dk_at dksX1_init_1 18 rfl rfl)
theorem dX1_init_42 : decode cX1_init 42 = .ok (.istore_n 1, 1) := dk_60 (dk_at dksX1_init_1 19 rfl rfl)
theorem dX1_init_43 : decode cX1_init 43 = .ok (.iload_n 1, 1) := dk_27 (dk_at dksX1_init_1 20 rfl rfl)
theorem dX1_init_44 : decode cX1_init 44 = .ok (.bipush 6, 2) := dk_16 6 (dk_at dksX1_init_1 21 rfl rfl)
theorem dX1_init_46 : decode cX1_init 46 = .ok (.if_icmp .ge 24, 3) := dk_162 0 24 (dk_at dksX1_init_2 0 rfl rfl)
theorem dX1_init_49 : decode cX1_init 49 = .ok (.aload_n 0, 1) := dk_42 (dk_at dksX1_init_2 3 rfl rfl)
theorem dX1_init_50 : decode cX1_init 50 = .ok (.getfield 267, 3) := dk_180 1 11 (dk_at dksX1_init_2 4 rfl rfl)
theorem dX1_init_53 : decode cX1_init 53 = .ok (.new 271, 3) := dk_187 1 15 (dk_at dksX1_init_2 7 rfl rfl)
theorem dX1_init_56 : decode cX1_init 56 = .ok (.dup, 1) := dk_89 (dk_at dksX1_init_2 10 rfl rfl)
theorem dX1_init_57 : decode cX1_init 57 = .ok (.invokespecial 273, 3) := dk_183 1 17 (dk_at dksX1_init_2 11 rfl rfl)
theorem dX1_init_60 : decode cX1_init 60 = .ok (.invokevirtual 274, 3) := dk_182 1 18 (dk_at dksX1_init_2 14 rfl rfl)
theorem dX1_init_63 : decode cX1_init 63 = .ok (.pop, 1) := dk_87 (dk_at dksX1_init_2 17 rfl rfl)
theorem dX1_init_64 : decode cX1_init 64 = .ok (.iinc 1 1, 3) := dk_132 1 1 (dk_at dksX1_init_2 18 rfl rfl)
theorem dX1_init_67 : decode cX1_init 67 = .ok (.goto (-24), 3) := dk_167 255 232 (dk_at dksX1_init_2 21 rfl rfl)
theorem dX1_init_70 : decode cX1_init 70 = .ok (.return_, 1) := dk_177 (dk_at dksX1_init_3 0 rfl rfl)
abbrev cX1_keep : ByteArray := prog_1_method_73_code
def yX1_keep : MethodName := ⟨RX1, "keep", "(IIII)I"⟩
def dkwX1_keep_5 : List UInt8 := [28, 42, 180, 0, 26, 29, 50, 21, 4, 184, 1, 37, 181, 1, 25, 3, 172]
abbrev dktX1_keep_5 : List UInt8 := dkwX1_keep_5 ++ []
def dkwX1_keep_4 : List UInt8 := [154, 0, 7, 1, 167, 0, 32, 28, 4, 160, 0, 15, 42, 180, 0, 26, 29, 50, 182, 1, 34, 167, 0, 15]
abbrev dktX1_keep_4 : List UInt8 := dkwX1_keep_4 ++ dktX1_keep_5
def dkwX1_keep_3 : List UInt8 := [4, 100, 133, 184, 0, 16, 154, 0, 6, 16, 254, 172, 42, 180, 1, 11, 27, 182, 1, 21, 192, 1, 15, 28]
abbrev dktX1_keep_3 : List UInt8 := dkwX1_keep_3 ++ dktX1_keep_4
def dkwX1_keep_2 : List UInt8 := [199, 0, 6, 16, 245, 172, 28, 6, 160, 0, 28, 21, 4, 133, 9, 42, 180, 0, 26, 29, 50, 180, 0, 30]
abbrev dktX1_keep_2 : List UInt8 := dkwX1_keep_2 ++ dktX1_keep_3
def dkwX1_keep_1 : List UInt8 := [28, 158, 0, 12, 29, 184, 0, 36, 154, 0, 5, 2, 172, 28, 158, 0, 15, 42, 180, 0, 26, 29, 50]
abbrev dktX1_keep_1 : List UInt8 := dkwX1_keep_1 ++ dktX1_keep_2
def dkwX1_keep_0 : List UInt8 := [27, 184, 1, 29, 153, 0, 31, 28, 133, 9, 20, 1, 32, 184, 0, 16, 153, 0, 19, 28, 5, 159, 0, 14]
abbrev dktX1_keep_0 : List UInt8 := dkwX1_keep_0 ++ dktX1_keep_1
theorem dksX1_keep_0 : cX1_keep.data.toList.drop 0 = dktX1_keep_0 := by decide +kernel
theorem dksX1_keep_1 : cX1_keep.data.toList.drop 24 = dktX1_keep_1 := dk_seg dksX1_keep_0 24 rfl rfl
theorem dksX1_keep_2 : cX1_keep.data.toList.drop 47 = dktX1_keep_2 := dk_seg dksX1_keep_1 23 rfl rfl
theorem dksX1_keep_3 : cX1_keep.data.toList.drop 71 = dktX1_keep_3 := dk_seg dksX1_keep_2 24 rfl rfl
theorem dksX1_keep_4 : cX1_keep.data.toList.drop 95 = dktX1_keep_4 := dk_seg dksX1_keep_3 24 rfl rfl
theorem dksX1_keep_5 : cX1_keep.data.toList.drop 119 = dktX1_keep_5 := dk_seg dksX1_keep_4 24 rfl rfl
theorem dX1_keep_0 : decode cX1_keep 0 = .ok (.iload_n 1, 1) := dk_27 (dk_at dksX1_keep_0 0 rfl rfl)
theorem dX1_keep_1 : decode cX1_keep 1 = .ok (.invokestatic 285, 3) := dk_184 1 29 (dk_at dksX1_keep_0 1 rfl rfl)
theorem dX1_keep_4 : decode cX1_keep 4 = .ok (.ifCond .eq 31, 3) := dk_153 0 31 (dk_at dksX1_keep_0 4 rfl rfl)
theorem dX1_keep_7 : decode cX1_keep 7 = .ok (.iload_n 2, 1) := dk_28 (dk_at dksX1_keep_0 7 rfl rfl)
theorem dX1_keep_8 : decode cX1_keep 8 = .ok (.i2l, 1) := dk_133 (dk_at dksX1_keep_0 8 rfl rfl)
theorem dX1_keep_9 : decode cX1_keep 9 = .ok (.lconst 0, 1) := dk_9 (dk_at dksX1_keep_0 9 rfl rfl)
theorem dX1_keep_10 : decode cX1_keep 10 = .ok (.ldc2_w 288, 3) := dk_20 1 32 (dk_at dksX1_keep_0 10 rfl rfl)
theorem dX1_keep_13 : decode cX1_keep 13 = .ok (.invokestatic 16, 3) := dk_184 0 16 (dk_at dksX1_keep_0 13 rfl rfl)
theorem dX1_keep_16 : decode cX1_keep 16 = .ok (.ifCond .eq 19, 3) := dk_153 0 19 (dk_at dksX1_keep_0 16 rfl rfl)
theorem dX1_keep_19 : decode cX1_keep 19 = .ok (.iload_n 2, 1) := dk_28 (dk_at dksX1_keep_0 19 rfl rfl)
theorem dX1_keep_20 : decode cX1_keep 20 = .ok (.iconst 2, 1) := dk_5 (dk_at dksX1_keep_0 20 rfl rfl)
theorem dX1_keep_21 : decode cX1_keep 21 = .ok (.if_icmp .eq 14, 3) := dk_159 0 14 (dk_at dksX1_keep_0 21 rfl rfl)
theorem dX1_keep_24 : decode cX1_keep 24 = .ok (.iload_n 2, 1) := dk_28 (dk_at dksX1_keep_1 0 rfl rfl)
theorem dX1_keep_25 : decode cX1_keep 25 = .ok (.ifCond .le 12, 3) := dk_158 0 12 (dk_at dksX1_keep_1 1 rfl rfl)
theorem dX1_keep_28 : decode cX1_keep 28 = .ok (.iload_n 3, 1) := dk_29 (dk_at dksX1_keep_1 4 rfl rfl)
theorem dX1_keep_29 : decode cX1_keep 29 = .ok (.invokestatic 36, 3) := dk_184 0 36 (dk_at dksX1_keep_1 5 rfl rfl)
theorem dX1_keep_32 : decode cX1_keep 32 = .ok (.ifCond .ne 5, 3) := dk_154 0 5 (dk_at dksX1_keep_1 8 rfl rfl)
theorem dX1_keep_35 : decode cX1_keep 35 = .ok (.iconst (-1), 1) := dk_2 (dk_at dksX1_keep_1 11 rfl rfl)
theorem dX1_keep_36 : decode cX1_keep 36 = .ok (.ireturn, 1) := dk_172 (dk_at dksX1_keep_1 12 rfl rfl)
theorem dX1_keep_37 : decode cX1_keep 37 = .ok (.iload_n 2, 1) := dk_28 (dk_at dksX1_keep_1 13 rfl rfl)
theorem dX1_keep_38 : decode cX1_keep 38 = .ok (.ifCond .le 15, 3) := dk_158 0 15 (dk_at dksX1_keep_1 14 rfl rfl)
theorem dX1_keep_41 : decode cX1_keep 41 = .ok (.aload_n 0, 1) := dk_42 (dk_at dksX1_keep_1 17 rfl rfl)
theorem dX1_keep_42 : decode cX1_keep 42 = .ok (.getfield 26, 3) := dk_180 0 26 (dk_at dksX1_keep_1 18 rfl rfl)
theorem dX1_keep_45 : decode cX1_keep 45 = .ok (.iload_n 3, 1) := dk_29 (dk_at dksX1_keep_1 21 rfl rfl)
theorem dX1_keep_46 : decode cX1_keep 46 = .ok (.aaload, 1) := dk_50 (dk_at dksX1_keep_1 22 rfl rfl)
theorem dX1_keep_47 : decode cX1_keep 47 = .ok (.ifnonnull 6, 3) := dk_199 0 6 (dk_at dksX1_keep_2 0 rfl rfl)
theorem dX1_keep_50 : decode cX1_keep 50 = .ok (.bipush (-11), 2) := dk_16 245 (dk_at dksX1_keep_2 3 rfl rfl)
theorem dX1_keep_52 : decode cX1_keep 52 = .ok (.ireturn, 1) := dk_172 (dk_at dksX1_keep_2 5 rfl rfl)
theorem dX1_keep_53 : decode cX1_keep 53 = .ok (.iload_n 2, 1) := dk_28 (dk_at dksX1_keep_2 6 rfl rfl)
theorem dX1_keep_54 : decode cX1_keep 54 = .ok (.iconst 3, 1) := dk_6 (dk_at dksX1_keep_2 7 rfl rfl)
theorem dX1_keep_55 : decode cX1_keep 55 = .ok (.if_icmp .ne 28, 3) := dk_160 0 28 (dk_at dksX1_keep_2 8 rfl rfl)
theorem dX1_keep_58 : decode cX1_keep 58 = .ok (.iload 4, 2) := dk_21 4 (dk_at dksX1_keep_2 11 rfl rfl)
theorem dX1_keep_60 : decode cX1_keep 60 = .ok (.i2l, 1) := dk_133 (dk_at dksX1_keep_2 13 rfl rfl)
theorem dX1_keep_61 : decode cX1_keep 61 = .ok (.lconst 0, 1) := dk_9 (dk_at dksX1_keep_2 14 rfl rfl)
theorem dX1_keep_62 : decode cX1_keep 62 = .ok (.aload_n 0, 1) := dk_42 (dk_at dksX1_keep_2 15 rfl rfl)
theorem dX1_keep_63 : decode cX1_keep 63 = .ok (.getfield 26, 3) := dk_180 0 26 (dk_at dksX1_keep_2 16 rfl rfl)
theorem dX1_keep_66 : decode cX1_keep 66 = .ok (.iload_n 3, 1) := dk_29 (dk_at dksX1_keep_2 19 rfl rfl)
theorem dX1_keep_67 : decode cX1_keep 67 = .ok (.aaload, 1) := dk_50 (dk_at dksX1_keep_2 20 rfl rfl)
theorem dX1_keep_68 : decode cX1_keep 68 = .ok (.getfield 30, 3) := dk_180 0 30 (dk_at dksX1_keep_2 21 rfl rfl)
theorem dX1_keep_71 : decode cX1_keep 71 = .ok (.iconst 1, 1) := dk_4 (dk_at dksX1_keep_3 0 rfl rfl)
theorem dX1_keep_72 : decode cX1_keep 72 = .ok (.isub, 1) := dk_100 (dk_at dksX1_keep_3 1 rfl rfl)
theorem dX1_keep_73 : decode cX1_keep 73 = .ok (.i2l, 1) := dk_133 (dk_at dksX1_keep_3 2 rfl rfl)
theorem dX1_keep_74 : decode cX1_keep 74 = .ok (.invokestatic 16, 3) := dk_184 0 16 (dk_at dksX1_keep_3 3 rfl rfl)
theorem dX1_keep_77 : decode cX1_keep 77 = .ok (.ifCond .ne 6, 3) := dk_154 0 6 (dk_at dksX1_keep_3 6 rfl rfl)
theorem dX1_keep_80 : decode cX1_keep 80 = .ok (.bipush (-2), 2) := dk_16 254 (dk_at dksX1_keep_3 9 rfl rfl)
theorem dX1_keep_82 : decode cX1_keep 82 = .ok (.ireturn, 1) := dk_172 (dk_at dksX1_keep_3 11 rfl rfl)
theorem dX1_keep_83 : decode cX1_keep 83 = .ok (.aload_n 0, 1) := dk_42 (dk_at dksX1_keep_3 12 rfl rfl)
theorem dX1_keep_84 : decode cX1_keep 84 = .ok (.getfield 267, 3) := dk_180 1 11 (dk_at dksX1_keep_3 13 rfl rfl)
theorem dX1_keep_87 : decode cX1_keep 87 = .ok (.iload_n 1, 1) := dk_27 (dk_at dksX1_keep_3 16 rfl rfl)
theorem dX1_keep_88 : decode cX1_keep 88 = .ok (.invokevirtual 277, 3) := dk_182 1 21 (dk_at dksX1_keep_3 17 rfl rfl)
theorem dX1_keep_91 : decode cX1_keep 91 = .ok (.checkcast 271, 3) := dk_192 1 15 (dk_at dksX1_keep_3 20 rfl rfl)
theorem dX1_keep_94 : decode cX1_keep 94 = .ok (.iload_n 2, 1) := dk_28 (dk_at dksX1_keep_3 23 rfl rfl)
theorem dX1_keep_95 : decode cX1_keep 95 = .ok (.ifCond .ne 7, 3) := dk_154 0 7 (dk_at dksX1_keep_4 0 rfl rfl)
theorem dX1_keep_98 : decode cX1_keep 98 = .ok (.aconst_null, 1) := dk_1 (dk_at dksX1_keep_4 3 rfl rfl)
theorem dX1_keep_99 : decode cX1_keep 99 = .ok (.goto 32, 3) := dk_167 0 32 (dk_at dksX1_keep_4 4 rfl rfl)
theorem dX1_keep_102 : decode cX1_keep 102 = .ok (.iload_n 2, 1) := dk_28 (dk_at dksX1_keep_4 7 rfl rfl)
theorem dX1_keep_103 : decode cX1_keep 103 = .ok (.iconst 1, 1) := dk_4 (dk_at dksX1_keep_4 8 rfl rfl)
theorem dX1_keep_104 : decode cX1_keep 104 = .ok (.if_icmp .ne 15, 3) := dk_160 0 15 (dk_at dksX1_keep_4 9 rfl rfl)
theorem dX1_keep_107 : decode cX1_keep 107 = .ok (.aload_n 0, 1) := dk_42 (dk_at dksX1_keep_4 12 rfl rfl)
theorem dX1_keep_108 : decode cX1_keep 108 = .ok (.getfield 26, 3) := dk_180 0 26 (dk_at dksX1_keep_4 13 rfl rfl)
theorem dX1_keep_111 : decode cX1_keep 111 = .ok (.iload_n 3, 1) := dk_29 (dk_at dksX1_keep_4 16 rfl rfl)
theorem dX1_keep_112 : decode cX1_keep 112 = .ok (.aaload, 1) := dk_50 (dk_at dksX1_keep_4 17 rfl rfl)
theorem dX1_keep_113 : decode cX1_keep 113 = .ok (.invokevirtual 290, 3) := dk_182 1 34 (dk_at dksX1_keep_4 18 rfl rfl)
theorem dX1_keep_116 : decode cX1_keep 116 = .ok (.goto 15, 3) := dk_167 0 15 (dk_at dksX1_keep_4 21 rfl rfl)
theorem dX1_keep_119 : decode cX1_keep 119 = .ok (.iload_n 2, 1) := dk_28 (dk_at dksX1_keep_5 0 rfl rfl)
theorem dX1_keep_120 : decode cX1_keep 120 = .ok (.aload_n 0, 1) := dk_42 (dk_at dksX1_keep_5 1 rfl rfl)
theorem dX1_keep_121 : decode cX1_keep 121 = .ok (.getfield 26, 3) := dk_180 0 26 (dk_at dksX1_keep_5 2 rfl rfl)
theorem dX1_keep_124 : decode cX1_keep 124 = .ok (.iload_n 3, 1) := dk_29 (dk_at dksX1_keep_5 5 rfl rfl)
theorem dX1_keep_125 : decode cX1_keep 125 = .ok (.aaload, 1) := dk_50 (dk_at dksX1_keep_5 6 rfl rfl)
theorem dX1_keep_126 : decode cX1_keep 126 = .ok (.iload 4, 2) := dk_21 4 (dk_at dksX1_keep_5 7 rfl rfl)
theorem dX1_keep_128 : decode cX1_keep 128 = .ok (.invokestatic 293, 3) := dk_184 1 37 (dk_at dksX1_keep_5 9 rfl rfl)
theorem dX1_keep_131 : decode cX1_keep 131 = .ok (.putfield 281, 3) := dk_181 1 25 (dk_at dksX1_keep_5 12 rfl rfl)
theorem dX1_keep_134 : decode cX1_keep 134 = .ok (.iconst 0, 1) := dk_3 (dk_at dksX1_keep_5 15 rfl rfl)
theorem dX1_keep_135 : decode cX1_keep 135 = .ok (.ireturn, 1) := dk_172 (dk_at dksX1_keep_5 16 rfl rfl)
abbrev cX1_isShelf : ByteArray := prog_1_method_71_code
def yX1_isShelf : MethodName := ⟨RX1, "isShelf", "(I)Z"⟩
def dkwX1_isShelf_0 : List UInt8 := [26, 133, 9, 20, 0, 22, 184, 0, 16, 172]
abbrev dktX1_isShelf_0 : List UInt8 := dkwX1_isShelf_0 ++ []
theorem dksX1_isShelf_0 : cX1_isShelf.data.toList.drop 0 = dktX1_isShelf_0 := by decide +kernel
theorem dX1_isShelf_0 : decode cX1_isShelf 0 = .ok (.iload_n 0, 1) := dk_26 (dk_at dksX1_isShelf_0 0 rfl rfl)
theorem dX1_isShelf_1 : decode cX1_isShelf 1 = .ok (.i2l, 1) := dk_133 (dk_at dksX1_isShelf_0 1 rfl rfl)
theorem dX1_isShelf_2 : decode cX1_isShelf 2 = .ok (.lconst 0, 1) := dk_9 (dk_at dksX1_isShelf_0 2 rfl rfl)
theorem dX1_isShelf_3 : decode cX1_isShelf 3 = .ok (.ldc2_w 22, 3) := dk_20 0 22 (dk_at dksX1_isShelf_0 3 rfl rfl)
theorem dX1_isShelf_6 : decode cX1_isShelf 6 = .ok (.invokestatic 16, 3) := dk_184 0 16 (dk_at dksX1_isShelf_0 6 rfl rfl)
theorem dX1_isShelf_9 : decode cX1_isShelf 9 = .ok (.ireturn, 1) := dk_172 (dk_at dksX1_isShelf_0 9 rfl rfl)
abbrev cX1_rowOf : ByteArray := prog_1_method_74_code
def yX1_rowOf : MethodName := ⟨RX1, "rowOf", "(ILWordBench$Code;I)Ljava/lang/Object;"⟩
def dkwX1_rowOf_3 : List UInt8 := [180, 0, 120, 3, 45, 3, 43, 180, 0, 30, 184, 0, 85, 45, 176]
abbrev dktX1_rowOf_3 : List UInt8 := dkwX1_rowOf_3 ++ []
def dkwX1_rowOf_2 : List UInt8 := [21, 5, 46, 145, 84, 132, 5, 1, 167, 255, 234, 25, 4, 176, 43, 180, 0, 30, 188, 11, 78, 43]
abbrev dktX1_rowOf_2 : List UInt8 := dkwX1_rowOf_2 ++ dktX1_rowOf_3
def dkwX1_rowOf_1 : List UInt8 := [180, 0, 67, 188, 8, 58, 4, 3, 54, 5, 21, 5, 43, 180, 0, 67, 162, 0, 19, 25, 4, 21, 5, 45]
abbrev dktX1_rowOf_1 : List UInt8 := dkwX1_rowOf_1 ++ dktX1_rowOf_2
def dkwX1_rowOf_0 : List UInt8 := [26, 6, 160, 0, 60, 43, 180, 0, 64, 43, 180, 0, 67, 43, 180, 0, 120, 28, 47, 184, 1, 41, 78, 43]
abbrev dktX1_rowOf_0 : List UInt8 := dkwX1_rowOf_0 ++ dktX1_rowOf_1
theorem dksX1_rowOf_0 : cX1_rowOf.data.toList.drop 0 = dktX1_rowOf_0 := by decide +kernel
theorem dksX1_rowOf_1 : cX1_rowOf.data.toList.drop 24 = dktX1_rowOf_1 := dk_seg dksX1_rowOf_0 24 rfl rfl
theorem dksX1_rowOf_2 : cX1_rowOf.data.toList.drop 48 = dktX1_rowOf_2 := dk_seg dksX1_rowOf_1 24 rfl rfl
theorem dksX1_rowOf_3 : cX1_rowOf.data.toList.drop 70 = dktX1_rowOf_3 := dk_seg dksX1_rowOf_2 22 rfl rfl
theorem dX1_rowOf_0 : decode cX1_rowOf 0 = .ok (.iload_n 0, 1) := dk_26 (dk_at dksX1_rowOf_0 0 rfl rfl)
theorem dX1_rowOf_1 : decode cX1_rowOf 1 = .ok (.iconst 3, 1) := dk_6 (dk_at dksX1_rowOf_0 1 rfl rfl)
theorem dX1_rowOf_2 : decode cX1_rowOf 2 = .ok (.if_icmp .ne 60, 3) := dk_160 0 60 (dk_at dksX1_rowOf_0 2 rfl rfl)
theorem dX1_rowOf_5 : decode cX1_rowOf 5 = .ok (.aload_n 1, 1) := dk_43 (dk_at dksX1_rowOf_0 5 rfl rfl)
theorem dX1_rowOf_6 : decode cX1_rowOf 6 = .ok (.getfield 64, 3) := dk_180 0 64 (dk_at dksX1_rowOf_0 6 rfl rfl)
theorem dX1_rowOf_9 : decode cX1_rowOf 9 = .ok (.aload_n 1, 1) := dk_43 (dk_at dksX1_rowOf_0 9 rfl rfl)
theorem dX1_rowOf_10 : decode cX1_rowOf 10 = .ok (.getfield 67, 3) := dk_180 0 67 (dk_at dksX1_rowOf_0 10 rfl rfl)
theorem dX1_rowOf_13 : decode cX1_rowOf 13 = .ok (.aload_n 1, 1) := dk_43 (dk_at dksX1_rowOf_0 13 rfl rfl)
theorem dX1_rowOf_14 : decode cX1_rowOf 14 = .ok (.getfield 120, 3) := dk_180 0 120 (dk_at dksX1_rowOf_0 14 rfl rfl)
theorem dX1_rowOf_17 : decode cX1_rowOf 17 = .ok (.iload_n 2, 1) := dk_28 (dk_at dksX1_rowOf_0 17 rfl rfl)
theorem dX1_rowOf_18 : decode cX1_rowOf 18 = .ok (.laload, 1) := dk_47 (dk_at dksX1_rowOf_0 18 rfl rfl)
theorem dX1_rowOf_19 : decode cX1_rowOf 19 = .ok (.invokestatic 297, 3) := dk_184 1 41 (dk_at dksX1_rowOf_0 19 rfl rfl)
theorem dX1_rowOf_22 : decode cX1_rowOf 22 = .ok (.astore_n 3, 1) := dk_78 (dk_at dksX1_rowOf_0 22 rfl rfl)
theorem dX1_rowOf_23 : decode cX1_rowOf 23 = .ok (.aload_n 1, 1) := dk_43 (dk_at dksX1_rowOf_0 23 rfl rfl)
theorem dX1_rowOf_24 : decode cX1_rowOf 24 = .ok (.getfield 67, 3) := dk_180 0 67 (dk_at dksX1_rowOf_1 0 rfl rfl)
theorem dX1_rowOf_27 : decode cX1_rowOf 27 = .ok (.newarray .byte, 2) := dk_188_8 (dk_at dksX1_rowOf_1 3 rfl rfl)
theorem dX1_rowOf_29 : decode cX1_rowOf 29 = .ok (.astore 4, 2) := dk_58 4 (dk_at dksX1_rowOf_1 5 rfl rfl)
theorem dX1_rowOf_31 : decode cX1_rowOf 31 = .ok (.iconst 0, 1) := dk_3 (dk_at dksX1_rowOf_1 7 rfl rfl)
theorem dX1_rowOf_32 : decode cX1_rowOf 32 = .ok (.istore 5, 2) := dk_54 5 (dk_at dksX1_rowOf_1 8 rfl rfl)
theorem dX1_rowOf_34 : decode cX1_rowOf 34 = .ok (.iload 5, 2) := dk_21 5 (dk_at dksX1_rowOf_1 10 rfl rfl)
theorem dX1_rowOf_36 : decode cX1_rowOf 36 = .ok (.aload_n 1, 1) := dk_43 (dk_at dksX1_rowOf_1 12 rfl rfl)
theorem dX1_rowOf_37 : decode cX1_rowOf 37 = .ok (.getfield 67, 3) := dk_180 0 67 (dk_at dksX1_rowOf_1 13 rfl rfl)
theorem dX1_rowOf_40 : decode cX1_rowOf 40 = .ok (.if_icmp .ge 19, 3) := dk_162 0 19 (dk_at dksX1_rowOf_1 16 rfl rfl)
theorem dX1_rowOf_43 : decode cX1_rowOf 43 = .ok (.aload 4, 2) := dk_25 4 (dk_at dksX1_rowOf_1 19 rfl rfl)
theorem dX1_rowOf_45 : decode cX1_rowOf 45 = .ok (.iload 5, 2) := dk_21 5 (dk_at dksX1_rowOf_1 21 rfl rfl)
theorem dX1_rowOf_47 : decode cX1_rowOf 47 = .ok (.aload_n 3, 1) := dk_45 (dk_at dksX1_rowOf_1 23 rfl rfl)
theorem dX1_rowOf_48 : decode cX1_rowOf 48 = .ok (.iload 5, 2) := dk_21 5 (dk_at dksX1_rowOf_2 0 rfl rfl)
theorem dX1_rowOf_50 : decode cX1_rowOf 50 = .ok (.iaload, 1) := dk_46 (dk_at dksX1_rowOf_2 2 rfl rfl)
theorem dX1_rowOf_51 : decode cX1_rowOf 51 = .ok (.i2b, 1) := dk_145 (dk_at dksX1_rowOf_2 3 rfl rfl)
theorem dX1_rowOf_52 : decode cX1_rowOf 52 = .ok (.bastore, 1) := dk_84 (dk_at dksX1_rowOf_2 4 rfl rfl)
theorem dX1_rowOf_53 : decode cX1_rowOf 53 = .ok (.iinc 5 1, 3) := dk_132 5 1 (dk_at dksX1_rowOf_2 5 rfl rfl)
theorem dX1_rowOf_56 : decode cX1_rowOf 56 = .ok (.goto (-22), 3) := dk_167 255 234 (dk_at dksX1_rowOf_2 8 rfl rfl)
theorem dX1_rowOf_59 : decode cX1_rowOf 59 = .ok (.aload 4, 2) := dk_25 4 (dk_at dksX1_rowOf_2 11 rfl rfl)
theorem dX1_rowOf_61 : decode cX1_rowOf 61 = .ok (.areturn, 1) := dk_176 (dk_at dksX1_rowOf_2 13 rfl rfl)
theorem dX1_rowOf_62 : decode cX1_rowOf 62 = .ok (.aload_n 1, 1) := dk_43 (dk_at dksX1_rowOf_2 14 rfl rfl)
theorem dX1_rowOf_63 : decode cX1_rowOf 63 = .ok (.getfield 30, 3) := dk_180 0 30 (dk_at dksX1_rowOf_2 15 rfl rfl)
theorem dX1_rowOf_66 : decode cX1_rowOf 66 = .ok (.newarray .long, 2) := dk_188_11 (dk_at dksX1_rowOf_2 18 rfl rfl)
theorem dX1_rowOf_68 : decode cX1_rowOf 68 = .ok (.astore_n 3, 1) := dk_78 (dk_at dksX1_rowOf_2 20 rfl rfl)
theorem dX1_rowOf_69 : decode cX1_rowOf 69 = .ok (.aload_n 1, 1) := dk_43 (dk_at dksX1_rowOf_2 21 rfl rfl)
theorem dX1_rowOf_70 : decode cX1_rowOf 70 = .ok (.getfield 120, 3) := dk_180 0 120 (dk_at dksX1_rowOf_3 0 rfl rfl)
theorem dX1_rowOf_73 : decode cX1_rowOf 73 = .ok (.iconst 0, 1) := dk_3 (dk_at dksX1_rowOf_3 3 rfl rfl)
theorem dX1_rowOf_74 : decode cX1_rowOf 74 = .ok (.aload_n 3, 1) := dk_45 (dk_at dksX1_rowOf_3 4 rfl rfl)
theorem dX1_rowOf_75 : decode cX1_rowOf 75 = .ok (.iconst 0, 1) := dk_3 (dk_at dksX1_rowOf_3 5 rfl rfl)
theorem dX1_rowOf_76 : decode cX1_rowOf 76 = .ok (.aload_n 1, 1) := dk_43 (dk_at dksX1_rowOf_3 6 rfl rfl)
theorem dX1_rowOf_77 : decode cX1_rowOf 77 = .ok (.getfield 30, 3) := dk_180 0 30 (dk_at dksX1_rowOf_3 7 rfl rfl)
theorem dX1_rowOf_80 : decode cX1_rowOf 80 = .ok (.invokestatic 85, 3) := dk_184 0 85 (dk_at dksX1_rowOf_3 10 rfl rfl)
theorem dX1_rowOf_83 : decode cX1_rowOf 83 = .ok (.aload_n 3, 1) := dk_45 (dk_at dksX1_rowOf_3 13 rfl rfl)
theorem dX1_rowOf_84 : decode cX1_rowOf 84 = .ok (.areturn, 1) := dk_176 (dk_at dksX1_rowOf_3 14 rfl rfl)
abbrev cX1_row : ByteArray := prog_1_method_75_code
def yX1_row : MethodName := ⟨RX1, "row", "(III)I"⟩
def dkwX1_row_2 : List UInt8 := [180, 1, 11, 27, 182, 1, 21, 192, 1, 15, 25, 4, 181, 1, 25, 3, 172, 58, 4, 16, 242, 172]
abbrev dktX1_row_2 : List UInt8 := dkwX1_row_2 ++ []
def dkwX1_row_1 : List UInt8 := [164, 0, 5, 2, 172, 28, 6, 160, 0, 11, 29, 188, 8, 58, 4, 167, 0, 8, 29, 188, 11, 58, 4, 42]
abbrev dktX1_row_1 : List UInt8 := dkwX1_row_1 ++ dktX1_row_2
def dkwX1_row_0 : List UInt8 := [27, 184, 1, 29, 153, 0, 23, 28, 133, 20, 1, 45, 20, 1, 32, 184, 0, 16, 153, 0, 9, 29, 16, 60]
abbrev dktX1_row_0 : List UInt8 := dkwX1_row_0 ++ dktX1_row_1
theorem dksX1_row_0 : cX1_row.data.toList.drop 0 = dktX1_row_0 := by decide +kernel
theorem dksX1_row_1 : cX1_row.data.toList.drop 24 = dktX1_row_1 := dk_seg dksX1_row_0 24 rfl rfl
theorem dksX1_row_2 : cX1_row.data.toList.drop 48 = dktX1_row_2 := dk_seg dksX1_row_1 24 rfl rfl
theorem dX1_row_0 : decode cX1_row 0 = .ok (.iload_n 1, 1) := dk_27 (dk_at dksX1_row_0 0 rfl rfl)
theorem dX1_row_1 : decode cX1_row 1 = .ok (.invokestatic 285, 3) := dk_184 1 29 (dk_at dksX1_row_0 1 rfl rfl)
theorem dX1_row_4 : decode cX1_row 4 = .ok (.ifCond .eq 23, 3) := dk_153 0 23 (dk_at dksX1_row_0 4 rfl rfl)
theorem dX1_row_7 : decode cX1_row 7 = .ok (.iload_n 2, 1) := dk_28 (dk_at dksX1_row_0 7 rfl rfl)
theorem dX1_row_8 : decode cX1_row 8 = .ok (.i2l, 1) := dk_133 (dk_at dksX1_row_0 8 rfl rfl)
theorem dX1_row_9 : decode cX1_row 9 = .ok (.ldc2_w 301, 3) := dk_20 1 45 (dk_at dksX1_row_0 9 rfl rfl)
theorem dX1_row_12 : decode cX1_row 12 = .ok (.ldc2_w 288, 3) := dk_20 1 32 (dk_at dksX1_row_0 12 rfl rfl)
theorem dX1_row_15 : decode cX1_row 15 = .ok (.invokestatic 16, 3) := dk_184 0 16 (dk_at dksX1_row_0 15 rfl rfl)
theorem dX1_row_18 : decode cX1_row 18 = .ok (.ifCond .eq 9, 3) := dk_153 0 9 (dk_at dksX1_row_0 18 rfl rfl)
theorem dX1_row_21 : decode cX1_row 21 = .ok (.iload_n 3, 1) := dk_29 (dk_at dksX1_row_0 21 rfl rfl)
theorem dX1_row_22 : decode cX1_row 22 = .ok (.bipush 60, 2) := dk_16 60 (dk_at dksX1_row_0 22 rfl rfl)
theorem dX1_row_24 : decode cX1_row 24 = .ok (.if_icmp .le 5, 3) := dk_164 0 5 (dk_at dksX1_row_1 0 rfl rfl)
theorem dX1_row_27 : decode cX1_row 27 = .ok (.iconst (-1), 1) := dk_2 (dk_at dksX1_row_1 3 rfl rfl)
theorem dX1_row_28 : decode cX1_row 28 = .ok (.ireturn, 1) := dk_172 (dk_at dksX1_row_1 4 rfl rfl)
theorem dX1_row_29 : decode cX1_row 29 = .ok (.iload_n 2, 1) := dk_28 (dk_at dksX1_row_1 5 rfl rfl)
theorem dX1_row_30 : decode cX1_row 30 = .ok (.iconst 3, 1) := dk_6 (dk_at dksX1_row_1 6 rfl rfl)
theorem dX1_row_31 : decode cX1_row 31 = .ok (.if_icmp .ne 11, 3) := dk_160 0 11 (dk_at dksX1_row_1 7 rfl rfl)
theorem dX1_row_34 : decode cX1_row 34 = .ok (.iload_n 3, 1) := dk_29 (dk_at dksX1_row_1 10 rfl rfl)
theorem dX1_row_35 : decode cX1_row 35 = .ok (.newarray .byte, 2) := dk_188_8 (dk_at dksX1_row_1 11 rfl rfl)
theorem dX1_row_37 : decode cX1_row 37 = .ok (.astore 4, 2) := dk_58 4 (dk_at dksX1_row_1 13 rfl rfl)
theorem dX1_row_39 : decode cX1_row 39 = .ok (.goto 8, 3) := dk_167 0 8 (dk_at dksX1_row_1 15 rfl rfl)
theorem dX1_row_42 : decode cX1_row 42 = .ok (.iload_n 3, 1) := dk_29 (dk_at dksX1_row_1 18 rfl rfl)
theorem dX1_row_43 : decode cX1_row 43 = .ok (.newarray .long, 2) := dk_188_11 (dk_at dksX1_row_1 19 rfl rfl)
theorem dX1_row_45 : decode cX1_row 45 = .ok (.astore 4, 2) := dk_58 4 (dk_at dksX1_row_1 21 rfl rfl)
theorem dX1_row_47 : decode cX1_row 47 = .ok (.aload_n 0, 1) := dk_42 (dk_at dksX1_row_1 23 rfl rfl)
theorem dX1_row_48 : decode cX1_row 48 = .ok (.getfield 267, 3) := dk_180 1 11 (dk_at dksX1_row_2 0 rfl rfl)
theorem dX1_row_51 : decode cX1_row 51 = .ok (.iload_n 1, 1) := dk_27 (dk_at dksX1_row_2 3 rfl rfl)
theorem dX1_row_52 : decode cX1_row 52 = .ok (.invokevirtual 277, 3) := dk_182 1 21 (dk_at dksX1_row_2 4 rfl rfl)
theorem dX1_row_55 : decode cX1_row 55 = .ok (.checkcast 271, 3) := dk_192 1 15 (dk_at dksX1_row_2 7 rfl rfl)
theorem dX1_row_58 : decode cX1_row 58 = .ok (.aload 4, 2) := dk_25 4 (dk_at dksX1_row_2 10 rfl rfl)
theorem dX1_row_60 : decode cX1_row 60 = .ok (.putfield 281, 3) := dk_181 1 25 (dk_at dksX1_row_2 12 rfl rfl)
theorem dX1_row_63 : decode cX1_row 63 = .ok (.iconst 0, 1) := dk_3 (dk_at dksX1_row_2 15 rfl rfl)
theorem dX1_row_64 : decode cX1_row 64 = .ok (.ireturn, 1) := dk_172 (dk_at dksX1_row_2 16 rfl rfl)
theorem dX1_row_65 : decode cX1_row 65 = .ok (.astore 4, 2) := dk_58 4 (dk_at dksX1_row_2 17 rfl rfl)
theorem dX1_row_67 : decode cX1_row 67 = .ok (.bipush (-14), 2) := dk_16 242 (dk_at dksX1_row_2 19 rfl rfl)
theorem dX1_row_69 : decode cX1_row 69 = .ok (.ireturn, 1) := dk_172 (dk_at dksX1_row_2 21 rfl rfl)
abbrev cX1_copy : ByteArray := prog_1_method_78_code
def yX1_copy : MethodName := ⟨RX1, "copy", "(IIIII)I"⟩
def dkwX1_copy_3 : List UInt8 := [16, 244, 172, 25, 6, 28, 25, 7, 21, 4, 21, 5, 184, 0, 85, 21, 5, 172, 58, 10, 16, 243, 172]
abbrev dktX1_copy_3 : List UInt8 := dkwX1_copy_3 ++ []
def dkwX1_copy_2 : List UInt8 := [153, 0, 8, 21, 9, 154, 0, 6, 16, 245, 172, 21, 8, 4, 159, 0, 10, 21, 8, 21, 9, 159, 0, 6]
abbrev dktX1_copy_2 : List UInt8 := dkwX1_copy_2 ++ dktX1_copy_3
def dkwX1_copy_1 : List UInt8 := [29, 182, 1, 49, 58, 7, 25, 6, 184, 1, 60, 54, 8, 25, 7, 184, 1, 60, 54, 9, 21, 8]
abbrev dktX1_copy_1 : List UInt8 := dkwX1_copy_1 ++ dktX1_copy_2
def dkwX1_copy_0 : List UInt8 := [27, 184, 1, 29, 153, 0, 10, 29, 184, 1, 29, 154, 0, 5, 2, 172, 42, 27, 182, 1, 49, 58, 6, 42]
abbrev dktX1_copy_0 : List UInt8 := dkwX1_copy_0 ++ dktX1_copy_1
theorem dksX1_copy_0 : cX1_copy.data.toList.drop 0 = dktX1_copy_0 := by decide +kernel
theorem dksX1_copy_1 : cX1_copy.data.toList.drop 24 = dktX1_copy_1 := dk_seg dksX1_copy_0 24 rfl rfl
theorem dksX1_copy_2 : cX1_copy.data.toList.drop 46 = dktX1_copy_2 := dk_seg dksX1_copy_1 22 rfl rfl
theorem dksX1_copy_3 : cX1_copy.data.toList.drop 70 = dktX1_copy_3 := dk_seg dksX1_copy_2 24 rfl rfl
theorem dX1_copy_0 : decode cX1_copy 0 = .ok (.iload_n 1, 1) := dk_27 (dk_at dksX1_copy_0 0 rfl rfl)
theorem dX1_copy_1 : decode cX1_copy 1 = .ok (.invokestatic 285, 3) := dk_184 1 29 (dk_at dksX1_copy_0 1 rfl rfl)
theorem dX1_copy_4 : decode cX1_copy 4 = .ok (.ifCond .eq 10, 3) := dk_153 0 10 (dk_at dksX1_copy_0 4 rfl rfl)
theorem dX1_copy_7 : decode cX1_copy 7 = .ok (.iload_n 3, 1) := dk_29 (dk_at dksX1_copy_0 7 rfl rfl)
theorem dX1_copy_8 : decode cX1_copy 8 = .ok (.invokestatic 285, 3) := dk_184 1 29 (dk_at dksX1_copy_0 8 rfl rfl)
theorem dX1_copy_11 : decode cX1_copy 11 = .ok (.ifCond .ne 5, 3) := dk_154 0 5 (dk_at dksX1_copy_0 11 rfl rfl)
theorem dX1_copy_14 : decode cX1_copy 14 = .ok (.iconst (-1), 1) := dk_2 (dk_at dksX1_copy_0 14 rfl rfl)
theorem dX1_copy_15 : decode cX1_copy 15 = .ok (.ireturn, 1) := dk_172 (dk_at dksX1_copy_0 15 rfl rfl)
theorem dX1_copy_16 : decode cX1_copy 16 = .ok (.aload_n 0, 1) := dk_42 (dk_at dksX1_copy_0 16 rfl rfl)
theorem dX1_copy_17 : decode cX1_copy 17 = .ok (.iload_n 1, 1) := dk_27 (dk_at dksX1_copy_0 17 rfl rfl)
theorem dX1_copy_18 : decode cX1_copy 18 = .ok (.invokevirtual 305, 3) := dk_182 1 49 (dk_at dksX1_copy_0 18 rfl rfl)
theorem dX1_copy_21 : decode cX1_copy 21 = .ok (.astore 6, 2) := dk_58 6 (dk_at dksX1_copy_0 21 rfl rfl)
theorem dX1_copy_23 : decode cX1_copy 23 = .ok (.aload_n 0, 1) := dk_42 (dk_at dksX1_copy_0 23 rfl rfl)
theorem dX1_copy_24 : decode cX1_copy 24 = .ok (.iload_n 3, 1) := dk_29 (dk_at dksX1_copy_1 0 rfl rfl)
theorem dX1_copy_25 : decode cX1_copy 25 = .ok (.invokevirtual 305, 3) := dk_182 1 49 (dk_at dksX1_copy_1 1 rfl rfl)
theorem dX1_copy_28 : decode cX1_copy 28 = .ok (.astore 7, 2) := dk_58 7 (dk_at dksX1_copy_1 4 rfl rfl)
theorem dX1_copy_30 : decode cX1_copy 30 = .ok (.aload 6, 2) := dk_25 6 (dk_at dksX1_copy_1 6 rfl rfl)
theorem dX1_copy_32 : decode cX1_copy 32 = .ok (.invokestatic 316, 3) := dk_184 1 60 (dk_at dksX1_copy_1 8 rfl rfl)
theorem dX1_copy_35 : decode cX1_copy 35 = .ok (.istore 8, 2) := dk_54 8 (dk_at dksX1_copy_1 11 rfl rfl)
theorem dX1_copy_37 : decode cX1_copy 37 = .ok (.aload 7, 2) := dk_25 7 (dk_at dksX1_copy_1 13 rfl rfl)
theorem dX1_copy_39 : decode cX1_copy 39 = .ok (.invokestatic 316, 3) := dk_184 1 60 (dk_at dksX1_copy_1 15 rfl rfl)
theorem dX1_copy_42 : decode cX1_copy 42 = .ok (.istore 9, 2) := dk_54 9 (dk_at dksX1_copy_1 18 rfl rfl)
theorem dX1_copy_44 : decode cX1_copy 44 = .ok (.iload 8, 2) := dk_21 8 (dk_at dksX1_copy_1 20 rfl rfl)
theorem dX1_copy_46 : decode cX1_copy 46 = .ok (.ifCond .eq 8, 3) := dk_153 0 8 (dk_at dksX1_copy_2 0 rfl rfl)
theorem dX1_copy_49 : decode cX1_copy 49 = .ok (.iload 9, 2) := dk_21 9 (dk_at dksX1_copy_2 3 rfl rfl)
theorem dX1_copy_51 : decode cX1_copy 51 = .ok (.ifCond .ne 6, 3) := dk_154 0 6 (dk_at dksX1_copy_2 5 rfl rfl)
theorem dX1_copy_54 : decode cX1_copy 54 = .ok (.bipush (-11), 2) := dk_16 245 (dk_at dksX1_copy_2 8 rfl rfl)
theorem dX1_copy_56 : decode cX1_copy 56 = .ok (.ireturn, 1) := dk_172 (dk_at dksX1_copy_2 10 rfl rfl)
theorem dX1_copy_57 : decode cX1_copy 57 = .ok (.iload 8, 2) := dk_21 8 (dk_at dksX1_copy_2 11 rfl rfl)
theorem dX1_copy_59 : decode cX1_copy 59 = .ok (.iconst 1, 1) := dk_4 (dk_at dksX1_copy_2 13 rfl rfl)
theorem dX1_copy_60 : decode cX1_copy 60 = .ok (.if_icmp .eq 10, 3) := dk_159 0 10 (dk_at dksX1_copy_2 14 rfl rfl)
theorem dX1_copy_63 : decode cX1_copy 63 = .ok (.iload 8, 2) := dk_21 8 (dk_at dksX1_copy_2 17 rfl rfl)
theorem dX1_copy_65 : decode cX1_copy 65 = .ok (.iload 9, 2) := dk_21 9 (dk_at dksX1_copy_2 19 rfl rfl)
theorem dX1_copy_67 : decode cX1_copy 67 = .ok (.if_icmp .eq 6, 3) := dk_159 0 6 (dk_at dksX1_copy_2 21 rfl rfl)
theorem dX1_copy_70 : decode cX1_copy 70 = .ok (.bipush (-12), 2) := dk_16 244 (dk_at dksX1_copy_3 0 rfl rfl)
theorem dX1_copy_72 : decode cX1_copy 72 = .ok (.ireturn, 1) := dk_172 (dk_at dksX1_copy_3 2 rfl rfl)
theorem dX1_copy_73 : decode cX1_copy 73 = .ok (.aload 6, 2) := dk_25 6 (dk_at dksX1_copy_3 3 rfl rfl)
theorem dX1_copy_75 : decode cX1_copy 75 = .ok (.iload_n 2, 1) := dk_28 (dk_at dksX1_copy_3 5 rfl rfl)
theorem dX1_copy_76 : decode cX1_copy 76 = .ok (.aload 7, 2) := dk_25 7 (dk_at dksX1_copy_3 6 rfl rfl)
theorem dX1_copy_78 : decode cX1_copy 78 = .ok (.iload 4, 2) := dk_21 4 (dk_at dksX1_copy_3 8 rfl rfl)
theorem dX1_copy_80 : decode cX1_copy 80 = .ok (.iload 5, 2) := dk_21 5 (dk_at dksX1_copy_3 10 rfl rfl)
theorem dX1_copy_82 : decode cX1_copy 82 = .ok (.invokestatic 85, 3) := dk_184 0 85 (dk_at dksX1_copy_3 12 rfl rfl)
theorem dX1_copy_85 : decode cX1_copy 85 = .ok (.iload 5, 2) := dk_21 5 (dk_at dksX1_copy_3 15 rfl rfl)
theorem dX1_copy_87 : decode cX1_copy 87 = .ok (.ireturn, 1) := dk_172 (dk_at dksX1_copy_3 17 rfl rfl)
theorem dX1_copy_88 : decode cX1_copy 88 = .ok (.astore 10, 2) := dk_58 10 (dk_at dksX1_copy_3 18 rfl rfl)
theorem dX1_copy_90 : decode cX1_copy 90 = .ok (.bipush (-13), 2) := dk_16 243 (dk_at dksX1_copy_3 20 rfl rfl)
theorem dX1_copy_92 : decode cX1_copy 92 = .ok (.ireturn, 1) := dk_172 (dk_at dksX1_copy_3 22 rfl rfl)
abbrev cX1_held : ByteArray := prog_1_method_72_code
def yX1_held : MethodName := ⟨RX1, "held", "(I)Ljava/lang/Object;"⟩
def dkwX1_held_0 : List UInt8 := [42, 180, 1, 11, 27, 182, 1, 21, 192, 1, 15, 180, 1, 25, 176]
abbrev dktX1_held_0 : List UInt8 := dkwX1_held_0 ++ []
theorem dksX1_held_0 : cX1_held.data.toList.drop 0 = dktX1_held_0 := by decide +kernel
theorem dX1_held_0 : decode cX1_held 0 = .ok (.aload_n 0, 1) := dk_42 (dk_at dksX1_held_0 0 rfl rfl)
theorem dX1_held_1 : decode cX1_held 1 = .ok (.getfield 267, 3) := dk_180 1 11 (dk_at dksX1_held_0 1 rfl rfl)
theorem dX1_held_4 : decode cX1_held 4 = .ok (.iload_n 1, 1) := dk_27 (dk_at dksX1_held_0 4 rfl rfl)
theorem dX1_held_5 : decode cX1_held 5 = .ok (.invokevirtual 277, 3) := dk_182 1 21 (dk_at dksX1_held_0 5 rfl rfl)
theorem dX1_held_8 : decode cX1_held 8 = .ok (.checkcast 271, 3) := dk_192 1 15 (dk_at dksX1_held_0 8 rfl rfl)
theorem dX1_held_11 : decode cX1_held 11 = .ok (.getfield 281, 3) := dk_180 1 25 (dk_at dksX1_held_0 11 rfl rfl)
theorem dX1_held_14 : decode cX1_held 14 = .ok (.areturn, 1) := dk_176 (dk_at dksX1_held_0 14 rfl rfl)
abbrev cX1_sortOf : ByteArray := prog_1_method_77_code
def yX1_sortOf : MethodName := ⟨RX1, "sortOf", "(Ljava/lang/Object;)I"⟩
def dkwX1_sortOf_1 : List UInt8 := [199, 0, 7, 3, 167, 0, 4, 4, 172]
abbrev dktX1_sortOf_1 : List UInt8 := dkwX1_sortOf_1 ++ []
def dkwX1_sortOf_0 : List UInt8 := [42, 193, 1, 51, 153, 0, 7, 6, 167, 0, 23, 42, 193, 1, 53, 153, 0, 7, 7, 167, 0, 12, 42]
abbrev dktX1_sortOf_0 : List UInt8 := dkwX1_sortOf_0 ++ dktX1_sortOf_1
theorem dksX1_sortOf_0 : cX1_sortOf.data.toList.drop 0 = dktX1_sortOf_0 := by decide +kernel
theorem dksX1_sortOf_1 : cX1_sortOf.data.toList.drop 23 = dktX1_sortOf_1 := dk_seg dksX1_sortOf_0 23 rfl rfl
theorem dX1_sortOf_0 : decode cX1_sortOf 0 = .ok (.aload_n 0, 1) := dk_42 (dk_at dksX1_sortOf_0 0 rfl rfl)
theorem dX1_sortOf_1 : decode cX1_sortOf 1 = .ok (.instanceof 307, 3) := dk_193 1 51 (dk_at dksX1_sortOf_0 1 rfl rfl)
theorem dX1_sortOf_4 : decode cX1_sortOf 4 = .ok (.ifCond .eq 7, 3) := dk_153 0 7 (dk_at dksX1_sortOf_0 4 rfl rfl)
theorem dX1_sortOf_7 : decode cX1_sortOf 7 = .ok (.iconst 3, 1) := dk_6 (dk_at dksX1_sortOf_0 7 rfl rfl)
theorem dX1_sortOf_8 : decode cX1_sortOf 8 = .ok (.goto 23, 3) := dk_167 0 23 (dk_at dksX1_sortOf_0 8 rfl rfl)
theorem dX1_sortOf_11 : decode cX1_sortOf 11 = .ok (.aload_n 0, 1) := dk_42 (dk_at dksX1_sortOf_0 11 rfl rfl)
theorem dX1_sortOf_12 : decode cX1_sortOf 12 = .ok (.instanceof 309, 3) := dk_193 1 53 (dk_at dksX1_sortOf_0 12 rfl rfl)
theorem dX1_sortOf_15 : decode cX1_sortOf 15 = .ok (.ifCond .eq 7, 3) := dk_153 0 7 (dk_at dksX1_sortOf_0 15 rfl rfl)
theorem dX1_sortOf_18 : decode cX1_sortOf 18 = .ok (.iconst 4, 1) := dk_7 (dk_at dksX1_sortOf_0 18 rfl rfl)
theorem dX1_sortOf_19 : decode cX1_sortOf 19 = .ok (.goto 12, 3) := dk_167 0 12 (dk_at dksX1_sortOf_0 19 rfl rfl)
theorem dX1_sortOf_22 : decode cX1_sortOf 22 = .ok (.aload_n 0, 1) := dk_42 (dk_at dksX1_sortOf_0 22 rfl rfl)
theorem dX1_sortOf_23 : decode cX1_sortOf 23 = .ok (.ifnonnull 7, 3) := dk_199 0 7 (dk_at dksX1_sortOf_1 0 rfl rfl)
theorem dX1_sortOf_26 : decode cX1_sortOf 26 = .ok (.iconst 0, 1) := dk_3 (dk_at dksX1_sortOf_1 3 rfl rfl)
theorem dX1_sortOf_27 : decode cX1_sortOf 27 = .ok (.goto 4, 3) := dk_167 0 4 (dk_at dksX1_sortOf_1 4 rfl rfl)
theorem dX1_sortOf_30 : decode cX1_sortOf 30 = .ok (.iconst 1, 1) := dk_4 (dk_at dksX1_sortOf_1 7 rfl rfl)
theorem dX1_sortOf_31 : decode cX1_sortOf 31 = .ok (.ireturn, 1) := dk_172 (dk_at dksX1_sortOf_1 8 rfl rfl)
abbrev cX1_heft : ByteArray := prog_1_method_79_code
def yX1_heft : MethodName := ⟨RX1, "heft", "(I)I"⟩
def dkwX1_heft_1 : List UInt8 := [172, 77, 16, 244, 172]
abbrev dktX1_heft_1 : List UInt8 := dkwX1_heft_1 ++ []
def dkwX1_heft_0 : List UInt8 := [27, 184, 1, 29, 154, 0, 5, 2, 172, 42, 27, 182, 1, 49, 192, 0, 31, 182, 1, 66, 172, 77, 16, 245]
abbrev dktX1_heft_0 : List UInt8 := dkwX1_heft_0 ++ dktX1_heft_1
theorem dksX1_heft_0 : cX1_heft.data.toList.drop 0 = dktX1_heft_0 := by decide +kernel
theorem dksX1_heft_1 : cX1_heft.data.toList.drop 24 = dktX1_heft_1 := dk_seg dksX1_heft_0 24 rfl rfl
theorem dX1_heft_0 : decode cX1_heft 0 = .ok (.iload_n 1, 1) := dk_27 (dk_at dksX1_heft_0 0 rfl rfl)
theorem dX1_heft_1 : decode cX1_heft 1 = .ok (.invokestatic 285, 3) := dk_184 1 29 (dk_at dksX1_heft_0 1 rfl rfl)
theorem dX1_heft_4 : decode cX1_heft 4 = .ok (.ifCond .ne 5, 3) := dk_154 0 5 (dk_at dksX1_heft_0 4 rfl rfl)
theorem dX1_heft_7 : decode cX1_heft 7 = .ok (.iconst (-1), 1) := dk_2 (dk_at dksX1_heft_0 7 rfl rfl)
theorem dX1_heft_8 : decode cX1_heft 8 = .ok (.ireturn, 1) := dk_172 (dk_at dksX1_heft_0 8 rfl rfl)
theorem dX1_heft_9 : decode cX1_heft 9 = .ok (.aload_n 0, 1) := dk_42 (dk_at dksX1_heft_0 9 rfl rfl)
theorem dX1_heft_10 : decode cX1_heft 10 = .ok (.iload_n 1, 1) := dk_27 (dk_at dksX1_heft_0 10 rfl rfl)
theorem dX1_heft_11 : decode cX1_heft 11 = .ok (.invokevirtual 305, 3) := dk_182 1 49 (dk_at dksX1_heft_0 11 rfl rfl)
theorem dX1_heft_14 : decode cX1_heft 14 = .ok (.checkcast 31, 3) := dk_192 0 31 (dk_at dksX1_heft_0 14 rfl rfl)
theorem dX1_heft_17 : decode cX1_heft 17 = .ok (.invokevirtual 322, 3) := dk_182 1 66 (dk_at dksX1_heft_0 17 rfl rfl)
theorem dX1_heft_20 : decode cX1_heft 20 = .ok (.ireturn, 1) := dk_172 (dk_at dksX1_heft_0 20 rfl rfl)
theorem dX1_heft_21 : decode cX1_heft 21 = .ok (.astore_n 2, 1) := dk_77 (dk_at dksX1_heft_0 21 rfl rfl)
theorem dX1_heft_22 : decode cX1_heft 22 = .ok (.bipush (-11), 2) := dk_16 245 (dk_at dksX1_heft_0 22 rfl rfl)
theorem dX1_heft_24 : decode cX1_heft 24 = .ok (.ireturn, 1) := dk_172 (dk_at dksX1_heft_1 0 rfl rfl)
theorem dX1_heft_25 : decode cX1_heft 25 = .ok (.astore_n 2, 1) := dk_77 (dk_at dksX1_heft_1 1 rfl rfl)
theorem dX1_heft_26 : decode cX1_heft 26 = .ok (.bipush (-12), 2) := dk_16 244 (dk_at dksX1_heft_1 2 rfl rfl)
theorem dX1_heft_28 : decode cX1_heft 28 = .ok (.ireturn, 1) := dk_172 (dk_at dksX1_heft_1 4 rfl rfl)
abbrev cX1_toss : ByteArray := prog_1_method_80_code
def yX1_toss : MethodName := ⟨RX1, "toss", "(I)I"⟩
def dkwX1_toss_1 : List UInt8 := [182, 1, 49, 192, 0, 31, 182, 1, 69, 191, 77, 44, 180, 1, 75, 172, 77, 16, 241, 172, 77, 16, 244, 172]
abbrev dktX1_toss_1 : List UInt8 := dkwX1_toss_1 ++ []
def dkwX1_toss_0 : List UInt8 := [27, 184, 1, 29, 154, 0, 5, 2, 172, 42, 27, 182, 1, 49, 199, 0, 6, 16, 245, 172, 42, 27]
abbrev dktX1_toss_0 : List UInt8 := dkwX1_toss_0 ++ dktX1_toss_1
theorem dksX1_toss_0 : cX1_toss.data.toList.drop 0 = dktX1_toss_0 := by decide +kernel
theorem dksX1_toss_1 : cX1_toss.data.toList.drop 22 = dktX1_toss_1 := dk_seg dksX1_toss_0 22 rfl rfl
theorem dX1_toss_0 : decode cX1_toss 0 = .ok (.iload_n 1, 1) := dk_27 (dk_at dksX1_toss_0 0 rfl rfl)
theorem dX1_toss_1 : decode cX1_toss 1 = .ok (.invokestatic 285, 3) := dk_184 1 29 (dk_at dksX1_toss_0 1 rfl rfl)
theorem dX1_toss_4 : decode cX1_toss 4 = .ok (.ifCond .ne 5, 3) := dk_154 0 5 (dk_at dksX1_toss_0 4 rfl rfl)
theorem dX1_toss_7 : decode cX1_toss 7 = .ok (.iconst (-1), 1) := dk_2 (dk_at dksX1_toss_0 7 rfl rfl)
theorem dX1_toss_8 : decode cX1_toss 8 = .ok (.ireturn, 1) := dk_172 (dk_at dksX1_toss_0 8 rfl rfl)
theorem dX1_toss_9 : decode cX1_toss 9 = .ok (.aload_n 0, 1) := dk_42 (dk_at dksX1_toss_0 9 rfl rfl)
theorem dX1_toss_10 : decode cX1_toss 10 = .ok (.iload_n 1, 1) := dk_27 (dk_at dksX1_toss_0 10 rfl rfl)
theorem dX1_toss_11 : decode cX1_toss 11 = .ok (.invokevirtual 305, 3) := dk_182 1 49 (dk_at dksX1_toss_0 11 rfl rfl)
theorem dX1_toss_14 : decode cX1_toss 14 = .ok (.ifnonnull 6, 3) := dk_199 0 6 (dk_at dksX1_toss_0 14 rfl rfl)
theorem dX1_toss_17 : decode cX1_toss 17 = .ok (.bipush (-11), 2) := dk_16 245 (dk_at dksX1_toss_0 17 rfl rfl)
theorem dX1_toss_19 : decode cX1_toss 19 = .ok (.ireturn, 1) := dk_172 (dk_at dksX1_toss_0 19 rfl rfl)
theorem dX1_toss_20 : decode cX1_toss 20 = .ok (.aload_n 0, 1) := dk_42 (dk_at dksX1_toss_0 20 rfl rfl)
theorem dX1_toss_21 : decode cX1_toss 21 = .ok (.iload_n 1, 1) := dk_27 (dk_at dksX1_toss_0 21 rfl rfl)
theorem dX1_toss_22 : decode cX1_toss 22 = .ok (.invokevirtual 305, 3) := dk_182 1 49 (dk_at dksX1_toss_1 0 rfl rfl)
theorem dX1_toss_25 : decode cX1_toss 25 = .ok (.checkcast 31, 3) := dk_192 0 31 (dk_at dksX1_toss_1 3 rfl rfl)
theorem dX1_toss_28 : decode cX1_toss 28 = .ok (.invokevirtual 325, 3) := dk_182 1 69 (dk_at dksX1_toss_1 6 rfl rfl)
theorem dX1_toss_31 : decode cX1_toss 31 = .ok (.athrow, 1) := dk_191 (dk_at dksX1_toss_1 9 rfl rfl)
theorem dX1_toss_32 : decode cX1_toss 32 = .ok (.astore_n 2, 1) := dk_77 (dk_at dksX1_toss_1 10 rfl rfl)
theorem dX1_toss_33 : decode cX1_toss 33 = .ok (.aload_n 2, 1) := dk_44 (dk_at dksX1_toss_1 11 rfl rfl)
theorem dX1_toss_34 : decode cX1_toss 34 = .ok (.getfield 331, 3) := dk_180 1 75 (dk_at dksX1_toss_1 12 rfl rfl)
theorem dX1_toss_37 : decode cX1_toss 37 = .ok (.ireturn, 1) := dk_172 (dk_at dksX1_toss_1 15 rfl rfl)
theorem dX1_toss_38 : decode cX1_toss 38 = .ok (.astore_n 2, 1) := dk_77 (dk_at dksX1_toss_1 16 rfl rfl)
theorem dX1_toss_39 : decode cX1_toss 39 = .ok (.bipush (-15), 2) := dk_16 241 (dk_at dksX1_toss_1 17 rfl rfl)
theorem dX1_toss_41 : decode cX1_toss 41 = .ok (.ireturn, 1) := dk_172 (dk_at dksX1_toss_1 19 rfl rfl)
theorem dX1_toss_42 : decode cX1_toss 42 = .ok (.astore_n 2, 1) := dk_77 (dk_at dksX1_toss_1 20 rfl rfl)
theorem dX1_toss_43 : decode cX1_toss 43 = .ok (.bipush (-12), 2) := dk_16 244 (dk_at dksX1_toss_1 21 rfl rfl)
theorem dX1_toss_45 : decode cX1_toss 45 = .ok (.ireturn, 1) := dk_172 (dk_at dksX1_toss_1 23 rfl rfl)
abbrev cX1_word : ByteArray := prog_1_method_23_code
def yX1_word : MethodName := ⟨RX1, "word", "(II)J"⟩
def dkwX1_word_2 : List UInt8 := [183, 0, 119, 191, 45, 180, 0, 120, 28, 47, 173]
abbrev dktX1_word_2 : List UInt8 := dkwX1_word_2 ++ []
def dkwX1_word_1 : List UInt8 := [198, 0, 19, 28, 133, 9, 45, 180, 0, 30, 4, 100, 133, 184, 0, 16, 154, 0, 11, 187, 0, 117, 89]
abbrev dktX1_word_1 : List UInt8 := dkwX1_word_1 ++ dktX1_word_2
def dkwX1_word_0 : List UInt8 := [27, 184, 0, 36, 154, 0, 11, 187, 0, 112, 89, 183, 0, 114, 191, 42, 180, 0, 26, 27, 50, 78, 45]
abbrev dktX1_word_0 : List UInt8 := dkwX1_word_0 ++ dktX1_word_1
theorem dksX1_word_0 : cX1_word.data.toList.drop 0 = dktX1_word_0 := by decide +kernel
theorem dksX1_word_1 : cX1_word.data.toList.drop 23 = dktX1_word_1 := dk_seg dksX1_word_0 23 rfl rfl
theorem dksX1_word_2 : cX1_word.data.toList.drop 46 = dktX1_word_2 := dk_seg dksX1_word_1 23 rfl rfl
theorem dX1_word_0 : decode cX1_word 0 = .ok (.iload_n 1, 1) := dk_27 (dk_at dksX1_word_0 0 rfl rfl)
theorem dX1_word_1 : decode cX1_word 1 = .ok (.invokestatic 36, 3) := dk_184 0 36 (dk_at dksX1_word_0 1 rfl rfl)
theorem dX1_word_4 : decode cX1_word 4 = .ok (.ifCond .ne 11, 3) := dk_154 0 11 (dk_at dksX1_word_0 4 rfl rfl)
theorem dX1_word_7 : decode cX1_word 7 = .ok (.new 112, 3) := dk_187 0 112 (dk_at dksX1_word_0 7 rfl rfl)
theorem dX1_word_10 : decode cX1_word 10 = .ok (.dup, 1) := dk_89 (dk_at dksX1_word_0 10 rfl rfl)
theorem dX1_word_11 : decode cX1_word 11 = .ok (.invokespecial 114, 3) := dk_183 0 114 (dk_at dksX1_word_0 11 rfl rfl)
theorem dX1_word_14 : decode cX1_word 14 = .ok (.athrow, 1) := dk_191 (dk_at dksX1_word_0 14 rfl rfl)
theorem dX1_word_15 : decode cX1_word 15 = .ok (.aload_n 0, 1) := dk_42 (dk_at dksX1_word_0 15 rfl rfl)
theorem dX1_word_16 : decode cX1_word 16 = .ok (.getfield 26, 3) := dk_180 0 26 (dk_at dksX1_word_0 16 rfl rfl)
theorem dX1_word_19 : decode cX1_word 19 = .ok (.iload_n 1, 1) := dk_27 (dk_at dksX1_word_0 19 rfl rfl)
theorem dX1_word_20 : decode cX1_word 20 = .ok (.aaload, 1) := dk_50 (dk_at dksX1_word_0 20 rfl rfl)
theorem dX1_word_21 : decode cX1_word 21 = .ok (.astore_n 3, 1) := dk_78 (dk_at dksX1_word_0 21 rfl rfl)
theorem dX1_word_22 : decode cX1_word 22 = .ok (.aload_n 3, 1) := dk_45 (dk_at dksX1_word_0 22 rfl rfl)
theorem dX1_word_23 : decode cX1_word 23 = .ok (.ifnull 19, 3) := dk_198 0 19 (dk_at dksX1_word_1 0 rfl rfl)
theorem dX1_word_26 : decode cX1_word 26 = .ok (.iload_n 2, 1) := dk_28 (dk_at dksX1_word_1 3 rfl rfl)
theorem dX1_word_27 : decode cX1_word 27 = .ok (.i2l, 1) := dk_133 (dk_at dksX1_word_1 4 rfl rfl)
theorem dX1_word_28 : decode cX1_word 28 = .ok (.lconst 0, 1) := dk_9 (dk_at dksX1_word_1 5 rfl rfl)
theorem dX1_word_29 : decode cX1_word 29 = .ok (.aload_n 3, 1) := dk_45 (dk_at dksX1_word_1 6 rfl rfl)
theorem dX1_word_30 : decode cX1_word 30 = .ok (.getfield 30, 3) := dk_180 0 30 (dk_at dksX1_word_1 7 rfl rfl)
theorem dX1_word_33 : decode cX1_word 33 = .ok (.iconst 1, 1) := dk_4 (dk_at dksX1_word_1 10 rfl rfl)
theorem dX1_word_34 : decode cX1_word 34 = .ok (.isub, 1) := dk_100 (dk_at dksX1_word_1 11 rfl rfl)
theorem dX1_word_35 : decode cX1_word 35 = .ok (.i2l, 1) := dk_133 (dk_at dksX1_word_1 12 rfl rfl)
theorem dX1_word_36 : decode cX1_word 36 = .ok (.invokestatic 16, 3) := dk_184 0 16 (dk_at dksX1_word_1 13 rfl rfl)
theorem dX1_word_39 : decode cX1_word 39 = .ok (.ifCond .ne 11, 3) := dk_154 0 11 (dk_at dksX1_word_1 16 rfl rfl)
theorem dX1_word_42 : decode cX1_word 42 = .ok (.new 117, 3) := dk_187 0 117 (dk_at dksX1_word_1 19 rfl rfl)
theorem dX1_word_45 : decode cX1_word 45 = .ok (.dup, 1) := dk_89 (dk_at dksX1_word_1 22 rfl rfl)
theorem dX1_word_46 : decode cX1_word 46 = .ok (.invokespecial 119, 3) := dk_183 0 119 (dk_at dksX1_word_2 0 rfl rfl)
theorem dX1_word_49 : decode cX1_word 49 = .ok (.athrow, 1) := dk_191 (dk_at dksX1_word_2 3 rfl rfl)
theorem dX1_word_50 : decode cX1_word 50 = .ok (.aload_n 3, 1) := dk_45 (dk_at dksX1_word_2 4 rfl rfl)
theorem dX1_word_51 : decode cX1_word 51 = .ok (.getfield 120, 3) := dk_180 0 120 (dk_at dksX1_word_2 5 rfl rfl)
theorem dX1_word_54 : decode cX1_word 54 = .ok (.iload_n 2, 1) := dk_28 (dk_at dksX1_word_2 8 rfl rfl)
theorem dX1_word_55 : decode cX1_word 55 = .ok (.laload, 1) := dk_47 (dk_at dksX1_word_2 9 rfl rfl)
theorem dX1_word_56 : decode cX1_word 56 = .ok (.lreturn, 1) := dk_173 (dk_at dksX1_word_2 10 rfl rfl)
abbrev cX1_law : ByteArray := prog_1_method_45_code
def yX1_law : MethodName := ⟨RX1, "law", "(II)J"⟩
def dkwX1_law_5 : List UInt8 := [28, 21, 6, 184, 0, 198, 105, 97, 55, 4, 132, 6, 1, 167, 255, 217, 22, 4, 173]
abbrev dktX1_law_5 : List UInt8 := dkwX1_law_5 ++ []
def dkwX1_law_4 : List UInt8 := [45, 180, 0, 67, 163, 0, 36, 22, 4, 42, 180, 0, 182, 21, 6, 47, 45, 180, 0, 64, 45, 180, 0, 67]
abbrev dktX1_law_4 : List UInt8 := dkwX1_law_4 ++ dktX1_law_5
def dkwX1_law_3 : List UInt8 := [183, 0, 119, 191, 42, 180, 0, 26, 27, 50, 78, 42, 45, 182, 0, 185, 9, 55, 4, 3, 54, 6, 21, 6]
abbrev dktX1_law_3 : List UInt8 := dkwX1_law_3 ++ dktX1_law_4
def dkwX1_law_2 : List UInt8 := [154, 0, 11, 187, 0, 112, 89, 183, 0, 114, 191, 42, 27, 182, 0, 187, 153, 0, 11, 187, 0, 117, 89]
abbrev dktX1_law_2 : List UInt8 := dkwX1_law_2 ++ dktX1_law_3
def dkwX1_law_1 : List UInt8 := [187, 0, 117, 89, 183, 0, 119, 191, 28, 133, 9, 42, 180, 0, 26, 27, 50, 180, 0, 67, 133, 184, 0, 16]
abbrev dktX1_law_1 : List UInt8 := dkwX1_law_1 ++ dktX1_law_2
def dkwX1_law_0 : List UInt8 := [27, 184, 0, 36, 154, 0, 11, 187, 0, 112, 89, 183, 0, 114, 191, 42, 180, 0, 26, 27, 50, 199, 0, 11]
abbrev dktX1_law_0 : List UInt8 := dkwX1_law_0 ++ dktX1_law_1
theorem dksX1_law_0 : cX1_law.data.toList.drop 0 = dktX1_law_0 := by decide +kernel
theorem dksX1_law_1 : cX1_law.data.toList.drop 24 = dktX1_law_1 := dk_seg dksX1_law_0 24 rfl rfl
theorem dksX1_law_2 : cX1_law.data.toList.drop 48 = dktX1_law_2 := dk_seg dksX1_law_1 24 rfl rfl
theorem dksX1_law_3 : cX1_law.data.toList.drop 71 = dktX1_law_3 := dk_seg dksX1_law_2 23 rfl rfl
theorem dksX1_law_4 : cX1_law.data.toList.drop 95 = dktX1_law_4 := dk_seg dksX1_law_3 24 rfl rfl
theorem dksX1_law_5 : cX1_law.data.toList.drop 119 = dktX1_law_5 := dk_seg dksX1_law_4 24 rfl rfl
theorem dX1_law_0 : decode cX1_law 0 = .ok (.iload_n 1, 1) := dk_27 (dk_at dksX1_law_0 0 rfl rfl)
theorem dX1_law_1 : decode cX1_law 1 = .ok (.invokestatic 36, 3) := dk_184 0 36 (dk_at dksX1_law_0 1 rfl rfl)
theorem dX1_law_4 : decode cX1_law 4 = .ok (.ifCond .ne 11, 3) := dk_154 0 11 (dk_at dksX1_law_0 4 rfl rfl)
theorem dX1_law_7 : decode cX1_law 7 = .ok (.new 112, 3) := dk_187 0 112 (dk_at dksX1_law_0 7 rfl rfl)
theorem dX1_law_10 : decode cX1_law 10 = .ok (.dup, 1) := dk_89 (dk_at dksX1_law_0 10 rfl rfl)
theorem dX1_law_11 : decode cX1_law 11 = .ok (.invokespecial 114, 3) := dk_183 0 114 (dk_at dksX1_law_0 11 rfl rfl)
theorem dX1_law_14 : decode cX1_law 14 = .ok (.athrow, 1) := dk_191 (dk_at dksX1_law_0 14 rfl rfl)
theorem dX1_law_15 : decode cX1_law 15 = .ok (.aload_n 0, 1) := dk_42 (dk_at dksX1_law_0 15 rfl rfl)
theorem dX1_law_16 : decode cX1_law 16 = .ok (.getfield 26, 3) := dk_180 0 26 (dk_at dksX1_law_0 16 rfl rfl)
theorem dX1_law_19 : decode cX1_law 19 = .ok (.iload_n 1, 1) := dk_27 (dk_at dksX1_law_0 19 rfl rfl)
theorem dX1_law_20 : decode cX1_law 20 = .ok (.aaload, 1) := dk_50 (dk_at dksX1_law_0 20 rfl rfl)
theorem dX1_law_21 : decode cX1_law 21 = .ok (.ifnonnull 11, 3) := dk_199 0 11 (dk_at dksX1_law_0 21 rfl rfl)
theorem dX1_law_24 : decode cX1_law 24 = .ok (.new 117, 3) := dk_187 0 117 (dk_at dksX1_law_1 0 rfl rfl)
theorem dX1_law_27 : decode cX1_law 27 = .ok (.dup, 1) := dk_89 (dk_at dksX1_law_1 3 rfl rfl)
theorem dX1_law_28 : decode cX1_law 28 = .ok (.invokespecial 119, 3) := dk_183 0 119 (dk_at dksX1_law_1 4 rfl rfl)
theorem dX1_law_31 : decode cX1_law 31 = .ok (.athrow, 1) := dk_191 (dk_at dksX1_law_1 7 rfl rfl)
theorem dX1_law_32 : decode cX1_law 32 = .ok (.iload_n 2, 1) := dk_28 (dk_at dksX1_law_1 8 rfl rfl)
theorem dX1_law_33 : decode cX1_law 33 = .ok (.i2l, 1) := dk_133 (dk_at dksX1_law_1 9 rfl rfl)
theorem dX1_law_34 : decode cX1_law 34 = .ok (.lconst 0, 1) := dk_9 (dk_at dksX1_law_1 10 rfl rfl)
theorem dX1_law_35 : decode cX1_law 35 = .ok (.aload_n 0, 1) := dk_42 (dk_at dksX1_law_1 11 rfl rfl)
theorem dX1_law_36 : decode cX1_law 36 = .ok (.getfield 26, 3) := dk_180 0 26 (dk_at dksX1_law_1 12 rfl rfl)
theorem dX1_law_39 : decode cX1_law 39 = .ok (.iload_n 1, 1) := dk_27 (dk_at dksX1_law_1 15 rfl rfl)
theorem dX1_law_40 : decode cX1_law 40 = .ok (.aaload, 1) := dk_50 (dk_at dksX1_law_1 16 rfl rfl)
theorem dX1_law_41 : decode cX1_law 41 = .ok (.getfield 67, 3) := dk_180 0 67 (dk_at dksX1_law_1 17 rfl rfl)
theorem dX1_law_44 : decode cX1_law 44 = .ok (.i2l, 1) := dk_133 (dk_at dksX1_law_1 20 rfl rfl)
theorem dX1_law_45 : decode cX1_law 45 = .ok (.invokestatic 16, 3) := dk_184 0 16 (dk_at dksX1_law_1 21 rfl rfl)
theorem dX1_law_48 : decode cX1_law 48 = .ok (.ifCond .ne 11, 3) := dk_154 0 11 (dk_at dksX1_law_2 0 rfl rfl)
theorem dX1_law_51 : decode cX1_law 51 = .ok (.new 112, 3) := dk_187 0 112 (dk_at dksX1_law_2 3 rfl rfl)
theorem dX1_law_54 : decode cX1_law 54 = .ok (.dup, 1) := dk_89 (dk_at dksX1_law_2 6 rfl rfl)
theorem dX1_law_55 : decode cX1_law 55 = .ok (.invokespecial 114, 3) := dk_183 0 114 (dk_at dksX1_law_2 7 rfl rfl)
theorem dX1_law_58 : decode cX1_law 58 = .ok (.athrow, 1) := dk_191 (dk_at dksX1_law_2 10 rfl rfl)
theorem dX1_law_59 : decode cX1_law 59 = .ok (.aload_n 0, 1) := dk_42 (dk_at dksX1_law_2 11 rfl rfl)
theorem dX1_law_60 : decode cX1_law 60 = .ok (.iload_n 1, 1) := dk_27 (dk_at dksX1_law_2 12 rfl rfl)
theorem dX1_law_61 : decode cX1_law 61 = .ok (.invokevirtual 187, 3) := dk_182 0 187 (dk_at dksX1_law_2 13 rfl rfl)
theorem dX1_law_64 : decode cX1_law 64 = .ok (.ifCond .eq 11, 3) := dk_153 0 11 (dk_at dksX1_law_2 16 rfl rfl)
theorem dX1_law_67 : decode cX1_law 67 = .ok (.new 117, 3) := dk_187 0 117 (dk_at dksX1_law_2 19 rfl rfl)
theorem dX1_law_70 : decode cX1_law 70 = .ok (.dup, 1) := dk_89 (dk_at dksX1_law_2 22 rfl rfl)
theorem dX1_law_71 : decode cX1_law 71 = .ok (.invokespecial 119, 3) := dk_183 0 119 (dk_at dksX1_law_3 0 rfl rfl)
theorem dX1_law_74 : decode cX1_law 74 = .ok (.athrow, 1) := dk_191 (dk_at dksX1_law_3 3 rfl rfl)
theorem dX1_law_75 : decode cX1_law 75 = .ok (.aload_n 0, 1) := dk_42 (dk_at dksX1_law_3 4 rfl rfl)
theorem dX1_law_76 : decode cX1_law 76 = .ok (.getfield 26, 3) := dk_180 0 26 (dk_at dksX1_law_3 5 rfl rfl)
theorem dX1_law_79 : decode cX1_law 79 = .ok (.iload_n 1, 1) := dk_27 (dk_at dksX1_law_3 8 rfl rfl)
theorem dX1_law_80 : decode cX1_law 80 = .ok (.aaload, 1) := dk_50 (dk_at dksX1_law_3 9 rfl rfl)
theorem dX1_law_81 : decode cX1_law 81 = .ok (.astore_n 3, 1) := dk_78 (dk_at dksX1_law_3 10 rfl rfl)
theorem dX1_law_82 : decode cX1_law 82 = .ok (.aload_n 0, 1) := dk_42 (dk_at dksX1_law_3 11 rfl rfl)
theorem dX1_law_83 : decode cX1_law 83 = .ok (.aload_n 3, 1) := dk_45 (dk_at dksX1_law_3 12 rfl rfl)
theorem dX1_law_84 : decode cX1_law 84 = .ok (.invokevirtual 185, 3) := dk_182 0 185 (dk_at dksX1_law_3 13 rfl rfl)
theorem dX1_law_87 : decode cX1_law 87 = .ok (.lconst 0, 1) := dk_9 (dk_at dksX1_law_3 16 rfl rfl)
theorem dX1_law_88 : decode cX1_law 88 = .ok (.lstore 4, 2) := dk_55 4 (dk_at dksX1_law_3 17 rfl rfl)
theorem dX1_law_90 : decode cX1_law 90 = .ok (.iconst 0, 1) := dk_3 (dk_at dksX1_law_3 19 rfl rfl)
theorem dX1_law_91 : decode cX1_law 91 = .ok (.istore 6, 2) := dk_54 6 (dk_at dksX1_law_3 20 rfl rfl)
theorem dX1_law_93 : decode cX1_law 93 = .ok (.iload 6, 2) := dk_21 6 (dk_at dksX1_law_3 22 rfl rfl)
theorem dX1_law_95 : decode cX1_law 95 = .ok (.aload_n 3, 1) := dk_45 (dk_at dksX1_law_4 0 rfl rfl)
theorem dX1_law_96 : decode cX1_law 96 = .ok (.getfield 67, 3) := dk_180 0 67 (dk_at dksX1_law_4 1 rfl rfl)
theorem dX1_law_99 : decode cX1_law 99 = .ok (.if_icmp .gt 36, 3) := dk_163 0 36 (dk_at dksX1_law_4 4 rfl rfl)
theorem dX1_law_102 : decode cX1_law 102 = .ok (.lload 4, 2) := dk_22 4 (dk_at dksX1_law_4 7 rfl rfl)
theorem dX1_law_104 : decode cX1_law 104 = .ok (.aload_n 0, 1) := dk_42 (dk_at dksX1_law_4 9 rfl rfl)
theorem dX1_law_105 : decode cX1_law 105 = .ok (.getfield 182, 3) := dk_180 0 182 (dk_at dksX1_law_4 10 rfl rfl)
theorem dX1_law_108 : decode cX1_law 108 = .ok (.iload 6, 2) := dk_21 6 (dk_at dksX1_law_4 13 rfl rfl)
theorem dX1_law_110 : decode cX1_law 110 = .ok (.laload, 1) := dk_47 (dk_at dksX1_law_4 15 rfl rfl)
theorem dX1_law_111 : decode cX1_law 111 = .ok (.aload_n 3, 1) := dk_45 (dk_at dksX1_law_4 16 rfl rfl)
theorem dX1_law_112 : decode cX1_law 112 = .ok (.getfield 64, 3) := dk_180 0 64 (dk_at dksX1_law_4 17 rfl rfl)
theorem dX1_law_115 : decode cX1_law 115 = .ok (.aload_n 3, 1) := dk_45 (dk_at dksX1_law_4 20 rfl rfl)
theorem dX1_law_116 : decode cX1_law 116 = .ok (.getfield 67, 3) := dk_180 0 67 (dk_at dksX1_law_4 21 rfl rfl)
theorem dX1_law_119 : decode cX1_law 119 = .ok (.iload_n 2, 1) := dk_28 (dk_at dksX1_law_5 0 rfl rfl)
theorem dX1_law_120 : decode cX1_law 120 = .ok (.iload 6, 2) := dk_21 6 (dk_at dksX1_law_5 1 rfl rfl)
theorem dX1_law_122 : decode cX1_law 122 = .ok (.invokestatic 198, 3) := dk_184 0 198 (dk_at dksX1_law_5 3 rfl rfl)
theorem dX1_law_125 : decode cX1_law 125 = .ok (.lmul, 1) := dk_105 (dk_at dksX1_law_5 6 rfl rfl)
theorem dX1_law_126 : decode cX1_law 126 = .ok (.ladd, 1) := dk_97 (dk_at dksX1_law_5 7 rfl rfl)
theorem dX1_law_127 : decode cX1_law 127 = .ok (.lstore 4, 2) := dk_55 4 (dk_at dksX1_law_5 8 rfl rfl)
theorem dX1_law_129 : decode cX1_law 129 = .ok (.iinc 6 1, 3) := dk_132 6 1 (dk_at dksX1_law_5 10 rfl rfl)
theorem dX1_law_132 : decode cX1_law 132 = .ok (.goto (-39), 3) := dk_167 255 217 (dk_at dksX1_law_5 13 rfl rfl)
theorem dX1_law_135 : decode cX1_law 135 = .ok (.lload 4, 2) := dk_22 4 (dk_at dksX1_law_5 16 rfl rfl)
theorem dX1_law_137 : decode cX1_law 137 = .ok (.lreturn, 1) := dk_173 (dk_at dksX1_law_5 18 rfl rfl)
abbrev cX1_turned : ByteArray := prog_1_method_44_code
def yX1_turned : MethodName := ⟨RX1, "turned", "(IIII)J"⟩
def dkwX1_turned_2 : List UInt8 := [112, 154, 0, 8, 22, 7, 167, 0, 6, 22, 7, 117, 97, 55, 4, 132, 6, 1, 167, 255, 197, 22, 4, 173]
abbrev dktX1_turned_2 : List UInt8 := dkwX1_turned_2 ++ []
def dkwX1_turned_1 : List UInt8 := [21, 6, 184, 0, 195, 105, 27, 29, 100, 28, 21, 6, 100, 184, 0, 195, 105, 55, 7, 22, 4, 21, 6, 5]
abbrev dktX1_turned_1 : List UInt8 := dkwX1_turned_1 ++ dktX1_turned_2
def dkwX1_turned_0 : List UInt8 := [9, 55, 4, 3, 54, 6, 21, 6, 28, 163, 0, 59, 26, 4, 100, 28, 21, 6, 100, 184, 0, 7, 29]
abbrev dktX1_turned_0 : List UInt8 := dkwX1_turned_0 ++ dktX1_turned_1
theorem dksX1_turned_0 : cX1_turned.data.toList.drop 0 = dktX1_turned_0 := by decide +kernel
theorem dksX1_turned_1 : cX1_turned.data.toList.drop 23 = dktX1_turned_1 := dk_seg dksX1_turned_0 23 rfl rfl
theorem dksX1_turned_2 : cX1_turned.data.toList.drop 47 = dktX1_turned_2 := dk_seg dksX1_turned_1 24 rfl rfl
theorem dX1_turned_0 : decode cX1_turned 0 = .ok (.lconst 0, 1) := dk_9 (dk_at dksX1_turned_0 0 rfl rfl)
theorem dX1_turned_1 : decode cX1_turned 1 = .ok (.lstore 4, 2) := dk_55 4 (dk_at dksX1_turned_0 1 rfl rfl)
theorem dX1_turned_3 : decode cX1_turned 3 = .ok (.iconst 0, 1) := dk_3 (dk_at dksX1_turned_0 3 rfl rfl)
theorem dX1_turned_4 : decode cX1_turned 4 = .ok (.istore 6, 2) := dk_54 6 (dk_at dksX1_turned_0 4 rfl rfl)
theorem dX1_turned_6 : decode cX1_turned 6 = .ok (.iload 6, 2) := dk_21 6 (dk_at dksX1_turned_0 6 rfl rfl)
theorem dX1_turned_8 : decode cX1_turned 8 = .ok (.iload_n 2, 1) := dk_28 (dk_at dksX1_turned_0 8 rfl rfl)
theorem dX1_turned_9 : decode cX1_turned 9 = .ok (.if_icmp .gt 59, 3) := dk_163 0 59 (dk_at dksX1_turned_0 9 rfl rfl)
theorem dX1_turned_12 : decode cX1_turned 12 = .ok (.iload_n 0, 1) := dk_26 (dk_at dksX1_turned_0 12 rfl rfl)
theorem dX1_turned_13 : decode cX1_turned 13 = .ok (.iconst 1, 1) := dk_4 (dk_at dksX1_turned_0 13 rfl rfl)
theorem dX1_turned_14 : decode cX1_turned 14 = .ok (.isub, 1) := dk_100 (dk_at dksX1_turned_0 14 rfl rfl)
theorem dX1_turned_15 : decode cX1_turned 15 = .ok (.iload_n 2, 1) := dk_28 (dk_at dksX1_turned_0 15 rfl rfl)
theorem dX1_turned_16 : decode cX1_turned 16 = .ok (.iload 6, 2) := dk_21 6 (dk_at dksX1_turned_0 16 rfl rfl)
theorem dX1_turned_18 : decode cX1_turned 18 = .ok (.isub, 1) := dk_100 (dk_at dksX1_turned_0 18 rfl rfl)
theorem dX1_turned_19 : decode cX1_turned 19 = .ok (.invokestatic 7, 3) := dk_184 0 7 (dk_at dksX1_turned_0 19 rfl rfl)
theorem dX1_turned_22 : decode cX1_turned 22 = .ok (.iload_n 3, 1) := dk_29 (dk_at dksX1_turned_0 22 rfl rfl)
theorem dX1_turned_23 : decode cX1_turned 23 = .ok (.iload 6, 2) := dk_21 6 (dk_at dksX1_turned_1 0 rfl rfl)
theorem dX1_turned_25 : decode cX1_turned 25 = .ok (.invokestatic 195, 3) := dk_184 0 195 (dk_at dksX1_turned_1 2 rfl rfl)
theorem dX1_turned_28 : decode cX1_turned 28 = .ok (.lmul, 1) := dk_105 (dk_at dksX1_turned_1 5 rfl rfl)
theorem dX1_turned_29 : decode cX1_turned 29 = .ok (.iload_n 1, 1) := dk_27 (dk_at dksX1_turned_1 6 rfl rfl)
theorem dX1_turned_30 : decode cX1_turned 30 = .ok (.iload_n 3, 1) := dk_29 (dk_at dksX1_turned_1 7 rfl rfl)
theorem dX1_turned_31 : decode cX1_turned 31 = .ok (.isub, 1) := dk_100 (dk_at dksX1_turned_1 8 rfl rfl)
theorem dX1_turned_32 : decode cX1_turned 32 = .ok (.iload_n 2, 1) := dk_28 (dk_at dksX1_turned_1 9 rfl rfl)
theorem dX1_turned_33 : decode cX1_turned 33 = .ok (.iload 6, 2) := dk_21 6 (dk_at dksX1_turned_1 10 rfl rfl)
theorem dX1_turned_35 : decode cX1_turned 35 = .ok (.isub, 1) := dk_100 (dk_at dksX1_turned_1 12 rfl rfl)
theorem dX1_turned_36 : decode cX1_turned 36 = .ok (.invokestatic 195, 3) := dk_184 0 195 (dk_at dksX1_turned_1 13 rfl rfl)
theorem dX1_turned_39 : decode cX1_turned 39 = .ok (.lmul, 1) := dk_105 (dk_at dksX1_turned_1 16 rfl rfl)
theorem dX1_turned_40 : decode cX1_turned 40 = .ok (.lstore 7, 2) := dk_55 7 (dk_at dksX1_turned_1 17 rfl rfl)
theorem dX1_turned_42 : decode cX1_turned 42 = .ok (.lload 4, 2) := dk_22 4 (dk_at dksX1_turned_1 19 rfl rfl)
theorem dX1_turned_44 : decode cX1_turned 44 = .ok (.iload 6, 2) := dk_21 6 (dk_at dksX1_turned_1 21 rfl rfl)
theorem dX1_turned_46 : decode cX1_turned 46 = .ok (.iconst 2, 1) := dk_5 (dk_at dksX1_turned_1 23 rfl rfl)
theorem dX1_turned_47 : decode cX1_turned 47 = .ok (.irem, 1) := dk_112 (dk_at dksX1_turned_2 0 rfl rfl)
theorem dX1_turned_48 : decode cX1_turned 48 = .ok (.ifCond .ne 8, 3) := dk_154 0 8 (dk_at dksX1_turned_2 1 rfl rfl)
theorem dX1_turned_51 : decode cX1_turned 51 = .ok (.lload 7, 2) := dk_22 7 (dk_at dksX1_turned_2 4 rfl rfl)
theorem dX1_turned_53 : decode cX1_turned 53 = .ok (.goto 6, 3) := dk_167 0 6 (dk_at dksX1_turned_2 6 rfl rfl)
theorem dX1_turned_56 : decode cX1_turned 56 = .ok (.lload 7, 2) := dk_22 7 (dk_at dksX1_turned_2 9 rfl rfl)
theorem dX1_turned_58 : decode cX1_turned 58 = .ok (.lneg, 1) := dk_117 (dk_at dksX1_turned_2 11 rfl rfl)
theorem dX1_turned_59 : decode cX1_turned 59 = .ok (.ladd, 1) := dk_97 (dk_at dksX1_turned_2 12 rfl rfl)
theorem dX1_turned_60 : decode cX1_turned 60 = .ok (.lstore 4, 2) := dk_55 4 (dk_at dksX1_turned_2 13 rfl rfl)
theorem dX1_turned_62 : decode cX1_turned 62 = .ok (.iinc 6 1, 3) := dk_132 6 1 (dk_at dksX1_turned_2 15 rfl rfl)
theorem dX1_turned_65 : decode cX1_turned 65 = .ok (.goto (-59), 3) := dk_167 255 197 (dk_at dksX1_turned_2 18 rfl rfl)
theorem dX1_turned_68 : decode cX1_turned 68 = .ok (.lload 4, 2) := dk_22 4 (dk_at dksX1_turned_2 21 rfl rfl)
theorem dX1_turned_70 : decode cX1_turned 70 = .ok (.lreturn, 1) := dk_173 (dk_at dksX1_turned_2 23 rfl rfl)
abbrev cX1_element : ByteArray := prog_1_method_76_code
def yX1_element : MethodName := ⟨RX1, "element", "(II)J"⟩
def dkwX1_element_3 : List UInt8 := [183, 0, 119, 191]
abbrev dktX1_element_3 : List UInt8 := dkwX1_element_3 ++ []
def dkwX1_element_2 : List UInt8 := [187, 0, 117, 89, 183, 0, 119, 191, 58, 4, 187, 0, 117, 89, 183, 0, 119, 191, 58, 4, 187, 0, 117, 89]
abbrev dktX1_element_2 : List UInt8 := dkwX1_element_2 ++ dktX1_element_3
def dkwX1_element_1 : List UInt8 := [193, 1, 51, 153, 0, 11, 45, 192, 1, 51, 28, 51, 133, 173, 45, 192, 1, 53, 28, 47, 173, 58, 4]
abbrev dktX1_element_1 : List UInt8 := dkwX1_element_1 ++ dktX1_element_2
def dkwX1_element_0 : List UInt8 := [27, 184, 1, 29, 154, 0, 11, 187, 0, 112, 89, 183, 0, 114, 191, 42, 27, 182, 1, 49, 78, 45]
abbrev dktX1_element_0 : List UInt8 := dkwX1_element_0 ++ dktX1_element_1
theorem dksX1_element_0 : cX1_element.data.toList.drop 0 = dktX1_element_0 := by decide +kernel
theorem dksX1_element_1 : cX1_element.data.toList.drop 22 = dktX1_element_1 := dk_seg dksX1_element_0 22 rfl rfl
theorem dksX1_element_2 : cX1_element.data.toList.drop 45 = dktX1_element_2 := dk_seg dksX1_element_1 23 rfl rfl
theorem dksX1_element_3 : cX1_element.data.toList.drop 69 = dktX1_element_3 := dk_seg dksX1_element_2 24 rfl rfl
theorem dX1_element_0 : decode cX1_element 0 = .ok (.iload_n 1, 1) := dk_27 (dk_at dksX1_element_0 0 rfl rfl)
theorem dX1_element_1 : decode cX1_element 1 = .ok (.invokestatic 285, 3) := dk_184 1 29 (dk_at dksX1_element_0 1 rfl rfl)
theorem dX1_element_4 : decode cX1_element 4 = .ok (.ifCond .ne 11, 3) := dk_154 0 11 (dk_at dksX1_element_0 4 rfl rfl)
theorem dX1_element_7 : decode cX1_element 7 = .ok (.new 112, 3) := dk_187 0 112 (dk_at dksX1_element_0 7 rfl rfl)
theorem dX1_element_10 : decode cX1_element 10 = .ok (.dup, 1) := dk_89 (dk_at dksX1_element_0 10 rfl rfl)
theorem dX1_element_11 : decode cX1_element 11 = .ok (.invokespecial 114, 3) := dk_183 0 114 (dk_at dksX1_element_0 11 rfl rfl)
theorem dX1_element_14 : decode cX1_element 14 = .ok (.athrow, 1) := dk_191 (dk_at dksX1_element_0 14 rfl rfl)
theorem dX1_element_15 : decode cX1_element 15 = .ok (.aload_n 0, 1) := dk_42 (dk_at dksX1_element_0 15 rfl rfl)
theorem dX1_element_16 : decode cX1_element 16 = .ok (.iload_n 1, 1) := dk_27 (dk_at dksX1_element_0 16 rfl rfl)
theorem dX1_element_17 : decode cX1_element 17 = .ok (.invokevirtual 305, 3) := dk_182 1 49 (dk_at dksX1_element_0 17 rfl rfl)
theorem dX1_element_20 : decode cX1_element 20 = .ok (.astore_n 3, 1) := dk_78 (dk_at dksX1_element_0 20 rfl rfl)
theorem dX1_element_21 : decode cX1_element 21 = .ok (.aload_n 3, 1) := dk_45 (dk_at dksX1_element_0 21 rfl rfl)
theorem dX1_element_22 : decode cX1_element 22 = .ok (.instanceof 307, 3) := dk_193 1 51 (dk_at dksX1_element_1 0 rfl rfl)
theorem dX1_element_25 : decode cX1_element 25 = .ok (.ifCond .eq 11, 3) := dk_153 0 11 (dk_at dksX1_element_1 3 rfl rfl)
theorem dX1_element_28 : decode cX1_element 28 = .ok (.aload_n 3, 1) := dk_45 (dk_at dksX1_element_1 6 rfl rfl)
theorem dX1_element_29 : decode cX1_element 29 = .ok (.checkcast 307, 3) := dk_192 1 51 (dk_at dksX1_element_1 7 rfl rfl)
theorem dX1_element_32 : decode cX1_element 32 = .ok (.iload_n 2, 1) := dk_28 (dk_at dksX1_element_1 10 rfl rfl)
theorem dX1_element_33 : decode cX1_element 33 = .ok (.baload, 1) := dk_51 (dk_at dksX1_element_1 11 rfl rfl)
theorem dX1_element_34 : decode cX1_element 34 = .ok (.i2l, 1) := dk_133 (dk_at dksX1_element_1 12 rfl rfl)
theorem dX1_element_35 : decode cX1_element 35 = .ok (.lreturn, 1) := dk_173 (dk_at dksX1_element_1 13 rfl rfl)
theorem dX1_element_36 : decode cX1_element 36 = .ok (.aload_n 3, 1) := dk_45 (dk_at dksX1_element_1 14 rfl rfl)
theorem dX1_element_37 : decode cX1_element 37 = .ok (.checkcast 309, 3) := dk_192 1 53 (dk_at dksX1_element_1 15 rfl rfl)
theorem dX1_element_40 : decode cX1_element 40 = .ok (.iload_n 2, 1) := dk_28 (dk_at dksX1_element_1 18 rfl rfl)
theorem dX1_element_41 : decode cX1_element 41 = .ok (.laload, 1) := dk_47 (dk_at dksX1_element_1 19 rfl rfl)
theorem dX1_element_42 : decode cX1_element 42 = .ok (.lreturn, 1) := dk_173 (dk_at dksX1_element_1 20 rfl rfl)
theorem dX1_element_43 : decode cX1_element 43 = .ok (.astore 4, 2) := dk_58 4 (dk_at dksX1_element_1 21 rfl rfl)
theorem dX1_element_45 : decode cX1_element 45 = .ok (.new 117, 3) := dk_187 0 117 (dk_at dksX1_element_2 0 rfl rfl)
theorem dX1_element_48 : decode cX1_element 48 = .ok (.dup, 1) := dk_89 (dk_at dksX1_element_2 3 rfl rfl)
theorem dX1_element_49 : decode cX1_element 49 = .ok (.invokespecial 119, 3) := dk_183 0 119 (dk_at dksX1_element_2 4 rfl rfl)
theorem dX1_element_52 : decode cX1_element 52 = .ok (.athrow, 1) := dk_191 (dk_at dksX1_element_2 7 rfl rfl)
theorem dX1_element_53 : decode cX1_element 53 = .ok (.astore 4, 2) := dk_58 4 (dk_at dksX1_element_2 8 rfl rfl)
theorem dX1_element_55 : decode cX1_element 55 = .ok (.new 117, 3) := dk_187 0 117 (dk_at dksX1_element_2 10 rfl rfl)
theorem dX1_element_58 : decode cX1_element 58 = .ok (.dup, 1) := dk_89 (dk_at dksX1_element_2 13 rfl rfl)
theorem dX1_element_59 : decode cX1_element 59 = .ok (.invokespecial 119, 3) := dk_183 0 119 (dk_at dksX1_element_2 14 rfl rfl)
theorem dX1_element_62 : decode cX1_element 62 = .ok (.athrow, 1) := dk_191 (dk_at dksX1_element_2 17 rfl rfl)
theorem dX1_element_63 : decode cX1_element 63 = .ok (.astore 4, 2) := dk_58 4 (dk_at dksX1_element_2 18 rfl rfl)
theorem dX1_element_65 : decode cX1_element 65 = .ok (.new 117, 3) := dk_187 0 117 (dk_at dksX1_element_2 20 rfl rfl)
theorem dX1_element_68 : decode cX1_element 68 = .ok (.dup, 1) := dk_89 (dk_at dksX1_element_2 23 rfl rfl)
theorem dX1_element_69 : decode cX1_element 69 = .ok (.invokespecial 119, 3) := dk_183 0 119 (dk_at dksX1_element_3 0 rfl rfl)
theorem dX1_element_72 : decode cX1_element 72 = .ok (.athrow, 1) := dk_191 (dk_at dksX1_element_3 3 rfl rfl)
theorem q48 : (Jvm.Cond.initialized "WordBench") ∈ lw_all := lw_g (lw_at lw_m1 1 rfl) rfl
theorem q79 : (Jvm.Cond.instanceMethod ({ cls := "WordBench", name := "make", desc := "(IIII)I" } : Jvm.MethodName)) ∈ lw_all := lw_g (lw_at lw_m1 32 rfl) rfl
theorem q80 : (Jvm.Cond.selects "WordBench" ({ cls := "WordBench", name := "make", desc := "(IIII)I" } : Jvm.MethodName) ({ cls := "WordBench", name := "make", desc := "(IIII)I" } : Jvm.MethodName)) ∈ lw_all := lw_g (lw_at lw_m1 33 rfl) rfl
theorem q81 : (Jvm.Cond.code ({ cls := "WordBench", name := "make", desc := "(IIII)I" } : Jvm.MethodName) prog_1_method_17_code (5 : Nat) (Option.some Jvm.ClassFile.FieldType.int)) ∈ lw_all := lw_g (lw_at lw_m1 34 rfl) rfl
theorem q82 : (Jvm.Cond.methodLink "WordBench" (36 : Nat) ({ cls := "WordBench", name := "isPlace", desc := "(I)Z" } : Jvm.MethodName)) ∈ lw_all := lw_g (lw_at lw_m1 35 rfl) rfl
theorem q83 : (Jvm.Cond.static ({ cls := "WordBench", name := "isPlace", desc := "(I)Z" } : Jvm.MethodName)) ∈ lw_all := lw_g (lw_at lw_m1 36 rfl) rfl
theorem q84 : (Jvm.Cond.code ({ cls := "WordBench", name := "isPlace", desc := "(I)Z" } : Jvm.MethodName) prog_1_method_13_code (1 : Nat) (Option.some Jvm.ClassFile.FieldType.boolean)) ∈ lw_all := lw_g (lw_at lw_m1 37 rfl) rfl
theorem q85 : (Jvm.Cond.constantLong "WordBench" (14 : Nat) (11 : Int64)) ∈ lw_all := lw_g (lw_at lw_m1 38 rfl) rfl
theorem q86 : (Jvm.Cond.methodLink "WordBench" (16 : Nat) ({ cls := "WordBench", name := "isIn", desc := "(JJJ)Z" } : Jvm.MethodName)) ∈ lw_all := lw_g (lw_at lw_m1 39 rfl) rfl
theorem q87 : (Jvm.Cond.static ({ cls := "WordBench", name := "isIn", desc := "(JJJ)Z" } : Jvm.MethodName)) ∈ lw_all := lw_g (lw_at lw_m1 40 rfl) rfl
theorem q88 : (Jvm.Cond.code ({ cls := "WordBench", name := "isIn", desc := "(JJJ)Z" } : Jvm.MethodName) prog_1_method_12_code (6 : Nat) (Option.some Jvm.ClassFile.FieldType.boolean)) ∈ lw_all := lw_g (lw_at lw_m1 41 rfl) rfl
theorem q89 : (Jvm.Cond.methodLink "WordBench" (40 : Nat) ({ cls := "WordBench", name := "isField", desc := "(II)Z" } : Jvm.MethodName)) ∈ lw_all := lw_g (lw_at lw_m1 42 rfl) rfl
theorem q90 : (Jvm.Cond.static ({ cls := "WordBench", name := "isField", desc := "(II)Z" } : Jvm.MethodName)) ∈ lw_all := lw_g (lw_at lw_m1 43 rfl) rfl
theorem q91 : (Jvm.Cond.code ({ cls := "WordBench", name := "isField", desc := "(II)Z" } : Jvm.MethodName) prog_1_method_14_code (2 : Nat) (Option.some Jvm.ClassFile.FieldType.boolean)) ∈ lw_all := lw_g (lw_at lw_m1 44 rfl) rfl
theorem q92 : (Jvm.Cond.constantLong "WordBench" (20 : Nat) (2 : Int64)) ∈ lw_all := lw_g (lw_at lw_m1 45 rfl) rfl
theorem q93 : (Jvm.Cond.constantLong "WordBench" (22 : Nat) (5 : Int64)) ∈ lw_all := lw_g (lw_at lw_m1 46 rfl) rfl
theorem q94 : (Jvm.Cond.constantLong "WordBench" (24 : Nat) (12 : Int64)) ∈ lw_all := lw_g (lw_at lw_m1 47 rfl) rfl
theorem q95 : (Jvm.Cond.classLink "WordBench" (44 : Nat) "WordBench$List") ∈ lw_all := lw_g (lw_at lw_m1 48 rfl) rfl
theorem q97 : (Jvm.Cond.methodLink "WordBench" (46 : Nat) ({ cls := "WordBench$List", name := "<init>", desc := "(II)V" } : Jvm.MethodName)) ∈ lw_all := lw_g (lw_at lw_m1 50 rfl) rfl
theorem q116 : (Jvm.Cond.fieldLink "WordBench" (64 : Nat) "WordBench$Code" "q" "I") ∈ lw_all := lw_g (lw_at lw_m1 69 rfl) rfl
theorem q123 : (Jvm.Cond.fieldLink "WordBench" (67 : Nat) "WordBench$Code" "n" "I") ∈ lw_all := lw_g (lw_at lw_m1 76 rfl) rfl
theorem q132 : (Jvm.Cond.fieldLink "WordBench" (120 : Nat) "WordBench$Code" "rows" "[J") ∈ lw_all := lw_g (lw_at lw_m1 85 rfl) rfl
theorem q141 : (Jvm.Cond.fieldLink "WordBench" (30 : Nat) "WordBench$Code" "size" "I") ∈ lw_all := lw_g (lw_at lw_m1 94 rfl) rfl
theorem q152 : (Jvm.Cond.classLink "WordBench" (50 : Nat) "WordBench$Line") ∈ lw_all := lw_g (lw_at lw_m1 105 rfl) rfl
theorem q154 : (Jvm.Cond.methodLink "WordBench" (52 : Nat) ({ cls := "WordBench$Line", name := "<init>", desc := "(II)V" } : Jvm.MethodName)) ∈ lw_all := lw_g (lw_at lw_m1 107 rfl) rfl
theorem q163 : (Jvm.Cond.classLink "WordBench" (53 : Nat) "WordBench$Own") ∈ lw_all := lw_g (lw_at lw_m1 116 rfl) rfl
theorem q165 : (Jvm.Cond.methodLink "WordBench" (55 : Nat) ({ cls := "WordBench$Own", name := "<init>", desc := "(II)V" } : Jvm.MethodName)) ∈ lw_all := lw_g (lw_at lw_m1 118 rfl) rfl
theorem q174 : (Jvm.Cond.methodLink "WordBench" (56 : Nat) ({ cls := "WordBench", name := "puts", desc := "(ILWordBench$Code;)I" } : Jvm.MethodName)) ∈ lw_all := lw_g (lw_at lw_m1 127 rfl) rfl
theorem q175 : (Jvm.Cond.privateMethod ({ cls := "WordBench", name := "puts", desc := "(ILWordBench$Code;)I" } : Jvm.MethodName)) ∈ lw_tbl := lw_at lw_m1 128 rfl
theorem q176 : (Jvm.Cond.instanceMethod ({ cls := "WordBench", name := "puts", desc := "(ILWordBench$Code;)I" } : Jvm.MethodName)) ∈ lw_all := lw_g (lw_at lw_m1 129 rfl) rfl
theorem q177 : (Jvm.Cond.instantiable "WordBench" (6 : Nat)) ∈ lw_all := lw_g (lw_at lw_m1 130 rfl) rfl
theorem q178 : (Jvm.Cond.code ({ cls := "WordBench", name := "puts", desc := "(ILWordBench$Code;)I" } : Jvm.MethodName) prog_1_method_16_code (3 : Nat) (Option.some Jvm.ClassFile.FieldType.int)) ∈ lw_all := lw_g (lw_at lw_m1 131 rfl) rfl
theorem q180 : (Jvm.Cond.instanceMethod ({ cls := "WordBench", name := "add", desc := "(IJ)I" } : Jvm.MethodName)) ∈ lw_all := lw_g (lw_at lw_m1 133 rfl) rfl
theorem q181 : (Jvm.Cond.selects "WordBench" ({ cls := "WordBench", name := "add", desc := "(IJ)I" } : Jvm.MethodName) ({ cls := "WordBench", name := "add", desc := "(IJ)I" } : Jvm.MethodName)) ∈ lw_all := lw_g (lw_at lw_m1 134 rfl) rfl
theorem q182 : (Jvm.Cond.code ({ cls := "WordBench", name := "add", desc := "(IJ)I" } : Jvm.MethodName) prog_1_method_19_code (6 : Nat) (Option.some Jvm.ClassFile.FieldType.int)) ∈ lw_all := lw_g (lw_at lw_m1 135 rfl) rfl
theorem q183 : (Jvm.Cond.methodLink "WordBench" (60 : Nat) ({ cls := "WordBench", name := "asks", desc := "(IZ)I" } : Jvm.MethodName)) ∈ lw_all := lw_g (lw_at lw_m1 136 rfl) rfl
theorem q184 : (Jvm.Cond.privateMethod ({ cls := "WordBench", name := "asks", desc := "(IZ)I" } : Jvm.MethodName)) ∈ lw_tbl := lw_at lw_m1 137 rfl
theorem q185 : (Jvm.Cond.instanceMethod ({ cls := "WordBench", name := "asks", desc := "(IZ)I" } : Jvm.MethodName)) ∈ lw_all := lw_g (lw_at lw_m1 138 rfl) rfl
theorem q186 : (Jvm.Cond.code ({ cls := "WordBench", name := "asks", desc := "(IZ)I" } : Jvm.MethodName) prog_1_method_18_code (3 : Nat) (Option.some Jvm.ClassFile.FieldType.int)) ∈ lw_all := lw_g (lw_at lw_m1 139 rfl) rfl
theorem q187 : (Jvm.Cond.methodLink "WordBench" (70 : Nat) ({ cls := "WordBench", name := "isWord", desc := "(IIJ)Z" } : Jvm.MethodName)) ∈ lw_all := lw_g (lw_at lw_m1 140 rfl) rfl
theorem q188 : (Jvm.Cond.static ({ cls := "WordBench", name := "isWord", desc := "(IIJ)Z" } : Jvm.MethodName)) ∈ lw_all := lw_g (lw_at lw_m1 141 rfl) rfl
theorem q189 : (Jvm.Cond.code ({ cls := "WordBench", name := "isWord", desc := "(IIJ)Z" } : Jvm.MethodName) prog_1_method_15_code (4 : Nat) (Option.some Jvm.ClassFile.FieldType.boolean)) ∈ lw_all := lw_g (lw_at lw_m1 142 rfl) rfl
theorem q190 : (Jvm.Cond.methodLink "WordBench" (7 : Nat) ({ cls := "WordBench", name := "power", desc := "(II)J" } : Jvm.MethodName)) ∈ lw_all := lw_g (lw_at lw_m1 143 rfl) rfl
theorem q191 : (Jvm.Cond.static ({ cls := "WordBench", name := "power", desc := "(II)J" } : Jvm.MethodName)) ∈ lw_all := lw_g (lw_at lw_m1 144 rfl) rfl
theorem q192 : (Jvm.Cond.code ({ cls := "WordBench", name := "power", desc := "(II)J" } : Jvm.MethodName) prog_1_method_5_code (5 : Nat) (Option.some Jvm.ClassFile.FieldType.long)) ∈ lw_all := lw_g (lw_at lw_m1 145 rfl) rfl
theorem q193 : (Jvm.Cond.methodLink "WordBench" (74 : Nat) ({ cls := "WordBench$Code", name := "refuses", desc := "(J)I" } : Jvm.MethodName)) ∈ lw_all := lw_g (lw_at lw_m1 146 rfl) rfl
theorem q210 : (Jvm.Cond.static ({ cls := "WordBench", name := "productOf", desc := "(IIJJ)I" } : Jvm.MethodName)) ∈ lw_all := lw_g (lw_at lw_m1 163 rfl) rfl
theorem q211 : (Jvm.Cond.code ({ cls := "WordBench", name := "productOf", desc := "(IIJJ)I" } : Jvm.MethodName) prog_1_method_11_code (12 : Nat) (Option.some Jvm.ClassFile.FieldType.int)) ∈ lw_all := lw_g (lw_at lw_m1 164 rfl) rfl
theorem q212 : (Jvm.Cond.methodLink "WordBench" (1 : Nat) ({ cls := "WordBench", name := "times", desc := "(III)I" } : Jvm.MethodName)) ∈ lw_all := lw_g (lw_at lw_m1 165 rfl) rfl
theorem q213 : (Jvm.Cond.static ({ cls := "WordBench", name := "times", desc := "(III)I" } : Jvm.MethodName)) ∈ lw_all := lw_g (lw_at lw_m1 166 rfl) rfl
theorem q214 : (Jvm.Cond.code ({ cls := "WordBench", name := "times", desc := "(III)I" } : Jvm.MethodName) prog_1_method_2_code (3 : Nat) (Option.some Jvm.ClassFile.FieldType.int)) ∈ lw_all := lw_g (lw_at lw_m1 167 rfl) rfl
theorem q215 : (Jvm.Cond.methodLink "WordBench" (11 : Nat) ({ cls := "WordBench", name := "added", desc := "(III)I" } : Jvm.MethodName)) ∈ lw_all := lw_g (lw_at lw_m1 168 rfl) rfl
theorem q216 : (Jvm.Cond.static ({ cls := "WordBench", name := "added", desc := "(III)I" } : Jvm.MethodName)) ∈ lw_all := lw_g (lw_at lw_m1 169 rfl) rfl
theorem q217 : (Jvm.Cond.code ({ cls := "WordBench", name := "added", desc := "(III)I" } : Jvm.MethodName) prog_1_method_1_code (3 : Nat) (Option.some Jvm.ClassFile.FieldType.int)) ∈ lw_all := lw_g (lw_at lw_m1 170 rfl) rfl
theorem q222 : (Jvm.Cond.methodLink "WordBench" (78 : Nat) ({ cls := "WordBench$Code", name := "add", desc := "(J)V" } : Jvm.MethodName)) ∈ lw_all := lw_g (lw_at lw_m1 175 rfl) rfl
theorem q231 : (Jvm.Cond.instanceMethod ({ cls := "WordBench", name := "ring", desc := "(IIIJ)I" } : Jvm.MethodName)) ∈ lw_all := lw_g (lw_at lw_m1 184 rfl) rfl
theorem q232 : (Jvm.Cond.selects "WordBench" ({ cls := "WordBench", name := "ring", desc := "(IIIJ)I" } : Jvm.MethodName) ({ cls := "WordBench", name := "ring", desc := "(IIIJ)I" } : Jvm.MethodName)) ∈ lw_all := lw_g (lw_at lw_m1 185 rfl) rfl
theorem q233 : (Jvm.Cond.code ({ cls := "WordBench", name := "ring", desc := "(IIIJ)I" } : Jvm.MethodName) prog_1_method_20_code (13 : Nat) (Option.some Jvm.ClassFile.FieldType.int)) ∈ lw_all := lw_g (lw_at lw_m1 186 rfl) rfl
theorem q234 : (Jvm.Cond.classLink "WordBench" (82 : Nat) "WordBench$Ring") ∈ lw_all := lw_g (lw_at lw_m1 187 rfl) rfl
theorem q236 : (Jvm.Cond.methodLink "WordBench" (84 : Nat) ({ cls := "WordBench$Ring", name := "<init>", desc := "(II)V" } : Jvm.MethodName)) ∈ lw_all := lw_g (lw_at lw_m1 189 rfl) rfl
theorem q246 : (Jvm.Cond.methodLink "WordBench" (85 : Nat) ({ cls := "java/lang/System", name := "arraycopy", desc := "(Ljava/lang/Object;ILjava/lang/Object;II)V" } : Jvm.MethodName)) ∈ lw_all := lw_g (lw_at lw_m1 199 rfl) rfl
theorem q249 : (Jvm.Cond.methodLink "WordBench" (91 : Nat) ({ cls := "WordBench", name := "wordOf", desc := "(I[I)J" } : Jvm.MethodName)) ∈ lw_all := lw_g (lw_at lw_m1 202 rfl) rfl
theorem q250 : (Jvm.Cond.static ({ cls := "WordBench", name := "wordOf", desc := "(I[I)J" } : Jvm.MethodName)) ∈ lw_all := lw_g (lw_at lw_m1 203 rfl) rfl
theorem q251 : (Jvm.Cond.code ({ cls := "WordBench", name := "wordOf", desc := "(I[I)J" } : Jvm.MethodName) prog_1_method_7_code (8 : Nat) (Option.some Jvm.ClassFile.FieldType.long)) ∈ lw_all := lw_g (lw_at lw_m1 204 rfl) rfl
theorem q252 : (Jvm.Cond.methodLink "WordBench" (95 : Nat) ({ cls := "WordBench$Ring", name := "add", desc := "(J)V" } : Jvm.MethodName)) ∈ lw_all := lw_g (lw_at lw_m1 205 rfl) rfl
theorem q257 : (Jvm.Cond.instanceMethod ({ cls := "WordBench", name := "empty", desc := "(I)I" } : Jvm.MethodName)) ∈ lw_all := lw_g (lw_at lw_m1 210 rfl) rfl
theorem q258 : (Jvm.Cond.selects "WordBench" ({ cls := "WordBench", name := "empty", desc := "(I)I" } : Jvm.MethodName) ({ cls := "WordBench", name := "empty", desc := "(I)I" } : Jvm.MethodName)) ∈ lw_all := lw_g (lw_at lw_m1 211 rfl) rfl
theorem q259 : (Jvm.Cond.code ({ cls := "WordBench", name := "empty", desc := "(I)I" } : Jvm.MethodName) prog_1_method_21_code (3 : Nat) (Option.some Jvm.ClassFile.FieldType.int)) ∈ lw_all := lw_g (lw_at lw_m1 212 rfl) rfl
theorem q261 : (Jvm.Cond.instanceMethod ({ cls := "WordBench", name := "look", desc := "(II)I" } : Jvm.MethodName)) ∈ lw_all := lw_g (lw_at lw_m1 214 rfl) rfl
theorem q262 : (Jvm.Cond.selects "WordBench" ({ cls := "WordBench", name := "look", desc := "(II)I" } : Jvm.MethodName) ({ cls := "WordBench", name := "look", desc := "(II)I" } : Jvm.MethodName)) ∈ lw_all := lw_g (lw_at lw_m1 215 rfl) rfl
theorem q263 : (Jvm.Cond.code ({ cls := "WordBench", name := "look", desc := "(II)I" } : Jvm.MethodName) prog_1_method_22_code (5 : Nat) (Option.some Jvm.ClassFile.FieldType.int)) ∈ lw_all := lw_g (lw_at lw_m1 216 rfl) rfl
theorem q264 : (Jvm.Cond.methodLink "WordBench" (96 : Nat) ({ cls := "WordBench$Code", name := "kind", desc := "()I" } : Jvm.MethodName)) ∈ lw_all := lw_g (lw_at lw_m1 217 rfl) rfl
theorem q279 : (Jvm.Cond.classLink "WordBench" (100 : Nat) "WordBench$Form") ∈ lw_all := lw_g (lw_at lw_m1 232 rfl) rfl
theorem q281 : (Jvm.Cond.methodLink "WordBench" (102 : Nat) ({ cls := "WordBench$Form", name := "<init>", desc := "(LWordBench$Code;)V" } : Jvm.MethodName)) ∈ lw_all := lw_g (lw_at lw_m1 234 rfl) rfl
theorem q288 : (Jvm.Cond.static ({ cls := "WordBench", name := "letters", desc := "(IIJ)[I" } : Jvm.MethodName)) ∈ lw_all := lw_g (lw_at lw_m2 1 rfl) rfl
theorem q289 : (Jvm.Cond.code ({ cls := "WordBench", name := "letters", desc := "(IIJ)[I" } : Jvm.MethodName) prog_1_method_6_code (8 : Nat) (Option.some (Jvm.ClassFile.FieldType.array Jvm.ClassFile.FieldType.int))) ∈ lw_all := lw_g (lw_at lw_m2 2 rfl) rfl
theorem q295 : (Jvm.Cond.static ({ cls := "WordBench", name := "inverse", desc := "(II)I" } : Jvm.MethodName)) ∈ lw_all := lw_g (lw_at lw_m2 8 rfl) rfl
theorem q296 : (Jvm.Cond.code ({ cls := "WordBench", name := "inverse", desc := "(II)I" } : Jvm.MethodName) prog_1_method_4_code (3 : Nat) (Option.some Jvm.ClassFile.FieldType.int)) ∈ lw_all := lw_g (lw_at lw_m2 9 rfl) rfl
theorem q303 : (Jvm.Cond.static ({ cls := "WordBench", name := "against", desc := "(II)I" } : Jvm.MethodName)) ∈ lw_all := lw_g (lw_at lw_m2 16 rfl) rfl
theorem q304 : (Jvm.Cond.code ({ cls := "WordBench", name := "against", desc := "(II)I" } : Jvm.MethodName) prog_1_method_3_code (2 : Nat) (Option.some Jvm.ClassFile.FieldType.int)) ∈ lw_all := lw_g (lw_at lw_m2 17 rfl) rfl
theorem q310 : (Jvm.Cond.fieldLink "WordBench" (162 : Nat) "WordBench$Form" "heads" "[I") ∈ lw_all := lw_g (lw_at lw_m2 23 rfl) rfl
theorem q312 : (Jvm.Cond.fieldLink "WordBench" (105 : Nat) "WordBench$Form" "rank" "I") ∈ lw_all := lw_g (lw_at lw_m2 25 rfl) rfl
theorem q324 : (Jvm.Cond.methodLink "WordBench" (108 : Nat) ({ cls := "WordBench$Line", name := "isWithinDual", desc := "()Z" } : Jvm.MethodName)) ∈ lw_all := lw_g (lw_at lw_m2 37 rfl) rfl
theorem q333 : (Jvm.Cond.instanceMethod ({ cls := "WordBench", name := "size", desc := "(I)J" } : Jvm.MethodName)) ∈ lw_all := lw_g (lw_at lw_m2 46 rfl) rfl
theorem q334 : (Jvm.Cond.selects "WordBench" ({ cls := "WordBench", name := "size", desc := "(I)J" } : Jvm.MethodName) ({ cls := "WordBench", name := "size", desc := "(I)J" } : Jvm.MethodName)) ∈ lw_all := lw_g (lw_at lw_m2 47 rfl) rfl
theorem q335 : (Jvm.Cond.code ({ cls := "WordBench", name := "size", desc := "(I)J" } : Jvm.MethodName) prog_1_method_25_code (3 : Nat) (Option.some Jvm.ClassFile.FieldType.long)) ∈ lw_all := lw_g (lw_at lw_m2 48 rfl) rfl
theorem q336 : (Jvm.Cond.methodLink "WordBench" (124 : Nat) ({ cls := "WordBench", name := "sizeOf", desc := "(LWordBench$Code;)J" } : Jvm.MethodName)) ∈ lw_all := lw_g (lw_at lw_m2 49 rfl) rfl
theorem q337 : (Jvm.Cond.static ({ cls := "WordBench", name := "sizeOf", desc := "(LWordBench$Code;)J" } : Jvm.MethodName)) ∈ lw_all := lw_g (lw_at lw_m2 50 rfl) rfl
theorem q338 : (Jvm.Cond.code ({ cls := "WordBench", name := "sizeOf", desc := "(LWordBench$Code;)J" } : Jvm.MethodName) prog_1_method_24_code (1 : Nat) (Option.some Jvm.ClassFile.FieldType.long)) ∈ lw_all := lw_g (lw_at lw_m2 51 rfl) rfl
theorem q340 : (Jvm.Cond.instanceMethod ({ cls := "WordBench", name := "in", desc := "(IJ)I" } : Jvm.MethodName)) ∈ lw_all := lw_g (lw_at lw_m2 53 rfl) rfl
theorem q341 : (Jvm.Cond.selects "WordBench" ({ cls := "WordBench", name := "in", desc := "(IJ)I" } : Jvm.MethodName) ({ cls := "WordBench", name := "in", desc := "(IJ)I" } : Jvm.MethodName)) ∈ lw_all := lw_g (lw_at lw_m2 54 rfl) rfl
theorem q342 : (Jvm.Cond.code ({ cls := "WordBench", name := "in", desc := "(IJ)I" } : Jvm.MethodName) prog_1_method_27_code (5 : Nat) (Option.some Jvm.ClassFile.FieldType.int)) ∈ lw_all := lw_g (lw_at lw_m2 55 rfl) rfl
theorem q343 : (Jvm.Cond.methodLink "WordBench" (133 : Nat) ({ cls := "WordBench", name := "whyWord", desc := "(IJ)I" } : Jvm.MethodName)) ∈ lw_all := lw_g (lw_at lw_m2 56 rfl) rfl
theorem q344 : (Jvm.Cond.privateMethod ({ cls := "WordBench", name := "whyWord", desc := "(IJ)I" } : Jvm.MethodName)) ∈ lw_tbl := lw_at lw_m2 57 rfl
theorem q345 : (Jvm.Cond.instanceMethod ({ cls := "WordBench", name := "whyWord", desc := "(IJ)I" } : Jvm.MethodName)) ∈ lw_all := lw_g (lw_at lw_m2 58 rfl) rfl
theorem q346 : (Jvm.Cond.code ({ cls := "WordBench", name := "whyWord", desc := "(IJ)I" } : Jvm.MethodName) prog_1_method_28_code (4 : Nat) (Option.some Jvm.ClassFile.FieldType.int)) ∈ lw_all := lw_g (lw_at lw_m2 59 rfl) rfl
theorem q347 : (Jvm.Cond.methodLink "WordBench" (137 : Nat) ({ cls := "WordBench", name := "has", desc := "(LWordBench$Code;J)Z" } : Jvm.MethodName)) ∈ lw_all := lw_g (lw_at lw_m2 60 rfl) rfl
theorem q348 : (Jvm.Cond.static ({ cls := "WordBench", name := "has", desc := "(LWordBench$Code;J)Z" } : Jvm.MethodName)) ∈ lw_all := lw_g (lw_at lw_m2 61 rfl) rfl
theorem q349 : (Jvm.Cond.code ({ cls := "WordBench", name := "has", desc := "(LWordBench$Code;J)Z" } : Jvm.MethodName) prog_1_method_26_code (3 : Nat) (Option.some Jvm.ClassFile.FieldType.boolean)) ∈ lw_all := lw_g (lw_at lw_m2 62 rfl) rfl
theorem q350 : (Jvm.Cond.methodLink "WordBench" (128 : Nat) ({ cls := "WordBench$Form", name := "has", desc := "(J)Z" } : Jvm.MethodName)) ∈ lw_all := lw_g (lw_at lw_m2 63 rfl) rfl
theorem q360 : (Jvm.Cond.static ({ cls := "WordBench", name := "letter", desc := "(IIJI)I" } : Jvm.MethodName)) ∈ lw_all := lw_g (lw_at lw_m2 73 rfl) rfl
theorem q361 : (Jvm.Cond.code ({ cls := "WordBench", name := "letter", desc := "(IIJI)I" } : Jvm.MethodName) prog_1_method_8_code (5 : Nat) (Option.some Jvm.ClassFile.FieldType.int)) ∈ lw_all := lw_g (lw_at lw_m2 74 rfl) rfl
theorem q363 : (Jvm.Cond.static ({ cls := "WordBench", name := "sumOf", desc := "(IIJJI)J" } : Jvm.MethodName)) ∈ lw_all := lw_g (lw_at lw_m2 76 rfl) rfl
theorem q364 : (Jvm.Cond.code ({ cls := "WordBench", name := "sumOf", desc := "(IIJJI)J" } : Jvm.MethodName) prog_1_method_10_code (16 : Nat) (Option.some Jvm.ClassFile.FieldType.long)) ∈ lw_all := lw_g (lw_at lw_m2 77 rfl) rfl
theorem q365 : (Jvm.Cond.methodLink "WordBench" (132 : Nat) ({ cls := "WordBench$List", name := "has", desc := "(J)Z" } : Jvm.MethodName)) ∈ lw_all := lw_g (lw_at lw_m2 78 rfl) rfl
theorem q367 : (Jvm.Cond.instanceMethod ({ cls := "WordBench", name := "sum", desc := "(IIJJI)J" } : Jvm.MethodName)) ∈ lw_all := lw_g (lw_at lw_m2 80 rfl) rfl
theorem q368 : (Jvm.Cond.selects "WordBench" ({ cls := "WordBench", name := "sum", desc := "(IIJJI)J" } : Jvm.MethodName) ({ cls := "WordBench", name := "sum", desc := "(IIJJI)J" } : Jvm.MethodName)) ∈ lw_all := lw_g (lw_at lw_m2 81 rfl) rfl
theorem q369 : (Jvm.Cond.code ({ cls := "WordBench", name := "sum", desc := "(IIJJI)J" } : Jvm.MethodName) prog_1_method_30_code (8 : Nat) (Option.some Jvm.ClassFile.FieldType.long)) ∈ lw_all := lw_g (lw_at lw_m2 82 rfl) rfl
theorem q370 : (Jvm.Cond.methodLink "WordBench" (140 : Nat) ({ cls := "WordBench", name := "areWords", desc := "(IIJJ)Z" } : Jvm.MethodName)) ∈ lw_all := lw_g (lw_at lw_m2 83 rfl) rfl
theorem q371 : (Jvm.Cond.static ({ cls := "WordBench", name := "areWords", desc := "(IIJJ)Z" } : Jvm.MethodName)) ∈ lw_all := lw_g (lw_at lw_m2 84 rfl) rfl
theorem q372 : (Jvm.Cond.code ({ cls := "WordBench", name := "areWords", desc := "(IIJJ)Z" } : Jvm.MethodName) prog_1_method_29_code (6 : Nat) (Option.some Jvm.ClassFile.FieldType.boolean)) ∈ lw_all := lw_g (lw_at lw_m2 85 rfl) rfl
theorem q373 : (Jvm.Cond.methodLink "WordBench" (144 : Nat) ({ cls := "WordBench", name := "sumOf", desc := "(IIJJI)J" } : Jvm.MethodName)) ∈ lw_all := lw_g (lw_at lw_m2 86 rfl) rfl
theorem q374 : (Jvm.Cond.constantLong "WordBench" (148 : Nat) (-1 : Int64)) ∈ lw_all := lw_g (lw_at lw_m2 87 rfl) rfl
theorem q376 : (Jvm.Cond.instanceMethod ({ cls := "WordBench", name := "way", desc := "(IIJJ)I" } : Jvm.MethodName)) ∈ lw_all := lw_g (lw_at lw_m2 89 rfl) rfl
theorem q377 : (Jvm.Cond.selects "WordBench" ({ cls := "WordBench", name := "way", desc := "(IIJJ)I" } : Jvm.MethodName) ({ cls := "WordBench", name := "way", desc := "(IIJJ)I" } : Jvm.MethodName)) ∈ lw_all := lw_g (lw_at lw_m2 90 rfl) rfl
theorem q378 : (Jvm.Cond.code ({ cls := "WordBench", name := "way", desc := "(IIJJ)I" } : Jvm.MethodName) prog_1_method_31_code (7 : Nat) (Option.some Jvm.ClassFile.FieldType.int)) ∈ lw_all := lw_g (lw_at lw_m2 91 rfl) rfl
theorem q379 : (Jvm.Cond.methodLink "WordBench" (150 : Nat) ({ cls := "WordBench", name := "wayOf", desc := "(IIJJI)I" } : Jvm.MethodName)) ∈ lw_all := lw_g (lw_at lw_m2 92 rfl) rfl
theorem q380 : (Jvm.Cond.static ({ cls := "WordBench", name := "wayOf", desc := "(IIJJI)I" } : Jvm.MethodName)) ∈ lw_all := lw_g (lw_at lw_m2 93 rfl) rfl
theorem q381 : (Jvm.Cond.code ({ cls := "WordBench", name := "wayOf", desc := "(IIJJI)I" } : Jvm.MethodName) prog_1_method_9_code (13 : Nat) (Option.some Jvm.ClassFile.FieldType.int)) ∈ lw_all := lw_g (lw_at lw_m2 94 rfl) rfl
theorem q383 : (Jvm.Cond.instanceMethod ({ cls := "WordBench", name := "product", desc := "(IIJJ)I" } : Jvm.MethodName)) ∈ lw_all := lw_g (lw_at lw_m2 96 rfl) rfl
theorem q384 : (Jvm.Cond.selects "WordBench" ({ cls := "WordBench", name := "product", desc := "(IIJJ)I" } : Jvm.MethodName) ({ cls := "WordBench", name := "product", desc := "(IIJJ)I" } : Jvm.MethodName)) ∈ lw_all := lw_g (lw_at lw_m2 97 rfl) rfl
theorem q385 : (Jvm.Cond.code ({ cls := "WordBench", name := "product", desc := "(IIJJ)I" } : Jvm.MethodName) prog_1_method_32_code (7 : Nat) (Option.some Jvm.ClassFile.FieldType.int)) ∈ lw_all := lw_g (lw_at lw_m2 98 rfl) rfl
theorem q386 : (Jvm.Cond.methodLink "WordBench" (154 : Nat) ({ cls := "WordBench", name := "productOf", desc := "(IIJJ)I" } : Jvm.MethodName)) ∈ lw_all := lw_g (lw_at lw_m2 99 rfl) rfl
theorem q388 : (Jvm.Cond.instanceMethod ({ cls := "WordBench", name := "form", desc := "(I)I" } : Jvm.MethodName)) ∈ lw_all := lw_g (lw_at lw_m2 101 rfl) rfl
theorem q389 : (Jvm.Cond.selects "WordBench" ({ cls := "WordBench", name := "form", desc := "(I)I" } : Jvm.MethodName) ({ cls := "WordBench", name := "form", desc := "(I)I" } : Jvm.MethodName)) ∈ lw_all := lw_g (lw_at lw_m2 102 rfl) rfl
theorem q390 : (Jvm.Cond.code ({ cls := "WordBench", name := "form", desc := "(I)I" } : Jvm.MethodName) prog_1_method_33_code (7 : Nat) (Option.some Jvm.ClassFile.FieldType.int)) ∈ lw_all := lw_g (lw_at lw_m2 103 rfl) rfl
theorem q391 : (Jvm.Cond.methodLink "WordBench" (158 : Nat) ({ cls := "WordBench$Form", name := "row", desc := "(I)J" } : Jvm.MethodName)) ∈ lw_all := lw_g (lw_at lw_m2 104 rfl) rfl
theorem q393 : (Jvm.Cond.instanceMethod ({ cls := "WordBench", name := "head", desc := "(II)I" } : Jvm.MethodName)) ∈ lw_all := lw_g (lw_at lw_m2 106 rfl) rfl
theorem q394 : (Jvm.Cond.selects "WordBench" ({ cls := "WordBench", name := "head", desc := "(II)I" } : Jvm.MethodName) ({ cls := "WordBench", name := "head", desc := "(II)I" } : Jvm.MethodName)) ∈ lw_all := lw_g (lw_at lw_m2 107 rfl) rfl
theorem q395 : (Jvm.Cond.code ({ cls := "WordBench", name := "head", desc := "(II)I" } : Jvm.MethodName) prog_1_method_34_code (5 : Nat) (Option.some Jvm.ClassFile.FieldType.int)) ∈ lw_all := lw_g (lw_at lw_m2 108 rfl) rfl
theorem q397 : (Jvm.Cond.instanceMethod ({ cls := "WordBench", name := "dual", desc := "(II)I" } : Jvm.MethodName)) ∈ lw_all := lw_g (lw_at lw_m2 110 rfl) rfl
theorem q398 : (Jvm.Cond.selects "WordBench" ({ cls := "WordBench", name := "dual", desc := "(II)I" } : Jvm.MethodName) ({ cls := "WordBench", name := "dual", desc := "(II)I" } : Jvm.MethodName)) ∈ lw_all := lw_g (lw_at lw_m2 111 rfl) rfl
theorem q399 : (Jvm.Cond.code ({ cls := "WordBench", name := "dual", desc := "(II)I" } : Jvm.MethodName) prog_1_method_35_code (4 : Nat) (Option.some Jvm.ClassFile.FieldType.int)) ∈ lw_all := lw_g (lw_at lw_m2 112 rfl) rfl
theorem q400 : (Jvm.Cond.methodLink "WordBench" (166 : Nat) ({ cls := "WordBench$Form", name := "dual", desc := "()LWordBench$Code;" } : Jvm.MethodName)) ∈ lw_all := lw_g (lw_at lw_m2 113 rfl) rfl
theorem q412 : (Jvm.Cond.instanceMethod ({ cls := "WordBench", name := "checks", desc := "(IJ)J" } : Jvm.MethodName)) ∈ lw_all := lw_g (lw_at lw_m2 125 rfl) rfl
theorem q413 : (Jvm.Cond.selects "WordBench" ({ cls := "WordBench", name := "checks", desc := "(IJ)J" } : Jvm.MethodName) ({ cls := "WordBench", name := "checks", desc := "(IJ)J" } : Jvm.MethodName)) ∈ lw_all := lw_g (lw_at lw_m2 126 rfl) rfl
theorem q414 : (Jvm.Cond.code ({ cls := "WordBench", name := "checks", desc := "(IJ)J" } : Jvm.MethodName) prog_1_method_36_code (9 : Nat) (Option.some Jvm.ClassFile.FieldType.long)) ∈ lw_all := lw_g (lw_at lw_m2 127 rfl) rfl
theorem q416 : (Jvm.Cond.instanceMethod ({ cls := "WordBench", name := "least", desc := "(I)I" } : Jvm.MethodName)) ∈ lw_all := lw_g (lw_at lw_m2 129 rfl) rfl
theorem q417 : (Jvm.Cond.selects "WordBench" ({ cls := "WordBench", name := "least", desc := "(I)I" } : Jvm.MethodName) ({ cls := "WordBench", name := "least", desc := "(I)I" } : Jvm.MethodName)) ∈ lw_all := lw_g (lw_at lw_m2 130 rfl) rfl
theorem q418 : (Jvm.Cond.code ({ cls := "WordBench", name := "least", desc := "(I)I" } : Jvm.MethodName) prog_1_method_41_code (3 : Nat) (Option.some Jvm.ClassFile.FieldType.int)) ∈ lw_all := lw_g (lw_at lw_m2 131 rfl) rfl
theorem q419 : (Jvm.Cond.methodLink "WordBench" (187 : Nat) ({ cls := "WordBench", name := "whyWords", desc := "(I)I" } : Jvm.MethodName)) ∈ lw_all := lw_g (lw_at lw_m2 132 rfl) rfl
theorem q420 : (Jvm.Cond.privateMethod ({ cls := "WordBench", name := "whyWords", desc := "(I)I" } : Jvm.MethodName)) ∈ lw_tbl := lw_at lw_m2 133 rfl
theorem q421 : (Jvm.Cond.instanceMethod ({ cls := "WordBench", name := "whyWords", desc := "(I)I" } : Jvm.MethodName)) ∈ lw_all := lw_g (lw_at lw_m2 134 rfl) rfl
theorem q422 : (Jvm.Cond.code ({ cls := "WordBench", name := "whyWords", desc := "(I)I" } : Jvm.MethodName) prog_1_method_38_code (3 : Nat) (Option.some Jvm.ClassFile.FieldType.int)) ∈ lw_all := lw_g (lw_at lw_m2 135 rfl) rfl
theorem q423 : (Jvm.Cond.methodLink "WordBench" (178 : Nat) ({ cls := "WordBench", name := "lays", desc := "(LWordBench$Code;)Z" } : Jvm.MethodName)) ∈ lw_all := lw_g (lw_at lw_m2 136 rfl) rfl
theorem q424 : (Jvm.Cond.privateMethod ({ cls := "WordBench", name := "lays", desc := "(LWordBench$Code;)Z" } : Jvm.MethodName)) ∈ lw_tbl := lw_at lw_m2 137 rfl
theorem q425 : (Jvm.Cond.instanceMethod ({ cls := "WordBench", name := "lays", desc := "(LWordBench$Code;)Z" } : Jvm.MethodName)) ∈ lw_all := lw_g (lw_at lw_m2 138 rfl) rfl
theorem q426 : (Jvm.Cond.code ({ cls := "WordBench", name := "lays", desc := "(LWordBench$Code;)Z" } : Jvm.MethodName) prog_1_method_37_code (8 : Nat) (Option.some Jvm.ClassFile.FieldType.boolean)) ∈ lw_all := lw_g (lw_at lw_m2 139 rfl) rfl
theorem q427 : (Jvm.Cond.constantLong "WordBench" (176 : Nat) (4096 : Int64)) ∈ lw_all := lw_g (lw_at lw_m2 140 rfl) rfl
theorem q428 : (Jvm.Cond.methodLink "WordBench" (191 : Nat) ({ cls := "WordBench", name := "leastOf", desc := "(LWordBench$Code;)I" } : Jvm.MethodName)) ∈ lw_all := lw_g (lw_at lw_m2 141 rfl) rfl
theorem q429 : (Jvm.Cond.privateMethod ({ cls := "WordBench", name := "leastOf", desc := "(LWordBench$Code;)I" } : Jvm.MethodName)) ∈ lw_tbl := lw_at lw_m2 142 rfl
theorem q430 : (Jvm.Cond.instanceMethod ({ cls := "WordBench", name := "leastOf", desc := "(LWordBench$Code;)I" } : Jvm.MethodName)) ∈ lw_all := lw_g (lw_at lw_m2 143 rfl) rfl
theorem q431 : (Jvm.Cond.code ({ cls := "WordBench", name := "leastOf", desc := "(LWordBench$Code;)I" } : Jvm.MethodName) prog_1_method_40_code (3 : Nat) (Option.some Jvm.ClassFile.FieldType.int)) ∈ lw_all := lw_g (lw_at lw_m2 144 rfl) rfl
theorem q432 : (Jvm.Cond.methodLink "WordBench" (185 : Nat) ({ cls := "WordBench", name := "counts", desc := "(LWordBench$Code;)V" } : Jvm.MethodName)) ∈ lw_all := lw_g (lw_at lw_m2 145 rfl) rfl
theorem q433 : (Jvm.Cond.privateMethod ({ cls := "WordBench", name := "counts", desc := "(LWordBench$Code;)V" } : Jvm.MethodName)) ∈ lw_tbl := lw_at lw_m2 146 rfl
theorem q434 : (Jvm.Cond.instanceMethod ({ cls := "WordBench", name := "counts", desc := "(LWordBench$Code;)V" } : Jvm.MethodName)) ∈ lw_all := lw_g (lw_at lw_m2 147 rfl) rfl
theorem q435 : (Jvm.Cond.code ({ cls := "WordBench", name := "counts", desc := "(LWordBench$Code;)V" } : Jvm.MethodName) prog_1_method_39_code (4 : Nat) (Option.none : Option Jvm.ClassFile.FieldType)) ∈ lw_all := lw_g (lw_at lw_m2 148 rfl) rfl
theorem q437 : (Jvm.Cond.instanceMethod ({ cls := "WordBench", name := "weights", desc := "(II)J" } : Jvm.MethodName)) ∈ lw_all := lw_g (lw_at lw_m2 150 rfl) rfl
theorem q438 : (Jvm.Cond.selects "WordBench" ({ cls := "WordBench", name := "weights", desc := "(II)J" } : Jvm.MethodName) ({ cls := "WordBench", name := "weights", desc := "(II)J" } : Jvm.MethodName)) ∈ lw_all := lw_g (lw_at lw_m2 151 rfl) rfl
theorem q439 : (Jvm.Cond.code ({ cls := "WordBench", name := "weights", desc := "(II)J" } : Jvm.MethodName) prog_1_method_42_code (4 : Nat) (Option.some Jvm.ClassFile.FieldType.long)) ∈ lw_all := lw_g (lw_at lw_m2 152 rfl) rfl
theorem q441 : (Jvm.Cond.instanceMethod ({ cls := "WordBench", name := "beat", desc := "(I)I" } : Jvm.MethodName)) ∈ lw_all := lw_g (lw_at lw_m2 154 rfl) rfl
theorem q442 : (Jvm.Cond.selects "WordBench" ({ cls := "WordBench", name := "beat", desc := "(I)I" } : Jvm.MethodName) ({ cls := "WordBench", name := "beat", desc := "(I)I" } : Jvm.MethodName)) ∈ lw_all := lw_g (lw_at lw_m2 155 rfl) rfl
theorem q443 : (Jvm.Cond.code ({ cls := "WordBench", name := "beat", desc := "(I)I" } : Jvm.MethodName) prog_1_method_46_code (7 : Nat) (Option.some Jvm.ClassFile.FieldType.int)) ∈ lw_all := lw_g (lw_at lw_m2 156 rfl) rfl
theorem q445 : (Jvm.Cond.instanceMethod ({ cls := "WordBench", name := "bound", desc := "(IIII)J" } : Jvm.MethodName)) ∈ lw_all := lw_g (lw_at lw_m2 158 rfl) rfl
theorem q446 : (Jvm.Cond.selects "WordBench" ({ cls := "WordBench", name := "bound", desc := "(IIII)J" } : Jvm.MethodName) ({ cls := "WordBench", name := "bound", desc := "(IIII)J" } : Jvm.MethodName)) ∈ lw_all := lw_g (lw_at lw_m2 159 rfl) rfl
theorem q447 : (Jvm.Cond.code ({ cls := "WordBench", name := "bound", desc := "(IIII)J" } : Jvm.MethodName) prog_1_method_48_code (5 : Nat) (Option.some Jvm.ClassFile.FieldType.long)) ∈ lw_all := lw_g (lw_at lw_m2 160 rfl) rfl
theorem q448 : (Jvm.Cond.methodLink "WordBench" (202 : Nat) ({ cls := "WordBench", name := "ball", desc := "(III)J" } : Jvm.MethodName)) ∈ lw_all := lw_g (lw_at lw_m2 161 rfl) rfl
theorem q449 : (Jvm.Cond.static ({ cls := "WordBench", name := "ball", desc := "(III)J" } : Jvm.MethodName)) ∈ lw_all := lw_g (lw_at lw_m2 162 rfl) rfl
theorem q450 : (Jvm.Cond.code ({ cls := "WordBench", name := "ball", desc := "(III)J" } : Jvm.MethodName) prog_1_method_47_code (6 : Nat) (Option.some Jvm.ClassFile.FieldType.long)) ∈ lw_all := lw_g (lw_at lw_m2 163 rfl) rfl
theorem q451 : (Jvm.Cond.methodLink "WordBench" (195 : Nat) ({ cls := "WordBench", name := "chosen", desc := "(II)J" } : Jvm.MethodName)) ∈ lw_all := lw_g (lw_at lw_m2 164 rfl) rfl
theorem q452 : (Jvm.Cond.static ({ cls := "WordBench", name := "chosen", desc := "(II)J" } : Jvm.MethodName)) ∈ lw_all := lw_g (lw_at lw_m2 165 rfl) rfl
theorem q453 : (Jvm.Cond.code ({ cls := "WordBench", name := "chosen", desc := "(II)J" } : Jvm.MethodName) prog_1_method_43_code (5 : Nat) (Option.some Jvm.ClassFile.FieldType.long)) ∈ lw_all := lw_g (lw_at lw_m2 166 rfl) rfl
theorem q455 : (Jvm.Cond.instanceMethod ({ cls := "WordBench", name := "read", desc := "(IJI)J" } : Jvm.MethodName)) ∈ lw_all := lw_g (lw_at lw_m2 168 rfl) rfl
theorem q456 : (Jvm.Cond.selects "WordBench" ({ cls := "WordBench", name := "read", desc := "(IJI)J" } : Jvm.MethodName) ({ cls := "WordBench", name := "read", desc := "(IJI)J" } : Jvm.MethodName)) ∈ lw_all := lw_g (lw_at lw_m2 169 rfl) rfl
theorem q457 : (Jvm.Cond.code ({ cls := "WordBench", name := "read", desc := "(IJI)J" } : Jvm.MethodName) prog_1_method_50_code (7 : Nat) (Option.some Jvm.ClassFile.FieldType.long)) ∈ lw_all := lw_g (lw_at lw_m2 170 rfl) rfl
theorem q458 : (Jvm.Cond.methodLink "WordBench" (206 : Nat) ({ cls := "WordBench", name := "readBy", desc := "(LWordBench$Code;JI)I" } : Jvm.MethodName)) ∈ lw_all := lw_g (lw_at lw_m2 171 rfl) rfl
theorem q459 : (Jvm.Cond.privateMethod ({ cls := "WordBench", name := "readBy", desc := "(LWordBench$Code;JI)I" } : Jvm.MethodName)) ∈ lw_tbl := lw_at lw_m2 172 rfl
theorem q460 : (Jvm.Cond.instanceMethod ({ cls := "WordBench", name := "readBy", desc := "(LWordBench$Code;JI)I" } : Jvm.MethodName)) ∈ lw_all := lw_g (lw_at lw_m2 173 rfl) rfl
theorem q461 : (Jvm.Cond.code ({ cls := "WordBench", name := "readBy", desc := "(LWordBench$Code;JI)I" } : Jvm.MethodName) prog_1_method_49_code (9 : Nat) (Option.some Jvm.ClassFile.FieldType.int)) ∈ lw_all := lw_g (lw_at lw_m2 174 rfl) rfl
theorem q462 : (Jvm.Cond.constantLong "WordBench" (210 : Nat) (-2 : Int64)) ∈ lw_all := lw_g (lw_at lw_m2 175 rfl) rfl
theorem q464 : (Jvm.Cond.instanceMethod ({ cls := "WordBench", name := "near", desc := "(IJI)I" } : Jvm.MethodName)) ∈ lw_all := lw_g (lw_at lw_m2 177 rfl) rfl
theorem q465 : (Jvm.Cond.selects "WordBench" ({ cls := "WordBench", name := "near", desc := "(IJI)I" } : Jvm.MethodName) ({ cls := "WordBench", name := "near", desc := "(IJI)I" } : Jvm.MethodName)) ∈ lw_all := lw_g (lw_at lw_m2 178 rfl) rfl
theorem q466 : (Jvm.Cond.code ({ cls := "WordBench", name := "near", desc := "(IJI)I" } : Jvm.MethodName) prog_1_method_51_code (8 : Nat) (Option.some Jvm.ClassFile.FieldType.int)) ∈ lw_all := lw_g (lw_at lw_m2 179 rfl) rfl
theorem q468 : (Jvm.Cond.instanceMethod ({ cls := "WordBench", name := "cover", desc := "(I)I" } : Jvm.MethodName)) ∈ lw_all := lw_g (lw_at lw_m2 181 rfl) rfl
theorem q469 : (Jvm.Cond.selects "WordBench" ({ cls := "WordBench", name := "cover", desc := "(I)I" } : Jvm.MethodName) ({ cls := "WordBench", name := "cover", desc := "(I)I" } : Jvm.MethodName)) ∈ lw_all := lw_g (lw_at lw_m2 182 rfl) rfl
theorem q470 : (Jvm.Cond.code ({ cls := "WordBench", name := "cover", desc := "(I)I" } : Jvm.MethodName) prog_1_method_54_code (3 : Nat) (Option.some Jvm.ClassFile.FieldType.int)) ∈ lw_all := lw_g (lw_at lw_m2 183 rfl) rfl
theorem q471 : (Jvm.Cond.methodLink "WordBench" (218 : Nat) ({ cls := "WordBench", name := "whyHoles", desc := "(I)I" } : Jvm.MethodName)) ∈ lw_all := lw_g (lw_at lw_m2 184 rfl) rfl
theorem q472 : (Jvm.Cond.privateMethod ({ cls := "WordBench", name := "whyHoles", desc := "(I)I" } : Jvm.MethodName)) ∈ lw_tbl := lw_at lw_m2 185 rfl
theorem q473 : (Jvm.Cond.instanceMethod ({ cls := "WordBench", name := "whyHoles", desc := "(I)I" } : Jvm.MethodName)) ∈ lw_all := lw_g (lw_at lw_m2 186 rfl) rfl
theorem q474 : (Jvm.Cond.code ({ cls := "WordBench", name := "whyHoles", desc := "(I)I" } : Jvm.MethodName) prog_1_method_53_code (4 : Nat) (Option.some Jvm.ClassFile.FieldType.int)) ∈ lw_all := lw_g (lw_at lw_m2 187 rfl) rfl
theorem q475 : (Jvm.Cond.constantLong "WordBench" (216 : Nat) (1024 : Int64)) ∈ lw_all := lw_g (lw_at lw_m2 188 rfl) rfl
theorem q476 : (Jvm.Cond.methodLink "WordBench" (221 : Nat) ({ cls := "WordBench", name := "covers", desc := "(LWordBench$Code;)I" } : Jvm.MethodName)) ∈ lw_all := lw_g (lw_at lw_m2 189 rfl) rfl
theorem q477 : (Jvm.Cond.privateMethod ({ cls := "WordBench", name := "covers", desc := "(LWordBench$Code;)I" } : Jvm.MethodName)) ∈ lw_tbl := lw_at lw_m2 190 rfl
theorem q478 : (Jvm.Cond.instanceMethod ({ cls := "WordBench", name := "covers", desc := "(LWordBench$Code;)I" } : Jvm.MethodName)) ∈ lw_all := lw_g (lw_at lw_m2 191 rfl) rfl
theorem q479 : (Jvm.Cond.code ({ cls := "WordBench", name := "covers", desc := "(LWordBench$Code;)I" } : Jvm.MethodName) prog_1_method_52_code (6 : Nat) (Option.some Jvm.ClassFile.FieldType.int)) ∈ lw_all := lw_g (lw_at lw_m2 192 rfl) rfl
theorem q481 : (Jvm.Cond.instanceMethod ({ cls := "WordBench", name := "hole", desc := "(I)J" } : Jvm.MethodName)) ∈ lw_all := lw_g (lw_at lw_m2 194 rfl) rfl
theorem q482 : (Jvm.Cond.selects "WordBench" ({ cls := "WordBench", name := "hole", desc := "(I)J" } : Jvm.MethodName) ({ cls := "WordBench", name := "hole", desc := "(I)J" } : Jvm.MethodName)) ∈ lw_all := lw_g (lw_at lw_m2 195 rfl) rfl
theorem q483 : (Jvm.Cond.code ({ cls := "WordBench", name := "hole", desc := "(I)J" } : Jvm.MethodName) prog_1_method_55_code (4 : Nat) (Option.some Jvm.ClassFile.FieldType.long)) ∈ lw_all := lw_g (lw_at lw_m2 196 rfl) rfl
theorem q485 : (Jvm.Cond.instanceMethod ({ cls := "WordBench", name := "whole", desc := "(I)I" } : Jvm.MethodName)) ∈ lw_all := lw_g (lw_at lw_m2 198 rfl) rfl
theorem q486 : (Jvm.Cond.selects "WordBench" ({ cls := "WordBench", name := "whole", desc := "(I)I" } : Jvm.MethodName) ({ cls := "WordBench", name := "whole", desc := "(I)I" } : Jvm.MethodName)) ∈ lw_all := lw_g (lw_at lw_m2 199 rfl) rfl
theorem q487 : (Jvm.Cond.code ({ cls := "WordBench", name := "whole", desc := "(I)I" } : Jvm.MethodName) prog_1_method_56_code (10 : Nat) (Option.some Jvm.ClassFile.FieldType.int)) ∈ lw_all := lw_g (lw_at lw_m2 200 rfl) rfl
theorem q489 : (Jvm.Cond.instanceMethod ({ cls := "WordBench", name := "longer", desc := "(II)I" } : Jvm.MethodName)) ∈ lw_all := lw_g (lw_at lw_m2 202 rfl) rfl
theorem q490 : (Jvm.Cond.selects "WordBench" ({ cls := "WordBench", name := "longer", desc := "(II)I" } : Jvm.MethodName) ({ cls := "WordBench", name := "longer", desc := "(II)I" } : Jvm.MethodName)) ∈ lw_all := lw_g (lw_at lw_m2 203 rfl) rfl
theorem q491 : (Jvm.Cond.code ({ cls := "WordBench", name := "longer", desc := "(II)I" } : Jvm.MethodName) prog_1_method_60_code (9 : Nat) (Option.some Jvm.ClassFile.FieldType.int)) ∈ lw_all := lw_g (lw_at lw_m2 204 rfl) rfl
theorem q492 : (Jvm.Cond.methodLink "WordBench" (224 : Nat) ({ cls := "WordBench", name := "like", desc := "(LWordBench$Code;I)LWordBench$Code;" } : Jvm.MethodName)) ∈ lw_all := lw_g (lw_at lw_m2 205 rfl) rfl
theorem q493 : (Jvm.Cond.static ({ cls := "WordBench", name := "like", desc := "(LWordBench$Code;I)LWordBench$Code;" } : Jvm.MethodName)) ∈ lw_all := lw_g (lw_at lw_m2 206 rfl) rfl
theorem q494 : (Jvm.Cond.code ({ cls := "WordBench", name := "like", desc := "(LWordBench$Code;I)LWordBench$Code;" } : Jvm.MethodName) prog_1_method_57_code (2 : Nat) (Option.some (Jvm.ClassFile.FieldType.object "WordBench$Code"))) ∈ lw_all := lw_g (lw_at lw_m2 207 rfl) rfl
theorem q495 : (Jvm.Cond.methodLink "WordBench" (228 : Nat) ({ cls := "WordBench", name := "letter", desc := "(IIJI)I" } : Jvm.MethodName)) ∈ lw_all := lw_g (lw_at lw_m2 208 rfl) rfl
theorem q496 : (Jvm.Cond.methodLink "WordBench" (232 : Nat) ({ cls := "WordBench", name := "against", desc := "(II)I" } : Jvm.MethodName)) ∈ lw_all := lw_g (lw_at lw_m2 209 rfl) rfl
theorem q498 : (Jvm.Cond.instanceMethod ({ cls := "WordBench", name := "cut", desc := "(III)I" } : Jvm.MethodName)) ∈ lw_all := lw_g (lw_at lw_m2 211 rfl) rfl
theorem q499 : (Jvm.Cond.selects "WordBench" ({ cls := "WordBench", name := "cut", desc := "(III)I" } : Jvm.MethodName) ({ cls := "WordBench", name := "cut", desc := "(III)I" } : Jvm.MethodName)) ∈ lw_all := lw_g (lw_at lw_m2 212 rfl) rfl
theorem q500 : (Jvm.Cond.code ({ cls := "WordBench", name := "cut", desc := "(III)I" } : Jvm.MethodName) prog_1_method_62_code (8 : Nat) (Option.some Jvm.ClassFile.FieldType.int)) ∈ lw_all := lw_g (lw_at lw_m2 213 rfl) rfl
theorem q501 : (Jvm.Cond.methodLink "WordBench" (236 : Nat) ({ cls := "WordBench", name := "whyPlace", desc := "(III)I" } : Jvm.MethodName)) ∈ lw_all := lw_g (lw_at lw_m2 214 rfl) rfl
theorem q502 : (Jvm.Cond.privateMethod ({ cls := "WordBench", name := "whyPlace", desc := "(III)I" } : Jvm.MethodName)) ∈ lw_tbl := lw_at lw_m2 215 rfl
theorem q503 : (Jvm.Cond.instanceMethod ({ cls := "WordBench", name := "whyPlace", desc := "(III)I" } : Jvm.MethodName)) ∈ lw_all := lw_g (lw_at lw_m2 216 rfl) rfl
theorem q504 : (Jvm.Cond.code ({ cls := "WordBench", name := "whyPlace", desc := "(III)I" } : Jvm.MethodName) prog_1_method_61_code (4 : Nat) (Option.some Jvm.ClassFile.FieldType.int)) ∈ lw_all := lw_g (lw_at lw_m2 217 rfl) rfl
theorem q505 : (Jvm.Cond.methodLink "WordBench" (239 : Nat) ({ cls := "WordBench", name := "without", desc := "(IIJI)J" } : Jvm.MethodName)) ∈ lw_all := lw_g (lw_at lw_m2 218 rfl) rfl
theorem q506 : (Jvm.Cond.static ({ cls := "WordBench", name := "without", desc := "(IIJI)J" } : Jvm.MethodName)) ∈ lw_all := lw_g (lw_at lw_m2 219 rfl) rfl
theorem q507 : (Jvm.Cond.code ({ cls := "WordBench", name := "without", desc := "(IIJI)J" } : Jvm.MethodName) prog_1_method_59_code (7 : Nat) (Option.some Jvm.ClassFile.FieldType.long)) ∈ lw_all := lw_g (lw_at lw_m2 220 rfl) rfl
theorem q508 : (Jvm.Cond.methodLink "WordBench" (243 : Nat) ({ cls := "WordBench", name := "comes", desc := "(LWordBench$Code;J)V" } : Jvm.MethodName)) ∈ lw_all := lw_g (lw_at lw_m2 221 rfl) rfl
theorem q509 : (Jvm.Cond.static ({ cls := "WordBench", name := "comes", desc := "(LWordBench$Code;J)V" } : Jvm.MethodName)) ∈ lw_all := lw_g (lw_at lw_m2 222 rfl) rfl
theorem q510 : (Jvm.Cond.code ({ cls := "WordBench", name := "comes", desc := "(LWordBench$Code;J)V" } : Jvm.MethodName) prog_1_method_58_code (3 : Nat) (Option.none : Option Jvm.ClassFile.FieldType)) ∈ lw_all := lw_g (lw_at lw_m2 223 rfl) rfl
theorem q512 : (Jvm.Cond.instanceMethod ({ cls := "WordBench", name := "shorter", desc := "(III)I" } : Jvm.MethodName)) ∈ lw_all := lw_g (lw_at lw_m2 225 rfl) rfl
theorem q513 : (Jvm.Cond.selects "WordBench" ({ cls := "WordBench", name := "shorter", desc := "(III)I" } : Jvm.MethodName) ({ cls := "WordBench", name := "shorter", desc := "(III)I" } : Jvm.MethodName)) ∈ lw_all := lw_g (lw_at lw_m2 226 rfl) rfl
theorem q514 : (Jvm.Cond.code ({ cls := "WordBench", name := "shorter", desc := "(III)I" } : Jvm.MethodName) prog_1_method_63_code (14 : Nat) (Option.some Jvm.ClassFile.FieldType.int)) ∈ lw_all := lw_g (lw_at lw_m2 227 rfl) rfl
theorem q515 : (Jvm.Cond.methodLink "WordBench" (247 : Nat) ({ cls := "WordBench", name := "inverse", desc := "(II)I" } : Jvm.MethodName)) ∈ lw_all := lw_g (lw_at lw_m2 228 rfl) rfl
theorem q517 : (Jvm.Cond.instanceMethod ({ cls := "WordBench", name := "join", desc := "(IIII)I" } : Jvm.MethodName)) ∈ lw_all := lw_g (lw_at lw_m2 230 rfl) rfl
theorem q518 : (Jvm.Cond.selects "WordBench" ({ cls := "WordBench", name := "join", desc := "(IIII)I" } : Jvm.MethodName) ({ cls := "WordBench", name := "join", desc := "(IIII)I" } : Jvm.MethodName)) ∈ lw_all := lw_g (lw_at lw_m2 231 rfl) rfl
theorem q519 : (Jvm.Cond.code ({ cls := "WordBench", name := "join", desc := "(IIII)I" } : Jvm.MethodName) prog_1_method_64_code (13 : Nat) (Option.some Jvm.ClassFile.FieldType.int)) ∈ lw_all := lw_g (lw_at lw_m2 232 rfl) rfl
theorem q520 : (Jvm.Cond.methodLink "WordBench" (250 : Nat) ({ cls := "WordBench$Line", name := "add", desc := "(J)V" } : Jvm.MethodName)) ∈ lw_all := lw_g (lw_at lw_m2 233 rfl) rfl
theorem q522 : (Jvm.Cond.instanceMethod ({ cls := "WordBench", name := "list", desc := "(II)I" } : Jvm.MethodName)) ∈ lw_all := lw_g (lw_at lw_m2 235 rfl) rfl
theorem q523 : (Jvm.Cond.selects "WordBench" ({ cls := "WordBench", name := "list", desc := "(II)I" } : Jvm.MethodName) ({ cls := "WordBench", name := "list", desc := "(II)I" } : Jvm.MethodName)) ∈ lw_all := lw_g (lw_at lw_m2 236 rfl) rfl
theorem q524 : (Jvm.Cond.code ({ cls := "WordBench", name := "list", desc := "(II)I" } : Jvm.MethodName) prog_1_method_65_code (6 : Nat) (Option.some Jvm.ClassFile.FieldType.int)) ∈ lw_all := lw_g (lw_at lw_m2 237 rfl) rfl
theorem q526 : (Jvm.Cond.instanceMethod ({ cls := "WordBench", name := "turn", desc := "(IJII)I" } : Jvm.MethodName)) ∈ lw_all := lw_g (lw_at lw_m2 239 rfl) rfl
theorem q527 : (Jvm.Cond.selects "WordBench" ({ cls := "WordBench", name := "turn", desc := "(IJII)I" } : Jvm.MethodName) ({ cls := "WordBench", name := "turn", desc := "(IJII)I" } : Jvm.MethodName)) ∈ lw_all := lw_g (lw_at lw_m3 0 rfl) rfl
theorem q528 : (Jvm.Cond.code ({ cls := "WordBench", name := "turn", desc := "(IJII)I" } : Jvm.MethodName) prog_1_method_67_code (13 : Nat) (Option.some Jvm.ClassFile.FieldType.int)) ∈ lw_all := lw_g (lw_at lw_m3 1 rfl) rfl
theorem q529 : (Jvm.Cond.methodLink "WordBench" (253 : Nat) ({ cls := "WordBench", name := "isTurn", desc := "(IJ)Z" } : Jvm.MethodName)) ∈ lw_all := lw_g (lw_at lw_m3 2 rfl) rfl
theorem q530 : (Jvm.Cond.static ({ cls := "WordBench", name := "isTurn", desc := "(IJ)Z" } : Jvm.MethodName)) ∈ lw_all := lw_g (lw_at lw_m3 3 rfl) rfl
theorem q531 : (Jvm.Cond.code ({ cls := "WordBench", name := "isTurn", desc := "(IJ)Z" } : Jvm.MethodName) prog_1_method_66_code (5 : Nat) (Option.some Jvm.ClassFile.FieldType.boolean)) ∈ lw_all := lw_g (lw_at lw_m3 4 rfl) rfl
theorem q532 : (Jvm.Cond.constantLong "WordBench" (251 : Nat) (15 : Int64)) ∈ lw_all := lw_g (lw_at lw_m3 5 rfl) rfl
theorem q534 : (Jvm.Cond.instanceMethod ({ cls := "WordBench", name := "same", desc := "(II)I" } : Jvm.MethodName)) ∈ lw_all := lw_g (lw_at lw_m3 7 rfl) rfl
theorem q535 : (Jvm.Cond.selects "WordBench" ({ cls := "WordBench", name := "same", desc := "(II)I" } : Jvm.MethodName) ({ cls := "WordBench", name := "same", desc := "(II)I" } : Jvm.MethodName)) ∈ lw_all := lw_g (lw_at lw_m3 8 rfl) rfl
theorem q536 : (Jvm.Cond.code ({ cls := "WordBench", name := "same", desc := "(II)I" } : Jvm.MethodName) prog_1_method_68_code (10 : Nat) (Option.some Jvm.ClassFile.FieldType.int)) ∈ lw_all := lw_g (lw_at lw_m3 9 rfl) rfl
theorem q537 : (Jvm.Cond.methodLink "WordBench" (257 : Nat) ({ cls := "WordBench$Form", name := "isLike", desc := "(LWordBench$Form;)Z" } : Jvm.MethodName)) ∈ lw_all := lw_g (lw_at lw_m3 10 rfl) rfl
theorem q542 : (Jvm.Cond.instanceMethod ({ cls := "WordBench", name := "design", desc := "(III)I" } : Jvm.MethodName)) ∈ lw_all := lw_g (lw_at lw_m3 15 rfl) rfl
theorem q543 : (Jvm.Cond.selects "WordBench" ({ cls := "WordBench", name := "design", desc := "(III)I" } : Jvm.MethodName) ({ cls := "WordBench", name := "design", desc := "(III)I" } : Jvm.MethodName)) ∈ lw_all := lw_g (lw_at lw_m3 16 rfl) rfl
theorem q544 : (Jvm.Cond.code ({ cls := "WordBench", name := "design", desc := "(III)I" } : Jvm.MethodName) prog_1_method_69_code (10 : Nat) (Option.some Jvm.ClassFile.FieldType.int)) ∈ lw_all := lw_g (lw_at lw_m3 17 rfl) rfl
theorem q547 : (Jvm.Cond.instanceMethod ({ cls := "WordBench", name := "<init>", desc := "()V" } : Jvm.MethodName)) ∈ lw_all := lw_g (lw_at lw_m3 20 rfl) rfl
theorem q548 : (Jvm.Cond.code ({ cls := "WordBench", name := "<init>", desc := "()V" } : Jvm.MethodName) prog_1_method_70_code (2 : Nat) (Option.none : Option Jvm.ClassFile.FieldType)) ∈ lw_all := lw_g (lw_at lw_m3 21 rfl) rfl
theorem q549 : (Jvm.Cond.methodLink "WordBench" (261 : Nat) ({ cls := "java/lang/Object", name := "<init>", desc := "()V" } : Jvm.MethodName)) ∈ lw_all := lw_g (lw_at lw_m3 22 rfl) rfl
theorem q550 : (Jvm.Cond.classLink "WordBench" (31 : Nat) "WordBench$Code") ∈ lw_all := lw_g (lw_at lw_m3 23 rfl) rfl
theorem q552 : (Jvm.Cond.classLink "WordBench" (264 : Nat) "java/util/ArrayList") ∈ lw_all := lw_g (lw_at lw_m3 25 rfl) rfl
theorem q554 : (Jvm.Cond.methodLink "WordBench" (266 : Nat) ({ cls := "java/util/ArrayList", name := "<init>", desc := "()V" } : Jvm.MethodName)) ∈ lw_all := lw_g (lw_at lw_m3 27 rfl) rfl
theorem q578 : (Jvm.Cond.classLink "WordBench" (271 : Nat) "WordBench$Shelf") ∈ lw_all := lw_g (lw_at lw_m3 51 rfl) rfl
theorem q580 : (Jvm.Cond.methodLinkNest "WordBench" (273 : Nat) ({ cls := "WordBench$Shelf", name := "<init>", desc := "()V" } : Jvm.MethodName) "WordBench") ∈ lw_tbl := lw_at lw_m3 53 rfl
theorem q584 : (Jvm.Cond.fieldLink "WordBench" (281 : Nat) "WordBench$Shelf" "held" "Ljava/lang/Object;") ∈ lw_all := lw_g (lw_at lw_m3 57 rfl) rfl
theorem q588 : (Jvm.Cond.methodLink "WordBench" (274 : Nat) ({ cls := "java/util/ArrayList", name := "add", desc := "(Ljava/lang/Object;)Z" } : Jvm.MethodName)) ∈ lw_all := lw_g (lw_at lw_m3 61 rfl) rfl
theorem q620 : (Jvm.Cond.selects "WordBench" ({ cls := "java/lang/Object", name := "getClass", desc := "()Ljava/lang/Class;" } : Jvm.MethodName) ({ cls := "java/lang/Object", name := "getClass", desc := "()Ljava/lang/Class;" } : Jvm.MethodName)) ∈ lw_all := lw_g (lw_at lw_m3 93 rfl) rfl
theorem q649 : (Jvm.Cond.fieldLink "WordBench" (26 : Nat) "WordBench" "codes" "[LWordBench$Code;") ∈ lw_all := lw_g (lw_at lw_m3 122 rfl) rfl
theorem q650 : (Jvm.Cond.fieldLink "WordBench" (170 : Nat) "WordBench" "words" "[J") ∈ lw_all := lw_g (lw_at lw_m3 123 rfl) rfl
theorem q651 : (Jvm.Cond.fieldLink "WordBench" (173 : Nat) "WordBench" "wordCount" "I") ∈ lw_all := lw_g (lw_at lw_m3 124 rfl) rfl
theorem q652 : (Jvm.Cond.fieldLink "WordBench" (182 : Nat) "WordBench" "counts" "[J") ∈ lw_all := lw_g (lw_at lw_m3 125 rfl) rfl
theorem q653 : (Jvm.Cond.fieldLink "WordBench" (212 : Nat) "WordBench" "firstHole" "J") ∈ lw_all := lw_g (lw_at lw_m3 126 rfl) rfl
theorem q654 : (Jvm.Cond.fieldLink "WordBench" (267 : Nat) "WordBench" "shelves" "Ljava/util/ArrayList;") ∈ lw_all := lw_g (lw_at lw_m3 127 rfl) rfl
theorem q655 : (Jvm.Cond.laysFinal "WordBench" "WordBench" "codes" "[LWordBench$Code;") ∈ lw_all := lw_g (lw_at lw_m3 128 rfl) rfl
theorem q656 : (Jvm.Cond.soleField "WordBench" "codes") ∈ lw_all := lw_g (lw_at lw_m3 129 rfl) rfl
theorem q657 : (Jvm.Cond.laysFinal "WordBench" "WordBench" "words" "[J") ∈ lw_all := lw_g (lw_at lw_m3 130 rfl) rfl
theorem q658 : (Jvm.Cond.soleField "WordBench" "words") ∈ lw_all := lw_g (lw_at lw_m3 131 rfl) rfl
theorem q659 : (Jvm.Cond.lays "WordBench" "WordBench" "wordCount" "I") ∈ lw_all := lw_g (lw_at lw_m3 132 rfl) rfl
theorem q660 : (Jvm.Cond.soleField "WordBench" "wordCount") ∈ lw_all := lw_g (lw_at lw_m3 133 rfl) rfl
theorem q661 : (Jvm.Cond.laysFinal "WordBench" "WordBench" "counts" "[J") ∈ lw_all := lw_g (lw_at lw_m3 134 rfl) rfl
theorem q662 : (Jvm.Cond.soleField "WordBench" "counts") ∈ lw_all := lw_g (lw_at lw_m3 135 rfl) rfl
theorem q663 : (Jvm.Cond.lays "WordBench" "WordBench" "firstHole" "J") ∈ lw_all := lw_g (lw_at lw_m3 136 rfl) rfl
theorem q664 : (Jvm.Cond.soleField "WordBench" "firstHole") ∈ lw_all := lw_g (lw_at lw_m3 137 rfl) rfl
theorem q665 : (Jvm.Cond.laysFinal "WordBench" "WordBench" "shelves" "Ljava/util/ArrayList;") ∈ lw_all := lw_g (lw_at lw_m3 138 rfl) rfl
theorem q666 : (Jvm.Cond.soleField "WordBench" "shelves") ∈ lw_all := lw_g (lw_at lw_m3 139 rfl) rfl
theorem q667 : (Jvm.Cond.superclass "WordBench" "java/lang/Object") ∈ lw_all := lw_g (lw_at lw_m3 140 rfl) rfl
theorem q669 : (Jvm.Cond.instanceMethod ({ cls := "WordBench", name := "keep", desc := "(IIII)I" } : Jvm.MethodName)) ∈ lw_all := lw_g (lw_at lw_m3 142 rfl) rfl
theorem q670 : (Jvm.Cond.selects "WordBench" ({ cls := "WordBench", name := "keep", desc := "(IIII)I" } : Jvm.MethodName) ({ cls := "WordBench", name := "keep", desc := "(IIII)I" } : Jvm.MethodName)) ∈ lw_all := lw_g (lw_at lw_m3 143 rfl) rfl
theorem q671 : (Jvm.Cond.code ({ cls := "WordBench", name := "keep", desc := "(IIII)I" } : Jvm.MethodName) prog_1_method_73_code (5 : Nat) (Option.some Jvm.ClassFile.FieldType.int)) ∈ lw_all := lw_g (lw_at lw_m3 144 rfl) rfl
theorem q672 : (Jvm.Cond.methodLink "WordBench" (285 : Nat) ({ cls := "WordBench", name := "isShelf", desc := "(I)Z" } : Jvm.MethodName)) ∈ lw_all := lw_g (lw_at lw_m3 145 rfl) rfl
theorem q673 : (Jvm.Cond.static ({ cls := "WordBench", name := "isShelf", desc := "(I)Z" } : Jvm.MethodName)) ∈ lw_all := lw_g (lw_at lw_m3 146 rfl) rfl
theorem q674 : (Jvm.Cond.code ({ cls := "WordBench", name := "isShelf", desc := "(I)Z" } : Jvm.MethodName) prog_1_method_71_code (1 : Nat) (Option.some Jvm.ClassFile.FieldType.boolean)) ∈ lw_all := lw_g (lw_at lw_m3 147 rfl) rfl
theorem q675 : (Jvm.Cond.constantLong "WordBench" (288 : Nat) (4 : Int64)) ∈ lw_all := lw_g (lw_at lw_m3 148 rfl) rfl
theorem q676 : (Jvm.Cond.methodLink "WordBench" (277 : Nat) ({ cls := "java/util/ArrayList", name := "get", desc := "(I)Ljava/lang/Object;" } : Jvm.MethodName)) ∈ lw_all := lw_g (lw_at lw_m3 149 rfl) rfl
theorem q690 : (Jvm.Cond.methodLink "WordBench" (290 : Nat) ({ cls := "WordBench$Code", name := "copy", desc := "()LWordBench$Code;" } : Jvm.MethodName)) ∈ lw_all := lw_g (lw_at lw_m3 163 rfl) rfl
theorem q722 : (Jvm.Cond.methodLink "WordBench" (293 : Nat) ({ cls := "WordBench", name := "rowOf", desc := "(ILWordBench$Code;I)Ljava/lang/Object;" } : Jvm.MethodName)) ∈ lw_all := lw_g (lw_at lw_m3 195 rfl) rfl
theorem q723 : (Jvm.Cond.static ({ cls := "WordBench", name := "rowOf", desc := "(ILWordBench$Code;I)Ljava/lang/Object;" } : Jvm.MethodName)) ∈ lw_all := lw_g (lw_at lw_m3 196 rfl) rfl
theorem q724 : (Jvm.Cond.code ({ cls := "WordBench", name := "rowOf", desc := "(ILWordBench$Code;I)Ljava/lang/Object;" } : Jvm.MethodName) prog_1_method_74_code (6 : Nat) (Option.some (Jvm.ClassFile.FieldType.object "java/lang/Object"))) ∈ lw_all := lw_g (lw_at lw_m3 197 rfl) rfl
theorem q725 : (Jvm.Cond.methodLink "WordBench" (297 : Nat) ({ cls := "WordBench", name := "letters", desc := "(IIJ)[I" } : Jvm.MethodName)) ∈ lw_all := lw_g (lw_at lw_m3 198 rfl) rfl
theorem q728 : (Jvm.Cond.instanceMethod ({ cls := "WordBench", name := "row", desc := "(III)I" } : Jvm.MethodName)) ∈ lw_all := lw_g (lw_at lw_m3 201 rfl) rfl
theorem q729 : (Jvm.Cond.selects "WordBench" ({ cls := "WordBench", name := "row", desc := "(III)I" } : Jvm.MethodName) ({ cls := "WordBench", name := "row", desc := "(III)I" } : Jvm.MethodName)) ∈ lw_all := lw_g (lw_at lw_m3 202 rfl) rfl
theorem q730 : (Jvm.Cond.codeWith ({ cls := "WordBench", name := "row", desc := "(III)I" } : Jvm.MethodName) prog_1_method_75_code (5 : Nat) (Option.some Jvm.ClassFile.FieldType.int) [((29 : Nat), (64 : Nat), (65 : Nat), (303 : Nat))]) ∈ lw_all := lw_g (lw_at lw_m3 203 rfl) rfl
theorem q731 : (Jvm.Cond.classLink "WordBench" (303 : Nat) "java/lang/NegativeArraySizeException") ∈ lw_all := lw_g (lw_at lw_m3 204 rfl) rfl
theorem q818 : (Jvm.Cond.constantLong "WordBench" (301 : Nat) (3 : Int64)) ∈ lw_all := lw_g (lw_at lw_m4 51 rfl) rfl
theorem q820 : (Jvm.Cond.instanceMethod ({ cls := "WordBench", name := "copy", desc := "(IIIII)I" } : Jvm.MethodName)) ∈ lw_all := lw_g (lw_at lw_m4 53 rfl) rfl
theorem q821 : (Jvm.Cond.selects "WordBench" ({ cls := "WordBench", name := "copy", desc := "(IIIII)I" } : Jvm.MethodName) ({ cls := "WordBench", name := "copy", desc := "(IIIII)I" } : Jvm.MethodName)) ∈ lw_all := lw_g (lw_at lw_m4 54 rfl) rfl
theorem q822 : (Jvm.Cond.codeWith ({ cls := "WordBench", name := "copy", desc := "(IIIII)I" } : Jvm.MethodName) prog_1_method_78_code (11 : Nat) (Option.some Jvm.ClassFile.FieldType.int) [((73 : Nat), (87 : Nat), (88 : Nat), (320 : Nat))]) ∈ lw_all := lw_g (lw_at lw_m4 55 rfl) rfl
theorem q823 : (Jvm.Cond.classLink "WordBench" (320 : Nat) "java/lang/IndexOutOfBoundsException") ∈ lw_all := lw_g (lw_at lw_m4 56 rfl) rfl
theorem q842 : (Jvm.Cond.methodLink "WordBench" (305 : Nat) ({ cls := "WordBench", name := "held", desc := "(I)Ljava/lang/Object;" } : Jvm.MethodName)) ∈ lw_all := lw_g (lw_at lw_m4 75 rfl) rfl
theorem q843 : (Jvm.Cond.privateMethod ({ cls := "WordBench", name := "held", desc := "(I)Ljava/lang/Object;" } : Jvm.MethodName)) ∈ lw_tbl := lw_at lw_m4 76 rfl
theorem q844 : (Jvm.Cond.instanceMethod ({ cls := "WordBench", name := "held", desc := "(I)Ljava/lang/Object;" } : Jvm.MethodName)) ∈ lw_all := lw_g (lw_at lw_m4 77 rfl) rfl
theorem q845 : (Jvm.Cond.code ({ cls := "WordBench", name := "held", desc := "(I)Ljava/lang/Object;" } : Jvm.MethodName) prog_1_method_72_code (2 : Nat) (Option.some (Jvm.ClassFile.FieldType.object "java/lang/Object"))) ∈ lw_all := lw_g (lw_at lw_m4 78 rfl) rfl
theorem q846 : (Jvm.Cond.methodLink "WordBench" (316 : Nat) ({ cls := "WordBench", name := "sortOf", desc := "(Ljava/lang/Object;)I" } : Jvm.MethodName)) ∈ lw_all := lw_g (lw_at lw_m4 79 rfl) rfl
theorem q847 : (Jvm.Cond.static ({ cls := "WordBench", name := "sortOf", desc := "(Ljava/lang/Object;)I" } : Jvm.MethodName)) ∈ lw_all := lw_g (lw_at lw_m4 80 rfl) rfl
theorem q848 : (Jvm.Cond.code ({ cls := "WordBench", name := "sortOf", desc := "(Ljava/lang/Object;)I" } : Jvm.MethodName) prog_1_method_77_code (1 : Nat) (Option.some Jvm.ClassFile.FieldType.int)) ∈ lw_all := lw_g (lw_at lw_m4 81 rfl) rfl
theorem q849 : (Jvm.Cond.classLink "WordBench" (307 : Nat) "[B") ∈ lw_all := lw_g (lw_at lw_m4 82 rfl) rfl
theorem q850 : (Jvm.Cond.classLink "WordBench" (309 : Nat) "[J") ∈ lw_all := lw_g (lw_at lw_m4 83 rfl) rfl
theorem q852 : (Jvm.Cond.instanceMethod ({ cls := "WordBench", name := "heft", desc := "(I)I" } : Jvm.MethodName)) ∈ lw_all := lw_g (lw_at lw_m4 85 rfl) rfl
theorem q853 : (Jvm.Cond.selects "WordBench" ({ cls := "WordBench", name := "heft", desc := "(I)I" } : Jvm.MethodName) ({ cls := "WordBench", name := "heft", desc := "(I)I" } : Jvm.MethodName)) ∈ lw_all := lw_g (lw_at lw_m4 86 rfl) rfl
theorem q854 : (Jvm.Cond.codeWith ({ cls := "WordBench", name := "heft", desc := "(I)I" } : Jvm.MethodName) prog_1_method_79_code (3 : Nat) (Option.some Jvm.ClassFile.FieldType.int) [((9 : Nat), (20 : Nat), (21 : Nat), (310 : Nat)), ((9 : Nat), (20 : Nat), (25 : Nat), (312 : Nat))]) ∈ lw_all := lw_g (lw_at lw_m4 87 rfl) rfl
theorem q855 : (Jvm.Cond.classLink "WordBench" (310 : Nat) "java/lang/NullPointerException") ∈ lw_all := lw_g (lw_at lw_m4 88 rfl) rfl
theorem q880 : (Jvm.Cond.classLink "WordBench" (312 : Nat) "java/lang/ClassCastException") ∈ lw_all := lw_g (lw_at lw_m4 113 rfl) rfl
theorem q894 : (Jvm.Cond.methodLink "WordBench" (322 : Nat) ({ cls := "WordBench$Code", name := "heft", desc := "()I" } : Jvm.MethodName)) ∈ lw_all := lw_g (lw_at lw_m4 127 rfl) rfl
theorem q912 : (Jvm.Cond.instanceMethod ({ cls := "WordBench", name := "toss", desc := "(I)I" } : Jvm.MethodName)) ∈ lw_all := lw_g (lw_at lw_m4 145 rfl) rfl
theorem q913 : (Jvm.Cond.selects "WordBench" ({ cls := "WordBench", name := "toss", desc := "(I)I" } : Jvm.MethodName) ({ cls := "WordBench", name := "toss", desc := "(I)I" } : Jvm.MethodName)) ∈ lw_all := lw_g (lw_at lw_m4 146 rfl) rfl
theorem q914 : (Jvm.Cond.codeWith ({ cls := "WordBench", name := "toss", desc := "(I)I" } : Jvm.MethodName) prog_1_method_80_code (3 : Nat) (Option.some Jvm.ClassFile.FieldType.int) [((20 : Nat), (32 : Nat), (32 : Nat), (329 : Nat)), ((20 : Nat), (32 : Nat), (38 : Nat), (310 : Nat)), ((20 : Nat), (32 : Nat), (42 : Nat), (312 : Nat))]) ∈ lw_all := lw_g (lw_at lw_m4 147 rfl) rfl
theorem q915 : (Jvm.Cond.classLink "WordBench" (329 : Nat) "WordBench$Tossed") ∈ lw_all := lw_g (lw_at lw_m4 148 rfl) rfl
theorem q916 : (Jvm.Cond.methodLink "WordBench" (325 : Nat) ({ cls := "WordBench$Code", name := "failure", desc := "()LWordBench$Tossed;" } : Jvm.MethodName)) ∈ lw_all := lw_g (lw_at lw_m4 149 rfl) rfl
theorem q936 : (Jvm.Cond.fieldLink "WordBench" (331 : Nat) "WordBench$Tossed" "n" "I") ∈ lw_all := lw_g (lw_at lw_m4 169 rfl) rfl
theorem q951 : (Jvm.Cond.instanceMethod ({ cls := "WordBench", name := "word", desc := "(II)J" } : Jvm.MethodName)) ∈ lw_all := lw_g (lw_at lw_m4 184 rfl) rfl
theorem q952 : (Jvm.Cond.selects "WordBench" ({ cls := "WordBench", name := "word", desc := "(II)J" } : Jvm.MethodName) ({ cls := "WordBench", name := "word", desc := "(II)J" } : Jvm.MethodName)) ∈ lw_all := lw_g (lw_at lw_m4 185 rfl) rfl
theorem q953 : (Jvm.Cond.code ({ cls := "WordBench", name := "word", desc := "(II)J" } : Jvm.MethodName) prog_1_method_23_code (4 : Nat) (Option.some Jvm.ClassFile.FieldType.long)) ∈ lw_all := lw_g (lw_at lw_m4 186 rfl) rfl
theorem q954 : (Jvm.Cond.classLink "WordBench" (112 : Nat) "java/lang/IllegalArgumentException") ∈ lw_all := lw_g (lw_at lw_m4 187 rfl) rfl
theorem q963 : (Jvm.Cond.methodLink "WordBench" (114 : Nat) ({ cls := "java/lang/IllegalArgumentException", name := "<init>", desc := "()V" } : Jvm.MethodName)) ∈ lw_all := lw_g (lw_at lw_m4 196 rfl) rfl
theorem q969 : (Jvm.Cond.classLink "WordBench" (117 : Nat) "java/lang/IllegalStateException") ∈ lw_all := lw_g (lw_at lw_m4 202 rfl) rfl
theorem q978 : (Jvm.Cond.methodLink "WordBench" (119 : Nat) ({ cls := "java/lang/IllegalStateException", name := "<init>", desc := "()V" } : Jvm.MethodName)) ∈ lw_all := lw_g (lw_at lw_m4 211 rfl) rfl
theorem q988 : (Jvm.Cond.instanceMethod ({ cls := "WordBench", name := "law", desc := "(II)J" } : Jvm.MethodName)) ∈ lw_all := lw_g (lw_at lw_m4 221 rfl) rfl
theorem q989 : (Jvm.Cond.selects "WordBench" ({ cls := "WordBench", name := "law", desc := "(II)J" } : Jvm.MethodName) ({ cls := "WordBench", name := "law", desc := "(II)J" } : Jvm.MethodName)) ∈ lw_all := lw_g (lw_at lw_m4 222 rfl) rfl
theorem q990 : (Jvm.Cond.code ({ cls := "WordBench", name := "law", desc := "(II)J" } : Jvm.MethodName) prog_1_method_45_code (7 : Nat) (Option.some Jvm.ClassFile.FieldType.long)) ∈ lw_all := lw_g (lw_at lw_m4 223 rfl) rfl
theorem q991 : (Jvm.Cond.methodLink "WordBench" (198 : Nat) ({ cls := "WordBench", name := "turned", desc := "(IIII)J" } : Jvm.MethodName)) ∈ lw_all := lw_g (lw_at lw_m4 224 rfl) rfl
theorem q992 : (Jvm.Cond.static ({ cls := "WordBench", name := "turned", desc := "(IIII)J" } : Jvm.MethodName)) ∈ lw_all := lw_g (lw_at lw_m4 225 rfl) rfl
theorem q993 : (Jvm.Cond.code ({ cls := "WordBench", name := "turned", desc := "(IIII)J" } : Jvm.MethodName) prog_1_method_44_code (9 : Nat) (Option.some Jvm.ClassFile.FieldType.long)) ∈ lw_all := lw_g (lw_at lw_m4 226 rfl) rfl
theorem q998 : (Jvm.Cond.instanceMethod ({ cls := "WordBench", name := "element", desc := "(II)J" } : Jvm.MethodName)) ∈ lw_all := lw_g (lw_at lw_m4 231 rfl) rfl
theorem q999 : (Jvm.Cond.selects "WordBench" ({ cls := "WordBench", name := "element", desc := "(II)J" } : Jvm.MethodName) ({ cls := "WordBench", name := "element", desc := "(II)J" } : Jvm.MethodName)) ∈ lw_all := lw_g (lw_at lw_m4 232 rfl) rfl
theorem q1000 : (Jvm.Cond.codeWith ({ cls := "WordBench", name := "element", desc := "(II)J" } : Jvm.MethodName) prog_1_method_76_code (5 : Nat) (Option.some Jvm.ClassFile.FieldType.long) [((21 : Nat), (35 : Nat), (43 : Nat), (310 : Nat)), ((36 : Nat), (42 : Nat), (43 : Nat), (310 : Nat)), ((21 : Nat), (35 : Nat), (53 : Nat), (312 : Nat)), ((36 : Nat), (42 : Nat), (53 : Nat), (312 : Nat)), ((21 : Nat), (35 : Nat), (63 : Nat), (314 : Nat)), ((36 : Nat), (42 : Nat), (63 : Nat), (314 : Nat))]) ∈ lw_all := lw_g (lw_at lw_m4 233 rfl) rfl
theorem q1001 : (Jvm.Cond.classLink "WordBench" (314 : Nat) "java/lang/ArrayIndexOutOfBoundsException") ∈ lw_all := lw_g (lw_at lw_m4 234 rfl) rfl
theorem q1429 : (Jvm.Cond.castable "WordBench" "java/lang/Object") ∈ lw_tbl := lw_at lw_m6 182 rfl
theorem in_X1 : ∀ w ∈ wsX10, w ∈ lw_all := lw_in wsX10 [655, 657, 659, 661, 663, 665] (by decide +kernel) (by decide +kernel)
